/-! OPERATIONS OF THE WORKS feed and cut, in the whole -/
section
variable {BB A : List Nm} {on : Nat → Bool} {ws : Nat → Wld} {lf k v R : Nat} {M M' : Mem} {T : List Trl} {tp tp' P : List Int32} {pl a b c d e : Int32} {L : Tl} {V : RV} {Q : Int32 → Mem → Prop}
theorem GM.f (h : GM M) (hR : ∀ f i q, mR M' f i q = mR M f i q) (hN : mN M' = mN M) : GM M' := by
  refine ⟨fun f i q g j e => h.1 f i q g j (by rw [← hR]; exact e), ⟨fun j hj => by rw [hN]; exact h.2.1.1 j hj, fun j hj => by rw [hN]; exact h.2.1.2 j hj⟩, ⟨fun v q g j e => h.2.2.1.1 v q g j (by rw [← hR]; exact e), fun v q g j e => h.2.2.1.2.1 v q g j (by rw [← hR]; exact e), fun v g j hv e => h.2.2.1.2.2 v g j hv (by rw [← hR]; exact e)⟩, fun v q g j hv hq e => ?_, fun v v' q q' g g' j hv hv' hq hq' e e' => h.2.2.2.2 v v' q q' g g' j hv hv' hq hq' (by rw [← hR]; exact e) (by rw [← hR]; exact e')⟩
  have := h.2.2.2.1 v q g j hv hq (by rw [← hR]; exact e)
  exact ⟨this.1, by rw [hN]; exact this.2⟩
end
