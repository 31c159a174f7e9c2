/-! SPEC: a text that is defined keeps what holds of the classes and of the machine -/
section
variable {br : Int32} {W W' : List Cls} {s : Ms} {K n : Nat} {p : Nat → Int32}
theorem SpC.nm (h : SpC W) : ∀ c, c < W.length → (gc W c).1 ≠ [] := fun c hc => h.2.2 _ (gc_mem hc)
theorem SpC.ty (h : SpC W) : ∀ c f, c < W.length → f < (gc W c).2.2.2.2.1.length → tyOk (gfl (gc W c) f).2.1 := fun c f hc hf => ((h.1.2.2.1.1 _ (gc_mem hc)).1.1 _ (getD_mem hf)).1
theorem SpC.i (h : SpC W) : NSi W := h.2.1.1.i h.1.1
theorem SpC.run (h : SpC W) (h21 : 21 ≤ W.length) (hp : tend p n) (hn : n ≤ 1290) (e : runL br n (0, W, noM) (lns p n 0) = .inr W') : SpC W' ∧ W <+: W' := by
  obtain ⟨⟨h1, h2, h3, h4⟩, ⟨h5, h6, h7⟩, h8⟩ := h
  obtain ⟨o, q⟩ := lns_s hp
  obtain ⟨a, b⟩ := runL_len (st := (0, W, noM)) o ⟨h4, h8⟩ e
  have hw := h3.run h21 e
  exact ⟨⟨⟨h1.pre (run_pre e), (h2.run h21 e).1, hw, a⟩, ⟨h5.run h21 (lns_k hp) e, PrW.run (m := 0) h6 h21 hw o (by omega) e, h7.run h21 (lns_w hp) e⟩, b⟩, run_pre e⟩
theorem LN.gr {L : LkS} (h : LN W L) (hW : W <+: W') : LN W' L := ⟨h.1, fun c hc => h.2 c (Nat.le_trans hW.length_le hc)⟩
theorem SpM.gr (h : SpM W K s) (hC : SpC W) (hC' : SpC W') (hW : W <+: W') : SpM W' K s := ⟨⟨h.1.1.grow hW hC'.1 hC.1.1 hC'.nm h.2.2.2.2, h.1.2⟩, h.2.1, h.2.2.1, h.2.2.2.gr hW⟩
theorem CWx.w12 {A : List Nm} {w nq nk np nh nr : Nat} {M : Mem} (h : CWx A W w br nq nk np nh nr M) (h51 : W.length ≤ 51) : W12 W := ⟨h51, fun c => by
  by_cases hc : c < W.length
  · exact (h.2.1.2.1 c hc).2.1
  · have e : gc W c = ([], [], [], 0, [], []) := by
      show W.getD c _ = _
      rw [List.getD_eq_getElem?_getD, List.getElem?_eq_none (by omega)]; rfl
    rw [e]; exact Nat.zero_le 12⟩
theorem CWx.vl {A : List Nm} {w nq nk np nh nr : Nat} {M : Mem} (h : CWx A W w br nq nk np nh nr M) (h51 : W.length ≤ 51) : ∀ V, okV W V → V.length ≤ 381 := fun V hV => hV.len (fun m h1 h2 => by
  have h3 := moff_at h1 h2
  have h4 := moff_le (fun c hc => (h.2.1.2.1 c hc).2) W.length (Nat.le_refl _)
  rw [moff_all] at h4
  omega)
end
