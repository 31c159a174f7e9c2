/-! SPEC: what holds of a world at its beginning -/
theorem edge21 {c d : Nat} (hc : c < 21) (h : edge true W21 c d) : d < c := by
  obtain ⟨i, hi, hd⟩ := h
  rw [(W21_m c hc).2.1] at hi
  have : i = 0 := by simp at hi; exact hi
  subst this
  unfold dirW at hd
  rw [if_pos rfl, if_pos rfl] at hd
  have key : ∀ c, c < 21 → ∀ d, fnd W21 (gc W21 c).2.1 = some d → d < c := by
    intro c hc
    have : ∀ c, c < 21 → (match fnd W21 (gc W21 c).2.1 with | none => true | some d => decide (d < c)) = true := by decide
    intro d e
    have h := this c hc
    rw [e] at h
    exact of_decide_eq_true h
  exact key c hc d hd
theorem ring21 {c : Nat} (hc : c < 21) : ¬ ring W21 c := fun ⟨d, h1, h2⟩ => by
  have hd := edge21 hc h1
  have := Reach.clo (V := fun x => x ≤ d) (fun a b ha hab => by
    have := edge21 (show a < 21 by omega) hab
    omega) h2 (Nat.le_refl d)
  have : c ≤ d := this
  omega
theorem fnd21 : ∀ c, c < 21 → c ≠ 0 → ∃ p, p < 21 ∧ fnd W21 (gc W21 c).2.1 = some p := by
  have : ∀ c, c < 21 → c ≠ 0 → (match fnd W21 (gc W21 c).2.1 with | none => false | some d => decide (d < 21)) = true := by decide
  intro c hc h0
  have h := this c hc h0
  cases e : fnd W21 (gc W21 c).2.1 with
  | none => rw [e] at h; cases h
  | some p => rw [e] at h; exact ⟨p, of_decide_eq_true h, rfl⟩
theorem WO21 : WO W21 := by
  refine ⟨⟨by rw [W21_n.1]; omega, fun c _ => rfl⟩, fun c h1 h2 => absurd h2 (by rw [W21_n.1]; omega), ⟨fun c hc => ?_, ?_⟩, by rw [W21_n.1]; omega⟩
  · obtain ⟨i, hi, e⟩ := List.mem_iff_getElem.mp hc
    have hi' : i < 21 := by rw [W21_n.1] at hi; exact hi
    have eg : gc W21 i = c := by
      show W21.getD i _ = _
      rw [List.getD_eq_getElem?_getD, List.getElem?_eq_getElem hi, e]; rfl
    rw [← eg]
    obtain ⟨w1, -, -, w4, -⟩ := W21_m i hi'
    refine ⟨⟨fun f hf => absurd hf (by rw [w4]; simp), by rw [w4]; exact List.Pairwise.nil⟩, by rw [w1]; exact List.pairwise_singleton _ _, fun m hm => ?_⟩
    rw [w1] at hm
    rw [List.mem_singleton.mp hm]
    exact ⟨fun _ => ⟨rfl, rfl⟩, fun z => absurd z (by decide)⟩
  · decide
theorem W12_21 : W12 W21 := by
  refine ⟨by rw [W21_n.1]; omega, fun c => ?_⟩
  by_cases h : c < 21
  · rw [(W21_m c h).1]; simp
  · have : gc W21 c = ([], [], [], 0, [], []) := by
      show W21.getD c _ = _
      rw [List.getD_eq_getElem?_getD, List.getElem?_eq_none (by rw [W21_n.1]; omega)]; rfl
    rw [this]; simp
theorem NSw21 : NSw W21 := fun c h1 h2 => absurd h2 (by rw [W21_n.1]; omega)
theorem LInv21 : LInv W21 L21.1 := by
  refine ⟨⟨fun m hm => ?_, rfl, rfl, by rw [W21_n.1]; omega, fun d hd => if_pos hd⟩, fun d hd _ => ?_⟩
  · rw [(W21_m 0 (by omega)).1] at hm
    rw [List.mem_singleton.mp hm]
  · have hd : d < 21 := by rw [W21_n.1] at hd; exact hd
    by_cases h0 : d = 0
    · exact Or.inl h0
    · obtain ⟨p, hp, e⟩ := fnd21 d hd h0
      exact Or.inr ⟨ring21 hd, ⟨p, e, if_pos hp⟩, fun f hf => absurd hf (by rw [(W21_m d hd).2.1]; simp)⟩
theorem LB21 : LB L21 := fun c => by
  show cdOk (if c < 21 then 1 else 0)
  by_cases h : c < 21
  · rw [if_pos h]; exact ⟨1, by omega, Or.inl (by omega), rfl⟩
  · rw [if_neg h]; exact ⟨0, by omega, Or.inl (by omega), rfl⟩
section
variable {k K : Nat}
theorem GL21 : GL W21 (ms0 k) := by
  refine ⟨⟨LInv21, LB21, fun d h1 h2 => absurd (show (if d < 21 then (1 : Int32) else 0) = 1 from h2) (by rw [if_neg (by omega)]; decide)⟩, ⟨⟨⟨rfl, fun _ _ => rfl⟩, ?_, by show (0 : Nat) ≤ 4000; omega⟩, fun r hr => absurd hr (show ¬ false = true by decide), fun i hi => absurd hi (Nat.not_lt_zero i)⟩, ⟨fun c f hc hf => ?_, fun _ _ _ => rfl⟩, fun f hf => absurd hf (by show f ∉ ([] : List Ft); simp), ⟨fun c hc => if_pos hc, fun c => ⟨?_, fun h => ?_⟩, List.Pairwise.nil, fun c hc => absurd hc (by show c ∉ ([] : List Nat); simp)⟩⟩
  · show (0 : Nat) = ((List.range 801).filter (fun _ => false)).length
    rw [List.filter_eq_nil_iff.mpr (fun a _ => by decide)]; rfl
  · have hc : c < 21 := by rw [W21_n.1] at hc; exact hc
    exact absurd hf (by rw [(W21_m c hc).2.2.2.1]; simp)
  · show ((if c < 21 then (2 : Int32) else 0) = 0 ∨ _)
    by_cases h : c < 21
    · right; right; left; exact if_pos h
    · left; exact if_neg h
  · have h : (if c < 21 then (2 : Int32) else 0) ≠ 0 := h
    by_cases hc : c < 21
    · exact ⟨by rw [W21_n.1]; exact hc, if_pos hc⟩
    · rw [if_neg hc] at h; exact absurd rfl h
theorem WI21 : WI W21 K (ms0 k) ∧ NWt (ms0 k) ∧ TI2 50 (ms0 k) := by
  have hlk : LkN (ms0 k) := fun y => ⟨0, by show (lkR (ms0 k) y).1 = Int32.ofNat 0; unfold lkR; split <;> rfl, Nat.zero_le _⟩
  · refine ⟨⟨⟨⟨⟨GL21, by show (0 : Nat) ≤ 400; omega, by show (0 : Nat) < 3; omega⟩, fun t ht => ⟨fun z => absurd z (show ¬ (0 : Nat) = 1 by decide), ⟨by show (0 : Nat) ≤ 2; omega, by show (0 : Nat) ≤ k; omega⟩, fun y hy => (by cases hy)⟩, fun t ht => ⟨⟨trivial, List.Pairwise.nil, by show (0 : Nat) ≤ 40; omega⟩, fun _ => rfl⟩, fun c hc => ?_⟩, ⟨by show (50 : Nat) < 1000000; omega, by show (1 : Nat) ≤ 50; omega, by show (50 : Nat) < 1000000; omega⟩, ?_⟩, hlk, fun t ht _ => ⟨⟨rfl, rfl⟩, rfl, rfl⟩, fun e he => absurd he (by show e ∉ ([] : List Ev); simp)⟩, fun t ht _ => rfl, hlk, fun _ => rfl, fun z => absurd rfl z⟩
    · have hc : (if c < 21 then (2 : Int32) else 0) = 1 := hc
      split at hc <;> exact absurd hc (by decide)
    · show 0 + rnT (ms0 k) ≤ k + K + 2 * nC3 (zC (ms0 k))
      have : rnT (ms0 k) = 0 := rfl
      omega
end
