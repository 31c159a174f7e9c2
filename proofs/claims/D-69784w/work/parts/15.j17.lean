/-! SPEC: what holds of a world with classes of its own, at its beginning -/
section
variable {W : List Cls} {k K : Nat}
theorem parB (hB : BI W) {c : Nat} (hc : c < 21) (h1 : 1 ≤ c) : ∃ p, p < c ∧ fnd W (gc W c).2.1 = some p := by
  rw [hB.2 c hc, W21_par c hc h1]
  have key : (if c = 1 then 0 else if c ≤ 10 then 1 else 10) < c := by
    split
    · omega
    · split <;> omega
  exact ⟨_, key, hB.fd (by omega)⟩
theorem edgeB (hB : BI W) (hne : ∀ c, c < W.length → (gc W c).1 ≠ []) {c d : Nat} (hc : c < 21) (h : edge true W c d) : d < c := by
  obtain ⟨i, hi, hd⟩ := h
  rw [hB.2 c hc, (W21_m c hc).2.1] at hi
  have : i = 0 := by simp at hi; exact hi
  subst this
  unfold dirW at hd
  rw [if_pos rfl, if_pos rfl] at hd
  by_cases h0 : c = 0
  · subst h0
    rw [hB.2 0 hc, show (gc W21 0).2.1 = [] by decide, fnd_nil hne] at hd
    cases hd
  · obtain ⟨p, hp, e⟩ := parB hB hc (by omega)
    rw [e] at hd
    cases hd; exact hp
theorem ringI (hB : BI W) (hne : ∀ c, c < W.length → (gc W c).1 ≠ []) {c : Nat} (hc : c < 21) : ¬ ring W c := fun ⟨d, h1, h2⟩ => by
  have hd := edgeB hB hne hc h1
  have := Reach.clo (V := fun x => x ≤ d) (fun a b ha hab => by
    have := edgeB hB hne (show a < 21 by omega) hab
    omega) h2 (Nat.le_refl d)
  have : c ≤ d := this
  omega
theorem LInvB (hB : BI W) (hne : ∀ c, c < W.length → (gc W c).1 ≠ []) : LInv W L21.1 := by
  refine ⟨⟨fun m hm => ?_, ?_, ?_, hB.1, fun d hd => if_pos hd⟩, fun d hd hl => ?_⟩
  · rw [hB.2 0 (by omega), (W21_m 0 (by omega)).1] at hm
    rw [List.mem_singleton.mp hm]
  · rw [hB.2 0 (by omega)]; decide
  · rw [hB.2 0 (by omega)]; decide
  · have hd : d < 21 := by
      have hl : (if d < 21 then (1 : Int32) else 0) = 1 := hl
      by_cases c : d < 21
      · exact c
      · rw [if_neg c] at hl; exact absurd hl (by decide)
    by_cases h0 : d = 0
    · exact Or.inl h0
    · obtain ⟨p, hp, e⟩ := parB hB hd (by omega)
      exact Or.inr ⟨ringI hB hne hd, ⟨p, e, if_pos (by omega)⟩, fun f hf => absurd hf (by rw [hB.2 d hd, (W21_m d hd).2.1]; simp)⟩
theorem GLB (hB : BI W) (hne : ∀ c, c < W.length → (gc W c).1 ≠ []) (hty : ∀ c, c < W.length → ∀ f, f < (gc W c).2.2.2.2.1.length → tyOk (gfl (gc W c) f).2.1) : GL W (ms0 k) := by
  refine ⟨⟨LInvB hB hne, LB21, fun d h1 h2 => absurd (show (if d < 21 then (1 : Int32) else 0) = 1 from h2) (by rw [if_neg (by omega)]; decide)⟩, ⟨⟨⟨rfl, fun _ _ => rfl⟩, ?_, by show (0 : Nat) ≤ 4000; omega⟩, fun r hr => absurd hr (show ¬ false = true by decide), fun i hi => absurd hi (Nat.not_lt_zero i)⟩, ⟨fun c f hc hf _ => cv_zero (hty c hc f hf), fun _ _ _ => rfl⟩, fun f hf => absurd hf (by show f ∉ ([] : List Ft); simp), ⟨fun c hc => if_pos hc, fun c => ⟨?_, fun h => ?_⟩, List.Pairwise.nil, fun c hc => absurd hc (by show c ∉ ([] : List Nat); simp)⟩⟩
  · show (0 : Nat) = ((List.range 801).filter (fun _ => false)).length
    rw [List.filter_eq_nil_iff.mpr (fun a _ => by decide)]; rfl
  · show ((if c < 21 then (2 : Int32) else 0) = 0 ∨ _)
    by_cases h : c < 21
    · right; right; left; exact if_pos h
    · left; exact if_neg h
  · have h : (if c < 21 then (2 : Int32) else 0) ≠ 0 := h
    by_cases hc : c < 21
    · exact ⟨by have := hB.1; omega, if_pos hc⟩
    · rw [if_neg hc] at h; exact absurd rfl h
theorem WIB (hB : BI W) (hne : ∀ c, c < W.length → (gc W c).1 ≠ []) (hty : ∀ c, c < W.length → ∀ f, f < (gc W c).2.2.2.2.1.length → tyOk (gfl (gc W c) f).2.1) : WI W K (ms0 k) ∧ NWt (ms0 k) ∧ TI2 50 (ms0 k) := by
  have hlk : LkN (ms0 k) := fun y => ⟨0, by show (lkR (ms0 k) y).1 = Int32.ofNat 0; unfold lkR; split <;> rfl, Nat.zero_le _⟩
  · refine ⟨⟨⟨⟨⟨GLB hB hne hty, by show (0 : Nat) ≤ 400; omega, by show (0 : Nat) < 3; omega⟩, fun t ht => ⟨fun z => absurd z (show ¬ (0 : Nat) = 1 by decide), ⟨by show (0 : Nat) ≤ 2; omega, by show (0 : Nat) ≤ k; omega⟩, fun y hy => (by cases hy)⟩, fun t ht => ⟨⟨trivial, List.Pairwise.nil, by show (0 : Nat) ≤ 40; omega⟩, fun _ => rfl⟩, fun c hc => ?_⟩, ⟨by show (50 : Nat) < 1000000; omega, by show (1 : Nat) ≤ 50; omega, by show (50 : Nat) < 1000000; omega⟩, ?_⟩, hlk, fun t ht _ => ⟨⟨rfl, rfl⟩, rfl, rfl⟩, fun e he => absurd he (by show e ∉ ([] : List Ev); simp)⟩, fun t ht _ => rfl, hlk, fun _ => rfl, fun z => absurd rfl z⟩
    · have hc : (if c < 21 then (2 : Int32) else 0) = 1 := hc
      split at hc <;> exact absurd hc (by decide)
    · show 0 + rnT (ms0 k) ≤ k + K + 2 * nC3 (zC (ms0 k))
      have : rnT (ms0 k) = 0 := rfl
      omega
end
