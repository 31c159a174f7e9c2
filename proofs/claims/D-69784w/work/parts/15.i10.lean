/-! SPEC: what is left moves together -/
abbrev Sw : Type := Nat × Nat × (Nat → Ob) × (Nat → Int32) × (Nat → Kd)
def swA (s : Ms) (m : Nat → Bool) (k : Nat) (z : Sw) : Sw :=
  if thr s k = false then z else if m k = false then (z.1 + 1, z.2)
  else (z.1, z.2.1 + (gOb s k).2.2.1, up1 z.2.2.1 k ((gOb s k).1, z.2.1, (gOb s k).2.2),
    (fun i => if z.2.1 ≤ i ∧ i < z.2.1 + (gOb s k).2.2.1 then gCell s ((gOb s k).2.1 + (i - z.2.1)) else z.2.2.2.1 i),
    (fun i => if z.2.1 ≤ i ∧ i < z.2.1 + (gOb s k).2.2.1 then gKd s ((gOb s k).2.1 + (i - z.2.1)) else z.2.2.2.2 i))
def swK (s : Ms) (m : Nat → Bool) : Nat → Sw
  | 0 => (0, 0, (zH s).2.2.2.1, (zH s).2.2.2.2.1, (zH s).2.2.2.2.2)
  | k + 1 => swA s m k (swK s m k)
abbrev kp (s : Ms) (m : Nat → Bool) (r : Nat) : Bool := thr s r && m r
theorem swK_s {s : Ms} {m : Nat → Bool} {k : Nat} : swK s m (k + 1) = swA s m k (swK s m k) := rfl
section
variable {s : Ms} {m : Nat → Bool} {k r : Nat} {z : Sw}
theorem swA_0 (h : thr s k = false) : swA s m k z = z := by unfold swA; rw [if_pos h]
theorem swA_1 (h : thr s k = true) (hm : m k = false) : swA s m k z = (z.1 + 1, z.2) := by unfold swA; rw [if_neg (by rw [h]; decide), if_pos hm]
theorem swA_2 (h : thr s k = true) (hm : m k = true) : swA s m k z = (z.1, z.2.1 + (gOb s k).2.2.1, up1 z.2.2.1 k ((gOb s k).1, z.2.1, (gOb s k).2.2),
    (fun i => if z.2.1 ≤ i ∧ i < z.2.1 + (gOb s k).2.2.1 then gCell s ((gOb s k).2.1 + (i - z.2.1)) else z.2.2.2.1 i),
    (fun i => if z.2.1 ≤ i ∧ i < z.2.1 + (gOb s k).2.2.1 then gKd s ((gOb s k).2.1 + (i - z.2.1)) else z.2.2.2.2 i)) := by unfold swA; rw [if_neg (by rw [h]; decide), if_neg (by rw [hm]; decide)]
theorem kp_cases (s : Ms) (m : Nat → Bool) (k : Nat) : (thr s k = false ∧ kp s m k = false) ∨ (thr s k = true ∧ m k = false ∧ kp s m k = false) ∨ (thr s k = true ∧ m k = true ∧ kp s m k = true) := by
  unfold kp
  cases thr s k <;> cases m k <;> simp
theorem sw_1 : ∀ k, (swK s m k).2.1 = szS (kp s m) (gOb s) k
  | 0 => rfl
  | k + 1 => by
    have ih := sw_1 k
    rw [swK_s]
    unfold szS
    rcases kp_cases s m k with ⟨h1, h2⟩ | ⟨h1, h2, h3⟩ | ⟨h1, h2, h3⟩
    · rw [swA_0 h1, h2, if_neg (by decide)]; exact ih
    · rw [swA_1 h1 h2, h3, if_neg (by decide)]; exact ih
    · rw [swA_2 h1 h2, h3, if_pos rfl, ← ih]
theorem sw_2 (r : Nat) : ∀ k, ((swK s m k).2.2.1 r).1 = (gOb s r).1 ∧ ((swK s m k).2.2.1 r).2.2 = (gOb s r).2.2
  | 0 => ⟨rfl, rfl⟩
  | k + 1 => by
    have ih := sw_2 r k
    rw [swK_s]
    rcases kp_cases s m k with ⟨h1, h2⟩ | ⟨h1, h2, h3⟩ | ⟨h1, h2, h3⟩
    · rw [swA_0 h1]; exact ih
    · rw [swA_1 h1 h2]; exact ih
    · rw [swA_2 h1 h2]
      show (up1 (swK s m k).2.2.1 k _ r).1 = _ ∧ (up1 (swK s m k).2.2.1 k _ r).2.2 = _
      by_cases e : r = k
      · rw [e, up1_s]; exact ⟨rfl, rfl⟩
      · rw [up1_o e]; exact ih
theorem szS_mono {P : Nat → Bool} {O : Nat → Ob} {n : Nat} : ∀ {k : Nat}, n ≤ k → szS P O n ≤ szS P O k
  | 0, h => by rw [show n = 0 by omega]; exact Nat.le_refl _
  | k + 1, h => by
    by_cases e : n = k + 1
    · rw [e]; exact Nat.le_refl _
    · exact Nat.le_trans (szS_mono (k := k) (by omega)) (Nat.le_add_right _ _)
theorem sw_3 : ∀ k, (∀ r, k ≤ r → (swK s m k).2.2.1 r = gOb s r) ∧ ∀ r, r < k → kp s m r = true → ((swK s m k).2.2.1 r).2.1 = szS (kp s m) (gOb s) r
  | 0 => ⟨fun _ _ => rfl, fun r h => absurd h (by omega)⟩
  | k + 1 => by
    obtain ⟨i1, i2⟩ := sw_3 k
    rw [swK_s]
    rcases kp_cases s m k with ⟨h1, h2⟩ | ⟨h1, h2, h3⟩ | ⟨h1, h2, h3⟩
    · rw [swA_0 h1]
      refine ⟨fun r hr => i1 r (by omega), fun r hr hk => i2 r ?_ hk⟩
      by_cases e : r = k
      · rw [e, h2] at hk; cases hk
      · omega
    · rw [swA_1 h1 h2]
      refine ⟨fun r hr => i1 r (by omega), fun r hr hk => i2 r ?_ hk⟩
      by_cases e : r = k
      · rw [e, h3] at hk; cases hk
      · omega
    · rw [swA_2 h1 h2]
      refine ⟨fun r hr => ?_, fun r hr hk => ?_⟩
      · show up1 (swK s m k).2.2.1 k _ r = _
        rw [up1_o (by omega)]; exact i1 r (by omega)
      · show (up1 (swK s m k).2.2.1 k _ r).2.1 = _
        by_cases e : r = k
        · rw [e, up1_s]; exact sw_1 k
        · rw [up1_o e]; exact i2 r (by omega) hk
theorem sw_le (hk : kp s m r = true) (h : r < k) : szS (kp s m) (gOb s) r + (gOb s r).2.2.1 ≤ szS (kp s m) (gOb s) k := by
  have h1 : szS (kp s m) (gOb s) (r + 1) ≤ szS (kp s m) (gOb s) k := szS_mono (by omega)
  have h2 : szS (kp s m) (gOb s) (r + 1) = szS (kp s m) (gOb s) r + (if kp s m r = true then (gOb s r).2.2.1 else 0) := rfl
  rw [hk, if_pos rfl] at h2
  omega
theorem sw_4 : ∀ k, ∀ r, r < k → kp s m r = true → ∀ j, j < (gOb s r).2.2.1 → (swK s m k).2.2.2.1 (szS (kp s m) (gOb s) r + j) = gCell s ((gOb s r).2.1 + j) ∧ (swK s m k).2.2.2.2 (szS (kp s m) (gOb s) r + j) = gKd s ((gOb s r).2.1 + j)
  | 0 => fun r h => absurd h (by omega)
  | k + 1 => fun r hr hk j hj => by
    have ih := sw_4 k
    rw [swK_s]
    rcases kp_cases s m k with ⟨h1, h2⟩ | ⟨h1, h2, h3⟩ | ⟨h1, h2, h3⟩
    · rw [swA_0 h1]
      refine ih r ?_ hk j hj
      by_cases e : r = k
      · rw [e, h2] at hk; cases hk
      · omega
    · rw [swA_1 h1 h2]
      refine ih r ?_ hk j hj
      by_cases e : r = k
      · rw [e, h3] at hk; cases hk
      · omega
    · rw [swA_2 h1 h2]
      have e1 := sw_1 (s := s) (m := m) k
      show (if (swK s m k).2.1 ≤ szS (kp s m) (gOb s) r + j ∧ szS (kp s m) (gOb s) r + j < (swK s m k).2.1 + (gOb s k).2.2.1 then gCell s ((gOb s k).2.1 + (szS (kp s m) (gOb s) r + j - (swK s m k).2.1)) else (swK s m k).2.2.2.1 (szS (kp s m) (gOb s) r + j)) = _ ∧ (if (swK s m k).2.1 ≤ szS (kp s m) (gOb s) r + j ∧ szS (kp s m) (gOb s) r + j < (swK s m k).2.1 + (gOb s k).2.2.1 then gKd s ((gOb s k).2.1 + (szS (kp s m) (gOb s) r + j - (swK s m k).2.1)) else (swK s m k).2.2.2.2 (szS (kp s m) (gOb s) r + j)) = _
      rw [e1]
      by_cases e : r = k
      · subst e
        rw [if_pos (by omega), if_pos (by omega), show szS (kp s m) (gOb s) r + j - szS (kp s m) (gOb s) r = j by omega]
        exact ⟨rfl, rfl⟩
      · have := sw_le (k := k) hk (by omega)
        rw [if_neg (by omega), if_neg (by omega)]
        exact ih r (by omega) hk j hj
theorem sw_5 : ∀ k, ∀ i, i < (swK s m k).2.1 → ∃ r j, r < k ∧ kp s m r = true ∧ j < (gOb s r).2.2.1 ∧ (swK s m k).2.2.2.1 i = gCell s ((gOb s r).2.1 + j) ∧ (swK s m k).2.2.2.2 i = gKd s ((gOb s r).2.1 + j)
  | 0 => fun i h => absurd h (by show ¬ i < 0; omega)
  | k + 1 => fun i hi => by
    have ih := sw_5 k
    rw [swK_s] at hi ⊢
    rcases kp_cases s m k with ⟨h1, h2⟩ | ⟨h1, h2, h3⟩ | ⟨h1, h2, h3⟩
    · rw [swA_0 h1] at hi ⊢
      obtain ⟨r, j, a, b⟩ := ih i hi
      exact ⟨r, j, by omega, b⟩
    · rw [swA_1 h1 h2] at hi ⊢
      obtain ⟨r, j, a, b⟩ := ih i hi
      exact ⟨r, j, by omega, b⟩
    · rw [swA_2 h1 h2] at hi ⊢
      have hi : i < (swK s m k).2.1 + (gOb s k).2.2.1 := hi
      by_cases c : (swK s m k).2.1 ≤ i ∧ i < (swK s m k).2.1 + (gOb s k).2.2.1
      · refine ⟨k, i - (swK s m k).2.1, by omega, h3, by omega, ?_, ?_⟩
        · show (if (swK s m k).2.1 ≤ i ∧ i < (swK s m k).2.1 + (gOb s k).2.2.1 then _ else _) = _
          rw [if_pos c]
        · show (if (swK s m k).2.1 ≤ i ∧ i < (swK s m k).2.1 + (gOb s k).2.2.1 then _ else _) = _
          rw [if_pos c]
      · obtain ⟨r, j, a, b1, b2, b3, b4⟩ := ih i (by omega)
        refine ⟨r, j, by omega, b1, b2, ?_, ?_⟩
        · show (if (swK s m k).2.1 ≤ i ∧ i < (swK s m k).2.1 + (gOb s k).2.2.1 then _ else _) = _
          rw [if_neg c]; exact b3
        · show (if (swK s m k).2.1 ≤ i ∧ i < (swK s m k).2.1 + (gOb s k).2.2.1 then _ else _) = _
          rw [if_neg c]; exact b4
theorem sw_6 : ∀ k, (swK s m k).1 + ((List.range k).filter (kp s m)).length = ((List.range k).filter (thr s)).length
  | 0 => rfl
  | k + 1 => by
    have ih := sw_6 k
    rw [swK_s, cnt_succ, cnt_succ]
    rcases kp_cases s m k with ⟨h1, h2⟩ | ⟨h1, h2, h3⟩ | ⟨h1, h2, h3⟩
    · rw [swA_0 h1, h2, h1]; simp only [Bool.false_eq_true, if_false]; omega
    · rw [swA_1 h1 h2, h3, h1]; simp only [Bool.false_eq_true, if_false, if_true]; omega
    · rw [swA_2 h1 h2, h3, h1]; simp only [if_true]; omega
theorem szS_kp : ∀ k, szS (kp s m) (gOb s) k ≤ szS (thr s) (gOb s) k
  | 0 => Nat.le_refl _
  | k + 1 => by
    have ih := szS_kp k
    unfold szS
    rcases kp_cases s m k with ⟨h1, h2⟩ | ⟨h1, h2, h3⟩ | ⟨h1, h2, h3⟩
    · rw [h2, h1]; omega
    · rw [h3, h1, if_neg (by decide), if_pos rfl]; omega
    · rw [h3, h1]; omega
end
noncomputable def colS (W : List Cls) (s : Ms) : Ms :=
  yH s ((zH s).1 - (swK s (mrk W s) 801).1, (swK s (mrk W s) 801).2.1, kp s (mrk W s), (swK s (mrk W s) 801).2.2.1, (swK s (mrk W s) 801).2.2.2.1, (swK s (mrk W s) 801).2.2.2.2)
noncomputable def colO (W : List Cls) (s : Ms) : Int32 × Ms := (Int32.ofNat (swK s (mrk W s) 801).1, colS W s)
