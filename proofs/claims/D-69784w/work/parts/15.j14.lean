/-! what differ asks of worlds holds of worlds -/
abbrev bMt : Mth := (nMake, [], (-4, []), 0, 0, 0, [], [])
theorem bMt_len : (txM bMt).length ≤ LPt := by
  have h1 : (txMh bMt).length ≤ 1000 := by decide +kernel
  have h2 : (txRm bMt).length ≤ 1000 := by decide +kernel
  have h3 : txEl bMt = [] := by
    unfold txEl
    rw [if_neg (fun z => ?_)]
    rcases tls_iff.1 z with ⟨i, hi, -⟩ | ⟨i, hi, -⟩
    · exact absurd hi (Nat.not_lt_zero _)
    · exact absurd hi (Nat.not_lt_zero _)
  unfold txM
  rw [if_pos (by decide), h3]
  show (txMh bMt ++ (txRm bMt ++ ([] ++ ([] ++ [])))).length ≤ 26000
  simp only [List.length_append, List.length_nil]
  omega
theorem bMt_nw : nwM bMt := by
  have h1 : nMake ≠ [] ∧ ∀ c ∈ nMake, wc c = true := by decide +kernel
  refine ⟨⟨⟨h1, fun κ z => (by cases z), Or.inr (Or.inr (Or.inl rfl))⟩, fun i z => (by cases z), fun y z => (by cases z)⟩, ⟨⟨fun κ z => (by cases z), Or.inr (Or.inr (Or.inl rfl)), Nat.zero_le _⟩, ⟨0, 0, rfl, rfl, Nat.zero_le _, Nat.zero_le _, fun z => absurd rfl z⟩, ⟨Nat.zero_le _, fun i z => (by cases z)⟩, ⟨Nat.zero_le _, fun i z => (by cases z)⟩, trivial⟩, by decide, fun z => absurd (by decide) z⟩
theorem txM_le {c : Cls} {k : Nat} (h : k < c.2.2.2.2.2.length) : (txM (gmt c k)).length ≤ (txC c).length := by
  have h1 := txMs_mono (c := c) (i := k + 1) (k := c.2.2.2.2.2.length) (by omega)
  have e : txMs c (k + 1) = txMs c k ++ txM (gmt c k) := rfl
  rw [e, List.length_append] at h1
  unfold txC
  simp only [List.length_append]
  omega
theorem DfT.of {W : List Cls} (hW : WO W) (hN : NXw W) (hP : PrW W) : DfT W := fun c hc k hk => by
  by_cases c21 : c < 21
  · rw [hW.1.mk c21 hk]; exact ⟨bMt_nw, bMt_len⟩
  · have hm := getD_mem (L := (gc W c).2.2.2.2.2) (d := ([], [], (0, []), 0, 0, 0, [], [])) hk
    obtain ⟨n1, n2, n3⟩ := hN c (by omega) hc _ hm
    have w1 := hW.m (c := c) (j := k) (by omega) hc hk
    have hl := txM_le hk
    have hp : (txC (gc W c)).length ≤ 25970 := (hP c (by omega) hc).2.2
    exact ⟨⟨n1, w1.q, n2, n3⟩, by show _ ≤ 26000; omega⟩
theorem DfW.of {W : List Cls} (hW : WO W) (hN : NXw W) (hP : PrW W) : DfW W := fun c hc => by
  by_cases c21 : c < 21
  · refine ⟨fun f hf => ?_, fun k hk => ?_⟩
    · rw [hW.1.nof c21] at hf; exact absurd hf (by simp)
    · rw [hW.1.mk c21 hk]; exact Or.inl ⟨rfl, rfl⟩
  · refine ⟨fun f hf => ((hP c (by omega) hc).1 f hf).1, fun k hk => Or.inr ⟨?_, hW.m (by omega) hc hk⟩⟩
    exact (hN c (by omega) hc _ (getD_mem (L := (gc W c).2.2.2.2.2) (d := ([], [], (0, []), 0, 0, 0, [], [])) hk)).1
