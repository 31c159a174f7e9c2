theorem pName_tail {ts t2 : List Tok} {nm : Nm} (h : pName ts = .inr (nm, t2)) : t2 = ts.tail ∧ (hd ts).1 = 2 := by
  unfold pName at h
  split at h
  · rename_i c; exact ⟨(Prod.mk.inj (Sum.inr.inj h)).2.symm, c⟩
  · cases h
theorem pNum_tail {ts t2 : List Tok} {lo hi v : Int32} (h : pNum lo hi ts = .inr (v, t2)) : t2 = ts.tail ∧ (hd ts).1 = 4 := by
  unfold pNum at h
  split at h
  · rename_i c; exact ⟨(Prod.mk.inj (Sum.inr.inj h)).2.symm, c.1⟩
  · cases h
set_option maxRecDepth 4000 in
theorem ct_fieldLine {G : List Sl} {A : List Nm} {W : List Cls} {w c : Nat} {br : Int32} {L ts : List Tok} {Q X : Mem → Prop} {M : Mem} (hG : Ga G) (hTG : TG G M) (hz : lz L) (h : TQ A L ts M) (hne : ts ≠ []) (hC : Cx1 A W w br M) (hFl : tFl A W w M) (h51 : mI M 11 0 51 = Int32.ofNat 99) (h53 : mI M 11 0 53 = Int32.ofNat c) (hc : c < W.length)
    (hX : ∀ e M', pField ts = .inl e → ThT e M' → Cx1 A W w br M' → tFl A W w M' → GF G [] M M' → LoT w c M M' → X M')
    (hQ0 : ∀ bits own κ v has t5 M', pField ts = .inr ((bits, own, κ, v, has), t5) → rulF br (gc W c) bits own κ has < 99 → mI M' 11 0 51 = Int32.ofNat (rulF br (gc W c) bits own κ has) → Cx1 A W w br M' → tFl A W w M' → GF G [] M M' → LoT w c M M' → Q M')
    (hQ1 : ∀ bits own κ v has t5 M', pField ts = .inr ((bits, own, κ, v, has), t5) → rulF br (gc W c) bits own κ has = 99 → mI M' 11 0 51 = Int32.ofNat 99 → Cx1 A (addF W c (own, κ, bits, v, has)) w br M' → tFl A (addF W c (own, κ, bits, v, has)) w M' → (∀ k, mI M' 143 w k = if k = 8 * c + (gc W c).2.2.2.2.1.length then 0 else mI M 143 w k) → GF G [] M M' → LoT w c M M' → Q M') : w_Model_fieldLine 0 Q X M := by
  refine ct_fieldFlags hz h hne (fun bits t1 M1 n hpf hq1 hne1 hfr1 => ?_)
  have hpc : pField ts = match pFieldT t1 with
      | .inl e => .inl e
      | .inr ((own, κ, v, has), t5) => .inr ((bits, own, κ, v, has), t5) := by
    unfold pField; rw [hpf]
    all_goals (try dsimp only)
    all_goals (cases pFieldT t1 <;> rfl)
  rw [hpc] at hX hQ0 hQ1
  have hB1 : B2 G A W w c br L t1 99 M M1 := ⟨⟨hq1, hC.fr hfr1, (hfr1.I (f := 11) (k := 51) rfl 0).trans h51, (GF.rf hTG).fr hfr1 hG, hFl.fr hfr1, (hfr1.I (f := 11) (k := 53) rfl 0).trans h53, hc, fun k => hfr1.Ia (f := 143) rfl rfl w k⟩, (LoT.rf w c M).fr hfr1⟩
  have hWl := hC.1.1.1.2.2.1
  clear hpf hq1 hfr1
  unfold w_Model_fieldLine_L4
  refine itp rfl ?_
  unfold pFieldT at hX hQ0 hQ1
  -- its name
  refine mf_w_Model_plainName (Q := fun v M' => ∃ nm t2, pName t1 = .inr (nm, t2) ∧ nm ∈ A ∧ TQ A L t2 M' ∧ v = nc A nm) (X := fun M' => ∃ e, pName t1 = .inl e ∧ ThT e M') (fun v M2 hf2 hp2 => ?_) (fun M2 hf2 hp2 => ?_) (ct_plainName hB1.1.1 hne1 (fun nm t2 M' a b c => ⟨nm, t2, a, b, c, rfl⟩) (fun e M' a b => ⟨e, a, b⟩))
  rotate_left
  · obtain ⟨e, a, b⟩ := hp2
    exact hX e M2 (by simp only [a]) b (hB1.1.2.1.fr hf2) (hB1.1.2.2.2.2.1.fr hf2) (hB1.1.2.2.2.1.fr hf2 hG) (hB1.2.fr hf2)
  obtain ⟨own, t2, a2, ho, hq2, e2⟩ := hp2
  subst e2
  have hB2 := hB1.step hG hf2 hq2
  have hne2 : t2 ≠ [] := by rw [(pName_tail a2).1]; exact tl_ne hB1.1.1 hz hne1 (by rw [(pName_tail a2).2]; decide)
  simp only [a2] at hX hQ0 hQ1
  -- its type
  refine mf_w_Model_type (Q := fun v M' => ∃ κ t3, pType t2 = .inr (κ, t3) ∧ kok A κ ∧ TQ A L t3 M' ∧ v = kt A κ) (X := fun M' => ∃ e, pType t2 = .inl e ∧ ThT e M') (fun v M3 hf3 hp3 => ?_) (fun M3 hf3 hp3 => ?_) (ct_type hB2.1.1 hne2 (fun κ t3 M' a b c => ⟨κ, t3, a, b, c, rfl⟩) (fun e M' a b => ⟨e, a, b⟩))
  rotate_left
  · obtain ⟨e, a, b⟩ := hp3
    exact hX e M3 (by simp only [a]) b (hB2.1.2.1.fr hf3) (hB2.1.2.2.2.2.1.fr hf3) (hB2.1.2.2.2.1.fr hf3 hG) (hB2.2.fr hf3)
  obtain ⟨κ, t3, a3, hk, hq3, e3⟩ := hp3
  subst e3
  have hB3 := hB2.step hG hf3 hq3
  have hne3 : t3 ≠ [] := by rw [pType_tail a3]; exact tl_ne hB2.1.1 hz hne2 (by rw [pType_ne a3]; decide)
  have hkk := pType_kind a3
  simp only [a3] at hX hQ0 hQ1
  obtain ⟨k, k1, k2, ⟨k3, k4, k5⟩, k6, k7, -⟩ := hB3.1.1.top hne3
  -- the end of the line, and the rules
  have j166 : ∀ (has : Bool) (v : Int32) t M4, B2 G A W w c br L t 99 M M4 → t ≠ [] →
      (∀ M', (hd t).1 ≠ 0 → ThT (er t) M' → Cx1 A W w br M' → tFl A W w M' → GF G [] M M' → LoT w c M M' → X M') →
      (∀ M', (hd t).1 = 0 → rulF br (gc W c) bits own κ has < 99 → mI M' 11 0 51 = Int32.ofNat (rulF br (gc W c) bits own κ has) → Cx1 A W w br M' → tFl A W w M' → GF G [] M M' → LoT w c M M' → Q M') →
      (∀ M', (hd t).1 = 0 → rulF br (gc W c) bits own κ has = 99 → mI M' 11 0 51 = Int32.ofNat 99 → Cx1 A (addF W c (own, κ, bits, v, has)) w br M' → tFl A (addF W c (own, κ, bits, v, has)) w M' → (∀ k, mI M' 143 w k = if k = 8 * c + (gc W c).2.2.2.2.1.length then 0 else mI M 143 w k) → GF G [] M M' → LoT w c M M' → Q M') →
      w_Model_fieldLine_j166 0 Q X bits (nc A own) (kt A κ) (b2 has) v M4 := by
    intro has v t M4 hB4 hne4 x1 x2 x3
    unfold w_Model_fieldLine_j166
    refine mf_w_Model_need (Q := fun M' => (hd t).1 = 0 ∧ TQ A L t.tail M') (X := fun M' => (hd t).1 ≠ 0 ∧ ThT (er t) M') (fun M5 hf5 hp5 => ?_) (fun M5 hf5 hp5 => x1 M5 hp5.1 hp5.2 (hB4.1.2.1.fr hf5) (hB4.1.2.2.2.2.1.fr hf5) (hB4.1.2.2.2.1.fr hf5 hG) (hB4.2.fr hf5)) (ct_need (b := 0) hB4.1.1 hne4 (by omega) (fun M' a b => ⟨a, b⟩) (fun M' a b => ⟨a, b⟩))
    obtain ⟨c0, hq5⟩ := hp5
    have hB5 := hB4.step hG hf5 hq5
    refine ⟨w, hB5.1.2.1.2.1, ?_⟩
    have hn8 := (hB5.1.2.2.2.2.1.2 c hc).1.2
    rw [hB5.1.2.2.2.2.2.1, oN_tnc (by omega), hB5.1.2.1.2.2.2.1, (hB5.1.2.2.2.2.1.2 c hc).1.1, lit32 8, oN_mul]
    refine ⟨(vp_oN (by omega)).mpr (by omega), (gc W c).2.2.2.2.1.length + 1, ?_⟩
    exact ct_fieldRules hG ho hk hkk hB5 (fun M' => x2 M' c0) (fun M' => x3 M' c0)
  rw [k2, k3, oN_tnc (by omega), k6.1]
  refine ⟨(vp_oN (by omega)).mpr k1, ?_⟩
  by_cases c61 : (hd t3).1 = 61
  · refine itp (by rw [c61]; rfl) ?_
    unfold w_Model_fieldLine_j134
    refine itn (by decide) ?_
    simp only [if_pos c61] at hX hQ0 hQ1
    have hB4 := hB3.s11 (k := 43) (v := mI M3 11 0 43 + 1) hG (by omega) (hB3.1.1.next hne3) hB3.1.2.2.1
    have hne4 : t3.tail ≠ [] := tl_ne hB3.1.1 hz hne3 (by omega)
    refine mf_w_Model_numberIn (Q := fun v M' => ∃ t4, pNum i32min i32max t3.tail = .inr (v, t4) ∧ TQ A L t4 M') (X := fun M' => ∃ e, pNum i32min i32max t3.tail = .inl e ∧ ThT e M') (fun v M5 hf5 hp5 => ?_) (fun M5 hf5 hp5 => ?_) (ct_numberIn hB4.1.1 hne4 (fun v t4 M' a b => ⟨t4, a, b⟩) (fun e M' a b => ⟨e, a, b⟩))
    · obtain ⟨t4, a4, hq5⟩ := hp5
      have hB5 := hB4.step hG hf5 hq5
      have hne5 : t4 ≠ [] := by rw [(pNum_tail a4).1]; exact tl_ne hB4.1.1 hz hne4 (by rw [(pNum_tail a4).2]; decide)
      simp only [a4] at hX hQ0 hQ1
      exact j166 true v t4 M5 hB5 hne5 (fun M' d a b e f lo => hX _ M' (by rw [if_neg d]) a b e f lo) (fun M' d a b e f g lo => hQ0 bits own κ v true t4 M' (by rw [if_pos d]) a b e f g lo) (fun M' d a b e f g i lo => hQ1 bits own κ v true t4 M' (by rw [if_pos d]) a b e f g i lo)
    · obtain ⟨e, a, b⟩ := hp5
      exact hX e M5 (by simp only [a]) b (hB4.1.2.1.fr hf5) (hB4.1.2.2.2.2.1.fr hf5) (hB4.1.2.2.2.1.fr hf5 hG) (hB4.2.fr hf5)
  · refine itn (ne_oN (b := 61) c61 (by omega) (by omega)) ?_
    unfold w_Model_fieldLine_j134
    refine itp rfl ?_
    simp only [if_neg c61] at hX hQ0 hQ1
    exact j166 false 0 t3 M3 hB3 hne3 (fun M' d a b e f lo => hX _ M' (by rw [if_neg d]) a b e f lo) (fun M' d a b e f g lo => hQ0 bits own κ 0 false t3 M' (by rw [if_pos d]) a b e f g lo) (fun M' d a b e f g i lo => hQ1 bits own κ 0 false t3 M' (by rw [if_pos d]) a b e f g i lo)
