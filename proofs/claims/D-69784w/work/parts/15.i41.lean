/-! the text of a class: types, signatures, flags; the twin writes them -/
/-- kinds, the first behind f, the others behind a comma -/
def txS (f : List Int32) (ks : List Kd) : Nat → List Int32
  | 0 => []
  | k + 1 => txS f ks k ++ ((if k = 0 then f else [44, 32]) ++ kdW (gk ks k))
def txT (ks : List Kd) (res : Kd) : List Int32 := [40] ++ txS [] ks ks.length ++ [41, 32] ++ kdW res
def fl1 (b c : Int32) (n : Nm) : List Int32 := if b &&& c = 0 then [] else n ++ [32]
def txF (b : Int32) : List Int32 := fl1 b 1 (wA 52) ++ fl1 b 2 (wA 69) ++ fl1 b 4 (wA 72) ++ fl1 b 8 (wA 70)
section
variable {G : List Sl} {US : UST} {A : List Nm} {S : List Sg} {W : List Cls} {w : Nat} {br : Int32} {nq nl nf nk : Nat} {P : List Int32} {M M1 M' : Mem} {Q : Mem → Prop} {R k : Nat} {nm : Nm} {b v : Int32} {κ : Kd} {ks : List Kd}
theorem ct_pTy (hd : kdOk κ) (hk : kok A κ) (h : TPn G US A S W w br nq nl nf nk P M) (hl : P.length + (kdW κ).length ≤ LPt) (hQ : ∀ M', TPn G US A S W w br nq nl nf nk (P ++ kdW κ) M' → PgF G SPt M M' → Q M') : w_Model_putType 0 (kt A κ) Q M := by
  have hA := h.1.1.2.2.1
  unfold w_Model_putType
  rcases hd with e | e | e | e
  · subst e
    have ek : kt A (0, []) = 1 := rfl
    have ew : kdW (0, []) = stW 32 := by decide +kernel
    rw [ew] at hl hQ
    rw [ek]
    refine itp (by decide) (itn (by decide) (itp rfl ?_))
    unfold w_Model_putType_j40
    exact ct_pW (by decide) h hl hQ
  · subst e
    have ek : kt A (1, []) = 2 := rfl
    have ew : kdW (1, []) = stW 15 := by decide +kernel
    rw [ew] at hl hQ
    rw [ek]
    refine itp (by decide) (itn (by decide) (itn (by decide) ?_))
    unfold w_Model_putType_j40
    exact ct_pW (by decide) h hl hQ
  · subst e
    have ek : kt A (-4, []) = 0 := rfl
    have ew : kdW (-4, []) = stW 16 := by decide +kernel
    rw [ew] at hl hQ
    rw [ek]
    refine itp (by decide) (itp rfl ?_)
    unfold w_Model_putType_j40
    exact ct_pW (by decide) h hl hQ
  · have hi : A.idxOf κ.2 < A.length := List.idxOf_lt_length_of_mem (hk e)
    have ek : kt A κ = Int32.ofNat (A.idxOf κ.2 + 16) := by unfold kt; rw [if_pos e]
    have ew : kdW κ = κ.2 := by
      unfold kdW
      rw [e, if_neg (by decide), if_neg (by decide), if_neg (by decide), if_neg (by decide), if_neg (by decide), if_neg (by decide)]
    rw [ew] at hl hQ
    rw [ek]
    refine itn (nlt_oN (b := 16) (by omega) (by omega)) ?_
    rw [lit32 16, oN_sub (by omega), Nat.add_sub_cancel]
    exact ct_pN (idx_at (hk e)) h hl hQ
theorem TB.sg4 (h : TB G US A S W w br nq nl nf nk M) (hm : sg A ks κ ∈ S) : (S.idxOf (sg A ks κ) < 100000 ∧ (mR M 11 0 30 = some (300, rdI M sF) ∧ S.idxOf (sg A ks κ) < mL M 300 (rdI M sF)) ∧ (mR M 11 0 31 = some (300, rdI M sC) ∧ S.idxOf (sg A ks κ) < mL M 300 (rdI M sC)) ∧ (mR M 11 0 32 = some (300, rdI M sRe) ∧ S.idxOf (sg A ks κ) < mL M 300 (rdI M sRe)) ∧ mR M 11 0 35 = some (300, rdI M sTy)) ∧ mI M 300 (rdI M sC) (S.idxOf (sg A ks κ)) = Int32.ofNat ks.length ∧ mI M 300 (rdI M sRe) (S.idxOf (sg A ks κ)) = kt A κ ∧ ∃ o, mI M 300 (rdI M sF) (S.idxOf (sg A ks κ)) = Int32.ofNat o ∧ o + ks.length ≤ mL M 300 (rdI M sTy) ∧ o + ks.length ≤ 1000000 ∧ ∀ j, j < ks.length → mI M 300 (rdI M sTy) (o + j) = kt A (gk ks j) := by
  obtain ⟨-, ⟨-, -, s3, s4, -⟩, ⟨l1, l2, l3, -, l5, -⟩, hn, hg, -⟩ := h.1.2.1.1
  have hlt : S.idxOf (sg A ks κ) < S.length := List.idxOf_lt_length_of_mem hm
  have eg : gs1 S (S.idxOf (sg A ks κ)) = sg A ks κ := by
    show S.getD _ _ = _
    rw [List.getD_eq_getElem?_getD, List.getElem?_eq_getElem hlt]
    exact List.getElem_idxOf hlt
  obtain ⟨⟨g1, g2, g3, -⟩, g5⟩ := hg _ hlt
  rw [eg] at g2 g3 g5
  have el : (sg A ks κ).1.length = ks.length := by show (ks.map _).length = _; rw [List.length_map]
  rw [el] at g2 g5
  have ho : off S (S.idxOf (sg A ks κ)) + ks.length ≤ off S S.length := by
    have e1 := off_succ S (S.idxOf (sg A ks κ)) hlt
    have e2 := off_mono S S.length (S.idxOf (sg A ks κ) + 1) (by omega) (Nat.le_refl _)
    rw [eg, el] at e1
    omega
  have sl : ∀ s, s ∈ X5 → mR M s.1 s.2.1 s.2.2.1 = some (s.2.2.2, rdI M s) := fun s hs => (h.1.2.2.2 s (X5_in h.2.1.2.1 hs)).1.1
  have l1 : S.length ≤ mL M 300 (rdI M sF) := l1
  have l2 : S.length ≤ mL M 300 (rdI M sC) := l2
  have l3 : S.length ≤ mL M 300 (rdI M sRe) := l3
  have l5 : off S S.length ≤ mL M 300 (rdI M sTy) := l5
  refine ⟨⟨by omega, ⟨sl sF (by simp), by omega⟩, ⟨sl sC (by simp), by omega⟩, ⟨sl sRe (by simp), by omega⟩, sl sTy (by simp)⟩, g2, g3, _, g1, by omega, by omega, fun j hj => ?_⟩
  refine (g5 j hj).trans ?_
  show (ks.map (kt A)).getD j 0 = kt A (ks.getD j (0, []))
  rw [List.getD_eq_getElem?_getD, List.getD_eq_getElem?_getD, List.getElem?_map, List.getElem?_eq_getElem hj]; rfl
theorem txS_mono {f : List Int32} {i : Nat} : ∀ {k : Nat}, i ≤ k → (txS f ks i).length ≤ (txS f ks k).length
  | 0, h => by rw [show i = 0 by omega]; exact Nat.le_refl _
  | k + 1, h => by
    by_cases e : i = k + 1
    · rw [e]; exact Nat.le_refl _
    · have := txS_mono (f := f) (i := i) (k := k) (by omega)
      show _ ≤ (txS f ks k ++ ((if k = 0 then f else [44, 32]) ++ kdW (gk ks k))).length
      rw [List.length_append]; omega
theorem ct_pSgL (hm : sg A ks κ ∈ S) (hks : ∀ κ ∈ ks, kok A κ ∧ kdOk κ) (hr : kok A κ ∧ kdOk κ) : ∀ n i M, i ≤ ks.length → ks.length - i < n → TPn G US A S W w br nq nl nf nk (P ++ txS [] ks i) M → P.length + ((txS [] ks ks.length).length + ((kdW κ).length + 2)) ≤ LPt → (∀ M', TPn G US A S W w br nq nl nf nk (P ++ txS [] ks ks.length ++ [41, 32] ++ kdW κ) M' → PgF G SPt M M' → Q M') → w_Model_putSignature_L8 0 Q n (Int32.ofNat (S.idxOf (sg A ks κ))) (Int32.ofNat i) M
  | 0, i, M, hi, hn, h, hl, hQ => absurd hn (by omega)
  | n + 1, i, M, hi, hn, h, hl, hQ => by
    have hl : P.length + ((txS [] ks ks.length).length + ((kdW κ).length + 2)) ≤ 26000 := hl
    obtain ⟨⟨i1, -, ⟨c1, c2⟩, -⟩, g2, -, o0, -, -, hb, -⟩ := h.1.1.sg4 hm
    unfold w_Model_putSignature_L8
    refine ⟨_, c1, (vp_oN (by omega)).mpr c2, ?_⟩
    rw [oN_tnc (k := S.idxOf (sg A ks κ)) (by omega), g2]
    by_cases e : i = ks.length
    · subst e
      refine itp (le_oN (Nat.le_refl _) (by omega)) ?_
      have e36 : stW 36 = [41, 32] := rfl
      refine ct_pW (k := 36) (by decide) h (by rw [List.length_append, e36]; show _ ≤ 26000; simp only [List.length_cons, List.length_nil]; omega) (fun M1 h1 f1 => ?_)
      rw [e36] at h1
      obtain ⟨⟨-, -, -, ⟨r1, r2⟩, -⟩, -, g3, -⟩ := h1.1.1.sg4 hm
      refine ⟨_, r1, (vp_oN (by omega)).mpr r2, ?_⟩
      rw [g3]
      exact ct_pTy hr.2 hr.1 h1 (by rw [List.length_append, List.length_append]; show _ ≤ 26000; simp only [List.length_cons, List.length_nil]; omega) (fun M2 h2 f2 => hQ M2 h2 (f1.trans f2))
    have hm1 := txS_mono (ks := ks) (f := []) (i := i + 1) (k := ks.length) (by omega)
    have esx : txS [] ks (i + 1) = txS [] ks i ++ ((if i = 0 then [] else [44, 32]) ++ kdW (gk ks i)) := rfl
    have hkm := hks _ (gk_mem (ks := ks) (i := i) (by omega))
    refine itn (nle_oN (by omega) (by omega)) ?_
    have go : ∀ kk, kk < 42 → stW kk = (if i = 0 then [] else [44, 32]) → w_Model_putSignature_j32 0 Q (w_Model_putSignature_L8 0 Q n) (Int32.ofNat (S.idxOf (sg A ks κ))) (Int32.ofNat i) kk M := fun kk hkk ekk => by
      rw [esx, List.length_append, List.length_append, ← ekk] at hm1
      unfold w_Model_putSignature_j32
      refine ct_pW (k := kk) hkk h (by rw [List.length_append]; show _ ≤ 26000; omega) (fun M1 h1 f1 => ?_)
      obtain ⟨⟨-, ⟨q1, q2⟩, -, -, q3⟩, -, -, o, p1, p2, p3, p4⟩ := h1.1.1.sg4 hm
      refine ⟨_, q3, _, q1, ?_⟩
      rw [oN_tnc (k := S.idxOf (sg A ks κ)) (by omega), p1, oN_add, oN_tnc (k := o + i) (by omega), p4 i (by omega)]
      refine ⟨(vp_oN (by omega)).mpr q2, (vp_oN (by omega)).mpr (by omega), ?_⟩
      refine ct_pTy hkm.2 hkm.1 h1 (by rw [List.length_append, List.length_append]; show _ ≤ 26000; omega) (fun M2 h2 f2 => ?_)
      rw [lit32 1, oN_add]
      refine ct_pSgL hm hks hr n (i + 1) M2 (by omega) (by omega) ?_ hl (fun M3 h3 f3 => hQ M3 h3 ((f1.trans f2).trans f3))
      rw [esx, ← ekk, ← List.append_assoc, ← List.append_assoc]
      exact h2
    by_cases e0 : i = 0
    · exact itp (by rw [e0]; decide) (go 35 (by decide) (by rw [if_pos e0]; rfl))
    · exact itn (nle_oN (b := 0) (by omega) (by omega)) (go 28 (by decide) (by rw [if_neg e0]; rfl))
theorem ct_pSg (hm : sg A ks κ ∈ S) (hks : ∀ κ ∈ ks, kok A κ ∧ kdOk κ) (hr : kok A κ ∧ kdOk κ) (h : TPn G US A S W w br nq nl nf nk P M) (hl : P.length + (txT ks κ).length ≤ LPt) (hQ : ∀ M', TPn G US A S W w br nq nl nf nk (P ++ txT ks κ) M' → PgF G SPt M M' → Q M') : w_Model_putSignature 0 (Int32.ofNat (S.idxOf (sg A ks κ))) Q M := by
  have hl : P.length + (txT ks κ).length ≤ 26000 := hl
  unfold txT at hl hQ
  rw [List.length_append, List.length_append, List.length_append] at hl
  simp only [List.length_cons, List.length_nil] at hl
  unfold w_Model_putSignature
  refine ct_pb h (show P.length < 26000 by omega) (fun M1 h1 f1 => ⟨ks.length + 1, ?_⟩)
  refine ct_pSgL (P := P ++ [40]) hm hks hr _ 0 M1 (Nat.zero_le _) (by omega) (by show TPn G US A S W w br nq nl nf nk (P ++ [40] ++ []) M1; rw [List.append_nil]; exact h1) (by rw [List.length_append, List.length_singleton]; show _ ≤ 26000; omega) (fun M2 h2 f2 => hQ M2 ?_ (f1.trans f2))
  simpa only [List.append_assoc] using h2
/-- one flag -/
theorem ct_fl {c : Int32} {kk : Nat} (hk : kk < 42) (hw : stW kk = nm ++ [32]) (h : TPn G US A S W w br nq nl nf nk P M) (hl : P.length + (fl1 b c nm).length ≤ LPt) (hQ : ∀ M', TPn G US A S W w br nq nl nf nk (P ++ fl1 b c nm) M' → PgF G SPt M M' → Q M') : if b &&& c = 0 then w_Model_putFlag 0 0 kk Q M else w_Model_putFlag 0 1 kk Q M := by
  unfold fl1 at hl hQ
  unfold w_Model_putFlag
  by_cases e : b &&& c = 0
  · rw [if_pos e] at hl hQ
    refine itp e (itp rfl (hQ M ?_ (PgF.rf h.1.1.1.2.2.2)))
    rw [List.append_nil]; exact h
  · rw [if_neg e, ← hw] at hl hQ
    exact itn e (itn (by decide) (ct_pW hk h hl hQ))
theorem ct_pFl (h : TPn G US A S W w br nq nl nf nk P M) (hl : P.length + (txF b).length ≤ LPt) (hQ : ∀ M', TPn G US A S W w br nq nl nf nk (P ++ txF b) M' → PgF G SPt M M' → Q M') : w_Model_putFlags 0 b Q M := by
  have hl : P.length + (txF b).length ≤ 26000 := hl
  unfold txF at hl hQ
  simp only [List.length_append] at hl
  unfold w_Model_putFlags w_Model_putFlags_j12
  refine ct_fl (kk := 30) (nm := wA 52) (by decide) (by decide +kernel) h (show _ ≤ 26000 by omega) (fun M1 h1 f1 => ?_)
  unfold w_Model_putFlags_j30
  refine ct_fl (kk := 23) (nm := wA 69) (by decide) (by decide +kernel) h1 (by show _ ≤ 26000; simp only [List.length_append]; omega) (fun M2 h2 f2 => ?_)
  unfold w_Model_putFlags_j48
  refine ct_fl (kk := 31) (nm := wA 72) (by decide) (by decide +kernel) h2 (by show _ ≤ 26000; simp only [List.length_append]; omega) (fun M3 h3 f3 => ?_)
  unfold w_Model_putFlags_j67
  refine ct_fl (kk := 24) (nm := wA 70) (by decide) (by decide +kernel) h3 (by show _ ≤ 26000; simp only [List.length_append]; omega) (fun M4 h4 f4 => hQ M4 ?_ (((f1.trans f2).trans f3).trans f4))
  simpa only [List.append_assoc] using h4
end
