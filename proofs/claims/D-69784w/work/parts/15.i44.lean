/-! the twin writes an instruction: the rest -/
def t58 (i : Ins) : List Int32 := tI5 i ++ tI6 i ++ tI7 i ++ tI8 i ++ [10]
section
variable {G : List Sl} {US : UST} {A : List Nm} {S : List Sg} {W : List Cls} {w : Nat} {br : Int32} {nq nl nf nk : Nat} {P P' : List Int32} {M M1 M' : Mem} {Q : Mem → Prop} {k f q d : Nat} {nm : Nm} {b v : Int32} {κ : Kd} {ks ls ss : List Kd} {x : Mth} {i : Ins}
theorem ct_i58 (h : TPi G US A S W w br nq nl nf nk x q i P M) (hl : P.length + (t58 i).length ≤ LPt) (hQ : ∀ M', TPi G US A S W w br nq nl nf nk x q i (P ++ t58 i) M' → PgF G SPt M M' → Q M') : w_Model_putInstruction_j296 0 Q (Int32.ofNat q) (Int32.ofNat i.1) (iW A i) M := by
  have hl : P.length + (t58 i).length ≤ 26000 := hl
  unfold t58 at hl hQ
  simp only [List.length_append, List.length_singleton] at hl
  refine ct_i5 h (show _ ≤ 26000 by omega) (fun M1 h1 f1 => hQ M1 (h1.rw ?_) f1)
  simp only [List.append_assoc]
theorem txP_mono {l : List Nat} {j : Nat} : ∀ {k : Nat}, j ≤ k → (txP x l j).length ≤ (txP x l k).length
  | 0, h => by rw [show j = 0 by omega]; exact Nat.le_refl _
  | k + 1, h => by
    by_cases e : j = k + 1
    · rw [e]; exact Nat.le_refl _
    · have := txP_mono (l := l) (j := j) (k := k) (by omega)
      show _ ≤ (txP x l k ++ ((if k = 0 then [32] else [44, 32]) ++ txL x (gtn l k))).length
      rw [List.length_append]; omega
theorem ct_i4L (ho : i.1 = 40) : ∀ n j M, j ≤ (iT i).length → (iT i).length - j < n → TPi G US A S W w br nq nl nf nk x q i (P ++ txP x (iT i) j) M → P.length + ((txP x (iT i) (iT i).length).length + (t58 i).length) ≤ LPt → (∀ M', TPi G US A S W w br nq nl nf nk x q i (P ++ txP x (iT i) (iT i).length ++ t58 i) M' → PgF G SPt M M' → Q M') → w_Model_putInstruction_L227 0 Q n (Int32.ofNat q) (Int32.ofNat i.1) (iW A i) (Int32.ofNat j) M
  | 0, j, M, hj, hn, h, hl, hQ => absurd hn (by omega)
  | n + 1, j, M, hj, hn, h, hl, hQ => by
    have hl : P.length + ((txP x (iT i) (iT i).length).length + (t58 i).length) ≤ 26000 := hl
    have hq := h.q39
    obtain ⟨-, -, t3, -⟩ := h.1.2.2.2.1
    obtain ⟨lf, p1, p2, p3, p4⟩ := t3 ho
    have el : ((iT i).map Int32.ofNat).length = (iT i).length := List.length_map _
    rw [show i.2.2.2.1.map Int32.ofNat = (iT i).map Int32.ofNat from rfl, el] at p2 p3
    have hb := h.1.1.1.1.1.1.2.2.2
    have p2 : mI M 300 (rdI M (sCs w)) q = Int32.ofNat (iT i).length := p2
    obtain ⟨sl, sq⟩ := h.sl (s := sCs w) (by simp)
    unfold w_Model_putInstruction_L227
    refine itp (by rw [ho]; rfl) ⟨w, h.1.1.1.1.r45, _, sl, (vp_oN (by omega)).mpr sq, ?_⟩
    rw [oN_tnc (k := q) (by omega), p2]
    by_cases e : j = (iT i).length
    · subst e
      refine itp (le_oN (Nat.le_refl _) (by omega)) (ct_i58 h (by rw [List.length_append]; show _ ≤ 26000; omega) hQ)
    have hj1 : j + 1 ≤ (iT i).length := by omega
    have hn1 : (iT i).length - (j + 1) < n := by omega
    refine itn (nle_oN (by omega) (by omega)) ?_
    have hm1 := txP_mono (x := x) (l := iT i) (j := j + 1) (k := (iT i).length) (by omega)
    have esx : txP x (iT i) (j + 1) = txP x (iT i) j ++ ((if j = 0 then [32] else [44, 32]) ++ txL x (gtn (iT i) j)) := rfl
    have htj := h.2.2.2 _ (gtn_mem (show j < (iT i).length by omega))
    have go : ∀ kk, kk < 42 → stW kk = (if j = 0 then [32] else [44, 32]) → w_Model_putInstruction_j263 0 Q (w_Model_putInstruction_L227 0 Q n) (Int32.ofNat q) (Int32.ofNat i.1) (iW A i) (Int32.ofNat j) kk M := fun kk hkk ekk => by
      rw [esx, List.length_append, List.length_append, ← ekk] at hm1
      unfold w_Model_putInstruction_j263
      refine ct_pW hkk h.1.1 (by rw [List.length_append]; show _ ≤ 26000; omega) (fun M1 h1 f1 => ?_)
      have h1 := h.pf h1 f1
      obtain ⟨-, -, t3, -⟩ := h1.1.2.2.2.1
      obtain ⟨lf, p1, p2, p3, p4⟩ := t3 ho
      rw [show i.2.2.2.1.map Int32.ofNat = (iT i).map Int32.ofNat from rfl, el] at p3 p4
      have p1 : mI M1 300 (rdI M1 (sBs w)) q = Int32.ofNat lf := p1
      have p4 : mI M1 300 (rdI M1 (sLi w)) (lf + j) = Int32.ofNat (gtn (iT i) j) := by
        refine (p4 j (by omega)).trans ?_
        show ((iT i).map Int32.ofNat).getD j 0 = Int32.ofNat ((iT i).getD j 0)
        rw [List.getD_eq_getElem?_getD, List.getD_eq_getElem?_getD, List.getElem?_map, List.getElem?_eq_getElem (by omega)]; rfl
      obtain ⟨sl, sq⟩ := h1.sl (s := sBs w) (by simp)
      have rl4 : nl ≤ mL M1 300 (rdI M1 (sLi w)) := h1.1.1.1.1.1.1.2.2.1.2.1
      refine ⟨w, h1.1.1.1.1.r45, _, h1.1.1.1.1.slt (s := sLi w) (by simp), w, h1.1.1.1.1.r45, _, sl, ?_⟩
      rw [oN_tnc (k := q) (by omega), p1, oN_add, oN_tnc (k := lf + j) (by omega), p4]
      refine ⟨(vp_oN (by omega)).mpr sq, (vp_oN (by omega)).mpr (by omega), ?_⟩
      refine ct_pLb h1.2.2.1 htj h1.1.2.1 h1.1.1 (by rw [List.length_append, List.length_append]; show _ ≤ 26000; omega) (fun M2 h2 f2 => ?_)
      rw [lit32 1, oN_add]
      refine ct_i4L ho n (j + 1) M2 hj1 hn1 ((h1.pf h2 f2).rw ?_) hl (fun M3 h3 f3 => hQ M3 h3 ((f1.trans f2).trans f3))
      rw [esx, ← ekk, ← List.append_assoc, ← List.append_assoc]
    by_cases e0 : j = 0
    · exact itp (by rw [e0]; decide) (go 39 (by decide) (by rw [if_pos e0]; rfl))
    · exact itn (nle_oN (b := 0) (by omega) (by omega)) (go 28 (by decide) (by rw [if_neg e0]; rfl))
theorem ct_i4 (h : TPi G US A S W w br nq nl nf nk x q i P M) (hl : P.length + (tI4 x i ++ t58 i).length ≤ LPt) (hQ : ∀ M', TPi G US A S W w br nq nl nf nk x q i (P ++ (tI4 x i ++ t58 i)) M' → PgF G SPt M M' → Q M') : w_Model_putInstruction_j224 0 Q (Int32.ofNat q) (Int32.ofNat i.1) (iW A i) M := by
  have hl : P.length + (tI4 x i ++ t58 i).length ≤ 26000 := hl
  rw [List.length_append] at hl
  have h62 := h.o62
  unfold w_Model_putInstruction_j224
  by_cases c : i.1 = 40
  · have ht : tI4 x i = txP x (iT i) (iT i).length := if_pos c
    rw [ht] at hl hQ
    refine ⟨(iT i).length + 1, ct_i4L c _ 0 M (Nat.zero_le _) (by omega) (h.rw ?_) (show _ ≤ 26000 from hl) (fun M1 h1 f1 => hQ M1 (h1.rw ?_) f1)⟩
    · show P = P ++ []
      rw [List.append_nil]
    · rw [List.append_assoc]
  · have ht : tI4 x i = [] := if_neg c
    rw [ht] at hl hQ
    refine ⟨1, ?_⟩
    unfold w_Model_putInstruction_L227
    refine itn (ne_oN (b := 40) c (by omega) (by omega)) (ct_i58 h (show _ ≤ 26000 by rw [List.length_nil] at hl; omega) (fun M1 h1 f1 => hQ M1 (h1.rw ?_) f1))
    rfl
theorem ct_i3 (h : TPi G US A S W w br nq nl nf nk x q i P M) (hl : P.length + (tI3 x i ++ (tI4 x i ++ t58 i)).length ≤ LPt) (hQ : ∀ M', TPi G US A S W w br nq nl nf nk x q i (P ++ (tI3 x i ++ (tI4 x i ++ t58 i))) M' → PgF G SPt M M' → Q M') : w_Model_putInstruction_j198 0 Q (Int32.ofNat q) (Int32.ofNat i.1) (iW A i) M := by
  have hl : P.length + (tI3 x i ++ (tI4 x i ++ t58 i)).length ≤ 26000 := hl
  rw [List.length_append] at hl
  have h62 := h.o62
  have fin : ∀ P1 M1, TPi G US A S W w br nq nl nf nk x q i P1 M1 → PgF G SPt M M1 → P1 = P ++ tI3 x i → w_Model_putInstruction_j224 0 Q (Int32.ofNat q) (Int32.ofNat i.1) (iW A i) M1 := fun P1 M1 h1 f1 e => by
    subst e
    exact ct_i4 h1 (by rw [List.length_append]; show _ ≤ 26000; omega) (fun M2 h2 f2 => hQ M2 (h2.rw (List.append_assoc _ _ _)) (f1.trans f2))
  unfold w_Model_putInstruction_j198
  by_cases c : isJ i.1
  · have ht : tI3 x i = [32] ++ txL x (gtn (iT i) 0) := if_pos c
    rw [ht, List.length_append, List.length_singleton] at hl
    have h1l : (iT i).length = 1 := h.1.2.2.2.2.2.1 c
    have eW : iW A i = Int32.ofNat (gtn (iT i) 0) := by
      unfold iW
      rw [if_pos c]
      generalize iT i = l at h1l ⊢
      match l, h1l with
      | [t], _ => rfl
    have htj := h.2.2.2 _ (gtn_mem (show 0 < (iT i).length by omega))
    refine itn (nlt_oN (b := 23) (by omega) (by omega)) (itn (nlt_oN (a := 39) (by omega) (by omega)) (ct_pb h.1.1 (show _ < 26000 by omega) (fun M1 h1 f1 => ?_)))
    have h1 := h.pf h1 f1
    have go : w_Model_putLabel 0 (Int32.ofNat (gtn (iT i) 0)) (fun M68 => w_Model_putInstruction_j224 0 Q (Int32.ofNat q) (Int32.ofNat i.1) (iW A i) M68) M1 := ct_pLb h1.2.2.1 htj h1.1.2.1 h1.1.1 (by rw [List.length_append, List.length_singleton]; show _ ≤ 26000; omega) (fun M2 h2 f2 => fin _ M2 (h1.pf h2 f2) (f1.trans f2) (by rw [ht, ← List.append_assoc]))
    rw [← eW] at go
    exact go
  · have ht : tI3 x i = [] := if_neg c
    have g0 := fin P M h (PgF.rf h.1.1.1.1.1.2.2.2) (by rw [ht, List.append_nil])
    by_cases c1 : i.1 < 23
    · exact itp (lt_oN (b := 23) c1 (by omega)) g0
    · exact itn (nlt_oN (b := 23) (by omega) (by omega)) (itp (lt_oN (a := 39) (by omega) (by omega)) g0)
theorem ct_i2 (h : TPi G US A S W w br nq nl nf nk x q i P M) (hl : P.length + (tI2 i ++ (tI3 x i ++ (tI4 x i ++ t58 i))).length ≤ LPt) (hQ : ∀ M', TPi G US A S W w br nq nl nf nk x q i (P ++ (tI2 i ++ (tI3 x i ++ (tI4 x i ++ t58 i)))) M' → PgF G SPt M M' → Q M') : w_Model_putInstruction_j172 0 Q (Int32.ofNat q) (Int32.ofNat i.1) (iW A i) M := by
  have hl : P.length + (tI2 i ++ (tI3 x i ++ (tI4 x i ++ t58 i))).length ≤ 26000 := hl
  rw [List.length_append] at hl
  have h62 := h.o62
  have hq := h.q39
  have fin : ∀ P1 M1, TPi G US A S W w br nq nl nf nk x q i P1 M1 → PgF G SPt M M1 → P1 = P ++ tI2 i → w_Model_putInstruction_j198 0 Q (Int32.ofNat q) (Int32.ofNat i.1) (iW A i) M1 := fun P1 M1 h1 f1 e => by
    subst e
    exact ct_i3 h1 (by rw [List.length_append]; show _ ≤ 26000; omega) (fun M2 h2 f2 => hQ M2 (h2.rw (List.append_assoc _ _ _)) (f1.trans f2))
  unfold w_Model_putInstruction_j172
  by_cases c : i.1 = 7
  · have ht : tI2 i = [32] ++ dgi i.2.2.1 := if_pos c
    rw [ht, List.length_append, List.length_singleton] at hl
    refine itp (by rw [c]; rfl) (ct_pb h.1.1 (show _ < 26000 by omega) (fun M1 h1 f1 => ?_))
    have h1 := h.pf h1 f1
    obtain ⟨sl, sq⟩ := h1.sl (s := sBs w) (by simp)
    obtain ⟨-, t2, -⟩ := h1.1.2.2.2.1
    have e32 : mI M1 300 (rdI M1 (sBs w)) q = i.2.2.1 := by
      refine ((t2 (by omega)).1).trans ?_
      rw [if_neg (by rw [c]; decide)]
    refine ⟨w, h1.1.1.1.1.r45, _, sl, (vp_oN (by omega)).mpr sq, ?_⟩
    rw [oN_tnc (k := q) (by omega), e32]
    exact ct_pI h1.1.1 (by rw [List.length_append, List.length_singleton]; show _ ≤ 26000; omega) (fun M2 h2 f2 => fin _ M2 (h1.pf h2 f2) (f1.trans f2) (by rw [ht, ← List.append_assoc]))
  · have ht : tI2 i = [] := if_neg c
    exact itn (ne_oN (b := 7) c (by omega) (by omega)) (fin P M h (PgF.rf h.1.1.1.1.1.2.2.2) (by rw [ht, List.append_nil]))
theorem ct_i1 (h : TPi G US A S W w br nq nl nf nk x q i P M) (hl : P.length + (tI1 i ++ (tI2 i ++ (tI3 x i ++ (tI4 x i ++ t58 i)))).length ≤ LPt) (hQ : ∀ M', TPi G US A S W w br nq nl nf nk x q i (P ++ (tI1 i ++ (tI2 i ++ (tI3 x i ++ (tI4 x i ++ t58 i))))) M' → PgF G SPt M M' → Q M') : if Int32.ofNat i.1 = (1 : Int32) then w_Model_putInstruction_j160 0 Q (Int32.ofNat q) (Int32.ofNat i.1) (iW A i) M else if Int32.ofNat i.1 < (3 : Int32) then w_Model_putInstruction_j153 0 Q (Int32.ofNat q) (Int32.ofNat i.1) (iW A i) M else if Int32.ofNat i.1 ≤ (7 : Int32) then w_Model_putInstruction_j160 0 Q (Int32.ofNat q) (Int32.ofNat i.1) (iW A i) M else w_Model_putInstruction_j153 0 Q (Int32.ofNat q) (Int32.ofNat i.1) (iW A i) M := by
  have hl : P.length + (tI1 i ++ (tI2 i ++ (tI3 x i ++ (tI4 x i ++ t58 i)))).length ≤ 26000 := hl
  rw [List.length_append] at hl
  have h62 := h.o62
  have fin : ∀ P1 M1, TPi G US A S W w br nq nl nf nk x q i P1 M1 → PgF G SPt M M1 → P1 = P ++ tI1 i → w_Model_putInstruction_j172 0 Q (Int32.ofNat q) (Int32.ofNat i.1) (iW A i) M1 := fun P1 M1 h1 f1 e => by
    subst e
    exact ct_i2 h1 (by rw [List.length_append]; show _ ≤ 26000; omega) (fun M2 h2 f2 => hQ M2 (h2.rw (List.append_assoc _ _ _)) (f1.trans f2))
  have yes : (i.1 = 1 ∨ (3 ≤ i.1 ∧ i.1 ≤ 7) ∨ i.1 = 40) → w_Model_putInstruction_j160 0 Q (Int32.ofNat q) (Int32.ofNat i.1) (iW A i) M := fun c => by
    have ht : tI1 i = [32] ++ dgi (iV i) := if_pos c
    rw [ht, List.length_append, List.length_singleton] at hl
    have eW : iW A i = iV i := by
      unfold iW
      rw [if_neg (by omega), if_neg (by omega)]
    unfold w_Model_putInstruction_j160
    refine ct_pb h.1.1 (show _ < 26000 by omega) (fun M1 h1 f1 => ?_)
    have h1 := h.pf h1 f1
    have go : w_Model_putNumber 0 (iV i) (fun M17 => w_Model_putInstruction_j172 0 Q (Int32.ofNat q) (Int32.ofNat i.1) (iW A i) M17) M1 := ct_pI h1.1.1 (by rw [List.length_append, List.length_singleton]; show _ ≤ 26000; omega) (fun M2 h2 f2 => fin _ M2 (h1.pf h2 f2) (f1.trans f2) (by rw [ht, ← List.append_assoc]))
    rw [← eW] at go
    exact go
  have no : ¬ (i.1 = 1 ∨ (3 ≤ i.1 ∧ i.1 ≤ 7)) → w_Model_putInstruction_j153 0 Q (Int32.ofNat q) (Int32.ofNat i.1) (iW A i) M := fun c => by
    unfold w_Model_putInstruction_j153
    by_cases c2 : i.1 = 40
    · exact itp (by rw [c2]; rfl) (yes (Or.inr (Or.inr c2)))
    · have ht : tI1 i = [] := if_neg (by omega)
      exact itn (ne_oN (b := 40) c2 (by omega) (by omega)) (fin P M h (PgF.rf h.1.1.1.1.1.2.2.2) (by rw [ht, List.append_nil]))
  by_cases c1 : i.1 = 1
  · exact itp (by rw [c1]; rfl) (yes (Or.inl c1))
  refine itn (ne_oN (b := 1) c1 (by omega) (by omega)) ?_
  by_cases c2 : i.1 < 3
  · exact itp (lt_oN (b := 3) c2 (by omega)) (no (by omega))
  refine itn (nlt_oN (b := 3) (by omega) (by omega)) ?_
  by_cases c3 : i.1 ≤ 7
  · exact itp (le_oN (b := 7) c3 (by omega)) (yes (Or.inr (Or.inl ⟨by omega, c3⟩)))
  · exact itn (nle_oN (b := 7) (by omega) (by omega)) (no (by omega))
theorem ct_i0 (h : TPi G US A S W w br nq nl nf nk x q i P M) (hl : P.length + (txIn x i ++ [10]).length ≤ LPt) (hQ : ∀ M', TPi G US A S W w br nq nl nf nk x q i (P ++ (txIn x i ++ [10])) M' → PgF G SPt M M' → Q M') : w_Model_putInstruction_j101 0 Q (Int32.ofNat q) M := by
  have ex : txIn x i ++ [10] = wA i.1 ++ (tI1 i ++ (tI2 i ++ (tI3 x i ++ (tI4 x i ++ t58 i)))) := by
    unfold txIn t58
    simp only [List.append_assoc]
  rw [ex] at hl hQ
  have hl : P.length + (wA i.1 ++ (tI1 i ++ (tI2 i ++ (tI3 x i ++ (tI4 x i ++ t58 i))))).length ≤ 26000 := hl
  rw [List.length_append] at hl
  have h62 := h.o62
  have hq := h.q39
  obtain ⟨sl, sq⟩ := h.sl (s := sOp w) (by simp)
  have e30 : mI M 401 (rdI M (sOp w)) q = Int32.ofNat i.1 := h.1.2.2.1.1
  unfold w_Model_putInstruction_j101
  refine ⟨w, h.1.1.1.1.r45, _, sl, (vp_oN (by omega)).mpr sq, ?_⟩
  rw [oN_tnc (k := q) (by omega), e30]
  refine ct_pOp h62 h.1.1 (show _ ≤ 26000 by omega) (fun M1 h1 f1 => ?_)
  have h1 := h.pf h1 f1
  obtain ⟨sl, sq⟩ := h1.sl (s := sAs w) (by simp)
  have e31 : mI M1 300 (rdI M1 (sAs w)) q = iW A i := h1.1.2.2.2.1.1
  refine ⟨w, h1.1.1.1.1.r45, _, sl, (vp_oN (by omega)).mpr sq, ?_⟩
  rw [e31]
  exact ct_i1 h1 (by rw [List.length_append]; show _ ≤ 26000; omega) (fun M2 h2 f2 => hQ M2 (h2.rw (List.append_assoc _ _ _)) (f1.trans f2))
end
