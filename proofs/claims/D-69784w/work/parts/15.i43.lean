/-! the text of an instruction; the twin writes it -/
noncomputable def txP (x : Mth) (l : List Nat) : Nat → List Int32
  | 0 => []
  | k + 1 => txP x l k ++ ((if k = 0 then [32] else [44, 32]) ++ txL x (gtn l k))
def tI1 (i : Ins) : List Int32 := if i.1 = 1 ∨ (3 ≤ i.1 ∧ i.1 ≤ 7) ∨ i.1 = 40 then [32] ++ dgi (iV i) else []
def tI2 (i : Ins) : List Int32 := if i.1 = 7 then [32] ++ dgi i.2.2.1 else []
noncomputable def tI3 (x : Mth) (i : Ins) : List Int32 := if isJ i.1 then [32] ++ txL x (gtn (iT i) 0) else []
noncomputable def tI4 (x : Mth) (i : Ins) : List Int32 := if i.1 = 40 then txP x (iT i) (iT i).length else []
def tI5 (i : Ins) : List Int32 := if i.1 = 41 ∨ (46 ≤ i.1 ∧ i.1 ≤ 55) then [32] ++ iK i else []
def tI6 (i : Ins) : List Int32 := if 46 ≤ i.1 ∧ i.1 ≤ 53 then [46] ++ iM i else []
def tI7 (i : Ins) : List Int32 := if isFo i.1 then [32] ++ kdW (iR i) else []
def tI8 (i : Ins) : List Int32 := if isMo i.1 then txT (iA i) (iR i) else []
noncomputable def txIn (x : Mth) (i : Ins) : List Int32 := wA i.1 ++ tI1 i ++ tI2 i ++ tI3 x i ++ tI4 x i ++ tI5 i ++ tI6 i ++ tI7 i ++ tI8 i
/-- an instruction while it is written -/
def TPi (G : List Sl) (US : UST) (A : List Nm) (S : List Sg) (W : List Cls) (w : Nat) (br : Int32) (nq nl nf nk : Nat) (x : Mth) (q : Nat) (i : Ins) (P : List Int32) (M : Mem) : Prop := (TPn G US A S W w br nq nl nf nk P M ∧ tTd x M ∧ tFi A S w nl nf nk q i M) ∧ q < nq ∧ (co x).length ≤ 80 ∧ ∀ t ∈ iT i, t ≤ (co x).length
section
variable {G : List Sl} {US : UST} {A : List Nm} {S : List Sg} {W : List Cls} {w : Nat} {br : Int32} {nq nl nf nk : Nat} {P P' : List Int32} {M M1 M' : Mem} {Q : Mem → Prop} {k f q d : Nat} {nm : Nm} {b v : Int32} {κ : Kd} {ks ls ss : List Kd} {x : Mth} {i : Ins}
theorem TPi.pf (h : TPi G US A S W w br nq nl nf nk x q i P M) (h1 : TPn G US A S W w br nq nl nf nk P' M') (f1 : PgF G SPt M M') : TPi G US A S W w br nq nl nf nk x q i P' M' := ⟨⟨h1, h.1.2.1.pf f1, h.1.2.2.keep (h.1.1.1.1.rk f1) h.2.1⟩, h.2⟩
theorem TPi.rw (h : TPi G US A S W w br nq nl nf nk x q i P M) (e : P = P') : TPi G US A S W w br nq nl nf nk x q i P' M := e ▸ h
theorem TPi.q39 (h : TPi G US A S W w br nq nl nf nk x q i P M) : q < 3900 := by
  have := h.1.1.1.1.1.1.2.2.2
  have := h.2.1
  omega
theorem TPi.o62 (h : TPi G US A S W w br nq nl nf nk x q i P M) : i.1 < 62 := h.1.2.2.1.2
/-- where the words of an instruction lie -/
theorem TPi.sl (h : TPi G US A S W w br nq nl nf nk x q i P M) {s : Sl} (hs : s ∈ XC w) : mR M s.1 s.2.1 s.2.2.1 = some (s.2.2.2, rdI M s) ∧ q < mL M s.2.2.2 (rdI M s) := by
  have h1 : s ∈ XW w := by
    simp only [List.mem_cons, List.not_mem_nil, or_false] at hs ⊢
    rcases hs with e | e | e | e | e <;> simp [e]
  refine ⟨h.1.1.1.1.slt h1, ?_⟩
  have r : nq ≤ mL M s.2.2.2 (rdI M s) := h.1.1.1.1.1.1.2.2.1.1 s hs
  have := h.2.1
  omega
theorem ct_i8 (h : TPi G US A S W w br nq nl nf nk x q i P M) (hl : P.length + ((tI8 i).length + 1) ≤ LPt) (hQ : ∀ M', TPi G US A S W w br nq nl nf nk x q i (P ++ tI8 i ++ [10]) M' → PgF G SPt M M' → Q M') : w_Model_putInstruction_j395 0 Q (Int32.ofNat q) (Int32.ofNat i.1) M := by
  have hl : P.length + ((tI8 i).length + 1) ≤ 26000 := hl
  have h62 := h.o62
  have hq := h.q39
  have fin : ∀ P1 M1, TPi G US A S W w br nq nl nf nk x q i P1 M1 → PgF G SPt M M1 → P1 = P ++ tI8 i → w_Model_putInstruction_j422 0 Q M1 := fun P1 M1 h1 f1 e => by
    unfold w_Model_putInstruction_j422
    refine ct_pb h1.1.1 (by rw [e, List.length_append]; show _ < 26000; omega) (fun M2 h2 f2 => hQ M2 ?_ (f1.trans f2))
    rw [← e]; exact h1.pf h2 f2
  unfold w_Model_putInstruction_j395
  by_cases c : isMo i.1
  · have ht : tI8 i = txT (iA i) (iR i) := if_pos c
    obtain ⟨sl, sq⟩ := h.sl (s := sCs w) (by simp)
    obtain ⟨-, t2, -, -, -, -, t7⟩ := h.1.2.2.2.1
    have e33 : mI M 300 (rdI M (sCs w)) q = Int32.ofNat (S.idxOf (sg A (iA i) (iR i))) := by
      refine ((t2 (by omega)).2).trans ?_
      rw [if_neg (by omega), if_pos c]
    obtain ⟨m1, m2, m3, m4, -⟩ := t7 c
    refine itn (nlt_oN (b := 50) (by omega) (by omega)) (itn (nlt_oN (a := 53) (by omega) (by omega)) ⟨w, h.1.1.1.1.r45, _, sl, (vp_oN (by omega)).mpr sq, ?_⟩)
    rw [oN_tnc (k := q) (by omega), e33]
    refine ct_pSg m1 m2 ⟨m3, m4⟩ h.1.1 (by rw [← ht]; show _ ≤ 26000; omega) (fun M1 h1 f1 => fin _ M1 (h.pf h1 f1) f1 (by rw [ht]))
  · have ht : tI8 i = [] := if_neg c
    have g0 := fin P M h (PgF.rf h.1.1.1.1.1.2.2.2) (by rw [ht, List.append_nil])
    by_cases c1 : i.1 < 50
    · exact itp (lt_oN (b := 50) c1 (by omega)) g0
    · exact itn (nlt_oN (b := 50) (by omega) (by omega)) (itp (lt_oN (a := 53) (by omega) (by omega)) g0)
theorem ct_i7 (h : TPi G US A S W w br nq nl nf nk x q i P M) (hl : P.length + ((tI7 i).length + ((tI8 i).length + 1)) ≤ LPt) (hQ : ∀ M', TPi G US A S W w br nq nl nf nk x q i (P ++ tI7 i ++ tI8 i ++ [10]) M' → PgF G SPt M M' → Q M') : w_Model_putInstruction_j362 0 Q (Int32.ofNat q) (Int32.ofNat i.1) M := by
  have hl : P.length + ((tI7 i).length + ((tI8 i).length + 1)) ≤ 26000 := hl
  have h62 := h.o62
  have hq := h.q39
  have fin : ∀ P1 M1, TPi G US A S W w br nq nl nf nk x q i P1 M1 → PgF G SPt M M1 → P1 = P ++ tI7 i → w_Model_putInstruction_j395 0 Q (Int32.ofNat q) (Int32.ofNat i.1) M1 := fun P1 M1 h1 f1 e => by
    subst e
    exact ct_i8 h1 (by rw [List.length_append]; show _ ≤ 26000; omega) (fun M2 h2 f2 => hQ M2 h2 (f1.trans f2))
  unfold w_Model_putInstruction_j362
  by_cases c : isFo i.1
  · have ht : tI7 i = [32] ++ kdW (iR i) := if_pos c
    rw [ht, List.length_append, List.length_singleton] at hl
    refine itn (nlt_oN (b := 46) (by omega) (by omega)) (itn (nlt_oN (a := 49) (by omega) (by omega)) (ct_pb h.1.1 (show _ < 26000 by omega) (fun M1 h1 f1 => ?_)))
    have h1 := h.pf h1 f1
    obtain ⟨sl, sq⟩ := h1.sl (s := sCs w) (by simp)
    obtain ⟨-, t2, -, -, -, t6, -⟩ := h1.1.2.2.2.1
    have e33 : mI M1 300 (rdI M1 (sCs w)) q = kt A (iR i) := by
      refine ((t2 (by omega)).2).trans ?_
      rw [if_pos c]
    obtain ⟨m3, m4⟩ := t6 c
    refine ⟨w, h1.1.1.1.1.r45, _, sl, (vp_oN (by omega)).mpr sq, ?_⟩
    rw [oN_tnc (k := q) (by omega), e33]
    exact ct_pTy m4 m3 h1.1.1 (by rw [List.length_append, List.length_singleton]; show _ ≤ 26000; omega) (fun M2 h2 f2 => fin _ M2 (h1.pf h2 f2) (f1.trans f2) (by rw [ht, ← List.append_assoc]))
  · have ht : tI7 i = [] := if_neg c
    have g0 := fin P M h (PgF.rf h.1.1.1.1.1.2.2.2) (by rw [ht, List.append_nil])
    by_cases c1 : i.1 < 46
    · exact itp (lt_oN (b := 46) c1 (by omega)) g0
    · exact itn (nlt_oN (b := 46) (by omega) (by omega)) (itp (lt_oN (a := 49) (by omega) (by omega)) g0)
theorem ct_i6 (h : TPi G US A S W w br nq nl nf nk x q i P M) (hl : P.length + ((tI6 i).length + ((tI7 i).length + ((tI8 i).length + 1))) ≤ LPt) (hQ : ∀ M', TPi G US A S W w br nq nl nf nk x q i (P ++ tI6 i ++ tI7 i ++ tI8 i ++ [10]) M' → PgF G SPt M M' → Q M') : w_Model_putInstruction_j329 0 Q (Int32.ofNat q) (Int32.ofNat i.1) M := by
  have hl : P.length + ((tI6 i).length + ((tI7 i).length + ((tI8 i).length + 1))) ≤ 26000 := hl
  have h62 := h.o62
  have hq := h.q39
  have fin : ∀ P1 M1, TPi G US A S W w br nq nl nf nk x q i P1 M1 → PgF G SPt M M1 → P1 = P ++ tI6 i → w_Model_putInstruction_j362 0 Q (Int32.ofNat q) (Int32.ofNat i.1) M1 := fun P1 M1 h1 f1 e => by
    subst e
    exact ct_i7 h1 (by rw [List.length_append]; show _ ≤ 26000; omega) (fun M2 h2 f2 => hQ M2 h2 (f1.trans f2))
  unfold w_Model_putInstruction_j329
  by_cases c : 46 ≤ i.1 ∧ i.1 ≤ 53
  · have ht : tI6 i = [46] ++ iM i := if_pos c
    rw [ht, List.length_append, List.length_singleton] at hl
    refine itn (nlt_oN (b := 46) (by omega) (by omega)) (itn (nlt_oN (a := 53) (by omega) (by omega)) (ct_pb h.1.1 (show _ < 26000 by omega) (fun M1 h1 f1 => ?_)))
    have h1 := h.pf h1 f1
    obtain ⟨sl, sq⟩ := h1.sl (s := sBs w) (by simp)
    obtain ⟨-, t2, -, -, t5, -⟩ := h1.1.2.2.2.1
    have c2 : isFo i.1 ∨ isMo i.1 := by
      by_cases z : i.1 ≤ 49
      · exact Or.inl ⟨c.1, z⟩
      · exact Or.inr ⟨by omega, c.2⟩
    have e32 : mI M1 300 (rdI M1 (sBs w)) q = nc A (iM i) := by
      refine ((t2 (by omega)).1).trans ?_
      rw [if_pos c2]
    refine ⟨w, h1.1.1.1.1.r45, _, sl, (vp_oN (by omega)).mpr sq, ?_⟩
    rw [oN_tnc (k := q) (by omega), e32]
    exact ct_pNm (t5 c2) h1.1.1 (by rw [List.length_append, List.length_singleton]; show _ ≤ 26000; omega) (fun M2 h2 f2 => fin _ M2 (h1.pf h2 f2) (f1.trans f2) (by rw [ht, ← List.append_assoc]))
  · have ht : tI6 i = [] := if_neg c
    have g0 := fin P M h (PgF.rf h.1.1.1.1.1.2.2.2) (by rw [ht, List.append_nil])
    by_cases c1 : i.1 < 46
    · exact itp (lt_oN (b := 46) c1 (by omega)) g0
    · exact itn (nlt_oN (b := 46) (by omega) (by omega)) (itp (lt_oN (a := 53) (by omega) (by omega)) g0)
/-- the first word of an instruction -/
def iW (A : List Nm) (i : Ins) : Int32 := if isJ i.1 then ((iT i).map Int32.ofNat).headD 0 else if isN i.1 ∨ isFo i.1 ∨ isMo i.1 then nc A (iK i) else iV i
theorem ct_i5 (h : TPi G US A S W w br nq nl nf nk x q i P M) (hl : P.length + ((tI5 i).length + ((tI6 i).length + ((tI7 i).length + ((tI8 i).length + 1)))) ≤ LPt) (hQ : ∀ M', TPi G US A S W w br nq nl nf nk x q i (P ++ tI5 i ++ tI6 i ++ tI7 i ++ tI8 i ++ [10]) M' → PgF G SPt M M' → Q M') : w_Model_putInstruction_j296 0 Q (Int32.ofNat q) (Int32.ofNat i.1) (iW A i) M := by
  have hl : P.length + ((tI5 i).length + ((tI6 i).length + ((tI7 i).length + ((tI8 i).length + 1)))) ≤ 26000 := hl
  have h62 := h.o62
  have hq := h.q39
  have fin : ∀ P1 M1, TPi G US A S W w br nq nl nf nk x q i P1 M1 → PgF G SPt M M1 → P1 = P ++ tI5 i → w_Model_putInstruction_j329 0 Q (Int32.ofNat q) (Int32.ofNat i.1) M1 := fun P1 M1 h1 f1 e => by
    subst e
    exact ct_i6 h1 (by rw [List.length_append]; show _ ≤ 26000; omega) (fun M2 h2 f2 => hQ M2 h2 (f1.trans f2))
  unfold w_Model_putInstruction_j296
  by_cases c : i.1 = 41 ∨ (46 ≤ i.1 ∧ i.1 ≤ 55)
  · have ht : tI5 i = [32] ++ iK i := if_pos c
    rw [ht, List.length_append, List.length_singleton] at hl
    have g0 : w_Model_putInstruction_j317 0 Q (Int32.ofNat q) (Int32.ofNat i.1) (iW A i) M := by
      unfold w_Model_putInstruction_j317
      have c2 : isN i.1 ∨ isFo i.1 ∨ isMo i.1 := by
        by_cases z1 : i.1 = 41
        · exact Or.inl (Or.inl z1)
        by_cases z2 : i.1 ≤ 49
        · exact Or.inr (Or.inl ⟨by omega, z2⟩)
        by_cases z3 : i.1 ≤ 53
        · exact Or.inr (Or.inr ⟨by omega, z3⟩)
        · exact Or.inl (Or.inr (by omega))
      have eW : iW A i = nc A (iK i) := by
        unfold iW
        rw [if_neg (by omega), if_pos c2]
      refine ct_pb h.1.1 (show _ < 26000 by omega) (fun M1 h1 f1 => ?_)
      have h1 := h.pf h1 f1
      obtain ⟨-, -, -, t4, -⟩ := h1.1.2.2.2.1
      rw [eW]
      exact ct_pNm (t4 c2) h1.1.1 (by rw [List.length_append, List.length_singleton]; show _ ≤ 26000; omega) (fun M2 h2 f2 => fin _ M2 (h1.pf h2 f2) (f1.trans f2) (by rw [ht, ← List.append_assoc]))
    by_cases c1 : i.1 = 41
    · exact itp (by rw [c1]; rfl) g0
    · exact itn (ne_oN (b := 41) c1 (by omega) (by omega)) (itn (nlt_oN (b := 46) (by omega) (by omega)) (itn (nlt_oN (a := 55) (by omega) (by omega)) g0))
  · have ht : tI5 i = [] := if_neg c
    have g0 := fin P M h (PgF.rf h.1.1.1.1.1.2.2.2) (by rw [ht, List.append_nil])
    refine itn (ne_oN (b := 41) (by omega) (by omega) (by omega)) ?_
    by_cases c1 : i.1 < 46
    · exact itp (lt_oN (b := 46) c1 (by omega)) g0
    · exact itn (nlt_oN (b := 46) (by omega) (by omega)) (itp (lt_oN (a := 55) (by omega) (by omega)) g0)
end
