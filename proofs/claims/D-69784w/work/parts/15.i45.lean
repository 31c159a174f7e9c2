/-! the twin writes an instruction, whole -/
noncomputable def txHd (x : Mth) (k : Nat) : List Int32 := [32, 32] ++ (if tls x k = true then txL x k ++ [58, 32] else [])
def txFo (o : Option (List Kd × List Kd)) : List Int32 := match o with
  | none => []
  | some f => txFr f
noncomputable def txC1 (x : Mth) (k : Nat) : List Int32 := txFo (iF (gin (co x) k)) ++ (txHd x k ++ (txIn x (gin (co x) k) ++ [10]))
section
variable {G : List Sl} {US : UST} {A : List Nm} {S : List Sg} {W : List Cls} {w : Nat} {br : Int32} {nq nl nf nk : Nat} {P P' : List Int32} {M M1 M' : Mem} {Q : Mem → Prop} {k f q d : Nat} {nm : Nm} {b v : Int32} {κ : Kd} {ks ls ss : List Kd} {x : Mth} {i : Ins}
theorem ct_i73 (hk : k < (co x).length) (h : TPi G US A S W w br nq nl nf nk x q i P M) (hl : P.length + (txHd x k ++ (txIn x i ++ [10])).length ≤ LPt) (hQ : ∀ M', TPi G US A S W w br nq nl nf nk x q i (P ++ (txHd x k ++ (txIn x i ++ [10]))) M' → PgF G SPt M M' → Q M') : w_Model_putInstruction_j73 0 Q (Int32.ofNat q) (Int32.ofNat k) M := by
  have hl : P.length + (txHd x k ++ (txIn x i ++ [10])).length ≤ 26000 := hl
  rw [List.length_append] at hl
  have h80 := h.2.2.1
  have e40 : stW 40 = [32, 32] := rfl
  have e27 : stW 27 = [58, 32] := rfl
  have fin : ∀ P1 M1, TPi G US A S W w br nq nl nf nk x q i P1 M1 → PgF G SPt M M1 → P1 = P ++ txHd x k → w_Model_putInstruction_j101 0 Q (Int32.ofNat q) M1 := fun P1 M1 h1 f1 e => by
    subst e
    exact ct_i0 h1 (by rw [List.length_append]; show _ ≤ 26000; omega) (fun M2 h2 f2 => hQ M2 (h2.rw (List.append_assoc _ _ _)) (f1.trans f2))
  have hlh : 2 ≤ (txHd x k).length := by unfold txHd; rw [List.length_append]; exact Nat.le_add_right 2 _
  unfold w_Model_putInstruction_j73
  refine ct_pW (k := 40) (by decide) h.1.1 (by rw [e40]; show _ + 2 ≤ 26000; omega) (fun M1 h1 f1 => ?_)
  rw [e40] at h1
  have h1 := h.pf h1 f1
  obtain ⟨m1, m2⟩ := h1.1.2.1
  refine ⟨(vp_oN (by omega)).mpr (by rw [m1]; omega), ?_⟩
  rw [oN_tnc (k := k) (by omega), m2 k (by omega)]
  cases eT : tls x k with
  | false =>
    refine itp rfl (fin _ M1 h1 f1 ?_)
    unfold txHd
    rw [eT, if_neg (by decide), List.append_nil]
  | true =>
    have et : txHd x k = [32, 32] ++ (txL x k ++ [58, 32]) := by unfold txHd; rw [eT, if_pos rfl]
    rw [et, List.length_append, List.length_append] at hl
    simp only [List.length_cons, List.length_nil] at hl
    refine itn (by decide) (ct_pLb h80 (by omega) h1.1.2.1 h1.1.1 (by rw [List.length_append]; simp only [List.length_cons, List.length_nil]; show _ ≤ 26000; omega) (fun M2 h2 f2 => ?_))
    refine ct_pW (k := 27) (by decide) h2 (by rw [e27]; simp only [List.length_append, List.length_cons, List.length_nil]; show _ ≤ 26000; omega) (fun M3 h3 f3 => ?_)
    rw [e27] at h3
    refine fin _ M3 (h1.pf h3 (f2.trans f3)) (f1.trans (f2.trans f3)) ?_
    rw [et]
    simp only [List.append_assoc]
theorem ct_pIns (hk : k < (co x).length) (h : TPi G US A S W w br nq nl nf nk x q (gin (co x) k) P M) (hl : P.length + (txC1 x k).length ≤ LPt) (hQ : ∀ M', TPi G US A S W w br nq nl nf nk x q (gin (co x) k) (P ++ txC1 x k) M' → PgF G SPt M M' → Q M') : w_Model_putInstruction 0 (Int32.ofNat q) (Int32.ofNat k) Q M := by
  have hl : P.length + (txC1 x k).length ≤ 26000 := hl
  unfold txC1 at hl hQ
  rw [List.length_append] at hl
  have hq := h.q39
  have h80 := h.2.2.1
  have fin : ∀ P1 M1, TPi G US A S W w br nq nl nf nk x q (gin (co x) k) P1 M1 → PgF G SPt M M1 → P1 = P ++ txFo (iF (gin (co x) k)) → w_Model_putInstruction_j73 0 Q (Int32.ofNat q) (Int32.ofNat k) M1 := fun P1 M1 h1 f1 e => by
    subst e
    exact ct_i73 hk h1 (by rw [List.length_append]; show _ ≤ 26000; omega) (fun M2 h2 f2 => hQ M2 (h2.rw (List.append_assoc _ _ _)) (f1.trans f2))
  have hfm : tFrm A w nf nk q (iF (gin (co x) k)) M := h.1.2.2.2.2.1
  obtain ⟨sl, sq⟩ := h.sl (s := sCf w) (by simp)
  unfold w_Model_putInstruction
  refine ⟨w, h.1.1.1.1.r45, _, sl, (vp_oN (by omega)).mpr sq, ?_⟩
  rw [oN_tnc (k := q) (by omega)]
  cases eF : iF (gin (co x) k) with
  | none =>
    rw [eF] at hfm
    have e34 : mI M 300 (rdI M (sCf w)) q = 0 := hfm
    rw [e34]
    exact itp (by decide) (fin P M h (PgF.rf h.1.1.1.1.1.2.2.2) (by rw [eF]; show P = P ++ []; rw [List.append_nil]))
  | some p =>
    obtain ⟨ls, ss⟩ := p
    rw [eF] at hfm hl
    obtain ⟨f, hf, e34, hF⟩ := hfm
    have hF : tFr A w nk f ls ss M := hF
    have e34 : mI M 300 (rdI M (sCf w)) q = Int32.ofNat (f + 1) := e34
    have hb := h.1.1.1.1.1.1.2.2.2
    have etx : txFo (some (ls, ss)) = stW 38 ++ txS [32] ls ls.length ++ [59] ++ txS [32] ss ss.length ++ [10] := rfl
    rw [etx] at hl
    simp only [List.length_append, List.length_singleton] at hl
    rw [e34, lit32 1, oN_sub (by omega), Nat.add_sub_cancel, oN_tnc (k := f) (by omega)]
    refine itn (nlt_oN (b := 0) (by omega) (by omega)) ?_
    refine ct_pW (k := 38) (by decide) h.1.1 (show _ ≤ 26000 by omega) (fun M1 h1 f1 => ?_)
    have hF1 := hF.keep (h.1.1.1.1.rk f1) hf
    have bnd : ∀ {P2 : List Int32} {M2 : Mem}, TPn G US A S W w br nq nl nf nk P2 M2 → f < mL M2 300 (rdI M2 (sFl w)) ∧ f < mL M2 300 (rdI M2 (sFs w)) := fun z => by
      have r3 := z.1.1.1.1.2.2.1.2.2.1
      have a : nf ≤ mL _ 300 (rdI _ (sFl w)) := r3 (sFl w) (by simp)
      have b : nf ≤ mL _ 300 (rdI _ (sFs w)) := r3 (sFs w) (by simp)
      exact ⟨by omega, by omega⟩
    have hls : ls.length < 4000 ∧ ss.length < 4000 := by
      obtain ⟨kf, -, -, -, a4, -⟩ := hF
      constructor <;> omega
    refine ⟨w, h1.1.1.r45, _, h1.1.1.slt (s := sFl w) (by simp), (vp_oN (by omega)).mpr (bnd h1).1, ?_⟩
    have e38 : mI M1 300 (rdI M1 (sFl w)) f = Int32.ofNat ls.length := by obtain ⟨kf, -, a2, -⟩ := hF1; exact a2
    rw [e38]
    refine ct_pKs (d := 0) (ks := ls) hf (by omega) (fun j hj => by rw [Nat.zero_add]; exact gk_app1 hj) hF1 h1 (by rw [List.length_append]; show _ ≤ 26000; omega) (fun M2 h2 f2 => ?_)
    have f12 := f1.trans f2
    refine ct_pb h2 (by rw [List.length_append, List.length_append]; show _ < 26000; omega) (fun M3 h3 f3 => ?_)
    have f13 := f12.trans f3
    have hF3 := hF.keep (h.1.1.1.1.rk f13) hf
    have e38 : mI M3 300 (rdI M3 (sFl w)) f = Int32.ofNat ls.length := by obtain ⟨kf, -, a2, -⟩ := hF3; exact a2
    have e39 : mI M3 300 (rdI M3 (sFs w)) f = Int32.ofNat ss.length := by obtain ⟨kf, -, -, a3, -⟩ := hF3; exact a3
    refine ⟨w, h3.1.1.r45, _, h3.1.1.slt (s := sFl w) (by simp), (vp_oN (by omega)).mpr (bnd h3).1, w, h3.1.1.r45, _, h3.1.1.slt (s := sFs w) (by simp), (vp_oN (by omega)).mpr (bnd h3).2, ?_⟩
    rw [e38, e39]
    refine ct_pKs (d := ls.length) (ks := ss) hf (by omega) (fun j hj => gk_ap2) hF3 h3 (by simp only [List.length_append, List.length_singleton]; show _ ≤ 26000; omega) (fun M4 h4 f4 => ?_)
    have f14 := f13.trans f4
    refine ct_pb h4 (by simp only [List.length_append, List.length_singleton]; show _ < 26000; omega) (fun M5 h5 f5 => ?_)
    have f15 := f14.trans f5
    refine fin _ M5 (h.pf h5 f15) f15 ?_
    rw [eF, etx]
    simp only [List.append_assoc]
end
