/-! the works' writer: an instruction, whole -/
section
variable {A : List Nm} {W : List Cls} {w qi : Nat} {br : Int32} {nq nk np nh nr : Nat} {q : LkS} {M M' : Mem} {Q : Mem → Prop} {p p0 : Pen} {x : Mth} {i : Ins}
theorem ty_pk {κ : Kd} (h : tyOk κ) : pkd κ := by
  rcases h with z | z | z
  · rw [z]; exact Or.inl rfl
  · rw [z]; exact Or.inr (Or.inl rfl)
  · exact Or.inr (Or.inr (Or.inr (Or.inr (Or.inr (Or.inr z)))))
theorem c_pinstr (hA : A.length ≤ 200000) (hq : qi < nq) (hK : KB w nq nk np nh nr) (h80 : (co x).length ≤ 80) (ht : ∀ t ∈ iT i, t ≤ (co x).length ∧ tls x t = true) (hpa : ∀ κ ∈ iA i, tyOk κ) (hpr : pkd (iR i)) (hI : InW A W w br nq nk np nh nr q qi x i M) (h : cP p M) (hl : (pnIn x i p).1.length ≤ LPg) (hQ : ∀ M', cP (pnIn x i p) M' → Fr SPn M M' → Q M') : w_Writer_instruction 0 (Int32.ofNat qi) Q M := by
  have hL := L_le w
  have hK1 := hK.1
  obtain ⟨hW, hN, hF, hR⟩ := id hI
  obtain ⟨⟨e66, ho⟩, -, hJ, -, hA6, hJ1, -⟩ := id hF
  have en : ∀ m, m < 1000 → (Int32.ofNat i.1 = Int32.ofNat m ↔ i.1 = m) := fun m hm => oN_inj (by omega) (by omega)
  unfold w_Writer_instruction
  refine ⟨w, hW.2.2.2, by rw [hR.1 66 (by omega) (by omega)]; exact (vp_oN (by omega)).mpr (by omega), w, hW.2.2.2, by rw [hR.1 67 (by omega) (by omega)]; exact (vp_oN (by omega)).mpr (by omega), ?_⟩
  rw [oN_tnc (k := qi) (by omega), e66]
  have lw : (pnW (wA i.1) p).1.length ≤ LPg := by
    refine Nat.le_trans ?_ hl
    unfold pnIn
    split
    · split
      · exact Nat.le_trans pnN_le pnN_le
      · exact pnN_le
    split
    · exact pnB_le
    split
    · exact Nat.le_trans pnN_le pnPk_le
    split
    · exact pnW_le
    split
    · split
      · exact Nat.le_trans pnW_le (Nat.le_trans pnS_le (Nat.le_trans pnW_le (Nat.le_trans pnS_le (Nat.le_trans pnKs_le (Nat.le_trans pnS_le pnK_le)))))
      · exact Nat.le_trans pnW_le (Nat.le_trans pnS_le (Nat.le_trans pnW_le pnK_le))
    · exact Nat.le_refl _
  refine c_pw hW.2.1 h (A0_at hW.2.2.1 ho) lw (fun M1 h1 f1 => ?_)
  unfold pnIn at hl hQ
  have num : (i.1 = 1 ∨ (3 ≤ i.1 ∧ i.1 ≤ 7)) → w_Writer_instruction_j40 0 Q (Int32.ofNat qi) (Int32.ofNat i.1) (mI M 67 w qi) M1 := fun c => by
    rw [if_pos c] at hl hQ
    obtain ⟨e67, e68⟩ := hF.num (by unfold isN; omega) (by unfold isFo isMo; omega) (by omega) (by unfold isJ; omega)
    unfold w_Writer_instruction_j40
    rw [e67]
    have l1 : (pnN (iV i) (pnW (wA i.1) p)).1.length ≤ LPg := by
      by_cases z : i.1 = 7
      · rw [if_pos z] at hl; exact Nat.le_trans pnN_le hl
      · rw [if_neg z] at hl; exact hl
    refine c_pn h1 l1 (fun M2 h2 f2 => ?_)
    have f2 := f1.trans f2
    by_cases z : i.1 = 7
    · rw [if_pos z] at hl hQ
      refine itp ((en 7 (by omega)).mpr z) ⟨w, (hW.fr f2).2.2.2, by rw [f2.L rfl w, hR.1 68 (by omega) (by omega)]; exact (vp_oN (by omega)).mpr (by omega), ?_⟩
      rw [oN_tnc (k := qi) (by omega), (f2.Ia rfl rfl w _).trans e68]
      exact c_pn h2 hl (fun M3 h3 f3 => hQ M3 h3 (f2.trans f3))
    · rw [if_neg z] at hl hQ
      exact itn (fun y => z ((en 7 (by omega)).mp y)) (hQ M2 h2 f2)
  by_cases c1 : i.1 = 1
  · exact itp ((en 1 (by omega)).mpr c1) (num (Or.inl c1))
  refine itn (fun z => c1 ((en 1 (by omega)).mp z)) (c_isInN (lo := 3) (hi := 7) (by omega) (by omega) (by omega) ?_)
  by_cases c3 : 3 ≤ i.1 ∧ i.1 ≤ 7
  · rw [decide_eq_true c3]
    exact itn (by decide) (num (Or.inr c3))
  rw [decide_eq_false c3]
  rw [if_neg (fun z => z.elim c1 c3)] at hl hQ
  refine itp rfl (c_isInN (lo := 23) (hi := 39) (by omega) (by omega) (by omega) ?_)
  by_cases cJ : isJ i.1
  · rw [decide_eq_true (show 23 ≤ i.1 ∧ i.1 ≤ 39 from cJ)]
    rw [if_pos cJ] at hl hQ
    refine itn (by decide) ?_
    have e67 : mI M 67 w qi = Int32.ofNat (gtn (iT i) 0) := hJ cJ
    rw [e67]
    have htj := ht _ (gtn_mem (l := iT i) (j := 0) (by rw [hJ1 cJ]; omega))
    exact c_plx (hN.fr f1) h1 htj.1 h80 htj.2 hl (fun M2 h2 f2 => hQ M2 h2 (f1.trans f2))
  rw [decide_eq_false (show ¬ (23 ≤ i.1 ∧ i.1 ≤ 39) from cJ)]
  rw [if_neg cJ] at hl hQ
  refine itp rfl ?_
  by_cases c40 : i.1 = 40
  · rw [if_pos c40] at hl hQ
    refine itp ((en 40 (by omega)).mpr c40) ?_
    have e67 : mI M 67 w qi = iV i := by
      obtain ⟨-, ⟨pf, hop, -⟩, -⟩ := hF
      have hop := hop.1
      unfold cOp0 at hop
      rw [c40, if_neg (by decide), if_neg (by decide), if_pos rfl] at hop
      exact hop.1
    rw [e67]
    refine c_pn h1 (Nat.le_trans pnPk_le hl) (fun M2 h2 f2 => ⟨(iT i).length + 1, ?_⟩)
    have f2 := f1.trans f2
    exact c_ppk hq hK c40 h80 ht hl _ 0 M2 (Nat.zero_le _) (by omega) (hI.fr hq hK f2) h2 (fun M3 h3 f3 => hQ M3 h3 (f2.trans f3))
  rw [if_neg c40] at hl hQ
  refine itn (fun z => c40 ((en 40 (by omega)).mp z)) ?_
  have nam : isN i.1 → w_Writer_instruction_j176 0 Q (mI M 67 w qi) M1 := fun c => by
    rw [if_pos c] at hl hQ
    obtain ⟨e67, hm⟩ := hF.nm c
    unfold w_Writer_instruction_j176
    rw [e67]
    exact c_pw (hW.fr f1).2.1 h1 (idx_at hm) hl (fun M2 h2 f2 => hQ M2 h2 (f1.trans f2))
  by_cases d1 : i.1 = 41
  · exact itp ((en 41 (by omega)).mpr d1) (nam (Or.inl d1))
  refine itn (fun z => d1 ((en 41 (by omega)).mp z)) ?_
  by_cases d2 : i.1 = 54
  · exact itp ((en 54 (by omega)).mpr d2) (nam (Or.inr (Or.inl d2)))
  refine itn (fun z => d2 ((en 54 (by omega)).mp z)) ?_
  by_cases d3 : i.1 = 55
  · exact itp ((en 55 (by omega)).mpr d3) (nam (Or.inr (Or.inr d3)))
  have nN : ¬ isN i.1 := by unfold isN; omega
  rw [if_neg nN] at hl hQ
  refine itn (fun z => d3 ((en 55 (by omega)).mp z)) (c_isInN (lo := 46) (hi := 53) (by omega) (by omega) (by omega) ?_)
  by_cases c46 : ¬ (46 ≤ i.1 ∧ i.1 ≤ 53)
  · rw [decide_eq_false c46]
    rw [if_neg c46] at hl hQ
    exact itp rfl (hQ M1 h1 f1)
  have c46 := Decidable.not_not.1 c46
  rw [decide_eq_true c46]
  rw [if_pos c46] at hl hQ
  obtain ⟨r, hr, e67, hrf⟩ := hF.mem nN (by unfold isFo isMo; omega)
  rw [e67]
  have hK5 := hK.2.2.2.2.1
  have hK6 := hK.2.2.2.2.2
  have rf : ∀ M2, Fr SPn M M2 → cRf A w r (iK i) (iM i) (iA i) (iR i) M2 ∧ cRm w M2 ∧ mR M2 8 0 5 = some (5, w) ∧ CNm A M2 := fun M2 f2 => by
    have hI2 := hI.fr hq hK f2
    obtain ⟨r', hr', e67', hrf'⟩ := hI2.2.2.1.mem nN (by unfold isFo isMo; omega)
    have er : r' = r := (oN_inj (by omega) (by omega)).mp (e67'.symm.trans ((f2.Ia rfl rfl w _).trans e67))
    rw [er] at hrf'
    exact ⟨hrf', hI2.2.2.2, hI2.1.2.2.2, hI2.1.2.1⟩
  have r4 : 4 * r + 3 < L76 w := by omega
  have hB := hW.2.2.1
  have lc : (pnW (iM i) (pnS 46 (pnW (iK i) (pnW (wA i.1) p)))).1.length ≤ LPg := by
    by_cases z : 50 ≤ i.1
    · rw [if_pos z] at hl
      exact Nat.le_trans pnS_le (Nat.le_trans pnKs_le (Nat.le_trans pnS_le (Nat.le_trans pnK_le hl)))
    · rw [if_neg z] at hl; exact Nat.le_trans pnK_le hl
  have lb := Nat.le_trans pnW_le lc
  have la := Nat.le_trans pnS_le lb
  obtain ⟨g1, g2, g3, g4⟩ := rf M1 f1
  refine itn (by decide) ⟨w, g3, c_refClass g1 g2 r4 ?_⟩
  refine c_pw g4 h1 (idx_at g1.1.2) la (fun M2 h2 f2 => ?_)
  have f2 := f1.trans f2
  refine c_ps h2 lb (fun M3 h3 f3 => ?_)
  have f3 := f2.trans f3
  obtain ⟨g1, g2, g3, g4⟩ := rf M3 f3
  refine ⟨w, g3, c_refName g1 g2 r4 ?_⟩
  refine c_pw g4 h3 (idx_at g1.2.1.2) lc (fun M4 h4 f4 => ?_)
  have f4 := f3.trans f4
  obtain ⟨g1, g2, g3, g4⟩ := rf M4 f4
  by_cases z : 50 ≤ i.1
  · rw [if_pos z] at hl hQ
    refine itp (le_oN (a := 50) z (by omega)) ⟨w, g3, w, g3, c_refArguments g1 g2 r4 ⟨w, g3, c_refType g1 g2 r4 ?_⟩⟩
    rw [show (6 : Int32) * Int32.ofNat r = Int32.ofNat (6 * r) from oN_mul 6 _]
    have hA6' : (iA i).length ≤ 6 := hA6
    refine c_pt g4 hB hA hA6' (by omega) h4 ⟨hpr, g1.2.2.1.2⟩ (by rw [g2.2.2.2.2.2.1]; omega) (fun j hj => ?_) hl (fun M5 h5 f5 => hQ M5 h5 (f4.trans f5))
    obtain ⟨u1, u2⟩ := g1.2.2.2.2 j hj (by omega)
    exact ⟨u1, u2, ty_pk (hpa _ (getD_mem hj))⟩
  · rw [if_neg z] at hl hQ
    refine itn (nle_oN (b := i.1) (a := 50) (by omega) (by omega)) ⟨w, g3, c_refType g1 g2 r4 ?_⟩
    exact c_pk g4 hB hA h4 hpr g1.2.2.1.2 hl (fun M5 h5 f5 => hQ M5 h5 (f4.trans f5))
end
