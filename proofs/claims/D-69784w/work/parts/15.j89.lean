/-! KINDS in the twin: a method is begun (printed from d26) -/
section
variable {G : List Sl} {US : UST} {A : List Nm} {S : List Sg} {W : List Cls} {w c k : Nat} {br : Int32} {nq nl nf nk : Nat} {M M' : Mem}
theorem ct_tbeginV {Q : Mem → Prop} {v77 : Int32} (h : TB G US A S W w br nq nl nf nk M) (hl : mL M 111 0 = 20 ∧ mL M 212 0 = 28 ∧ mL M 112 0 = 10) (h77 : mI M 11 0 77 = v77) (hc : c < W.length) (hk : k < (gc W c).2.2.2.2.2.length) (hwf : wfM (gmt (gc W c) k)) (hp : (gc W c).2.1 ≠ []) (hne : co (gmt (gc W c) k) ≠ []) (hQ : ∀ M', TE G US A S W w c k br nq nl nf nk M' → TUx A (gmt (gc W c) k) (padL (gmt (gc W c) k) (begL W c (gmt (gc W c) k)), [], true) M' → mI M' 11 0 77 = v77 → Q M') : w_Model_begin 0 (Int32.ofNat c) (Int32.ofNat (12 * c + k)) Q M := by
  unfold w_Model_begin
  have f2 : Fr (252063276195107832932463617719307138300728717996864241493108444982853925175102499387329512204208953494848349067049998015310447578772998355333048930376508088417381775608155339566084858255344320545749147916424248865070113149800584201743378974357863970225502387588922781714952268467840177774206313012102702355587563588570611918050532771383722075670749398559153679594108223913277712073970213768510095802463060872974667698845467476385201882437504767365110501756248614471574993536817789091956301622409214330118913444443176978603219642469252027672014697785079424413110518725338125934798656573976408639773129546918376090513540681200564280110386155052735030802763867137394925109898337917977202436681288011512359430936626026958997372244006561504860800423913733756883180726369267190412078675258602544174770008592855665650433557885010075392523886509643887116741266735454243417258176720420616151019840139944428332066089450336897064626754387791849607201511310152075665152203176337563679955592037793792) M (sI (sI (sI (sI M 11 0 76 (Int32.ofNat c)) 11 0 75 (Int32.ofNat (12 * c + k))) 11 0 72 0) 11 0 73 1) := Fr.wI rfl (Fr.wI rfl (Fr.wI rfl (Fr.wI rfl (Fr.rf _ _))))
  have e76 : mI (sI (sI (sI (sI M 11 0 76 (Int32.ofNat c)) 11 0 75 (Int32.ofNat (12 * c + k))) 11 0 72 0) 11 0 73 1) 11 0 76 = Int32.ofNat c := by simp only [mI_sI, mI_sR, mI_sJ, mR_sI, mL_sI, mL_sR, mR_sR, Nat.reduceEqDiff, and_false, false_and, if_false, and_self, true_and, and_true, if_true]
  have e75 : mI (sI (sI (sI (sI M 11 0 76 (Int32.ofNat c)) 11 0 75 (Int32.ofNat (12 * c + k))) 11 0 72 0) 11 0 73 1) 11 0 75 = Int32.ofNat (12 * c + k) := by simp only [mI_sI, mI_sR, mI_sJ, mR_sI, mL_sI, mL_sR, mR_sR, Nat.reduceEqDiff, and_false, false_and, if_false, and_self, true_and, and_true, if_true]
  have e72 : mI (sI (sI (sI (sI M 11 0 76 (Int32.ofNat c)) 11 0 75 (Int32.ofNat (12 * c + k))) 11 0 72 0) 11 0 73 1) 11 0 72 = 0 := by simp only [mI_sI, mI_sR, mI_sJ, mR_sI, mL_sI, mL_sR, mR_sR, Nat.reduceEqDiff, and_false, false_and, if_false, and_self, true_and, and_true, if_true]
  have e73 : mI (sI (sI (sI (sI M 11 0 76 (Int32.ofNat c)) 11 0 75 (Int32.ofNat (12 * c + k))) 11 0 72 0) 11 0 73 1) 11 0 73 = 1 := by simp only [mI_sI, mI_sR, mI_sJ, mR_sI, mL_sI, mL_sR, mR_sR, Nat.reduceEqDiff, and_false, false_and, if_false, and_self, true_and, and_true, if_true]
  refine ⟨Or.inr rfl, _, rfl, ?_⟩
  have hl2 : mL (sI (sI (sI (sI M 11 0 76 (Int32.ofNat c)) 11 0 75 (Int32.ofNat (12 * c + k))) 11 0 72 0) 11 0 73 1) 111 0 = 20 ∧ mL (sI (sI (sI (sI M 11 0 76 (Int32.ofNat c)) 11 0 75 (Int32.ofNat (12 * c + k))) 11 0 72 0) 11 0 73 1) 212 0 = 28 ∧ mL (sI (sI (sI (sI M 11 0 76 (Int32.ofNat c)) 11 0 75 (Int32.ofNat (12 * c + k))) 11 0 72 0) 11 0 73 1) 112 0 = 10 := hl
  generalize sI (sI (sI (sI M 11 0 76 (Int32.ofNat c)) 11 0 75 (Int32.ofNat (12 * c + k))) 11 0 72 0) 11 0 73 1 = M2 at f2 e76 e75 e72 e73 hl2 ⊢
  have h2 := (h.fr f2).e (k := k) e76 e75 hc hk hwf hp
  have h77' : mI M2 11 0 77 = v77 := (f2.I (f := 11) (k := 77) rfl 0).trans h77
  have hm := h2.mlt
  have hlr := h2.lr
  have hla := h2.la
  have hK := h2.1.2.2.1
  obtain ⟨hT, ⟨s0, l0, w1, w2, w3, w4, w5⟩, -⟩ := hwf
  have h6 := hT.2.2
  have hbl := begL_len (W := W) (c := c) (x := gmt (gc W c) k)
  have hnb : (begL W c (gmt (gc W c) k)).length ≤ lr (gmt (gc W c) k) := by
    rw [hbl]
    have e : lr (gmt (gc W c) k) = l0 := by show (gmt (gc W c) k).2.2.2.2.2.1.toNatClampNeg = l0; rw [w2, oN_tnc (by omega)]
    rw [e]; exact w5 hne
  have hpl : (padL (gmt (gc W c) k) (begL W c (gmt (gc W c) k))).length = lr (gmt (gc W c) k) := by unfold padL; rw [List.length_append, List.length_replicate]; omega
  have gpad : ∀ i, i < (begL W c (gmt (gc W c) k)).length → gk (padL (gmt (gc W c) k) (begL W c (gmt (gc W c) k))) i = gk (begL W c (gmt (gc W c) k)) i := fun i hi => by unfold padL; rw [gk_ap, if_pos hi]
  have gpad2 : ∀ i, (begL W c (gmt (gc W c) k)).length ≤ i → i < lr (gmt (gc W c) k) → gk (padL (gmt (gc W c) k) (begL W c (gmt (gc W c) k))) i = uns := fun i hi hi2 => by
    unfold padL
    rw [gk_ap, if_neg (by omega)]
    show (List.replicate _ uns).getD _ _ = uns
    rw [List.getD_eq_getElem?_getD, List.getElem?_replicate, if_pos (by omega)]; rfl
  generalize hP : padL (gmt (gc W c) k) (begL W c (gmt (gc W c) k)) = P at hpl gpad gpad2 hQ
  -- what goes along
  have st : ∀ {M : Mem} {j : Nat} {v : Int32}, (TE G US A S W w c k br nq nl nf nk M ∧ mI M 11 0 77 = v77 ∧ mI M 11 0 72 = 0 ∧ mI M 11 0 73 = 1 ∧ mL M 111 0 = 20 ∧ mL M 212 0 = 28 ∧ mL M 112 0 = 10) → (TE G US A S W w c k br nq nl nf nk (sI M 111 0 j v) ∧ mI (sI M 111 0 j v) 11 0 77 = v77 ∧ mI (sI M 111 0 j v) 11 0 72 = 0 ∧ mI (sI M 111 0 j v) 11 0 73 = 1 ∧ mL (sI M 111 0 j v) 111 0 = 20 ∧ mL (sI M 111 0 j v) 212 0 = 28 ∧ mL (sI M 111 0 j v) 112 0 = 10) := fun {M j v} hh => by
    have fj : Fr (2596148429267413814265248164610048) M (sI M 111 0 j v) := Fr.wIa rfl rfl (Fr.rf _ _)
    exact ⟨hh.1.fr fj, (fj.I (f := 11) (k := 77) rfl 0).trans hh.2.1, (fj.I (f := 11) (k := 72) rfl 0).trans hh.2.2.1, (fj.I (f := 11) (k := 73) rfl 0).trans hh.2.2.2.1, hh.2.2.2.2⟩
  have loopU : ∀ m j M, (TE G US A S W w c k br nq nl nf nk M ∧ mI M 11 0 77 = v77 ∧ mI M 11 0 72 = 0 ∧ mI M 11 0 73 = 1 ∧ mL M 111 0 = 20 ∧ mL M 212 0 = 28 ∧ mL M 112 0 = 10) → lr (gmt (gc W c) k) - j < m → (begL W c (gmt (gc W c) k)).length ≤ j → j ≤ lr (gmt (gc W c) k) → (∀ i, i < j → mI M 111 0 i = kt A (gk P i) ∧ kwf A (co (gmt (gc W c) k)) (gk P i)) → w_Model_begin_L149 0 Q m (Int32.ofNat (lr (gmt (gc W c) k))) (Int32.ofNat j) M := by
    intro m
    induction m with
    | zero => intro j M _ hn; exact absurd hn (by omega)
    | succ m ih =>
      intro j M hh hn hj1 hj hs
      unfold w_Model_begin_L149
      by_cases cj : lr (gmt (gc W c) k) ≤ j
      · refine itp (le_oN cj (by omega)) (hQ M hh.1 ⟨hh.2.2.2.2, fun _ => ⟨hh.2.2.2.2, ⟨fun i hi => hs i (by have hi : i < P.length := hi; omega), hpl⟩, ⟨fun i hi => absurd hi (by simp), hh.2.2.1, by simp⟩, hh.2.2.2.1⟩, hh.2.2.2.1⟩ hh.2.1)
      refine itn (nle_oN (by omega) (by omega)) ?_
      rw [hh.2.2.2.2.1, oN_tnc (k := j) (by omega), show Int32.ofNat j + (1 : Int32) = Int32.ofNat (j + 1) from oN_add j 1]
      refine ⟨(vp_oN (by omega)).mpr (by omega), ih (j + 1) _ (st hh) (by omega) (by omega) (by omega) (fun i hi => ?_)⟩
      rw [mI_sI]
      by_cases e : i = j
      · rw [if_pos ⟨rfl, rfl, e⟩, e, gpad2 j hj1 (by omega)]; exact ⟨rfl, kwf_uns⟩
      · rw [if_neg (fun z => e z.2.2)]; exact hs i (by omega)
  have loopA : ∀ s, (begL W c (gmt (gc W c) k)).length = s + (gmt (gc W c) k).2.1.length → (∀ j, j < (gmt (gc W c) k).2.1.length → gk (begL W c (gmt (gc W c) k)) (s + j) = gk (gmt (gc W c) k).2.1 j) → ∀ m j M, (TE G US A S W w c k br nq nl nf nk M ∧ mI M 11 0 77 = v77 ∧ mI M 11 0 72 = 0 ∧ mI M 11 0 73 = 1 ∧ mL M 111 0 = 20 ∧ mL M 212 0 = 28 ∧ mL M 112 0 = 10) → (gmt (gc W c) k).2.1.length - j < m → j ≤ (gmt (gc W c) k).2.1.length → (∀ i, i < s + j → mI M 111 0 i = kt A (gk P i) ∧ kwf A (co (gmt (gc W c) k)) (gk P i)) → w_Model_begin_L102 0 Q m (Int32.ofNat (lr (gmt (gc W c) k))) (Int32.ofNat (s + j)) (Int32.ofNat (S.idxOf (sg A (gmt (gc W c) k).2.1 (gmt (gc W c) k).2.2.1))) (Int32.ofNat j) M := by
    intro s hs1 hs2 m
    induction m with
    | zero => intro j M _ hn; exact absurd hn (by omega)
    | succ m ih =>
      intro j M hh hn hj hs
      have h := hh.1
      have hsg : sg A (gmt (gc W c) k).2.1 (gmt (gc W c) k).2.2.1 ∈ S := h.hd.2.1.2
      obtain ⟨⟨g0, gF, gC, gR⟩, eC, eR, o', eF, b1, b2, eT⟩ := te_sig h hsg
      have hkk := h.hd.2.2.1.1
      unfold w_Model_begin_L102
      refine ⟨rdI M sC, h.sl5 (s := sC) (X5_in h.2.1.2.1 (by simp)), (by show vp_in _ (rl M sC); exact (vp_oN (by omega)).mpr gC), ?_⟩
      rw [oN_tnc (k := S.idxOf (sg A (gmt (gc W c) k).2.1 (gmt (gc W c) k).2.2.1)) (by omega), show mI M 300 (rdI M sC) (S.idxOf (sg A (gmt (gc W c) k).2.1 (gmt (gc W c) k).2.2.1)) = Int32.ofNat (gmt (gc W c) k).2.1.length from eC]
      by_cases cj : (gmt (gc W c) k).2.1.length ≤ j
      · exact itp (le_oN cj (by omega)) ⟨lr (gmt (gc W c) k) + 1, loopU _ _ M hh (by omega) (by omega) (by omega) hs⟩
      refine itn (nle_oN (by omega) (by omega)) ⟨rdI M sTy, h.sl5 (s := sTy) (X5_in h.2.1.2.1 (by simp)), rdI M sF, h.sl5 (s := sF) (X5_in h.2.1.2.1 (by simp)), (by show vp_in _ (rl M sF); exact (vp_oN (by omega)).mpr gF), ?_⟩
      rw [show mI M 300 (rdI M sF) (S.idxOf (sg A (gmt (gc W c) k).2.1 (gmt (gc W c) k).2.2.1)) = Int32.ofNat o' from eF, oN_add, oN_tnc (k := o' + j) (by omega), show mI M 300 (rdI M sTy) (o' + j) = kt A (gk (gmt (gc W c) k).2.1 j) from eT j (by omega), hh.2.2.2.2.1, oN_tnc (k := s + j) (by omega)]
      refine ⟨(by show vp_in _ (rl M sTy); exact (vp_oN (by omega)).mpr (by omega)), (vp_oN (by omega)).mpr (by omega), _, rfl, ?_⟩
      rw [show Int32.ofNat (s + j) + (1 : Int32) = Int32.ofNat (s + (j + 1)) from oN_add (s + j) 1, show Int32.ofNat j + (1 : Int32) = Int32.ofNat (j + 1) from oN_add j 1]
      refine ih (j + 1) _ (st hh) (by omega) (by omega) (fun i hi => ?_)
      rw [mI_sI]
      by_cases e : i = s + j
      · rw [if_pos ⟨rfl, rfl, e⟩, e, gpad _ (by omega), hs2 j (by omega)]
        have := hkk (gk (gmt (gc W c) k).2.1 j) (gk_me (by omega))
        exact ⟨rfl, kwf_kd this.2 this.1⟩
      · rw [if_neg (fun z => e z.2.2)]; exact hs i (by omega)
  have e145 : mI M2 145 w (12 * c + k) = Int32.ofNat (S.idxOf (sg A (gmt (gc W c) k).2.1 (gmt (gc W c) k).2.2.1)) := h2.hd.2.1.1
  refine ⟨w, h2.r45, ?_⟩
  rw [oN_tnc (k := 12 * c + k) (by omega), hlr.1, h2.ml (by omega) (by omega)]
  refine ⟨(vp_oN (by omega)).mpr hm, w, h2.r45, ?_⟩
  rw [h2.hd.2.2.2.1, h2.ml (by omega) (by omega)]
  refine ⟨(vp_oN (by omega)).mpr hm, ?_⟩
  by_cases c1 : (gmt (gc W c) k).2.2.2.1 &&& 1 = 0
  · rw [if_pos c1] at hbl
    refine itp c1 ⟨w, h2.r45, ?_⟩
    rw [h2.hd.1.1, hK.make.1, h2.ml (by omega) (by omega)]
    refine ⟨(vp_oN (by omega)).mpr hm, ?_⟩
    have put : ∀ κ, gk (begL W c (gmt (gc W c) k)) 0 = κ → kwf A (co (gmt (gc W c) k)) κ → w_Model_begin_j84 0 Q (Int32.ofNat (12 * c + k)) (Int32.ofNat (lr (gmt (gc W c) k))) (kt A κ) 0 M2 := fun κ eκ hκ => by
      unfold w_Model_begin_j84 w_Model_begin_j88
      have hh := st (M := M2) (j := (0 : Int32).toNatClampNeg) (v := kt A κ) ⟨h2, h77', e72, e73, hl2⟩
      refine ⟨by rw [hl2.1]; exact (vp_oN (a := 0) (by omega)).mpr (by omega), w, hh.1.r45, ?_⟩
      have e145' : mI (sI M2 111 0 (0 : Int32).toNatClampNeg (kt A κ)) 145 w (12 * c + k) = Int32.ofNat (S.idxOf (sg A (gmt (gc W c) k).2.1 (gmt (gc W c) k).2.2.1)) := hh.1.hd.2.1.1
      rw [oN_tnc (k := 12 * c + k) (by omega), e145', hh.1.ml (by omega) (by omega)]
      refine ⟨(vp_oN (by omega)).mpr hm, (gmt (gc W c) k).2.1.length + 1, ?_⟩
      refine loopA 1 (by omega) (fun j hj => ?_) _ 0 _ hh (by omega) (by omega) (fun i hi => ?_)
      · unfold begL
        rw [if_pos c1, gk_ap, if_neg (by simp)]
        congr 1
        simp
      · have e0 : i = 0 := by omega
        rw [e0, gpad 0 (by omega), eκ, mI_sI, if_pos ⟨rfl, rfl, rfl⟩]; exact ⟨rfl, hκ⟩
    have g0 : gk (begL W c (gmt (gc W c) k)) 0 = if (gmt (gc W c) k).1 = nMake then (-3, []) else (2, (gc W c).1) := by
      unfold begL
      rw [if_pos c1]; rfl
    by_cases c2 : (gmt (gc W c) k).1 = nMake
    · rw [if_pos c2] at g0
      exact itp (by rw [c2]) (put (-3, []) g0 (Or.inr ⟨rfl, Or.inl ⟨by decide, by decide⟩⟩))
    · rw [if_neg c2] at g0
      have hcn := h2.cl.1.2 c hc
      have hlc := h2.lc
      refine itn (fun z => c2 ((nc_inj (by omega) h2.hd.1.2 hK.make.2).mp z)) ⟨w, h2.r45, ?_⟩
      rw [oN_tnc (k := c) (by omega), hcn.1, ← kt_cls, h2.cl.1.1.2.1]
      exact ⟨(vp_oN (by omega)).mpr (by omega), put _ g0 (kwf_cls hcn.2)⟩
  · rw [if_neg c1] at hbl
    refine itn c1 ?_
    unfold w_Model_begin_j88
    refine ⟨w, h2.r45, ?_⟩
    rw [oN_tnc (k := 12 * c + k) (by omega), e145, h2.ml (by omega) (by omega)]
    refine ⟨(vp_oN (by omega)).mpr hm, (gmt (gc W c) k).2.1.length + 1, loopA 0 (by omega) (fun j hj => ?_) _ 0 M2 ⟨h2, h77', e72, e73, hl2⟩ (by omega) (by omega) (fun i hi => absurd hi (by omega))⟩
    unfold begL
    rw [if_neg c1, List.nil_append, Nat.zero_add]
end
