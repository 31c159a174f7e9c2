/-! B: the works' checker: a method, a class -/
section
variable {A : List Nm} {W : List Cls} {w c k this : Nat} {br : Int32} {nq nk np nh nr a : Nat} {lo st : List Kd} {M M' : Mem} {Q : Int32 → Mem → Prop}
theorem c_act {q : Nat} (h : KA A W w c k br nq nk np nh nr this a lo st true M) (hq0 : ∃ q0, mI M 62 w (moff W c + k) = Int32.ofNat q0 ∧ q0 ≤ 30000 ∧ q = q0 + a) (hP : KP A W w c k br nq nk np nh nr this a true (actS W c (gmt (gc W c) k) (gin (co (gmt (gc W c) k)) a) a lo st) Q) : w_Checker_act this (Int32.ofNat q) Q M := by
  obtain ⟨q0, hq, h3, eq⟩ := hq0
  have hL := L_le w
  have hr := h.1.rm
  obtain ⟨hi, hlt, -⟩ := h.1.ins hq h3 h.2.2.2.2
  rw [← eq] at hi hlt
  have hwf := h.1.wf.2.2.1.2 (gin (co (gmt (gc W c) k)) a) (by
    show (co (gmt (gc W c) k)).getD a _ ∈ _
    rw [List.getD_eq_getElem?_getD, List.getElem?_eq_getElem h.2.2.2.2]; exact List.getElem_mem h.2.2.2.2)
  generalize hg : gin (co (gmt (gc W c) k)) a = i at hi hwf hP
  have o62 := hwf.1
  have hv : actV A w nr i (mI M 67 w q) M := by
    obtain ⟨pf, hop, -⟩ := hi.2.1
    have hop := hop.1
    unfold cOp0 at hop
    refine ⟨fun e => ?_, fun e => ?_, fun e => ?_⟩
    · rw [if_pos e] at hop; exact hop
    · rw [if_neg (by omega), if_pos e] at hop; obtain ⟨r, r1, r2, r3⟩ := hop; exact ⟨r, r1, r2.1, r3⟩
    · rw [if_neg (by omega), if_neg (by omega), if_neg (by omega), if_neg (by omega)] at hop
      obtain ⟨b, eb, hb⟩ := hwf.2.1.1 e
      have e1 : mI M 67 w q = iV i := hop.1
      have e2 : iL i = b := by show (iV i).toNatClampNeg = b; rw [eb, oN_tnc (by omega)]
      exact ⟨by rw [e1, e2, eb], by omega⟩
  unfold w_Checker_act
  refine ⟨w, h.1.r, by rw [hr.1 66 (by omega) (by omega)]; exact (vp_oN (by omega)).mpr hlt, w, h.1.r, ?_⟩
  rw [oN_tnc (by omega), hi.1.1]
  refine ⟨by rw [hr.1 67 (by omega) (by omega)]; exact (vp_oN (by omega)).mpr hlt, ?_⟩
  show actB this Q (Int32.ofNat i.1) (mI M 67 w q) M
  generalize mI M 67 w q = v at hv
  obtain ⟨o, ho⟩ : ∃ o, i.1 = o := ⟨_, rfl⟩
  rw [ho]
  match o, ho with
  | 0, ho => exact k_act0 h ho hv hwf hg hP
  | 1, ho => exact k_act1 h ho hv hwf hg hP
  | 2, ho => exact k_act2 h ho hv hwf hg hP
  | 3, ho => exact k_act3 h ho hv hwf hg hP
  | 4, ho => exact k_act4 h ho hv hwf hg hP
  | 5, ho => exact k_act5 h ho hv hwf hg hP
  | 6, ho => exact k_act6 h ho hv hwf hg hP
  | 7, ho => exact k_act7 h ho hv hwf hg hP
  | 8, ho => exact k_act8 h ho hv hwf hg hP
  | 9, ho => exact k_act9 h ho hv hwf hg hP
  | 10, ho => exact k_act10 h ho hv hwf hg hP
  | 11, ho => exact k_act11 h ho hv hwf hg hP
  | 12, ho => exact k_act12 h ho hv hwf hg hP
  | 13, ho => exact k_act13 h ho hv hwf hg hP
  | 14, ho => exact k_act14 h ho hv hwf hg hP
  | 15, ho => exact k_act15 h ho hv hwf hg hP
  | 16, ho => exact k_act16 h ho hv hwf hg hP
  | 17, ho => exact k_act17 h ho hv hwf hg hP
  | 18, ho => exact k_act18 h ho hv hwf hg hP
  | 19, ho => exact k_act19 h ho hv hwf hg hP
  | 20, ho => exact k_act20 h ho hv hwf hg hP
  | 21, ho => exact k_act21 h ho hv hwf hg hP
  | 22, ho => exact k_act22 h ho hv hwf hg hP
  | 23, ho => exact k_act23 h ho hv hwf hg hP
  | 24, ho => exact k_act24 h ho hv hwf hg hP
  | 25, ho => exact k_act25 h ho hv hwf hg hP
  | 26, ho => exact k_act26 h ho hv hwf hg hP
  | 27, ho => exact k_act27 h ho hv hwf hg hP
  | 28, ho => exact k_act28 h ho hv hwf hg hP
  | 29, ho => exact k_act29 h ho hv hwf hg hP
  | 30, ho => exact k_act30 h ho hv hwf hg hP
  | 31, ho => exact k_act31 h ho hv hwf hg hP
  | 32, ho => exact k_act32 h ho hv hwf hg hP
  | 33, ho => exact k_act33 h ho hv hwf hg hP
  | 34, ho => exact k_act34 h ho hv hwf hg hP
  | 35, ho => exact k_act35 h ho hv hwf hg hP
  | 36, ho => exact k_act36 h ho hv hwf hg hP
  | 37, ho => exact k_act37 h ho hv hwf hg hP
  | 38, ho => exact k_act38 h ho hv hwf hg hP
  | 39, ho => exact k_act39 h ho hv hwf hg hP
  | 40, ho => exact k_act40 h ho hv hwf hg hP
  | 41, ho => exact k_act41 h ho hv hwf hg hP
  | 42, ho => exact k_act42 h ho hv hwf hg hP
  | 43, ho => exact k_act43 h ho hv hwf hg hP
  | 44, ho => exact k_act44 h ho hv hwf hg hP
  | 45, ho => exact k_act45 h ho hv hwf hg hP
  | 46, ho => exact k_act46 h ho hv hwf hg hP
  | 47, ho => exact k_act47 h ho hv hwf hg hP
  | 48, ho => exact k_act48 h ho hv hwf hg hP
  | 49, ho => exact k_act49 h ho hv hwf hg hP
  | 50, ho => exact k_act50 h ho hv hwf hg hP
  | 51, ho => exact k_act51 h ho hv hwf hg hP
  | 52, ho => exact k_act52 h ho hv hwf hg hP
  | 53, ho => exact k_act53 h ho hv hwf hg hP
  | 54, ho => exact k_act54 h ho hv hwf hg hP
  | 55, ho => exact k_act55 h ho hv hwf hg hP
  | 56, ho => exact k_act56 h ho hv hwf hg hP
  | 57, ho => exact k_act57 h ho hv hwf hg hP
  | 58, ho => exact k_act58 h ho hv hwf hg hP
  | 59, ho => exact k_act59 h ho hv hwf hg hP
  | 60, ho => exact k_act60 h ho hv hwf hg hP
  | 61, ho => exact k_act61 h ho hv hwf hg hP
  | o + 62, ho => omega
theorem kL_frame {fl fs : List Kd} : fl.length + fs.length = (fl ++ fs).length := (List.length_append).symm
/-- an instruction -/
theorem c_step {q : Nat} (h : KA A W w c k br nq nk np nh nr this a lo st true M) (h9 : mI M 4 this 9 = 0) (hq0 : ∃ q0, mI M 62 w (moff W c + k) = Int32.ofNat q0 ∧ q0 ≤ 30000 ∧ q = q0 + a) (hP : KPn A W w c k br nq nk np nh nr this a (stepS W c (gmt (gc W c) k) a lo st) Q) : w_Checker_one_j177 this Q (Int32.ofNat q) M := by
  have h80 := h.1.wf.2.2.1.1
  have halt := h.2.2.2.2
  rw [stepS_eq] at hP
  unfold w_Checker_one_j177 w_Checker_keep
  refine itp h9 (c_handlers h.1 h.2.1.1.1 h.2.1.2.1.1 h.2.1.2.1.2 h.2.2.1 h.2.2.2.1 (by omega) h.n8 (fun z => ?_) (fun z => ?_))
  · rw [if_neg (by omega)] at hP
    refine itn (by decide) (mf_w_Checker_act (Q := fun v M' => Fr F_Checker_act M M' → (if v = 0 then Q 0 M' else w_Checker_ends this (Int32.ofNat q) (fun r17 M16 => if r17 = 0 then Q 0 M16 else Q 1 M16) M')) (fun v M' hf hp => hp hf) (c_act h hq0 ?_))
    cases e : actS W c (gmt (gc W c) k) (gin (co (gmt (gc W c) k)) a) a lo st with
    | inl r =>
      rw [e] at hP
      exact fun M' z _ => itp rfl (hP M' z)
    | inr s =>
      rw [e] at hP
      refine fun M' z hf => itn (by decide) (c_ends z ?_ ?_)
      · obtain ⟨q0, e1, e2, e3⟩ := hq0
        exact ⟨q0, (hf.Ia rfl rfl w _).trans e1, e2, e3⟩
      · have hP : KPn A W w c k br nq nk np nh nr this a (aftS W (gmt (gc W c) k) (gin (co (gmt (gc W c) k)) a) a s.1 s.2) Q := hP
        cases e2 : aftS W (gmt (gc W c) k) (gin (co (gmt (gc W c) k)) a) a s.1 s.2 with
        | inl r => rw [e2] at hP; exact fun M3 y => itp rfl (hP M3 y)
        | inr s' => rw [e2] at hP; exact fun M3 y => itn (by decide) (hP M3 y)
  · rw [if_pos z] at hP
    exact itp rfl (hP _ h.z)
theorem c_one {s : KSt} (h : KN A W w c k br nq nk np nh nr this a s M) (ha : a < (co (gmt (gc W c) k)).length) (h9 : mI M 4 this 9 = 0) (hP : KPn A W w c k br nq nk np nh nr this a (oneS W c (gmt (gc W c) k) a s) Q) : w_Checker_one this Q M := by
  obtain ⟨hK, hU, h10, h7⟩ := h
  obtain ⟨q0, hh0, ⟨a1, a2, a3, a4, a5, a6, a7, a8⟩, -, -⟩ := hK.mc
  have hL := L_le w
  have hb := hK.kb
  unfold KB at hb
  have hr := hK.rm
  have hm := hK.mlt
  have hlr := hK.lr
  have hsr := hK.sr
  obtain ⟨-, hq, hF⟩ := hK.ins a1 (by omega) ha
  unfold w_Checker_one w_Checker_code
  refine ⟨w, hK.r, ?_⟩
  rw [hK.m6, oN_tnc (by omega), a1, h7, oN_add]
  refine ⟨by rw [hK.ml (by omega) (by omega)]; exact (vp_oN (by omega)).mpr hm, w, hK.r, by rw [hr.1 70 (by omega) (by omega)]; exact (vp_oN (by omega)).mpr hq, ?_⟩
  rw [oN_tnc (by omega)]
  unfold oneS at hP
  cases hfr : frOf (gmt (gc W c) k) a with
  | none =>
    rw [hfr] at hF hP
    rw [show mI M 70 w (q0 + a) = -1 from hF.2]
    refine itp (by decide) ?_
    rw [hU.2.2.1]
    have hP : KPn A W w c k br nq nk np nh nr this a (if s.2.2 = true then stepS W c (gmt (gc W c) k) a s.1 s.2.1 else .inl 36) Q := hP
    cases e : s.2.2 with
    | false =>
      rw [e, if_neg (by decide)] at hP
      refine itp rfl (k_breaks (r := 36) hU.2.2.2 ⟨Or.inl rfl, hP _ ⟨hK.w8, hU.1, ?_, ?_, ?_⟩⟩)
      · simp only [mI_sI, mI_sR, mI_sJ, mR_sI, mL_sI, mL_sR, mR_sR, Nat.reduceEqDiff, and_false, false_and, if_false, and_self, true_and, and_true, if_true]; exact h10
      · simp only [mI_sI, mI_sR, mI_sJ, mR_sI, mL_sI, mL_sR, mR_sR, Nat.reduceEqDiff, and_false, false_and, if_false, and_self, true_and, and_true, if_true]; exact h7
      · simp only [mI_sI, mI_sR, mI_sJ, mR_sI, mL_sI, mL_sR, mR_sR, Nat.reduceEqDiff, and_false, false_and, if_false, and_self, true_and, and_true, if_true]
    | true =>
      rw [e, if_pos rfl] at hP
      exact itn (by decide) (c_step ⟨hK, hU.2.1 e, h10, h7, ha⟩ h9 ⟨q0, a1, by omega, rfl⟩ hP)
  | some f =>
    obtain ⟨fl, fs⟩ := f
    rw [hfr] at hF hP
    obtain ⟨-, kf, hFX⟩ := hF
    have hFX2 := hFX
    obtain ⟨f1, f2, f3, f4, f5⟩ := hFX2
    rw [f1]
    refine itn (oN_nonneg (by omega)) ?_
    have hP : KPn A W w c k br nq nk np nh nr this a (if wrongF (gmt (gc W c) k) fl fs = true then .inl 38 else if s.2.2 = true ∧ fitS W s.1 s.2.1 fl fs ≠ 0 then .inl (fitS W s.1 s.2.1 fl fs) else stepS W c (gmt (gc W c) k) a (padL (gmt (gc W c) k) fl) fs) Q := hP
    have hgo : goS W (gmt (gc W c) k) s.1 s.2.1 s.2.2 a = if wrongF (gmt (gc W c) k) fl fs = true then 38 else if s.2.2 = true then fitS W s.1 s.2.1 fl fs else 0 := by
      unfold goS rightS goesS
      rw [hfr]
      show (if (if wrongF (gmt (gc W c) k) fl fs = true then 38 else 0) ≠ 0 then (if wrongF (gmt (gc W c) k) fl fs = true then 38 else 0) else if s.2.2 = true then (if wrongF (gmt (gc W c) k) fl fs = true then 38 else fitS W s.1 s.2.1 fl fs) else 0) = _
      by_cases c1 : wrongF (gmt (gc W c) k) fl fs = true
      · simp only [if_pos c1]
        rw [if_pos (by decide)]
      · simp only [if_neg c1]
        rw [if_neg (fun q => q rfl)]
    have kz : ∀ r, KZ A W w c k br nq nk np nh nr this a r (sI M 4 this 8 (Int32.ofNat r)) := fun r => by
      refine ⟨hK.w8, hU.1, ?_, ?_, ?_⟩
      · simp only [mI_sI, mI_sR, mI_sJ, mR_sI, mL_sI, mL_sR, mR_sR, Nat.reduceEqDiff, and_false, false_and, if_false, and_self, true_and, and_true, if_true]; exact h10
      · simp only [mI_sI, mI_sR, mI_sJ, mR_sI, mL_sI, mL_sR, mR_sR, Nat.reduceEqDiff, and_false, false_and, if_false, and_self, true_and, and_true, if_true]; exact h7
      · simp only [mI_sI, mI_sR, mI_sJ, mR_sI, mL_sI, mL_sR, mR_sR, Nat.reduceEqDiff, and_false, false_and, if_false, and_self, true_and, and_true, if_true]
    rw [h7]
    refine c_goes hK hU ha (fun z => ?_) (fun z => ?_)
    · rw [hgo] at z
      have hw : ¬ wrongF (gmt (gc W c) k) fl fs = true := fun q => by rw [if_pos q] at z; exact absurd z (by decide)
      rw [if_neg hw] at z
      rw [if_neg hw, if_neg (fun q => by rw [if_pos q.1] at z; exact q.2 z)] at hP
      have hwl := (not_congr (wrongF_iff (x := gmt (gc W c) k) (fl := fl) (fs := fs))).mp hw
      refine itn (by decide) ⟨w, hK.r, by rw [hr.1 70 (by omega) (by omega)]; exact (vp_oN (by omega)).mpr hq, ?_⟩
      rw [f1]
      -- the frame's stack
      have loopS : ∀ n j M, KE A W w c k br nq nk np nh nr this M → (mL M 31 this = 20 ∧ mL M 32 this = 24) → mI M 4 this 10 = 0 → mI M 4 this 7 = Int32.ofNat a → mI M 4 this 8 = 0 → mI M 4 this 9 = 0 → mI M 62 w (moff W c + k) = Int32.ofNat q0 → FX A (co (gmt (gc W c) k)) w (q0 + a) kf fl fs M → KL A (co (gmt (gc W c) k)) 31 (padL (gmt (gc W c) k) fl) this M → mI M 4 this 2 = Int32.ofNat fs.length → fs.length - j < n → j ≤ fs.length → (∀ i, i < j → mI M 32 this i = kC A (gk fs i) ∧ kwf A (co (gmt (gc W c) k)) (gk fs i)) → w_Checker_one_L114 this Q n (Int32.ofNat (q0 + a)) (Int32.ofNat kf) (Int32.ofNat j) M := by
        intro n
        induction n with
        | zero => intro j M _ _ _ _ _ _ _ _ _ _ hn; exact absurd hn (by omega)
        | succ n ih =>
          intro j M hK hL2 h10 h7 h8 h9 hq62 hF hlo h2 hn hj hs
          obtain ⟨g1, g2, g3, g4, g5⟩ := id hF
          unfold w_Checker_one_L114
          rw [h2]
          by_cases cj : fs.length ≤ j
          · refine itp (le_oN cj (by omega)) ⟨Or.inr rfl, ?_⟩
            have rr : ∀ f j, f ≠ 4 → mI (sI M 4 this 3 1) f this j = mI M f this j := fun f j hf => by rw [mI_sI, if_neg (fun q => hf q.1)]
            refine c_step ⟨hK.fr (S := (571586788613841666883220836184197269311258491587912197357546535911484746298583029329307855601409760300747826776847499381492015935155358310368707377103728210100188785202981759809103290579875568916906279235071821145409548462543176216184507360998816271917014454116073103439318297642987304928618033941227386219089813017272961345788989281119720935756579294733327700663909734926341200602357242020202058745308528342595964074462982623785717895075051973515654339473200635760893294494091009288544445312098701587650328316415546394274036564639618598699008)) (Fr.wI rfl (Fr.rf _ _)), ⟨hL2, ⟨fun i hi => by rw [rr 31 i (by omega)]; exact hlo i hi, ?_⟩, ⟨fun i hi => by rw [rr 32 i (by omega)]; exact hs i (by omega), ?_, by omega⟩, ?_, ?_⟩, ?_, ?_, ha⟩ ?_ ⟨q0, by rw [mI_sI, if_neg (fun q => absurd q.1 (by decide))]; exact hq62, by omega, rfl⟩ hP
            · unfold padL; rw [List.length_append, List.length_replicate]; omega
            all_goals simp only [mI_sI, mI_sR, mI_sJ, mR_sI, mL_sI, mL_sR, mR_sR, Nat.reduceEqDiff, and_false, false_and, if_false, and_self, true_and, and_true, if_true]
            all_goals first | assumption | rfl
          refine itn (nle_oN (by omega) (by omega)) ⟨w, hK.r, w, hK.r, ?_⟩
          obtain ⟨p1, p2⟩ := g5 (fl.length + j) (by omega)
          rw [gk_ap, if_neg (by omega), show fl.length + j - fl.length = j by omega] at p1 p2
          rw [show kf + (fl.length + j) = kf + fl.length + j by omega] at p1
          rw [oN_tnc (k := q0 + a) (by omega), g2, oN_add, oN_add, oN_tnc (k := kf + fl.length + j) (by omega), p1, hK.rm.1 71 (by omega) (by omega), hK.rm.2.1, hL2.2, oN_tnc (k := j) (by omega)]
          refine ⟨(vp_oN (by omega)).mpr hq, (vp_oN (by omega)).mpr (by omega), (vp_oN (by omega)).mpr (by omega), _, rfl, ?_⟩
          rw [show Int32.ofNat j + (1 : Int32) = Int32.ofNat (j + 1) from oN_add j 1]
          have rr : ∀ f i k', f ≠ 32 → mI (sI M 32 this j (kC A (gk fs j))) f i k' = mI M f i k' := fun f i k' hf => by rw [mI_sI, if_neg (fun q => hf q.1)]
          refine ih (j + 1) _ hK.s32 hL2 (by rw [rr _ _ _ (by omega)]; exact h10) (by rw [rr _ _ _ (by omega)]; exact h7) (by rw [rr _ _ _ (by omega)]; exact h8) (by rw [rr _ _ _ (by omega)]; exact h9) (by rw [rr _ _ _ (by omega)]; exact hq62) ⟨by rw [rr _ _ _ (by omega)]; exact g1, by rw [rr _ _ _ (by omega)]; exact g2, by rw [rr _ _ _ (by omega)]; exact g3, g4, fun i hi => by rw [rr _ _ _ (by omega)]; exact g5 i hi⟩ (fun i hi => by rw [rr _ _ _ (by omega)]; exact hlo i hi) (by rw [rr _ _ _ (by omega)]; exact h2) (by omega) (by omega) (fun i hi => ?_)
          rw [mI_sI]
          by_cases e : i = j
          · rw [if_pos ⟨rfl, rfl, e⟩, e]; exact ⟨rfl, p2⟩
          · rw [if_neg (fun q => e q.2.2)]; exact hs i (by omega)
      -- its locals
      have loopL : ∀ n j M, KE A W w c k br nq nk np nh nr this M → (mL M 31 this = 20 ∧ mL M 32 this = 24) → mI M 4 this 10 = 0 → mI M 4 this 7 = Int32.ofNat a → mI M 4 this 8 = 0 → mI M 4 this 9 = 0 → mI M 62 w (moff W c + k) = Int32.ofNat q0 → FX A (co (gmt (gc W c) k)) w (q0 + a) kf fl fs M → lr (gmt (gc W c) k) - j < n → j ≤ lr (gmt (gc W c) k) → (∀ i, i < j → mI M 31 this i = kC A (gk (padL (gmt (gc W c) k) fl) i) ∧ kwf A (co (gmt (gc W c) k)) (gk (padL (gmt (gc W c) k) fl) i)) → w_Checker_one_L42 this Q n (Int32.ofNat (q0 + a)) (Int32.ofNat kf) (Int32.ofNat j) M := by
        intro n
        induction n with
        | zero => intro j M _ _ _ _ _ _ _ _ hn; exact absurd hn (by omega)
        | succ n ih =>
          intro j M hK hL2 h10 h7 h8 h9 hq62 hF hn hj hs
          obtain ⟨g1, g2, g3, g4, g5⟩ := id hF
          unfold w_Checker_one_L42
          refine ⟨w, hK.r, ?_⟩
          rw [hK.m6, oN_tnc (k := moff W c + k) (by omega), hK.lr.1, hK.ml (by omega) (by omega)]
          refine ⟨(vp_oN (by omega)).mpr hm, ?_⟩
          by_cases cj : lr (gmt (gc W c) k) ≤ j
          · refine itp (le_oN cj (by omega)) ⟨w, hK.r, ?_⟩
            rw [oN_tnc (by omega), g3, hK.rm.1 72 (by omega) (by omega)]
            refine ⟨(vp_oN (by omega)).mpr hq, fs.length + 1, ?_⟩
            have rr : ∀ f i k', f ≠ 4 → mI (sI M 4 this 2 (Int32.ofNat fs.length)) f i k' = mI M f i k' := fun f i k' hf => by rw [mI_sI, if_neg (fun q => hf q.1)]
            refine loopS _ 0 _ hK.s2 hL2 ?_ ?_ ?_ ?_ (by rw [rr _ _ _ (by omega)]; exact hq62) ⟨by rw [rr _ _ _ (by omega)]; exact g1, by rw [rr _ _ _ (by omega)]; exact g2, by rw [rr _ _ _ (by omega)]; exact g3, g4, fun i hi => by rw [rr _ _ _ (by omega)]; exact g5 i hi⟩ (fun i hi => by
              rw [rr _ _ _ (by omega)]
              refine hs i ?_
              have : (padL (gmt (gc W c) k) fl).length = lr (gmt (gc W c) k) := by unfold padL; rw [List.length_append, List.length_replicate]; omega
              omega) ?_ (by omega) (by omega) (fun i hi => absurd hi (by omega))
            all_goals simp only [mI_sI, mI_sR, mI_sJ, mR_sI, mL_sI, mL_sR, mR_sR, Nat.reduceEqDiff, and_false, false_and, if_false, and_self, true_and, and_true, if_true]
            all_goals first | assumption | rfl
          refine itn (nle_oN (by omega) (by omega)) ⟨w, hK.r, ?_⟩
          rw [oN_tnc (by omega), g2, hK.rm.1 71 (by omega) (by omega)]
          refine ⟨(vp_oN (by omega)).mpr hq, ?_⟩
          have put : ∀ κ, gk (padL (gmt (gc W c) k) fl) j = κ → kwf A (co (gmt (gc W c) k)) κ → w_Checker_one_j92 this Q (w_Checker_one_L42 this Q n) (Int32.ofNat (q0 + a)) (Int32.ofNat kf) (Int32.ofNat j) (kC A κ) (Int32.ofNat j) M := fun κ eκ hκ => by
            unfold w_Checker_one_j92
            rw [hL2.1, oN_tnc (by omega), show Int32.ofNat j + (1 : Int32) = Int32.ofNat (j + 1) from oN_add j 1]
            refine ⟨(vp_oN (by omega)).mpr (by omega), ?_⟩
            have rr : ∀ f i k', f ≠ 31 → mI (sI M 31 this j (kC A κ)) f i k' = mI M f i k' := fun f i k' hf => by rw [mI_sI, if_neg (fun q => hf q.1)]
            refine ih (j + 1) _ hK.s31 hL2 (by rw [rr _ _ _ (by omega)]; exact h10) (by rw [rr _ _ _ (by omega)]; exact h7) (by rw [rr _ _ _ (by omega)]; exact h8) (by rw [rr _ _ _ (by omega)]; exact h9) (by rw [rr _ _ _ (by omega)]; exact hq62) ⟨by rw [rr _ _ _ (by omega)]; exact g1, by rw [rr _ _ _ (by omega)]; exact g2, by rw [rr _ _ _ (by omega)]; exact g3, g4, fun i hi => by rw [rr _ _ _ (by omega)]; exact g5 i hi⟩ (by omega) (by omega) (fun i hi => ?_)
            rw [mI_sI]
            by_cases e : i = j
            · rw [if_pos ⟨rfl, rfl, e⟩, e, eκ]; exact ⟨rfl, hκ⟩
            · rw [if_neg (fun q => e q.2.2)]; exact hs i (by omega)
          by_cases c1 : fl.length ≤ j
          · refine itp (le_oN c1 (by omega)) (put uns ?_ kwf_uns)
            unfold padL
            rw [gk_ap, if_neg (by omega)]
            show (List.replicate _ uns).getD _ _ = uns
            rw [List.getD_eq_getElem?_getD, List.getElem?_replicate, if_pos (by omega)]; rfl
          · refine itn (nle_oN (by omega) (by omega)) ⟨w, hK.r, ?_⟩
            obtain ⟨p1, p2⟩ := g5 j (by omega)
            rw [gk_ap, if_pos (by omega)] at p1 p2
            rw [oN_add, oN_tnc (by omega), p1, hK.rm.2.1]
            refine ⟨(vp_oN (by omega)).mpr (by omega), put (gk fl j) ?_ p2⟩
            unfold padL
            rw [gk_ap, if_pos (by omega)]
      exact ⟨lr (gmt (gc W c) k) + 1, loopL _ 0 M hK hU.1 h10 h7 hU.2.2.2 h9 a1 hFX (by omega) (by omega) (fun i hi => absurd hi (by omega))⟩
    · rw [hgo] at z ⊢
      by_cases c1 : wrongF (gmt (gc W c) k) fl fs = true
      · rw [if_pos c1] at hP z ⊢
        exact itp rfl (hP _ (kz 38))
      · rw [if_neg c1] at hP z ⊢
        by_cases c2 : s.2.2 = true
        · rw [if_pos c2] at z ⊢
          rw [if_pos ⟨c2, z⟩] at hP
          exact itp rfl (hP _ (kz _))
        · rw [if_neg c2] at z; exact absurd rfl z
end
