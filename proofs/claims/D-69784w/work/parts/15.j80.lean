/-! KINDS in the works: with frames -/
section
variable {A : List Nm} {W : List Cls} {w c k this : Nat} {br : Int32} {nq nk np nh nr a : Nat} {lo st st2 : List Kd} {M M' : Mem} {Q : Int32 → Mem → Prop} {Q' : Mem → Prop} {R : Tr} {Ex : Mem → Prop}
theorem c_oneE {s : KSt} (h : KN A W w c k br nq nk np nh nr this a s M) (ha : a < (co (gmt (gc W c) k)).length) (h9 : EX Ex M) (hX : ∀ r, entS W (gmt (gc W c) k) a s = .inl r → ∀ M', KZ A W w c k br nq nk np nh nr this a r M' → EX Ex M' → Q 0 M') (hP : ∀ y q0 M', entS W (gmt (gc W c) k) a s = .inr y → KA A W w c k br nq nk np nh nr this a y.1 y.2 true M' → EX Ex M' → mI M' 62 w (moff W c + k) = Int32.ofNat q0 → q0 ≤ 30000 → w_Checker_one_j177 this Q (Int32.ofNat (q0 + a)) M') : w_Checker_one this Q M := by
  obtain ⟨hK, hU, h10, h7⟩ := h
  obtain ⟨q0, hh0, ⟨a1, a2, a3, a4, a5, a6, a7, a8⟩, -, -⟩ := hK.mc
  have hL := L_le w
  have hb := hK.kb
  unfold KB at hb
  have hr := hK.rm
  have hm := hK.mlt
  have hlr := hK.lr
  have hsr := hK.sr
  obtain ⟨-, hq, hF⟩ := hK.ins a1 (by omega) ha
  unfold w_Checker_one w_Checker_code
  refine ⟨w, hK.r, ?_⟩
  rw [hK.m6, oN_tnc (by omega), a1, h7, oN_add]
  refine ⟨by rw [hK.ml (by omega) (by omega)]; exact (vp_oN (by omega)).mpr hm, w, hK.r, by rw [hr.1 70 (by omega) (by omega)]; exact (vp_oN (by omega)).mpr hq, ?_⟩
  rw [oN_tnc (by omega)]
  have ezw : ∀ r, EX Ex (sI M 4 this 8 (Int32.ofNat r)) := fun r => h9.fr (S := (18290777235642933340263066757894312617960271730813190315441489149167511881554656938537851379245112329623930456859119980207744509924971465931798636067319302723206041126495416313891305298556018205341000935522298276653105550801381638917904235551962120701344462531714339310058185524575593757715777086119276359010874016552734763065247656995831069944210537431466486421245111517642918419275431744646465879849872906963070850382815443961142972642401663152500938863142420344348585423810912297233422249987158450804810506125297484616769170068467795158368256)) (Fr.wI rfl (Fr.rf _ _))
  cases hfr : frOf (gmt (gc W c) k) a with
  | none =>
    rw [hfr] at hF
    rw [show mI M 70 w (q0 + a) = -1 from hF.2]
    refine itp (by decide) ?_
    rw [hU.2.2.1]
    cases e : s.2.2 with
    | false =>
      have eE : entS W (gmt (gc W c) k) a s = .inl 36 := by
        unfold entS
        rw [hfr]
        show (if s.2.2 = true then _ else _) = _
        rw [e]; rfl
      refine itp rfl (k_breaks (r := 36) hU.2.2.2 ⟨Or.inl rfl, hX 36 eE _ ⟨hK.w8, hU.1, ?_, ?_, ?_⟩ (ezw 36)⟩)
      · simp only [mI_sI, mI_sR, mI_sJ, mR_sI, mL_sI, mL_sR, mR_sR, Nat.reduceEqDiff, and_false, false_and, if_false, and_self, true_and, and_true, if_true]; exact h10
      · simp only [mI_sI, mI_sR, mI_sJ, mR_sI, mL_sI, mL_sR, mR_sR, Nat.reduceEqDiff, and_false, false_and, if_false, and_self, true_and, and_true, if_true]; exact h7
      · simp only [mI_sI, mI_sR, mI_sJ, mR_sI, mL_sI, mL_sR, mR_sR, Nat.reduceEqDiff, and_false, false_and, if_false, and_self, true_and, and_true, if_true]
    | true =>
      have eE : entS W (gmt (gc W c) k) a s = .inr (s.1, s.2.1) := by
        unfold entS
        rw [hfr]
        show (if s.2.2 = true then _ else _) = _
        rw [e]; rfl
      exact itn (by decide) (hP _ q0 M eE ⟨hK, hU.2.1 e, h10, h7, ha⟩ h9 a1 (by omega))
  | some f =>
    obtain ⟨fl, fs⟩ := f
    rw [hfr] at hF
    obtain ⟨-, kf, hFX⟩ := hF
    have hFX2 := hFX
    obtain ⟨f1, f2, f3, f4, f5⟩ := hFX2
    rw [f1]
    refine itn (oN_nonneg (by omega)) ?_
    have eW : entS W (gmt (gc W c) k) a s = if wrongF (gmt (gc W c) k) fl fs = true then .inl 38 else if s.2.2 = true ∧ fitS W s.1 s.2.1 fl fs ≠ 0 then .inl (fitS W s.1 s.2.1 fl fs) else .inr (padL (gmt (gc W c) k) fl, fs) := by
      unfold entS
      rw [hfr]
    have hgo : goS W (gmt (gc W c) k) s.1 s.2.1 s.2.2 a = if wrongF (gmt (gc W c) k) fl fs = true then 38 else if s.2.2 = true then fitS W s.1 s.2.1 fl fs else 0 := by
      unfold goS rightS goesS
      rw [hfr]
      show (if (if wrongF (gmt (gc W c) k) fl fs = true then 38 else 0) ≠ 0 then (if wrongF (gmt (gc W c) k) fl fs = true then 38 else 0) else if s.2.2 = true then (if wrongF (gmt (gc W c) k) fl fs = true then 38 else fitS W s.1 s.2.1 fl fs) else 0) = _
      by_cases c1 : wrongF (gmt (gc W c) k) fl fs = true
      · simp only [if_pos c1]
        rw [if_pos (by decide)]
      · simp only [if_neg c1]
        rw [if_neg (fun q => q rfl)]
    have kz : ∀ r, KZ A W w c k br nq nk np nh nr this a r (sI M 4 this 8 (Int32.ofNat r)) := fun r => by
      refine ⟨hK.w8, hU.1, ?_, ?_, ?_⟩
      · simp only [mI_sI, mI_sR, mI_sJ, mR_sI, mL_sI, mL_sR, mR_sR, Nat.reduceEqDiff, and_false, false_and, if_false, and_self, true_and, and_true, if_true]; exact h10
      · simp only [mI_sI, mI_sR, mI_sJ, mR_sI, mL_sI, mL_sR, mR_sR, Nat.reduceEqDiff, and_false, false_and, if_false, and_self, true_and, and_true, if_true]; exact h7
      · simp only [mI_sI, mI_sR, mI_sJ, mR_sI, mL_sI, mL_sR, mR_sR, Nat.reduceEqDiff, and_false, false_and, if_false, and_self, true_and, and_true, if_true]
    rw [h7]
    refine c_goes hK hU ha (fun z => ?_) (fun z => ?_)
    · rw [hgo] at z
      have hw : ¬ wrongF (gmt (gc W c) k) fl fs = true := fun q => by rw [if_pos q] at z; exact absurd z (by decide)
      rw [if_neg hw] at z
      rw [if_neg hw, if_neg (fun q => by rw [if_pos q.1] at z; exact q.2 z)] at eW
      have hwl := (not_congr (wrongF_iff (x := gmt (gc W c) k) (fl := fl) (fs := fs))).mp hw
      refine itn (by decide) ⟨w, hK.r, by rw [hr.1 70 (by omega) (by omega)]; exact (vp_oN (by omega)).mpr hq, ?_⟩
      rw [f1]
      -- the frame's stack
      have loopS : ∀ n j M, KE A W w c k br nq nk np nh nr this M → (mL M 31 this = 20 ∧ mL M 32 this = 24) → mI M 4 this 10 = 0 → mI M 4 this 7 = Int32.ofNat a → mI M 4 this 8 = 0 → EX Ex M → mI M 62 w (moff W c + k) = Int32.ofNat q0 → FX A (co (gmt (gc W c) k)) w (q0 + a) kf fl fs M → KL A (co (gmt (gc W c) k)) 31 (padL (gmt (gc W c) k) fl) this M → mI M 4 this 2 = Int32.ofNat fs.length → fs.length - j < n → j ≤ fs.length → (∀ i, i < j → mI M 32 this i = kC A (gk fs i) ∧ kwf A (co (gmt (gc W c) k)) (gk fs i)) → w_Checker_one_L114 this Q n (Int32.ofNat (q0 + a)) (Int32.ofNat kf) (Int32.ofNat j) M := by
        intro n
        induction n with
        | zero => intro j M _ _ _ _ _ _ _ _ _ _ hn; exact absurd hn (by omega)
        | succ n ih =>
          intro j M hK hL2 h10 h7 h8 h9 hq62 hF hlo h2 hn hj hs
          obtain ⟨g1, g2, g3, g4, g5⟩ := id hF
          unfold w_Checker_one_L114
          rw [h2]
          by_cases cj : fs.length ≤ j
          · refine itp (le_oN cj (by omega)) ⟨Or.inr rfl, ?_⟩
            have rr : ∀ f j, f ≠ 4 → mI (sI M 4 this 3 1) f this j = mI M f this j := fun f j hf => by rw [mI_sI, if_neg (fun q => hf q.1)]
            refine hP _ q0 _ eW ⟨hK.fr (S := (571586788613841666883220836184197269311258491587912197357546535911484746298583029329307855601409760300747826776847499381492015935155358310368707377103728210100188785202981759809103290579875568916906279235071821145409548462543176216184507360998816271917014454116073103439318297642987304928618033941227386219089813017272961345788989281119720935756579294733327700663909734926341200602357242020202058745308528342595964074462982623785717895075051973515654339473200635760893294494091009288544445312098701587650328316415546394274036564639618598699008)) (Fr.wI rfl (Fr.rf _ _)), ⟨hL2, ⟨fun i hi => by rw [rr 31 i (by omega)]; exact hlo i hi, ?_⟩, ⟨fun i (hi : i < fs.length) => by rw [rr 32 i (by omega)]; exact hs i (by omega), ?_, by show fs.length ≤ sr (gmt (gc W c) k); omega⟩, ?_, ?_⟩, ?_, ?_, ha⟩ (h9.fr (S := (571586788613841666883220836184197269311258491587912197357546535911484746298583029329307855601409760300747826776847499381492015935155358310368707377103728210100188785202981759809103290579875568916906279235071821145409548462543176216184507360998816271917014454116073103439318297642987304928618033941227386219089813017272961345788989281119720935756579294733327700663909734926341200602357242020202058745308528342595964074462982623785717895075051973515654339473200635760893294494091009288544445312098701587650328316415546394274036564639618598699008)) (Fr.wI rfl (Fr.rf _ _))) (by rw [mI_sI, if_neg (fun q => absurd q.1 (by decide))]; exact hq62) (by omega)
            · unfold padL; rw [List.length_append, List.length_replicate]; omega
            all_goals simp only [mI_sI, mI_sR, mI_sJ, mR_sI, mL_sI, mL_sR, mR_sR, Nat.reduceEqDiff, and_false, false_and, if_false, and_self, true_and, and_true, if_true]
            all_goals first | assumption | rfl
          refine itn (nle_oN (by omega) (by omega)) ⟨w, hK.r, w, hK.r, ?_⟩
          obtain ⟨p1, p2⟩ := g5 (fl.length + j) (by omega)
          rw [gk_ap, if_neg (by omega), show fl.length + j - fl.length = j by omega] at p1 p2
          rw [show kf + (fl.length + j) = kf + fl.length + j by omega] at p1
          rw [oN_tnc (k := q0 + a) (by omega), g2, oN_add, oN_add, oN_tnc (k := kf + fl.length + j) (by omega), p1, hK.rm.1 71 (by omega) (by omega), hK.rm.2.1, hL2.2, oN_tnc (k := j) (by omega)]
          refine ⟨(vp_oN (by omega)).mpr hq, (vp_oN (by omega)).mpr (by omega), (vp_oN (by omega)).mpr (by omega), _, rfl, ?_⟩
          rw [show Int32.ofNat j + (1 : Int32) = Int32.ofNat (j + 1) from oN_add j 1]
          have rr : ∀ f i k', f ≠ 32 → mI (sI M 32 this j (kC A (gk fs j))) f i k' = mI M f i k' := fun f i k' hf => by rw [mI_sI, if_neg (fun q => hf q.1)]
          refine ih (j + 1) _ hK.s32 hL2 (by rw [rr _ _ _ (by omega)]; exact h10) (by rw [rr _ _ _ (by omega)]; exact h7) (by rw [rr _ _ _ (by omega)]; exact h8) (h9.fr (S := (4294967296)) (Fr.wIa rfl rfl (Fr.rf _ _))) (by rw [rr _ _ _ (by omega)]; exact hq62) ⟨by rw [rr _ _ _ (by omega)]; exact g1, by rw [rr _ _ _ (by omega)]; exact g2, by rw [rr _ _ _ (by omega)]; exact g3, g4, fun i hi => by rw [rr _ _ _ (by omega)]; exact g5 i hi⟩ (fun i hi => by rw [rr _ _ _ (by omega)]; exact hlo i hi) (by rw [rr _ _ _ (by omega)]; exact h2) (by omega) (by omega) (fun i hi => ?_)
          rw [mI_sI]
          by_cases e : i = j
          · rw [if_pos ⟨rfl, rfl, e⟩, e]; exact ⟨rfl, p2⟩
          · rw [if_neg (fun q => e q.2.2)]; exact hs i (by omega)
      -- its locals
      have loopL : ∀ n j M, KE A W w c k br nq nk np nh nr this M → (mL M 31 this = 20 ∧ mL M 32 this = 24) → mI M 4 this 10 = 0 → mI M 4 this 7 = Int32.ofNat a → mI M 4 this 8 = 0 → EX Ex M → mI M 62 w (moff W c + k) = Int32.ofNat q0 → FX A (co (gmt (gc W c) k)) w (q0 + a) kf fl fs M → lr (gmt (gc W c) k) - j < n → j ≤ lr (gmt (gc W c) k) → (∀ i, i < j → mI M 31 this i = kC A (gk (padL (gmt (gc W c) k) fl) i) ∧ kwf A (co (gmt (gc W c) k)) (gk (padL (gmt (gc W c) k) fl) i)) → w_Checker_one_L42 this Q n (Int32.ofNat (q0 + a)) (Int32.ofNat kf) (Int32.ofNat j) M := by
        intro n
        induction n with
        | zero => intro j M _ _ _ _ _ _ _ _ hn; exact absurd hn (by omega)
        | succ n ih =>
          intro j M hK hL2 h10 h7 h8 h9 hq62 hF hn hj hs
          obtain ⟨g1, g2, g3, g4, g5⟩ := id hF
          unfold w_Checker_one_L42
          refine ⟨w, hK.r, ?_⟩
          rw [hK.m6, oN_tnc (k := moff W c + k) (by omega), hK.lr.1, hK.ml (by omega) (by omega)]
          refine ⟨(vp_oN (by omega)).mpr hm, ?_⟩
          by_cases cj : lr (gmt (gc W c) k) ≤ j
          · refine itp (le_oN cj (by omega)) ⟨w, hK.r, ?_⟩
            rw [oN_tnc (by omega), g3, hK.rm.1 72 (by omega) (by omega)]
            refine ⟨(vp_oN (by omega)).mpr hq, fs.length + 1, ?_⟩
            have rr : ∀ f i k', f ≠ 4 → mI (sI M 4 this 2 (Int32.ofNat fs.length)) f i k' = mI M f i k' := fun f i k' hf => by rw [mI_sI, if_neg (fun q => hf q.1)]
            refine loopS _ 0 _ hK.s2 hL2 ?_ ?_ ?_ (h9.fr (S := (285793394306920833441610418092098634655629245793956098678773267955742373149291514664653927800704880150373913388423749690746007967577679155184353688551864105050094392601490879904551645289937784458453139617535910572704774231271588108092253680499408135958507227058036551719659148821493652464309016970613693109544906508636480672894494640559860467878289647366663850331954867463170600301178621010101029372654264171297982037231491311892858947537525986757827169736600317880446647247045504644272222656049350793825164158207773197137018282319809299349504)) (Fr.wI rfl (Fr.rf _ _))) (by rw [rr _ _ _ (by omega)]; exact hq62) ⟨by rw [rr _ _ _ (by omega)]; exact g1, by rw [rr _ _ _ (by omega)]; exact g2, by rw [rr _ _ _ (by omega)]; exact g3, g4, fun i hi => by rw [rr _ _ _ (by omega)]; exact g5 i hi⟩ (fun i hi => by
              rw [rr _ _ _ (by omega)]
              refine hs i ?_
              have : (padL (gmt (gc W c) k) fl).length = lr (gmt (gc W c) k) := by unfold padL; rw [List.length_append, List.length_replicate]; omega
              omega) ?_ (by omega) (by omega) (fun i hi => absurd hi (by omega))
            all_goals simp only [mI_sI, mI_sR, mI_sJ, mR_sI, mL_sI, mL_sR, mR_sR, Nat.reduceEqDiff, and_false, false_and, if_false, and_self, true_and, and_true, if_true]
            all_goals first | assumption | rfl
          refine itn (nle_oN (by omega) (by omega)) ⟨w, hK.r, ?_⟩
          rw [oN_tnc (by omega), g2, hK.rm.1 71 (by omega) (by omega)]
          refine ⟨(vp_oN (by omega)).mpr hq, ?_⟩
          have put : ∀ κ, gk (padL (gmt (gc W c) k) fl) j = κ → kwf A (co (gmt (gc W c) k)) κ → w_Checker_one_j92 this Q (w_Checker_one_L42 this Q n) (Int32.ofNat (q0 + a)) (Int32.ofNat kf) (Int32.ofNat j) (kC A κ) (Int32.ofNat j) M := fun κ eκ hκ => by
            unfold w_Checker_one_j92
            rw [hL2.1, oN_tnc (by omega), show Int32.ofNat j + (1 : Int32) = Int32.ofNat (j + 1) from oN_add j 1]
            refine ⟨(vp_oN (by omega)).mpr (by omega), ?_⟩
            have rr : ∀ f i k', f ≠ 31 → mI (sI M 31 this j (kC A κ)) f i k' = mI M f i k' := fun f i k' hf => by rw [mI_sI, if_neg (fun q => hf q.1)]
            refine ih (j + 1) _ hK.s31 hL2 (by rw [rr _ _ _ (by omega)]; exact h10) (by rw [rr _ _ _ (by omega)]; exact h7) (by rw [rr _ _ _ (by omega)]; exact h8) (h9.fr (S := (2147483648)) (Fr.wIa rfl rfl (Fr.rf _ _))) (by rw [rr _ _ _ (by omega)]; exact hq62) ⟨by rw [rr _ _ _ (by omega)]; exact g1, by rw [rr _ _ _ (by omega)]; exact g2, by rw [rr _ _ _ (by omega)]; exact g3, g4, fun i hi => by rw [rr _ _ _ (by omega)]; exact g5 i hi⟩ (by omega) (by omega) (fun i hi => ?_)
            rw [mI_sI]
            by_cases e : i = j
            · rw [if_pos ⟨rfl, rfl, e⟩, e, eκ]; exact ⟨rfl, hκ⟩
            · rw [if_neg (fun q => e q.2.2)]; exact hs i (by omega)
          by_cases c1 : fl.length ≤ j
          · refine itp (le_oN c1 (by omega)) (put uns ?_ kwf_uns)
            unfold padL
            rw [gk_ap, if_neg (by omega)]
            show (List.replicate _ uns).getD _ _ = uns
            rw [List.getD_eq_getElem?_getD, List.getElem?_replicate, if_pos (by omega)]; rfl
          · refine itn (nle_oN (by omega) (by omega)) ⟨w, hK.r, ?_⟩
            obtain ⟨p1, p2⟩ := g5 j (by omega)
            rw [gk_ap, if_pos (by omega)] at p1 p2
            rw [oN_add, oN_tnc (by omega), p1, hK.rm.2.1]
            refine ⟨(vp_oN (by omega)).mpr (by omega), put (gk fl j) ?_ p2⟩
            unfold padL
            rw [gk_ap, if_pos (by omega)]
      exact ⟨lr (gmt (gc W c) k) + 1, loopL _ 0 M hK hU.1 h10 h7 hU.2.2.2 h9 a1 hFX (by omega) (by omega) (fun i hi => absurd hi (by omega))⟩
    · rw [hgo] at z ⊢
      by_cases c1 : wrongF (gmt (gc W c) k) fl fs = true
      · rw [if_pos c1] at eW z ⊢
        exact itp rfl (hX _ eW _ (kz 38) (ezw 38))
      · rw [if_neg c1] at eW z ⊢
        by_cases c2 : s.2.2 = true
        · rw [if_pos c2] at z ⊢
          rw [if_pos ⟨c2, z⟩] at eW
          exact itp rfl (hX _ eW _ (kz _) (ezw _))
        · rw [if_neg c2] at z; exact absurd rfl z
end
