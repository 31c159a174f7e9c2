theorem JM.addList {G : List Sl} {US : UST} {A : List Nm} {S : List Sg} {W : List Cls} {w c : Nat} {br : Int32} {q0 nl0 nq nl nf nk : Nat} {p : PM} {NL : List Nine} {z : Nat × Nat × Nat × Nat × Nat × Nat} {L ts : List Tok} {M0 M : Mem} {v : Int32} {Q : Mem → Prop} (h : JM G US A S W w c br q0 nl0 nq nl nf nk p NL z L ts M0 M) (hx : Gx G w) (hn : nl < 3900) (hz1 : z.2.2.1 ≤ nl) (hQ : ∀ M', JM G US A S W w c br q0 nl0 nq (nl + 1) nf nk p NL z L ts M0 M' → (∀ k, k < nl → rd M' (sLi w) k = rd M (sLi w) k) → rd M' (sLi w) nl = v → Q M') : w_Model_addList 0 v Q M := by
  obtain ⟨g1, ⟨⟨hC, hFl, hMs⟩, ⟨c35, c37, c41, c43⟩, hRL, hbn⟩, ⟨h0, hLb, hNi⟩, g4, g5, g6⟩ := id h
  have hw := hx.2.2.2.1
  obtain ⟨-, m6, -⟩ := XW_in hw
  have hw45 : mR M 11 0 45 = some (12, w) := hC.2.1
  have hTG := g5.1.1
  unfold w_Model_addList
  refine ⟨w, hw45, w, hw45, rdI M (sLi w), (hTG _ m6).1.1, w, hw45, ?_⟩
  rw [c37, lit32 1, oN_add]
  refine rm300 (s := sLi w) (X := [sLi w]) hx.1 hTG m6 (by simp) rfl (by omega) (by have := hRL.2.2.2.2 (sLi w) (by simp); omega) (fun i1 M2 r1 f1 => ?_)
  have fr1 : Fr (287724615985440965458794678136059329065601673898977937679550706873822600720910104184224330452334632505066398528821115743546239988265425214780729768327433904187638733707140592015203836016720409797262037678641561245446221574655641153333187651609098710329941003825584030113765405961157123932768976632761263557862273595233321799276323219915537860208918694360056093605407667110977055296220158058209988384202312567422191708397454623472372937755539799002254127214040020619096795591065008034208014061606765594202542785143942548576241794192533346758629812272041305149977735074616727189675830739423953302243817627437803028827612436493443514956602290560712140062269931601846299696371223061030183534675372708240025136674293391884529676751081594609545504190241275326371177191900954275982038269240550539491615213288165873540240302615495412904195194827123628431519406157477241847713783737375700632223119919944021164912117853565816855185082784281763400571261320881063542943362159247104665146433751759993390447776095404279112151250538761568586494448076571256321961835441776132129810421348888655938359621832264556398241503147903365581170560101070297256405451985271403486659169915345494961767353500086196139517012995822691313907234826976539912588005149813105701555683124625225104340627686024031588167386280865738122544613291672992205580733846884663770705561352166958325977075846067510832629218078563733727465527226281717502413680044498619511348493012847301291691644504349126595393194919050033032054228641375061413602212092881290620304032549342703767349105836549618915008693156827644862471846775699296962133073330176) M (sR M2 12 w 36 (some (300, i1))) := Fr.wR rfl (f1.sub rfl)
  have lo1 : LoT w z.1 M (sR M2 12 w 36 (some (300, i1))) := ((LoT.rf w z.1 M).fr f1).sR
  generalize hM3 : sR M2 12 w 36 (some (300, i1)) = M3 at fr1 lo1
  have r1 : Gr1 G [sLi w] (sLi w) (nl + 1) M M3 := by rw [← hM3]; exact r1
  have n1 := (Gn.nil (n := nl) hTG).step m6 (fun x hx => by cases hx) (by simp) (by omega) hRL.2.1 (hRL.2.2.2.2 _ (by simp)) r1
  have T3 := r1.1.1
  have w3 : mR M3 11 0 45 = some (12, w) := (fr1.R (f := 11) (k := 45) rfl 0).trans hw45
  have k37 : mI M3 12 w 37 = Int32.ofNat nl := (fr1.I (f := 12) (k := 37) rfl w).trans c37
  have tq : (Int32.ofNat nl).toNatClampNeg = nl := oN_tnc (by omega)
  obtain ⟨b1, b2', b3⟩ := n1.2 (sLi w) (by simp)
  refine ⟨w, w3, rdI M3 (sLi w), (T3 _ m6).1.1, w, w3, ?_⟩
  rw [k37, tq]
  refine ⟨by show vp_in _ (rl M3 (sLi w)); exact (vp_oN (by omega)).mpr (by omega), _, rfl, w, w3, ?_⟩
  simp only [mI_sI, mI_sR, mI_sJ, mR_sI, mL_sI, mL_sR, mR_sR, Nat.reduceEqDiff, and_false, false_and, if_false, and_self, true_and, and_true, if_true, k37]
  rw [oN_add]
  obtain ⟨Mz, hMz⟩ : ∃ Mz, Mz = sI (sI M3 300 (rdI M3 (sLi w)) nl v) 12 w 37 (Int32.ofNat (nl + 1)) := ⟨_, rfl⟩
  rw [← hMz]
  have frz : Fr (436611426216464240458975612713999502168400300228112629730681048852362358626450640520422903886441179337626415640911530398221100669416624832028950247867798790269032752509658079897478786242639068388541430620289776076099273903132593926373346515223917749669443004421835608913176143201550986690473531045881775721673414364529730838852690006608014613303309005310893106016577925423298537483685297493697338852056692721739816167665081168044781690995044944677730161371044862585366331228006799235727801714830037561335347040151595536073554935649343757231220400525452881005499292726111344763955861477413218906203898647249750127763775567031246687523579578473263426634999517403013229380556346743769489143257760627492612657188884729460645726108462887450918929298856826937241318444251802738522757303783668784574132045563549334329428080634374239385318418022873831063870221102024024220727255904271888222050783721437928665496336323078084940068636341141775995458715740445936291475296849164997959994839644595443561166503193558909183827686801771926794794958848) M3 Mz := by
    rw [hMz]; exact Fr.wI rfl (Fr.wIa rfl rfl (Fr.rf _ _))
  have gz : GF G [sLi w] M3 Mz := by
    have w1 := (GF.rf (X := [sLi w]) T3).wr (s := sLi w) (k := nl) (v := v) m6 (by simp) rfl
    have f9 : ∀ M9 v1, Fr (436611426216464240458975612713999502168400300228112629730681048852362358626450640520422903886441179337626415640911530398221100669416624832028950247867798790269032752509658079897478786242639068388541430620289776076099273903132593926373346515223917749669443004421835608913176143201550986690473531045881775721673414364529730838852690006608014613303309005310893106016577925423298537483685297493697338852056692721739816167665081168044781690995044944677730161371044862585366331228006799235727801714830037561335347040151595536073554935649343757231220400525452881005499292726111344763955861477413218906203898647249750127763775567031246687523579578473263426634999517403013229380556346743769489143257760627492612657188884729460645726108462887450918929298856826937241318444251802738522757303783668784574132045563549334329428080634374239385318418022873831063870221102024024220727255904271888222050783721437928665496336323078084940068636341141775995458715738408900315140810762896552271585461483543975167500566942922768734473305502008590088611561472) M9 (sI M9 12 w 37 v1) := fun M9 v1 => Fr.wI rfl (Fr.rf _ _)
    rw [hMz]; exact w1.fr (f9 _ _) hx.1
  have eI : ∀ s, rdI Mz s = rdI M3 s := fun s => by rw [hMz]; rfl
  have z1 : ∀ k, rd Mz (sLi w) k = if k = nl then v else rd M3 (sLi w) k := fun k => by
    show mI Mz 300 (rdI Mz (sLi w)) k = _
    rw [eI, hMz]; simp only [mI_sI, mI_sR, mI_sJ, mR_sI, mL_sI, mL_sR, mR_sR, Nat.reduceEqDiff, and_false, false_and, if_false, and_self, true_and, and_true, if_true]; rfl
  have lz' : ∀ s, rl Mz s = rl M3 s := fun s => by unfold rl; rw [eI, hMz]; rfl
  have y37 : mI Mz 12 w 37 = Int32.ofNat (nl + 1) := by rw [hMz]; simp only [mI_sI, mI_sR, mI_sJ, mR_sI, mL_sI, mL_sR, mR_sR, Nat.reduceEqDiff, and_false, false_and, if_false, and_self, true_and, and_true, if_true]
  have loz : LoT w z.1 M Mz := by rw [hMz]; exact ((lo1).wo).w12
  clear hMz
  have hg : GF G [sLi w] M Mz := n1.1.trans gz
  have hf : Fr (287724615985440965458794678136059329065601673898977937679550706873822600720910104184224330452334632505066398528821115743546239988265425214780729768327433904187638733707140592015203836016720409797262037678641561245446221574655641153333187651609098710329941003825584030113765405961157123932768976632761263557862273595233321799276323219915537860208918694360056093605407667110977055296220158058209988384202312567422191708397454623472372937755539799002254127214040020619096795591065008034208014061606765594202542785143942548576241794192533346758629812272041305149978171686042943653916289715036667301745986027738031141457343117542295877315228741201232562966156372781183926112012134591428404635344789333072054086922161190674798709503591252689442982976483914394759718622521244052058137543143683133417988559803389791289909745619917248513108370970325179418209879688523123623435457151740230363061972609950629179525421162571127748291099362207186699108745006178557240282214215939826404962601416841161435229467090449223789881411909806431171860779304578055557689637156606169691145768389040251474433176767913900155472723548428818462176059393796408601169407846748816705565373813992744711895117275653227386204536575401164577333869826493942925817385706159849471044826382385852596953284874908761048813112389328625573463542590529819142822052291136466509228318655950627110551207891631060166958646159198107966850845644304591333477550265600643535569220268751573179913695288070564524058691255373111116994297277716203189597670808619699520619173360105600319620691298033162890176193723770567631206320081201305552221684891648) M Mz := (fr1.sub rfl).trans (frz.sub rfl)
  have rX : ∀ s ∈ XW w, s ≠ sLi w → (∀ k, rd Mz s k = rd M s k) ∧ rl Mz s = rl M s := fun s hs hn => ⟨(hg.2.1 s (hw s hs) (by simpa using hn)).1, (hg.2.1 s (hw s hs) (by simpa using hn)).2.1⟩
  have rl' : ∀ k, k < nl → rd Mz (sLi w) k = rd M (sLi w) k := fun k hk => by rw [z1, if_neg (by omega)]; exact b3 k hk
  have rk : ∀ a b d, Rk w a nl b d M Mz := by
    intro a b d
    refine ⟨fun s hs k _ => ?_, rl', fun s hs k _ => ?_, fun k _ => (rX _ (by simp) (sl_ne (by simp))).1 k, fun s hs => ?_⟩
    · simp only [List.mem_cons, List.not_mem_nil, or_false] at hs
      rcases hs with e | e | e | e | e <;> subst e <;> exact (rX _ (by simp) (sl_ne (by simp))).1 k
    · simp only [List.mem_cons, List.not_mem_nil, or_false] at hs
      rcases hs with e | e | e <;> subst e <;> exact (rX _ (by simp) (sl_ne (by simp))).1 k
    · by_cases q : s = sLi w
      · rw [q, lz']; exact ⟨b1.2, fun _ => b2'⟩
      · rw [(rX s hs q).2]; exact ⟨Nat.le_refl _, id⟩
  have dd : ∀ s ∈ [sB, sZ, sX, sTr, sF, sC, sRe, sNx, sTy], s ∉ [sLi w] := fun s hs q => by
    simp only [List.mem_cons, List.not_mem_nil, or_false] at hs q
    rcases hs with e | e | e | e | e | e | e | e | e <;> (rw [e] at q; cases q)
  have xl : ∀ s ∈ XL, (∀ k, rd Mz s k = rd M s k) ∧ rl Mz s = rl M s := fun s hs => by
    have hn : s ∉ [sLi w] := fun q => by
      simp only [List.mem_cons, List.not_mem_nil, or_false] at hs q
      rcases hs with e | e | e | e | e <;> (rw [e] at q; cases q)
    exact ⟨(hg.2.1 s (hx.2.2.2.2.1 s hs) hn).1, (hg.2.1 s (hx.2.2.2.2.1 s hs) hn).2.1⟩
  refine hQ Mz ⟨g1.fr hf, ⟨⟨hC.fr hf, hFl.fr hf, hMs.keep (hMs.1.fr hf) ((rk q0 nf nk).mono (Nat.le_refl _) hbn.2.1 (Nat.le_refl _) (Nat.le_refl _)) (fun f a b d hd' k hk => ?_) (fun f a b d hd' k hk i hi => ?_) (fun f a b => ?_)⟩, ⟨(hf.I (f := 12) (k := 35) rfl w).trans c35, y37, (hf.I (f := 12) (k := 41) rfl w).trans c41, (hf.I (f := 12) (k := 43) rfl w).trans c43⟩, ?_, ⟨hbn.1, by omega, hbn.2.2.1, by omega, hbn.2.2.2.2⟩⟩, ⟨?_, hLb.of (hf.I (f := 11) (k := 60) rfl 0) xl, hNi.of (hf.I (f := 11) (k := 64) rfl 0) xl⟩, g4.gf hf hg hx dd, ⟨g5.1.trans (hg.sub (by simp)), g5.2.1.trans loz, ?_⟩, (hf.I (f := 11) (k := 51) rfl 0).trans g6⟩ rl' (by rw [z1, if_pos rfl])
  · have h3 : f = 149 ∨ f = 150 ∨ f = 151 := by omega
    rcases h3 with e | e | e <;> subst e
    · exact hf.Ia (f := 149) rfl rfl w _
    · exact hf.Ia (f := 150) rfl rfl w _
    · exact hf.Ia (f := 151) rfl rfl w _
  · have h3 : f = 152 ∨ f = 153 ∨ f = 154 ∨ f = 155 := by omega
    rcases h3 with e | e | e | e <;> subst e
    · exact hf.Ia (f := 152) rfl rfl w _
    · exact hf.Ia (f := 153) rfl rfl w _
    · exact hf.Ia (f := 154) rfl rfl w _
    · exact hf.Ia (f := 155) rfl rfl w _
  · have h3 : f = 152 ∨ f = 153 ∨ f = 154 ∨ f = 155 := by omega
    rcases h3 with e | e | e | e <;> subst e
    · exact hf.L (f := 152) rfl w
    · exact hf.L (f := 153) rfl w
    · exact hf.L (f := 154) rfl w
    · exact hf.L (f := 155) rfl w
  · refine ⟨fun s hs => ?_, by rw [lz']; exact b1.1, fun s hs => ?_, by rw [(rX _ (by simp) (sl_ne (by simp))).2]; exact hRL.2.2.2.1, fun s hs => ?_⟩
    · have := hRL.1 s hs
      simp only [List.mem_cons, List.not_mem_nil, or_false] at hs
      rcases hs with e | e | e | e | e <;> subst e <;> (rw [(rX _ (by simp) (sl_ne (by simp))).2]; exact this)
    · have := hRL.2.2.1 s hs
      simp only [List.mem_cons, List.not_mem_nil, or_false] at hs
      rcases hs with e | e | e <;> subst e <;> (rw [(rX _ (by simp) (sl_ne (by simp))).2]; exact this)
    · by_cases q : s = sLi w
      · rw [q, lz']; exact b2'
      · rw [(rX s hs q).2]; exact hRL.2.2.2.2 s hs
  · exact (h0.of (M' := Mz) (fun f a b k => by
      have h3 : f = 144 ∨ f = 145 ∨ f = 146 ∨ f = 147 ∨ f = 148 ∨ f = 149 ∨ f = 150 ∨ f = 151 ∨ f = 152 ∨ f = 153 ∨ f = 154 ∨ f = 155 := by omega
      rcases h3 with e | e | e | e | e | e | e | e | e | e | e | e <;> subst e
      · exact hf.Ia (f := 144) rfl rfl w _
      · exact hf.Ia (f := 145) rfl rfl w _
      · exact hf.Ia (f := 146) rfl rfl w _
      · exact hf.Ia (f := 147) rfl rfl w _
      · exact hf.Ia (f := 148) rfl rfl w _
      · exact hf.Ia (f := 149) rfl rfl w _
      · exact hf.Ia (f := 150) rfl rfl w _
      · exact hf.Ia (f := 151) rfl rfl w _
      · exact hf.Ia (f := 152) rfl rfl w _
      · exact hf.Ia (f := 153) rfl rfl w _
      · exact hf.Ia (f := 154) rfl rfl w _
      · exact hf.Ia (f := 155) rfl rfl w _) (fun k hk => by
      simp only [List.mem_cons, List.not_mem_nil, or_false] at hk
      rcases hk with e | e | e <;> subst e
      · exact hf.I (f := 11) (k := 53) rfl 0
      · exact hf.I (f := 11) (k := 54) rfl 0
      · exact hf.I (f := 11) (k := 65) rfl 0) ⟨fun k => hf.Ia (f := 109) rfl rfl 0 k, hf.L (f := 109) rfl 0⟩ (rk _ _ _)).pre (List.prefix_refl _) (List.prefix_refl _) (by omega) (Nat.le_refl _) (Nat.le_refl _)
  · exact g5.2.2.trans ((rk _ _ _).mono (Nat.le_refl _) hz1 (Nat.le_refl _) (Nat.le_refl _))
