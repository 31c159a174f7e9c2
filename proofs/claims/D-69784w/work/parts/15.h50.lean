/-! THE OPERATION halt, in the twin: the whole -/
section
variable {G : List Sl} {US : UST} {A : List Nm} {S : List Sg} {W : List Cls} {k C B F K ud t w n : Nat} {br x : Int32} {nq nl nf nk : Nat} {s : Ms} {M M' M0 : Mem} {Q : Int32 → Mem → Prop} {on : Nat → Bool} {v2 : Int32}
theorem ct_halt (hW : WO W) (hA : MA W s) (hFb : (zF s).length < 1000000) (h : TA G US A S W w br nq nl nf nk B F x s M) (hQ : ∀ M', TA G US A S W w br nq nl nf nk B F (Int32.ofNat (zT s).2.2) (hltS s) M' → Fr SHq M M' → Q (Int32.ofNat (onN s 3)) M') : ∃ n42 : Nat, w_Model_halt_L24 0 Q n42 (0 : Int32) (0 : Int32) M := by
  have h51 := hW.2.2.2
  have hga := h.ga
  have hTG : TG G M := h.1.1.1.2.2.2
  obtain ⟨hc56, hX4, hrr⟩ := h.2.2.1.2
  obtain ⟨m1, p1, q1⟩ := hX4 (sFl' w) (by simp)
  obtain ⟨m2, p2, q2⟩ := hX4 (sFo w) (by simp)
  obtain ⟨m3, p3, q3⟩ := hX4 (sFc w) (by simp)
  obtain ⟨m4, p4, q4⟩ := hX4 (sFu w) (by simp)
  have n12 : rdI M (sFl' w) ≠ rdI M (sFo w) := fun e => (hTG (sFo w) m2).2 (sFl' w) m1 (by simp) rfl e
  have n31 : rdI M (sFc w) ≠ rdI M (sFl' w) := fun e => (hTG (sFl' w) m1).2 (sFc w) m3 (by simp) rfl e
  have n41 : rdI M (sFu w) ≠ rdI M (sFl' w) := fun e => (hTG (sFl' w) m1).2 (sFu w) m4 (by simp) rfl e
  have p1 : (zF s).length ≤ mL M 300 (rdI M (sFl' w)) := p1
  obtain ⟨⟨l7, l8, l9, l0, l2, l4, l1⟩, ⟨e50, e52⟩, hT, hOb, hC⟩ := h.2.2.1.1
  obtain ⟨t1, t2, t3⟩ := h.2.2.2.1.2.2
  have l137 : mL M 137 w = 51 := h.1.1.1.1.1.1.2.2.2.2.2.1
  refine ⟨4, ct_haltT h hA.2.1 (fun Ma fa za => ⟨W.length + 1, ?_⟩) 4 0 M (by omega) (by omega) (Fr.rf _ _) (fun t' z => absurd z (by omega)) (fun t' _ => rfl)⟩
  refine ct_haltC (s := s) ((fa.R (f := 11) (k := 45) rfl 0).trans h.r45) h51 ((fa.I (f := 12) (k := 2) rfl w).trans h.1.1.cl.1.1.1) ((fa.L (f := 137) rfl w).trans l137) (fun j hj => (fa.Ia (f := 137) rfl rfl w j).trans (h.2.1.1.2.1 j hj).1) (fun Mb fb zb => ⟨801, ?_⟩) (W.length + 1) 0 Ma (by omega) (by omega) (Fr.rf _ _) (fun j z => absurd z (by omega)) (fun j _ hj => (fa.Ia (f := 137) rfl rfl w j).trans (h.2.1.1.2.1 j hj).1)
  have fab : Fr SHq M Mb := (fa.sub rfl).trans (fb.sub rfl)
  have fab' : Fr (15314599543025836772132527954704845760305012891820904851896653769351841076964967628279151601976840573630054250500793292382370840749338245345427031649959660073224497570669409323754903468759958826823612154593041264788144601068663359098249272772424150518688319558932131011701645046695055529777917751137774561314897573110731782955231536466212250624417545105459477952215150752183578370686279070865063121196371746290054703859925762128726576815875177924217434937069089243055038829646757008752749744454597571370317031222398956668901576869740983196993089925926729031582254302649721108816298372498595892704873318394380744822565962061251786721663468379371117454152239298058066312239452829672982573643640403654767616056110156825035582129277474862676630906140176748049088467409811324047703040847898057273135293215911386158879660944707639423618898094404219251700296281299544941796768245617900539943449386495644445601554689647927185364420045693205024265887512360845649128118631039677822142109508842598647185561840576343572121813310599684661776992348974318524339954100844492963199350550878739863961600) M Mb := (fa.sub rfl).trans (fb.sub rfl)
  refine ct_haltO ((fab.R (f := 11) (k := 45) rfl 0).trans h.r45) ((fab.L (f := 160) rfl w).trans l0) (fun Mc fc zc => ⟨(zF s).length + 1, ?_⟩) 801 1 Mb (by omega) (by omega) (by omega) (Fr.rf _ _) (fun r a b => absurd a (by omega))
  have fac : Fr SHq M Mc := fab.trans (fc.sub rfl)
  have fac' : Fr (15314599543025836772132527954704845760305012891820904851896653769351841076964967628279151601976840573630054250500793292382370840749338245345427031649959660073224497570669409323754903468759958826823612154593041264788144601068663359098249272772424150518688319558932131011701645046695055529777917751137774561314897573110731782955231536466212250624417545105459477952215150752183578370686279070865063121196371746290054703859925762128726576815875177924217434937069089243055038829646757008752749744454597571370317031222398956668901576869740983196993089925926729031582254302649721108816298372498595892704873318394380744822565962061251786721663468379371117454152239298058066312239452829672982573643640403654767616056110156825035582129277474862676630906140176748049088467409811324047703040847898057273135293215911386158879660944707639423618898094404219251700296281299544941796768245617900539943449386495644445601554689647927185364420045693205024265887512360845649128118631039677822142109508842598647185561840576343572121813310599684661776992348975780025977285003762696648032066833898395796504576) M Mc := (fab'.sub rfl).trans (fc.sub rfl)
  have gc' : GF G (XF w) M Mc := (GF.rf hTG).fr fac' hga
  have ri : rdI Mc (sFl' w) = rdI M (sFl' w) := by
    show ((mR Mc 12 w 55).getD (0, 0)).2 = ((mR M 12 w 55).getD (0, 0)).2
    rw [fac.R (f := 12) (k := 55) rfl]
  refine ct_haltF (n := (zF s).length) (y0 := rdI M (sFl' w)) hga gc'.1 m1 ((fac.R (f := 11) (k := 45) rfl 0).trans h.r45) ri (by rw [fac.L (f := 300) rfl]; exact p1) hFb ((fac.I (f := 12) (k := 56) rfl w).trans hc56) (fun Md fd gd zd od => ⟨_, rfl, ?_⟩) _ 0 Mc (by omega) (by omega) (Fr.rf _ _) (GF.rf gc'.1) (fun i hi => absurd hi (by omega)) (fun i l _ => rfl)
  have fad : Fr SHq M Md := fac.trans (fd.sub rfl)
  have k65 : mI (sI Md 12 w 63 0) 12 w 65 = Int32.ofNat (zT s).2.2 := by rw [mI_sI, if_neg (fun z => absurd z.2.2 (by decide))]; exact (fad.I (f := 12) (k := 65) rfl w).trans t2
  rw [k65]
  have fe : Fr (87901490468420199821474075918821390461260642536702738335835893404431624811345108512193849638200757644505143630160214188578257060262567705574960998740779196986587127199148908311023113426527008724719978077587386669844199468592223259316644773545107477429258086618489093526734576806472229264630394871673573540952849051014616392463513269062849061982553064362152009510612329227902851950174616544912226710553766136459081499742511388965835201232029487598795951684442509663420112537677783842957282958898487321455636388731007892640101876519061685679836959238664437789418705862958386453864278029671688338135998571764202366074245515963268453110411196174818688802666480760393344002101680353893408482793084724684869211447902462863153802156782255488973075304027794463208592523967957435203053842413874741655092176091298106904412360783219763668038331935376566454072725944756981098484474192718937497150423537566175517763485380411121790870542800649423149993110716310627402915025431010882917388159397229172602605518300686499548515663511694238597265143682956263424) Md (sI (sI Md 12 w 63 0) 12 w 64 (Int32.ofNat (zT s).2.2)) := Fr.wI rfl (Fr.wI rfl (Fr.rf _ _))
  have z63 : mI (sI (sI Md 12 w 63 0) 12 w 64 (Int32.ofNat (zT s).2.2)) 12 w 63 = 0 := by rw [mI_sI, if_neg (fun z => absurd z.2.2 (by decide)), mI_sI, if_pos ⟨rfl, rfl, rfl⟩]
  have z64 : mI (sI (sI Md 12 w 63 0) 12 w 64 (Int32.ofNat (zT s).2.2)) 12 w 64 = Int32.ofNat (zT s).2.2 := by rw [mI_sI, if_pos ⟨rfl, rfl, rfl⟩]
  have z300 : ∀ i j, mI (sI (sI Md 12 w 63 0) 12 w 64 (Int32.ofNat (zT s).2.2)) 300 i j = mI Md 300 i j := fun i j => fe.Ia (f := 300) rfl rfl i j
  generalize sI (sI Md 12 w 63 0) 12 w 64 (Int32.ofNat (zT s).2.2) = Me at fe z63 z64 z300 ⊢
  have hf : Fr SHq M Me := fad.trans (fe.sub rfl)
  have gw : GF G (XF w) M Me := (gc'.trans gd).fr fe hga
  have fce : Fr (87901490468420199821474075918821390461260642536702738335835893404431624811345108512193849638200757644505143630160214188578257060262567705574960998740779196986587127199148908311023113426527008724719978077587386669844199468592223259316644773545107477429258086618489093526734576806472229264630394871673573540952849051014616392463513269062849061982553064362152009510612329227902851950174616544912226710553766136459081499742511388965835201232029487598795951684442509663420112537677783842957282958898487321455636388731007892640101876519061685679836959238664437789418705862958386453864278029671688338135998571764202366074245515963268453110411196174818688802666480760393344002101680353893408482793084724684869211447902462863153802156782255488973075304027794463208592523967957435203053842413874741655092176091298106904412360783219763668038331935376566454072725944756981098484474192718937497150423537566175517763485380411121790870542800649423149993110716310627404952061407345369003656605085638550763656986694352435799151803961048619897028480389139660800) Mc Me := (fd.sub rfl).trans (fe.sub rfl)
  have fbe : Fr (87901490468420199821474075918821390461260642536702738335835893404431624811345108512193849638200757644505143630160214188578257060262567705574960998740779196986587127199148908311023113426527008724719978077587386669844199468592223259316644773545107477429258086618489093526734576806472229264630394871673573540952849051014616392463513269062849061982553064362152009510612329227902851950174616544912226710553766136459081499742511388965835201232029487598795951684442509663420112537677783842957282958898487321455636388731007892640101876519061685679836959238664437789418705862958386453864278029671688338135998571764202366074245515963268453110411196174818688802666480760393344002101680353893408482793084724684869211447902462863153802156782255488973075304027794463208592523967957435203053842413874741655092176091298106904412360783219763668038331935376566454072725944756981098484474192718937497150423537566175517763485380411121790870542800649423149993110716310627404952061407345369003656605085638550763656988155854073130054722164733452613311500045072203776) Mb Me := (fc.sub rfl).trans (fce.sub rfl)
  have fae : Fr (87901490468420199821474075918821390461260642536702738335835893404431624811345108512193849638200757644505143630160214188578257060262567705574960998740779196986587127199148908311023113426527008724719978077587386669844199468592223259316644773545107477429258086618489093526734576806472229264630394871673573540952849051014616392463513269062849061982553064362152009510612329227902851950174616544912226710553766136459081499742511388965835201232029487598795951684442509663420112537677783842957282958898487321455636388731007892640101876519061685679836959238664437789418705862958386453864278029671688338135998571764202366074245515963268453110411196174818688802666480760393344002101680353893408482793084724684869211447902462863153802156782255488973075304027794463208592523967957435203053842413874741655092176091298106904412360783219763668038331935376566454072725944756981098484474192718937497150423537566175517763485380411121790870542800649423149993110716310627404952061407345369003656605085638550763656988155854247354626585685226745861110505110396469248) Ma Me := (fb.sub rfl).trans (fbe.sub rfl)
  have rr : ∀ y ∈ G, y ∉ XF w → ∀ j, rd Me y j = rd M y j := fun y hy hn j => (gw.2.1 y hy hn).1 j
  obtain ⟨a1, ⟨b1, b2'⟩, ⟨c1, c2⟩, ⟨d1, d2, d3⟩, ⟨e3, e4⟩, ⟨w1, w2, w3⟩, g⟩ := h
  -- rows of faults
  have re : ∀ y ∈ XF w, y ∈ G → rdI Me y = rdI M y := fun y hy _ => by
    simp only [List.mem_cons, List.not_mem_nil, or_false] at hy
    rcases hy with z | z | z | z <;> rw [z]
    · show ((mR Me 12 w 53).getD (0, 0)).2 = ((mR M 12 w 53).getD (0, 0)).2
      rw [hf.R (f := 12) (k := 53) rfl]
    · show ((mR Me 12 w 54).getD (0, 0)).2 = ((mR M 12 w 54).getD (0, 0)).2
      rw [hf.R (f := 12) (k := 54) rfl]
    · show ((mR Me 12 w 55).getD (0, 0)).2 = ((mR M 12 w 55).getD (0, 0)).2
      rw [hf.R (f := 12) (k := 55) rfl]
    · show ((mR Me 12 w 58).getD (0, 0)).2 = ((mR M 12 w 58).getD (0, 0)).2
      rw [hf.R (f := 12) (k := 58) rfl]
  have oe : ∀ i j, i ≠ rdI M (sFl' w) → mI Me 300 i j = mI M 300 i j := fun i j hi => (z300 i j).trans ((od i j hi).trans (fac'.Ia (f := 300) rfl rfl i j))
  have ze : ∀ j, j < (zF s).length → mI Me 300 (rdI M (sFl' w)) j = 0 := fun j hj => (z300 _ j).trans (zd j hj)
  refine hQ Me ⟨a1.mgf hf gw XF_W XF_S, ⟨⟨⟨(hf.L (f := 164) rfl w).trans b1.1.1, (hf.L (f := 163) rfl w).trans b1.1.2⟩, fun j hj => ?_, (hf.I (f := 12) (k := 60) rfl w).trans b1.2.2.1, fun i hi => (hf.Ia (f := 163) rfl rfl w i).trans (b1.2.2.2 i hi)⟩, b2'.fr hf⟩, ⟨⟨⟨(hf.L (f := 157) rfl w).trans l7, (hf.L (f := 158) rfl w).trans l8, (hf.L (f := 159) rfl w).trans l9, (hf.L (f := 160) rfl w).trans l0, (hf.L (f := 162) rfl w).trans l2, (hf.L (f := 524) rfl w).trans l4, (hf.L (f := 161) rfl w).trans l1⟩, ⟨(hf.I (f := 12) (k := 50) rfl w).trans e50, (hf.I (f := 12) (k := 52) rfl w).trans e52⟩, fun r hr => (hf.Ia (f := 524) rfl rfl w r).trans (hT r hr), fun r hr => ?_, fun i hi => (hf.Ia (f := 161) rfl rfl w i).trans (hC i hi)⟩, ?_, fun y hy => ?_, fun i hi => ?_⟩, ⟨d1.fr hf, d2.fr hf, z63, (hf.I (f := 12) (k := 65) rfl w).trans t2, z64⟩, ⟨(hf.L (f := 704) rfl w).trans e3, fun t' ht => (hf.Ra (f := 704) rfl rfl w t').trans (e4 t' ht)⟩, ⟨by have := gw.2.2; omega, by rw [hf.L (f := 110) rfl]; exact ⟨w2, w3⟩⟩, fun t' ht => ?_⟩ hf
  · show mI Me 137 w j = (if zC s j = 1 then 3 else zC s j) ∧ ((if zC s j = 1 then (3 : Int32) else zC s j) = 1 → _)
    refine ⟨(fbe.Ia (f := 137) rfl rfl w j).trans (zb j hj), fun z => ?_⟩
    by_cases c1 : zC s j = 1
    · rw [if_pos c1] at z; exact absurd z (by decide)
    · rw [if_neg c1] at z; exact absurd z c1
  · have hr : thr s r = true := hr
    obtain ⟨o1, o2, o3, -, -⟩ := hOb r hr
    have r0 : r ≠ 0 := fun z => by rw [z, hA.1.1.2.1.1.1.1] at hr; cases hr
    have r8 : r ≤ 800 := by
      rcases Nat.lt_or_ge 800 r with z | z
      · rw [hA.1.1.2.1.1.1.2 r z] at hr; cases hr
      · exact z
    exact ⟨(hf.Ia (f := 157) rfl rfl w r).trans o1, (hf.Ia (f := 158) rfl rfl w r).trans o2, (hf.Ia (f := 159) rfl rfl w r).trans o3, (fce.Ia (f := 160) rfl rfl w r).trans (zc r (by omega) r8), fun z => absurd rfl z⟩
  · rw [hf.I (f := 12) (k := 56) rfl, hc56]
    show _ = Int32.ofNat ((zF s).map _).length
    rw [List.length_map]
  · obtain ⟨y1, y2, y3⟩ := hX4 y hy
    have hlen : ((zF s).map (fun f : Ft => (f.1, f.2.1, (0 : Int32), f.2.2.2))).length = (zF s).length := List.length_map ..
    have hrl : rl Me y = rl M y := by
      show mL Me y.2.2.2 (rdI Me y) = mL M y.2.2.2 (rdI M y)
      rw [re y hy y1]
      have h300 : y.2.2.2 = 300 := by
        simp only [List.mem_cons, List.not_mem_nil, or_false] at hy
        rcases hy with z | z | z | z <;> rw [z]
      rw [h300]
      exact hf.L (f := 300) rfl _
    rw [hrl]
    exact ⟨y1, by show ((zF s).map _).length ≤ _; rw [List.length_map]; exact y2, y3⟩
  · have hi : i < (zF s).length := by
      have : i < ((zF s).map (fun f : Ft => (f.1, f.2.1, (0 : Int32), f.2.2.2))).length := hi
      rw [List.length_map] at this; exact this
    obtain ⟨u1, u2, u3, u4⟩ := hrr i hi
    rw [hlt_F]
    refine ⟨?_, ?_, ?_, fun z => absurd rfl z⟩
    · show mI Me 300 (rdI Me (sFc w)) i = _
      rw [re _ (by simp) m3, oe _ _ n31]; exact u1
    · show mI Me 300 (rdI Me (sFu w)) i = _
      rw [re _ (by simp) m4, oe _ _ n41]; exact u2
    · show mI Me 300 (rdI Me (sFl' w)) i = _
      rw [re _ (by simp) m1]; exact ze i hi
  · obtain ⟨⟨hln, -, -, -⟩, -⟩ := g t' ht
    obtain ⟨z0, z1⟩ := za t' ht
    refine ⟨⟨?_, ?_, ?_, fun z => absurd z (by show ¬ (0 : Nat) = 1; omega)⟩, fun z => by cases z⟩
    · exact ⟨(hf.L (f := 170) rfl _).trans hln.1, (hf.L (f := 171) rfl _).trans hln.2.1, (hf.L (f := 172) rfl _).trans hln.2.2.1, (hf.L (f := 173) rfl _).trans hln.2.2.2.1, (hf.L (f := 174) rfl _).trans hln.2.2.2.2.1, (hf.L (f := 175) rfl _).trans hln.2.2.2.2.2.1, (hf.L (f := 176) rfl _).trans hln.2.2.2.2.2.2.1, (hf.L (f := 525) rfl _).trans hln.2.2.2.2.2.2.2⟩
    · show _ = (if false = true then _ else (-2 : Int32))
      rw [if_neg (by decide), fae.I (f := 13) (k := 0) rfl]; exact z0
    · show mI Me 13 (3 * w + t') 1 = 0
      rw [fae.I (f := 13) (k := 1) rfl]; exact z1
/-- halt, in the twin -/
theorem ct_whalt (hk : k < 3) (hOn : tOn on M) (hon : on k = true) (hW : WO W) (hA : MA W s) (hFb : (zF s).length < 1000000) (h : TAx G US A S W k br nq nl nf nk B F x s M) (hQ : ∀ M', TAx G US A S W k br nq nl nf nk B F (Int32.ofNat (zT s).2.2) (hltS s) M' → Q (Int32.ofNat (onN s 3)) M') : w_Model_halt 0 (Int32.ofNat k) Q M := by
  unfold w_Model_halt
  refine ct_isWorld hOn (fun j hj e _ _ => ?_) (fun q => by rw [wOf_k hk, hon] at q; cases q)
  obtain ⟨a1, a2⟩ := hOn.at hk
  exact itn (by decide) ⟨a1, k, a2, ct_halt hW hA hFb h (fun M' h' _ => hQ M' h'.xx)⟩
end
