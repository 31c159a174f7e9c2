theorem TQ.to {A : List Nm} {L ts : List Tok} {M M' : Mem} {F : Nat} (h : TQ A L ts M) (j : Nat) (hj : j ≤ ts.length) (hf : Fr F M M') (e : mI M' 11 0 43 = mI M 11 0 43 + Int32.ofNat j) (h1 : F.testBit (cd 11 42) = false := by rfl) (h2 : F.testBit 411 = false := by rfl) (h3 : F.testBit 107 = false := by rfl) (h4 : F.testBit 108 = false := by rfl) (l2 : F.testBit (5000 + 411) = false := by rfl) (l3 : F.testBit (5000 + 107) = false := by rfl) (l4 : F.testBit (5000 + 108) = false := by rfl) (hk : kOk F = true := by rfl) : TQ A L (ts.drop j) M' := by
  obtain ⟨⟨a, b, c⟩, k, e1, e2, e3⟩ := h
  have hl : ts.length = L.length - k := by rw [e2, List.length_drop]
  exact ⟨⟨a.fr hf h1 h2 h3 h4 l2 l3 l4, b.fr hf hk, c⟩, k + j, by rw [e, e1, oN_add], by rw [e2, List.drop_drop], by omega⟩
/-- a method with more labels -/
abbrev pL (p : PM) (ls : List Lb) : PM := (p.1, p.2.1, p.2.2.1, p.2.2.2.1 ++ ls, p.2.2.2.2)
theorem tLb.add {A : List Nm} {LS : List Lb} {M M' : Mem} {nm : Nm} {at' line : Nat} (h : tLb A LS M) (hm : nm ∈ A) (ha : at' ≤ 80) (e5 : mI M' 11 0 60 = Int32.ofNat (LS.length + 1)) (l1 : LS.length + 1 ≤ rl M' sLn ∧ LS.length + 1 ≤ rl M' sLa) (l2 : rl M' sLn ≤ 8000 ∧ rl M' sLa ≤ 8000) (e1 : ∀ k, k ≤ LS.length → rd M' sLn k = if k = LS.length then nc A nm else rd M sLn k) (e2 : ∀ k, k ≤ LS.length → rd M' sLa k = if k = LS.length then Int32.ofNat at' else rd M sLa k) : tLb A (LS ++ [(nm, at', line)]) M' := by
  have hl : (LS ++ [(nm, at', line)]).length = LS.length + 1 := by simp
  refine ⟨by rw [hl]; exact e5, by rw [hl]; exact l1, l2, fun i hi => ?_⟩
  rw [hl] at hi
  rw [e1 i (by omega), e2 i (by omega)]
  by_cases c : i < LS.length
  · have g : glb (LS ++ [(nm, at', line)]) i = glb LS i := by simp [glb, List.getD_eq_getElem?_getD, List.getElem?_append_left c]
    rw [if_neg (by omega), if_neg (by omega), g]; exact h.2.2.2 i c
  · have ei : i = LS.length := by omega
    have g : glb (LS ++ [(nm, at', line)]) i = (nm, at', line) := by rw [ei]; simp [glb, List.getD_eq_getElem?_getD]
    rw [if_pos ei, if_pos ei, g]; exact ⟨⟨rfl, hm⟩, rfl, ha⟩
theorem tNi.of3 {A : List Nm} {NL : List Nine} {M M' : Mem} (h : tNi A NL M) (e : mI M' 11 0 64 = mI M 11 0 64) (r1 : (∀ k, rd M' sNn k = rd M sNn k) ∧ rl M' sNn = rl M sNn ∧ rdI M' sNn = rdI M sNn) (r2 : (∀ k, rd M' sNp k = rd M sNp k) ∧ rl M' sNp = rl M sNp ∧ rdI M' sNp = rdI M sNp) (r3 : (∀ k, rd M' sNm k = rd M sNm k) ∧ rl M' sNm = rl M sNm ∧ rdI M' sNm = rdI M sNm) : tNi A NL M' := by
  obtain ⟨⟨a, a'⟩, b, c, d⟩ := h
  refine ⟨⟨e.trans a, by rw [r3.2.1]; exact a'⟩, by rw [r1.2.1, r2.2.1, r3.2.1]; exact b, by rw [r1.2.1, r2.2.1, r3.2.1]; exact c, fun i hi => ?_⟩
  rw [r1.1, r2.1, r3.1]; exact d i hi
theorem JM.addLabel {G : List Sl} {US : UST} {A : List Nm} {S : List Sg} {W : List Cls} {w c : Nat} {br : Int32} {q0 nl0 nq nl nf nk : Nat} {p : PM} {NL : List Nine} {z : Nat × Nat × Nat × Nat × Nat × Nat} {L ts : List Tok} {M0 M : Mem} {n pl : Nat} {Q X : Mem → Prop} {k67 : Int32 → Mem → Prop} (h : JM G US A S W w c br q0 nl0 nq nl nf nk p NL z L ts M0 M) (hx : Gx G w) (hlen : p.2.2.2.1.length ≤ 3900) (hn : n ≤ 80) (h2 : (hd ts).1 = 2) (hl2 : 2 ≤ ts.length) (hQ : ∀ M', JM G US A S W w c br q0 nl0 nq nl nf nk (pL p [((hd ts).2.1, n, pl)]) NL z L ts.tail.tail M0 M' → k67 (Int32.ofNat n) M') : w_Model_codeLine_j120 0 Q X k67 (Int32.ofNat n) M := by
  obtain ⟨g1, g2, g3, g4, g5, g6⟩ := id h
  obtain ⟨-, -, -, m4, m5⟩ := XL_in hx.2.2.2.2.1
  obtain ⟨a, b, d, e⟩ := id g3.2.1
  have hTG := g5.1.1
  have hne : ts ≠ [] := fun q => by rw [q] at hl2; simp at hl2
  obtain ⟨k, k1, k2, ⟨k3, k4, k5⟩, k6, k7, -⟩ := g1.top hne
  have hv := k6.2.2.1 (Or.inl h2)
  unfold w_Model_codeLine_j120
  refine ⟨rdI M sLn, (hTG sLn m4).1.1, ?_⟩
  rw [a, lit32 1, oN_add]
  refine rm300 (s := sLn) (X := [sLn]) hx.1 hTG m4 (by simp) rfl (by omega) (by omega) (fun i3 M2 r1 f1 => ?_)
  have fr1 : Fr (287724615985440965458794678136059329065601673898977937679550706873822600720910104184224330452334632505066398528821115743546239988265425214780729768327433904187638733707140592015203836016720409797262037678641561245446221574655641153333187651609098710329941003825584030113765405961157123932768976632761263557862273595233321799276323219915537860208918694360056093605407667110977055296220158058209988384202312567422191708397454623472372937755539799002254127214040020619096795591065008034208014061606765594202542785143942548576241794192533346758629812272041305149977516768903618957555601251617596302492733427287688972513316900467071234224275428670264453789138760522984923377053345341672666239673560309152573107758514136348915625388231889844658359620373442381019338411939903554830792776368473128627976559451814766593549452090444345868940070581569457126866341914283818398332905769498545498328017821875034689104594329967979800458760791770356122138679717606285250036719038793175331153230987072222586264563089865332955324207105167108970487033975940153943504678375740162839862017206906695137678063405640398779148059158598968699132512794033723107558674707539361074598317626451827552915111058929331010636681328858741340902895213382566361183713319721874849345359873012373595426702619565466307454598770837125472575321261620328140984395860982962522152218191103035321631272355642809364437261394947906539802487418444421899487471407365340395040794943626832365521618204894829178542952869630026477054486425527489965326659384633994690500705871921543977416263487363004284212055664765489928085513360018644870864708829184) M (sR M2 11 0 58 (some (300, i3))) := Fr.wR rfl (f1.sub rfl)
  generalize hM1 : sR M2 11 0 58 (some (300, i3)) = M1 at fr1
  have r1 : Gr1 G [sLn] sLn (p.2.2.2.1.length + 1) M M1 := by rw [← hM1]; exact r1
  have b1 := r1.big (by omega) d.1
  have T1 := r1.1.1
  have x5 := r1.1.2.1 sLa m5 (by decide)
  refine ⟨rdI M1 sLa, (T1 sLa m5).1.1, ?_⟩
  rw [(fr1.I (f := 11) (k := 60) rfl 0).trans a, oN_add]
  refine rm300 (s := sLa) (X := [sLa]) hx.1 T1 m5 (by simp) rfl (by omega) (by omega) (fun i6 M5 r2 f2 => ?_)
  have fr2 : Fr (287724615985440965458794678136059329065601673898977937679550706873822600720910104184224330452334632505066398528821115743546239988265425214780729768327433904187638733707140592015203836016720409797262037678641561245446221574655641153333187651609098710329941003825584030113765405961157123932768976632761263557862273595233321799276323219915537860208918694360056093605407667110977055296220158058209988384202312567422191708397454623472372937755539799002254127214040020619096795591065008034208014061606765594202542785143942548576241794192533346758629812272041305149977516768903618957555601251617596302492733427287688972513886704965125134671261792100076978967950810033792360265555923387514259495006456222481135553966668780208436090401637014119719954443626928969861770347288997721717596920447962014727524578873075618521693323067604196638141534407616061315558514436613335836812864508803655229852342068809352220603722460872798192285447088221660492974839956980253805799501946685606867068112054925035804472195581848859137362244357095080647162785489312451182911422167119212330581286585000532105033282446840913038670225369557298257597215133360204631093875360546025271990567286881785019126750505555981505100111451684027999611873099547294316394111767804015881879608250279835832819106147549265757064674315039956548065493880996077545008717097207162642860253681930946709572534887999882563410018751649266471832106819618563212093197880783073290843460502358499383462617297301250726025458988371558964524778527850489405048836034255903210854949599881832463619213868918161640999168456174796378066416597088997074640650108928) M1 (sR M5 11 0 59 (some (300, i6))) := Fr.wR rfl (f2.sub rfl)
  generalize hM3 : sR M5 11 0 59 (some (300, i6)) = M3 at fr2
  have r2 : Gr1 G [sLa] sLa (p.2.2.2.1.length + 1) M1 M3 := by rw [← hM3]; exact r2
  have b2' := r2.big (by omega) (by omega)
  have T3 := r2.1.1
  have y4 := r2.1.2.1 sLn m4 (by decide)
  have e60 : mI M3 11 0 60 = Int32.ofNat p.2.2.2.1.length := (fr2.I (f := 11) (k := 60) rfl 0).trans ((fr1.I (f := 11) (k := 60) rfl 0).trans a)
  have e43 : mI M3 11 0 43 = Int32.ofNat k := (fr2.I (f := 11) (k := 43) rfl 0).trans ((fr1.I (f := 11) (k := 43) rfl 0).trans k2)
  have e107 : mI M3 107 0 k = nc A (hd ts).2.1 := (fr2.Ia (f := 107) rfl rfl 0 k).trans ((fr1.Ia (f := 107) rfl rfl 0 k).trans hv.1)
  have l107 : mL M3 107 0 = 6002 := (fr2.L (f := 107) rfl 0).trans ((fr1.L (f := 107) rfl 0).trans k4)
  have gg : GF G [sLn, sLa] M M3 := (r1.1.sub (by simp)).trans (r2.1.sub (by simp))
  have n12 : rdI M3 sLn ≠ rdI M3 sLa := fun q => (T3 sLa m5).2 sLn m4 (by decide) rfl q
  have el1 : mL M3 300 (rdI M3 sLn) = rl M3 sLn := rfl
  have el2 : mL M3 300 (rdI M3 sLa) = rl M3 sLa := rfl
  have tl : (Int32.ofNat p.2.2.2.1.length).toNatClampNeg = p.2.2.2.1.length := oN_tnc (by omega)
  have tk : (Int32.ofNat k).toNatClampNeg = k := oN_tnc (by omega)
  refine ⟨rdI M3 sLn, (T3 sLn m4).1.1, ?_⟩
  simp only [mI_sI, mI_sR, mI_sJ, mR_sI, mL_sI, mL_sR, mR_sR, Nat.reduceEqDiff, and_false, false_and, if_false, and_self, true_and, and_true, if_true, e60, e43, tl, tk, e107]
  refine ⟨(vp_oN (by omega)).mpr (by omega), (vp_oN (by omega)).mpr (by rw [el1, y4.2.1]; omega), _, rfl, rdI M3 sLa, (T3 sLa m5).1.1, ?_⟩
  simp only [mI_sI, mI_sR, mI_sJ, mR_sI, mL_sI, mL_sR, mR_sR, Nat.reduceEqDiff, and_false, false_and, if_false, and_self, true_and, and_true, if_true, e60, e43, tl]
  refine ⟨(vp_oN (by omega)).mpr (by rw [el2]; omega), _, rfl, ?_⟩
  simp only [mI_sI, mI_sR, mI_sJ, mR_sI, mL_sI, mL_sR, mR_sR, Nat.reduceEqDiff, and_false, false_and, if_false, and_self, true_and, and_true, if_true, e60, e43, tl]
  rw [oN_add]
  have w1 := (GF.rf (X := [sLn, sLa]) T3).wr (s := sLn) (k := p.2.2.2.1.length) (v := nc A (hd ts).2.1) m4 (by simp) rfl
  have w2 := w1.wr (s := sLa) (k := p.2.2.2.1.length) (v := Int32.ofNat n) m5 (by simp) rfl
  have fr3 : Fr (2279235381268887124262805598016879661939445969545384987997388067706150901985127748038167282465864673907437924520936580020298718819223152089213381380066278678477602526151454063956483689868253285057910205096108188472642317751202592493421909454934595923275257319242512446291740479077813775823523605410377840328956693565729302936036103987554336837623415716085165618017767537591154483917652031150123848622336485444078885521792976291383690189482648503231721398779141036768254108440773773362376369988065830389912229300614621360300578466538772471459788200120111540794623327261198738427892348909875433867244216103191750283586297164015855632371141161440363822464221906144569663739984292531663748882926618579151418452679309527051439341305215052165271762204090535138212775421597819530362497063296454597997143128975906489610070275257439912188127869842129256993851455743679435125537009514846971518092651243871004738290911713065709850986140904555503615749521101466960711406688200467511679448514560) M3 (sI (sI (sI (sI M3 300 (rdI M3 sLn) p.2.2.2.1.length (nc A (hd ts).2.1)) 300 (rdI M3 sLa) p.2.2.2.1.length (Int32.ofNat n)) 11 0 60 (Int32.ofNat (p.2.2.2.1.length + 1))) 11 0 43 (Int32.ofNat k + 2)) := Fr.wI rfl (Fr.wI rfl (Fr.wIa rfl rfl (Fr.wIa rfl rfl (Fr.rf _ _))))
  have fr9 : ∀ M9 v1 v2, Fr (2279235381268887124262805598016879661939445969545384987997388067706150901985127748038167282465864673907437924520936580020298718819223152089213381380066278678477602526151454063956483689868253285057910205096108188472642317751202592493421909454934595923275257319242512446291740479077813775823523605410377840328956693565729302936036103987554336837623415716085165618017767537591154483917652031150123848622336485444078885521792976291383690189482648503231721398779141036768254108440773773362376369988065830389912229300614621360300578466538772471459788200120111540794623327261198738427892348909875433867244216103191750283586297164015855632371141161440363822464221906144569663739984292531663748882926618579151418452679309527051439341305215052165271762204090535138212775421597819530362497063296454597997143128975906489610070275257439912188127869842129256993851455743679435125537009514846971518092651241833968761956425626797264162576762743504035222083584850830820262052306900704174973265117184) M9 (sI (sI M9 11 0 60 v1) 11 0 43 v2) := fun M9 v1 v2 => Fr.wI rfl (Fr.wI rfl (Fr.rf _ _))
  have hg : GF G [sLn, sLa] M (sI (sI (sI (sI M3 300 (rdI M3 sLn) p.2.2.2.1.length (nc A (hd ts).2.1)) 300 (rdI M3 sLa) p.2.2.2.1.length (Int32.ofNat n)) 11 0 60 (Int32.ofNat (p.2.2.2.1.length + 1))) 11 0 43 (Int32.ofNat k + 2)) := (gg.trans w2).fr (fr9 _ (Int32.ofNat (p.2.2.2.1.length + 1)) (Int32.ofNat k + 2)) hx.1
  have hf : Fr (287724615985440965458794678136059329065601673898977937679550706873822600720910104184224330452334632505066398528821115743546239988265425214780729768327433904187638733707140592015203836016720409797262037678641561245446221574655641153333187651609098710329941003825584030113765405961157123932768976632761263557862273595233321799276323219915537860208918694360056093605407667110977055296220158058209988384202312567422191708397454623472372937755539799002254127214040020619096795591065008034208014061606765594202542785143942548576241794192533346758629812272041305149977516768903618957555601251617596302492733427287688972516735744844447922242510961127906383808702305514145182142055889501062003652324479883847865282640688097975394479935978718415080268086103567647917583662704370567082003590678904964783556288162589755507747399140872235879985315984865257997672596413877449198568080567351277407668406794821483527926374197187994424441090078238694166747036300341776698399908270294123568601010890315440177163745725863535443248903945508496402724058795661039806008355441146765053021954742235405840642609928815200660568761568581458205974146773301307514929654480091461940842605147431854026133013279443830737991433923419190092188095201815214021888096513050172770046227768708738434033973897439209776338489843535319287304549426990406100451491012740889815007630477973910262785559624447490900595551529948445934224223284089159122696067483176712676256196336347606313591744259549801530501816562856770887120607639688335816289105335119645699971149753468918213984741013216823033008364832434933648309372141060053453389856505856) M (sI (sI (sI (sI M3 300 (rdI M3 sLn) p.2.2.2.1.length (nc A (hd ts).2.1)) 300 (rdI M3 sLa) p.2.2.2.1.length (Int32.ofNat n)) 11 0 60 (Int32.ofNat (p.2.2.2.1.length + 1))) 11 0 43 (Int32.ofNat k + 2)) := ((fr1.sub rfl).trans (fr2.sub rfl)).trans (fr3.sub rfl)
  generalize hM9 : sI (sI (sI (sI M3 300 (rdI M3 sLn) p.2.2.2.1.length (nc A (hd ts).2.1)) 300 (rdI M3 sLa) p.2.2.2.1.length (Int32.ofNat n)) 11 0 60 (Int32.ofNat (p.2.2.2.1.length + 1))) 11 0 43 (Int32.ofNat k + 2) = M9 at hg hf
  refine hQ M9 ?_
  have dW : ∀ s ∈ XW w, s ∉ [sLn, sLa] := fun s hs q => by
    simp only [List.mem_cons, List.not_mem_nil, or_false] at hs q
    rcases hs with e | e | e | e | e | e | e | e | e | e <;> rcases q with q | q <;> (rw [e] at q; cases q)
  have hw := hx.2.2.2.1
  obtain ⟨m1, m2, m3, -, -⟩ := XL_in hx.2.2.2.2.1
  have z1 := hg.2.1 sNn m1 (by decide)
  have z2 := hg.2.1 sNp m2 (by decide)
  have z3 := hg.2.1 sNm m3 (by decide)
  refine ⟨?_, g2.gf hf hg hw dW, ⟨g3.1.gf hf hg hw dW, g3.2.1.add (M' := M9) (line := pl) hv.2 hn ?_ ⟨?_, ?_⟩ ⟨?_, ?_⟩ (fun j hj => ?_) (fun j hj => ?_), ?_⟩, g4.gf hf hg hx ?_, g5.gf hf hg hw dW ?_, (hf.I (f := 11) (k := 51) rfl 0).trans g6⟩
  · have e2 : ts.drop 2 = ts.tail.tail := by
      cases ts with
      | nil => rfl
      | cons x l => cases l <;> rfl
    rw [← e2]
    refine g1.to 2 hl2 hf ?_
    rw [← hM9, k2]; simp only [mI_sI, mI_sR, mI_sJ, mR_sI, mL_sI, mL_sR, mR_sR, Nat.reduceEqDiff, and_false, false_and, if_false, and_self, true_and, and_true, if_true]; rfl
  · rw [← hM9]; simp only [mI_sI, mI_sR, mI_sJ, mR_sI, mL_sI, mL_sR, mR_sR, Nat.reduceEqDiff, and_false, false_and, if_false, and_self, true_and, and_true, if_true]
  · rw [← hM9]; show p.2.2.2.1.length + 1 ≤ rl M3 sLn; rw [y4.2.1]; exact b1.2.1
  · rw [← hM9]; exact b2'.2.1
  · rw [← hM9]; show rl M3 sLn ≤ 8000; rw [y4.2.1]; exact b1.1
  · rw [← hM9]; exact b2'.1
  · rw [← hM9]
    show mI _ 300 (rdI M3 sLn) j = _
    simp only [mI_sI, mI_sR, mI_sJ, mR_sI, mL_sI, mL_sR, mR_sR, Nat.reduceEqDiff, and_false, false_and, if_false, and_self, true_and, and_true, if_true, n12]
    by_cases ej : j = p.2.2.2.1.length
    · rw [if_pos ej, if_pos ej]
    · rw [if_neg ej, if_neg ej]
      exact (y4.1 j).trans (r1.2.2.1 j (by omega))
  · rw [← hM9]
    show mI _ 300 (rdI M3 sLa) j = _
    simp only [mI_sI, mI_sR, mI_sJ, mR_sI, mL_sI, mL_sR, mR_sR, Nat.reduceEqDiff, and_false, false_and, if_false, and_self, true_and, and_true, if_true, n12.symm]
    by_cases ej : j = p.2.2.2.1.length
    · rw [if_pos ej, if_pos ej]
    · rw [if_neg ej, if_neg ej]
      exact (r2.2.2.1 j (by omega)).trans (x5.1 j)
  · refine g3.2.2.of3 (hf.I (f := 11) (k := 64) rfl 0) z1 z2 z3
  · intro s hs q
    simp only [List.mem_cons, List.not_mem_nil, or_false] at hs q
    rcases hs with e | e | e | e | e | e | e | e | e <;> rcases q with q | q <;> (rw [e] at q; exact absurd q (by decide))
  · intro s hs
    simp only [List.mem_cons, List.not_mem_nil, or_false] at hs ⊢
    rcases hs with e | e <;> simp [e]
theorem TQ.at {A : List Nm} {L ts : List Tok} {M : Mem} (h : TQ A L ts M) {j : Nat} (hj : j < ts.length) : ∃ k, mI M 11 0 43 = Int32.ofNat k ∧ k + ts.length = L.length ∧ (L.length ≤ 6002 ∧ mL M 411 0 = 6002 ∧ mL M 107 0 = 6002 ∧ mL M 108 0 = 6002) ∧ tokT A (gt ts j) (mI M 411 0 (k + j)) (mI M 107 0 (k + j)) (mI M 108 0 (k + j)) ∧ (gt ts j).1 < 100 := by
  obtain ⟨⟨⟨a, b, c⟩, -, -, h4, h5⟩, k, e1, e2, e3⟩ := h
  have hl : ts.length = L.length - k := by rw [e2, List.length_drop]
  have eg : gt ts j = gt L (k + j) := by
    show ts.getD j _ = L.getD (k + j) _
    rw [e2, List.getD_eq_getElem?_getD, List.getElem?_drop, List.getD_eq_getElem?_getD]
  have hm : gt L (k + j) ∈ L := by
    show L.getD (k + j) _ ∈ L
    rw [List.getD_eq_getElem?_getD, List.getElem?_eq_getElem (by omega)]; exact List.getElem_mem _
  exact ⟨k, e1, by omega, ⟨h4, b⟩, by rw [eg]; exact c (k + j) (by omega), by rw [eg]; exact h5 _ hm⟩
/-- labels that were told before break rule 9 -/
def dnL (LS : List Lb) (n pl : Nat) : List Nm → List Nine
  | [] => []
  | nm :: r => (if (lbl LS nm).isSome then [((0 : Nat), ([] : Nm), (0 : Nat), pl, false)] else []) ++ dnL (LS ++ [(nm, n, pl)]) n pl r
theorem dnL_app : ∀ (l : List Nm) (LS : List Lb) (n pl : Nat) (nm : Nm), dnL LS n pl (l ++ [nm]) = dnL LS n pl l ++ (if (lbl (LS ++ l.map (fun x => (x, n, pl))) nm).isSome then [((0 : Nat), ([] : Nm), (0 : Nat), pl, false)] else [])
  | [], LS, n, pl, nm => by simp [dnL]
  | a :: l, LS, n, pl, nm => by
    show (if (lbl LS a).isSome then _ else _) ++ dnL (LS ++ [(a, n, pl)]) n pl (l ++ [nm]) = _
    rw [dnL_app l]
    show _ = ((if (lbl LS a).isSome then _ else _) ++ dnL (LS ++ [(a, n, pl)]) n pl l) ++ _
    rw [List.append_assoc, List.map_cons, List.append_assoc]; rfl
theorem dnL_len : ∀ (l : List Nm) (LS : List Lb) (n pl : Nat), (dnL LS n pl l).length ≤ l.length
  | [], LS, n, pl => by simp [dnL]
  | a :: l, LS, n, pl => by
    show ((if (lbl LS a).isSome then _ else _) ++ dnL (LS ++ [(a, n, pl)]) n pl l).length ≤ _
    have := dnL_len l (LS ++ [(a, n, pl)]) n pl
    rw [List.length_append, List.length_cons]
    split
    · simp; omega
    · simp; omega
theorem gt0 {ts : List Tok} (h : ts ≠ []) : gt ts 0 = hd ts := by
  cases ts with
  | nil => exact absurd rfl h
  | cons a l => rfl
theorem gt1 {ts : List Tok} (h : 1 < ts.length) : gt ts 1 = hd ts.tail := by
  match ts, h with
  | [a], h => simp at h
  | a :: b :: l, _ => rfl
theorem lbl_at {nm : Nm} {v : Nat} : ∀ {l : List Lb}, lbl l nm = some v → ∃ i, i < l.length ∧ (glb l i).2.1 = v ∧ (glb l i).1 = nm
  | [], h => by cases h
  | x :: l, h => by
    unfold lbl at h
    by_cases c : x.1 = nm
    · rw [if_pos c] at h; exact ⟨0, by simp, Option.some.inj h, c⟩
    · rw [if_neg c] at h
      obtain ⟨i, a, b⟩ := lbl_at h
      exact ⟨i + 1, by simpa using a, b⟩
theorem lbl_le {A : List Nm} {LS : List Lb} {M : Mem} {nm : Nm} {v : Nat} (h : tLb A LS M) (e : lbl LS nm = some v) : v ≤ 80 := by
  obtain ⟨i, a, b, -⟩ := lbl_at e
  rw [← b]; exact (h.2.2.2 i a).2.2
theorem JM.labels {G : List Sl} {US : UST} {A : List Nm} {S : List Sg} {W : List Cls} {w c : Nat} {br : Int32} {q0 nl0 nq nl nf nk : Nat} {p : PM} {NL : List Nine} {z : Nat × Nat × Nat × Nat × Nat × Nat} {L : List Tok} {M0 M : Mem} {n : Nat} {Q X : Mem → Prop} (h : JM G US A S W w c br q0 nl0 nq nl nf nk p NL z L L M0 M) (hx : Gx G w) (hz : lz L) (hn : n ≤ 80) (hb : p.2.2.2.1.length + L.length ≤ 3900 ∧ NL.length + L.length ≤ 3900)
    (hQ : ∀ ls t1 M', pLabels (L.length + 1) [] L = (ls, t1) → t1 ≠ [] → ls.length + t1.length ≤ L.length → (ls = [] → t1 = L) → (ls ≠ [] → t1.length < L.length) → JM G US A S W w c br q0 nl0 nq nl nf nk (pL p (ls.map (fun nm => (nm, n, (hd L).2.2.2)))) (NL ++ dnL p.2.2.2.1 n (hd L).2.2.2 ls) z L t1 M0 M' → w_Model_codeLine_j205 0 Q X (Int32.ofNat n) M') : ∃ d, w_Model_codeLine_L67 0 Q X d (Int32.ofNat n) M := by
  have hL : L ≠ [] := by obtain ⟨i, z, e, -⟩ := hz; rw [e]; simp
  have hAl := h.1.1.2.2.1
  have main : ∀ d acc ts M1, ts.length < d → ts ≠ [] → acc.length + ts.length ≤ L.length → (acc = [] → ts = L) → (acc ≠ [] → ts.length < L.length) → JM G US A S W w c br q0 nl0 nq nl nf nk (pL p (acc.map (fun nm => (nm, n, (hd L).2.2.2)))) (NL ++ dnL p.2.2.2.1 n (hd L).2.2.2 acc) z L ts M0 M1 → pLabels (L.length + 1) [] L = pLabels d acc ts → w_Model_codeLine_L67 0 Q X d (Int32.ofNat n) M1 := by
    intro d
    induction d with
    | zero => intro acc ts M1 h; omega
    | succ d ih =>
      intro acc ts M1 hd' hne hlen ha1 ha2 hJ hp
      have hl0 : 0 < ts.length := List.length_pos_iff.mpr hne
      obtain ⟨k, k1, k2, ⟨k3, k4, k5, k6⟩, k7, k8⟩ := hJ.1.at hl0
      rw [gt0 hne] at k7 k8
      rw [Nat.add_zero] at k7
      have tk : (Int32.ofNat k).toNatClampNeg = k := oN_tnc (by omega)
      unfold w_Model_codeLine_L67
      rw [k1, k4, tk, k7.1]
      refine ⟨(vp_oN (by omega)).mpr (by omega), ?_⟩
      rw [show pLabels (d + 1) acc ts = if (hd ts).1 = 2 ∧ (hd ts.tail).1 = 58 then pLabels d (acc ++ [(hd ts).2.1]) ts.tail.tail else (acc, ts) from rfl] at hp
      by_cases c2 : (hd ts).1 = 2
      · refine itp (by rw [c2]; rfl) ?_
        have hne2 : ts.tail ≠ [] := tl_ne hJ.1 hz hne (by omega)
        have hl1 : 1 < ts.length := by
          have : 0 < ts.tail.length := List.length_pos_iff.mpr hne2
          rw [List.length_tail] at this; omega
        obtain ⟨k', q1, q2, -, q3, q4⟩ := hJ.1.at hl1
        have ek : k' = k := by omega
        subst ek
        rw [gt1 hl1] at q3 q4
        rw [lit32 1, oN_add, oN_tnc (k := k' + 1) (by omega), q3.1]
        refine ⟨(vp_oN (by omega)).mpr (by omega), ?_⟩
        by_cases c58 : (hd ts.tail).1 = 58
        · refine itp (by rw [c58]; rfl) ?_
          rw [if_pos ⟨c2, c58⟩] at hp
          have hv := k7.2.2.1 (Or.inl c2)
          have e107 : mI M1 107 0 k' = nc A (hd ts).2.1 := hv.1
          rw [k5, e107]
          refine ⟨(vp_oN (by omega)).mpr (by omega), ?_⟩
          have hdl := dnL_len acc p.2.2.2.1 n (hd L).2.2.2
          have htt : ts.tail.tail ≠ [] := by
            refine lz_tl hz ((List.tail_suffix ts).trans hJ.1.suf) hne2 (by omega)
          have hltt : ts.tail.tail.length + 2 = ts.length := by rw [List.length_tail, List.length_tail]; omega
          have nxt : ∀ NL2 M2, JM G US A S W w c br q0 nl0 nq nl nf nk (pL p (acc.map (fun nm => (nm, n, (hd L).2.2.2)))) NL2 z L ts M0 M2 → NL2 = NL ++ dnL p.2.2.2.1 n (hd L).2.2.2 (acc ++ [(hd ts).2.1]) → w_Model_codeLine_j120 0 Q X (w_Model_codeLine_L67 0 Q X d) (Int32.ofNat n) M2 := by
            intro NL2 M2 hJ2 eN
            refine hJ2.addLabel (pl := (hd L).2.2.2) hx ?_ hn c2 (by omega) (fun M' h' => ?_)
            · show (p.2.2.2.1 ++ acc.map _).length ≤ 3900
              rw [List.length_append, List.length_map]; omega
            · refine ih (acc ++ [(hd ts).2.1]) ts.tail.tail M' (by omega) htt (by rw [List.length_append]; simp; omega) (fun q => by simp at q) (fun _ => by omega) ?_ hp
              rw [eN] at h'
              have ep : pL (pL p (acc.map (fun nm => (nm, n, (hd L).2.2.2)))) [((hd ts).2.1, n, (hd L).2.2.2)] = pL p ((acc ++ [(hd ts).2.1]).map (fun nm => (nm, n, (hd L).2.2.2))) := by
                rw [List.map_append]; simp [pL]
              rw [ep] at h'; exact h'
          refine ct_labelOf hx.2.2.2.2.1 hJ.2.2.2.2.1.1.1 hJ.2.2.1.2.1 hAl hv.2 ?_
          have elb : (pL p (acc.map (fun nm => (nm, n, (hd L).2.2.2)))).2.2.2.1 = p.2.2.2.1 ++ acc.map (fun nm => (nm, n, (hd L).2.2.2)) := rfl
          rw [elb]
          cases el : lbl (p.2.2.2.1 ++ acc.map (fun nm => (nm, n, (hd L).2.2.2))) (hd ts).2.1 with
          | none =>
            refine itp (by decide) (nxt _ M1 hJ ?_)
            rw [dnL_app, el]; simp
          | some v =>
            have hv80 : v ≤ 80 := lbl_le hJ.2.2.1.2.1 el
            refine itn (oN_nonneg (by omega)) ?_
            have := hJ.addNine (x := (0, [], 0, (hd L).2.2.2, false)) (Q := fun M' => w_Model_codeLine_j120 0 Q X (w_Model_codeLine_L67 0 Q X d) (Int32.ofNat n) M') hx hL (by rw [List.length_append]; omega) rfl (fun q => absurd q (by omega)) ⟨Nat.le_of_ble_eq_true rfl, Nat.le_of_ble_eq_true rfl⟩ (fun M' h' _ => nxt _ M' h' (by rw [dnL_app, el]; simp))
            exact this
        · refine itn (ne_oN (b := 58) c58 (by omega) (by omega)) ?_
          rw [if_neg (fun q => c58 q.2)] at hp
          exact hQ acc ts M1 hp hne hlen ha1 ha2 hJ
      · refine itn (ne_oN (b := 2) c2 (by omega) (by omega)) ?_
        rw [if_neg (fun q => c2 q.1)] at hp
        exact hQ acc ts M1 hp hne hlen ha1 ha2 hJ
  refine ⟨_, main (L.length + 1) [] L M (by omega) hL (by simp) (fun _ => rfl) (fun q => absurd rfl q) ?_ rfl⟩
  have e1 : pL p (([] : List Nm).map (fun nm => (nm, n, (hd L).2.2.2))) = p := by simp [pL]
  have e2 : NL ++ dnL p.2.2.2.1 n (hd L).2.2.2 [] = NL := by simp [dnL]
  rw [e1, e2]; exact h
