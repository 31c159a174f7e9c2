/-! THE OPERATION trial, in the works -/
section
variable {BB A A' : List Nm} {B F r n to : Nat} {T : List Trl} {L : Trl} {M M' : Mem} {Q : Int32 → Mem → Prop} {Q' X : Mem → Prop} {p : Nat → Int32} {tp : List Int32} {ts : List Tok} {a : Int32}
abbrev STr : Nat := SRd ||| F_World_begin ||| F_Reader_call ||| (2579985796487875532070726291498594643088831709300083774353777489398629173594706499440666910117686393350595038745519484540178257086864210220079225619910598393111189454413887963869044550651455249765718449834913740068905291845273578449836667471908190593155820352519076539590473899084348503217385066881324036365448417097174924149150433788977159384009957629374733542057709667876535543037049339603715841738490159362757655132686672284561768462935160681149478806281735198453770154269258652619079485830537861945460398504659157688098317788857017962616027680078705194571249951309217605180422561963475295137589358330548588736156184983851760494042715555363018159641502669027472665192396163048696790520288001312490860940763686524013108023750355698292380885377758651536068013057906302432297593577781913823432492636970995067211001517545604646516988117571076950273531603523703999093097955744967864865046450584413570836123877376)
/-- a row that no trial holds was written -/
theorem WkT.keep (h : WkT BB A B F T M) (hn : T.length < 40) (hN : NC BB A' M') (hf : Fr STr M M') (hr : mR M 701 0 T.length = some (400, r)) (o400 : ∀ q k, q ≠ r → q ≠ 0 → mI M' 400 q k = mI M 400 q k) : WkT BB A' B F T M' := by
  obtain ⟨hW, ⟨hX, hK⟩, hT⟩ := h
  obtain ⟨⟨e10, h40⟩, ⟨l701, l98⟩, π, hr', hi, hx⟩ := hX
  have er : π T.length = r := by
    have := (hr' T.length hn).1.symm.trans hr
    cases this; rfl
  refine ⟨hW.rd hN hf, ⟨⟨⟨(hf.I (f := 10) (k := 10) rfl 0).trans e10, h40⟩, ⟨(hf.L (f := 701) rfl 0).trans l701, (hf.L (f := 98) rfl 0).trans l98⟩, π, fun t ht => ?_, hi, fun t ht => ?_⟩, ⟨(hf.L (f := 516) rfl 0).trans hK.1.1, (hf.L (f := 99) rfl 0).trans hK.1.2.1, (hf.L (f := 100) rfl 0).trans hK.1.2.2⟩, fun t k ht hk h3 => ?_⟩, hT⟩
  · rw [hf.Ra (f := 701) rfl rfl, hf.L (f := 400) rfl]; exact hr' t ht
  · obtain ⟨⟨x1, x2⟩, x3⟩ := hx t ht
    rw [List.length_map] at ht
    refine ⟨⟨(hf.Ia (f := 98) rfl rfl 0 t).trans x1, x2⟩, fun q hq => ?_⟩
    rw [o400 (π t) q (fun z => by have := hi t T.length (by omega) hn (z.trans er.symm); omega) (hr' t (by omega)).2.2.1]
    exact x3 q hq
  · rw [hf.Ia (f := 516) rfl rfl] at h3
    rw [hf.Ia (f := 99) rfl rfl, hf.Ia (f := 100) rfl rfl]
    exact hK.2 t k ht hk h3
theorem c_wtrial (h : WkT BB A B F T M) (hTp : tpC tp M) (hb : ∀ k, k < tp.length → (gi tp k).toInt8.toInt32 = gi tp k) (hB : ∀ l ∈ lns (pT tp) tp.length 0, NB BB l)
    (hQ : ∀ A' M', A <+: A' → WkT BB A' B F (triO T tp).2.2.2 M' → tpC (triO T tp).2.2.1 M' → mI M' 10 0 21 = ((triO T tp).2.1).getD (mI M 10 0 21) → Q (triO T tp).1 M') : w_Works_trial 0 Q M := by
  have h40 := h.n
  obtain ⟨t1, t2, t3, t4⟩ := id hTp
  have hp := pT_end tp
  unfold triO at hQ
  unfold w_Works_trial
  rw [h40.1, t1]
  by_cases c40 : T.length = 40
  · rw [if_pos (Or.inl c40)] at hQ
    exact itp (by rw [c40]; rfl) (hQ A M List.prefix_rfl h hTp rfl)
  refine itn (fun z => c40 ((oN_inj (by omega) (by omega)).mp (z.trans (lit32 40)))) ?_
  by_cases cn : 1200 < tp.length
  · rw [if_pos (Or.inr (Or.inl cn))] at hQ
    exact itp (lt_oN (a := 1200) cn (by omega)) (hQ A M List.prefix_rfl h hTp rfl)
  refine itn (nlt_oN (b := tp.length) (a := 1200) (by omega) (by omega)) ?_
  obtain ⟨r, hr, l1260, r0, r41, -⟩ := h.row (t := T.length) (by omega)
  have el : (trLs tp).length = (stL (pT tp) tp.length 0).length := by unfold trLs; rw [List.length_map]
  have hlen2 := tr_len (tp := tp)
  have hcnt : (trLs tp).length ≤ (txt (trLs tp)).length := by
    have : ∀ L : Trl, L.length ≤ (txt L).length := fun L => by
      induction L with
      | nil => exact Nat.le_refl _
      | cons l L ih => rw [txt_cons, List.length_cons, List.length_append, List.length_append, List.length_singleton]; omega
    exact this _
  refine c_linesOf h.1.1.1 hTp (by omega) hB (fun A3 M3 p3 n3 f3 => ?_)
  have e13 : mI M3 10 0 1 = Int32.ofNat tp.length := (f3.I (f := 10) (k := 1) rfl 0).trans t1
  have h3 : WkT BB A3 B F T M3 := h.keep (r := r) (by omega) n3 (f3.sub rfl) hr (fun q k _ _ => f3.Ia (f := 400) rfl rfl q k)
  by_cases c6 : (trLs tp).length ≤ 60
  rotate_left
  · rw [if_pos (Or.inr (Or.inr (by omega)))] at hQ
    refine itn (by rw [← el]; exact nle_oN (b := 60) (by omega) (by omega)) (hQ A3 M3 p3 h3 ⟨e13, (f3.L (f := 400) rfl 0).trans t2, t3, fun k hk => (f3.Ia (f := 400) rfl rfl 0 k).trans (t4 k hk)⟩ (f3.I (f := 10) (k := 21) rfl 0))
  rw [if_neg (fun z => z.elim c40 (fun z => z.elim cn (fun z => by omega)))] at hQ
  refine itp (by rw [← el]; exact le_oN (b := 60) c6 (by omega)) ?_
  rw [e13]
  have f4 : Fr (2579985796487875532070726291498594643088831709300083774353777489325133953944263833216041467707977628137130668651731758871107429111507460947528750067593273514242719941436161801647791507864820468079450139326919100792847231937670253329079316933843233858453569261211417031099003817280492047503702756652276953763561832556501203946786003351947976423275668119862996673555610439645541957291880556102770994695011449912129730589644814924939407460226216794858890573152560470273241806759109850167392540987875647873502828977890405652520733134869655331580276692575796147888777988863041777970629763134155326310967356491289638856243869373806226209858969284680190652601459439733580341461965597523910853015794023872245871946035480346469028246505914028170558634418913226414741906281706526594086295795999730309047011089874173630410007932908124185331240828973917880747042819976268070696305032284640395235375134669873157095139835904) M3 (sI (sI M3 10 0 1 0) 10 0 21 (-2)) := Fr.wI rfl (Fr.wI rfl (Fr.rf _ _))
  have e14 : mI (sI (sI M3 10 0 1 0) 10 0 21 (-2)) 10 0 1 = 0 := by rw [mI_sI, if_neg (fun z => absurd z.2.2 (by decide)), mI_sI, if_pos ⟨rfl, rfl, rfl⟩]
  have e214 : mI (sI (sI M3 10 0 1 0) 10 0 21 (-2)) 10 0 21 = -2 := by rw [mI_sI, if_pos ⟨rfl, rfl, rfl⟩]
  generalize sI (sI M3 10 0 1 0) 10 0 21 (-2) = M4 at f4 e14 e214 ⊢
  have fA : Fr (SRd ||| (2579985796487875532070726291498594643088831709300083774353777489325133953944263833216041467707977628137130668651731758871107429111507460947528750067593273514242719941436161801647791507864820468079450139326919100792847231937670253329079316933843233858453569261211417031099003817280492047503702756652276953763561832556501203946786003351947976423275668119862996673555610439645541957291880556102770994695011449912129730589644814924939407460226216794858890573152560470273241806759109850167392540987875647873502828977890405652520733134869655331580276692575796147888777988863041777970629763134155326310967356491289638856243869373806226209858969284680190652601459439733580341461965597523910853015794023872245871946035480346469028246505914028170558634418913226414741906281706526594086295795999730311629260967961082220065927104911136059660946621803141393577702176516915692713146226914285748515512966105776329067887329280)) M M4 := (f3.sub rfl).trans (f4.sub rfl)
  have o4 : ∀ q k, q ≠ r → mI M4 400 q k = mI M 400 q k := fun q k _ => (f4.Ia (f := 400) rfl rfl q k).trans (f3.Ia (f := 400) rfl rfl q k)
  have n4 : NC BB A3 M4 := n3.fr f4
  -- a refusal
  have j281 : ∀ A9 M9 e, triR tp = .inl e → A <+: A9 → NC BB A9 M9 → Fr STr M M9 → (∀ q k, q ≠ r → mI M9 400 q k = mI M 400 q k) → mI M9 10 0 1 = 0 → mI M9 9 0 6 = Int32.ofNat e.2 → w_Works_trial_j281 0 Q 0 M9 := fun A9 M9 e z1 z2 z3 z4 z5 z6 z7 => by
    unfold w_Works_trial_j281
    rw [z1] at hQ
    have f9 : Fr (2579983336024031209836372428380968089583802427872292300686345957089075633826662603870143916987841950950211503792433250767497612085739099151055102897428309383546057471517461089957756681818180245358116294077462621279086399068713621941729290107661719441072815674618099409773120168293515144050692149226444943070066015309095856984947295478321764950034863414373442865874654672343341312473276589126043388833930484936310203621448307043482037196137399067389382030727375526715953907785732826725289417047010086378593181424273477291126526967146030962883145647095404554523533577839350753809525742514054814707788657199433636588752920932376198843031154199122063132933707237025109972971772257439589411756970860867503375929174585976784831025864753192186145309924255782170564878994338711253365877470692389026785137095869832629059005183460126653319585670372471373797261595475997726917955234124817812210575586925516119058679857152) M9 (sI M9 10 0 21 (mI M9 9 0 6)) := Fr.wI rfl (Fr.rf _ _)
    refine hQ A9 _ z2 (h.keep (r := r) (by omega) (z3.fr f9) (z4.trans (f9.sub rfl)) hr (fun q k h1 _ => (f9.Ia (f := 400) rfl rfl q k).trans (z5 q k h1))) ⟨by rw [mI_sI, if_neg (fun z => absurd z.2.2 (by decide))]; exact z6, ((z4.trans (f9.sub rfl)).L (f := 400) rfl 0).trans t2, by simp, fun j hj => absurd hj (by simp)⟩ ?_
    rw [mI_sI, if_pos ⟨rfl, rfl, rfl⟩]; exact z7
  have none' : ∀ A5 M5, stL (pT tp) tp.length 0 = [] → A <+: A5 → NC BB A5 M5 → Fr (SRd ||| (2579985796487875532070726291498594643088831709300083774353777489325133953944263833216041467707977628137130668651731758871107429111507460947528750067593273514242719941436161801647791507864820468079450139326919100792847231937670253329079316933843233858453569261211417031099003817280492047503702756652276953763561832556501203946786003351947976423275668119862996673555610439645541957291880556102770994695011449912129730589644814924939407460226216794858890573152560470273241806759109850167392540987875647873502828977890405652520733134869655331580276692575796147888777988863041777970629763134155326310967356491289638856243869373806226209858969284680190652601459439733580341461965597523910853015794023872245871946035480346469028246505914028170558634418913226414741906281706526594086295795999730311629260967961082220065927104911136059660946621803141393577702176516915692713146226914285748515512966105776329067887329280)) M M5 → (∀ q k, q ≠ r → mI M5 400 q k = mI M 400 q k) → mI M5 10 0 1 = 0 → w_Works_trial_j89 0 Q (Int32.ofNat tp.length) 0 (-1) 0 0 M5 := fun A5 M5 z1 z2 z3 z4 z5 z6 => by
    unfold w_Works_trial_j89 w_Works_refuse
    have er : triR tp = .inl (1, tp.length) := by unfold triR; rw [if_pos z1]
    have f9 : Fr (73495219650442666224625442409708765213464370093787725669070827975356749272550475552317324878868469512977726162221253042786634781686268310507994639276058059907603325120757350538064956734702251091307659508491470081803856455713682310229047082601886584540673720202364430437029182960734289509511736868502099228230993585745168783500944847043478709450627924543041857359622361002708943886290588233129174728180528347510148802451686944842662214071957569526768752035577584653987362631035750987502909046682471962446175827209792798829319968826622001839258949879912315610045534284183746270682827507040043229293892323730430565524785937504493977440244988994728206177544079777244441670121822250958845425121326106776199775838211297781782183511803231669009912847145074412634468586856041495767935556695829427006788306379951728830682116349533484478637241768236548096) M5 (sI (sI M5 9 0 5 1) 9 0 6 (Int32.ofNat tp.length)) := Fr.wI rfl (Fr.wI rfl (Fr.rf _ _))
    refine itp rfl (j281 A5 _ _ er z2 (z3.fr f9) ((z4.sub rfl).trans (f9.sub rfl)) (fun q k h1 => (f9.Ia (f := 400) rfl rfl q k).trans (z5 q k h1)) ((f9.I (f := 10) (k := 1) rfl 0).trans z6) ?_)
    rw [mI_sI, if_pos ⟨rfl, rfl, rfl⟩]
  -- all lines are written
  have fin : ∀ d ds A5 M5, ds = stL (pT tp) tp.length 0 → ds ≠ [] → A <+: A5 → BT BB 0 tp.length (pT tp) A5 M5 → Fr (SRd ||| (2579985796487875532070726291498594643088831709300083774353777489325133953944263833216041467707977628137130668651731758871107429111507460947528750067593273514242719941436161801647791507864820468079450139326919100792847231937670253329079316933843233858453569261211417031099003817280492047503702756652276953763561832556501203946786003351947976423275668119862996673555610439645541957291880556102770994695011449912129730589644814924939407460226216794858890573152560470273241806759109850167392540987875647873502828977890405652520733134869655331580276692575796147888777988863041777970629763134155326310967356491289638856243869373806226209858969284680190652601459439733580341461965597523910853015794023872245871946035480346469028246505914028170558634418913226414741906281706526594086295795999730311629260967961082220065927104911136059660946621803141393577702176516915692713146226914285748515512966105776329067887329280)) M M5 → (∀ q k, q ≠ r → mI M5 400 q k = mI M 400 q k) → mI M5 10 0 1 = 0 → mI M5 10 0 21 = -2 → (∀ k, k < (txt (ds.map (rwL (pT tp) tp.length))).length → mI M5 400 r k = gi (txt (ds.map (rwL (pT tp) tp.length))) k) → w_Works_trial_L114 0 Q (d + 1) (Int32.ofNat tp.length) (Int32.ofNat (txt (ds.map (rwL (pT tp) tp.length))).length) (Int32.ofNat (ds.getLastD 0)) 0 0 r M5 := fun d ds A5 M5 z1 cd z2 z3 z4 z5 z6 z7 z8 => by
    have hs : ds.getLastD 0 ∈ stL (pT tp) tp.length 0 := by rw [← z1]; exact getLastD_in cd
    have hsn := st_le hp _ 0 (Nat.zero_le _) _ hs
    have eR : triR tp = runP (full (nl (pT tp) tp.length (ds.getLastD 0)) (tks (pT tp) tp.length (ds.getLastD 0))) := by
      unfold triR
      rw [← z1, if_neg cd, lns_st, ← z1, getLastD_map (e := 0) cd]
    have etr : ds.map (rwL (pT tp) tp.length) = trLs tp := by rw [z1]; rfl
    have hBs : NB BB (full (nl (pT tp) tp.length (ds.getLastD 0)) (tks (pT tp) tp.length (ds.getLastD 0))) := hB _ (lns_mem hs)
    rw [etr] at z8 ⊢
    generalize ds.getLastD 0 = s at hs hsn eR hBs ⊢
    clear z1 cd etr
    unfold w_Works_trial_L114
    refine itp rfl ?_
    unfold w_Words_begin
    refine ⟨_, rfl, c_tpBT (r := s) (Q' := fun M6 => w_Words_next 0 (fun M15 => w_Words_isWord 0 (78 : Int32) (fun r17 M16 => if r17 = 0 then (w_Works_refuse 0 (1 : Int32) (mI M16 2 0 4) (fun i20 M19 => w_Works_trial_j281 0 Q i20 M19) M16) else (w_Words_next 0 (fun M21 => w_World_begin 0 (0 : Int32) (fun M22 => w_Reader_call 0 0 (0 : Int32) (fun M23 => vp_in (mI M23 10 0 10) (mL M23 98 0) ∧ w_Works_forget 0 (mI (sI M23 98 0 (mI M23 10 0 10).toNatClampNeg (Int32.ofNat (txt (trLs tp)).length)) 10 0 10) (fun M25 => Q ((mI (sI M25 10 0 10 ((mI M25 10 0 10) + (1 : Int32))) 10 0 10) - (1 : Int32)) (sI M25 10 0 10 ((mI M25 10 0 10) + (1 : Int32)))) (sI M23 98 0 (mI M23 10 0 10).toNatClampNeg (Int32.ofNat (txt (trLs tp)).length))) (fun M26 => w_Works_trial_j281 0 Q 0 M26) M22) M21) M16)) M15) M6) z3.1 rfl rfl ⟨by rw [z4.L (f := 400) rfl, t2]; exact t3, fun k hk => (z5 0 k (fun z => r0 z.symm)).trans (t4 k hk)⟩ (by omega) (fun M6 b6 e6 f6 => ?_)⟩
    refine k_nextW (c_firstW b6 e6 hsn hBs (fun A7 M7 p7 r7 f7 => ?_))
    have g7 : Fr (SRd ||| (2579985796487875532070726291498594643088831709300083774353777489325133953944263833216041467707977628137130668651731758871107429111507460947528750067593273514242719941436161801647791507864820468079450139326919100792847231937670253329079316933843233858453569261211417031099003817280492047503702756652276953763561832556501203946786003351947976423275668119862996673555610439645541957291880556102770994695011449912129730589644814924939407460226216794858890573152560470273241806759109850167392540987875647873502828977890405652520733134869655331580276692575796147888777988863041777970629763134155326310967356491289638856243869373806226209858969284680190652601459439733580341461965597523910853015794023872245871946035480346469028246505914028170558634418913226414741906281706526594086295795999730311629260967961082220065927104911136059660946621803141393577702176516915692713146226914285748515512966105776329067887329280)) M M7 := (z4.trans (f6.sub rfl)).trans (f7.sub rfl)
    have i7 : ∀ q k, mI M7 400 q k = mI M5 400 q k := fun q k => (f7.Ia (f := 400) rfl rfl q k).trans (f6.Ia (f := 400) rfl rfl q k)
    have e17 : mI M7 10 0 1 = 0 := ((f7.I (f := 10) (k := 1) rfl 0).trans (f6.I (f := 10) (k := 1) rfl 0)).trans z6
    have e217 : mI M7 10 0 21 = -2 := ((f7.I (f := 10) (k := 21) rfl 0).trans (f6.I (f := 10) (k := 21) rfl 0)).trans z7
    have z57 : ∀ q k, q ≠ r → mI M7 400 q k = mI M 400 q k := fun q k hq => (i7 q k).trans (z5 q k hq)
    have z87 : ∀ k, k < (txt (trLs tp)).length → mI M7 400 r k = gi (txt (trLs tp)) k := fun k hk => (i7 r k).trans (z8 k hk)
    have p7' : A <+: A7 := z2.trans p7
    clear z3 z4 z5 z6 z7 z8 b6 e6 f6 f7 i7
    refine c_isWd (v := 78) (nm := nRun) r7 rfl (by decide) ?_
    generalize full (nl (pT tp) tp.length s) (tks (pT tp) tp.length s) = ts at r7 eR hBs ⊢
    unfold runP at eR
    by_cases cw : isWd nRun ts = true
    rotate_left
    · rw [if_neg cw] at eR
      rw [show isWd nRun ts = false by cases e : isWd nRun ts <;> simp_all]
      refine itp rfl ?_
      unfold w_Works_refuse
      have e24 : mI M7 2 0 4 = Int32.ofNat (hd ts).2.2.2 := r7.hd.1.1
      rw [e24]
      have f9 : Fr (73495219650442666224625442409708765213464370093787725669070827975356749272550475552317324878868469512977726162221253042786634781686268310507994639276058059907603325120757350538064956734702251091307659508491470081803856455713682310229047082601886584540673720202364430437029182960734289509511736868502099228230993585745168783500944847043478709450627924543041857359622361002708943886290588233129174728180528347510148802451686944842662214071957569526768752035577584653987362631035750987502909046682471962446175827209792798829319968826622001839258949879912315610045534284183746270682827507040043229293892323730430565524785937504493977440244988994728206177544079777244441670121822250958845425121326106776199775838211297781782183511803231669009912847145074412634468586856041495767935556695829427006788306379951728830682116349533484478637241768236548096) M7 (sI (sI M7 9 0 5 1) 9 0 6 (Int32.ofNat (hd ts).2.2.2)) := Fr.wI rfl (Fr.wI rfl (Fr.rf _ _))
      refine j281 A7 _ _ eR p7' (r7.1.fr f9) ((g7.sub rfl).trans (f9.sub rfl)) (fun q k h1 => (f9.Ia (f := 400) rfl rfl q k).trans (z57 q k h1)) ((f9.I (f := 10) (k := 1) rfl 0).trans e17) ?_
      rw [mI_sI, if_pos ⟨rfl, rfl, rfl⟩]; rfl
    rw [if_pos cw] at eR
    rw [cw]
    refine itn (by decide) (k_nextW (c_rnext r7 (by rw [isWd_k cw]; omega) (fun A8 M8 p8 r8 f8 => ?_)))
    have h8 : WkT BB A8 B F T M8 := h.keep (r := r) (by omega) r8.1 ((g7.sub rfl).trans (f8.sub rfl)) hr (fun q k h1 _ => (f8.Ia (f := 400) rfl rfl q k).trans (z57 q k h1))
    obtain ⟨⟨⟨hN8, hR8⟩, ⟨hRd8, hLk8, h308⟩, h358⟩, -⟩ := id h8
    have hC : ∃ C1, mI M8 6 0 35 = 1 ∨ (mI M8 6 0 35 = 0 ∧ 0 ≤ C1 ∧ mI M8 10 0 8 = Int32.ofNat (C1 - 0)) := by
      rcases h358 with e | ⟨e, C1, e8⟩
      · exact ⟨0, Or.inl e⟩
      · exact ⟨C1, Or.inr ⟨e, Nat.zero_le _, e8⟩⟩
    obtain ⟨C1, hC⟩ := hC
    refine k_wdbg (c_wbegin (k := 0) (C := C1) hR8 (hN8.nA (by have := hN8.len; omega)) hLk8 hC (fun M9 h9 _ _ _ f9 => ?_))
    obtain ⟨m76, m212⟩ := h9.m76
    have r9 := r8.fr f9 (fun k => f9.Ia (f := 400) rfl rfl 0 k)
    refine k_rcall2 (c_rcall (t := 0) r9 (by omega) ((f9.L (f := 211) rfl 0).trans hRd8.2.2) ((f9.L (f := 30) rfl 0).trans h308) (by rw [m76]; show 4 ≤ 492; omega) (by rw [m76]; show 492 < 1000000; omega) (by rw [m212]; show 6 ≤ 738; omega) (by rw [m212]; show 738 < 1000000; omega) (fun A0' k m κ vs t2' M0' y1 y2 y3 _ _ _ _ f0 => ?_) (fun A0' e M0' y1 y2 y3 _ f0 => ?_))
    · have gA : Fr STr M M0' := (((g7.sub rfl).trans (f8.sub rfl)).trans (f9.sub rfl)).trans (f0.sub rfl)
      have i0 : ∀ q k, mI M0' 400 q k = mI M7 400 q k := fun q k => ((f0.Ia (f := 400) rfl rfl q k).trans (f9.Ia (f := 400) rfl rfl q k)).trans (f8.Ia (f := 400) rfl rfl q k)
      have h0 : WkT BB A0' B F T M0' := h.keep (r := r) (by omega) y3.1 gA hr (fun q k h1 _ => (i0 q k).trans (z57 q k h1))
      have c0 := h0.n.1
      have e10 : mI M0' 10 0 1 = 0 := (((f0.I (f := 10) (k := 1) rfl 0).trans (f9.I (f := 10) (k := 1) rfl 0)).trans (f8.I (f := 10) (k := 1) rfl 0)).trans e17
      have e210 : mI M0' 10 0 21 = -2 := (((f0.I (f := 10) (k := 21) rfl 0).trans (f9.I (f := 10) (k := 21) rfl 0)).trans (f8.I (f := 10) (k := 21) rfl 0)).trans e217
      rw [eR, y1] at hQ
      have hTO := tri_ok c6 (by omega) (eR.trans y1)
      have hnm := tri_nm hB
      have l98 : mL M0' 98 0 = 40 := h0.2.1.1.2.1.2
      have hr0 : mR M0' 701 0 T.length = some (400, r) := (gA.Ra (f := 701) rfl rfl 0 _).trans hr
      rw [c0, oN_tnc (k := T.length) (by omega)]
      refine ⟨by rw [l98]; exact (vp_oN (by omega)).mpr (by omega), ?_⟩
      have fB : Fr (316912650057057350374175801344) M0' (sI M0' 98 0 T.length (Int32.ofNat (txt (trLs tp)).length)) := Fr.wIa rfl rfl (Fr.rf _ _)
      have e98 : mI (sI M0' 98 0 T.length (Int32.ofNat (txt (trLs tp)).length)) 98 0 T.length = Int32.ofNat (txt (trLs tp)).length := by rw [mI_sI, if_pos ⟨rfl, rfl, rfl⟩]
      have o98 : ∀ q, q ≠ T.length → mI (sI M0' 98 0 T.length (Int32.ofNat (txt (trLs tp)).length)) 98 0 q = mI M0' 98 0 q := fun q hq => by rw [mI_sI, if_neg (fun z => hq z.2.2)]
      generalize sI M0' 98 0 T.length (Int32.ofNat (txt (trLs tp)).length) = Ma at fB e98 o98 ⊢
      have cB : mI Ma 10 0 10 = Int32.ofNat T.length := (fB.I (f := 10) (k := 10) rfl 0).trans c0
      rw [cB]
      refine c_forget (by rw [fB.L (f := 516) rfl]; exact h0.2.1.2.1.1) (by omega) (fun Mb fC w1 w2 => ?_)
      have cC : mI Mb 10 0 10 = Int32.ofNat T.length := (fC.I (f := 10) (k := 10) rfl 0).trans cB
      rw [cC, lit32 1, oN_add, show mI (sI Mb 10 0 10 (Int32.ofNat (T.length + 1))) 10 0 10 = Int32.ofNat (T.length + 1) from by rw [mI_sI, if_pos ⟨rfl, rfl, rfl⟩], oN_sub (by omega), Nat.add_sub_cancel]
      have fD : Fr (1323532713598280147952282587538779051904570666870942976243487852023793718373407346439829272934192523234348033018338392300878111134203327466082248784675349312806515329956751004245317043534652900124757921474709498706730629984024839957817689587061578969386681031001456936953788958264892420369399514162618077280707220101485117624701219719549311905140417745489717293534028155538163024090734725280721520278540873804922551792487790056493916027096049215762610864027263521250173046867423353135872373526780207359106951265657778099743136098188133185100681943291383423866943108286740432098933068487821682397526253880031584733253104988762594045657651243040937804784548692583326715169988351529766267597102334246462132308316201417738611490457533896451496579456902485150762812447442327224319862927747832942081738608836667459284033565736970267173737427808077926324834296459209208398952306533463828171469485712257033050537756459008) M0' (sI Mb 10 0 10 (Int32.ofNat (T.length + 1))) := Fr.wI rfl ((fB.sub rfl).trans (fC.sub rfl))
      have fD' : Fr (1259757488292983989177916224795394574992091029234517724944504861859900211829425099545968709466719702612407960836149048226317193401239794507351124461634916691184598374764385297830935879794033322928767721717511045546428905795270323213735004935381698945836335778622118852428281332174567941431002025989475069858430671537644461418431296620274299292009210651549532649352858726730147125231092084534200873454067619597807716612035306173575213474676464388373721694691101331404274369036002356799457723167485393739547451867321033833557874495676772931095285960495803005138444129804370485258557491461940827494037430273160955365602012174011815841323805761290069889127786736828666978990123172577924517459458428157960632777917278308976968274348024019622141264611453018852496059200536002447366957330030056119154783352070985756984700474284614448617955569441547058657398981456524246080434642822571139272240287003763425782267904) M0' (sI Mb 10 0 10 (Int32.ofNat (T.length + 1))) := Fr.wI rfl ((fB.sub rfl).trans (fC.sub rfl))
      have i9 : ∀ f q x, f ≠ 10 → mI (sI Mb 10 0 10 (Int32.ofNat (T.length + 1))) f q x = mI Mb f q x := fun f q x hne => by rw [mI_sI, if_neg (fun z => hne z.1)]
      refine hQ A0' _ ((p7'.trans p8).trans y2) (h0.snoc (by omega) hTO hnm fD (by rw [mI_sI, if_pos ⟨rfl, rfl, rfl⟩]) ?_ (fun q hq => ?_) hr0 (fun x hx => ?_) (fun q x _ _ _ => fD'.Ia (f := 400) rfl rfl q x) (fun x hx => ?_) (fun q hq => ?_)) ⟨(fD'.I (f := 10) (k := 1) rfl 0).trans e10, (fD'.L (f := 400) rfl 0).trans ((gA.L (f := 400) rfl 0).trans t2), by simp, fun j hj => absurd hj (by simp)⟩ ((fD'.I (f := 10) (k := 21) rfl 0).trans e210)
      · rw [i9 98 0 _ (by decide), fC.Ia (f := 98) rfl rfl]; exact e98
      · rw [i9 98 0 _ (by decide), fC.Ia (f := 98) rfl rfl, o98 q hq]
      · rw [fD'.Ia (f := 400) rfl rfl, i0]; exact z87 x hx
      · rw [i9 516 _ _ (by decide)]; exact w1 x hx
      · rw [i9 516 _ _ (by decide), w2 q hq, fB.Ia (f := 516) rfl rfl]
    · have gA : Fr STr M M0' := (((g7.sub rfl).trans (f8.sub rfl)).trans (f9.sub rfl)).trans (f0.sub rfl)
      refine j281 A0' M0' e (eR.trans y1) ((p7'.trans p8).trans y2) y3.1 gA (fun q k h1 => (((f0.Ia (f := 400) rfl rfl q k).trans (f9.Ia (f := 400) rfl rfl q k)).trans (f8.Ia (f := 400) rfl rfl q k)).trans (z57 q k h1)) ((((f0.I (f := 10) (k := 1) rfl 0).trans (f9.I (f := 10) (k := 1) rfl 0)).trans (f8.I (f := 10) (k := 1) rfl 0)).trans e17) y3.2.2
  -- over the lines
  have loop : ∀ d ds s A5 M5 v3, ds ++ s :: rsL (pT tp) tp.length (nl (pT tp) tp.length s) = stL (pT tp) tp.length 0 → (rsL (pT tp) tp.length (nl (pT tp) tp.length s)).length + 1 < d → s ≤ tp.length → lnB (pT tp) s → A <+: A5 → RS BB 0 tp.length (pT tp) (nl (pT tp) tp.length s) A5 (full (nl (pT tp) tp.length s) (tks (pT tp) tp.length s)) M5 → mI M5 2 0 4 = Int32.ofNat (hd (full (nl (pT tp) tp.length s) (tks (pT tp) tp.length s))).2.2.2 → Fr (SRd ||| (2579985796487875532070726291498594643088831709300083774353777489325133953944263833216041467707977628137130668651731758871107429111507460947528750067593273514242719941436161801647791507864820468079450139326919100792847231937670253329079316933843233858453569261211417031099003817280492047503702756652276953763561832556501203946786003351947976423275668119862996673555610439645541957291880556102770994695011449912129730589644814924939407460226216794858890573152560470273241806759109850167392540987875647873502828977890405652520733134869655331580276692575796147888777988863041777970629763134155326310967356491289638856243869373806226209858969284680190652601459439733580341461965597523910853015794023872245871946035480346469028246505914028170558634418913226414741906281706526594086295795999730311629260967961082220065927104911136059660946621803141393577702176516915692713146226914285748515512966105776329067887329280)) M M5 → (∀ q k, q ≠ r → mI M5 400 q k = mI M 400 q k) → mI M5 10 0 1 = 0 → mI M5 10 0 21 = -2 → (∀ k, k < (txt (ds.map (rwL (pT tp) tp.length))).length → mI M5 400 r k = gi (txt (ds.map (rwL (pT tp) tp.length))) k) → w_Works_trial_L114 0 Q d (Int32.ofNat tp.length) (Int32.ofNat (txt (ds.map (rwL (pT tp) tp.length))).length) v3 0 1 r M5 := by
    intro d
    induction d with
    | zero => intro ds s A5 M5 v3 _ z; exact absurd z (by omega)
    | succ d ih =>
      intro ds s A5 M5 v3 y1 y2 hs hbg p5 r5 e4 g5 o5 e15 e215 w5
      obtain ⟨x1, x2, x3, x4⟩ := nl_ok hp hs
      have hpl := lex_pl hp hs
      rw [full_hd (tks_ne hp (by omega)), tks_hd hp (by omega)] at e4
      unfold w_Works_trial_L114
      rw [e4]
      generalize (lex (pT tp) tp.length s).1.2.2.2 = pl at hpl e4 ⊢
      refine itn (by decide) ⟨pl + 1, ?_⟩
      have l0 : mL M5 400 0 = 6000 := (g5.L (f := 400) rfl 0).trans t2
      have lr : mL M5 400 r = 1260 := (g5.L (f := 400) rfl r).trans l1260
      have a0 : ∀ k, k < tp.length → mI M5 400 0 k = pT tp k := fun k hk => by rw [o5 0 k (fun z => r0 z.symm), t4 k hk, pT_in hk]
      have etx : txt ((ds ++ [s]).map (rwL (pT tp) tp.length)) = txt (ds.map (rwL (pT tp) tp.length)) ++ (rwL (pT tp) tp.length s ++ [10]) := by rw [List.map_append, List.map_singleton, txt_app, txt_11]
      have ltx : (txt ((ds ++ [s]).map (rwL (pT tp) tp.length))).length = (txt (ds.map (rwL (pT tp) tp.length))).length + (nl (pT tp) tp.length s - s) + 1 := by rw [etx, List.length_append, List.length_append, List.length_singleton, rw_len]; omega
      have hfit : (txt ((ds ++ [s]).map (rwL (pT tp) tp.length))).length ≤ 1201 := by
        have e : trLs tp = (ds ++ [s]).map (rwL (pT tp) tp.length) ++ (rsL (pT tp) tp.length (nl (pT tp) tp.length s)).map (rwL (pT tp) tp.length) := by
          unfold trLs
          rw [← y1, ← List.map_append, List.append_assoc, List.singleton_append]
        have := congrArg (fun L => (txt L).length) e
        simp only [txt_app, List.length_append] at this
        omega
      have hgl : (ds ++ [s]).getLastD 0 = s := List.getLastD_concat
      have hnx : ∀ M9, NC BB A5 M5 → Fr (2582249878086908589655919172003011874329705792829223512830659356540647622016841194629645353280137831435903171972747493376) M5 M9 → (∀ q k, q ≠ r → mI M9 400 q k = mI M5 400 q k) → (∀ k, k < (txt ((ds ++ [s]).map (rwL (pT tp) tp.length))).length → mI M9 400 r k = gi (txt ((ds ++ [s]).map (rwL (pT tp) tp.length))) k) → w_Reader_nextLine 0 (fun r33 M32 => w_Works_trial_L114 0 Q d (Int32.ofNat tp.length) (Int32.ofNat (txt ((ds ++ [s]).map (rwL (pT tp) tp.length))).length) (Int32.ofNat s) 0 r33 r M32) M9 := fun M9 _ f9 o9 w9 => by
        have r9 := r5.fr f9 (fun k => o9 0 k (fun z => r0 z.symm))
        refine k_nxl (c_nextLine2 r9 (rln_B hB y1) (fun A6 M6 e p6 b6 f6 => ?_) (fun A6 s6 M6 e hs6 hb6 p6 r6 e46 k6 f6 => ?_))
        · obtain ⟨d, rfl⟩ : ∃ d', d = d' + 1 := ⟨d - 1, by omega⟩
          have := fin d (ds ++ [s]) A6 M6 (by rw [← y1, e]) (by simp) (p5.trans p6) b6 ((g5.trans (f9.sub rfl)).trans (f6.sub rfl)) (fun q k hq => ((f6.Ia (f := 400) rfl rfl q k).trans (o9 q k hq)).trans (o5 q k hq)) (((f6.I (f := 10) (k := 1) rfl 0).trans (f9.I (f := 10) (k := 1) rfl 0)).trans e15) (((f6.I (f := 10) (k := 21) rfl 0).trans (f9.I (f := 10) (k := 21) rfl 0)).trans e215) (fun k hk => (f6.Ia (f := 400) rfl rfl r k).trans (w9 k hk))
          rw [hgl] at this
          exact this
        · refine ih (ds ++ [s]) s6 A6 M6 _ (by rw [List.append_assoc, List.singleton_append, ← e]; exact y1) ?_ hs6 hb6 (p5.trans p6) r6 e46 ((g5.trans (f9.sub rfl)).trans (f6.sub rfl)) (fun q k hq => ((f6.Ia (f := 400) rfl rfl q k).trans (o9 q k hq)).trans (o5 q k hq)) (((f6.I (f := 10) (k := 1) rfl 0).trans (f9.I (f := 10) (k := 1) rfl 0)).trans e15) (((f6.I (f := 10) (k := 21) rfl 0).trans (f9.I (f := 10) (k := 21) rfl 0)).trans e215) (fun k hk => (f6.Ia (f := 400) rfl rfl r k).trans (w9 k hk))
          have := congrArg List.length e
          rw [List.length_cons] at this
          omega
      -- the copy
      have copy : ∀ m i M9, nl (pT tp) tp.length s - s - i < m → i ≤ nl (pT tp) tp.length s - s → Fr (2582249878086908589655919172003011874329705792829223512830659356540647622016841194629645353280137831435903171972747493376) M5 M9 → (∀ q k, q ≠ r → mI M9 400 q k = mI M5 400 q k) → (∀ k, k < (txt (ds.map (rwL (pT tp) tp.length))).length + i → mI M9 400 r k = gi (txt ((ds ++ [s]).map (rwL (pT tp) tp.length))) k) → w_Works_trial_L158 0 Q (w_Works_trial_L114 0 Q d) m (Int32.ofNat tp.length) (Int32.ofNat ((txt (ds.map (rwL (pT tp) tp.length))).length + i)) (Int32.ofNat s) 0 r (Int32.ofNat (s + i)) M9 := by
        intro m
        induction m with
        | zero => intro i M9 z; exact absurd z (by omega)
        | succ m im =>
          intro i M9 hm hi f9 o9 w9
          have r9 := r5.fr f9 (fun k => o9 0 k (fun z => r0 z.symm))
          have l0' : mL M9 400 0 = 6000 := (f9.L (f := 400) rfl 0).trans l0
          have lr' : mL M9 400 r = 1260 := (f9.L (f := 400) rfl r).trans lr
          unfold w_Works_trial_L158
          refine c_peek r9.2.1 (by omega) ?_
          rw [oN_tnc (k := (txt (ds.map (rwL (pT tp) tp.length))).length + i) (by omega), oN_tnc (k := s + i) (by omega), show (10 : Int32).toInt8.toInt32 = 10 from rfl, show Int32.ofNat ((txt (ds.map (rwL (pT tp) tp.length))).length + i) + (1 : Int32) = Int32.ofNat ((txt (ds.map (rwL (pT tp) tp.length))).length + i + 1) from oN_add _ 1, show Int32.ofNat (s + i) + (1 : Int32) = Int32.ofNat (s + (i + 1)) from oN_add _ 1, lr', l0']
          by_cases ei : i = nl (pT tp) tp.length s - s
          · refine itp (by rw [show s + i = nl (pT tp) tp.length s by omega]; exact x3) ⟨(vp_oN (by omega)).mpr (by omega), ?_⟩
            rw [show (txt (ds.map (rwL (pT tp) tp.length))).length + i + 1 = (txt ((ds ++ [s]).map (rwL (pT tp) tp.length))).length by rw [ltx, ei]]
            have fz : Fr (2582249878086908589655919172003011874329705792829223512830659356540647622016841194629645353280137831435903171972747493376) M9 (sI M9 400 r ((txt (ds.map (rwL (pT tp) tp.length))).length + i) 10) := Fr.wIa rfl rfl (Fr.rf _ _)
            refine hnx _ r5.1 (f9.trans fz) (fun q k hq => ?_) (fun k hk => ?_)
            · rw [mI_sI, if_neg (fun z => hq z.2.1)]; exact o9 q k hq
            · rw [ltx] at hk
              rw [mI_sI]
              by_cases ek : k = (txt (ds.map (rwL (pT tp) tp.length))).length + i
              · rw [if_pos ⟨rfl, rfl, ek⟩, ek, etx, gi_apL, if_neg (by omega), gi_apL, rw_len, if_neg (by omega), show (txt (ds.map (rwL (pT tp) tp.length))).length + i - (txt (ds.map (rwL (pT tp) tp.length))).length - (nl (pT tp) tp.length s - s) = 0 by omega]; rfl
              · rw [if_neg (fun z => ek z.2.2)]; exact w9 k (by omega)
          · have hlt : s + i < tp.length := by omega
            refine itn (x4 (s + i) (by omega) (by omega)) ⟨(vp_oN (by omega)).mpr (by omega), (vp_oN (by omega)).mpr (by omega), _, rfl, ?_⟩
            rw [o9 0 (s + i) (fun z => r0 z.symm), a0 _ hlt, pT_in hlt, hb _ hlt]
            have fz : Fr (2582249878086908589655919172003011874329705792829223512830659356540647622016841194629645353280137831435903171972747493376) M9 (sI M9 400 r ((txt (ds.map (rwL (pT tp) tp.length))).length + i) (gi tp (s + i))) := Fr.wIa rfl rfl (Fr.rf _ _)
            refine im (i + 1) _ (by omega) (by omega) (f9.trans fz) (fun q k hq => ?_) (fun k hk => ?_)
            · rw [mI_sI, if_neg (fun z => hq z.2.1)]; exact o9 q k hq
            · rw [mI_sI]
              by_cases ek : k = (txt (ds.map (rwL (pT tp) tp.length))).length + i
              · rw [if_pos ⟨rfl, rfl, ek⟩, ek, etx, gi_apL, if_neg (by omega), gi_apL, rw_len, if_pos (by omega), rw_gi (by omega), show s + ((txt (ds.map (rwL (pT tp) tp.length))).length + i - (txt (ds.map (rwL (pT tp) tp.length))).length) = s + i by omega, pT_in hlt]
              · rw [if_neg (fun z => ek z.2.2)]; exact w9 k (by omega)
      have j151 : w_Works_trial_j151 0 Q (w_Works_trial_L114 0 Q d) (Int32.ofNat tp.length) (Int32.ofNat (txt (ds.map (rwL (pT tp) tp.length))).length) 0 r (Int32.ofNat s) M5 := by
        unfold w_Works_trial_j151
        refine ⟨nl (pT tp) tp.length s - s + 1, ?_⟩
        have := copy (nl (pT tp) tp.length s - s + 1) 0 M5 (by omega) (by omega) (Fr.rf _ _) (fun _ _ _ => rfl) (fun k hk => ?_)
        · exact this
        · rw [Nat.add_zero] at hk
          rw [w5 k hk, etx, gi_apL, if_pos hk]
      -- back to where the line begins
      have back : ∀ m k, k - s < m → s ≤ k → k ≤ nl (pT tp) tp.length s → w_Works_trial_L126 0 Q (w_Works_trial_L114 0 Q d) m (Int32.ofNat tp.length) (Int32.ofNat (txt (ds.map (rwL (pT tp) tp.length))).length) 0 r (Int32.ofNat k) M5 := by
        intro m
        induction m with
        | zero => intro k z; exact absurd z (by omega)
        | succ m im =>
          intro k hm h1 h2
          unfold w_Works_trial_L126
          by_cases ek : k = 0
          · have : s = k := by omega
            subst this
            exact itp (le_oN (b := 0) (by omega) (by omega)) j151
          refine itn (nle_oN (b := 0) (by omega) (by omega)) ?_
          rw [show Int32.ofNat k - (1 : Int32) = Int32.ofNat (k - 1) from (show Int32.ofNat k - Int32.ofNat 1 = Int32.ofNat (k - 1) from oN_sub (show 1 ≤ k by omega)), oN_tnc (k := k - 1) (by omega), l0, a0 (k - 1) (by omega), oN_pred (by omega)]
          refine ⟨(vp_oN (by omega)).mpr (by omega), ?_⟩
          by_cases es : k = s
          · subst es
            exact itp (hbg.resolve_left ek) j151
          · exact itn (x4 (k - 1) (by omega) (by omega)) (im (k - 1) (by omega) (by omega) (by omega))
      exact back _ pl (by omega) hpl.1 hpl.2
  refine c_tpB0 n4 rfl ⟨by rw [f4.L (f := 400) rfl, f3.L (f := 400) rfl, t2]; exact t3, fun k hk => (o4 0 k (fun z => r0 z.symm)).trans (t4 k hk)⟩ (by omega) (fun M5 b5 e5 f5 => ?_)
  have g5 : Fr (SRd ||| (2579985796487875532070726291498594643088831709300083774353777489325133953944263833216041467707977628137130668651731758871107429111507460947528750067593273514242719941436161801647791507864820468079450139326919100792847231937670253329079316933843233858453569261211417031099003817280492047503702756652276953763561832556501203946786003351947976423275668119862996673555610439645541957291880556102770994695011449912129730589644814924939407460226216794858890573152560470273241806759109850167392540987875647873502828977890405652520733134869655331580276692575796147888777988863041777970629763134155326310967356491289638856243869373806226209858969284680190652601459439733580341461965597523910853015794023872245871946035480346469028246505914028170558634418913226414741906281706526594086295795999730311629260967961082220065927104911136059660946621803141393577702176516915692713146226914285748515512966105776329067887329280)) M M5 := fA.trans (f5.sub rfl)
  have o5 : ∀ q k, q ≠ r → mI M5 400 q k = mI M 400 q k := fun q k hq => (f5.Ia (f := 400) rfl rfl q k).trans (o4 q k hq)
  have e15 : mI M5 10 0 1 = 0 := (f5.I (f := 10) (k := 1) rfl 0).trans e14
  have e215 : mI M5 10 0 21 = -2 := (f5.I (f := 10) (k := 21) rfl 0).trans e214
  by_cases c0 : tp.length = 0
  · refine itp (le_oN (b := 0) (by omega) (by omega)) ?_
    unfold w_Works_trial_j88
    exact none' A3 M5 (stL_0 hp c0) p3 b5.1 g5 o5 e15
  refine itn (nle_oN (b := 0) (by omega) (by omega)) (k_rbeg (c_begin2 b5 e5 (Nat.zero_le _) (Or.inl rfl) hB (fun A6 M6 e p6 b6 f6 => itp rfl ?_) (fun A6 s M6 e hs hb6 p6 r6 e46 k1 f6 => itn (by decide) ?_)))
  · unfold w_Works_trial_j88
    exact none' A6 M6 e (p3.trans p6) b6.1 (g5.trans (f6.sub rfl)) (fun q k hq => (f6.Ia (f := 400) rfl rfl q k).trans (o5 q k hq)) ((f6.I (f := 10) (k := 1) rfl 0).trans e15)
  · unfold w_Works_trial_j89
    have g6 : Fr (SRd ||| (2579985796487875532070726291498594643088831709300083774353777489325133953944263833216041467707977628137130668651731758871107429111507460947528750067593273514242719941436161801647791507864820468079450139326919100792847231937670253329079316933843233858453569261211417031099003817280492047503702756652276953763561832556501203946786003351947976423275668119862996673555610439645541957291880556102770994695011449912129730589644814924939407460226216794858890573152560470273241806759109850167392540987875647873502828977890405652520733134869655331580276692575796147888777988863041777970629763134155326310967356491289638856243869373806226209858969284680190652601459439733580341461965597523910853015794023872245871946035480346469028246505914028170558634418913226414741906281706526594086295795999730311629260967961082220065927104911136059660946621803141393577702176516915692713146226914285748515512966105776329067887329280)) M M6 := g5.trans (f6.sub rfl)
    have c6' : mI M6 10 0 10 = Int32.ofNat T.length := (g6.I (f := 10) (k := 10) rfl 0).trans h40.1
    have l701 : mL M6 701 0 = 40 := (g6.L (f := 701) rfl 0).trans h.2.1.1.2.1.1
    rw [c6', oN_tnc (k := T.length) (by omega)]
    refine itn (by decide) ⟨by rw [l701]; exact (vp_oN (by omega)).mpr (by omega), r, (g6.Ra (f := 701) rfl rfl 0 _).trans hr, (stL (pT tp) tp.length 0).length + 2, ?_⟩
    have := loop ((stL (pT tp) tp.length 0).length + 2) [] s A6 M6 (-1) (by rw [List.nil_append]; exact e.symm) ?_ hs hb6 (p3.trans p6) r6 e46 g6 (fun q k hq => (f6.Ia (f := 400) rfl rfl q k).trans (o5 q k hq)) ((f6.I (f := 10) (k := 1) rfl 0).trans e15) ((f6.I (f := 10) (k := 21) rfl 0).trans e215) (fun k hk => absurd hk (by show ¬ k < 0; omega))
    · exact this
    · have := congrArg List.length e
      rw [List.length_cons] at this
      omega
end
