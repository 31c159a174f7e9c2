/-! THE MACHINE IN THE TWIN: a fault comes -/
/-- as mtOk, but rows of slots may change -/
def mgOk (F : Nat) : Bool := ((((List.range 26).all (fun j => (Nat.beq j 7 || (Nat.beq j 13 || !F.testBit (130 + j))) && !F.testBit (5130 + j)) && (!F.testBit 523 && !F.testBit 5523)) && [1, 2, 35, 37, 41, 43].all (fun k => !F.testBit (cd 12 k))) && (!F.testBit (cd 11 45) && kOk F)) && [cd 11 4, 105, 5105, cd 11 36, cd 11 37, 106, 5106, cd 11 38, 156, 5156, 5111, 5212, 5112, cd 11 77].all (fun b => !F.testBit b)
section
variable {G X : List Sl} {US : UST} {A : List Nm} {S : List Sg} {W : List Cls} {w c k t : Nat} {br x : Int32} {bb : Bool} {nq nl nf nk B F : Nat} {M M' : Mem} {q : LkS} {R : Nat} {s : Ms} {U : List Un}
theorem mgOk_row (h : mgOk R = true) {f : Nat} (hf : tFm f = true) : (f ≠ 137 → f ≠ 143 → R.testBit f = false) ∧ R.testBit (5000 + f) = false := by
  unfold mgOk at h
  simp only [Bool.and_eq_true, Bool.or_eq_true, Bool.not_eq_true', List.all_eq_true, List.mem_range] at h
  obtain ⟨⟨⟨a, b1, b2⟩, -⟩, -⟩ := h.1
  unfold tFm at hf
  rw [Bool.or_eq_true, Bool.and_eq_true] at hf
  rcases hf with z | z
  · have z1 := Nat.ble_eq.mp z.1
    have z2 := Nat.ble_eq.mp z.2
    have := a (f - 130) (by omega)
    rw [show 130 + (f - 130) = f by omega, show 5130 + (f - 130) = 5000 + f by omega] at this
    refine ⟨fun n1 n2 => ?_, this.2⟩
    rcases this.1 with y | y | y
    · have := Nat.eq_of_beq_eq_true y; omega
    · have := Nat.eq_of_beq_eq_true y; omega
    · exact y
  · have := Nat.eq_of_beq_eq_true z
    subst this
    exact ⟨fun _ _ => b1, b2⟩
theorem LKt.mgf (h : LKt G US A S W w br nq nl nf nk q M) (hf : Fr R M M') (hg : GF G X M M') (hX : ∀ s ∈ XW w, s ∉ X) (hX2 : ∀ s ∈ [sB, sZ, sX, sTr, sF, sC, sRe, sNx, sTy], s ∉ X) (hF : mgOk R = true := by rfl) : LKt G US A S W w br nq nl nf nk q M' := by
  have hr := fun {f : Nat} (z : tFm f = true) => mgOk_row hF z
  unfold mgOk at hF
  simp only [Bool.and_eq_true, Bool.not_eq_true', List.all_eq_true, List.all_cons, List.all_nil, and_true] at hF
  obtain ⟨⟨⟨-, g⟩, g45, s3⟩, b1, b2, b3, b4, b5, b6, b7, b8, b9, b10, b11, b12, b13, b14⟩ := hF
  obtain ⟨⟨⟨h1, h2, h3, h4⟩, hx, h7⟩, hl, ⟨k3, k4, k5, k6⟩, ⟨k7, k8, k9⟩, k10⟩ := h
  have g' : ∀ k ∈ [1, 2, 35, 37, 41, 43], R.testBit (cd 12 k) = false := fun k hk => by
    simp only [List.mem_cons, List.not_mem_nil, or_false] at hk
    rcases hk with e | e | e | e | e | e <;> subst e
    · exact g.1
    · exact g.2.1
    · exact g.2.2.1
    · exact g.2.2.2.1
    · exact g.2.2.2.2.1
    · exact g.2.2.2.2.2
  have r20 : ∀ f, tFm f = true → Nat.ble 20 f = true := fun f z => by
    unfold tFm at z
    rw [Bool.or_eq_true, Bool.and_eq_true] at z
    rcases z with z | z
    · have := Nat.ble_eq.mp z.1; exact Nat.ble_eq.mpr (by omega)
    · have := Nat.eq_of_beq_eq_true z; exact Nat.ble_eq.mpr (by omega)
  refine ⟨⟨⟨h1.ofL (fun f z => ⟨fun n1 _ n3 k => hf.Ia (r20 f z) ((hr z).1 n1 n3) w k, hf.L (hr z).2 w⟩) (fun k hk => hf.I (g' k hk) w) (hf.R g45 0) (fun y hy => ⟨(hg.2.1 y (hx.2.2.2.1 y hy) (hX y hy)).1, (hg.2.1 y (hx.2.2.2.1 y hy) (hX y hy)).2.1⟩), h2.gf hf hg hx hX2 b1 b2 b3 b4 b5 b6 b7 b8, h3.fr hf s3, hg.1⟩, hx, h7⟩, fun c hc => (hf.Ia rfl ((hr (f := 138) rfl).1 (by omega) (by omega)) w c).trans (hl c hc), ⟨(hf.L b10 w).trans k3, (hf.Ia rfl b9 w 0).trans k4, (hf.Ia rfl b9 w 1).trans k5, (hf.Ia rfl b9 w 2).trans k6⟩, ⟨(hf.L b11 0).trans k7, (hf.L b12 0).trans k8, (hf.L b13 0).trans k9⟩, (hf.I b14 0).trans k10⟩
theorem gr_b {y : Sl} {n : Nat} (g : Gr1 G X y (n + 1) M M') (h : rl M y ≤ 2 * F) (hn : n + 1 ≤ F) (hl : n ≤ rl M y) : rl M' y ≤ 2 * F ∧ n + 1 ≤ rl M' y ∧ ∀ k, k < n → rd M' y k = rd M y k := by
  obtain ⟨-, h2, h3, h4, h5⟩ := g
  refine ⟨?_, h2, fun k hk => h3 k (by omega)⟩
  by_cases c1 : n + 1 ≤ rl M y
  · rw [(h4 c1).1]; exact h
  · rw [(h5 (by omega)).1]; omega
theorem XF_W : ∀ s ∈ XW w, s ∉ XF w := fun s hs hf => by
  simp only [List.mem_cons, List.not_mem_nil, or_false] at hs hf
  rcases hf with z | z | z | z <;> subst z <;> simp at hs
theorem XF_S : ∀ s ∈ [sB, sZ, sX, sTr, sF, sC, sRe, sNx, sTy], s ∉ XF w := fun s hs hf => by
  simp only [List.mem_cons, List.not_mem_nil, or_false] at hs hf
  rcases hf with z | z | z | z <;> subst z <;> simp at hs
/-- rows of faults -/
theorem ct_nf0 {f : Nat} {ru : Int32} {Q : Int32 → Mem → Prop} (h : TXm G US A S W w br nq nl nf nk B F x t s M) (hF : (zF s).length + 1 ≤ F) (hFb : F < 1000000) (hQ : ∀ M', GF G (XF w) M M' → uF G w F (addFt s f ru) M' → Q (Int32.ofNat (1001 + (zF s).length)) M') : w_Model_newFault 0 (Int32.ofNat f) ru Q M := by
  have hG := h.ga
  have R5 := h.1.1.r45
  have hTG : TG G M := h.1.1.1.2.2.2
  obtain ⟨a, b, c⟩ := h.2.2.1.2
  obtain ⟨m1, p1, q1⟩ := b (sFc w) (by simp)
  obtain ⟨m2, p2, q2⟩ := b (sFu w) (by simp)
  obtain ⟨m3, p3, q3⟩ := b (sFl' w) (by simp)
  obtain ⟨m4, p4, q4⟩ := b (sFo w) (by simp)
  have hfl : (zF (addFt s f ru)).length = (zF s).length + 1 := by
    show (zF s ++ _).length = _
    rw [List.length_append, List.length_singleton]
  have hg1 : ∀ i, i < (zF s).length → gFt (addFt s f ru) i = gFt s i := fun i hi => by
    show (zF s ++ [(f, ru, 0, 0)]).getD i _ = (zF s).getD i _
    rw [List.getD_eq_getElem?_getD, List.getElem?_append_left hi, List.getD_eq_getElem?_getD]
  have hg2 : gFt (addFt s f ru) (zF s).length = (f, ru, 0, 0) := by
    show (zF s ++ [(f, ru, 0, 0)]).getD (zF s).length _ = _
    rw [List.getD_eq_getElem?_getD, List.getElem?_append_right (Nat.le_refl _), Nat.sub_self]; rfl
  generalize hn : (zF s).length = n at *
  unfold w_Model_newFault
  refine ⟨w, R5, w, R5, w, R5, rdI M (sFc w), (hTG _ m1).1.1, ?_⟩
  rw [a, show Int32.ofNat n + (1 : Int32) = Int32.ofNat (n + 1) from oN_add n 1]
  refine rm300 (s := sFc w) (X := [sFc w]) hG hTG m1 (by simp) rfl (by omega) (by omega) (fun i1 N1 g1 f1 => ?_)
  have fr1 : Fr (287724615985440965458794678136059329065601673898977937679550706873822600720910104184224330452334632505066398528821115743546239988265425214780729768327433904187638733707140592015203836016720409797262037678641561245446221574655641153333187651609098710329941003825584030113765405961157123932768976632761263557862273595233321799276323219915537860208918694360056093605407667110977055296220158058209988384202312567422191708397454623472372937755539799002254127214040020619096795591065008034208014061606765594202542785143942548576241794192533346758629812272041305178591283197425819420275027006442267676601015503037278274542660313557436868720358242386887357712135840082862261931328823473649126455228589387673294105814421011560725628847778689730766499994713941703628103607901574311186003147986659801332065761745227557002022318902702960833650327612368316685047500014862354655441830824013876021853585848003562855051125171117852004534525415860344703833319134779265493282323545112684387602448678648392180957981863376206497141782649353531861694641116162569361311117685702733022446371203777910286819107079832358424886061783720648717069458553140332034634811838285411114184769712181494459830267173262463429718562460857246610145245699741713406657455611839411057303652096228267221135829841211599736150767450426277820035678523254737784005637110903034228866843466792589784007747876054910778863196492596698964000711564329673188680555076194058828819572327257631867900781080644500653028344020133868621922345576271922163986877367377777223214636301149705161838116891345803504742098044742755260547159502583252714336060178432) M (sR N1 12 w 53 (some (300, i1))) := Fr.wR rfl (f1.sub rfl)
  have g1 : Gr1 G [sFc w] (sFc w) (n + 1) M (sR N1 12 w 53 (some (300, i1))) := g1
  generalize sR N1 12 w 53 (some (300, i1)) = M1 at fr1 g1 ⊢
  obtain ⟨u1, u2, u3⟩ := gr_b g1 q1 hF p1
  have T1 := g1.1.1
  have v2 := g1.1.2.1 (sFu w) m2 (by simp)
  have v3 := g1.1.2.1 (sFl' w) m3 (by simp)
  have v4 := g1.1.2.1 (sFo w) m4 (by simp)
  have R51 : mR M1 11 0 45 = some (12, w) := (fr1.R (f := 11) (k := 45) rfl 0).trans R5
  refine ⟨w, R51, w, R51, rdI M1 (sFu w), (T1 _ m2).1.1, ?_⟩
  refine rm300 (s := sFu w) (X := [sFu w]) hG T1 m2 (by simp) rfl (by omega) (by rw [v2.2.1]; omega) (fun i2 N2 g2 f2 => ?_)
  have fr2 : Fr (287724615985440965458794678136059329065601673898977937679550706873822600720910104184224330452334632505066398528821115743546239988265425214780729768327433904187638733707140592015203836016720409797262037678641561245446221574655641153333187651609098710329941003825584030113765405961157123932768976632761263557862273595233321799276323219915537860208918694360056093605407667110977055296220158058209988384202312567422191708397454623472372937755539799002254127214040020619096795591065008034208014061606765594202542785143942548576241794192533346758629812272041305207205049625948019882994452761266939050709297578786867576572573531145856403663427419533322786813944969153547037374106879651467179926116514379522577550078482530632056097320730613891936235192307927615079300739212339234428017663684335360135702983459901199338639056692121426567562048469213780431920830637770408351030714617834316276903478121066408552496784143172542600436976336401637656364118791326214292290710959324624979966547438077374993859033128870606220997395445467926429577999769757282018524300787044352695749994578742962403315369795224832330146230619800658293471106651573422485246149622038125351163471458341118832957062734222246343263873715681038538096574072265588407341596352039088297796192696711623084237360590841532614457011674218261242986208404264896831051199597047306056289504233310055634325485928824085392261888946946851320228555111389065790479365218440510158401015269620098388220943048800593674996241289379243254260496829339353802369271999743468276282810458338154832462920676883760082059253216129327042989708882218212761583352807424) M1 (sR N2 12 w 54 (some (300, i2))) := Fr.wR rfl (f2.sub rfl)
  have g2 : Gr1 G [sFu w] (sFu w) (n + 1) M1 (sR N2 12 w 54 (some (300, i2))) := g2
  generalize sR N2 12 w 54 (some (300, i2)) = M2 at fr2 g2 ⊢
  obtain ⟨w1, w2, w3⟩ := gr_b g2 (by rw [v2.2.1]; exact q2) hF (by rw [v2.2.1]; exact p2)
  have T2 := g2.1.1
  have x1 := g2.1.2.1 (sFc w) m1 (by simp)
  have x3 := g2.1.2.1 (sFl' w) m3 (by simp)
  have x4 := g2.1.2.1 (sFo w) m4 (by simp)
  have R52 : mR M2 11 0 45 = some (12, w) := (fr2.R (f := 11) (k := 45) rfl 0).trans R51
  refine ⟨w, R52, w, R52, rdI M2 (sFl' w), (T2 _ m3).1.1, ?_⟩
  refine rm300 (s := sFl' w) (X := [sFl' w]) hG T2 m3 (by simp) rfl (by omega) (by rw [x3.2.1, v3.2.1]; omega) (fun i3 N3 g3 f3 => ?_)
  have fr3 : Fr (287724615985440965458794678136059329065601673898977937679550706873822600720910104184224330452334632505066398528821115743546239988265425214780729768327433904187638733707140592015203836016720409797262037678641561245446221574655641153333187651609098710329941003825584030113765405961157123932768976632761263557862273595233321799276323219915537860208918694360056093605407667110977055296220158058209988384202312567422191708397454623472372937755539799002254127214040020619096795591065008034208014061606765594202542785143942548576241794192533346758629812272041305264432582482992420808433304270916281798925861730286046180632399966322695473549565773826193645017563227294916588259662992007103286867892364363221144438606605568774717034266634462214275705587495899437981695001833869080912046695079686477742977426889248484011872532270958358035385490182904707925667491883586515742208482205475196787003262667192099947388102087281923792241878177484223561425718104420111890307485787748506164694744956935340619661135659859405668708621037696715565344717076946707332950666989727592042357241328673066636307895226009780140666568291960677446274402848439603386468825189543553825120874950660367579210653856141812170354496225328622393999230817313338408709877832438442778781273897678334810440422090101398371069500121802228088887268166285214925142324569335849711134825766344987334960962034362434619059273855647156032684242205507850994076985502933412817563901154345031428861266985112779718932035827869992518936799335474217079134061264474850382419158772715054173712528247959673236693563558902470607874807641488132856077938065408) M2 (sR N3 12 w 55 (some (300, i3))) := Fr.wR rfl (f3.sub rfl)
  have g3 : Gr1 G [sFl' w] (sFl' w) (n + 1) M2 (sR N3 12 w 55 (some (300, i3))) := g3
  generalize sR N3 12 w 55 (some (300, i3)) = M3 at fr3 g3 ⊢
  obtain ⟨y1, y2, y3⟩ := gr_b g3 (by rw [x3.2.1, v3.2.1]; exact q3) hF (by rw [x3.2.1, v3.2.1]; exact p3)
  have T3 := g3.1.1
  have z1 := g3.1.2.1 (sFc w) m1 (by simp)
  have z2 := g3.1.2.1 (sFu w) m2 (by simp)
  have z4 := g3.1.2.1 (sFo w) m4 (by simp)
  have R53 : mR M3 11 0 45 = some (12, w) := (fr3.R (f := 11) (k := 45) rfl 0).trans R52
  have r1 := (T3 _ m1).1.1
  have r2 := (T3 _ m2).1.1
  have r3 := (T3 _ m3).1.1
  have n12 : rdI M3 (sFc w) ≠ rdI M3 (sFu w) := fun e => (T3 (sFu w) m2).2 (sFc w) m1 (by simp) rfl e
  have n13 : rdI M3 (sFc w) ≠ rdI M3 (sFl' w) := fun e => (T3 (sFl' w) m3).2 (sFc w) m1 (by simp) rfl e
  have n23 : rdI M3 (sFu w) ≠ rdI M3 (sFl' w) := fun e => (T3 (sFl' w) m3).2 (sFu w) m2 (by simp) rfl e
  have n14 : rdI M3 (sFo w) ≠ rdI M3 (sFc w) := fun e => (T3 (sFc w) m1).2 (sFo w) m4 (by simp) rfl e
  have n24 : rdI M3 (sFo w) ≠ rdI M3 (sFu w) := fun e => (T3 (sFu w) m2).2 (sFo w) m4 (by simp) rfl e
  have n34 : rdI M3 (sFo w) ≠ rdI M3 (sFl' w) := fun e => (T3 (sFl' w) m3).2 (sFo w) m4 (by simp) rfl e
  have l1 : n + 1 ≤ mL M3 300 (rdI M3 (sFc w)) := by show n + 1 ≤ rl M3 (sFc w); rw [z1.2.1, x1.2.1]; exact u2
  have l2 : n + 1 ≤ mL M3 300 (rdI M3 (sFu w)) := by show n + 1 ≤ rl M3 (sFu w); rw [z2.2.1]; exact w2
  have l3 : n + 1 ≤ mL M3 300 (rdI M3 (sFl' w)) := y2
  rw [oN_tnc (k := n) (by omega)]
  refine ⟨w, R53, rdI M3 (sFc w), r1, (vp_oN (by omega)).mpr (by omega), _, rfl, w, R53, rdI M3 (sFu w), r2, (vp_oN (by omega)).mpr (by show n < mL M3 300 _; omega), w, R53, rdI M3 (sFl' w), r3, (vp_oN (by omega)).mpr (by show n < mL M3 300 _; omega), _, rfl, w, R53, w, R53, rdI M3 (sFo w), (T3 _ m4).1.1, ?_⟩
  have gw := (((GF.rf (X := XF w) T3).wr (s := sFc w) (k := n) (v := Int32.ofNat f) m1 (by simp) rfl).wr (s := sFu w) (k := n) (v := ru) m2 (by simp) rfl).wr (s := sFl' w) (k := n) (v := 0) m3 (by simp) rfl
  have frw : Fr (2037035976334486086268445688409378161051468393665936250636140449354381299763336706183397376) M3 (sI (sI (sI M3 300 (rdI M3 (sFc w)) n (Int32.ofNat f)) 300 (rdI M3 (sFu w)) n ru) 300 (rdI M3 (sFl' w)) n 0) := Fr.wIa rfl rfl (Fr.wIa rfl rfl (Fr.wIa rfl rfl (Fr.rf _ _)))
  have k1 : ∀ k, rd (sI (sI (sI M3 300 (rdI M3 (sFc w)) n (Int32.ofNat f)) 300 (rdI M3 (sFu w)) n ru) 300 (rdI M3 (sFl' w)) n 0) (sFc w) k = if k = n then Int32.ofNat f else rd M3 (sFc w) k := fun k => by
    show mI _ 300 (rdI M3 (sFc w)) k = _
    rw [mI_sI, if_neg (fun z => n13 z.2.1), mI_sI, if_neg (fun z => n12 z.2.1), mI_sI]
    by_cases e : k = n
    · rw [if_pos ⟨rfl, rfl, e⟩, if_pos e]
    · rw [if_neg (fun z => e z.2.2), if_neg e]; rfl
  have k2 : ∀ k, rd (sI (sI (sI M3 300 (rdI M3 (sFc w)) n (Int32.ofNat f)) 300 (rdI M3 (sFu w)) n ru) 300 (rdI M3 (sFl' w)) n 0) (sFu w) k = if k = n then ru else rd M3 (sFu w) k := fun k => by
    show mI _ 300 (rdI M3 (sFu w)) k = _
    rw [mI_sI, if_neg (fun z => n23 z.2.1), mI_sI]
    by_cases e : k = n
    · rw [if_pos ⟨rfl, rfl, e⟩, if_pos e]
    · rw [if_neg (fun z => e z.2.2), if_neg e, mI_sI, if_neg (fun z => n12 z.2.1.symm)]; rfl
  have k3 : ∀ k, rd (sI (sI (sI M3 300 (rdI M3 (sFc w)) n (Int32.ofNat f)) 300 (rdI M3 (sFu w)) n ru) 300 (rdI M3 (sFl' w)) n 0) (sFl' w) k = if k = n then 0 else rd M3 (sFl' w) k := fun k => by
    show mI _ 300 (rdI M3 (sFl' w)) k = _
    rw [mI_sI]
    by_cases e : k = n
    · rw [if_pos ⟨rfl, rfl, e⟩, if_pos e]
    · rw [if_neg (fun z => e z.2.2), if_neg e, mI_sI, if_neg (fun z => n23 z.2.1.symm), mI_sI, if_neg (fun z => n13 z.2.1.symm)]; rfl
  have k4 : ∀ k, rd (sI (sI (sI M3 300 (rdI M3 (sFc w)) n (Int32.ofNat f)) 300 (rdI M3 (sFu w)) n ru) 300 (rdI M3 (sFl' w)) n 0) (sFo w) k = rd M3 (sFo w) k := fun k => by
    show mI _ 300 (rdI M3 (sFo w)) k = _
    rw [mI_sI, if_neg (fun z => n34 z.2.1), mI_sI, if_neg (fun z => n24 z.2.1), mI_sI, if_neg (fun z => n14 z.2.1)]; rfl
  have kl : ∀ y : Sl, rl (sI (sI (sI M3 300 (rdI M3 (sFc w)) n (Int32.ofNat f)) 300 (rdI M3 (sFu w)) n ru) 300 (rdI M3 (sFl' w)) n 0) y = rl M3 y := fun y => rfl
  have ki : rdI (sI (sI (sI M3 300 (rdI M3 (sFc w)) n (Int32.ofNat f)) 300 (rdI M3 (sFu w)) n ru) 300 (rdI M3 (sFl' w)) n 0) (sFo w) = rdI M3 (sFo w) := rfl
  rw [← ki]
  have gw : GF G (XF w) M3 (sI (sI (sI M3 300 (rdI M3 (sFc w)) n (Int32.ofNat f)) 300 (rdI M3 (sFu w)) n ru) 300 (rdI M3 (sFl' w)) n 0) := gw
  generalize sI (sI (sI M3 300 (rdI M3 (sFc w)) n (Int32.ofNat f)) 300 (rdI M3 (sFu w)) n ru) 300 (rdI M3 (sFl' w)) n 0 = M4 at gw frw k1 k2 k3 k4 kl ⊢
  have e4 : rl M4 (sFo w) = rl M (sFo w) := by rw [kl, z4.2.1, x4.2.1, v4.2.1]
  refine rm300 (s := sFo w) (X := [sFo w]) hG gw.1 m4 (by simp) rfl (by omega) (by rw [e4]; omega) (fun i5 N5 g5 f5 => ?_)
  have fr5 : Fr (287724615985440965458794678136059329065601673898977937679550706873822600720910104184224330452334632505066398528821115743546239988265425214780729768327433904187638733707140592015203836016720409797262037678641561245446221574655641153333187651609098710329941003825584030113765405961157123932768976632761263557862273595233321799276323219915537860208918694360056093605407667110977055296220158058209988384202312567422191708397454623472372937755539799002254127214040020619096795591065008034208014061606765594202542785143942548576241794192533346758629812272041306065618042481614033764577225406007080273957759851274546637469970058798442451955502733926385659868218841274090300657448564986008784052754264135001080878000328102771970151509288338727028291120127504958615214678535286931688453134614602124244819634900110469437141190374675398584913674174577692838120749325012019218697228432447523928400246312951779475866553304813260477510503952640426232288108487734678262542333385682842750889510220946859380890571093702597936665779328899763466078759377598661734919793827292942894858695827694525898203251256999049487951295702200945585520549604566136003586283134619552460524523843129850026760929563015733749623211360394796376636425247981838427865818558029405512572410711212298977283283079739518963644338387977763931502104834569668242418074181375460878969327228834031143857627511899323794222662577451422007063861523170843844443669485834050045844303540494093997825802093483384334033159366740482224405034421362302953841110970714199868328035173991644951207034243022457401573908357726480516266190271267014179002131677184) M4 (sR N5 12 w 58 (some (300, i5))) := Fr.wR rfl (f5.sub rfl)
  have g5 : Gr1 G [sFo w] (sFo w) (n + 1) M4 (sR N5 12 w 58 (some (300, i5))) := g5
  generalize sR N5 12 w 58 (some (300, i5)) = M5 at fr5 g5 ⊢
  obtain ⟨y5, y6, y7⟩ := gr_b g5 (by rw [e4]; exact q4) hF (by rw [e4]; exact p4)
  have o1 := g5.1.2.1 (sFc w) m1 (by simp)
  have o2 := g5.1.2.1 (sFu w) m2 (by simp)
  have o3 := g5.1.2.1 (sFl' w) m3 (by simp)
  have fra : Fr (287724615985440965458794678136059329065601673898977937679550706873822600720910104184224330452334632505066398528821115743546239988265425214780729768327433904187638733707140592015203836016720409797262037678641561245446221574655641153333187651609098710329941003825584030113765405961157123932768976632761263557862273595233321799276323219915537860208918694360056093605407667110977055296220158058209988384202312567422191708397454623472372937755539799002254127214040020619096795591065008034208014061606765594202542785143942548576241794192533346758629812272041306265914407481269437003613205689779779892715734381521671751679362581917379196556986973951433663580882744768883728756894958230735158348969739077946064987848758736271283430819951807855216437503285406338773594597710641394382554744498331035870280186902825965793458354900604658722295720172495939066234063685368395087819414989190605713749492224391699357986166109196094648827660396429476900003706083563319855601045285166426897438201536949739071197929952163396003655068901700525441262269952761650335412075536684280607984059452449890713677090264746366824772477554761012620332086293597769157865647620888552119375436066247220638648498489734214144440390144161339872295723855648963432654803739427146196020194914595790018993998327149049111788047954521647892155814001640781571737011584385363670927952594456292096081793881283546088013509757902488500658766352586592057035340481559209352914404137031359640066935870576035487808440251458104650772093192834324422517873397274037239805254274310792645580660741788153442793994557432482993364035928711734509733180080128) M M5 := (((fr1.sub rfl).trans (fr2.sub rfl)).trans (fr3.sub rfl)).trans ((frw.sub rfl).trans (fr5.sub rfl))
  have e56 : mI M5 12 w 56 = Int32.ofNat n := (fra.I (f := 12) (k := 56) rfl w).trans a
  have R55 : mR M5 11 0 45 = some (12, w) := (fra.R (f := 11) (k := 45) rfl 0).trans R5
  have ga : GF G (XF w) M M5 := (((g1.1.sub (by simp)).trans (g2.1.sub (by simp))).trans (g3.1.sub (by simp))).trans (gw.trans (g5.1.sub (by simp)))
  refine ⟨w, R55, _, rfl, ?_⟩
  rw [e56, show Int32.ofNat n + (1 : Int32) = Int32.ofNat (n + 1) from oN_add n 1, show (1001 : Int32) + Int32.ofNat n = Int32.ofNat (1001 + n) from oN_add 1001 n]
  have fr9 : Fr (228910131428177603701755406038597370992866256605996714416239305740707356279544553417171483432814473032565478203542224449422544427767103399934794267554112492152570643747783615393289357881580751887291609577050486119385936116125581404470429097773717389138692933902315347725871293766854763709974986644983264429564711070350563522040399138184502765579565271776437524767219607364330343620246397252375590392067099313695524738912790075431862503208410123955197790844902368915156543066869228757701257705464810732957386428986999720416931970101723139791242081350688640076611213184787464723604890702270021713895829613969276994985014364487678263308362490038590335423610626980191000005473125921597417923940324803866846904812245997039463026449953790335867383604239048081272376364499889154174619381286132139726802541904422153396907189539634801218849822748376475140814390481137971610636651543538899732162561295745248744175743178153962997058705210024539453107059157058925528424545393257507597364998430284303652618537241371092574259540395037079680377978341031936) M5 (sI M5 12 w 56 (Int32.ofNat (n + 1))) := Fr.wI rfl (Fr.rf _ _)
  refine hQ _ (ga.fr fr9 hG) ⟨?_, fun y hy => ?_, fun i hi => ?_⟩
  · rw [hfl, mI_sI, if_pos ⟨rfl, rfl, rfl⟩]
  · rw [hfl]
    have r : ∀ y : Sl, rl (sI M5 12 w 56 (Int32.ofNat (n + 1))) y = rl M5 y := fun y => rfl
    rw [r]
    simp only [List.mem_cons, List.not_mem_nil, or_false] at hy
    rcases hy with e | e | e | e <;> subst e
    · rw [o1.2.1, kl, z1.2.1, x1.2.1]; exact ⟨m1, u2, u1⟩
    · rw [o2.2.1, kl, z2.2.1]; exact ⟨m2, w2, w1⟩
    · rw [o3.2.1, kl]; exact ⟨m3, y2, y1⟩
    · exact ⟨m4, y6, y5⟩
  · rw [hfl] at hi
    have r : ∀ (y : Sl) (k : Nat), y.2.2.2 = 300 → rd (sI M5 12 w 56 (Int32.ofNat (n + 1))) y k = rd M5 y k := fun y k hy => by
      unfold rd
      rw [mI_sI, if_neg (fun z => by rw [hy] at z; exact absurd z.1 (by decide))]; rfl
    rw [r _ _ rfl, r _ _ rfl, r _ _ rfl, r _ _ rfl, o1.1, o2.1, o3.1, k1, k2, k3]
    by_cases e : i = n
    · rw [if_pos e, if_pos e, if_pos e, e, hg2]
      exact ⟨rfl, rfl, rfl, fun z => absurd rfl z⟩
    · have hi' : i < n := by omega
      rw [if_neg e, if_neg e, if_neg e, hg1 i hi', z1.1, x1.1, u3 i hi', z2.1, w3 i hi', v2.1, y3 i hi', x3.1, v3.1, y7 i hi', k4, z4.1, x4.1, v4.1]
      exact c i hi'
theorem TM.l (h : TM G US A S W w br nq nl nf nk B F x bb t s U M) : TXm G US A S W w br nq nl nf nk B F x t s M := h.1
theorem ct_newFault {f : Nat} {ru : Int32} {Q : Int32 → Mem → Prop} (h : TM G US A S W w br nq nl nf nk B F x bb t s U M) (hF : (zF s).length + 1 ≤ F) (hFb : F < 1000000) (hQ : ∀ M', TM G US A S W w br nq nl nf nk B F x bb t (addFt s f ru) U M' → Q (Int32.ofNat (1001 + (zF s).length)) M') : w_Model_newFault 0 (Int32.ofNat f) ru Q M := by
  refine mf_w_Model_newFault (Q := fun v M' => v = Int32.ofNat (1001 + (zF s).length) ∧ GF G (XF w) M M' ∧ uF G w F (addFt s f ru) M') (fun v M' hf ⟨ev, hg, hu⟩ => ?_) (ct_nf0 h.1 hF hFb (fun M' a b => ⟨rfl, a, b⟩))
  rw [ev]
  refine hQ M' ?_
  obtain ⟨⟨a1, ⟨b1, b2'⟩, ⟨c1, c2⟩, ⟨d1, d2, d3⟩, ⟨e1, e2, e3, e4⟩, ⟨m1, m2, m3⟩, g⟩, hl, hu', h4⟩ := h
  have tI : ∀ i g k, tnF g = true → (g = 13 → k < 23) → mI M' g i k = mI M g i k := fun i g k hg h23 => unO_I (R := F_Model_newFault) rfl hf hg h23 i
  have tL : ∀ i g, tnF g = true → mL M' g i = mL M g i := fun i g hg => by
    rcases tnF_in hg with z | z | z | z | z | z | z | z | z <;> rw [z] <;> exact hf.L rfl _
  refine ⟨⟨a1.mgf hf hg XF_W XF_S, ⟨b1.fr hf, b2'.fr hf⟩, ⟨c1.fr hf, hu⟩, ⟨d1.fr hf, d2.fr hf, d3.fr hf⟩, ⟨(hf.R (f := 11) (k := 46) rfl 0).trans e1, (hf.I (f := 11) (k := 47) rfl 0).trans e2, (hf.L (f := 704) rfl w).trans e3, fun t' ht => (hf.Ra (f := 704) rfl rfl w t').trans (e4 t' ht)⟩, ⟨by have := hg.2.2; omega, by rw [hf.L (f := 110) rfl]; exact ⟨m2, m3⟩⟩, fun t' ht hne => (g t' ht hne).eq (tI _) (tL _)⟩, hl.eq (tI _) (tL _), hu'.eq (tI _), fun z => by rw [tI _ 13 4 rfl (by omega)]; exact h4 z⟩
end
