abbrev zl (z : Nat × Nat × Nat × Nat × Nat × Nat) (l : Nat) : Nat × Nat × Nat × Nat × Nat × Nat := (z.1, z.2.1, z.2.2.1, z.2.2.2.1, z.2.2.2.2.1, l)
theorem JM.s51 {G : List Sl} {US : UST} {A : List Nm} {S : List Sg} {W : List Cls} {w c : Nat} {br : Int32} {q0 nl0 nq nl nf nk : Nat} {p : PM} {NL : List Nine} {z : Nat × Nat × Nat × Nat × Nat × Nat} {L ts : List Tok} {M0 M : Mem} (h : JM G US A S W w c br q0 nl0 nq nl nf nk p NL z L ts M0 M) (hx : Gx G w) (l : Nat) : JM G US A S W w c br q0 nl0 nq nl nf nk p NL (zl z l) L ts M0 (sI M 11 0 51 (Int32.ofNat l)) := by
  obtain ⟨h1, h2, h3, h4, h5, h6⟩ := h
  have hf : Fr (4451597641046097242080964295410352959469136803183100691426390983137447307288249322879394111001208155152503632917227533398918709556667863975331499494914798178803157375621006922652718901728600405688623992009061334134386436140989095224157597830699354988124677650821169777533783179174355714836938522693893686145986691025815397157501870109129341896741467909621374335008342600103267247128843621298297172166030687278724029308698221072182865185870148824146244292016358101307462648759379017652516923523111949675505487025988136902618755101614564042126950472109042704778433176770706987995547834572552021163889735661937150081237875641726816673815447402048729628152562373433200078715189084617777266973588873042218940009658001563443031527272093057718291113534039634366974666849229374468981401571672979004732238073576038248458324677591148577664055409425168339707079052668222558361657049398433122829505075171160315267529124689753798460549855899666849899318682885206640475806539612126591999541248) M (sI M 11 0 51 (Int32.ofNat l)) := Fr.wI rfl (Fr.rf _ _)
  have xl := XL_fr hf hx.1 hx.2.2.2.2.1 rfl
  exact ⟨h1.fr hf, h2.fr hf hx.1 hx.2.2.2.1, ⟨h3.1.fr hf hx.1 hx.2.2.2.1, h3.2.1.of rfl xl, h3.2.2.of rfl xl⟩, h4.fr hf hx, h5.fr hf hx.1 hx.2.2.2.1, by simp only [mI_sI, mI_sR, mI_sJ, mR_sI, mL_sI, mL_sR, mR_sR, Nat.reduceEqDiff, and_false, false_and, if_false, and_self, true_and, and_true, if_true]⟩
theorem JM.asks {G : List Sl} {US : UST} {A : List Nm} {S : List Sg} {W : List Cls} {w c : Nat} {br : Int32} {q0 nl0 nq nl nf nk : Nat} {p : PM} {NL : List Nine} {z : Nat × Nat × Nat × Nat × Nat × Nat} {L ts : List Tok} {M0 M : Mem} {rule : Nat} {b : Bool} {Q : Mem → Prop} (h : JM G US A S W w c br q0 nl0 nq nl nf nk p NL z L ts M0 M) (hx : Gx G w) (hl : z.2.2.2.2.2 < 1000) (hr : rule < 1000) (hQ : ∀ M', JM G US A S W w c br q0 nl0 nq nl nf nk p NL (zl z (lst z.2.2.2.2.2 rule b)) L ts M0 M' → (∀ k, rd M' (sLi w) k = rd M (sLi w) k) → Q M') : w_Model_asks 0 (Int32.ofNat rule) (b2 b) Q M := by
  refine ct_asks h.2.2.2.2.2 hl hr (fun M' e1 e2 => ?_)
  rcases e2 with q | q
  · subst q
    refine hQ _ ⟨h.1, h.2.1, h.2.2.1, h.2.2.2.1, h.2.2.2.2.1, e1⟩ (fun _ => rfl)
  · subst q
    have := h.s51 hx rule
    exact hQ _ ⟨this.1, this.2.1, this.2.2.1, this.2.2.2.1, this.2.2.2.2.1, e1⟩ (fun _ => rfl)
theorem LoT.sR {w c : Nat} {M M1 : Mem} {f i k : Nat} {v : Option (Nat × Nat)} (h : LoT w c M M1) : LoT w c M (sR M1 f i k v) := h.trans ⟨fun _ _ => ⟨fun _ _ _ => rfl, fun _ => rfl⟩, fun _ _ _ _ => rfl⟩
theorem XCd {w : Nat} {s : Sl} (hs : s ∈ [sB, sZ, sX, sTr, sF, sC, sRe, sNx, sTy] ∨ s ∈ XL) : s ∉ XC w := fun q => by
  simp only [List.mem_cons, List.not_mem_nil, or_false] at hs q
  rcases hs with hs | hs
  · rcases hs with e | e | e | e | e | e | e | e | e <;> rcases q with q | q | q | q | q <;> (rw [e] at q; cases q)
  · rcases hs with e | e | e | e | e <;> rcases q with q | q | q | q | q <;> (rw [e] at q; cases q)
/-- a method with one more instruction -/
abbrev pI (p : PM) (i : PI) : PM := (p.1, p.2.1 ++ [i], p.2.2.1, p.2.2.2.1, none)
set_option maxRecDepth 4000 in
theorem ct_layIns {G : List Sl} {US : UST} {A : List Nm} {S : List Sg} {W : List Cls} {w c : Nat} {br : Int32} {q0 nl0 nq nl nf nk : Nat} {p : PM} {NL : List Nine} {z : Nat × Nat × Nat × Nat × Nat × Nat} {L ts : List Tok} {M0 M : Mem} {o pl : Nat} {x : Opr} {v3 v4 v5 : Int32} {s0 : Bool} {Q X : Mem → Prop} (h : JM G US A S W w c br q0 nl0 nq nl nf nk p NL z L ts M0 M) (hx : Gx G w) (hc : c < W.length) (ho : o < 62) (hq : nq = q0 + p.2.1.length) (hnq : nq < 3900) (hz0 : z.2.1 ≤ nq) (hz1 : z.2.2.1 ≤ nl) (hz2 : z.2.2.2.1 ≤ nf) (hz3 : z.2.2.2.2.1 ≤ nk) (hzc : z.1 ≤ c) (hzl : z.2.2.2.2.2 < 1000) (hm12 : (gc W c).2.2.2.2.2.length < 12)
    (hv : z.2.2.2.2.2 = 99 → tOv A S w nl o x.1 x.2.1 (x.2.2.1.map (nc A)) x.2.2.2.1 x.2.2.2.2.1 x.2.2.2.2.2.1 x.2.2.2.2.2.2 v3 v4 v5 M) (hlb : (∀ nm ∈ x.2.2.1, nm ∈ A) ∧ lbOk o x.2.2.1) (hv4 : o = 40 → v4 = Int32.ofNat (nl0 + pkS p.2.1))
    (hQ : ∀ M', (p.2.1.length < 80 → z.2.2.2.2.2 = 99 → JM G US A S W w c br q0 nl0 (nq + 1) nl nf nk (pI p (o, x, p.2.2.2.2.map (fun f => (f.1, f.2.1)), pl)) NL (zl z (lst z.2.2.2.2.2 12 s0)) L ts M0 M') → JE G US A w z M0 M' → TQ A L ts M' → mI M' 11 0 51 = Int32.ofNat (lst z.2.2.2.2.2 12 s0) → Q M') : w_Model_codeLine_j808 0 Q X (Int32.ofNat o) v3 v4 v5 (b2 s0) 12 M := by
  unfold w_Model_codeLine_j808
  refine h.asks (rule := 12) hx hzl (by omega) (fun M1 h1 hli => ?_)
  have hv : z.2.2.2.2.2 = 99 → tOv A S w nl o x.1 x.2.1 (x.2.2.1.map (nc A)) x.2.2.2.1 x.2.2.2.2.1 x.2.2.2.2.2.1 x.2.2.2.2.2.2 v3 v4 v5 M1 := fun h99 => by
    obtain ⟨a1, a2, a3, a4⟩ := hv h99
    refine ⟨a1, a2, fun e => ?_, a4⟩
    obtain ⟨lf, b1, b2', b3, b4⟩ := a3 e
    exact ⟨lf, b1, b2', b3, fun j hj => (hli _).trans (b4 j hj)⟩
  clear hli h
  generalize hz' : zl z (lst z.2.2.2.2.2 12 s0) = z' at h1 hQ
  obtain ⟨g1, ⟨⟨hC, hFl, hMs⟩, ⟨c35, c37, c41, c43⟩, hRL, hbn⟩, ⟨⟨hHm, hIn, hPh, hPe⟩, hLb, hNi⟩, g4, g5, g6⟩ := id h1
  have hw := hx.2.2.2.1
  obtain ⟨⟨m1, m2, m3, m4, m5⟩, m6, -⟩ := XW_in hw
  have hw45 : mR M1 11 0 45 = some (12, w) := hC.2.1
  have hTG := g5.1.1
  have n0 := Gn.nil (n := nq) hTG
  have rl0 := hRL.2.2.2.2
  -- rows are made longer
  refine ⟨w, hw45, w, hw45, w, hw45, rdI M1 (sOp w), (hTG _ m1).1.1, ?_⟩
  rw [c35, lit32 1, oN_add]
  refine rm401 (s := sOp w) (X := [sOp w]) hx.1 hTG m1 (by simp) rfl (by omega) (by have := rl0 (sOp w) (by simp); omega) (fun i1 M2 r1 f1 => ?_)
  have fr1 : Fr (729468564308762096061292608618104212381582867063557551241996889870995898264200088979488492719712607932266379359137247354515334365181934580164965825242726771962489421678244467427945683738400480514925412216230720078349470885997069189118670694960992898523537443124859939485541957490750632213586593689971638355537432888036622390557951636381398703820030389336784757318833506264941027206854293823738648417429236597641760892492602819656649216532890220041381488710687038106342577105584971476143317548082771688045883800998329935398194816256877555554497525070425856061195504935805020327076983651365345534247248631658804441900107014620787204905478397381004892106448584387027572989133201478830138162816762339765435399266214245000257764852926146076971320261616324063600211476316043537206558347923399256135530756830310373909164012447437139708914864867818808082310556963575403695133793558712843692019252094339870506584793908780190793430566820388614528302009194847475687544159437027967715933054753947242654859541099778180136780246713974710993972359139442463023256609111317496164037734047478819738604164476990344236373322492562148059882992470667044220259750753475584124937696102451685935471530010629630281472536445068094667329093686823769062968711956631067998066918944635589330299302455673974475711627616436363971634830625628576951410182777093822181486012406306689894037940278273213524927961453521860061237305940902744537230146092055480151476191027568052106637124237286479110021504472515198026233621082558827863303764151590898450299398681663833920941048126718276314842759142100285088074747317950496448487598194558199466260144345184016862806016) M1 (sR M2 12 w 30 (some (401, i1))) := Fr.wR rfl (f1.sub rfl)
  generalize hM3 : sR M2 12 w 30 (some (401, i1)) = M3 at fr1
  have r1 : Gr1 G [sOp w] (sOp w) (nq + 1) M1 M3 := by rw [← hM3]; exact r1
  have loM3 : LoT w z'.1 M1 M3 := by rw [← hM3]; exact ((LoT.rf w z'.1 M1).fr f1).sR
  have n1 := n0.step m1 (fun x hx => by cases hx) (by simp) (by omega) (hRL.1 _ (by simp)) (rl0 _ (by simp)) r1
  have T3 := r1.1.1
  have w3 : mR M3 11 0 45 = some (12, w) := (fr1.R (f := 11) (k := 45) rfl 0).trans hw45
  refine ⟨w, w3, w, w3, rdI M3 (sAs w), (T3 _ m2).1.1, ?_⟩
  have e2 := n1.1.2.1 (sAs w) m2 (by simp)
  refine rm300 (s := sAs w) (X := [sAs w]) hx.1 T3 m2 (by simp) rfl (by omega) (by rw [e2.2.1]; have := rl0 (sAs w) (by simp); omega) (fun i2 M4 r2 f2 => ?_)
  have fr2 : Fr (287724615985440965458794678136059329065601673898977937679550706873822600720910104184224330452334632505066398528821115743546239988265425214780729768327433904187638733707140592015203836016720409797262037678641561245446221574655641153333187651609098710329941003825584030113765405961157123932768976632761263557862273595233321799276323219915537860208918694360056093605407667110977055296220158058209988384202312567422191708397454623472372937755539799002254127214040020619096795591065008034208014061606765594202542785143942548576241794192533346758629812272041305149977523590957153589809358423111544958734954808542380036772586637860405651939142603531710060218199936655604636901295156538493545189038624030587011113897982426845493114011584728977095162903154997027620477436444251415695177683443720689308528123569854288380244166160228586281127875132760377172341208040876892862598598177292881543848050648222070407833799063266369391336856004349136490342167660815090033294855694286567572422977538986302618756644519679384033875703624661713271707631388005462942156181486155332686038612626315226850573993660309405515832630766398849341933521381156087073785410864868281458751477401938233364049217921295915379402743761964368326934958499085297828055023942832651688209379359147421162606371860157990755667112697079027013505756912539216657854470225450196819233600783146743758448980636497666623813401352006458705263263617551887990492117906152326624616578248268669595834088655984055098695845131143542084661382895647320865854411777445498809213886219129425749842556628643527302036935069714666646366086268346761551308902105088) M3 (sR M4 12 w 31 (some (300, i2))) := Fr.wR rfl (f2.sub rfl)
  generalize hM5 : sR M4 12 w 31 (some (300, i2)) = M5 at fr2
  have r2 : Gr1 G [sAs w] (sAs w) (nq + 1) M3 M5 := by rw [← hM5]; exact r2
  have loM5 : LoT w z'.1 M1 M5 := by rw [← hM5]; exact (loM3.fr f2).sR
  have n2 := n1.step m2 (fun x hx => by rw [List.mem_singleton] at hx; rw [hx]; exact m1) (by simp) (by omega) (hRL.1 _ (by simp)) (rl0 _ (by simp)) r2
  have T5 := r2.1.1
  have w5 : mR M5 11 0 45 = some (12, w) := (fr2.R (f := 11) (k := 45) rfl 0).trans w3
  refine ⟨w, w5, w, w5, rdI M5 (sBs w), (T5 _ m3).1.1, ?_⟩
  have e3 := n2.1.2.1 (sBs w) m3 (by simp)
  refine rm300 (s := sBs w) (X := [sBs w]) hx.1 T5 m3 (by simp) rfl (by omega) (by rw [e3.2.1]; have := rl0 (sBs w) (by simp); omega) (fun i3 M6 r3 f3 => ?_)
  have fr3 : Fr (287724615985440965458794678136059329065601673898977937679550706873822600720910104184224330452334632505066398528821115743546239988265425214780729768327433904187638733707140592015203836016720409797262037678641561245446221574655641153333187651609098710329941003825584030113765405961157123932768976632761263557862273595233321799276323219915537860208918694360056093605407667110977055296220158058209988384202312567422191708397454623472372937755539799002254127214040020619096795591065008034208014061606765594202542785143942548576241794192533346758629812272041305149977530413010688222063115594605493614977176189797071101032426179751793970100996141822968191826073162299031787314039545781156017393736583665350011566245605361201591067648342692384593561009190038263064048396297693443446366734598457136088627707109154662095082751207172677462517143509997901406508246689799484765344249324392327320892407721503423658062131927469577374041637513379221229381815843397863372315775257672391349607605158753195869456358441476961294465237396084289249603980313443069180214428387949552022934477423817595530825142956178926512039368585157059543199232307604932563547347675203866040296886837854596641394964230289150242632236317895281971675999670952757250136733014025569559607647222549930967178444628734314653489702167523759629926365182833854578748865826141631237023018866018363583207951449709597082162298665766370802753659217833495394102490878357045749995027111642173844087558199479702566331243511398590179738571468090151206104340819878911448281310294297596008471800151479207676648927266073149814627562413745230435529036660736) M5 (sR M6 12 w 32 (some (300, i3))) := Fr.wR rfl (f3.sub rfl)
  generalize hM7 : sR M6 12 w 32 (some (300, i3)) = M7 at fr3
  have r3 : Gr1 G [sBs w] (sBs w) (nq + 1) M5 M7 := by rw [← hM7]; exact r3
  have loM7 : LoT w z'.1 M1 M7 := by rw [← hM7]; exact (loM5.fr f3).sR
  have n3 := n2.step m3 (fun x hx => by simp at hx; rcases hx with e | e <;> rw [e] <;> assumption) (by simp) (by omega) (hRL.1 _ (by simp)) (rl0 _ (by simp)) r3
  have T7 := r3.1.1
  have w7 : mR M7 11 0 45 = some (12, w) := (fr3.R (f := 11) (k := 45) rfl 0).trans w5
  refine ⟨w, w7, w, w7, rdI M7 (sCs w), (T7 _ m4).1.1, ?_⟩
  have e4 := n3.1.2.1 (sCs w) m4 (by simp)
  refine rm300 (s := sCs w) (X := [sCs w]) hx.1 T7 m4 (by simp) rfl (by omega) (by rw [e4.2.1]; have := rl0 (sCs w) (by simp); omega) (fun i4 M8 r4 f4 => ?_)
  have fr4 : Fr (287724615985440965458794678136059329065601673898977937679550706873822600720910104184224330452334632505066398528821115743546239988265425214780729768327433904187638733707140592015203836016720409797262037678641561245446221574655641153333187651609098710329941003825584030113765405961157123932768976632761263557862273595233321799276323219915537860208918694360056093605407667110977055296220158058209988384202312567422191708397454623472372937755539799002254127214040020619096795591065008034208014061606765594202542785143942548576241794192533346758629812272041305149977544057117757486570629937593390927461618952306453229552105263534570606424703218405484455041819613585886088139528324266480961803132502934876012470940851229913786974921858619199590357221260120733951190316004577498948744836907930029648826874187755409524759921301060859825295680264472949874842323987644668570835551618591218874981121868066130158518797655875993339451200531439390707461112208563410050357614384444038903976860398286982370855786285072115815644304938929441205396678164318281656330922191537990696726207018822332891327441547917968504452844222673479945730654160502623543071221295875035203387705709687323196086456848275619969091221429757109261158082014687676094300151156411405302404182949354950576322590165886962449134881108413224862767581723423130420537657027524500072601855031761603232725893076133457998860093293286194997734450418396710201323236822766484000751924838389182340594497286470997501602040271908686369892948612975811886604198904745736726416158444633936525730287197150568425872911658790116151150514704542168203969305772032) M7 (sR M8 12 w 33 (some (300, i4))) := Fr.wR rfl (f4.sub rfl)
  generalize hM9 : sR M8 12 w 33 (some (300, i4)) = M9 at fr4
  have r4 : Gr1 G [sCs w] (sCs w) (nq + 1) M7 M9 := by rw [← hM9]; exact r4
  have loM9 : LoT w z'.1 M1 M9 := by rw [← hM9]; exact (loM7.fr f4).sR
  have n4 := n3.step m4 (fun x hx => by simp at hx; rcases hx with e | e | e <;> rw [e] <;> assumption) (by simp) (by omega) (hRL.1 _ (by simp)) (rl0 _ (by simp)) r4
  have T9 := r4.1.1
  have w9 : mR M9 11 0 45 = some (12, w) := (fr4.R (f := 11) (k := 45) rfl 0).trans w7
  refine ⟨w, w9, w, w9, rdI M9 (sCf w), (T9 _ m5).1.1, ?_⟩
  have e5 := n4.1.2.1 (sCf w) m5 (by simp)
  refine rm300 (s := sCf w) (X := [sCf w]) hx.1 T9 m5 (by simp) rfl (by omega) (by rw [e5.2.1]; have := rl0 (sCf w) (by simp); omega) (fun i5 Ma r5 f5 => ?_)
  have fr5 : Fr (287724615985440965458794678136059329065601673898977937679550706873822600720910104184224330452334632505066398528821115743546239988265425214780729768327433904187638733707140592015203836016720409797262037678641561245446221574655641153333187651609098710329941003825584030113765405961157123932768976632761263557862273595233321799276323219915537860208918694360056093605407667110977055296220158058209988384202312567422191708397454623472372937755539799002254127214040020619096795591065008034208014061606765594202542785143942548576241794192533346758629812272041305149977571345331896015585658623569185552430504477325217486591463431100123879072117371570516981473312516159594689790505881237130850621924341473928014280331342967338178789468890472829583949645400285675725474155418345609953501041526875816769225208344956904384114261488837224550852753773423046811510478583335036181818156206989001983158550161191543159432129112688825270270326567559729663619704938894503406441292637987334012715370877354555373654641972262424858002440024619745116982073866068706608563909798714868044309666208831807612332038731396052489279795497706320750793497866298005502118968537217373529569343453352776305469442084248559422009191653480763840122246702157513782626987441183076787997254402964989794610881240192258040425238990192155328450014804601682104115239430290237743759527363248082531761776328981179832255682548325843387696032819523139815764728711585360502265720291883199333608375460453587372143633792928878750201702902747133247603915074479387282685854745306617560247261288493289924320880444224048824196419286136043740849843994624) M9 (sR Ma 12 w 34 (some (300, i5))) := Fr.wR rfl (f5.sub rfl)
  generalize hMb : sR Ma 12 w 34 (some (300, i5)) = Mb at fr5
  have r5 : Gr1 G [sCf w] (sCf w) (nq + 1) M9 Mb := by rw [← hMb]; exact r5
  have loMb : LoT w z'.1 M1 Mb := by rw [← hMb]; exact (loM9.fr f5).sR
  have n5 := n4.step m5 (fun x hx => by simp at hx; rcases hx with e | e | e | e <;> rw [e] <;> assumption) (by simp) (by omega) (hRL.1 _ (by simp)) (rl0 _ (by simp)) r5
  have Tb := r5.1.1
  have wb : mR Mb 11 0 45 = some (12, w) := (fr5.R (f := 11) (k := 45) rfl 0).trans w9
  have frb : Fr (729468564308762096061292608618391936997568308029016345920132949200061499938099066917168043426586430532987289463321471684897045646080029676852026457635465645267310038133798141355588713349732210756497177180341467598530614977126529622581629214824337201063203415110207534273831094485554684291479478214146403938932736477282642260875051023662705369728841693160610812561318677415923243113430981516561262381807863832688455625701076629090398720314624102635670726227568650548319778341337899712255270537786398864048518138340890940339688662504717300266138895497361560217573290613016743539865657139712158307835034043037248456395697273776269638561582033280581121428656210037785649734232415661269464014346677198325715865250903690901444038514983240589299725401501285619162509475121607014550883244240804075736559785129897089144764917437996939277103332755387798508028747303214488596573085634603953487531043080869467743842070753918847195061269393412230520239149794788385147011459593584313125871537359623413147331323659294985436244228526414893443484205209418652298322394945530465122732130126019170818180323681341235648548274025790741815463053722373856002622188535233158639244115120406198233328338742055294399611432600471989694772484535525445543130464931809895025234649742312905560522157493555587549275542506666200422647588648779976212360508701855186807386232796710644124149525974503257420563464931725028134480925547997357634097179085609371414098769968548299476090474026319205330637041061449550289381150831986972556698379196456123566955885603988241758962419401423943911632223057118769402713421571566075178166145884994144144970812586568949052735488) M1 Mb := ((((fr1.sub rfl).trans (fr2.sub rfl)).trans (fr3.sub rfl)).trans (fr4.sub rfl)).trans (fr5.sub rfl)
  clear loM3 loM5 loM7 loM9 fr1 fr2 fr3 fr4 fr5 r1 r2 r3 r4 r5 n0 n1 n2 n3 n4 T3 T5 T7 T9 w3 w5 w7 w9 e2 e3 e4 e5 hM3 hM5 hM7 hM9 hMb f1 f2 f3 f4 f5
  have XG : ∀ s ∈ XC w, s ∈ G := fun s hs => by
    simp only [List.mem_cons, List.not_mem_nil, or_false] at hs
    rcases hs with e | e | e | e | e <;> rw [e] <;> assumption
  have n5 : Gn G (XC w) nq M1 Mb := ⟨n5.1.sub (by simp), fun s hs => n5.2 s (by simp only [List.mem_cons, List.not_mem_nil, or_false] at hs ⊢; rcases hs with e | e | e | e | e <;> simp [e])⟩
  have tq : (Int32.ofNat nq).toNatClampNeg = nq := oN_tnc (by omega)
  have hWl := hC.1.1.1.2.2.1
  generalize hm : 12 * c + (gc W c).2.2.2.2.2.length = m at hHm hPh
  have hm6 : m < 612 := by omega
  have tm : (Int32.ofNat m).toNatClampNeg = m := oN_tnc (by omega)
  have vr : ∀ s ∈ XC w, vp_in (Int32.ofNat nq) (rl Mb s) := fun s hs => (vp_oN (by omega)).mpr (by have := (n5.2 s hs).1.1; omega)
  have k35 : mI Mb 12 w 35 = Int32.ofNat nq := (frb.I (f := 12) (k := 35) rfl w).trans c35
  have k54 : mI Mb 11 0 54 = Int32.ofNat m := (frb.I (f := 11) (k := 54) rfl 0).trans hHm.2.2.1.2
  have k65 : mI Mb 11 0 65 = mI M1 11 0 65 := frb.I (f := 11) (k := 65) rfl 0
  have k150 : mI Mb 150 w m = Int32.ofNat p.2.1.length := (frb.Ia (f := 150) rfl rfl w m).trans hHm.2.1.2.1
  have l150 : mL Mb 150 w = 612 := (frb.L (f := 150) rfl w).trans (hMs.1.1 150 (by omega) (by omega))
  rw [tq, b8_62 ho]
  refine ⟨w, wb, rdI Mb (sOp w), (Tb _ m1).1.1, vr (sOp w) (by simp), _, rfl, w, wb, rdI Mb (sAs w), (Tb _ m2).1.1, vr (sAs w) (by simp), w, wb, rdI Mb (sBs w), (Tb _ m3).1.1, vr (sBs w) (by simp), _, rfl, w, wb, rdI Mb (sCs w), (Tb _ m4).1.1, vr (sCs w) (by simp), w, wb, rdI Mb (sCf w), (Tb _ m5).1.1, vr (sCf w) (by simp), _, rfl, w, wb, _, rfl, w, wb, ?_⟩
  simp only [mI_sI, mI_sR, mI_sJ, mR_sI, mL_sI, mL_sR, mR_sR, Nat.reduceEqDiff, and_false, false_and, if_false, and_self, true_and, and_true, if_true, k35, k54, k65, k150, tm]
  refine ⟨by show vp_in _ (mL Mb 150 w); rw [l150]; exact (vp_oN (by omega)).mpr hm6, by show vp_in _ (mL Mb 150 w); rw [l150]; exact (vp_oN (by omega)).mpr hm6, _, rfl, ?_⟩
  rw [oN_add, oN_add]
  have d23 : rdI Mb (sAs w) ≠ rdI Mb (sBs w) := fun q => (Tb _ m3).2 _ m2 (sl_ne (by simp)) rfl q
  have d24 : rdI Mb (sAs w) ≠ rdI Mb (sCs w) := fun q => (Tb _ m4).2 _ m2 (sl_ne (by simp)) rfl q
  have d25 : rdI Mb (sAs w) ≠ rdI Mb (sCf w) := fun q => (Tb _ m5).2 _ m2 (sl_ne (by simp)) rfl q
  have d34 : rdI Mb (sBs w) ≠ rdI Mb (sCs w) := fun q => (Tb _ m4).2 _ m3 (sl_ne (by simp)) rfl q
  have d35 : rdI Mb (sBs w) ≠ rdI Mb (sCf w) := fun q => (Tb _ m5).2 _ m3 (sl_ne (by simp)) rfl q
  have d45 : rdI Mb (sCs w) ≠ rdI Mb (sCf w) := fun q => (Tb _ m5).2 _ m4 (sl_ne (by simp)) rfl q
  obtain ⟨Mz, hMz⟩ : ∃ Mz, Mz = sI (sI (sI (sI (sI (sI (sI (sI Mb 401 (rdI Mb (sOp w)) nq (Int32.ofNat o)) 300 (rdI Mb (sAs w)) nq v3) 300 (rdI Mb (sBs w)) nq v4) 300 (rdI Mb (sCs w)) nq v5) 300 (rdI Mb (sCf w)) nq (mI M1 11 0 65)) 11 0 65 0) 12 w 35 (Int32.ofNat (nq + 1))) 150 w m (Int32.ofNat (p.2.1.length + 1)) := ⟨_, rfl⟩
  rw [← hMz]
  have frz : Fr (109152856554116060114743903178499875542100075057028230367646013112347803911131676133328613913947678186328332240217750323491957778031062264000352205761363716186779903983321727858507073006943138928423082339125805529955260650360569223739822550195026239832845827566357360015663769765723899270701240939702569365136984645178067823216780094296035541726583068081877092350090248315291662881561192348561970925224404417032058818601430383941772381722652587470301308589541590260837776518655746452995155725225844202400317156049030705486426007578161158145080102797546703733274256971162848696672550222370570934507509696368112621790112103021102990936616531310630605828178964529020238346493600738106756078104675323259380815879147511915251101185078099525471827604810130449423447847760566135259232151918574852625137153096256802095298677932664859637612954795806471298956152745316668796373331629446268503396523952317559927157282996927922596906012603030907749314174546953615057728453352365843395273295673374374971088015329589096629921001521603406630697828352) Mb Mz := by
    rw [hMz]
    exact Fr.wIa rfl rfl (Fr.wI rfl (Fr.wI rfl (Fr.wIa rfl rfl (Fr.wIa rfl rfl (Fr.wIa rfl rfl (Fr.wIa rfl rfl (Fr.wIa rfl rfl (Fr.rf _ _))))))))
  have gz : GF G (XC w) Mb Mz := by
    have w1 := (GF.rf (X := XC w) Tb).wr (s := sOp w) (k := nq) (v := Int32.ofNat o) m1 (by simp) rfl
    have w2 := w1.wr (s := sAs w) (k := nq) (v := v3) m2 (by simp) rfl
    have w3 := w2.wr (s := sBs w) (k := nq) (v := v4) m3 (by simp) rfl
    have w4 := w3.wr (s := sCs w) (k := nq) (v := v5) m4 (by simp) rfl
    have w5 := w4.wr (s := sCf w) (k := nq) (v := mI M1 11 0 65) m5 (by simp) rfl
    have f9 : ∀ M9 v1 v2 v3, Fr (109152856554116060114743903178499875542100075057028230367646013112347803911131676133328613913947678186328332240217750323491957778031062264000352205761363716186779903983321727858507073006943138928423082339125805529955260650360569223739822550195026239832845827566357360015663769765723899270701240939702569365136984645178067823216780094296035541726583068081877092350090248315291662881561192348561970925224404417032058818601430383941772381722652587470301308589541590260837776518655746452995155725225844202400317156049030705486426007578161158145080102797546703733274256971162848696672550222370570934507509696368112621790112103021102990936616531310630605828178964529020238346493600738106756078104675323259380815879147511915251101185078099525471827604810130449423447847760566135259232151918574852625137153096256802095298677932664859637612954795806471298956152745316668796373331629446268503396523952317559927157282996927917432406256429213728437475830538892830421982381607650372045545204431027662543739689819662249620290957350033725979019444224) M9 (sI (sI (sI M9 11 0 65 v1) 12 w 35 v2) 150 w m v3) := fun M9 v1 v2 v3 => Fr.wIa rfl rfl (Fr.wI rfl (Fr.wI rfl (Fr.rf _ _)))
    rw [hMz]
    exact w5.fr (f9 _ _ _ _) hx.1
  have eI : ∀ s, rdI Mz s = rdI Mb s := fun s => by rw [hMz]; rfl
  have z1 : ∀ k, rd Mz (sOp w) k = if k = nq then Int32.ofNat o else rd Mb (sOp w) k := fun k => by
    show mI Mz 401 (rdI Mz (sOp w)) k = _
    rw [eI, hMz]; simp only [mI_sI, mI_sR, mI_sJ, mR_sI, mL_sI, mL_sR, mR_sR, Nat.reduceEqDiff, and_false, false_and, if_false, and_self, true_and, and_true, if_true]; rfl
  have z2 : ∀ k, rd Mz (sAs w) k = if k = nq then v3 else rd Mb (sAs w) k := fun k => by
    show mI Mz 300 (rdI Mz (sAs w)) k = _
    rw [eI, hMz]; simp only [mI_sI, mI_sR, mI_sJ, mR_sI, mL_sI, mL_sR, mR_sR, Nat.reduceEqDiff, and_false, false_and, if_false, and_self, true_and, and_true, if_true, d23, d24, d25]; rfl
  have z3 : ∀ k, rd Mz (sBs w) k = if k = nq then v4 else rd Mb (sBs w) k := fun k => by
    show mI Mz 300 (rdI Mz (sBs w)) k = _
    rw [eI, hMz]; simp only [mI_sI, mI_sR, mI_sJ, mR_sI, mL_sI, mL_sR, mR_sR, Nat.reduceEqDiff, and_false, false_and, if_false, and_self, true_and, and_true, if_true, d23.symm, d34, d35]; rfl
  have z4 : ∀ k, rd Mz (sCs w) k = if k = nq then v5 else rd Mb (sCs w) k := fun k => by
    show mI Mz 300 (rdI Mz (sCs w)) k = _
    rw [eI, hMz]; simp only [mI_sI, mI_sR, mI_sJ, mR_sI, mL_sI, mL_sR, mR_sR, Nat.reduceEqDiff, and_false, false_and, if_false, and_self, true_and, and_true, if_true, d24.symm, d34.symm, d45]; rfl
  have z5 : ∀ k, rd Mz (sCf w) k = if k = nq then mI M1 11 0 65 else rd Mb (sCf w) k := fun k => by
    show mI Mz 300 (rdI Mz (sCf w)) k = _
    rw [eI, hMz]; simp only [mI_sI, mI_sR, mI_sJ, mR_sI, mL_sI, mL_sR, mR_sR, Nat.reduceEqDiff, and_false, false_and, if_false, and_self, true_and, and_true, if_true, d25.symm, d35.symm, d45.symm]; rfl
  have lz' : ∀ s, rl Mz s = rl Mb s := fun s => by unfold rl; rw [eI, hMz]; rfl
  have y65 : mI Mz 11 0 65 = 0 := by rw [hMz]; simp only [mI_sI, mI_sR, mI_sJ, mR_sI, mL_sI, mL_sR, mR_sR, Nat.reduceEqDiff, and_false, false_and, if_false, and_self, true_and, and_true, if_true]
  have y35 : mI Mz 12 w 35 = Int32.ofNat (nq + 1) := by rw [hMz]; simp only [mI_sI, mI_sR, mI_sJ, mR_sI, mL_sI, mL_sR, mR_sR, Nat.reduceEqDiff, and_false, false_and, if_false, and_self, true_and, and_true, if_true]
  have y150 : ∀ k, mI Mz 150 w k = if k = m then Int32.ofNat (p.2.1.length + 1) else mI Mb 150 w k := fun k => by rw [hMz]; simp only [mI_sI, mI_sR, mI_sJ, mR_sI, mL_sI, mL_sR, mR_sR, Nat.reduceEqDiff, and_false, false_and, if_false, and_self, true_and, and_true, if_true]
  have loz : LoT w z'.1 Mb Mz := by
    rw [hMz]
    refine ((((((((LoT.rf w z'.1 Mb).wo).wo).wo).wo).wo).wo).w12).w ?_
    show 12 * z'.1 ≤ m
    have : z'.1 = z.1 := by rw [← hz']
    omega
  clear hMz
  have hg : GF G (XC w) M1 Mz := n5.1.trans gz
  have hf : Fr (729468564308762096061292608618391936997568308029016345920132949200061499938099066917168043426586430532987289463321471684897045646080029676852026457635465645267310038133798141355588713349732210756497177180341467598530614977126529622581629214824337201063203415110207534273831094485554684291479478214146403938932736477282642260875051023662705369728841693160610812561318677415923243113430981516561262381807863832688455625701076629090398720314624102635670726227568650548319778341337899712255270537786398864048518138340890940339688662504717300266138895497361560217573290613016743539865657139712158416987890597153308571139600452276145180661657090308811489074669322385589560865908548989883377962024863526657956083001227182859222069577247240941505486765217472399066492796849465521623890187379732498818898910935427044405415278007220679099653527781627631353856313660574504260342851358503224188771982783438832880826715931986670411841363689447772246822217876665477497101707908875976007432729708185384072555728076327044254845658910356665825206857796888953606911936535791302899250785872472165973905549525543635965704323056496228241470631883532001082724986081936891913501086283254894905878561112626228907121128968584611484884587556628436479746996242440500853413614271333143907015758231662343627380217829925581238526736160695227313545586801380658634991042927160067571997286540638516652715383506577653271634021804799452932775111750469009027053565775019598432243219342988001703968670507718053685905103149546899713981376124373555973212314817716679234792958294254365894013830707490814947917852599228618917855965547243764435928162620294928072179712) M1 Mz := (frb.sub rfl).trans (frz.sub rfl)
  have hlo : LoT w z'.1 M1 Mz := loMb.trans loz
  have rX : ∀ s ∈ XW w, s ∉ XC w → (∀ k, rd Mz s k = rd M1 s k) ∧ rl Mz s = rl M1 s := fun s hs hn => ⟨(hg.2.1 s (hw s hs) hn).1, (hg.2.1 s (hw s hs) hn).2.1⟩
  have rk : Rk w nq nl nf nk M1 Mz := by
    refine ⟨fun s hs k hk => ?_, fun k _ => (rX _ (by simp) (by simp)).1 k, fun s hs k _ => ?_, fun k _ => (rX _ (by simp) (by simp)).1 k, fun s hs => ?_⟩
    · rw [← (n5.2 s hs).2.2 k hk]
      simp only [List.mem_cons, List.not_mem_nil, or_false] at hs
      have hk' : ¬ k = nq := by omega
      rcases hs with e | e | e | e | e <;> subst e
      · rw [z1, if_neg hk']
      · rw [z2, if_neg hk']
      · rw [z3, if_neg hk']
      · rw [z4, if_neg hk']
      · rw [z5, if_neg hk']
    · simp only [List.mem_cons, List.not_mem_nil, or_false] at hs
      rcases hs with e | e | e <;> subst e <;> exact (rX _ (by simp) (by simp)).1 k
    · by_cases q : s ∈ XC w
      · rw [lz']; exact ⟨(n5.2 s q).1.2, fun _ => (n5.2 s q).2.1⟩
      · rw [(rX s hs q).2]; exact ⟨Nat.le_refl _, id⟩
  have hTV : TV US A S Mz := g4.gf hf hg hx (fun s hs => XCd (Or.inl hs))
  have hXT : ∀ s ∈ XC w, s ∈ XT w := fun s hs => by
    simp only [List.mem_cons, List.not_mem_nil, or_false] at hs ⊢
    rcases hs with e | e | e | e | e <;> simp [e]
  have hKR : KR G w z'.1 z'.2.1 z'.2.2.1 z'.2.2.2.1 z'.2.2.2.2.1 M0 Mz := ⟨g5.1.trans (hg.sub hXT), g5.2.1.trans hlo, g5.2.2.trans (rk.mono (by rw [← hz']; exact hz0) (by rw [← hz']; exact hz1) (by rw [← hz']; exact hz2) (by rw [← hz']; exact hz3))⟩
  have wz : mR Mz 11 0 45 = some (12, w) := (frz.R (f := 11) (k := 45) rfl 0).trans wb
  have h51z : mI Mz 11 0 51 = Int32.ofNat z'.2.2.2.2.2 := (hf.I (f := 11) (k := 51) rfl 0).trans g6
  have hTQ : TQ A L ts Mz := g1.fr hf
  refine hQ Mz (fun h80 h99 => ⟨hTQ, ⟨⟨hC.fr hf, hFl.fr hf, ?_⟩, ⟨y35, (hf.I (f := 12) (k := 37) rfl w).trans c37, (hf.I (f := 12) (k := 41) rfl w).trans c41, (hf.I (f := 12) (k := 43) rfl w).trans c43⟩, ?_, ⟨by omega, hbn.2.1, by omega, hbn.2.2.2⟩⟩, ⟨⟨?_, fun i hi => ?_, ?_, y65⟩, ?_, ?_⟩, hTV, hKR, h51z⟩) ⟨S, hTV, by rw [← hz'] at hKR; exact hKR, wz, XLb_of ((hf.L (f := 109) rfl 0).trans hPh.1) (hLb.of (hf.I (f := 11) (k := 60) rfl 0) (fun s hs => ⟨(hg.2.1 s (hx.2.2.2.2.1 s hs) (XCd (Or.inr hs))).1, (hg.2.1 s (hx.2.2.2.2.1 s hs) (XCd (Or.inr hs))).2.1⟩)) (hNi.of (hf.I (f := 11) (k := 64) rfl 0) (fun s hs => ⟨(hg.2.1 s (hx.2.2.2.2.1 s hs) (XCd (Or.inr hs))).1, (hg.2.1 s (hx.2.2.2.2.1 s hs) (XCd (Or.inr hs))).2.1⟩))⟩ hTQ (by rw [h51z, ← hz'])
  · refine hMs.keep (hMs.1.fr hf) (rk.mono (by omega) (by omega) (Nat.le_refl _) (Nat.le_refl _)) (fun f a b d hd' k hk => ?_) (fun f a b d hd' k hk i hi => ?_) (fun f a b => ?_)
    · have h3 : f = 149 ∨ f = 150 ∨ f = 151 := by omega
      rcases h3 with e | e | e
      · subst e; exact hf.Ia (f := 149) rfl rfl w _
      · subst e
        have hk12 := (hMs.1.2 d hd').1.2
        have hne : 12 * d + k ≠ m := by
          rw [← hm]
          by_cases q : d = c
          · subst q; omega
          · omega
        rw [y150, if_neg hne]; exact frb.Ia (f := 150) rfl rfl w _
      · subst e; exact hf.Ia (f := 151) rfl rfl w _
    · have h3 : f = 152 ∨ f = 153 ∨ f = 154 ∨ f = 155 := by omega
      rcases h3 with e | e | e | e <;> subst e
      · exact hf.Ia (f := 152) rfl rfl w _
      · exact hf.Ia (f := 153) rfl rfl w _
      · exact hf.Ia (f := 154) rfl rfl w _
      · exact hf.Ia (f := 155) rfl rfl w _
    · have h3 : f = 152 ∨ f = 153 ∨ f = 154 ∨ f = 155 := by omega
      rcases h3 with e | e | e | e <;> subst e
      · exact hf.L (f := 152) rfl w
      · exact hf.L (f := 153) rfl w
      · exact hf.L (f := 154) rfl w
      · exact hf.L (f := 155) rfl w
  · refine ⟨fun s hs => by rw [lz']; exact (n5.2 s hs).1.1, by rw [(rX _ (by simp) (by simp)).2]; exact hRL.2.1, fun s hs => ?_, by rw [(rX _ (by simp) (by simp)).2]; exact hRL.2.2.2.1, fun s hs => ?_⟩
    · have := hRL.2.2.1 s hs
      simp only [List.mem_cons, List.not_mem_nil, or_false] at hs
      rcases hs with e | e | e <;> subst e <;> (rw [(rX _ (by simp) (by simp)).2]; exact this)
    · by_cases q : s ∈ XC w
      · rw [lz']; exact (n5.2 s q).2.1
      · rw [(rX s hs q).2]; exact hRL.2.2.2.2 s hs
  · obtain ⟨⟨a1, a2, a3, a4, a5, a6⟩, ⟨b1, b2', b3⟩, ⟨c1, c2⟩, d1, d2⟩ := hHm
    rw [hm]
    refine ⟨⟨⟨(hf.Ia (f := 144) rfl rfl w m).trans a1.1, a1.2⟩, ⟨(hf.Ia (f := 145) rfl rfl w m).trans a2.1, a2.2⟩, a3, (hf.Ia (f := 146) rfl rfl w m).trans a4, (hf.Ia (f := 147) rfl rfl w m).trans a5, (hf.Ia (f := 148) rfl rfl w m).trans a6⟩, ⟨(hf.Ia (f := 149) rfl rfl w m).trans b1, ?_, (hf.Ia (f := 151) rfl rfl w m).trans b3⟩, ⟨(hf.I (f := 11) (k := 53) rfl 0).trans c1, (hf.I (f := 11) (k := 54) rfl 0).trans c2⟩, ?_, d2⟩
    · rw [y150, if_pos rfl]; simp
    · show (p.2.1 ++ [_]).length ≤ 80
      rw [List.length_append, List.length_singleton]; omega
  · have hi : i < (p.2.1 ++ [(o, x, p.2.2.2.2.map (fun f => (f.1, f.2.1)), pl)]).length := hi
    rw [List.length_append, List.length_singleton] at hi
    show tIn A S w (nl0 + pkS ((p.2.1 ++ [(o, x, p.2.2.2.2.map (fun f => (f.1, f.2.1)), pl)]).take i)) nl nf nk (q0 + i) (gpi (p.2.1 ++ [(o, x, p.2.2.2.2.map (fun f => (f.1, f.2.1)), pl)]) i) Mz
    by_cases ci : i < p.2.1.length
    · have eg : gpi (p.2.1 ++ [(o, x, p.2.2.2.2.map (fun f => (f.1, f.2.1)), pl)]) i = gpi p.2.1 i := by simp [gpi, List.getD_eq_getElem?_getD, List.getElem?_append_left ci]
      rw [eg, List.take_append_of_le_length (by omega)]
      exact (hIn i ci).keep rk (by omega)
    · have ei : i = p.2.1.length := by omega
      have eg : gpi (p.2.1 ++ [(o, x, p.2.2.2.2.map (fun f => (f.1, f.2.1)), pl)]) i = (o, x, p.2.2.2.2.map (fun f => (f.1, f.2.1)), pl) := by rw [ei]; simp [gpi, List.getD_eq_getElem?_getD]
      rw [eg, ei, ← hq, List.take_append_of_le_length (Nat.le_refl _), List.take_length]
      refine ⟨⟨by rw [z1, if_pos rfl], ho⟩, (hv h99).op (by rw [z2, if_pos rfl]) (by rw [z3, if_pos rfl]) (by rw [z4, if_pos rfl]) (fun k _ => (rX _ (by simp) (by simp)).1 k), ?_, hlb.1, hlb.2, fun e => by rw [z3, if_pos rfl]; exact hv4 e⟩
      unfold tPe at hPe
      show tFrm A w nf nk nq (p.2.2.2.2.map (fun f => (f.1, f.2.1))) Mz
      cases ep : p.2.2.2.2 with
      | none =>
        rw [ep] at hPe
        show rd Mz (sCf w) nq = 0
        rw [z5, if_pos rfl]; exact hPe
      | some f =>
        rw [ep] at hPe
        obtain ⟨j, j1, j2, j3⟩ := hPe
        exact ⟨j, j1, by rw [z5, if_pos rfl]; exact j2, j3.keep rk j1⟩
  · rw [hm]
    refine ⟨(hf.L (f := 109) rfl 0).trans hPh.1, fun i hi => ?_⟩
    obtain ⟨a, b, d⟩ := hPh.2 i hi
    refine ⟨a.of (fun f x y => ?_), b, (hf.Ia (f := 109) rfl rfl 0 i).trans d⟩
    have h3 : f = 152 ∨ f = 153 ∨ f = 154 ∨ f = 155 := by omega
    rcases h3 with e | e | e | e <;> subst e
    · exact hf.Ia (f := 152) rfl rfl w _
    · exact hf.Ia (f := 153) rfl rfl w _
    · exact hf.Ia (f := 154) rfl rfl w _
    · exact hf.Ia (f := 155) rfl rfl w _
  · exact hLb.of (hf.I (f := 11) (k := 60) rfl 0) (fun s hs => ⟨(hg.2.1 s (hx.2.2.2.2.1 s hs) (XCd (Or.inr hs))).1, (hg.2.1 s (hx.2.2.2.2.1 s hs) (XCd (Or.inr hs))).2.1⟩)
  · exact hNi.of (hf.I (f := 11) (k := 64) rfl 0) (fun s hs => ⟨(hg.2.1 s (hx.2.2.2.2.1 s hs) (XCd (Or.inr hs))).1, (hg.2.1 s (hx.2.2.2.2.1 s hs) (XCd (Or.inr hs))).2.1⟩)
