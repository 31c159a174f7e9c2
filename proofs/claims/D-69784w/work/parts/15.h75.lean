/-! THE OPERATION world: a world of the twin at its beginning -/
theorem AT21 : ∀ c, c < 21 → AT0.idxOf (gc W21 c).1 = 2 + c ∧ (gc W21 c).1 ∈ AT0 := by decide
/-- the rows of a world of the twin, whatever they hold -/
def rmT (G : List Sl) (w F : Nat) (M : Mem) : Prop := (((mL M 130 w = 51 ∧ mL M 131 w = 51 ∧ mL M 133 w = 204 ∧ mL M 134 w = 51 ∧ mL M 132 w = 51) ∧ (mL M 135 w = 51 ∧ mL M 136 w = 51 ∧ mL M 137 w = 51 ∧ mL M 138 w = 51)) ∧ (mL M 139 w = 408 ∧ mL M 140 w = 408 ∧ mL M 141 w = 408 ∧ mL M 142 w = 408 ∧ mL M 523 w = 408 ∧ mL M 143 w = 408) ∧ (∀ f, 144 ≤ f → f ≤ 151 → mL M f w = 612) ∧ (∀ f, 152 ≤ f → f ≤ 155 → mL M f w = 4896) ∧ mL M 156 w = 3) ∧ ((mL M 164 w = 51 ∧ mL M 163 w = 51) ∧ (mL M 157 w = 801 ∧ mL M 158 w = 801 ∧ mL M 159 w = 801 ∧ mL M 160 w = 801 ∧ mL M 162 w = 801 ∧ mL M 524 w = 801 ∧ mL M 161 w = 4000) ∧ (mL M 165 w = 400 ∧ mL M 166 w = 400 ∧ mL M 167 w = 400 ∧ mL M 168 w = 400) ∧ mL M 169 w = 62 ∧ (mL M 704 w = 3 ∧ ∀ t', t' < 3 → mR M 704 w t' = some (13, 3 * w + t'))) ∧ (∀ t, t < 3 → mL M 170 (3 * w + t) = 6 ∧ mL M 171 (3 * w + t) = 99 ∧ mL M 172 (3 * w + t) = 99 ∧ mL M 173 (3 * w + t) = 40 ∧ mL M 174 (3 * w + t) = 40 ∧ mL M 175 (3 * w + t) = 40 ∧ mL M 176 (3 * w + t) = 1760 ∧ mL M 525 (3 * w + t) = 1760) ∧ (∀ y ∈ XW w, rl M y ≤ 8000) ∧ ∀ y ∈ XF w, y ∈ G ∧ rl M y ≤ 2 * F
section
variable {G : List Sl} {US : UST} {A : List Nm} {S : List Sg} {W : List Cls} {w k : Nat} {br x : Int32} {nq nl nf nk B F : Nat} {M M' : Mem} {s : Ms} {Q : Mem → Prop}
theorem TA.room (h : TA G US A S W w br nq nl nf nk B F x s M) : rmT G w F M := by
  obtain ⟨⟨⟨⟨⟨⟨⟨⟨⟨⟨-, a130, -⟩, -⟩, ⟨a131, a133, a134, a132⟩, -⟩, -, -, a135⟩, ⟨aF, -⟩, ⟨a144, -⟩, a152, -⟩, -, ⟨-, -, -, -, aR⟩, -⟩, -, -, -⟩, -⟩, -, ⟨a156, -⟩, -⟩, ⟨⟨b1, -⟩, -⟩, ⟨⟨c1, -⟩, ⟨-, c2, -⟩⟩, ⟨⟨d1, -⟩, ⟨d2, -⟩, -⟩, e, -, f⟩ := h
  exact ⟨⟨⟨⟨a130, a131, a133, a134, a132⟩, a135⟩, aF, a144, a152, a156⟩, ⟨b1, c1, d1, d2, e⟩, fun t ht => (f t ht).1.1, aR, fun y hy => ⟨(c2 y hy).1, (c2 y hy).2.2⟩⟩
abbrev STw : Nat := SBt ||| (15314599543025836772132527954704845760308972368283296736114368278710640695165797763836241749567868763922344993904293906980176452225152396652882619974521628098840812128906477495837093994477559083530318100644666335728861409875698546329278203976024994316663328230822997467222734788712040686182604144433091763470174071285998211153864592083738539804526705719557424595163018848222581166192980094331673317858539971552660981401035371859573387455168998086263216172923457619691362649651899131992970362260064930273312197346859890584215803052214805553086000830494338344515951989154811933692942726685547868368568705213555337393467811236392006160394593120307287431028219817982686698726909292100886839208712300971486941833650692884846181735731993920115276177660111535775515023313757753085753705981620475488451563908344420081148829196519715840955729345687690089650399792525519057204201498441431284074100153804302838363048639880777251421814723770750906476295859548475166755854054113593826110712225045160789787308275473839929224524688812842073446337277144037126746885693131227774532615709086589267214336)
theorem ct_wbegin (hx : Gx G w) (hR : rmT G w F M) (hTG : TG G M) (hV : TV US A S M) (hK : TKs A M) (hA0 : AT0 <+: A) (hAl : A.length ≤ 200000) (hgl : tLk M) (hmS : mS M ≤ B + 2 * rs G M ∧ 51 ≤ mL M 110 0 ∧ mL M 110 0 < 1000000)
    (hQ : ∀ M', TAx G US A S W21 w br 0 0 0 0 B F 50 (ms0 k) M' → Fr STw M M' → mI M' 12 w 0 = 1 → (∀ f i j, f ≠ 13 → i ≠ w → mI M' f i j = mI M f i j) → (∀ i j, (∀ t, t < 3 → i ≠ 3 * w + t) → mI M' 13 i j = mI M 13 i j) → Q M') : w_Model_beginWorld 0 w br Q M := by
  obtain ⟨⟨⟨⟨l130, l131, l133, l134, l132⟩, ⟨l135, l136, l137, l138⟩⟩, lF, l144, l152, l156⟩, ⟨l164, lH, lE, l169, l7, r7⟩, hLn, hXW, hXF⟩ := hR
  have k8 := hK (8, nThing) (by simp [kF])
  have k6 := hK (6, nMake) (by simp [kF])
  simp only [] at k8 k6
  obtain ⟨k38, k38'⟩ := hV.2.2.2
  unfold w_Model_beginWorld
  obtain ⟨M1, hM1⟩ : ∃ M1, M1 = sI (sI (sI M 12 w 0 1) 12 w 1 br) 12 w 2 21 := ⟨_, rfl⟩
  rw [← hM1]
  have f1 : Fr (22237363617134176334459547717400684743034086580132049916681479531446068070255238007251757715167246754305851278232735878464501763562412625645830497779203808254411191356249084923782731520612094600217751680917197027394249142685498791140077996581148358001418099090754180087185763131207618475551969585075657451319522082861717469291534726262442580577940411146673808559106295273254289076327383245049578341163555517066406269249677775779225862330097258474736817367355354058218394628755396076667927351109467147975719339454817009045763440004851191047190097769476198060427086959555013260598141862588036254917295377023025145858602110596393517427095918169018434029167085986563270894576958578592067526208151862319560958715171677658687404493388313946753860401018739420110717976856995804480242813053232977778090020866837915239055266752552558869481646442437463101284022178982327528829706653267954371071795220269017595699365150805872650966051546769394422650009875133854091152793810326517748043248359934716617663099667701021689145368425772613632) M M1 := by rw [hM1]; exact Fr.wI rfl (Fr.wI rfl (Fr.wI rfl (Fr.rf _ _)))
  have v1 : mI M1 12 w 0 = 1 ∧ mI M1 12 w 1 = br ∧ mI M1 12 w 2 = 21 := by
    rw [hM1]; refine ⟨?_, ?_, ?_⟩ <;> simp only [mI_sI, mI_sR, mI_sJ, mR_sI, mL_sI, mL_sR, mR_sR, Nat.reduceEqDiff, and_false, false_and, if_false, and_self, true_and, and_true, if_true]
  have i1 : ∀ f i j, i ≠ w → mI M1 f i j = mI M f i j := fun f i j hne => by rw [hM1]; simp only [mI_sI, hne, false_and, and_false, if_false]
  have n1 : ∀ f i j, f ≠ 12 → mI M1 f i j = mI M f i j := fun f i j hne => by rw [hM1]; simp only [mI_sI, hne, false_and, if_false]
  clear hM1
  refine ⟨Or.inr rfl, 22, ?_⟩
  have hl1 : ∀ f ∈ btL, mL M1 f w = if f < 144 then 51 else 612 := fun f hf => by
    have hb : (22237363617134176334459547717400684743034086580132049916681479531446068070255238007251757715167246754305851278232735878464501763562412625645830497779203808254411191356249084923782731520612094600217751680917197027394249142685498791140077996581148358001418099090754180087185763131207618475551969585075657451319522082861717469291534726262442580577940411146673808559106295273254289076327383245049578341163555517066406269249677775779225862330097258474736817367355354058218394628755396076667927351109467147975719339454817009045763440004851191047190097769476198060427086959555013260598141862588036254917295377023025145858602110596393517427095918169018434029167085986563270894576958578592067526208151862319560958715171677658687404493388313946753860401018739420110717976856995804480242813053232977778090020866837915239055266752552558869481646442437463101284022178982327528829706653267954371071795220269017595699365150805872650966051546769394422650009875133854091152793810326517748043248359934716617663099667701021689145368425772613632).testBit (5000 + f) = false := by revert f; decide
    rw [f1.L hb w]
    by_cases c : f < 144
    · rw [if_pos c]
      simp only [List.mem_cons, List.not_mem_nil, or_false] at hf
      have : f = 130 ∨ f = 131 ∨ f = 132 ∨ f = 134 ∨ f = 135 ∨ f = 136 ∨ f = 137 ∨ f = 138 := by omega
      rcases this with z | z | z | z | z | z | z | z <;> subst z <;> assumption
    · rw [if_neg c]
      simp only [List.mem_cons, List.not_mem_nil, or_false] at hf
      exact l144 f (by omega) (by omega)
  have main : ∀ d c M2, 21 - c < d → c ≤ 21 → BtJ (nc A nThing) (nc A nMake) (Int32.ofNat (S.idxOf ([], 0))) w c M1 M2 → (∀ M', BtJ (nc A nThing) (nc A nMake) (Int32.ofNat (S.idxOf ([], 0))) w 21 M1 M' → ∃ M3, M3 = sI (sI (sI M' 12 w 35 0) 12 w 37 0) 12 w 41 0 ∧ vp_in (0 : Int32) (mL (sI M3 12 w 43 0) 156 w) ∧ ∃ M5, M5 = sI (sI M3 12 w 43 0) 156 w (0 : Int32).toNatClampNeg (-2) ∧ vp_in (1 : Int32) (mL M5 156 w) ∧ vp_in (2 : Int32) (mL (sI M5 156 w (1 : Int32).toNatClampNeg (-2)) 156 w) ∧ ∃ M8, M8 = sI (sI M5 156 w (1 : Int32).toNatClampNeg (-2)) 156 w (2 : Int32).toNatClampNeg (-2) ∧ ∃ n23 : Nat, w_Model_beginWorld_L255 0 Q n23 w (0 : Int32) M8) → w_Model_beginWorld_L18 0 Q d w (Int32.ofNat c) M2 := by
    intro d
    induction d with
    | zero => intro c M2 h; omega
    | succ d ih =>
      intro c M2 hd hc hJ hfin
      unfold w_Model_beginWorld_L18
      by_cases e : c = 21
      · subst e
        exact itp (by decide) (hfin M2 hJ)
      have e8 : mI M2 11 0 8 = nc A nThing := (hJ.2.2.2 11 0 8 (by decide)).trans ((n1 11 0 8 (by decide)).trans k8.1)
      have e8' : ∀ v, mI (sI M2 130 w (Int32.ofNat c).toNatClampNeg v) 11 0 8 = nc A nThing := fun v => e8
      refine itn (nle_oN (a := 21) (by omega) (by omega)) ⟨?_, ?_⟩
      · have hb : SBt.testBit (5000 + 130) = false := rfl
        rw [hJ.2.1.L hb w, hl1 130 (by decide)]; exact (vp_oN (by omega)).mpr (by rw [if_pos (by decide)]; omega)
      have st : ∀ s0, s0 = btT (nc A nThing) (nc A nMake) (Int32.ofNat (S.idxOf ([], 0))) 131 c → w_Model_beginWorld_j84 0 Q (w_Model_beginWorld_L18 0 Q d) w (Int32.ofNat c) s0 (Int32.ofNat c) w (sI M2 130 w (Int32.ofNat c).toNatClampNeg (mI M2 11 0 8 + Int32.ofNat c)) := fun s0 hs => bt_step (by omega) rfl rfl rfl hs hJ ((n1 11 0 8 (by decide)).trans k8.1) ((n1 11 0 6 (by decide)).trans k6.1) ((n1 11 0 38 (by decide)).trans k38) hl1 (fun M' hJ' => ih (c + 1) M' (by omega) (by omega) hJ' hfin)
      have ebg : btT (nc A nThing) (nc A nMake) (Int32.ofNat (S.idxOf ([], 0))) 131 c = if c = 0 then -2 else if c = 1 then nc A nThing else if 10 < c then nc A nThing + 10 else nc A nThing + 1 := rfl
      by_cases c0 : c = 0
      · exact itp (by rw [c0]; rfl) (st _ (by rw [ebg, if_pos c0]))
      refine itn (ne_oN (b := 0) c0 (by omega) (by omega)) ?_
      by_cases c1 : c = 1
      · exact itp (by rw [c1]; rfl) (st _ (by rw [e8', ebg, if_neg c0, if_pos c1]))
      refine itn (ne_oN (b := 1) c1 (by omega) (by omega)) ?_
      by_cases c10 : 10 < c
      · exact itp (lt_oN (a := 10) c10 (by omega)) (st _ (by rw [e8', ebg, if_neg c0, if_neg c1, if_pos c10]))
      · exact itn (nlt_oN (a := 10) (by omega) (by omega)) (st _ (by rw [e8', ebg, if_neg c0, if_neg c1, if_neg c10]))
  refine main 22 0 M1 (by omega) (by omega) ⟨fun f hf c hc => absurd hc (Nat.not_lt_zero c), Fr.rf _ _, fun _ _ _ _ => rfl, fun _ _ _ _ => rfl⟩ (fun M2 hJ => ?_)
  obtain ⟨hr, f2, i2, n2⟩ := hJ
  have f12 : Fr (SBt ||| (22237363617134176334459547717400684743034086580132049916681479531446068070255238007251757715167246754305851278232735878464501763562412625645830497779203808254411191356249084923782731520612094600217751680917197027394249142685498791140077996581148358001418099090754180087185763131207618475551969585075657451319522082861717469291534726262442580577940411146673808559106295273254289076327383245049578341163555517066406269249677775779225862330097258474736817367355354058218394628755396076667927351109467147975719339454817009045763440004851191047190097769476198060427086959555013260598141862588036254917295377023025145858602110596393517427095918169018434029167085986563270894576958578592067526208151862319560958715171677658687404493388313946753860401018739420110717976856995804480242813053232977778090020866837915239055266752552558869481646442437463101284022178982327528829706653267954371071795220269017595699365150805872650966051546769394422650009875133854091152793810326517748043248359934716617663099667701021689145368425772613632)) M M2 := (f1.sub rfl).trans (f2.sub rfl)
  have l156' : mL M2 156 w = 3 := (f12.L (f := 156) rfl w).trans l156
  refine ⟨_, rfl, by show vp_in (Int32.ofNat 0) (mL M2 156 w); rw [l156']; exact (vp_oN (a := 0) (by omega)).mpr (by omega), _, rfl, by show vp_in (Int32.ofNat 1) (mL M2 156 w); rw [l156']; exact (vp_oN (a := 1) (by omega)).mpr (by omega), by show vp_in (Int32.ofNat 2) (mL M2 156 w); rw [l156']; exact (vp_oN (a := 2) (by omega)).mpr (by omega), _, rfl, ?_⟩
  obtain ⟨M3, hM3⟩ : ∃ M3, M3 = sI (sI (sI (sI (sI (sI (sI M2 12 w 35 0) 12 w 37 0) 12 w 41 0) 12 w 43 0) 156 w 0 (-2)) 156 w 1 (-2)) 156 w 2 (-2) := ⟨_, rfl⟩
  show ∃ n23 : Nat, w_Model_beginWorld_L255 0 Q n23 w (0 : Int32) (sI (sI (sI (sI (sI (sI (sI M2 12 w 35 0) 12 w 37 0) 12 w 41 0) 12 w 43 0) 156 w 0 (-2)) 156 w 1 (-2)) 156 w 2 (-2))
  rw [← hM3]
  have f3 : Fr (35474678380087719537291768533012459551182524393534151165617835219254441638399114542284360940773345821182146270824061844855464429390100767602352207639258651709358911141409718991670151382214424306568991237898544306183066004629523256517834404361943317160642244109274143224195561635126017668600974397477894277385964917118040630656781063036901187330893856681510064863846956440643006170549430421362908781729606283641360063622787844903638512393347401755065575611397395085061014412275552437902883889329940551858496947012317137305976338521509180275036657542693046581696817533996546762071413745039824036129066765089042197880806764821288793361290840750952653414093710788994824887170203172931270992889693050983774778396596884268677465246312609605387163005532117188650857123595458972504974030932423088746648228702038383414266031551542906950057121464358498773939455464539451967934089542222090918041626177366831704071577326250094401380576702717769299631020653745723150605190874485344872066318745537947982450764916445656392063686374082965633428185153536) M2 M3 := by rw [hM3]; exact Fr.wIa rfl rfl (Fr.wIa rfl rfl (Fr.wIa rfl rfl (Fr.wI rfl (Fr.wI rfl (Fr.wI rfl (Fr.wI rfl (Fr.rf _ _)))))))
  have v3 : (mI M3 12 w 35 = 0 ∧ mI M3 12 w 37 = 0 ∧ mI M3 12 w 41 = 0 ∧ mI M3 12 w 43 = 0) ∧ mI M3 156 w 0 = -2 ∧ mI M3 156 w 1 = -2 ∧ mI M3 156 w 2 = -2 := by
    rw [hM3]; refine ⟨⟨?_, ?_, ?_, ?_⟩, ?_, ?_, ?_⟩ <;> simp only [mI_sI, mI_sR, mI_sJ, mR_sI, mL_sI, mL_sR, mR_sR, Nat.reduceEqDiff, and_false, false_and, if_false, and_self, true_and, and_true, if_true]
  have i3 : ∀ f i j, i ≠ w → mI M3 f i j = mI M2 f i j := fun f i j hne => by rw [hM3]; simp only [mI_sI, hne, false_and, and_false, if_false]
  have n3 : ∀ f i j, f ≠ 12 → f ≠ 156 → mI M3 f i j = mI M2 f i j := fun f i j h1 h2 => by rw [hM3]; simp only [mI_sI, h1, h2, false_and, if_false]
  clear hM3
  have f13 : Fr (SBt ||| (35474678380109956900908902709346919098899925078277185252197967269171123117930560610354616178780597578897313517578367696133697165268565269365914620264904482207138114949664130183026400467138207038089603332498762057863983201656917505660519903153083395157223392467275561323286315815213203431732182015953446246971040574569360152739642780506192722057156299262088005274993630249202112465822684710439236164974655861982523619139854251172888190169126627617395672869872131902428369766333770832531639285406608479209606414160292856645431155530554943715041508733740236679466293732056973849030968758300422177991654801343959493257829789967147395471887234268379749332262729223023991973156766443825847951468285118509982930258916445227392636923971297009880551319478871049051875863015569690481831026736903331559701461679816473435132869466781962216809674023227980420381892927640735990113071869750920624694894131737903499291846343845793766531382575368735351177790048168373160480324728576497665876645263285991230810699633063319491731387395772111001853957767168)) M M3 := (f12.sub rfl).trans (f3.sub rfl)
  refine bt_thr ((f13.L (f := 704) rfl w).trans l7) (fun t ht => (f13.Ra (f := 704) rfl rfl w t).trans (r7 t ht)) ((f13.L (f := 169) rfl w).trans l169) ((f13.L (f := 524) rfl w).trans lH.2.2.2.2.2.1) (fun M4 v4 t4 z169 z524 f4 i4 o4 j4 => ?_)
  have ff : Fr STw M M4 := (f13.sub rfl).trans (f4.sub rfl)
  have LL : ∀ f, STw.testBit (5000 + f) = false → mL M4 f w = mL M f w := fun f hf => ff.L hf w
  have c21 : ∀ {c : Nat}, c < W21.length → c < 21 := fun h => by rw [W21_n.1] at h; exact h
  have R : ∀ f ∈ btL, ∀ c, c < 21 → mI M4 f w (btX f c) = btT (nc A nThing) (nc A nMake) (Int32.ofNat (S.idxOf ([], 0))) f c := fun f hf c hc => by
    have hb : (15314599543025836772132527954704845760308972368247822057734258321809731792456450844737341824489591578670147026635122783862245891614797780474102022395624314581262444432772780330568528725111644463265413618437528220779197279692672145862139996937935390984164566172959014265565817283051520783029520749275868371002898509962711895338651388652006357788573259472586384020593658695482938385686787372274517018596451966277667351151833259393750702744729761921288560310940934000551508398479010941823843734642669257403440065444431520817882032219683166267679392351284731930355659132509380778162387782970506359634828468534089043661410837387361037402094170942315632629684260324724856908759761896628999604940332551639224212610626700911689415291906145968646991059150128605516598578086365116161782408971739924168972692859292544218133259506037884814218826014127988627970583319090386187737419536224621610050872173383920945435407903890664179552063803146056012344557956049183320412008260347062443535343489693982999739139902313359604495948191146965428183051285913226427113822373639496387136843598084735309447168).testBit f = false ∧ Nat.ble 20 f = true := by revert f; decide
    have h12 : f ≠ 12 ∧ f ≠ 156 := by revert f; decide
    rw [f4.Ia hb.2 hb.1, n3 f w _ h12.1 h12.2]; exact hr f hf c hc
  have hTh := AT21 0 (by omega)
  have thn : nc A nThing = Int32.ofNat 2 := by
    show Int32.ofNat (A.idxOf nThing) = _
    rw [idx_pre hA0 (show nThing ∈ AT0 from hTh.2)]; congr 1
  have nm1 : ∀ c, c < 21 → nc A (gc W21 c).1 = nc A nThing + Int32.ofNat c ∧ (gc W21 c).1 ∈ A := fun c hc => by
    refine ⟨?_, hA0.subset (AT21 c hc).2⟩
    rw [thn, oN_add]
    show Int32.ofNat (A.idxOf _) = _
    rw [idx_pre hA0 (AT21 c hc).2, (AT21 c hc).1]
  have hLTh : gc W21 0 = gc W21 0 := rfl
  have par1 : ∀ c, c < 21 → btT (nc A nThing) (nc A nMake) (Int32.ofNat (S.idxOf ([], 0))) 131 c = pcT A (gc W21 c).2.1 ∧ ((gc W21 c).2.1 = [] ∨ (gc W21 c).2.1 ∈ A) := fun c hc => by
    rw [W21_p c hc]
    have n1 := nm1 1 (by omega)
    have n10 := nm1 10 (by omega)
    have n0 := nm1 0 (by omega)
    show (if c = 0 then (-2 : Int32) else if c = 1 then nc A nThing else if 10 < c then nc A nThing + 10 else nc A nThing + 1) = _ ∧ _
    unfold pcT
    by_cases c0 : c = 0
    · rw [if_pos c0, if_pos c0, if_pos rfl]; exact ⟨rfl, Or.inl rfl⟩
    by_cases c1 : c = 1
    · rw [if_neg c0, if_pos c1, if_neg c0, if_pos c1, if_neg (by decide)]; exact ⟨rfl, Or.inr n0.2⟩
    by_cases c2 : c ≤ 10
    · rw [if_neg c0, if_neg c1, if_neg (by omega), if_neg c0, if_neg c1, if_pos c2, if_neg (by decide)]; exact ⟨n1.1.symm, Or.inr n1.2⟩
    · rw [if_neg c0, if_neg c1, if_pos (by omega), if_neg c0, if_neg c1, if_neg c2, if_neg (by decide)]; exact ⟨n10.1.symm, Or.inr n10.2⟩
  have hM0 : ∀ c j, c < 21 → j < (gc W21 c).2.2.2.2.2.length → j = 0 ∧ gmt (gc W21 c) j = (nMake, [], (-4, []), 0, 0, 0, [], []) := fun c j hc hj => by
    have e := (W21_m c hc).1
    rw [e] at hj
    have : j = 0 := by simp at hj; exact hj
    subst this
    exact ⟨rfl, by show (gc W21 c).2.2.2.2.2.getD 0 _ = _; rw [e]; rfl⟩
  have f45 : Fr (69556213141345269407515067115786764991705262549735948303537359111522614176378895669990532984393877424257869264331680209358104836822935374614554679608043721543799333994078233166448732839509381338884749875141583345849788064702954612877462466104677421689448088294080777773965362174599308044327164417092088846031042047278365580585966720455145967136585436087833973984505353126613550736388181582785893315094229488730062957948409704252857268529221075377285067062755595332929103886865297150820576930048624213679773234781064639103418048462727563158233601126703792262163018387042296687430434915196125330685777119717767970019341806901981510528366365657011400439883787084893751229924829447152769796462326141284670937650906274428797367613626454026848298648969369286983979169519208976077834399557390296948941219899625597632161323087361696526000865772268255307923110197940977474400891396850517544211016799549379926055142573277403100946091498432294529676854420081353757434477181439477999992832) M4 (sR M4 11 0 45 (some (12, w))) := sR_fr
  have rsE := ff.rsl hx.1
  have rdE : ∀ y, y ∈ G → rl (sR M4 11 0 45 (some (12, w))) y = rl M y := fun y hy => (rd_fr f45 hx.1 rfl hy).2.trans (rd_fr ff hx.1 rfl hy).2
  have hsg : sg A [] (-4, []) = (([], 0) : Sg) := rfl
  have hTW : TW A S W21 w br 0 0 0 0 0 0 0 (sR M4 11 0 45 (some (12, w))) := by
    refine ⟨⟨⟨⟨⟨⟨?_, (LL 130 rfl).trans l130, by rw [W21_n.1]; omega, hAl⟩, fun c hc => ?_⟩, ⟨(LL 131 rfl).trans l131, (LL 133 rfl).trans l133, (LL 134 rfl).trans l134, (LL 132 rfl).trans l132⟩, fun c hc => ?_⟩, by rw [mR_sR, if_pos ⟨rfl, rfl, rfl⟩], ?_, (LL 135 rfl).trans l135, (LL 136 rfl).trans l136, (LL 137 rfl).trans l137, (LL 138 rfl).trans l138⟩, ⟨⟨(LL 139 rfl).trans lF.1, (LL 140 rfl).trans lF.2.1, (LL 141 rfl).trans lF.2.2.1, (LL 142 rfl).trans lF.2.2.2.1, (LL 523 rfl).trans lF.2.2.2.2.1, (LL 143 rfl).trans lF.2.2.2.2.2⟩, fun c hc => ?_⟩, ⟨fun f h1 h2 => ?_, fun c hc => ?_⟩, fun f h1 h2 => ?_, fun c hc j hj => ?_⟩, ⟨?_, ?_, ?_, ?_⟩, ⟨fun y hy => Nat.zero_le _, Nat.zero_le _, fun y hy => Nat.zero_le _, Nat.zero_le _, fun y hy => ?_⟩, by omega⟩
    · show mI M4 12 w 2 = _
      rw [W21_n.1, f4.I (f := 12) (k := 2) rfl, f3.I (f := 12) (k := 2) rfl, f2.I (f := 12) (k := 2) rfl]; exact v1.2.2
    · have hc := c21 hc
      exact ⟨(R 130 (by decide) c hc).trans (nm1 c hc).1.symm, (nm1 c hc).2⟩
    · have hc := c21 hc
      obtain ⟨-, w2, w3, -⟩ := W21_m c hc
      rw [w2, w3]
      exact ⟨⟨(R 131 (by decide) c hc).trans (par1 c hc).1, (par1 c hc).2, W21_ne c hc⟩, ⟨R 134 (by decide) c hc, by simp, fun i hi => absurd hi (by simp)⟩, R 132 (by decide) c hc⟩
    · show mI M4 12 w 1 = _
      rw [f4.I (f := 12) (k := 1) rfl, f3.I (f := 12) (k := 1) rfl, f2.I (f := 12) (k := 1) rfl]; exact v1.2.1
    · have hc := c21 hc
      obtain ⟨-, -, -, w4, -⟩ := W21_m c hc
      rw [w4]
      exact ⟨⟨R 135 (by decide) c hc, by simp⟩, fun i hi => absurd hi (by simp)⟩
    · have hb : STw.testBit (5000 + f) = false := by
        have : f = 144 ∨ f = 145 ∨ f = 146 ∨ f = 147 ∨ f = 148 ∨ f = 149 ∨ f = 150 ∨ f = 151 := by omega
        rcases this with z | z | z | z | z | z | z | z <;> subst z <;> rfl
      exact (LL f hb).trans (l144 f h1 h2)
    · have hc := c21 hc
      obtain ⟨w1, -⟩ := W21_m c hc
      refine ⟨⟨(R 136 (by decide) c hc).trans ?_, by rw [w1]; simp⟩, fun j hj => ?_⟩
      · rw [w1]; show (1 : Int32) = _; split <;> rfl
      · obtain ⟨j0, em⟩ := hM0 c j hc hj
        rw [em, j0, Nat.add_zero]
        exact ⟨⟨R 144 (by decide) c hc, k6.2⟩, ⟨(R 145 (by decide) c hc).trans (by rw [hsg]; rfl), by rw [hsg]; exact k38'⟩, ⟨fun κ hκ => absurd hκ (by simp), ⟨fun z => absurd z (by decide), Or.inr (Or.inr (Or.inl rfl))⟩, by simp⟩, R 146 (by decide) c hc, R 147 (by decide) c hc, R 148 (by decide) c hc⟩
    · have hb : STw.testBit (5000 + f) = false := by
        have : f = 152 ∨ f = 153 ∨ f = 154 ∨ f = 155 := by omega
        rcases this with z | z | z | z <;> subst z <;> rfl
      exact (LL f hb).trans (l152 f h1 h2)
    · have hc := c21 hc
      obtain ⟨j0, em⟩ := hM0 c j hc hj
      rw [em, j0, Nat.add_zero]
      exact ⟨0, R 149 (by decide) c hc, R 150 (by decide) c hc, ⟨by simp, by simp⟩, fun i hi => absurd hi (by simp), ⟨R 151 (by decide) c hc, by simp⟩, fun i hi => absurd hi (by simp)⟩
    · show mI M4 12 w 35 = _
      rw [f4.I (f := 12) (k := 35) rfl]; exact v3.1.1
    · show mI M4 12 w 37 = _
      rw [f4.I (f := 12) (k := 37) rfl]; exact v3.1.2.1
    · show mI M4 12 w 41 = _
      rw [f4.I (f := 12) (k := 41) rfl]; exact v3.1.2.2.1
    · show mI M4 12 w 43 = _
      rw [f4.I (f := 12) (k := 43) rfl]; exact v3.1.2.2.2
    · rw [rdE y (hx.2.2.2.1 y hy)]; exact hXW y hy
  have hTG4 : TG G (sR M4 11 0 45 (some (12, w))) := (((GF.rf hTG).fr (X := []) ff hx.1).fr f45 hx.1).1
  have hLK : LKt G US A S W21 w br 0 0 0 0 (zL (ms0 k)) (sR M4 11 0 45 (some (12, w))) := by
    refine ⟨⟨⟨hTW, (hV.fr ff hx).fr f45 hx, (hK.fr ff).fr f45, hTG4⟩, hx, hAl, hA0⟩, fun c hc => ?_, ⟨(LL 156 rfl).trans l156, ?_, ?_, ?_⟩, ⟨(ff.L (f := 111) rfl 0).trans hgl.1.1, (ff.L (f := 212) rfl 0).trans hgl.1.2.1, (ff.L (f := 112) rfl 0).trans hgl.1.2.2⟩, (ff.I (f := 11) (k := 77) rfl 0).trans hgl.2⟩
    · have hc := c21 hc
      refine (R 138 (by decide) c hc).trans ?_
      show (1 : Int32) = if c < 21 then 1 else 0
      rw [if_pos hc]
    · exact (f4.Ia (f := 156) rfl rfl w 0).trans v3.2.1
    · exact (f4.Ia (f := 156) rfl rfl w 1).trans v3.2.2.1
    · exact (f4.Ia (f := 156) rfl rfl w 2).trans v3.2.2.2
  refine hQ M4 ⟨hLK, ⟨⟨⟨(LL 164 rfl).trans l164.1, (LL 163 rfl).trans l164.2⟩, fun c hc => ?_, v4.2.2.2.2.2, fun i hi => absurd hi (Nat.not_lt_zero i)⟩, fun c f hc hf => ?_⟩, ⟨⟨⟨(LL 157 rfl).trans lH.1, (LL 158 rfl).trans lH.2.1, (LL 159 rfl).trans lH.2.2.1, (LL 160 rfl).trans lH.2.2.2.1, (LL 162 rfl).trans lH.2.2.2.2.1, (LL 524 rfl).trans lH.2.2.2.2.2.1, (LL 161 rfl).trans lH.2.2.2.2.2.2⟩, ⟨v4.2.2.1, v4.2.2.2.1⟩, fun r hr => z524 r hr, fun r hr => absurd hr (show ¬ false = true by decide), fun i hi => absurd hi (Nat.not_lt_zero i)⟩, v4.2.2.2.2.1, fun y hy => ⟨(hXF y hy).1, Nat.zero_le _, by rw [rdE y (hXF y hy).1]; exact (hXF y hy).2⟩, fun i hi => absurd hi (Nat.not_lt_zero i)⟩, ⟨⟨⟨(LL 165 rfl).trans lE.1, (LL 166 rfl).trans lE.2.1, (LL 167 rfl).trans lE.2.2.1, (LL 168 rfl).trans lE.2.2.2⟩, v4.2.1, fun i hi => absurd hi (Nat.not_lt_zero i)⟩, ⟨(LL 169 rfl).trans l169, z169⟩, v4.1.1, v4.1.2.1, v4.1.2.2⟩, ⟨(LL 704 rfl).trans l7, fun t ht => ?_⟩, ?_, fun t ht => ?_⟩ ff ?_ (fun f i j h1 h2 => ?_) (fun i j h1 => ?_)
  · have hc := c21 hc
    show mI M4 137 w c = (if c < 21 then 2 else 0) ∧ ((if c < 21 then (2 : Int32) else 0) = 1 → _)
    rw [if_pos hc]
    exact ⟨R 137 (by decide) c hc, fun z => absurd z (by decide)⟩
  · have hc := c21 hc
    obtain ⟨-, -, -, w4, -⟩ := W21_m c hc
    exact absurd hf (by rw [w4]; simp)
  · rw [mR_sR, if_neg (fun z => absurd z.1 (by decide))]; exact (ff.Ra (f := 704) rfl rfl w t).trans (r7 t ht)
  · have e4 := f45.rsl hx.1
    rw [e4.1, e4.2, rsE.1, rsE.2, show mL (sR M4 11 0 45 (some (12, w))) 110 0 = mL M4 110 0 from rfl, ff.L (f := 110) rfl]
    exact hmS
  · obtain ⟨y1, y2, y3, y4, y5, y6, y7, y8⟩ := hLn t ht
    exact ⟨⟨⟨(ff.L (f := 170) rfl _).trans y1, (ff.L (f := 171) rfl _).trans y2, (ff.L (f := 172) rfl _).trans y3, (ff.L (f := 173) rfl _).trans y4, (ff.L (f := 174) rfl _).trans y5, (ff.L (f := 175) rfl _).trans y6, (ff.L (f := 176) rfl _).trans y7, (ff.L (f := 525) rfl _).trans y8⟩, (t4 t ht).1, (t4 t ht).2, fun z => absurd z (show ¬ (0 : Nat) = 1 by decide)⟩, fun z => absurd z (show ¬ false = true by decide)⟩
  · rw [f4.I (f := 12) (k := 0) rfl, f3.I (f := 12) (k := 0) rfl, f2.I (f := 12) (k := 0) rfl]; exact v1.1
  · rw [i4 f i j h1 h2, i3 f i j h2, i2 f i j h2, i1 f i j h2]
  · rw [o4 i j h1, n3 13 i j (by decide) (by decide), n2 13 i j (by decide), n1 13 i j (by decide)]
end
