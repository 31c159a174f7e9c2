/-! works and twin: an operation of the works leaves the twin alone (printed by gen/kt.py) -/
abbrev WKF : Nat := (575449231970881930917589356272118658131203347797955875359101413747645201441820208368448660834045913403161495215881748136285113293086041670334403695970463515519368975278905556125951356197864500926722471141600081108790524114321613138680782439898235705133993081718468554288530989356460713178788846949860650839168939504044625623102378462400709011191134600936743786428021631489604290342914891266683797817951816349156074302686692140353985379732741034755182363325993010322723971593699345376769019003100611842042287496785312975511945950570319023970353025060714793496790188025886010852193258174798625614341846364570958908191383289805818212107562735970794136931554177890685088857665394640583437303951379017378569942394297966410811656362007068402703790585493570838548135368220936402084416319662565733655795973787246385050455243758722676501968904244510409713796354993007037148913480888548042551771385782800264468625697983162045412739089834559759835151256643359142963694418088678003145013225707742616312882957065208985965648262209716854216661582206548659943454085420013141269246579424842738472677724471863935264561873434491052624622499486719607265161542925826172680678014827940972485440036908991414763894567069425272370126146868303229529587801552833997058570496477704816357983370202872202419507850751025458946817094675422032333302135125313522829431740579425711829653357899061520819789503472496886616028248652231881480866014465865548169890763749198193776361009857168960147070098690115147362737264829195039493440175892527547837862748031714041265493940359757280247431296959166835459663458669079196204667103084544)
abbrev TWF : Nat := (924711263393627030172203338439798638479243537888794705911184940328120329979050803861063964291551319457389550672672211769688568978173124151320080415878789363684326385117887130280615459206091783371664412917944911332578418234512710593748563082451289284786805796432240541248366803848269396520678056742925394713093679539440416259876618213916237064500644686669510039473476315548684963076685653863563953442122024717053882642520077626602962826354897221122370323292024809085275224440004227028908012597130812186790964997683814721020273826593788906925223945072877985307580313731820649032612023818709624433743184696882544038272298447434339986227327882846046934563367377376031718563825368506402538843325427743797140130306693383133512168533381707229055539506052208632418069922031290742469125859181738189955931412511835880834720948861189776997877236586467875424724331180173074805251706579078119311709599978985631572020630104702896903079588394172450912508644256356392048497710104427406351525420194942451597104067048070873629185870352501903382779141845232943012325780860565673989337157716761478355212930677594322530325335951003759023140582621536359389833076094096441990379321346069399414439344338165943383660182055508302647162749004489748707491772408364958045243415705102766704655453753573388561939132970977979184324345269265624550072244342024914862116282776822046583683650092933050581020196590589620524311785092598319450455502025914379587886873533141248968395365506301114463141843458373393857960010168268977481160505227640394161583149438053109445564247187741783747708006104998974199328896555506102633082153923002954346033846457637854976440317271656746428524461969773690880)
def cutS (M M' : Mem) : Mem := (M'.1, M'.2.1, M'.2.2.1, M'.2.2.2.1, M'.2.2.2.2.1, mS M)
theorem Fr.cuS {R : Nat} {M M' : Mem} (hf : Fr R M M') (h : R.testBit 4999 = true) : Fr R M (cutS M M') := ⟨hf.1, hf.2.1, fun e => (by rw [h] at e; cases e), hf.2.2.2⟩
section
variable {G : List Sl} {U1 : List (List Kd × Kd)} {BB A : List Nm} {S : List Sg} {W : List Cls} {w k B B' F : Nat} {br x : Int32} {nq nl nf nk : Nat} {M M' : Mem} {s : Ms} {T : List Trl}
theorem sOkW {y : Sl} (hG : Ga G) (hs : y ∈ G) : WKF.testBit (cd y.1 y.2.2.1) = false ∧ WKF.testBit y.2.2.2 = false ∧ WKF.testBit (5000 + y.2.2.2) = false ∧ Nat.ble 20 y.2.2.2 = true := by
  obtain ⟨h1, h2⟩ := hG.2.2 y hs
  refine ⟨?_, ?_⟩
  · rcases h1 with ⟨e, z⟩ | ⟨e, z⟩
    · rw [e]
      have := List.all_eq_true.mp (show L11.all (fun k => !WKF.testBit (cd 11 k)) = true from by rfl) _ z
      simpa using this
    · rw [e]
      have := List.all_eq_true.mp (show L12.all (fun k => !WKF.testBit (cd 12 k)) = true from by rfl) _ z
      simpa using this
  · rcases h2 with e | e | e <;> rw [e] <;> exact ⟨rfl, rfl, rfl⟩
/-- rows of the twin stay -/
theorem TG.wk (hT : TG G M) (hG : Ga G) (hf : Fr WKF M M') : GF G [] M (cutS M M') ∧ rs G M' = rs G M := by
  have key : ∀ y ∈ G, mR M' y.1 y.2.1 y.2.2.1 = mR M y.1 y.2.1 y.2.2.1 := fun y hs => (hf.1 _ _ (sOkW hG hs).1 _).2.2
  have ei : ∀ y ∈ G, rdI M' y = rdI M y := fun y hs => by unfold rdI; rw [key y hs]
  have ed : ∀ y ∈ G, ∀ k, rd M' y k = rd M y k := fun y hs k => by
    unfold rd; rw [ei y hs]
    exact (hf.1 y.2.2.2 k (by rw [cd_a (sOkW hG hs).2.2.2]; exact (sOkW hG hs).2.1) _).1
  have el : ∀ y ∈ G, rl M' y = rl M y := fun y hs => by
    unfold rl; rw [ei y hs]
    exact hf.2.1 _ (sOkW hG hs).2.2.1 _
  have hT' : TG G M' := fun y hs => ⟨⟨by rw [key y hs, ei y hs]; exact (hT y hs).1.1, by rw [ei y hs]; exact (hf.2.2.2 _ (hT y hs).1.2).1⟩, fun y' hs' ne e => by rw [ei y hs, ei y' hs']; exact (hT y hs).2 y' hs' ne e⟩
  have er : rs G M' = rs G M := by unfold rs; rw [List.map_congr_left (fun y hs => el y hs)]
  exact ⟨⟨hT', fun y hs _ => ⟨ed y hs, el y hs, ei y hs⟩, by show mS M + 2 * rs G M ≤ mS M + 2 * rs G M'; rw [er]; exact Nat.le_refl _⟩, er⟩
theorem tLk.wk (h : tLk M) (hf : Fr WKF M M') : tLk M' := ⟨⟨(hf.L (f := 111) rfl 0).trans h.1.1, (hf.L (f := 212) rfl 0).trans h.1.2.1, (hf.L (f := 112) rfl 0).trans h.1.2.2⟩, (hf.I (f := 11) (k := 77) rfl 0).trans h.2⟩
/-- a world of the twin -/
theorem TAx.wk (h : TAx G (U1, S) A S W w br nq nl nf nk B F x s M) (hf : Fr WKF M M') (hB : mS M' ≤ B' + 2 * rs G M') : TAx G (U1, S) A S W w br nq nl nf nk B' F x s M' := by
  have hT : TA G (U1, S) A S W w br nq nl nf nk B F x s (sR M 11 0 45 (some (12, w))) := h
  have hx : Gx G w := hT.1.1.2.1
  obtain ⟨-, hTG, hV, hK, hgl, hm⟩ := h.md
  have hg := (hTG.wk hx.1 hf).1
  have hc := hf.cuS rfl
  have hV' : TV (U1, S) A S (cutS M M') := hV.gf hc hg hx (fun _ _ z => by cases z)
  refine TAx.eq h (EqT.fr hf) (fun y hy => ?_) hg.1 hV' (hK.fr hf) List.prefix_rfl hT.1.1.2.2.1 List.prefix_rfl (hgl.wk hf) ⟨hB, by rw [hf.L (f := 110) rfl]; exact hm.2.1, by rw [hf.L (f := 110) rfl]; exact hm.2.2⟩
  have hin : y ∈ G := hy.elim (fun z => hx.2.2.2.1 y z) (fun z => (hT.2.2.1.2.2.1 y z).1)
  have := hg.2.1 y hin (fun z => by cases z)
  exact ⟨this.1, this.2.1⟩
theorem rmT.wk (h : rmT G w F M) (hx : Gx G w) (hTG : TG G M) (hf : Fr WKF M M') : rmT G w F M' := by
  have hg := (hTG.wk hx.1 hf).1
  have e : ∀ f, WKF.testBit (5000 + f) = false → ∀ i, mL M' f i = mL M f i := fun f h i => hf.2.1 f h i
  have r : ∀ f, 130 ≤ f → f ≤ 176 → WKF.testBit (5000 + f) = false := fun f h1 h2 => by
    have := List.all_eq_true.mp (show (List.range 47).all (fun j => !WKF.testBit (5130 + j)) = true from by rfl) (f - 130) (List.mem_range.mpr (by omega))
    rw [show 5130 + (f - 130) = 5000 + f by omega] at this
    simpa using this
  have row : ∀ y ∈ G, rl M' y = rl M y := fun y hy => (hg.2.1 y hy (fun z => by cases z)).2.1
  obtain ⟨⟨⟨⟨a1, a2, a3, a4, a5⟩, a6, a7, a8, a9⟩, ⟨b1, b2, b3, b4, b5, b6⟩, c1, c2, c3⟩, ⟨⟨d1, d2⟩, ⟨e1, e2, e3, e4, e5, e6, e7⟩, ⟨f1, f2, f3, f4⟩, g1, g2, g3⟩, k, l, m⟩ := h
  exact ⟨⟨⟨⟨(e 130 rfl w).trans a1, (e 131 rfl w).trans a2, (e 133 rfl w).trans a3, (e 134 rfl w).trans a4, (e 132 rfl w).trans a5⟩, (e 135 rfl w).trans a6, (e 136 rfl w).trans a7, (e 137 rfl w).trans a8, (e 138 rfl w).trans a9⟩, ⟨(e 139 rfl w).trans b1, (e 140 rfl w).trans b2, (e 141 rfl w).trans b3, (e 142 rfl w).trans b4, (e 523 rfl w).trans b5, (e 143 rfl w).trans b6⟩, fun f z1 z2 => (e f (r f (by omega) (by omega)) w).trans (c1 f z1 z2), fun f z1 z2 => (e f (r f (by omega) (by omega)) w).trans (c2 f z1 z2), (e 156 rfl w).trans c3⟩, ⟨⟨(e 164 rfl w).trans d1, (e 163 rfl w).trans d2⟩, ⟨(e 157 rfl w).trans e1, (e 158 rfl w).trans e2, (e 159 rfl w).trans e3, (e 160 rfl w).trans e4, (e 162 rfl w).trans e5, (e 524 rfl w).trans e6, (e 161 rfl w).trans e7⟩, ⟨(e 165 rfl w).trans f1, (e 166 rfl w).trans f2, (e 167 rfl w).trans f3, (e 168 rfl w).trans f4⟩, (e 169 rfl w).trans g1, (e 704 rfl w).trans g2, fun t ht => (hf.Ra (f := 704) rfl rfl w t).trans (g3 t ht)⟩, fun t ht => ⟨(e 170 rfl _).trans (k t ht).1, (e 171 rfl _).trans (k t ht).2.1, (e 172 rfl _).trans (k t ht).2.2.1, (e 173 rfl _).trans (k t ht).2.2.2.1, (e 174 rfl _).trans (k t ht).2.2.2.2.1, (e 175 rfl _).trans (k t ht).2.2.2.2.2.1, (e 176 rfl _).trans (k t ht).2.2.2.2.2.2.1, (e 525 rfl _).trans (k t ht).2.2.2.2.2.2.2⟩, fun y hy => by rw [row y (hx.2.2.2.1 y hy)]; exact l y hy, fun y hy => ⟨(m y hy).1, by rw [row y (m y hy).1]; exact (m y hy).2⟩⟩
theorem MdB.wk (h : MdB G U1 BB A S B F M) (hf : Fr WKF M M') (hB : mS M' ≤ B' + 2 * rs G M') : MdB G U1 BB A S B' F M' := by
  obtain ⟨⟨hx, hR, hTG, hV⟩, ⟨hKs, hA0, hAB, hBl⟩, ⟨hgl, hmS, hXb, hrow⟩, hw3, h113, h703⟩ := h
  have hg := (hTG.wk hx.1 hf).1
  have hc := hf.cuS rfl
  have hV' : TV (U1, S) A S (cutS M M') := hV.gf hc hg hx (fun _ _ z => by cases z)
  have hX' : XLb (cutS M M') := hXb.gf hc hg hx.2.2.2.2.1 (fun _ _ z => by cases z)
  have row : ∀ y ∈ G, rl M' y = rl M y := fun y hy => (hg.2.1 y hy (fun z => by cases z)).2.1
  refine ⟨⟨hx, hR.wk hx hTG hf, hg.1, hV'⟩, ⟨hKs.fr hf, hA0, hAB, hBl⟩, ⟨hgl.wk hf, ⟨hB, by rw [hf.L (f := 110) rfl]; exact hmS.2.1, by rw [hf.L (f := 110) rfl]; exact hmS.2.2⟩, hX', ?_⟩, ⟨(hf.L (f := 411) rfl 0).trans hw3.1, (hf.L (f := 107) rfl 0).trans hw3.2.1, (hf.L (f := 108) rfl 0).trans hw3.2.2⟩, (hf.L (f := 113) rfl 0).trans h113, (hf.L (f := 703) rfl 0).trans h703.1, (hf.Ra (f := 703) rfl rfl 0 3).trans h703.2⟩
  rw [row sFr hx.2.2.2.2.2]; exact hrow
theorem MdT.wk (h : MdT G U1 BB A S B F T M) (hf : Fr WKF M M') (hB : mS M' ≤ B' + 2 * rs G M') : MdT G U1 BB A S B' F T M' := ⟨h.1.wk hf hB, ⟨h.2.1.1.fr hf, h.2.1.2.fr hf⟩, h.2.2⟩
theorem tpT.wk {tp : List Int32} (h : tpT tp M) (hf : Fr WKF M M') : tpT tp M' := ⟨(hf.I (f := 11) (k := 85) rfl 0).trans h.1, (hf.L (f := 402) rfl 1).trans h.2.1, h.2.2.1, fun k hk => (hf.Ia (f := 402) rfl rfl 1 k).trans (h.2.2.2 k hk)⟩
theorem tcB.wk {V : RV} (h : tcB V M) (hf : Fr WKF M M') : tcB V M' := ⟨(hf.I (f := 11) (k := 109) rfl 0).trans h.1, (hf.L (f := 119) rfl 0).trans h.2.1, fun i hi => (hf.Ia (f := 119) rfl rfl 0 i).trans (h.2.2 i hi)⟩
theorem tPo.wk {P : List Int32} (h : tPo P M) (hP : sPg ∈ G) (hG : Ga G) (hTG : TG G M) (hf : Fr WKF M M') : tPo P M' := by
  have hg := (hTG.wk hG hf).1.2.1 sPg hP (fun z => by cases z)
  have e1 : rl M' sPg = rl M sPg := hg.2.1
  have e2 : ∀ k, rd M' sPg k = rd M sPg k := hg.1
  obtain ⟨⟨h1, h2, h3, h4⟩, h5⟩ := h
  exact ⟨⟨(hf.I (f := 11) (k := 95) rfl 0).trans h1, by rw [e1]; exact h2, by rw [e1]; exact h3, fun i hi => by rw [e2]; exact h4 i hi⟩, (hf.L (f := 518) rfl 0).trans h5⟩
theorem dPo.wk (h : dPo M) (h1 : sP1 ∈ G) (h2 : sP2 ∈ G) (hG : Ga G) (hTG : TG G M) (hf : Fr WKF M M') : dPo M' := by
  have e1 : rl M' sP1 = rl M sP1 := ((hTG.wk hG hf).1.2.1 sP1 h1 (fun z => by cases z)).2.1
  have e2 : rl M' sP2 = rl M sP2 := ((hTG.wk hG hf).1.2.1 sP2 h2 (fun z => by cases z)).2.1
  exact ⟨by rw [e1]; exact h.1, by rw [e2]; exact h.2⟩
theorem clT.wk (h : clT M) (hf : Fr WKF M M') : clT M' := ⟨(hf.L (f := 521) rfl 0).trans h.1, (hf.L (f := 120) rfl 0).trans h.2.1, (hf.L (f := 121) rfl 0).trans h.2.2⟩
theorem tKd.wk {L : Tl} (h : tKd L M) (hf : Fr WKF M M') : tKd L M' := by
  obtain ⟨h1, ⟨a1, a2, a3, a4⟩, ⟨b1, b2⟩, rm, c1, c2, c3⟩ := h
  refine ⟨h1.fr hf, ⟨(hf.L (f := 519) rfl 0).trans a1, (hf.L (f := 114) rfl 0).trans a2, (hf.L (f := 115) rfl 0).trans a3, (hf.L (f := 116) rfl 0).trans a4⟩, ⟨b1, (hf.I (f := 11) (k := 101) rfl 0).trans b2⟩, rm, c1, (hf.I (f := 11) (k := 102) rfl 0).trans c2, fun i hi => ?_⟩
  obtain ⟨d1, d2⟩ := c3 i hi
  refine ⟨(hf.Ia (f := 519) rfl rfl 0 i).trans d1, fun l t e => ?_⟩
  obtain ⟨⟨y1, y2, y3⟩, y4, y5⟩ := d2 l t e
  exact ⟨⟨(hf.Ia (f := 114) rfl rfl 0 i).trans y1, y2, y3⟩, fun k hk => (hf.Ia (f := 115) rfl rfl 0 _).trans (y4 k hk), fun k hk => (hf.Ia (f := 116) rfl rfl 0 _).trans (y5 k hk)⟩
end
