/-! B: labels, and what may break rule 9, in the twin -/
theorem rm300 {G X : List Sl} {s : Sl} {n : Nat} {M : Mem} {Q : Nat → Mem → Prop} (hG : Ga G) (hTG : TG G M) (hs : s ∈ G) (hx : s ∈ X) (haf : s.2.2.2 = 300) (hn : n ≤ 20000000) (hl : rl M s ≤ 20000000)
    (hQ : ∀ i M', Gr1 G X s n M (sR M' s.1 s.2.1 s.2.2.1 (some (300, i))) → Fr F_Model_room M M' → Q i M') : w_Model_room (rdI M s) (Int32.ofNat n) Q M :=
  mf_w_Model_room (fun i M' hf hp => hQ i M' hp hf) (c_room (Q := fun i M' => Gr1 G X s n M (sR M' s.1 s.2.1 s.2.2.1 (some (300, i)))) hG.1 (fun s hs => (hG.ob s hs).1) hTG hs hx haf hn hl (fun i M' h => h))
theorem rm401 {G X : List Sl} {s : Sl} {n : Nat} {M : Mem} {Q : Nat → Mem → Prop} (hG : Ga G) (hTG : TG G M) (hs : s ∈ G) (hx : s ∈ X) (haf : s.2.2.2 = 401) (hn : n ≤ 20000000) (hl : rl M s ≤ 20000000)
    (hQ : ∀ i M', Gr1 G X s n M (sR M' s.1 s.2.1 s.2.2.1 (some (401, i))) → Fr F_Model_roomy M M' → Q i M') : w_Model_roomy (rdI M s) (Int32.ofNat n) Q M :=
  mf_w_Model_roomy (fun i M' hf hp => hQ i M' hp hf) (c_roomy (Q := fun i M' => Gr1 G X s n M (sR M' s.1 s.2.1 s.2.2.1 (some (401, i)))) hG.1 (fun s hs => (hG.ob s hs).1) hTG hs hx haf hn hl (fun i M' h => h))
/-- a row after it has grown -/
theorem Gr1.big {G X : List Sl} {s : Sl} {n : Nat} {M M' : Mem} (h : Gr1 G X s n M M') (hn : n ≤ 4000) (hl : rl M s ≤ 8000) : rl M' s ≤ 8000 ∧ n ≤ rl M' s ∧ rl M s ≤ rl M' s := by
  obtain ⟨-, h2, -, h4, h5⟩ := h
  refine ⟨?_, h2, ?_⟩
  · by_cases c : n ≤ rl M s
    · rw [(h4 c).1]; exact hl
    · rw [(h5 (by omega)).1]; omega
  · by_cases c : n ≤ rl M s
    · rw [(h4 c).1]; exact Nat.le_refl _
    · rw [(h5 (by omega)).1]; omega
/-- what may break rule 9: 0 a label told twice, 1 one that is used, 2 a frame; name, number of the instruction, place, whether it may be the end -/
abbrev Nine : Type := Nat × Nm × Nat × Nat × Bool
def nv (A : List Nm) (x : Nine) : Int32 := if x.1 = 0 then -2147483648 else if x.1 = 1 then nc A x.2.1 else (-1 : Int32) - Int32.ofNat x.2.2.1
abbrev gni (l : List Nine) (i : Nat) : Nine := l.getD i (0, [], 0, 0, false)
def tNi (A : List Nm) (NL : List Nine) (M : Mem) : Prop := (mI M 11 0 64 = Int32.ofNat NL.length ∧ 1 ≤ rl M sNm) ∧ (NL.length ≤ rl M sNn ∧ NL.length ≤ rl M sNp ∧ NL.length ≤ rl M sNm) ∧ (rl M sNn ≤ 8000 ∧ rl M sNp ≤ 8000 ∧ rl M sNm ≤ 8000) ∧ ∀ i, i < NL.length → rd M sNn i = nv A (gni NL i) ∧ rd M sNp i = Int32.ofNat (gni NL i).2.2.2.1 ∧ rd M sNm i = b2 (gni NL i).2.2.2.2 ∧ ((gni NL i).1 = 1 → (gni NL i).2.1 ∈ A) ∧ (gni NL i).1 ≤ 2 ∧ (gni NL i).2.2.1 ≤ 80
theorem tNi.of {A : List Nm} {NL : List Nine} {M M' : Mem} (h : tNi A NL M) (e : mI M' 11 0 64 = mI M 11 0 64) (r : ∀ s ∈ XL, (∀ k, rd M' s k = rd M s k) ∧ rl M' s = rl M s) : tNi A NL M' := by
  obtain ⟨⟨a, a'⟩, b, c, d⟩ := h
  have r1 := r sNn (by simp)
  have r2 := r sNp (by simp)
  have r3 := r sNm (by simp)
  refine ⟨⟨e.trans a, by rw [r3.2]; exact a'⟩, by rw [r1.2, r2.2, r3.2]; exact b, by rw [r1.2, r2.2, r3.2]; exact c, fun i hi => ?_⟩
  rw [r1.1, r2.1, r3.1]; exact d i hi
theorem tNi.pre {A A' : List Nm} {NL : List Nine} {M : Mem} (h : tNi A NL M) (hp : A <+: A') : tNi A' NL M := by
  obtain ⟨a, b, c, d⟩ := h
  refine ⟨a, b, c, fun i hi => ?_⟩
  obtain ⟨x, y, z, u, v⟩ := d i hi
  refine ⟨?_, y, z, fun q => hp.subset (u q), v⟩
  rw [x]; unfold nv
  by_cases c0 : (gni NL i).1 = 0
  · rw [if_pos c0, if_pos c0]
  rw [if_neg c0, if_neg c0]
  by_cases c1 : (gni NL i).1 = 1
  · rw [if_pos c1, if_pos c1, nc_pre hp (u c1)]
  · rw [if_neg c1, if_neg c1]
theorem XL_in {G : List Sl} (hl : Gl G) : sNn ∈ G ∧ sNp ∈ G ∧ sNm ∈ G ∧ sLn ∈ G ∧ sLa ∈ G := ⟨hl _ (by simp), hl _ (by simp), hl _ (by simp), hl _ (by simp), hl _ (by simp)⟩
theorem ct_addNine {G : List Sl} {A : List Nm} {NL : List Nine} {x : Nine} {Q : Mem → Prop} {M : Mem} (hG : Ga G) (hl : Gl G) (hTG : TG G M) (h : tNi A NL M) (hlen : NL.length ≤ 3900) (hp : mI M 108 0 0 = Int32.ofNat x.2.2.2.1 ∧ 0 < mL M 108 0) (hm : x.1 = 1 → x.2.1 ∈ A) (hx : x.1 ≤ 2 ∧ x.2.2.1 ≤ 80) (hQ : ∀ M', tNi A (NL ++ [x]) M' → GF G [sNn, sNp, sNm] M M' → Q M') : w_Model_addNine 0 (nv A x) (b2 x.2.2.2.2) Q M := by
  obtain ⟨m1, m2, m3, -, -⟩ := XL_in hl
  obtain ⟨⟨a, a'⟩, b, c, d⟩ := h
  -- the end
  have j74 : ∀ M4, GF G [sNn, sNp, sNm] M M4 → mI M4 11 0 64 = Int32.ofNat NL.length → (mI M4 108 0 0 = Int32.ofNat x.2.2.2.1 ∧ 0 < mL M4 108 0) → (NL.length + 1 ≤ rl M4 sNn ∧ NL.length + 1 ≤ rl M4 sNp ∧ NL.length + 1 ≤ rl M4 sNm) → (rl M4 sNn ≤ 8000 ∧ rl M4 sNp ≤ 8000 ∧ rl M4 sNm ≤ 8000) → (∀ i, i < NL.length → rd M4 sNn i = rd M sNn i ∧ rd M4 sNp i = rd M sNp i ∧ rd M4 sNm i = rd M sNm i) → w_Model_addNine_j74 0 Q (nv A x) (b2 x.2.2.2.2) M4 := by
    intro M4 g4 e64 e108 l1 l2 r4
    have T4 := g4.1
    have n12 : rdI M4 sNn ≠ rdI M4 sNp := fun q => (T4 sNp m2).2 sNn m1 (by decide) rfl q
    have tl : (Int32.ofNat NL.length).toNatClampNeg = NL.length := oN_tnc (by omega)
    have el1 : mL M4 300 (rdI M4 sNn) = rl M4 sNn := rfl
    have el2 : mL M4 300 (rdI M4 sNp) = rl M4 sNp := rfl
    have el3 : mL M4 501 (rdI M4 sNm) = rl M4 sNm := rfl
    unfold w_Model_addNine_j74
    refine ⟨rdI M4 sNn, (T4 sNn m1).1.1, ?_⟩
    simp only [mI_sI, mI_sR, mI_sJ, mR_sI, mL_sI, mL_sR, mR_sR, Nat.reduceEqDiff, and_false, false_and, if_false, and_self, true_and, and_true, if_true, e64, tl]
    refine ⟨(vp_oN (by omega)).mpr (by rw [el1]; omega), rdI M4 sNp, (T4 sNp m2).1.1, (vp_oN (a := 0) (by omega)).mpr e108.2, (vp_oN (by omega)).mpr (by rw [el2]; omega), _, rfl, rdI M4 sNm, (T4 sNm m3).1.1, ?_⟩
    simp only [mI_sI, mI_sR, mI_sJ, mR_sI, mL_sI, mL_sR, mR_sR, Nat.reduceEqDiff, and_false, false_and, if_false, and_self, true_and, and_true, if_true, e64, tl]
    refine ⟨(vp_oN (by omega)).mpr (by rw [el3]; omega), _, rfl, ?_⟩
    have hb : (b2 x.2.2.2.2 &&& 1) = b2 x.2.2.2.2 := by cases x.2.2.2.2 <;> decide
    have e0 : mI M4 108 0 (0 : Int32).toNatClampNeg = Int32.ofNat x.2.2.2.1 := e108.1
    rw [e0, hb, lit32 1, oN_add]
    have w1 := (GF.rf (X := [sNn, sNp, sNm]) T4).wr (s := sNn) (k := NL.length) (v := nv A x) m1 (by simp) rfl
    have w2 := w1.wr (s := sNp) (k := NL.length) (v := Int32.ofNat x.2.2.2.1) m2 (by simp) rfl
    have w3 := w2.wr (s := sNm) (k := NL.length) (v := b2 x.2.2.2.2) m3 (by simp) rfl
    have fr9 := fun (M9 : Mem) => Fr.wI (S := (36467487875449628607127259508001611443971168691675960864164994933861968341305338453027996557321897207009309760857927953603942068688223141685915643862342026680755465221087288710371073242960694523401207742538230449228893684866982668076299041429089116062717359315527022817556751803796322015944200377908377076907922972883479733514255319933987568818106105115618298552388342580045965288479486945675650434384123390187307248096855827023322031602648259167406033240198005565910734018636832912609418637501333091741740949716894817506252841792426508633103978267517277837544924584105631645659527860818346157374584714542589133465500677257026082191896145117583193113825790963164775044834828981188831371047640047961857556559118348807725314271412986328828240802070852684734256470828887035649895641675145044006766494298734905331370595758826689148223941914010979038880391599458079198098694548671964142219305575802145302671598589458463116988824419530070834375218650195612798777807172502541041660241903616)) (f := 11) (i := 0) (k := 64) (v := Int32.ofNat (NL.length + 1)) rfl (Fr.rf _ M9)
    refine hQ _ ?_ ((g4.trans w3).fr (fr9 _) hG)
    have hgl : (NL ++ [x]).length = NL.length + 1 := by simp
    refine ⟨⟨?_, by show 1 ≤ rl M4 sNm; omega⟩, by rw [hgl]; exact l1, l2, fun i hi => ?_⟩
    · rw [hgl]; simp only [mI_sI, mI_sR, mI_sJ, mR_sI, mL_sI, mL_sR, mR_sR, Nat.reduceEqDiff, and_false, false_and, if_false, and_self, true_and, and_true, if_true]
    rw [hgl] at hi
    have q1 : ∀ k, rd (sI (sI (sI (sI M4 300 (rdI M4 sNn) NL.length (nv A x)) 300 (rdI M4 sNp) NL.length (Int32.ofNat x.2.2.2.1)) 501 (rdI M4 sNm) NL.length (b2 x.2.2.2.2)) 11 0 64 (Int32.ofNat (NL.length + 1))) sNn k = if k = NL.length then nv A x else rd M4 sNn k := fun k => by
      show mI _ 300 (rdI M4 sNn) k = _
      simp only [mI_sI, mI_sR, mI_sJ, mR_sI, mL_sI, mL_sR, mR_sR, Nat.reduceEqDiff, and_false, false_and, if_false, and_self, true_and, and_true, if_true, n12]; rfl
    have q2 : ∀ k, rd (sI (sI (sI (sI M4 300 (rdI M4 sNn) NL.length (nv A x)) 300 (rdI M4 sNp) NL.length (Int32.ofNat x.2.2.2.1)) 501 (rdI M4 sNm) NL.length (b2 x.2.2.2.2)) 11 0 64 (Int32.ofNat (NL.length + 1))) sNp k = if k = NL.length then Int32.ofNat x.2.2.2.1 else rd M4 sNp k := fun k => by
      show mI _ 300 (rdI M4 sNp) k = _
      simp only [mI_sI, mI_sR, mI_sJ, mR_sI, mL_sI, mL_sR, mR_sR, Nat.reduceEqDiff, and_false, false_and, if_false, and_self, true_and, and_true, if_true, n12.symm]; rfl
    have q3 : ∀ k, rd (sI (sI (sI (sI M4 300 (rdI M4 sNn) NL.length (nv A x)) 300 (rdI M4 sNp) NL.length (Int32.ofNat x.2.2.2.1)) 501 (rdI M4 sNm) NL.length (b2 x.2.2.2.2)) 11 0 64 (Int32.ofNat (NL.length + 1))) sNm k = if k = NL.length then b2 x.2.2.2.2 else rd M4 sNm k := fun k => by
      show mI _ 501 (rdI M4 sNm) k = _
      simp only [mI_sI, mI_sR, mI_sJ, mR_sI, mL_sI, mL_sR, mR_sR, Nat.reduceEqDiff, and_false, false_and, if_false, and_self, true_and, and_true, if_true]; rfl
    rw [q1, q2, q3]
    by_cases ci : i < NL.length
    · have eg : gni (NL ++ [x]) i = gni NL i := by simp [gni, List.getD_eq_getElem?_getD, List.getElem?_append_left ci]
      rw [if_neg (by omega), if_neg (by omega), if_neg (by omega), eg, (r4 i ci).1, (r4 i ci).2.1, (r4 i ci).2.2]
      exact d i ci
    · have ei : i = NL.length := by omega
      have eg : gni (NL ++ [x]) i = x := by rw [ei]; simp [gni, List.getD_eq_getElem?_getD]
      rw [if_pos ei, if_pos ei, if_pos ei, eg]
      exact ⟨rfl, rfl, rfl, hm, hx⟩
  unfold w_Model_addNine
  refine ⟨rdI M sNn, (hTG sNn m1).1.1, ?_⟩
  rw [a, lit32 1, oN_add]
  refine rm300 (s := sNn) (X := [sNn]) hG hTG m1 (by simp) rfl (by omega) (by omega) (fun i3 M2 g1 f1 => ?_)
  have fr1 : Fr (287724615985440965458794678136059329065601673898977937679550706873822600720910104184224330452334632505066398528821115743546239988265425214780729768327433904187638733707140592015203836016720409797262037678641561245446221574655641153333187651609098710329941003825584030113765405961157123932768976632761263557862273595233321799276323219915537860208918694360056093605407667110977055296220158058209988384202312567422191708397454623472372937755539799002254127214040020619096795591065008034208014061606765594202542785143942548576241794192533346758629812272041305149977516768903618957555601251617596302492733427287688972517305531953448537353179972678952130040823107098636981596571391662563819027003831702452510231215596643365558880482067759770089523383147848502916361959383562723038421784924895331324812695400640730090556548930563301253350317363895686447711549570590440467692616944634313618998287550415257409598491246301708543245564866929486717991801393224065140376199394040196082557398462041915113717990533750016229590467868662910707217294569546234619351884915393509274896902853563553909164596694043998595803222635307275608385429169319093772305079278586010456344065249461529816396587185315884471880692188635747951865740416535662047656502456296862077085098513884609257173527315452062454725127580256943001006529597250573969154644514552363367108466626898415037220110082142321757246562891857426064009823226663411087727556721289470665659453854748501491108611851739780010920495700820753889346531141788486043381895931987354332980411967643563380836916158249105781721845204630635077951836019511110297296297787392) M (sR M2 11 0 61 (some (300, i3))) := Fr.wR rfl (f1.sub rfl)
  generalize hM1 : sR M2 11 0 61 (some (300, i3)) = M1 at fr1
  have g1 : Gr1 G [sNn] sNn (NL.length + 1) M M1 := by rw [← hM1]; exact g1
  have b1 := g1.big (by omega) c.1
  have T1 := g1.1.1
  have x2 := g1.1.2.1 sNp m2 (by decide)
  have x3 := g1.1.2.1 sNm m3 (by decide)
  refine ⟨rdI M1 sNp, (T1 sNp m2).1.1, ?_⟩
  rw [(fr1.I (f := 11) (k := 64) rfl 0).trans a, oN_add]
  refine rm300 (s := sNp) (X := [sNp]) hG T1 m2 (by simp) rfl (by omega) (by omega) (fun i6 M5 g2 f2 => ?_)
  have fr2 : Fr (287724615985440965458794678136059329065601673898977937679550706873822600720910104184224330452334632505066398528821115743546239988265425214780729768327433904187638733707140592015203836016720409797262037678641561245446221574655641153333187651609098710329941003825584030113765405961157123932768976632761263557862273595233321799276323219915537860208918694360056093605407667110977055296220158058209988384202312567422191708397454623472372937755539799002254127214040020619096795591065008034208014061606765594202542785143942548576241794192533346758629812272041305149977516768903618957555601251617596302492733427287688972521863967937879740929070880117452331471319503185096476704592016029296565069666999009081009800880833794241722600589308753970582281969175741213655817442176316058132854937560806420121196850770727545515707516747842107406962027972268519957248929749226579975532286859075191471192881525889797661591516293540255677859055238539921684681083308215813586478462657179648369876447004864420859379050469618225685894765884086684120623306676524612534605835246425905200651057878314249648006349023648112671980552322973912076103047883930945960586684502639324035482062532901189546089702758329088427588133171238041221537563505853485689339690040953990337359085532024307156312755539322458051605731933879591604927910552256569201349214404345964332772750553521706140750210340998907349028621745468305520246778436056541588573368508631333832080778324601837634636604590991152390780544650753013789108867960372481561159309128962622495814361791325871270460519210690364636018747535905086677799061916073927927503828025344) M1 (sR M5 11 0 62 (some (300, i6))) := Fr.wR rfl (f2.sub rfl)
  generalize hM3 : sR M5 11 0 62 (some (300, i6)) = M3 at fr2
  have g2 : Gr1 G [sNp] sNp (NL.length + 1) M1 M3 := by rw [← hM3]; exact g2
  have b2' := g2.big (by omega) (by omega)
  have T3 := g2.1.1
  have y1 := g2.1.2.1 sNn m1 (by decide)
  have y3 := g2.1.2.1 sNm m3 (by decide)
  have e64 : mI M3 11 0 64 = Int32.ofNat NL.length := (fr2.I (f := 11) (k := 64) rfl 0).trans ((fr1.I (f := 11) (k := 64) rfl 0).trans a)
  have e108 : mI M3 108 0 0 = Int32.ofNat x.2.2.2.1 ∧ 0 < mL M3 108 0 := ⟨(fr2.Ia (f := 108) rfl rfl 0 0).trans ((fr1.Ia (f := 108) rfl rfl 0 0).trans hp.1), by rw [fr2.L (f := 108) rfl, fr1.L (f := 108) rfl]; exact hp.2⟩
  have g3 : GF G [sNn, sNp, sNm] M M3 := (g1.1.sub (by simp)).trans (g2.1.sub (by simp))
  have l3 : rl M3 sNm = rl M sNm := y3.2.1.trans x3.2.1
  have rr : ∀ i, i < NL.length → rd M3 sNn i = rd M sNn i ∧ rd M3 sNp i = rd M sNp i ∧ rd M3 sNm i = rd M sNm i := fun i hi => ⟨(y1.1 i).trans (g1.2.2.1 i (by omega)), (g2.2.2.1 i (by omega)).trans (x2.1 i), (y3.1 i).trans (x3.1 i)⟩
  refine ⟨rdI M3 sNm, (T3 sNm m3).1.1, ?_⟩
  have elm : mL M3 501 (rdI M3 sNm) = rl M sNm := l3
  rw [e64, elm]
  by_cases full : NL.length = rl M sNm
  · refine itp (by rw [full]) ?_
    rw [lit32 2, oN_mul, oN_tnc (k := 2 * NL.length) (by omega)]
    obtain ⟨i10, hi⟩ := exists_fresh 501 (mN M3)
    have hne : rdI M3 sNm ≠ i10 := fun q => hi (by rw [← q]; exact (T3 sNm m3).1.2)
    refine ⟨oN_nonneg (by omega), by omega, i10, hi, _, rfl, rdI M3 sNm, (T3 sNm m3).1.1, by decide, by decide, ?_⟩
    have eM : mI (mk M3 501 i10 (2 * NL.length)) 11 0 64 = Int32.ofNat NL.length := by rw [mI_mk, if_neg (fun q => by omega)]; exact e64
    rw [eM, oN_tnc (k := NL.length) (by omega), show (0 : Int32).toNatClampNeg = 0 by decide]
    refine ⟨oN_nonneg (by omega), ?_, ?_, _, rfl, ?_⟩
    · rw [mLk, if_neg (fun q => hne q.2), elm]; omega
    · rw [mLk, if_pos ⟨rfl, rfl⟩]; omega
    have gr := grow (X := [sNm]) (i := i10) (n := NL.length + 1) (M := M3) (s := sNm) hG.1 T3 m3 (by simp) hi (by rw [l3]; omega) rfl (by decide) (fun s hs => (hG.ob s hs).1)
    rw [l3, ← full, Nat.max_eq_right (by omega)] at gr
    have fr4 : Fr (924711263393627030172203338439069169914934775792733413302566548391122761671021787515143831342351257957451451605755043726261982547640136861856758944193962941389853326742876864306330800927507918142289841832430007023521541932248348792196126071168594246128347068413874595074924568566241182774735834801514883580323650744074869481168410809799870181558048793514950650326090165786642543401500493318980065131415328176728235029404299157923887312342458290921518982841884863173746288646482664519787034707078270747012876423862661537513402897349328819457574701141658409564421959207802385646160459810597240121938846083233872113855414783198386356998485724015805429253798930414806807623039325744349111001710859508513321823981525264690259869004178095869061767992260399452220849364068935399550793578494306843276246335690356174438808036779979831869447251766805098582892828022616668039064709250101488710514151507070015346398524625594052212742205328216965530277234816770433611164121543598379462394457154841284309755923889562861878622124719556863650422200674107207751836886033120758637709385516538266396547108345457419740431525430077761146888801852956077012857925650224585586770633519093634907980158605524210323233449320090963610842930947429647998287494509415777236368008289006322968341022372420027864624678257854676295228972990435826085722241721248484392350365028846393574692369057682175155269678048065470943104847454699031471941487548999971431919562177488223008765789530986423281078100950984009050181062826107784357705922358952241400117424131910222657462023949770928852556149008612090476132848424031738376780993348222532372176493696765438419704989390707583259940673881636864000) M3 (sR (cpI (mk M3 501 i10 (2 * NL.length)) 501 (rdI M3 sNm) 0 501 i10 0 NL.length) 11 0 63 (some (501, i10))) := Fr.wR rfl (Fr.wcp rfl rfl (Fr.wmk hi rfl rfl rfl rfl (Fr.rf _ _)))
    have b4 := gr.big (by omega) (by omega)
    have z1 := gr.1.2.1 sNn m1 (by decide)
    have z2 := gr.1.2.1 sNp m2 (by decide)
    refine j74 _ (g3.trans (gr.1.sub (by simp))) ((fr4.I (f := 11) (k := 64) rfl 0).trans e64) ⟨(fr4.Ia (f := 108) rfl rfl 0 0).trans e108.1, by rw [fr4.L (f := 108) rfl]; exact e108.2⟩ ⟨?_, ?_, b4.2.1⟩ ⟨?_, ?_, b4.1⟩ (fun i hi => ?_)
    · rw [z1.2.1, y1.2.1]; exact b1.2.1
    · rw [z2.2.1]; exact b2'.2.1
    · rw [z1.2.1, y1.2.1]; exact b1.1
    · rw [z2.2.1]; exact b2'.1
    · rw [z1.1, z2.1, gr.2.2.1 i (by rw [l3]; omega)]; exact rr i hi
  · refine itn (ne_oN full (by omega) (by omega)) ?_
    refine j74 M3 g3 e64 e108 ⟨?_, b2'.2.1, by omega⟩ ⟨?_, b2'.1, by omega⟩ rr
    · rw [y1.2.1]; exact b1.2.1
    · rw [y1.2.1]; exact b1.1
