/-! THE MACHINE IN THE TWIN: between acts; who can go on (printed by gen/to.py) -/
def TA (G : List Sl) (US : UST) (A : List Nm) (S : List Sg) (W : List Cls) (w : Nat) (br : Int32) (nq nl nf nk B F : Nat) (x : Int32) (s : Ms) (M : Mem) : Prop := LKt G US A S W w br nq nl nf nk (zL s) M ∧ (uC W w s M ∧ uS W w s M) ∧ (uH w s M ∧ uF G w F s M) ∧ (uE w s M ∧ uD w s M ∧ uT w x s M) ∧ (mL M 704 w = 3 ∧ ∀ t', t' < 3 → mR M 704 w t' = some (13, 3 * w + t')) ∧ (mS M ≤ B + 2 * rs G M ∧ 51 ≤ mL M 110 0 ∧ mL M 110 0 < 1000000) ∧ ∀ t', t' < 3 → uN A S w t' (zN s t') M
abbrev STa : Nat := (19119466283661072162021608249376239263431476680971637744849752553705847812395428971919415633065126040774860260446228546525093660564559763529162953336986904562048183679096208427347498647404069007322028692953192265016167712326639337468604399510039049278918023410955720268735678956352558250142948775998790187400453652683320074808392086661066274803238089441676799127961583198514171167926014556192724504439098643885088319422584725586093919530406394113536300807700642344516740489160642477407358661523222385583385624327249989489404677752288217649009183936869500169650976173924551514561796323217311679648783022802219634324667026897847741421636735194577655345203564695135036301215725324269078998546741724244600331460975066485610127215303355982050459437797213004267770072299839401163927740039045451229563933544588773365771380494996695138668204237368993372970132282744216087800414232380532084576978386991421257244383360826329566119501195872258326603508402851818569566107089401619100738601775162982400)
abbrev STb : Nat := (87901490468420199821474075918821390461260642536702738335835893404431624811345108512193849638200757644505143630160214188578257060262567705574960998740779196986587127199148908311023113426527008724719978077587386669844199468592223259316644773545107477429258086618489093526734576806472229264630394871673573540952849051014616392463513269062849061982553064362152009510612329227902851950174616544912226710553766136459081499742511388965835201232029487598795951684442509663420112537677783842957282958898487321455636388731007892640101876519061685679836959238664437789418705862958386453864278029671688338135998571764202366074245515963268453110411196174818688802666480760393344002101680353893408482793084724684869211447902462863153802156782255488973075304027794463208592523967957435203053842413874741655092176091298106904412360783219763668038331935376566454072725944756981098484474192718937497150423537566175517763485380411121790870542800649423149993110716310627402915025431010882917388159397229172602605518300686499548515663511694238597265143682956263424)
section
variable {G : List Sl} {US : UST} {A : List Nm} {S : List Sg} {W : List Cls} {w c j a k t L q n d : Nat} {br x r v e : Int32} {bb : Bool} {nq nl nf nk B F op : Nat} {M M' : Mem} {s s' : Ms} {U V : List Un} {lo st lo' st' : List Vl} {o : Option Kd} {Q : Int32 → Mem → Prop} {i : Ins} {p : Nat × Nat} {y : Int32}
theorem TA.at (h : TA G US A S W w br nq nl nf nk B F x s M) (h2 : mR M 11 0 46 = some (13, 3 * w + t)) (h3 : mI M 11 0 47 = Int32.ofNat t) (ht : t < 3) (hp : (zN s t).1 = true) : TM G US A S W w br nq nl nf nk B F x (botF (gU s t)) t s (gU s t) M :=
  ⟨⟨h.1, h.2.1, h.2.2.1, h.2.2.2.1, ⟨h2, h3, h.2.2.2.2.1.1, h.2.2.2.2.1.2⟩, h.2.2.2.2.2.1, fun t' a _ => h.2.2.2.2.2.2 t' a⟩, ((h.2.2.2.2.2.2 t ht).2 hp).1, ((h.2.2.2.2.2.2 t ht).2 hp).2.1, ((h.2.2.2.2.2.2 t ht).2 hp).2.2⟩
theorem TM.al (h : TM G US A S W w br nq nl nf nk B F x (botF (gU s t)) t s (gU s t) M) : TA G US A S W w br nq nl nf nk B F x s M := by
  refine ⟨h.1.1, h.1.2.1, h.1.2.2.1, h.1.2.2.2.1, h.1.2.2.2.2.1.2.2, h.1.2.2.2.2.2.1, fun t' ht' => ?_⟩
  by_cases e : t' = t
  · rw [e]; exact ⟨h.2.1.wk, fun _ => ⟨h.2.1, h.2.2.1, h.2.2.2⟩⟩
  · exact h.1.2.2.2.2.2.2 t' ht' e
theorem TA.ga (h : TA G US A S W w br nq nl nf nk B F x s M) : Ga G := h.1.1.2.1.1
theorem TA.r45 (h : TA G US A S W w br nq nl nf nk B F x s M) : mR M 11 0 45 = some (12, w) := h.1.1.r45
theorem TA.fr (h : TA G US A S W w br nq nl nf nk B F x s M) (hf : Fr STa M M') : TA G US A S W w br nq nl nf nk B F x s M' := by
  have hg := h.ga
  obtain ⟨a1, ⟨b1, b2'⟩, ⟨c1, c2⟩, ⟨d1, d2, d3⟩, ⟨e3, e4⟩, ⟨m1, m2, m3⟩, g⟩ := h
  have hr := hf.rsl hg
  exact ⟨a1.mfr hf, ⟨b1.fr hf, b2'.fr hf⟩, ⟨c1.fr hf, c2.fr hg hf⟩, ⟨d1.fr hf, d2.fr hf, d3.fr hf⟩, ⟨(hf.L (f := 704) rfl w).trans e3, fun t' ht => (hf.Ra (f := 704) rfl rfl w t').trans (e4 t' ht)⟩, ⟨by rw [hr.1, hr.2]; exact m1, by rw [hf.L (f := 110) rfl]; exact ⟨m2, m3⟩⟩, fun t' ht => (g t' ht).eq (fun f k hl h23 => unO_I (R := STa) rfl hf hl h23 _) (fun f hl => unO_L (R := STa) rfl hf hl _)⟩
theorem TA.tn {z : Nat × Nat × Nat} (h : TA G US A S W w br nq nl nf nk B F x s M) (hf : Fr STb M M') (hT : uT w y (yT s z) M') : TA G US A S W w br nq nl nf nk B F y (yT s z) M' := by
  have hg := h.ga
  obtain ⟨a1, ⟨b1, b2'⟩, ⟨c1, c2⟩, ⟨d1, d2, d3⟩, ⟨e3, e4⟩, ⟨m1, m2, m3⟩, g⟩ := h
  have hr := hf.rsl hg
  exact ⟨a1.mfr hf, ⟨b1.fr hf, b2'.fr hf⟩, ⟨c1.fr hf, c2.fr hg hf⟩, ⟨d1.fr hf, d2.fr hf, hT⟩, ⟨(hf.L (f := 704) rfl w).trans e3, fun t' ht => (hf.Ra (f := 704) rfl rfl w t').trans (e4 t' ht)⟩, ⟨by rw [hr.1, hr.2]; exact m1, by rw [hf.L (f := 110) rfl]; exact ⟨m2, m3⟩⟩, fun t' ht => (g t' ht).eq (fun f k hl h23 => unO_I (R := STb) rfl hf hl h23 _) (fun f hl => unO_L (R := STb) rfl hf hl _)⟩
/-- whether a thread waits -/
theorem TA.w1 {u : Option (Int32 ⊕ Nat)} (h : TA G US A S W w br nq nl nf nk B F x s M) (ht : t < 3) (hW : uW (qW (zN s t) u) (3 * w + t) (sI M 13 (3 * w + t) 1 v)) : TA G US A S W w br nq nl nf nk B F x (sWt s t u) (sI M 13 (3 * w + t) 1 v) := by
  have hf : Fr (10209733028683891181421685303136563840203341927880603234597769179567894051309978418852767734651227049086702833667195528254913893832892163563618021099973106715482998380446272882503268979173305884549074769728694176525429734045775572732166181848282767012458879705954754007801096697796703686518611834091849707543265048740487855303487690977474833749611696736972985301476767168122385580457519380576708747464247830860036469239950508085817717877250118616144956624712726162036692553097838005835166496303065047580211354148265971112601051246493988797995393283951152687721502868433147405877532248332397261803248878929587163215043974707501191147775645586247411636101492865372044208159635219781988382429093602436511744037406771216690388086184983241784420604093451165366058978273207549365135360565265371515423528810607590772586440629805092949079265396269479501133530854199696627864512163745267026628966257663762963734369793098618123576280030462136682843925008240563766085412420693118548094739672561732431457041227050895714747875540399789774517994899316212349443819685987314979937401834582449693130752) M (sI M 13 (3 * w + t) 1 v) := Fr.wI rfl (Fr.rf _ _)
  have hg := h.ga
  obtain ⟨a1, ⟨b1, b2'⟩, ⟨c1, c2⟩, ⟨d1, d2, d3⟩, ⟨e3, e4⟩, ⟨m1, m2, m3⟩, g⟩ := h
  have hr := hf.rsl hg
  refine ⟨a1.mfr hf, ⟨b1.fr hf, b2'.fr hf⟩, ⟨c1.fr hf, c2.fr hg hf⟩, ⟨d1.fr hf, d2.fr hf, d3.fr hf⟩, ⟨(hf.L (f := 704) rfl w).trans e3, fun t' ht => (hf.Ra (f := 704) rfl rfl w t').trans (e4 t' ht)⟩, ⟨by rw [hr.1, hr.2]; exact m1, by rw [hf.L (f := 110) rfl]; exact ⟨m2, m3⟩⟩, fun t' ht' => ?_⟩
  by_cases e : t' = t
  · subst e
    have eN : zN (sWt s t' u) t' = qW (zN s t') u := up1_s
    rw [eN]
    have rd : ∀ i, i ≠ 1 → mI (sI M 13 (3 * w + t') 1 v) 13 (3 * w + t') i = mI M 13 (3 * w + t') i := fun i hi => by rw [mI_sI, if_neg (fun z => hi z.2.2)]
    have ra : ∀ g i, g ≠ 13 → mI (sI M 13 (3 * w + t') 1 v) g (3 * w + t') i = mI M g (3 * w + t') i := fun g i hg => by rw [mI_sI, if_neg (fun z => hg z.1)]
    obtain ⟨⟨q1, q2, -, q4⟩, gs⟩ := g t' ht
    refine ⟨⟨q1, (rd 0 (by omega)).trans q2, hW, q4⟩, fun hp => ?_⟩
    obtain ⟨⟨hln, ⟨n1, n2⟩, ⟨k1, k2, k3, k4⟩, d, e⟩, ⟨u1, u2, u3⟩, h4⟩ := gs hp
    refine ⟨⟨hln, ⟨(rd 0 (by omega)).trans n1, (rd 3 (by omega)).trans n2⟩, ⟨(rd 10 (by omega)).trans k1, (rd 11 (by omega)).trans k2, (rd 12 (by omega)).trans k3, (rd 13 (by omega)).trans k4⟩, hW, fun z => ?_⟩, ⟨(rd 16 (by omega)).trans u1, (rd 22 (by omega)).trans u2, unT.eq' (fun g i hg => ra g i (by omega)) u3⟩, fun z => by rw [rd 4 (by omega)]; exact h4 z⟩
    obtain ⟨e1, e2, e3, e4, e5, e6⟩ := e z
    rw [rd 5 (by omega), rd 6 (by omega), rd 7 (by omega)]
    exact ⟨e1, e2, e3, e4, e5, fun k hk => (ra 170 k (by omega)).trans (e6 k hk)⟩
  · have eN : zN (sWt s t u) t' = zN s t' := up1_o e
    rw [eN]
    exact (g t' ht').eq (fun g k _ _ => by rw [mI_sI, if_neg (fun z => by omega)]) (fun _ _ => rfl)
theorem TA.sfl (h : TA G US A S W w br nq nl nf nk B F x s M) : (mR M 12 w 55 = some (300, rdI M (sFl' w)) ∧ (zF s).length ≤ mL M 300 (rdI M (sFl' w))) ∧ (mR M 12 w 58 = some (300, rdI M (sFo w)) ∧ (zF s).length ≤ mL M 300 (rdI M (sFo w))) := by
  obtain ⟨-, hX, -⟩ := h.2.2.1.2
  obtain ⟨m1, p1, -⟩ := hX (sFl' w) (by simp)
  obtain ⟨m2, p2, -⟩ := hX (sFo w) (by simp)
  exact ⟨⟨(h.1.1.1.2.2.2 _ m1).1.1, p1⟩, (h.1.1.1.2.2.2 _ m2).1.1, p2⟩
theorem ct_locksA (h : TA G US A S W w br nq nl nf nk B F x s M) (hv : vRf s r) (h0 : r ≠ 0) (hQ : Q (lkR s r).1 M) : w_Model_locksOf 0 (tr true r) Q M := by
  obtain ⟨n, ⟨e, en, hb⟩, et, hn⟩ := tr_ref hv
  have hn0 : n ≠ 0 := fun z => h0 (by rw [e, z]; rfl)
  obtain ⟨⟨l7, l8, l9, l0, l2, l4, l1⟩, -, -, hOb, -⟩ := h.2.2.1.1
  obtain ⟨⟨r1, p1⟩, -⟩ := h.sfl
  unfold lkR at hQ
  rw [en] at hQ
  unfold w_Model_locksOf
  rw [et]
  by_cases c8 : 800 < n
  · have hn2 : n ≤ 800 + (zF s).length := by rcases hn with z | z | z <;> omega
    rw [if_pos c8] at hQ ⊢
    refine itn (fun y => by have := (oN_lt (a := n + 200) (b := 1001) (by omega) (by omega)).mp y; omega) ⟨w, h.r45, _, r1, ?_⟩
    rw [f1001 (by omega), oN_tnc (k := n - 801) (by omega), show mI M 300 (rdI M (sFl' w)) (n - 801) = (gFt s (n - 801)).2.2.1 from (h.2.2.1.2.2.2 (n - 801) (by omega)).2.2.1]
    exact ⟨(vp_oN (by omega)).mpr (by omega), hQ⟩
  · rw [if_neg c8] at hQ ⊢
    have ht : thr s n = true := by rcases hn with z | z | z <;> first | exact absurd z hn0 | exact z.2 | omega
    refine itp ((oN_lt (a := n) (b := 1001) (by omega) (by omega)).mpr (by omega)) ⟨w, h.r45, ?_⟩
    rw [oN_tnc (k := n) (by omega), (hOb n ht).2.2.2.1]
    exact ⟨by rw [l0]; exact (vp_oN (by omega)).mpr (by omega), hQ⟩
theorem ct_ownerA (h : TA G US A S W w br nq nl nf nk B F x s M) (hv : vRf s r) (h0 : r ≠ 0) (hQ : ∀ v, ((lkR s r).1 ≠ 0 → v = (lkR s r).2) → Q v M) : w_Model_ownerOf 0 (tr true r) Q M := by
  obtain ⟨n, ⟨e, en, hb⟩, et, hn⟩ := tr_ref hv
  have hn0 : n ≠ 0 := fun z => h0 (by rw [e, z]; rfl)
  obtain ⟨⟨l7, l8, l9, l0, l2, l4, l1⟩, -, -, hOb, -⟩ := h.2.2.1.1
  obtain ⟨-, r1, p1⟩ := h.sfl
  unfold lkR at hQ
  rw [en] at hQ
  unfold w_Model_ownerOf
  rw [et]
  by_cases c8 : 800 < n
  · have hn2 : n ≤ 800 + (zF s).length := by rcases hn with z | z | z <;> omega
    rw [if_pos c8] at hQ ⊢
    refine itn (fun y => by have := (oN_lt (a := n + 200) (b := 1001) (by omega) (by omega)).mp y; omega) ⟨w, h.r45, _, r1, ?_⟩
    rw [f1001 (by omega), oN_tnc (k := n - 801) (by omega)]
    exact ⟨(vp_oN (by omega)).mpr (by omega), hQ _ (h.2.2.1.2.2.2 (n - 801) (by omega)).2.2.2⟩
  · rw [if_neg c8] at hQ ⊢
    have ht : thr s n = true := by rcases hn with z | z | z <;> first | exact absurd z hn0 | exact z.2 | omega
    refine itp ((oN_lt (a := n) (b := 1001) (by omega) (by omega)).mpr (by omega)) ⟨w, h.r45, ?_⟩
    rw [oN_tnc (k := n) (by omega)]
    exact ⟨by rw [l2]; exact (vp_oN (by omega)).mpr (by omega), hQ _ (hOb n ht).2.2.2.2⟩
theorem uK.on {l : Ln} (h : uK L l M) (h2 : lSt l ≤ 2) : mI M 13 L 0 = 1 ↔ lSt l = 1 := by
  obtain ⟨-, e0, -, e⟩ := h
  rw [e0]
  cases hb : l.1 with
  | true =>
    rw [if_pos rfl]
    exact oN_inj (b := 1) (by omega) (by omega)
  | false =>
    rw [if_neg (by decide)]
    constructor
    · intro z; exact absurd z (by decide)
    · intro z
      have := e z
      rw [hb] at this; cases this
/-- whether a thread can go on -/
theorem ct_canGo (h : TA G US A S W w br nq nl nf nk B F x s M) (hX : LX W s t) (hk : LkN s) (hkb : zK s < 1000000) (h51 : W.length ≤ 51) (ht : t < 3) (hQ : Q (b2 (decide (canG s t))) M) : w_Model_canGo 0 (Int32.ofNat t) Q M := by
  have hN := h.2.2.2.2.2.2 t ht
  have on := hN.1.on hX.2.1.1
  have l137 : mL M 137 w = 51 := h.1.1.1.1.1.1.2.2.2.2.2.1
  unfold w_Model_canGo w_Model_canGo_j25
  refine ⟨w, h.r45, by rw [h.2.2.2.2.1.1]; exact (vp_oN (by omega)).mpr ht, 3 * w + t, ?_, ?_⟩
  · rw [oN_tnc (k := t) (by omega)]; exact h.2.2.2.2.1.2 t ht
  by_cases c1 : lSt (zN s t) = 1
  · refine itp (on.mpr c1) ?_
    have yes : waitS s t = false → Q 1 M := fun z => by rw [decide_eq_true ⟨c1, z⟩] at hQ; exact hQ
    have no : waitS s t = true → Q 0 M := fun z => by rw [decide_eq_false (fun y : canG s t => by have := y.2; rw [z] at this; cases this)] at hQ; exact hQ
    have hw := hN.1.2.2.1
    unfold uW at hw
    unfold waitS at yes no
    have hlw := hX.2.2
    cases ew : lWt (zN s t) with
    | none =>
      rw [ew] at hw yes
      exact itp hw (itp (on.mpr c1) (yes rfl))
    | some u =>
      rw [ew] at hw yes no
      have hlw := hlw u ew
      cases u with
      | inl r =>
        obtain ⟨hv, h0⟩ : vRf s r ∧ r ≠ 0 := hlw
        obtain ⟨w1, w2⟩ := hw
        dsimp only at yes no
        obtain ⟨m, ⟨em, emn, hb⟩, et, hm⟩ := tr_ref hv
        have hm0 : m ≠ 0 := fun z => h0 (by rw [em, z]; rfl)
        have hpos : ¬ tr true r ≤ 0 := by
          rw [et]
          exact fun z => by have := (oN_le (a := if 800 < m then m + 200 else m) (b := 0) (by split <;> omega) (by omega)).mp z; split at this <;> omega
        rw [w1, w2]
        refine itn (by decide) (itn hpos (ct_locksA h hv h0 ?_))
        obtain ⟨cn, hc1, hc2⟩ := hk r
        by_cases c0 : (lkR s r).1 = 0
        · refine itp c0 (yes (decide_eq_false (fun z => ?_)))
          have := z.1
          rw [c0] at this
          exact absurd this (by decide)
        · refine itn c0 (ct_ownerA h hv h0 (fun o ho => ?_))
          have ho := ho c0
          have hcn : cn ≠ 0 := fun z => c0 (by rw [hc1, z]; rfl)
          by_cases ct : o = Int32.ofNat t
          · exact itp ct (yes (decide_eq_false (fun z => z.2 (ho.symm.trans ct))))
          · refine itn ct (no (decide_eq_true ⟨?_, fun z => ct (ho.trans z)⟩))
            rw [hc1]
            exact (oN_lt (a := 0) (b := cn) (by omega) (by omega)).mpr (by omega)
      | inr k =>
        have hkl : k < W.length := hlw
        obtain ⟨w1, w2⟩ := hw
        dsimp only at yes no
        obtain ⟨n1, n2⟩ := neg1 (k := k) (by omega)
        obtain ⟨e137, e164⟩ := h.2.1.1.2.1 k hkl
        rw [w1, w2]
        generalize (-1 : Int32) - Int32.ofNat k = z at n1 n2 ⊢
        refine itn (by decide) (itp (Int32.le_of_lt n1) ⟨w, h.r45, ?_⟩)
        rw [n2, oN_tnc (k := k) (by omega), e137]
        refine ⟨by rw [l137]; exact (vp_oN (by omega)).mpr (by omega), ?_⟩
        by_cases cz : zC s k = 1
        · refine itp cz ⟨w, h.r45, by rw [h.2.1.1.1.1]; exact (vp_oN (by omega)).mpr (by omega), ?_⟩
          rw [e164 cz]
          by_cases co : zO s k = Int32.ofNat t
          · exact itp co (yes (decide_eq_false (fun z => z.2 co)))
          · exact itn co (no (decide_eq_true ⟨cz, co⟩))
        · exact itn cz (yes (decide_eq_false (fun z => cz z.1)))
  · rw [decide_eq_false (fun z : canG s t => c1 z.1)] at hQ
    exact itn (fun z => c1 (on.mp z)) (itn (fun z => c1 (on.mp z)) hQ)
/-- some thread is on -/
abbrev anyOn (s : Ms) : Prop := lSt (zN s 0) = 1 ∨ lSt (zN s 1) = 1 ∨ lSt (zN s 2) = 1
theorem ct_isAnyOn (h : TA G US A S W w br nq nl nf nk B F x s M) (hX : ∀ t, t < 3 → LX W s t) (hQ : Q (b2 (decide (anyOn s))) M) : w_Model_isAnyOn 0 w Q M := by
  have on : ∀ t, t < 3 → (mI M 13 (3 * w + t) 0 = 1 ↔ lSt (zN s t) = 1) := fun t ht => (h.2.2.2.2.2.2 t ht).1.on (hX t ht).2.1.1
  have R := h.2.2.2.2.1.2
  have v : ∀ t, t < 3 → vp_in (Int32.ofNat t) (mL M 704 w) := fun t ht => by rw [h.2.2.2.2.1.1]; exact (vp_oN (by omega)).mpr ht
  unfold w_Model_isAnyOn
  refine ⟨v 0 (by omega), 3 * w + 0, R 0 (by omega), ?_⟩
  by_cases c0 : lSt (zN s 0) = 1
  · rw [decide_eq_true (show anyOn s from Or.inl c0)] at hQ
    exact itp ((on 0 (by omega)).mpr c0) hQ
  refine itn (fun z => c0 ((on 0 (by omega)).mp z)) ⟨v 1 (by omega), 3 * w + 1, R 1 (by omega), ?_⟩
  by_cases c1 : lSt (zN s 1) = 1
  · rw [decide_eq_true (show anyOn s from Or.inr (Or.inl c1))] at hQ
    exact itp ((on 1 (by omega)).mpr c1) hQ
  refine itn (fun z => c1 ((on 1 (by omega)).mp z)) ⟨v 2 (by omega), 3 * w + 2, R 2 (by omega), ?_⟩
  by_cases c2 : lSt (zN s 2) = 1
  · rw [decide_eq_true (show anyOn s from Or.inr (Or.inr c2))] at hQ
    exact itp ((on 2 (by omega)).mpr c2) hQ
  · rw [decide_eq_false (fun z : anyOn s => by rcases z with z | z | z <;> contradiction)] at hQ
    exact itn (fun z => c2 ((on 2 (by omega)).mp z)) hQ
end
