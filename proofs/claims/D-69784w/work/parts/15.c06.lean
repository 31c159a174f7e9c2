abbrev pF (p : PM) (f : Option (List Kd × List Kd × Nat)) : PM := (p.1, p.2.1, p.2.2.1, p.2.2.2.1, f)
theorem JM.pend {G : List Sl} {US : UST} {A : List Nm} {S : List Sg} {W : List Cls} {w c : Nat} {br : Int32} {q0 nl0 nq nl nf nk : Nat} {p : PM} {NL : List Nine} {z : Nat × Nat × Nat × Nat × Nat × Nat} {L ts : List Tok} {M0 M : Mem} {j : Nat} {f : List Kd × List Kd × Nat} (h : JM G US A S W w c br q0 nl0 nq nl nf nk p NL z L ts M0 M) (hx : Gx G w) (hj : j < nf) (hf' : tFr A w nk j f.1 f.2.1 M) : JM G US A S W w c br q0 nl0 nq nl nf nk (pF p (some f)) NL z L ts M0 (sI M 11 0 65 (Int32.ofNat (j + 1))) := by
  obtain ⟨g1, g2, ⟨⟨h1, h2, h3, h4⟩, hLb, hNi⟩, g4, g5, g6⟩ := h
  have hw := hx.2.2.2.1
  have fr : Fr (72934975750899257214254519016003222887942337383351921728329989867723936682610676906055993114643794414018619521715855907207884137376446283371831287724684053361510930442174577420742146485921389046802415485076460898457787369733965336152598082858178232125434718631054045635113503607592644031888400755816754153815845945766959467028510639867975137636212210231236597104776685160091930576958973891351300868768246780374614496193711654046644063205296518334812066480396011131821468037273665825218837275002666183483481899433789635012505683584853017266207956535034555675089849168211263291319055721636692314749169429085178266931001354514052164383792290235166386227651581926329550089669657962377662742095280095923715113118236697615450628542825972657656481604141705369468512941657774071299791283350290088013532988597469810662741191517653378296447883828021958077760783198916158396197389097343928284438611151604290605343197178916926233977648839060141668750437300391225597555614345005082083320483807232) M (sI M 11 0 65 (Int32.ofNat (j + 1))) := Fr.wI rfl (Fr.rf _ _)
  have rk : ∀ nq nl nf nk, Rk w nq nl nf nk M (sI M 11 0 65 (Int32.ofNat (j + 1))) := fun nq nl nf nk => Rk.fr fr hx.1 hw
  refine ⟨g1.fr fr, g2.fr fr hx.1 hw, ⟨⟨?_, fun i hi => (h2 i hi).keep (rk (q0 + p.2.1.length) nl nf nk) (by have : i < p.2.1.length := hi; omega), ?_, ⟨j, hj, by simp only [mI_sI, mI_sR, mI_sJ, mR_sI, mL_sI, mL_sR, mR_sR, Nat.reduceEqDiff, and_false, false_and, if_false, and_self, true_and, and_true, if_true], hf'.keep (rk 0 0 nf nk) hj⟩⟩, hLb.of rfl (XL_fr fr hx.1 hx.2.2.2.2.1 rfl), hNi.of rfl (XL_fr fr hx.1 hx.2.2.2.2.1 rfl)⟩, g4.fr fr hx, g5.fr fr hx.1 hw, (fr.I (f := 11) (k := 51) rfl 0).trans g6⟩
  · obtain ⟨⟨a1, a2, a3, a4, a5, a6⟩, ⟨b1, b2', b3⟩, ⟨c1, c2⟩, d1, d2⟩ := h1
    exact ⟨⟨⟨(fr.Ia (f := 144) rfl rfl w _).trans a1.1, a1.2⟩, ⟨(fr.Ia (f := 145) rfl rfl w _).trans a2.1, a2.2⟩, a3, (fr.Ia (f := 146) rfl rfl w _).trans a4, (fr.Ia (f := 147) rfl rfl w _).trans a5, (fr.Ia (f := 148) rfl rfl w _).trans a6⟩, ⟨(fr.Ia (f := 149) rfl rfl w _).trans b1, (fr.Ia (f := 150) rfl rfl w _).trans b2', (fr.Ia (f := 151) rfl rfl w _).trans b3⟩, ⟨(fr.I (f := 11) (k := 53) rfl 0).trans c1, (fr.I (f := 11) (k := 54) rfl 0).trans c2⟩, d1, d2⟩
  · refine ⟨(fr.L (f := 109) rfl 0).trans h3.1, fun i hi => ?_⟩
    obtain ⟨a, b, d⟩ := h3.2 i hi
    refine ⟨a.of (fun f x y => ?_), b, (fr.Ia (f := 109) rfl rfl 0 i).trans d⟩
    rw [mI_sI, if_neg (fun q => by omega)]
theorem ct_frameLine {G : List Sl} {US : UST} {A : List Nm} {S : List Sg} {W : List Cls} {w c : Nat} {br : Int32} {q0 nl0 nq nl nf nk : Nat} {p : PM} {NL : List Nine} {z : Nat × Nat × Nat × Nat × Nat × Nat} {L : List Tok} {M0 M : Mem} {Q X : Mem → Prop} (h : JM G US A S W w c br q0 nl0 nq nl nf nk p NL z L L.tail M0 M) (hx : Gx G w) (hc : c < W.length) (hm12 : (gc W c).2.2.2.2.2.length < 12) (hz : lz L) (hne : L.tail ≠ []) (hLl : L.length ≤ 1500) (hqq : nq = q0 + p.2.1.length) (hnf : nf < 3900) (hNL : NL.length ≤ 3900) (hnk : nk + 2 * L.length ≤ 3900) (hzb : z.2.1 ≤ nq ∧ z.2.2.1 ≤ nl ∧ z.2.2.2.1 ≤ nf ∧ z.2.2.2.2.1 ≤ nk)
    (hX1 : ∀ M', p.2.2.2.2.isSome = true → ThT (er L) M' → JE G US A w z M0 M' → X M')
    (hX2 : ∀ e M', p.2.2.2.2 = none → pFrame L.tail = .inl e → ThT e M' → JE G US A w z M0 M' → X M')
    (hQ : ∀ ls ss t t' M', p.2.2.2.2 = none → pFrame L.tail = .inr ((ls, ss), t) → ls.length + ss.length ≤ 2 * L.length → JM G US A S W w c br q0 nl0 nq nl (nf + 1) (nk + ls.length + ss.length) (pF p (some (ls, ss, (hd L).2.2.2))) (NL ++ [(2, [], p.2.1.length, (hd L).2.2.2, false)]) z L t' M0 M' → Q M') : w_Model_frameLine 0 Q X M := by
  have hL : L ≠ [] := by obtain ⟨i, z, e, -⟩ := hz; rw [e]; simp
  have hw := hx.2.2.2.1
  obtain ⟨-, -, m7, m8, m9, m10⟩ := XW_in hw
  have hpe : tPe A w nf nk p.2.2.2.2 M := h.2.2.1.1.2.2.2
  unfold w_Model_frameLine
  cases ep : p.2.2.2.2 with
  | some f =>
    rw [ep] at hpe
    obtain ⟨j, j1, j2, j3⟩ := hpe
    refine itn (by rw [j2]; exact nle_oN (b := 0) (by omega) (by omega)) ?_
    have fr : Fr (17389053285336317351878766778946691247926315637433987075884339777880653544094723917497633246098469356064467316082920052339526209205733843653638669902010930385949833498519558291612183209877345334721187468785395836462447016175738653219365616526169355422362022073520194443491340543649827011081791104273022211507760511819591395146491680113786491784146359021958493496126338281653387684097045395696473328773557372182515739487102426063214317132305268844321266765688898833232275971716324287705144232512156053419943308695266159775854512115681890789558400281675948065540754596760574171857608728799031332671444279929441992504835451725495377632091591414252850109970946771223437807481207361788192449115581535321167734412726568607199341903406613506712074662242342321745994792379802244019458599889347574237235304974906399408040330771840424131500216443067063826980777549485244368600222849212629386052754199887344981513785643319350775236522874608073632419213605020338439358619295359869499998208) M (sI M 11 0 43 0) := Fr.wI rfl (Fr.rf _ _)
    have hq : TQ A L L (sI M 11 0 43 0) := by
      obtain ⟨⟨a, b, c⟩, -⟩ := h.1
      exact ⟨⟨a.fr fr, b.fr fr, c⟩, 0, by simp only [mI_sI, mI_sR, mI_sJ, mR_sI, mL_sI, mL_sR, mR_sR, Nat.reduceEqDiff, and_false, false_and, if_false, and_self, true_and, and_true, if_true]; rfl, rfl, Nat.zero_le _⟩
    exact mf_w_Model_wrong (Q := fun _ => False) (X := fun M' => ThT (er L) M') (fun M5 hf5 hp5 => hp5.elim) (fun M5 hf5 hp5 => hX1 M5 (by rw [ep]; rfl) hp5 ((h.je.fr hx fr).fr hx hf5)) (ct_wrong hq hL (fun M' a => a))
  | none =>
    rw [ep] at hpe
    refine itp (by show mI M 11 0 65 ≤ 0; rw [show mI M 11 0 65 = 0 from hpe]; decide) ?_
    unfold w_Model_frameLine_j16
    have ew : mR M 11 0 45 = some (12, w) := h.2.1.1.1.2.1
    have T0 := h.2.2.2.2.1.1.1
    have c41 : mI M 12 w 41 = Int32.ofNat nf := h.2.1.2.1.2.2.1
    have hRL := h.2.1.2.2.1.2.2.2.2
    have tf : (Int32.ofNat nf).toNatClampNeg = nf := oN_tnc (by omega)
    refine ⟨w, ew, w, ew, w, ew, rdI M (sFf w), (T0 _ m9).1.1, ?_⟩
    rw [c41, lit32 1, oN_add, tf]
    refine rm300 (s := sFf w) (X := [sFf w]) hx.1 T0 m9 (by simp) rfl (by omega) (by have := hRL (sFf w) (by simp); omega) (fun i1 M1' r1 f1 => ?_)
    obtain ⟨h1, l1, g1, -, e1⟩ := h.frRow (s := sFf w) hx (by simp) hnf r1 f1 hqq hzb
    have h1 : JM G US A S W w c br q0 nl0 nq nl nf nk p NL z L L.tail M0 (sR M1' 12 w 40 (some (300, i1))) := h1
    have l1 : nf + 1 ≤ rl (sR M1' 12 w 40 (some (300, i1))) (sFf w) := l1
    have g1 : GF G [sFf w] M (sR M1' 12 w 40 (some (300, i1))) := g1
    generalize sR M1' 12 w 40 (some (300, i1)) = M1 at h1 l1 g1 ⊢
    clear r1 f1 e1
    have w1 : mR M1 11 0 45 = some (12, w) := h1.2.1.1.1.2.1
    have T1 := h1.2.2.2.2.1.1.1
    refine ⟨w, w1, w, w1, rdI M1 (sFl w), (T1 _ m7).1.1, ?_⟩
    refine rm300 (s := sFl w) (X := [sFl w]) hx.1 T1 m7 (by simp) rfl (by omega) (by have := h1.2.1.2.2.1.2.2.2.2 (sFl w) (by simp); omega) (fun i2 M2' r2 f2 => ?_)
    obtain ⟨h2, l2, g2, -, e2⟩ := h1.frRow (s := sFl w) hx (by simp) hnf r2 f2 hqq hzb
    have h2 : JM G US A S W w c br q0 nl0 nq nl nf nk p NL z L L.tail M0 (sR M2' 12 w 38 (some (300, i2))) := h2
    have l2 : nf + 1 ≤ rl (sR M2' 12 w 38 (some (300, i2))) (sFl w) := l2
    have g2 : GF G [sFl w] M1 (sR M2' 12 w 38 (some (300, i2))) := g2
    generalize sR M2' 12 w 38 (some (300, i2)) = M2 at h2 l2 g2 ⊢
    clear r2 f2 e2
    have w2 : mR M2 11 0 45 = some (12, w) := h2.2.1.1.1.2.1
    have T2 := h2.2.2.2.2.1.1.1
    refine ⟨w, w2, w, w2, rdI M2 (sFs w), (T2 _ m8).1.1, ?_⟩
    refine rm300 (s := sFs w) (X := [sFs w]) hx.1 T2 m8 (by simp) rfl (by omega) (by have := h2.2.1.2.2.1.2.2.2.2 (sFs w) (by simp); omega) (fun i3 M3' r3 f3 => ?_)
    obtain ⟨h3, l3, g3, -, e3⟩ := h2.frRow (s := sFs w) hx (by simp) hnf r3 f3 hqq hzb
    have h3 : JM G US A S W w c br q0 nl0 nq nl nf nk p NL z L L.tail M0 (sR M3' 12 w 39 (some (300, i3))) := h3
    have l3 : nf + 1 ≤ rl (sR M3' 12 w 39 (some (300, i3))) (sFs w) := l3
    have g3 : GF G [sFs w] M2 (sR M3' 12 w 39 (some (300, i3))) := g3
    generalize sR M3' 12 w 39 (some (300, i3)) = M3 at h3 l3 g3 ⊢
    clear r3 f3 e3
    have w3 : mR M3 11 0 45 = some (12, w) := h3.2.1.1.1.2.1
    have T3 := h3.2.2.2.2.1.1.1
    have lf3 : nf + 1 ≤ rl M3 (sFf w) := by rw [(g3.2.1 (sFf w) m9 (by simp)).2.1, (g2.2.1 (sFf w) m9 (by simp)).2.1]; exact l1
    have ll3 : nf + 1 ≤ rl M3 (sFl w) := by rw [(g3.2.1 (sFl w) m7 (by simp)).2.1]; exact l2
    have c43 : mI M3 12 w 43 = Int32.ofNat nk := h3.2.1.2.1.2.2.2
    refine ⟨w, w3, rdI M3 (sFf w), (T3 _ m9).1.1, w, w3, by show vp_in _ (rl M3 (sFf w)); exact (vp_oN (by omega)).mpr (by omega), _, rfl, w, w3, ?_⟩
    rw [c43]
    obtain ⟨h4, g4, e4⟩ := h3.frWr (s := sFf w) (v := Int32.ofNat nk) hx (by simp) hqq hzb
    have rl43 : rl (sI M3 300 (rdI M3 (sFf w)) nf (Int32.ofNat nk)) (sFf w) = rl M3 (sFf w) := rfl
    generalize sI M3 300 (rdI M3 (sFf w)) nf (Int32.ofNat nk) = M4 at h4 g4 e4 rl43 ⊢
    have T4 := h4.2.2.2.2.1.1.1
    refine ⟨rdI M4 (sFl w), (T4 _ m7).1.1, ?_⟩
    have ll4 : nf + 1 ≤ rl M4 (sFl w) := by rw [(g4.2.1 (sFl w) m7 (by simp)).2.1]; exact ll3
    have ls4 : nf + 1 ≤ rl M4 (sFs w) := by rw [(g4.2.1 (sFs w) m8 (by simp)).2.1]; exact l3
    have hX2' : ∀ e M', pFrame L.tail = .inl e → ThT e M' → JE G US A w z M0 M' → X M' := fun e M' a b d => hX2 e M' ep a b d
    have hLt : L.tail.length ≤ L.length := by rw [List.length_tail]; omega
    refine h4.kindWords (b := 59) hx hz hne (by omega) (by omega) (by omega) hqq hzb (fun e M' a b d => hX2' e M' (by unfold pFrame; rw [a]) b d) (fun ls t1 M5 a5 n5 n5' hl5 K5 h5 => ?_)
    have n5' := n5' (by omega)
    obtain ⟨k1, k2, k3, k4⟩ := K5
    have T5 := h5.2.2.2.2.1.1.1
    have kl := k4 (sFl w) (by simp)
    have kf := k4 (sFf w) (by simp)
    have ks := k4 (sFs w) (by simp)
    rw [← kl.2.2]
    refine ⟨by show vp_in _ (rl M5 (sFl w)); exact (vp_oN (by omega)).mpr (by rw [kl.2.1]; omega), w, h5.2.1.1.1.2.1, ?_⟩
    have hzb5 : z.2.1 ≤ nq ∧ z.2.2.1 ≤ nl ∧ z.2.2.2.1 ≤ nf ∧ z.2.2.2.2.1 ≤ nk + ls.length := ⟨hzb.1, hzb.2.1, hzb.2.2.1, by omega⟩
    obtain ⟨h6, g6, e6⟩ := h5.frWr (s := sFl w) (v := Int32.ofNat ls.length) hx (by simp) hqq hzb5
    have rl65 : rl (sI M5 300 (rdI M5 (sFl w)) nf (Int32.ofNat ls.length)) (sFl w) = rl M5 (sFl w) := rfl
    generalize sI M5 300 (rdI M5 (sFl w)) nf (Int32.ofNat ls.length) = M6 at h6 g6 e6 rl65 ⊢
    have T6 := h6.2.2.2.2.1.1.1
    refine ⟨rdI M6 (sFs w), (T6 _ m8).1.1, ?_⟩
    have ls6 : nf + 1 ≤ rl M6 (sFs w) := by rw [(g6.2.1 (sFs w) m8 (by simp)).2.1, ks.2.1]; exact ls4
    refine h6.kindWords (b := 0) hx hz n5' (by omega) (by omega) (by omega) hqq hzb5 (fun e M' a b d => hX2' e M' (by unfold pFrame; simp only [a5]; rw [a]) b d) (fun ss t2 M7 a7 n7 n7' hl7 K7 h7 => ?_)
    have hpf : pFrame L.tail = .inr ((ls, ss), t2) := by unfold pFrame; simp only [a5]; rw [a7]
    obtain ⟨q1, q2, q3, q4⟩ := K7
    have T7 := h7.2.2.2.2.1.1.1
    have ql := q4 (sFl w) (by simp)
    have qf := q4 (sFf w) (by simp)
    have qs := q4 (sFs w) (by simp)
    rw [← qs.2.2]
    have w7 : mR M7 11 0 45 = some (12, w) := h7.2.1.1.1.2.1
    refine ⟨by show vp_in _ (rl M7 (sFs w)); exact (vp_oN (by omega)).mpr (by rw [qs.2.1]; omega), w, w7, ?_⟩
    have hzb7 : z.2.1 ≤ nq ∧ z.2.2.1 ≤ nl ∧ z.2.2.2.1 ≤ nf ∧ z.2.2.2.2.1 ≤ nk + ls.length + ss.length := ⟨hzb.1, hzb.2.1, hzb.2.2.1, by omega⟩
    obtain ⟨h8, g8, e8⟩ := h7.frWr (s := sFs w) (v := Int32.ofNat ss.length) hx (by simp) hqq hzb7
    have rl87 : rl (sI M7 300 (rdI M7 (sFs w)) nf (Int32.ofNat ss.length)) (sFs w) = rl M7 (sFs w) := rfl
    generalize sI M7 300 (rdI M7 (sFs w)) nf (Int32.ofNat ss.length) = M8 at h8 g8 e8 rl87 ⊢
    have hm := h8.2.2.1.1.1
    have l150 : mL M8 150 w = 612 := h8.2.1.1.2.2.1.1 150 (by omega) (by omega)
    have hWl := h8.2.1.1.1.1.1.1.2.2.1
    rw [hm.2.2.1.2, oN_tnc (k := 12 * c + (gc W c).2.2.2.2.2.length) (by omega), l150, hm.2.1.2.1]
    refine ⟨(vp_oN (by omega)).mpr (by omega), ?_⟩
    have h80 := hm.2.2.2.1
    refine mf_w_Model_addNine (Q := fun M' => tNi A (NL ++ [(2, [], p.2.1.length, (hd L).2.2.2, false)]) M' ∧ GF G [sNn, sNp, sNm] M8 M') (fun M9 f9 h9 => ?_) (ct_addNine (x := (2, [], p.2.1.length, (hd L).2.2.2, false)) hx.1 hx.2.2.2.2.1 h8.2.2.2.2.1.1.1 h8.2.2.1.2.2 hNL (h8.1.pl hL) (fun q => absurd q (by show ¬ (2 : Nat) = 1; omega)) ⟨Nat.le_refl 2, h80⟩ (fun M' a b => ⟨a, b⟩))
    have hJ9 := h8.nine hx f9 (h8.1.fr f9) h9.2 h9.1
    have w9 : mR M9 11 0 45 = some (12, w) := hJ9.2.1.1.1.2.1
    have c41 : mI M9 12 w 41 = Int32.ofNat nf := hJ9.2.1.2.1.2.2.1
    refine ⟨w, w9, w, w9, _, rfl, ?_⟩
    simp only [mI_sI, mI_sR, mI_sJ, mR_sI, mL_sI, mL_sR, mR_sR, Nat.reduceEqDiff, and_false, false_and, if_false, and_self, true_and, and_true, if_true, c41]
    rw [oN_add]
    have fra : Fr (6985782819463427847343609803423992034694404803649802075690896781637797738023210248326766462183058869402022650254584486371537610710665997312463203965884780644304524040154529278359660579882225094216662889924636417217588382450121502821973544243582683994711088070749369742610818291224815787047576496734108411546774629832475693421643040105728233812852944084974289696265246806772776599738964759899157421632907083547837058682641298688716507055920719114843682581936717801365861299648108787771644827437280600981365552642425528577176878970389500115699526408407246096087988683617781516223293783638611502499262378355996002044220409072499947000377273255572214826159992278448211670088901547900311826292124170039881802515022155671370331617735406199214702868781709230995861095108028843816364116860538700553186112729016789349270849290149987830165094688365981297021923537632384387531636094468350211552812539543006858647941381169249359041098181458268415927339451814542405042252972206344836345367383736703602680009071086764299751572888032137441417784983552) M9 (sI M9 12 w 41 (Int32.ofNat (nf + 1))) := Fr.wI rfl (Fr.rf _ _)
    have T9 := hJ9.2.2.2.2.1.1.1
    have ga : GF G [] M9 (sI M9 12 w 41 (Int32.ofNat (nf + 1))) := (GF.rf T9).fr fra hx.1
    have dN : ∀ s ∈ XW w, (∀ k, rd M9 s k = rd M8 s k) ∧ rl M9 s = rl M8 s := fun s hs => by
      have hn : s ∉ [sNn, sNp, sNm] := fun q => by
        simp only [List.mem_cons, List.not_mem_nil, or_false] at hs q
        rcases hs with e | e | e | e | e | e | e | e | e | e <;> rcases q with q | q | q <;> (rw [e] at q; cases q)
      exact ⟨(h9.2.2.1 s (hw s hs) hn).1, (h9.2.2.1 s (hw s hs) hn).2.1⟩
    have lF : ∀ s ∈ [sFl w, sFs w, sFf w], nf + 1 ≤ rl M9 s := fun s hs => by
      simp only [List.mem_cons, List.not_mem_nil, or_false] at hs
      rcases hs with e | e | e <;> subst e
      · rw [(dN _ (by simp)).2, (g8.2.1 (sFl w) m7 (by simp)).2.1, ql.2.1]
        show nf + 1 ≤ rl M6 (sFl w)
        have : rl M6 (sFl w) = rl M5 (sFl w) := rl65
        rw [this, kl.2.1]; exact ll4
      · rw [(dN _ (by simp)).2]
        have : rl M8 (sFs w) = rl M7 (sFs w) := rl87
        rw [this, qs.2.1]; exact ls6
      · rw [(dN _ (by simp)).2, (g8.2.1 (sFf w) m9 (by simp)).2.1, qf.2.1, (g6.2.1 (sFf w) m9 (by simp)).2.1, kf.2.1]
        have : rl M4 (sFf w) = rl M3 (sFf w) := rl43
        rw [this]; exact lf3
    obtain ⟨c35', c37', c41', c43'⟩ := hJ9.2.1.2.1
    have hRL9 := hJ9.2.1.2.2.1
    have hbn := hJ9.2.1.2.2.2
    have hJa := hJ9.rows (nq' := nq) (nl' := nl) (nf' := nf + 1) (nk' := nk + ls.length + ss.length) hx fra ga (fun s hs => by cases hs) (hJ9.1.fr fra) ⟨(fra.I (f := 12) (k := 35) rfl w).trans c35', (fra.I (f := 12) (k := 37) rfl w).trans c37', by simp only [mI_sI, mI_sR, mI_sJ, mR_sI, mL_sI, mL_sR, mR_sR, Nat.reduceEqDiff, and_false, false_and, if_false, and_self, true_and, and_true, if_true], (fra.I (f := 12) (k := 43) rfl w).trans c43'⟩ ⟨hRL9.1, hRL9.2.1, lF, hRL9.2.2.2.1, hRL9.2.2.2.2⟩ ⟨⟨Nat.le_refl _, Nat.le_refl _, by omega, Nat.le_refl _⟩, hbn.2.2.1, hbn.2.2.2.1, by omega, hbn.2.2.2.2.2⟩ hqq (Rk.fr fra hx.1 hw) (LoT.rf w z.1 M9).w12 hzb7
    have hfr : tFr A w (nk + ls.length + ss.length) nf ls ss (sI M9 12 w 41 (Int32.ofNat (nf + 1))) := by
      have kR : ∀ k, k < nk + ls.length → rd M9 (sFk w) k = rd M6 (sFk w) k := fun k hk => by
        rw [(dN _ (by simp)).1, (g8.2.1 (sFk w) m10 (by simp)).1]; exact q3 k hk
      refine ⟨nk, ?_, ?_, ?_, by omega, fun κ hκ => ?_, fun j hj => ?_⟩
      · show rd M9 (sFf w) nf = _
        rw [(dN _ (by simp)).1, (g8.2.1 (sFf w) m9 (by simp)).1, qf.1, (g6.2.1 (sFf w) m9 (by simp)).1, kf.1]; exact e4
      · show rd M9 (sFl w) nf = _
        rw [(dN _ (by simp)).1, (g8.2.1 (sFl w) m7 (by simp)).1, ql.1]; exact e6
      · show rd M9 (sFs w) nf = _
        rw [(dN _ (by simp)).1]; exact e8
      · rcases List.mem_append.mp hκ with q | q
        · exact k1 κ q
        · exact q1 κ q
      · show rd M9 (sFk w) (nk + j) = _
        by_cases cj : j < ls.length
        · rw [kR _ (by omega), (g6.2.1 (sFk w) m10 (by simp)).1, k2 j cj]
          show _ = kt A ((ls ++ ss).getD j _)
          rw [List.getD_eq_getElem?_getD, List.getElem?_append_left cj, ← List.getD_eq_getElem?_getD]
        · rw [(dN _ (by simp)).1, (g8.2.1 (sFk w) m10 (by simp)).1, show nk + j = nk + ls.length + (j - ls.length) by omega, q2 _ (by omega)]
          show _ = kt A ((ls ++ ss).getD j _)
          rw [List.getD_eq_getElem?_getD, List.getElem?_append_right (by omega), ← List.getD_eq_getElem?_getD]
    exact hQ ls ss t2 _ _ ep hpf (by omega) (hJa.pend (f := (ls, ss, (hd L).2.2.2)) hx (by omega) hfr)
