/-! THE OPERATION asked: the line, in the twin -/
def pT1 (d : Nat) (acc : List Kd) (t : List Tok) : Rz (List Kd) := if acc.length = 6 then .inl (er t) else match pType t with
  | .inl e => .inl e
  | .inr (κ, t2) => pTypesF true d (acc ++ [κ]) t2
theorem pTypesF_0 {d : Nat} {t : List Tok} (h : (hd t).1 ≠ 41) : pTypesF true (d + 1) [] t = pT1 d [] t := by
  conv => lhs; unfold pTypesF
  rw [if_neg h, if_pos (by rfl)]
  unfold pT1
  show (if true = true ∧ ([] : List Kd).length = 6 then _ else _) = _
  rw [if_neg (fun q => by cases q.2), if_neg (fun q => by cases q)]
  all_goals (cases pType t <;> rfl)
theorem pTypesF_s {d : Nat} {acc : List Kd} {t : List Tok} (h0 : acc.length ≠ 0) (h : (hd t).1 = 44) : pTypesF true (d + 1) acc t = pT1 d acc t.tail := by
  conv => lhs; unfold pTypesF
  rw [if_neg (by omega), if_neg h0, show pSign 44 t = .inr ((), t.tail) from if_pos h]
  unfold pT1
  show (if true = true ∧ acc.length = 6 then _ else _) = _
  by_cases c : acc.length = 6
  · rw [if_pos ⟨rfl, c⟩, if_pos c]
  · rw [if_neg (fun q => c q.2), if_neg c]
    all_goals (cases pType t.tail <;> rfl)
theorem pTypesF_e {d : Nat} {acc : List Kd} {t : List Tok} (h0 : acc.length ≠ 0) (h : (hd t).1 ≠ 41) (h2 : (hd t).1 ≠ 44) : pTypesF true (d + 1) acc t = .inl (er t) := by
  conv => lhs; unfold pTypesF
  rw [if_neg h, if_neg h0, show pSign 44 t = .inl (er t) from if_neg h2]
theorem pTypesF_r {d : Nat} {acc : List Kd} {t : List Tok} (h : (hd t).1 = 41) : pTypesF true (d + 1) acc t = .inr (acc, t.tail) := by
  conv => lhs; unfold pTypesF
  rw [if_pos h]
section
variable {G : List Sl} {US : UST} {A : List Nm} {S S' : List Sg} {w : Nat} {L ts : List Tok} {Q X : Mem → Prop} {M M' M0 M1 : Mem} {F : Nat} {a b c : Int32} {vs : List Int32}
theorem Tc.at1 (h : Tc G US A S M0 M) (hx : Gx G w) (hf : Fr F_Model_addType M M') (hg : GF G [sTr] M M') (hr : 6 ≤ rl M' sTr ∧ rl M' sTr ≤ 20000) : Tc G US A S M0 M' := by
  obtain ⟨⟨hU, hSU, -, h38⟩, g, l⟩ := h
  exact ⟨⟨⟨hU.1.gf hf hg hx.1.2.1 ⟨by decide, by decide, by decide⟩ rfl rfl rfl, hU.2.gf hf hg hx.2.1 (by simp) rfl rfl rfl rfl⟩, hSU, hr, (hf.I (f := 11) (k := 38) rfl 0).trans h38.1, h38.2⟩, g.trans (hg.sub (by simp)), (hf.L (f := 113) rfl 0).trans l⟩
theorem ct_mw49 (hx : Gx G w) (hz : lz L) {R : (Nat × Nat) ⊕ (List Kd × List Tok) → Prop}
    (hQ : ∀ ks t M1, (hd t).1 = 41 → R (.inr (ks, t.tail)) → ks.length ≤ 6 → TQ A L t M1 → t ≠ [] → Tc G US A S M0 M1 → TR A ks M1 → (mI M1 11 0 88 = a ∧ mI M1 11 0 91 = b) → w_Model_methodWords_j111 0 Q X M1)
    (hX : ∀ e M1, R (.inl e) → ThT e M1 → Tc G US A S M0 M1 → X M1) :
    ∀ d ks t M1, t.length ≤ d → ks.length ≤ 6 → TQ A L t M1 → t ≠ [] → Tc G US A S M0 M1 → TR A ks M1 → (mI M1 11 0 88 = a ∧ mI M1 11 0 91 = b) → (∀ z, pT1 d ks t = z → R z) → w_Model_methodWords_L49 0 Q X (d + 1) 1 M1 := by
  intro d
  induction d with
  | zero => intro ks t M1 h _ _ hne; exact absurd (List.length_eq_zero_iff.mp (by omega)) hne
  | succ d ih =>
    intro ks t M1 hlen hj hq hne hT hR h8 hr
    unfold w_Model_methodWords_L49
    refine itn (by decide) ?_
    rw [hR.1]
    by_cases c6 : ks.length = 6
    · refine itp (by rw [c6]; rfl) ?_
      exact z_wrong (Tc.pz hx) hq hne hT (fun M2 y1 y2 => hX _ M2 (hr _ (by unfold pT1; rw [if_pos c6])) y1 y2)
    refine itn (ne_oN (b := 6) c6 (by omega) (by omega)) ?_
    unfold w_Model_methodWords_j66
    refine mf_w_Model_addType (Q := fun M' => Fr F_Model_addType M1 M' → (vp_in (mI M' 11 0 43) (mL M' 411 0) ∧ if (mI M' 411 0 (mI M' 11 0 43).toNatClampNeg) = (44 : Int32) then (w_Model_methodWords_j89 0 Q X (w_Model_methodWords_L49 0 Q X (d + 1)) (1 : Int32) M') else (w_Model_methodWords_j89 0 Q X (w_Model_methodWords_L49 0 Q X (d + 1)) (0 : Int32) M'))) (X := fun M' => Fr F_Model_addType M1 M' → X M') (fun _ hf hp => hp hf) (fun _ hf hp => hp hf) (ct_addType hx.1 hx.2.2.1 hT.2.1.1 hq hne hR (by omega) (fun κ t2 M3 y1 hq3 hR3 hg hf => ?_) (fun e M3 y1 y2 hg y4 hf => hX e M3 (hr _ (by unfold pT1; rw [if_neg c6, y1])) y2 (hT.at1 hx hf hg y4)))
    have hT3 := hT.at1 hx hf hg hR3.2.2.1
    have h83 : mI M3 11 0 88 = a ∧ mI M3 11 0 91 = b := ⟨(hf.I (f := 11) (k := 88) rfl 0).trans h8.1, (hf.I (f := 11) (k := 91) rfl 0).trans h8.2⟩
    have et := pType_tail y1
    have hne2 : t2 ≠ [] := by rw [et]; exact tl_ne hq hz hne (by rw [pType_ne y1]; decide)
    have htl := tail_lt hne
    rw [← et] at htl
    have hl1 : (ks ++ [κ]).length = ks.length + 1 := by rw [List.length_append, List.length_singleton]
    have hr2 : ∀ z, pTypesF true (d + 1) (ks ++ [κ]) t2 = z → R z := fun z hzz => hr z (by unfold pT1; rw [if_neg c6, y1]; exact hzz)
    obtain ⟨q, q1, q2, ⟨q3, q4, q5⟩, q6, q7, q8⟩ := hq3.top hne2
    rw [q2, q3, oN_tnc (k := q) (by omega), q6.1]
    refine ⟨(vp_oN (by omega)).mpr q1, ?_⟩
    unfold w_Model_methodWords_j89 w_Model_methodWords_j104
    have fr43 : ∀ v, Fr (17389053285336317351878766778946691247926315637433987075884339777880653544094723917497633246098469356064467316082920052339526209205733843653638669902010930385949833498519558291612183209877345334721187468785395836462447016175738653219365616526169355422362022073520194443491340543649827011081791104273022211507760511819591395146491680113786491784146359021958493496126338281653387684097045395696473328773557372182515739487102426063214317132305268844321266765688898833232275971716324287705144232512156053419943308695266159775854512115681890789558400281675948065540754596760574171857608728799031332671444279929441992504835451725495377632091591414252850109970946771223437807481207361788192449115581535321167734412726568607199341903406613506712074662242342321745994792379802244019458599889347574237235304974906399408040330771840424131500216443067063826980777549485244368600222849212629386052754199887344981513785643319350775236522874608073632419213605020338439358619295359869499998208) M3 (sI M3 11 0 43 v) := fun v => Fr.wI rfl (Fr.rf _ _)
    have keep : ∀ v, Tc G US A S M0 (sI M3 11 0 43 v) ∧ TR A (ks ++ [κ]) (sI M3 11 0 43 v) ∧ (mI (sI M3 11 0 43 v) 11 0 88 = a ∧ mI (sI M3 11 0 43 v) 11 0 91 = b) := fun v => ⟨hT3.fr hx (fr43 v), hR3.fr hx (fr43 v), ((fr43 v).I (f := 11) (k := 88) rfl 0).trans h83.1, ((fr43 v).I (f := 11) (k := 91) rfl 0).trans h83.2⟩
    by_cases c44 : (hd t2).1 = 44
    · refine itp (by rw [c44]; rfl) (itn (by decide) ?_)
      have hne3 : t2.tail ≠ [] := tl_ne hq3 hz hne2 (by omega)
      have kk := keep (mI M3 11 0 43 + 1)
      refine ih (ks ++ [κ]) t2.tail _ ?_ (by omega) (hq3.next hne2) hne3 kk.1 kk.2.1 kk.2.2 (fun z hzz => hr2 z (by rw [pTypesF_s (by omega) c44]; exact hzz))
      rw [List.length_tail]; omega
    · refine itn (ne_oN (b := 44) c44 (by omega) (by omega)) (itp rfl ?_)
      have kk := keep (mI M3 11 0 43 + 0)
      unfold w_Model_methodWords_L49
      refine itp rfl ?_
      by_cases c41 : (hd t2).1 = 41
      · exact hQ (ks ++ [κ]) t2 _ c41 (hr2 _ (pTypesF_r c41)) (by omega) hq3.same hne2 kk.1 kk.2.1 kk.2.2
      · unfold w_Model_methodWords_j111
        exact z_need (b := 41) (Tc.pz hx) hq3.same hne2 kk.1 (by omega) (fun M4 u1 => absurd u1 c41) (fun M4 u1 u2 u3 => hX _ M4 (hr2 _ (pTypesF_e (by omega) c41 c44)) u2 u3)
theorem ct_methodWords (hx : Gx G w) (hz : lz L) (hUL : UL US L) (h : TQ A L ts M) (hne : ts ≠ []) (hT : Tc G US A S M0 M)
    (hQ : ∀ k m ks κ M', pAsk ts = .inr (k, m, ks, κ) → k ∈ A → m ∈ A → (∀ κ ∈ ks, kok A κ) → kok A κ → ks.length ≤ 6 → Ja G US A (ins S (sg A ks κ)) M0 (nc A k) (nc A m) (Int32.ofNat (S.idxOf (sg A ks κ))) M' → Q M')
    (hX : ∀ e S' M', pAsk ts = .inl e → S <+: S' → ThT e M' → Tc G US A S' M0 M' → X M') : w_Model_methodWords 0 Q X M := by
  unfold w_Model_methodWords
  refine z_className (Tc.pz hx) h hne hT (fun k t1 M1 a1 hk q1 T1 => ?_) (fun e M1 a1 th T1 => hX e S M1 (by unfold pAsk; rw [a1]) (List.prefix_refl _) th T1)
  have hp1 : pAsk ts = pA0 k t1 := by unfold pAsk; rw [a1]
  have hn1 := pCls_h2 a1
  have hne1 : t1 ≠ [] := by rw [hn1.2]; exact tl_ne h hz hne (by rw [hn1.1]; decide)
  have hf1 : Fr (611822921063799516261553172253796763543576194912684997425642779644307957047241385179556552289445850971791903868821802590051314537869156304263210914857586447500797483194669197548256935948972051529119116957436280504490182792049299490572373498648776783433278684186209015647078217270680514467051293687450470428732835827428282320791100581681615183376230836443433168365906539347428449573322664056780653278156265087824734159686539130828910761756456016075551179373981822148486621349218171330757340115785565568099004129445483202582985277365366699463450193853443154012504109451250348935665361378967330245043400666179359091403533410487414098567195076205038628840367881359863474518603610140464960699642403374906443987624545307510550066199378296843798422836355942795966523410493936836697999557842510234631026936412644033483956061094519270404609089862815621706768728028693677651608587761092055558268009015236965006306786600639958741754776872530616883613268341560238177459806939424391604798877029216813056) M1 (sI M1 11 0 88 (nc A k)) := Fr.wI rfl (Fr.rf _ _)
  have T2 := T1.fr hx hf1
  have q2 := q1.fr hf1
  have e88 : mI (sI M1 11 0 88 (nc A k)) 11 0 88 = nc A k := by rw [mI_sI, if_pos ⟨rfl, rfl, rfl⟩]
  generalize sI M1 11 0 88 (nc A k) = M2 at T2 q2 e88
  have hI : PZ (fun M => Tc G US A S M0 M ∧ mI M 11 0 88 = nc A k) := fun M M' h hf => ⟨h.1.fr hx hf, (hf.I (f := 11) (k := 88) rfl 0).trans h.2⟩
  refine z_need (b := 46) hI q2 hne1 ⟨T2, e88⟩ (by omega) (fun M3 a3 q3 i3 => ?_) (fun M3 a3 th i3 => hX _ S M3 (by rw [hp1]; unfold pA0; rw [show pSign 46 t1 = .inl (er t1) from if_neg a3]) (List.prefix_refl _) th i3.1)
  have hp2 : pA0 k t1 = pA1 k t1.tail := by unfold pA0; rw [show pSign 46 t1 = .inr ((), t1.tail) from if_pos a3]
  have hne3 : t1.tail ≠ [] := tl_ne q2 hz hne1 (by omega)
  refine z_plainName hI q3 hne3 i3 (fun m t4 M4 a4 hm q4 i4 => ?_) (fun e M4 a4 th i4 => hX e S M4 (by rw [hp1, hp2]; unfold pA1; rw [a4]) (List.prefix_refl _) th i4.1)
  have hp3 : pA1 k t1.tail = pA2 k m t4 := by unfold pA1; rw [a4]
  have hn4 := pName_ne a4
  have hne4 : t4 ≠ [] := by rw [hn4.2]; exact tl_ne q3 hz hne3 (by rw [hn4.1]; decide)
  have hf4 : Fr (4894583368510396130092425378030374108348609559301479979405142237154463656377931081436452418315566807774335230950574420720410516302953250434105687318860691580006379865557353580386055487591776412232952935659490244035921462336394395924578987989190214267466229473489672125176625738165444115736410349499603763429862686619426258566328804653452921467009846691547465346927252314779427596586581312454245226225250120702597873277492313046631286094051648128604409434991854577187892970793745370646058720926284524544792033035563865620663882218922933595707601550827545232100032875610002791485322891031738641960347205329434872731228267283899312788537560609640309030722943050878907796148828881123719685597139226999251551900996362460084400529595026374750387382690847542367732187283951494693583996462740081877048215491301152267871648488756154163236872718902524973654149824229549421212868702088736444466144072121895720050454292805119669934038214980244935068906146732481905419678455515395132838391016233734504448) M4 (sI M4 11 0 91 (nc A m)) := Fr.wI rfl (Fr.rf _ _)
  have T5 := i4.1.fr hx hf4
  have q5 := q4.fr hf4
  have e5 : mI (sI M4 11 0 91 (nc A m)) 11 0 88 = nc A k := (hf4.I (f := 11) (k := 88) rfl 0).trans i4.2
  have e89 : mI (sI M4 11 0 91 (nc A m)) 11 0 91 = nc A m := by rw [mI_sI, if_pos ⟨rfl, rfl, rfl⟩]
  generalize sI M4 11 0 91 (nc A m) = M5 at T5 q5 e5 e89
  have hJ : PZ (fun M => Tc G US A S M0 M ∧ (mI M 11 0 88 = nc A k ∧ mI M 11 0 91 = nc A m)) := fun M M' h hf => ⟨h.1.fr hx hf, (hf.I (f := 11) (k := 88) rfl 0).trans h.2.1, (hf.I (f := 11) (k := 91) rfl 0).trans h.2.2⟩
  have hp4 : pA2 k m t4 = match pTypes true t4 with
      | .inl e => .inl e
      | .inr (ks, t1) => pA3 k m ks t1 := rfl
  refine z_need (b := 40) hJ q5 hne4 ⟨T5, e5, e89⟩ (by omega) (fun M6 a6 q6 i6 => ?_) (fun M6 a6 th i6 => hX _ S M6 (by rw [hp1, hp2, hp3, hp4]; unfold pTypes; rw [show pSign 40 t4 = .inl (er t4) from if_neg a6]) (List.prefix_refl _) th i6.1)
  have hne6 : t4.tail ≠ [] := tl_ne q5 hz hne4 (by omega)
  have hsuf : t4 <:+ L := q5.suf
  have es : pSign 40 t4 = .inr ((), t4.tail) := if_pos a6
  have hf6 : Fr (142451124513475111746590857453131294703012377701859222125644511460398313833223978332140611552038660964880116253351281068765398705813371647210607983837273541721701036019872221524887004855315212982035967744289962692300365956511651047173043130582379359619989684826277432881081061733579382874782032726204597956671574112826092709040059843492138940695726973107883978720266963203304551908122995881545509509312981992919168937878343074309851685947844762372679817344523459241838804760300128564880541552739582389616175584831620380883800163251666049348062415107489366552909861656662623615857530706321664677244471541181988802599612020535258133562094316865559348100881995949862402518886050707768872543154843937351006080309056050030177008872706977846985315633089268299743189339175339983007404850293535328151431618354433223950666389682916754485249773101605386870626529685383121867573025580749859930544162405477130088560931990072121550737595388789339196778197852326612495225809267588050943985319936) M6 (sI M6 11 0 56 0) := Fr.wI rfl (Fr.rf _ _)
  have T7 := i6.1.fr hx hf6
  have q7 := q6.fr hf6
  have e8 : mI (sI M6 11 0 56 0) 11 0 88 = nc A k ∧ mI (sI M6 11 0 56 0) 11 0 91 = nc A m := ⟨(hf6.I (f := 11) (k := 88) rfl 0).trans i6.2.1, (hf6.I (f := 11) (k := 91) rfl 0).trans i6.2.2⟩
  have e56 : mI (sI M6 11 0 56 0) 11 0 56 = 0 := by rw [mI_sI, if_pos ⟨rfl, rfl, rfl⟩]
  generalize sI M6 11 0 56 0 = M7 at T7 q7 e8 e56
  have hR : TR A [] M7 := ⟨e56, Nat.zero_le _, T7.1.2.2.1, (fun κ hk => absurd hk (by simp)), fun k hk => absurd hk (Nat.not_lt_zero k)⟩
  have ht : pTypes true t4 = pTypesF true (t4.tail.length + 1) [] t4.tail := by unfold pTypes; rw [es]
  have hc : pAsk ts = match pTypesF true (t4.tail.length + 1) [] t4.tail with
      | .inl e => .inl e
      | .inr (ks, t1) => pA3 k m ks t1 := by
    rw [hp1, hp2, hp3, hp4, ht]
  have fin : ∀ ks t M1, (hd t).1 = 41 → pTypesF true (t4.tail.length + 1) [] t4.tail = .inr (ks, t.tail) → ks.length ≤ 6 → TQ A L t M1 → t ≠ [] → Tc G US A S M0 M1 → TR A ks M1 → (mI M1 11 0 88 = nc A k ∧ mI M1 11 0 91 = nc A m) → w_Model_methodWords_j111 0 Q X M1 := by
    intro ks t M1 u1 u2 u3 u4 u5 u6 u7 u8
    rw [u2] at hc
    have hc : pAsk ts = pA3 k m ks t.tail := hc
    refine ct_mw111 (k := k) (m := m) hx hz u3 (fun κ t2 _ y2 => hUL t4 ks κ t2 hsuf ?_) u4 u5 u6 u7 u8 (fun κ M' y1 y2 y3 y4 y5 => hQ k m ks κ M' (hc.trans y2) hk hm y3 y4 u3 y5) (fun e S' M' y1 y2 y3 y4 => ?_)
    · have ht2 : pTypes false t4 = .inr (ks, t.tail) := by unfold pTypes; rw [es]; exact types_strict _ _ _ _ u2
      unfold pSig
      rw [ht2]
      dsimp only
      rw [y2]
    · rcases y1 with ⟨y1, -⟩ | ⟨-, y1⟩
      · exact absurd u1 y1
      · exact hX e S' M' (hc.trans y1) y2 y3 y4
  obtain ⟨q, g1, g2, ⟨g3, g4, g5⟩, g6, g7, g8⟩ := q7.top hne6
  rw [g2, g3, oN_tnc (k := q) (by omega), g6.1]
  refine ⟨(vp_oN (by omega)).mpr g1, ?_⟩
  by_cases c41 : (hd t4.tail).1 = 41
  · exact itp (by rw [c41]; rfl) (fin [] t4.tail M7 c41 (pTypesF_r c41) (by simp) q7 hne6 T7 hR e8)
  · refine itn (ne_oN (b := 41) c41 (by omega) (by omega)) ⟨t4.tail.length + 1, ?_⟩
    refine ct_mw49 (R := fun z => pTypesF true (t4.tail.length + 1) [] t4.tail = z) hx hz fin (fun e M1 u1 u2 u3 => hX e S M1 (by rw [hc, u1]) (List.prefix_refl _) u2 u3) _ [] t4.tail M7 (Nat.le_refl _) (by simp) q7 hne6 T7 hR e8 (fun z hzz => by rw [pTypesF_0 c41]; exact hzz)
end
