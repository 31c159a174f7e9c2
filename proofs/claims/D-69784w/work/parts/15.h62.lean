/-! THE OPERATION call: the line, in the twin, whole; asked: its line -/
theorem types_strict : ∀ f acc ts r, pTypesF true f acc ts = .inr r → pTypesF false f acc ts = .inr r
  | 0, _, _, _, h => by unfold pTypesF at h; cases h
  | f + 1, acc, ts, r, h => by
    unfold pTypesF at h ⊢
    by_cases c : (hd ts).1 = 41
    · rw [if_pos c] at h ⊢; exact h
    · rw [if_neg c] at h ⊢
      generalize (if acc.length = 0 then (.inr ((), ts) : Rz Unit) else pSign 44 ts) = z at h ⊢
      cases z with
      | inl e => cases h
      | inr p =>
        obtain ⟨u, t1⟩ := p
        dsimp only at h ⊢
        rw [if_neg (fun q => by cases q.1)]
        by_cases c6 : acc.length = 6
        · rw [if_pos ⟨rfl, c6⟩] at h; cases h
        · rw [if_neg (fun q => c6 q.2)] at h
          cases e : pType t1 with
          | inl e' => rw [e] at h; cases h
          | inr p => rw [e] at h; exact types_strict f _ _ r h
section
variable {G : List Sl} {US : UST} {A : List Nm} {S S' : List Sg} {w : Nat} {L ts : List Tok} {Q X : Mem → Prop} {M M' M0 M1 : Mem} {F : Nat} {a b c : Int32} {vs : List Int32}
theorem ct_callWords (hx : Gx G w) (hz : lz L) (hUL : UL US L) (h : TQ A L ts M) (hne : ts ≠ []) (hT : Tc G US A S M0 M)
    (hQ : ∀ k m κ vs M', pCall ts = .inr (k, m, κ, vs) → k ∈ A → m ∈ A → kok A κ → vs.length ≤ 6 → Jv G US A (ins S (sg A (kNs vs.length) κ)) M0 (nc A k) (nc A m) (Int32.ofNat (S.idxOf (sg A (kNs vs.length) κ))) vs M' → Q M')
    (hX : ∀ e S' M', pCall ts = .inl e → S <+: S' → ThT e M' → Tc G US A S' M0 M' → X M') : w_Model_callWords 0 Q X M := by
  unfold w_Model_callWords
  refine z_className (Tc.pz hx) h hne hT (fun k t1 M1 a1 hk q1 T1 => ?_) (fun e M1 a1 th T1 => hX e S M1 (by unfold pCall; rw [a1]) (List.prefix_refl _) th T1)
  have hp1 : pCall ts = pC1 k t1 := by unfold pCall; rw [a1]
  have hn1 := pCls_h2 a1
  have hne1 : t1 ≠ [] := by rw [hn1.2]; exact tl_ne h hz hne (by rw [hn1.1]; decide)
  have hf1 : Fr (611822921063799516261553172253796763543576194912684997425642779644307957047241385179556552289445850971791903868821802590051314537869156304263210914857586447500797483194669197548256935948972051529119116957436280504490182792049299490572373498648776783433278684186209015647078217270680514467051293687450470428732835827428282320791100581681615183376230836443433168365906539347428449573322664056780653278156265087824734159686539130828910761756456016075551179373981822148486621349218171330757340115785565568099004129445483202582985277365366699463450193853443154012504109451250348935665361378967330245043400666179359091403533410487414098567195076205038628840367881359863474518603610140464960699642403374906443987624545307510550066199378296843798422836355942795966523410493936836697999557842510234631026936412644033483956061094519270404609089862815621706768728028693677651608587761092055558268009015236965006306786600639958741754776872530616883613268341560238177459806939424391604798877029216813056) M1 (sI M1 11 0 88 (nc A k)) := Fr.wI rfl (Fr.rf _ _)
  have T2 := T1.fr hx hf1
  have q2 := q1.fr hf1
  have e88 : mI (sI M1 11 0 88 (nc A k)) 11 0 88 = nc A k := by rw [mI_sI, if_pos ⟨rfl, rfl, rfl⟩]
  generalize sI M1 11 0 88 (nc A k) = M2 at T2 q2 e88
  have hI : PZ (fun M => Tc G US A S M0 M ∧ mI M 11 0 88 = nc A k) := fun M M' h hf => ⟨h.1.fr hx hf, (hf.I (f := 11) (k := 88) rfl 0).trans h.2⟩
  refine z_need (b := 46) hI q2 hne1 ⟨T2, e88⟩ (by omega) (fun M3 a3 q3 i3 => ?_) (fun M3 a3 th i3 => hX _ S M3 (by rw [hp1]; unfold pC1; rw [show pSign 46 t1 = .inl (er t1) from if_neg a3]) (List.prefix_refl _) th i3.1)
  have hp2 : pC1 k t1 = pC2 k t1.tail := by unfold pC1; rw [show pSign 46 t1 = .inr ((), t1.tail) from if_pos a3]
  have hne3 : t1.tail ≠ [] := tl_ne q2 hz hne1 (by omega)
  refine z_plainName hI q3 hne3 i3 (fun m t4 M4 a4 hm q4 i4 => ?_) (fun e M4 a4 th i4 => hX e S M4 (by rw [hp1, hp2]; unfold pC2; rw [a4]) (List.prefix_refl _) th i4.1)
  have hp3 : pC2 k t1.tail = pC3 k m t4 := by unfold pC2; rw [a4]
  have hn4 := pName_ne a4
  have hne4 : t4 ≠ [] := by rw [hn4.2]; exact tl_ne q3 hz hne3 (by rw [hn4.1]; decide)
  have hf4 : Fr (1223645842127599032523106344507593527087152389825369994851285559288615914094482770359113104578891701943583807737643605180102629075738312608526421829715172895001594966389338395096513871897944103058238233914872561008980365584098598981144746997297553566866557368372418031294156434541361028934102587374900940857465671654856564641582201163363230366752461672886866336731813078694856899146645328113561306556312530175649468319373078261657821523512912032151102358747963644296973242698436342661514680231571131136198008258890966405165970554730733398926900387706886308025008218902500697871330722757934660490086801332358718182807066820974828197134390152410077257680735762719726949037207220280929921399284806749812887975249090615021100132398756593687596845672711885591933046820987873673395999115685020469262053872825288066967912122189038540809218179725631243413537456057387355303217175522184111116536018030473930012613573201279917483509553745061233767226536683120476354919613878848783209597754058433626112) M4 (sI M4 11 0 89 (nc A m)) := Fr.wI rfl (Fr.rf _ _)
  have T5 := i4.1.fr hx hf4
  have q5 := q4.fr hf4
  have e5 : mI (sI M4 11 0 89 (nc A m)) 11 0 88 = nc A k := (hf4.I (f := 11) (k := 88) rfl 0).trans i4.2
  have e89 : mI (sI M4 11 0 89 (nc A m)) 11 0 89 = nc A m := by rw [mI_sI, if_pos ⟨rfl, rfl, rfl⟩]
  generalize sI M4 11 0 89 (nc A m) = M5 at T5 q5 e5 e89
  have hJ : PZ (fun M => Tc G US A S M0 M ∧ (mI M 11 0 88 = nc A k ∧ mI M 11 0 89 = nc A m)) := fun M M' h hf => ⟨h.1.fr hx hf, (hf.I (f := 11) (k := 88) rfl 0).trans h.2.1, (hf.I (f := 11) (k := 89) rfl 0).trans h.2.2⟩
  refine z_need (b := 40) hJ q5 hne4 ⟨T5, e5, e89⟩ (by omega) (fun M6 a6 q6 i6 => ?_) (fun M6 a6 th i6 => hX _ S M6 (by rw [hp1, hp2, hp3]; unfold pC3; rw [show pSign 40 t4 = .inl (er t4) from if_neg a6]) (List.prefix_refl _) th i6.1)
  have hne6 : t4.tail ≠ [] := tl_ne q5 hz hne4 (by omega)
  have hsuf : t4 <:+ L := q5.suf
  have es : pSign 40 t4 = .inr ((), t4.tail) := if_pos a6
  have hf6 : Fr (142451124513475111746590857453131294703012377701859222125644511460398313833223978332140611552038660964880116253351281068765398705813371647210607983837273541721701036019872221524887004855315212982035967744289962692300365956511651047173043130582379359619989684826277432881081061733579382874782032726204597956671574112826092709040059843492138940695726973107883978720266963203304551908122995881545509509312981992919168937878343074309851685947844762372679817344523459241838804760300128564880541552739582389616175584831620380883800163251666049348062415107489366552909861656662623615857530706321664677244471541181988802599612020535258133562094316865559348100881995949862402518886050707768872543154843937351006080309056050030177008872706977846985315633089268299743189339175339983007404850293535328151431618354433223950666389682916754485249773101605386870626529685383121867573025580749859930544162405477130088560931990072121550737595388789339196778197852326612495225809267588050943985319936) M6 (sI M6 11 0 56 0) := Fr.wI rfl (Fr.rf _ _)
  have T7 := i6.1.fr hx hf6
  have q7 := q6.fr hf6
  have e8 : mI (sI M6 11 0 56 0) 11 0 88 = nc A k ∧ mI (sI M6 11 0 56 0) 11 0 89 = nc A m := ⟨(hf6.I (f := 11) (k := 88) rfl 0).trans i6.2.1, (hf6.I (f := 11) (k := 89) rfl 0).trans i6.2.2⟩
  have e56 : mI (sI M6 11 0 56 0) 11 0 56 = 0 := by rw [mI_sI, if_pos ⟨rfl, rfl, rfl⟩]
  generalize sI M6 11 0 56 0 = M7 at T7 q7 e8 e56
  have hR : TR A (kNs 0) M7 := ⟨e56, Nat.zero_le _, T7.1.2.2.1, (fun κ hk => absurd hk (by simp)), fun k hk => absurd hk (Nat.not_lt_zero k)⟩
  have hc : pCall ts = match pNumsF (t4.tail.length + 1) 0 t4.tail with
      | .inl e => .inl e
      | .inr (n, t5) => pCall2 k m n t5 := by
    rw [hp1, hp2, hp3]; unfold pC3; rw [es]
    dsimp only
    cases pNumsF (t4.tail.length + 1) 0 t4.tail <;> rfl
  have fin : ∀ n t M1, (hd t).1 = 41 → pNumsF (t4.tail.length + 1) 0 t4.tail = .inr (n, t.tail) → n ≤ 6 → TQ A L t M1 → t ≠ [] → Tc G US A S M0 M1 → TR A (kNs n) M1 → (mI M1 11 0 88 = nc A k ∧ mI M1 11 0 89 = nc A m) → w_Model_callWords_j135 0 Q X M1 := by
    intro n t M1 u1 u2 u3 u4 u5 u6 u7 u8
    rw [u2] at hc
    have hc : pCall ts = pCall2 k m n t.tail := hc
    refine ct_cw135 (k := k) (m := m) hx hz u3 (fun κ t2 _ y2 => hUL t4 (kNs n) κ t2 hsuf ?_) u4 u5 u6 u7 u8 (fun κ vs M' y1 y2 y3 y4 y5 => hQ k m κ vs M' (hc.trans y2) hk hm y4 (by omega) (by rw [y3]; exact y5)) (fun e S' M' y1 y2 y3 y4 => ?_)
    · have ht : pTypes false t4 = .inr (kNs n, t.tail) := by unfold pTypes; rw [es]; exact nums_types _ 0 _ _ _ u2
      unfold pSig
      rw [ht]
      dsimp only
      rw [y2]
    · rcases y1 with ⟨y1, -⟩ | ⟨-, y1⟩
      · exact absurd u1 y1
      · exact hX e S' M' (hc.trans y1) y2 y3 y4
  obtain ⟨q, g1, g2, ⟨g3, g4, g5⟩, g6, g7, g8⟩ := q7.top hne6
  rw [g2, g3, oN_tnc (k := q) (by omega), g6.1]
  refine ⟨(vp_oN (by omega)).mpr g1, ?_⟩
  by_cases c41 : (hd t4.tail).1 = 41
  · exact itp (by rw [c41]; rfl) (fin 0 t4.tail M7 c41 (pNumsF_r c41) (by omega) q7 hne6 T7 hR e8)
  · refine itn (ne_oN (b := 41) c41 (by omega) (by omega)) ⟨t4.tail.length + 1, ?_⟩
    refine ct_cw49 (R := fun z => pNumsF (t4.tail.length + 1) 0 t4.tail = z) hx hz fin (fun e M1 u1 u2 u3 => hX e S M1 (by rw [hc, u1]) (List.prefix_refl _) u2 u3) _ 0 t4.tail M7 (Nat.le_refl _) (by omega) q7 hne6 T7 hR e8 (fun z hzz => by rw [pNumsF_0 c41]; exact hzz)
/-- what an asked line leaves -/
def Ja (G : List Sl) (US : UST) (A : List Nm) (S : List Sg) (M0 : Mem) (a b c : Int32) (M : Mem) : Prop := Tc G US A S M0 M ∧ (mI M 11 0 88 = a ∧ mI M 11 0 91 = b ∧ mI M 11 0 92 = c)
theorem ct_mw111 {ks : List Kd} {t : List Tok} {k m : Nm} (hx : Gx G w) (hz : lz L) (hn : ks.length ≤ 6) (hmem : ∀ κ t2, (hd t).1 = 41 → pRes t.tail = .inr (κ, t2) → (ks, κ) ∈ US.1) (hq : TQ A L t M1) (hne : t ≠ []) (hT : Tc G US A S M0 M1) (hR : TR A ks M1) (h8 : mI M1 11 0 88 = a ∧ mI M1 11 0 91 = b)
    (hQ : ∀ κ M', (hd t).1 = 41 → pA3 k m ks t.tail = .inr (k, m, ks, κ) → (∀ κ ∈ ks, kok A κ) → kok A κ → Ja G US A (ins S (sg A ks κ)) M0 a b (Int32.ofNat (S.idxOf (sg A ks κ))) M' → Q M')
    (hX : ∀ e S' M', ((hd t).1 ≠ 41 ∧ e = er t ∨ (hd t).1 = 41 ∧ pA3 k m ks t.tail = .inl e) → S <+: S' → ThT e M' → Tc G US A S' M0 M' → X M') : w_Model_methodWords_j111 0 Q X M1 := by
  show w_Model_wholeSignature_j60 0 (fun r17 M16 => w_Model_need 0 (0 : Int32) (fun M18 => Q M18) X (sI M16 11 0 92 r17)) X M1
  obtain ⟨hV, hg, h113⟩ := id hT
  obtain ⟨hU, hSU, hrow, h38⟩ := id hV
  have len := hSU.len hU.2.2.2.1
  have hkk := hR.2.2.2.1
  refine mf_w_Model_wholeSignature_j60 (M0 := M1) (Q := fun v M' => Fr F_Model_wholeSignature M1 M' → w_Model_need 0 (0 : Int32) (fun M18 => Q M18) X (sI M' 11 0 92 v)) (X := fun M' => Fr F_Model_wholeSignature M1 M' → X M') (fun _ _ hf hp => hp hf) (fun _ hf hp => hp hf) (Fr.rf _ _) (ct_sigTail (ks := ks) hx.1 hx.2.1 hx.2.2.1 hz hg hq hne hR (by omega) hU len.1 len.2 (fun κ t2 M' c1 c2 c3 c4 c5 c6 c7 hf => ?_) (fun M' c1 c2 c3 c4 c5 hf => hX _ S M' (Or.inl ⟨c1, rfl⟩) (List.prefix_refl _) c2 ⟨⟨c3, hSU, c5, (hf.I (f := 11) (k := 38) rfl 0).trans h38.1, h38.2⟩, c4, (hf.L (f := 113) rfl 0).trans h113⟩) (fun e M' c1 c2 c3 c4 c5 c6 hf => hX e S M' (Or.inr ⟨c1, by unfold pA3; rw [c2]⟩) (List.prefix_refl _) c3 ⟨⟨c4, hSU, c6, (hf.I (f := 11) (k := 38) rfl 0).trans h38.1, h38.2⟩, c5, (hf.L (f := 113) rfl 0).trans h113⟩))
  have hpre : S <+: ins S (sg A ks κ) := ins_pre _ _
  have hV2 : TV US A (ins S (sg A ks κ)) M' := ⟨c5, hSU.add (hmem κ t2 c1 c2) hkk c3, c7, by rw [idxS_pre hpre h38.2]; exact (hf.I (f := 11) (k := 38) rfl 0).trans h38.1, hpre.subset h38.2⟩
  have hf9 : Fr (9789166737020792260184850756060748216697219118602959958810284474308927312755862162872904836631133615548670461901148841440821032605906500868211374637721383160012759731114707160772110975183552824465905871318980488071842924672788791849157975978380428534932458946979344250353251476330888231472820698999207526859725373238852517132657609306905842934019693383094930693854504629558855193173162624908490452450500241405195746554984626093262572188103296257208818869983709154375785941587490741292117441852569049089584066071127731241327764437845867191415203101655090464200065751220005582970645782063477283920694410658869745462456534567798625577075121219280618061445886101757815592297657762247439371194278453998503103801992724920168801059190052749500774765381695084735464374567902989387167992925480163754096430982602304535743296977512308326473745437805049947308299648459098842425737404177472888932288144243791440100908585610239339868076429960489870137812293464963810839356911030790265676782032467469008896) M' (sI M' 11 0 92 (Int32.ofNat (S.idxOf (sg A ks κ)))) := Fr.wI rfl (Fr.rf _ _)
  have hT2 : Tc G US A (ins S (sg A ks κ)) M0 M' := ⟨hV2, c6, (hf.L (f := 113) rfl 0).trans h113⟩
  have hpr := pRes_ne c2
  have hne41 : t.tail ≠ [] := tl_ne hq hz hne (by omega)
  have hnet : t2 ≠ [] := by
    rw [hpr.2]
    exact lz_tl hz ((List.tail_suffix t).trans hq.suf) hne41 (by rw [hpr.1]; decide)
  have hc2 : pA3 k m ks t.tail = match pEnd t2 with
        | some e => .inl e
        | none => .inr (k, m, ks, κ) := by
    unfold pA3; rw [c2]
    dsimp only
    cases pEnd t2 <;> rfl
  have hI : PZ (Ja G US A (ins S (sg A ks κ)) M0 a b (Int32.ofNat (S.idxOf (sg A ks κ)))) := fun M M' h hf => ⟨h.1.fr hx hf, (hf.I (f := 11) (k := 88) rfl 0).trans h.2.1, (hf.I (f := 11) (k := 91) rfl 0).trans h.2.2.1, (hf.I (f := 11) (k := 92) rfl 0).trans h.2.2.2⟩
  refine z_need (b := 0) hI (c4.fr hf9) hnet ⟨hT2.fr hx hf9, ?_, ?_, ?_⟩ (by omega) (fun M2 y1 y2 y3 => hQ κ M2 c1 ?_ hkk c3 y3) (fun M2 y1 y2 y3 => hX _ _ M2 (Or.inr ⟨c1, ?_⟩) hpre y2 y3.1)
  · rw [mI_sI, if_neg (fun z => absurd z.2.2 (by decide))]; exact (hf.I (f := 11) (k := 88) rfl 0).trans h8.1
  · rw [mI_sI, if_neg (fun z => absurd z.2.2 (by decide))]; exact (hf.I (f := 11) (k := 91) rfl 0).trans h8.2
  · rw [mI_sI, if_pos ⟨rfl, rfl, rfl⟩]
  · rw [hc2, show pEnd t2 = none from if_pos y1]
  · rw [hc2, show pEnd t2 = some (er t2) from if_neg y1]
end
