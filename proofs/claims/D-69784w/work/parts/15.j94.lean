/-! THE OPERATION kinds in the twin -/
theorem infI_le {W : List Cls} {c : Nat} {x : Mth} : ∀ {n : Nat} {R : Tr}, (infI W c x n R).1.1 ≤ 60
  | 0, _ => by show (44 : Nat) ≤ 60; omega
  | n + 1, R => by
    unfold infI
    split
    · exact rndI_le
    · split
      · exact Nat.zero_le 60
      · exact infI_le
theorem infS_le {W : List Cls} {c : Nat} {x : Mth} : (infS W c x).1.1 ≤ 60 := infI_le
section
variable {G : List Sl} {US : UST} {A : List Nm} {S : List Sg} {W : List Cls} {w k B F : Nat} {br x cc mm : Int32} {nq nl nf nk : Nat} {M M' : Mem} {Q : Int32 → Mem → Prop} {s : Ms} {on : Nat → Bool} {L : Tl}
theorem LKt.kd {lk : LkS} (h : LKt G US A S W w br nq nl nf nk lk M) (hf : Fr F_Model_kinds M M') (hB : TB G US A S W w br nq nl nf nk M') (hl : TLn M') (h77 : mI M' 11 0 77 = 0) : LKt G US A S W w br nq nl nf nk lk M' :=
  ⟨hB, fun c hc => (hf.Ia (f := 138) rfl rfl w c).trans (h.2.1 c hc), ⟨(hf.L (f := 156) rfl w).trans h.2.2.1.1, (hf.Ia (f := 156) rfl rfl w 0).trans h.2.2.1.2.1, (hf.Ia (f := 156) rfl rfl w 1).trans h.2.2.1.2.2.1, (hf.Ia (f := 156) rfl rfl w 2).trans h.2.2.1.2.2.2⟩, hl.1, h77⟩
theorem ct_wkinds {inf : Bool} (hk : k < 3) (hOn : tOn on M) (hon : on k = true) (hW : WO W) (hPr : PrW W) (h : TAx G US A S W k br nq nl nf nk B F x s M) (hT : tKd L M) (hQ : ∀ M', tKd (kinO W cc mm inf L).2 M' → TAx G US A S W k br nq nl nf nk B F x s M' → Q (kinO W cc mm inf L).1 M') : w_Model_kinds 0 (Int32.ofNat k) cc mm (b2 inf) Q M := by
  have hQ' : ∀ y, kinO W cc mm inf L = y → ∀ M', tKd y.2 M' → TAx G US A S W k br nq nl nf nk B F x s M' → Q y.1 M' := fun y hy => by rw [← hy]; exact hQ
  unfold kinO at hQ'
  have hA : TA G US A S W k br nq nl nf nk B F x s (sR M 11 0 45 (some (12, k))) := h
  have hLk := hA.1
  have hTB := hLk.1
  have e2 : mI M 12 k 2 = Int32.ofNat W.length := h.1.1.cl.1.1.1
  have h51 := hW.2.2.2
  unfold w_Model_kinds
  refine ct_isClass hk hOn hon h51 e2 (fun z => itp rfl (hQ' _ (if_pos z) M hT h)) (fun c hc ei ei2 nz => ?_)
  have hQ' := fun y hy => hQ' y ((if_neg nz).trans hy)
  rw [ei2] at hQ'
  refine itn (by decide) ?_
  by_cases cm : mm < 0
  · exact itp cm (hQ' _ (if_pos (Or.inl cm)) M hT h)
  obtain ⟨a1, a2⟩ := hOn.at hk
  obtain ⟨e136, h12⟩ := hTB.mcn hc
  have e136 : mI M 136 k c = Int32.ofNat (gc W c).2.2.2.2.2.length := e136
  have l136 : mL M 136 k = 51 := hTB.1.1.1.1.2.2.2.2.1
  refine itn cm ⟨a1, k, a2, ?_⟩
  rw [ei, oN_tnc (k := c) (by omega), e136, l136]
  refine ⟨(vp_oN (by omega)).mpr (by omega), ?_⟩
  by_cases c1 : Int32.ofNat (gc W c).2.2.2.2.2.length ≤ mm
  · exact itp c1 (hQ' _ (if_pos (Or.inr c1)) M hT h)
  have hQ' := fun y hy => hQ' y ((if_neg (fun z => z.elim cm c1)).trans hy)
  have hj := idx_lt (by omega) cm c1
  have em := tnc_oN cm
  generalize mm.toNatClampNeg = j at hQ' hj em
  rw [← em] at c1 ⊢
  obtain ⟨q0, b1, b2', ⟨b3, b4⟩, -⟩ := hTB.ms.2.2 c hc j hj
  have e150 : mI (sR M 11 0 45 (some (12, k))) 150 k (12 * c + j) = Int32.ofNat (co (gmt (gc W c) j)).length := b2'
  have h80 : (co (gmt (gc W c) j)).length ≤ 80 := b4
  have lms : ∀ f, 144 ≤ f → f ≤ 151 → mL (sR M 11 0 45 (some (12, k))) f k = 612 := fun f z1 z2 => hTB.ms.1.1 f z1 z2
  have hm : 12 * c + j < 612 := by omega
  rw [show (12 : Int32) * Int32.ofNat c = Int32.ofNat (12 * c) from oN_mul 12 c, oN_add, oN_tnc (k := 12 * c + j) (by omega)]
  refine itn c1 ⟨a1, k, a2, by show vp_in _ (mL (sR M 11 0 45 (some (12, k))) 150 k); rw [lms 150 (by omega) (by omega)]; exact (vp_oN (by omega)).mpr hm, ?_⟩
  rw [show mI M 150 k (12 * c + j) = Int32.ofNat (co (gmt (gc W c) j)).length from e150]
  by_cases c0 : (co (gmt (gc W c) j)).length = 0
  · exact itp (by rw [c0]; rfl) (hQ' _ (if_pos c0) M hT h)
  have hQ' := fun y hy => hQ' y ((if_neg c0).trans hy)
  have hne : co (gmt (gc W c) j) ≠ [] := fun z => c0 (by rw [z]; rfl)
  have h21 : 21 ≤ c := by
    rcases Nat.lt_or_ge c 21 with z | z
    · exfalso
      have e := hW.1.2 c z
      rw [e] at hj hne
      exact hne (W21_co c z j hj)
    · exact z
  have hwf := hW.m h21 hc hj
  have hpar := (hPr c h21 hc).2.1.1
  refine itn (ne_oN (b := 0) c0 (by omega) (by omega)) ⟨a1, k, a2, k, hTB.r45, by rw [lms 150 (by omega) (by omega)]; exact (vp_oN (by omega)).mpr hm, _, rfl, ?_⟩
  rw [e150]
  have hT0 : tKd L (sR M 11 0 45 (some (12, k))) := hT
  have hl0 := hT0.1
  have h77 := hLk.2.2.2.2
  generalize sR M 11 0 45 (some (12, k)) = M0 at hA hLk hTB e150 lms hT0 hl0 h77 ⊢
  have f1 : Fr (5012053369354645637214643587103103086948976188724715498910865650846170784131001427390927276355140411160919276493388206817700368694224128444524223814513348177926532982330730066315320819293979046126543806115318009892783577432467861426768883700930779409885418980853424256180864755881414774514084197887594253752179391098292488771920695965135791582218083012144604515253506370334133858904659263953147111654656123599460222236152128559750436960308887683690915261431659087040402402092795259541564130228515353133867041828417398395559815392177084002004583988047406317670433664624642858480970640416500369367395538257341309676777745698712896295462462064271676447460293684100001583256400774270688958051470568447233589146620275159126426142305307007744396679875427883384557759778766330566230012377845843842097372663092379922300568052486301863154557664156185573021849420011058607321977550938866119133331529852821217331665195832442542012455132139770813510559894254061471149750738447764616026512400623344132554752) M0 (sI M0 11 0 101 (Int32.ofNat (co (gmt (gc W c) j)).length)) := Fr.wI rfl (Fr.rf _ _)
  have hTE0 : TE G US A S W k c j br nq nl nf nk (sI (sI M0 11 0 76 (Int32.ofNat c)) 11 0 75 (Int32.ofNat (12 * c + j))) := (hTB.fr (F := (224056245506762518162189882417161900711758860441657103549429728873647933488979999455404010848185736439865199170711109346942620070020442982518265715890229411926561578318360301836519874004750507151777020370154887880062322799822741512660781310540323529089335455634598028191068683082524602465961167121869068760522278745396099482711584685674419622818443909830358826305873976811802410732417967794231196268856054109310815732307082201231290562166670904324542668227776546196955549810504701415072268108808190515661256395060601758758417459972668469041790842475626155033876016644745000830932139176867918790909448486149667636012036161067168248987009915602431138491345659677684377875465189260424179943716700454677652827499223135074664330883561388004320711487923318895007271756772681947032958822452091150377573340971427258355940940342231178126687899119683455214881125987070438593118379307040547689795413457728380739614301733632797390779337233592755206401343386801845035690847267855612159960526255816704)) (Fr.wI rfl (Fr.wI rfl (Fr.rf _ _)))).e (by simp only [mI_sI, mI_sR, mI_sJ, mR_sI, mL_sI, mL_sR, mR_sR, Nat.reduceEqDiff, and_false, false_and, if_false, and_self, true_and, and_true, if_true]) (by simp only [mI_sI, mI_sR, mI_sJ, mR_sI, mL_sI, mL_sR, mR_sR, Nat.reduceEqDiff, and_false, false_and, if_false, and_self, true_and, and_true, if_true]) hc hj hwf hpar
  have hlr := hTE0.lr
  have hsr := hTE0.sr
  have e148 : mI M0 148 k (12 * c + j) = Int32.ofNat (lr (gmt (gc W c) j)) := by
    have := hlr.1
    rw [mI_sI, if_neg (fun z => absurd z.1 (by decide)), mI_sI, if_neg (fun z => absurd z.1 (by decide))] at this
    exact this
  have r101 : mI (sI M0 11 0 101 (Int32.ofNat (co (gmt (gc W c) j)).length)) 11 0 101 = Int32.ofNat (co (gmt (gc W c) j)).length := by rw [mI_sI, if_pos ⟨rfl, rfl, rfl⟩]
  generalize sI M0 11 0 101 (Int32.ofNat (co (gmt (gc W c) j)).length) = M1 at f1 r101 ⊢
  refine ⟨k, (hTB.fr f1).r45, by rw [f1.L (f := 148) rfl, lms 148 (by omega) (by omega)]; exact (vp_oN (by omega)).mpr hm, _, rfl, ?_⟩
  rw [(f1.Ia (f := 148) rfl rfl k _).trans e148]
  have f2 : Fr (15036160108063936911643930761309309260846928566174146496732596952538512352393004282172781829065421233482757829480164620453101106082672385333572671443540044533779598946992190198945962457881937138379631418345954029678350732297403584280306651102792338229656256942560272768542594267644244323542252593662782761256538173294877466315762087895407374746654249036433813545760519111002401576713977791859441334963968370798380666708456385679251310880926663051072745784294977261121207206278385778624692390685546059401601125485252195186679446176531252006013751964142218953011300993873928575442911921249501108102186614772023929030333237096138688886387386192815029342380881052300004749769202322812066874154411705341700767439860825477379278426915921023233190039626283650153673279336298991698690037133537531526292117989277139766901704157458905589463672992468556719065548260033175821965932652816598357399994589558463651994995587497327626037365396419312440531679682762184413449252215343293848079537201870032397664256) M0 (sI M1 11 0 102 (Int32.ofNat (lr (gmt (gc W c) j)))) := Fr.wI rfl (f1.sub rfl)
  have r102 : mI (sI M1 11 0 102 (Int32.ofNat (lr (gmt (gc W c) j)))) 11 0 102 = Int32.ofNat (lr (gmt (gc W c) j)) := by rw [mI_sI, if_pos ⟨rfl, rfl, rfl⟩]
  have r101 : mI (sI M1 11 0 102 (Int32.ofNat (lr (gmt (gc W c) j)))) 11 0 101 = Int32.ofNat (co (gmt (gc W c) j)).length := by rw [mI_sI, if_neg (fun z => absurd z.2.2 (by decide))]; exact r101
  generalize sI M1 11 0 102 (Int32.ofNat (lr (gmt (gc W c) j))) = M2 at f2 r102 r101 ⊢
  obtain ⟨l1, l2, l3, l4⟩ := hT0.2.1
  have hnone : ∀ i, gR (noR (gmt (gc W c) j)) i = none := fun i => by
    unfold gR noR
    rw [List.getD_eq_getElem?_getD, List.getElem?_replicate]
    split <;> rfl
  -- the end
  have done : ∀ r p R M3, r ≤ 60 → kdsO W c (gmt (gc W c) j) inf = (ansI r p, tlR W R) → TB G US A S W k br nq nl nf nk M3 → TbT A (gmt (gc W c) j) R M3 → gdR R → TLn M3 → mI M3 11 0 77 = 0 → mI M3 11 0 101 = Int32.ofNat (co (gmt (gc W c) j)).length → mI M3 11 0 102 = Int32.ofNat (lr (gmt (gc W c) j)) → (r ≠ 0 → mI M3 11 0 74 = Int32.ofNat p) → Fr F_Model_kinds M0 M3 → w_Model_kinds_j157 0 Q (Int32.ofNat r) M3 := fun r p R M3 hr ek z1 z2 z3 z4 z5 z6 z7 z8 z9 => by
    refine ct_tellT z1 hc h80 hlr.2 hsr.2 z2 z3 z4 z6 z7 hr z8 (fun M4 f4 ht => ?_)
    have := hQ' _ ek M4 ht (hA.lk (z9.trans (f4.sub rfl)) (hLk.kd (z9.trans (f4.sub rfl)) (z1.fr f4) (z4.fr f4) ((f4.I (f := 11) (k := 77) rfl 0).trans z5))).xx
    exact this
  have loop : ∀ n i M3, (co (gmt (gc W c) j)).length - i < n → i ≤ (co (gmt (gc W c) j)).length → Fr (1716199415032652428745475199770348304317358825035826352348615864796385795849414013030639910165363638744324077847870214509280496999929160953143507072778764288) M2 M3 → (∀ q, q < i → mI M3 519 0 q = 0) → w_Model_kinds_L98 0 Q n (Int32.ofNat c) (b2 inf) (Int32.ofNat (12 * c + j)) (Int32.ofNat i) M3 := by
    intro n
    induction n with
    | zero => intro i M3 hn; exact absurd hn (by omega)
    | succ n ih =>
      intro i M3 hn hi f3 hz
      have f03 : Fr (15036160108063936911643930761309309260846928566174146496732596952538512352393004282172781829065421233482757829480164620453101106082672385333572671443540044533779598946992190198945962457881937138379631418345954029678350732297403584280306651102792338229656256942560272768542594267644244323542252593662782761256538173294877466315762087895407374746654249036433813545760519111002401576713977791859441334963968370798380666708456385679251310880926663051072745784294977261121207206278385778624692390685546059401601125485252195186679446176531252006013751964142218953011300993873928575442911921249501108102186614772023929030333237096138688886387386192815029342380881052300004749769202322812066874154411705341700767439860825477379278426915921023233190039626283650153673279336298991698690037133537531526292117989277139766901704157458905589463672992470272918480580912461921297165703001120915716225030415910812267859791973293177040050396036329477804170424006840032283663761495840293777240490345377105176428544) M0 M3 := (f2.sub rfl).trans (f3.sub rfl)
      have g101 := (f3.I (f := 11) (k := 101) rfl 0).trans r101
      have g102 := (f3.I (f := 11) (k := 102) rfl 0).trans r102
      have g77 := (f03.I (f := 11) (k := 77) rfl 0).trans h77
      unfold w_Model_kinds_L98
      rw [g101]
      by_cases ci : (co (gmt (gc W c) j)).length ≤ i
      · have hTb : TbT A (gmt (gc W c) j) (noR (gmt (gc W c) j)) M3 := by
          have hnl : (noR (gmt (gc W c) j)).length = (co (gmt (gc W c) j)).length := List.length_replicate ..
          refine ⟨hnl, ⟨(f03.L (f := 519) rfl 0).trans l1, (f03.L (f := 114) rfl 0).trans l2, (f03.L (f := 115) rfl 0).trans l3, (f03.L (f := 116) rfl 0).trans l4⟩, fun q hq => ⟨?_, fun l t e => ?_⟩⟩
          · rw [hnone q, hz q (by omega)]; rfl
          · rw [hnone q] at e; cases e
        have hTB3 := hTB.fr f03
        have hl3 := hl0.fr f03
        refine itp (le_oN ci (by omega)) ?_
        cases inf with
        | false =>
          refine itp rfl ⟨Or.inr rfl, ?_⟩
          have f4 : Fr (298741660675683357549586509889549200949011813922209471399239638498197244651973332607205347797580981919820265560948145795923493426693923976691020954520305882568748771091147069115359832006334009535702693826873183840083097066430322016881041747387098038785780607512797370921424910776699469954614889495825425014029704993861465976948779580899226163757925213107145101741165302415736547643223957058974928358474738812414420976409442934975054082888894539099390224303702061595940733080672935220096357478410920687548341860080802345011223279963557958722387789967501540045168022192993334441242852235823891721212597981532890181349381548089557665316013220803241517988460879570245837167286919013898906591622267272903537103332297513432885774511415184005760948650564425193343029009030242596043945096602788200503431121295236344474587920456308237502250532159577940286508167982760584790824505742720730253060551276971174319485735644843729854372449644790340275201791182402460047587796357140816213280701674422272) M3 (sI M3 11 0 77 1) := Fr.wI rfl (Fr.rf _ _)
          have r77 : mI (sI M3 11 0 77 1) 11 0 77 = 1 := by rw [mI_sI, if_pos ⟨rfl, rfl, rfl⟩]
          generalize sI M3 11 0 77 1 = M4 at f4 r77 ⊢
          refine mf_w_Model_check (Q := fun v M' => Fr F_Model_check M4 M' → _) (fun v M' hf hp => hp hf) (ct_checkR (hTB3.fr f4) (hl3.fr f4).1 ⟨hTb.fr f4, r77, (f4.I (f := 11) (k := 102) rfl 0).trans g102⟩ hc hj hwf hpar hne (fun M5 q1 q2 f5 => ⟨Or.inl rfl, ?_⟩))
          have f6 : Fr (298741660675683357549586509889549200949011813922209471399239638498197244651973332607205347797580981919820265560948145795923493426693923976691020954520305882568748771091147069115359832006334009535702693826873183840083097066430322016881041747387098038785780607512797370921424910776699469954614889495825425014029704993861465976948779580899226163757925213107145101741165302415736547643223957058974928358474738812414420976409442934975054082888894539099390224303702061595940733080672935220096357478410920687548341860080802345011223279963557958722387789967501540045168022192993334441242852235823891721212597981532890181349381548089557665316013220803241517988460879570245837167286919013898906591622267272903537103332297513432885774511415184005760948650564425193343029009030242596043945096602788200503431121295236344474587920456308237502250532159577940286508167982760584790824505742720730253060551276971174319485735644843729854372449644790340275201791182402460047587796357140816213280701674422272) M5 (sI M5 11 0 77 0) := Fr.wI rfl (Fr.rf _ _)
          have f456 : Fr F_Model_kinds M0 (sI M5 11 0 77 0) := (((f03.sub rfl).trans (f4.sub rfl)).trans (f5.sub rfl)).trans (f6.sub rfl)
          exact done _ _ _ _ chkM_le kdsO_f (((hTB3.fr f4).fr f5).fr f6) (q1.fr f6) (frm_good hwf) (((hl3.fr f4).fr f5).fr f6) (by rw [mI_sI, if_pos ⟨rfl, rfl, rfl⟩]) ((f6.I (f := 11) (k := 101) rfl 0).trans ((f5.I (f := 11) (k := 101) rfl 0).trans ((f4.I (f := 11) (k := 101) rfl 0).trans g101))) ((f6.I (f := 11) (k := 102) rfl 0).trans ((f5.I (f := 11) (k := 102) rfl 0).trans ((f4.I (f := 11) (k := 102) rfl 0).trans g102))) (fun z => (f6.I (f := 11) (k := 74) rfl 0).trans (q2 z)) f456
        | true =>
          refine itn (by decide) ?_
          refine mf_w_Model_infer (Q := fun v M' => Fr F_Model_infer M3 M' → _) (fun v M' hf hp => hp hf) (ct_infer hTB3 hW.1 hl3 g77 hc hj hwf hpar hne hTb g101 g102 (fun M5 q1 q2 q3 f5 => ?_))
          exact done _ _ _ _ infS_le kdsO_t (hTB3.fr f5) q1 q2 (hl3.fr f5) ((f5.I (f := 11) (k := 77) rfl 0).trans g77) ((f5.I (f := 11) (k := 101) rfl 0).trans g101) ((f5.I (f := 11) (k := 102) rfl 0).trans g102) q3 ((f03.sub rfl).trans (f5.sub rfl))
      refine itn (nle_oN (by omega) (by omega)) ?_
      rw [oN_tnc (k := i) (by omega), show Int32.ofNat i + (1 : Int32) = Int32.ofNat (i + 1) from oN_add i 1, show (0 : Int32) &&& 1 = 0 from rfl]
      refine ⟨by rw [f03.L (f := 519) rfl, l1]; exact (vp_oN (by omega)).mpr (by omega), ih (i + 1) _ (by omega) (by omega) (Fr.wIa rfl rfl f3) (fun q hq => ?_)⟩
      rw [mI_sI]
      by_cases e : q = i
      · rw [if_pos ⟨rfl, rfl, e⟩]
      · rw [if_neg (fun z => e z.2.2)]; exact hz q (by omega)
  exact ⟨(co (gmt (gc W c) j)).length + 1, loop _ 0 M2 (by omega) (by omega) (Fr.rf _ _) (fun q hq => absurd hq (by omega))⟩
end
