/-! THE OPERATION trial, in the twin -/
section
variable {G : List Sl} {U1 : List (List Kd × Kd)} {BB A : List Nm} {S : List Sg} {B F : Nat} {T : List Trl} {M M' : Mem} {Q : Int32 → Mem → Prop} {Q' X : Mem → Prop} {tp : List Int32} {a : Int32} {p : Nat → Int32} {n k : Nat}
theorem k_needT2 (h : w_Model_needWord 0 a (fun M' => Fr F_Model_needWord M M' → Q' M') (fun M' => Fr F_Model_needWord M M' → X M') M) : w_Model_needWord 0 a Q' X M := mf_w_Model_needWord (fun _ hf hp => hp hf) (fun _ hf hp => hp hf) h
theorem k_callT2 (h : w_Model_callWords 0 (fun M' => Fr F_Model_callWords M M' → Q' M') (fun M' => Fr F_Model_callWords M M' → X M') M) : w_Model_callWords 0 Q' X M := mf_w_Model_callWords (fun _ hf hp => hp hf) (fun _ hf hp => hp hf) h
theorem k_refT {v : Int32} (h : w_Model_refuse 0 a v (fun M' => Q' M') (fun M' => Fr F_Model_refuse M M' → X M') M) : w_Model_refuse 0 a v Q' X M := mf_w_Model_refuse (fun _ _ hp => hp) (fun _ hf hp => hp hf) h
theorem NB_no (hp : tend p n) (hk : k ≤ n) (h : ¬ 1 < (full (nl p n k) (tks p n k)).length) : NB BB (full (nl p n k) (tks p n k)) := fun t ht h2 => by
  have hk0 : (hd (full (nl p n k) (tks p n k))).1 = 0 := Classical.byContradiction (fun q => h ((full_two hp (by omega)).mpr q))
  rw [full_hd (tks_ne hp (by omega)), tks_hd hp (by omega)] at hk0
  have e : tks p n k = [(lex p n k).1] := by rw [tks_eq hp (by omega), if_pos (by omega)]
  rcases full_mem ht with q | q
  · rw [e] at q
    rw [List.mem_singleton.mp q, hk0] at h2; cases h2
  · rw [q] at h2; cases h2
theorem MdT.w8 (h : MdT G U1 BB A S B F T M) (hf : Fr (21022075495527101210150853274558976129597612410601670189036096316841313546930411294804191358367804554202430559187746093359116103186928281783082663656207298409141563911734509496264616322728609840065611711488122459024380335148493499600760923291313411863993343666856920277966254149920095845880026600461872364022574955211907392261307668639649573894594240143936249860412130221255153933194533638025736742022863542817019007373916092736557948918432250382914211650712185127675151140013102011282177411923016862254210656097135534308632172139638531616955847151701982330525411784024487080942387961832363675756257324536810959792364865554370620812576166772985647763865389126210510996168603596071124133313789571382871533157615923076383810164692174678635120833304651081555017628619606181638196032150210084044475319888285656578779703297371989372747058555402674182366390967890101433935759858932443149684818002169792305143463207430209626027071766399421374840431814203332508384733989109541760781300540579507055327872811008) M M') : MdT G U1 BB A S B F T M' := ⟨h.1.fr (hf.sub rfl), ⟨h.2.1.1.fr hf, h.2.1.2.fr hf⟩, h.2.2⟩
theorem ct_wtrial (h : MdT G U1 BB A S B F T M) (hTp : tpT tp M) (hB : ∀ l ∈ lns (pT tp) tp.length 0, NB BB l ∧ UL (U1, []) l)
    (hQ : ∀ A' S' M', A <+: A' → S <+: S' → MdT G U1 BB A' S' B F (triO T tp).2.2.2 M' → tpT (triO T tp).2.2.1 M' → mI M' 11 0 86 = ((triO T tp).2.1).getD (mI M 11 0 86) → Q (triO T tp).1 M') : w_Model_trial 0 Q M := by
  have h40 := h.n
  obtain ⟨t1, t2, t3, t4⟩ := id hTp
  have hp := pT_end tp
  unfold triO at hQ
  unfold w_Model_trial
  rw [h40.1, t1]
  by_cases c40 : T.length = 40
  · rw [if_pos (Or.inl c40)] at hQ
    exact itp (by rw [c40]; rfl) (hQ A S M List.prefix_rfl List.prefix_rfl h hTp rfl)
  refine itn (fun z => c40 ((oN_inj (by omega) (by omega)).mp (z.trans (lit32 40)))) ?_
  by_cases cn : 1200 < tp.length
  · rw [if_pos (Or.inr (Or.inl cn))] at hQ
    exact itn (nle_oN (b := 1200) cn (by omega)) (hQ A S M List.prefix_rfl List.prefix_rfl h hTp rfl)
  refine itp (le_oN (b := 1200) (by omega) (by omega)) ⟨tp.length + 3, ?_⟩
  have hst : stL (pT tp) tp.length 0 = SLr (pT tp) tp.length 0 := (if_pos (Nat.zero_le _)).symm
  -- over all lines
  have loop : ∀ d a ds A1 M1 v2 v3, tp.length + 2 - a < d → a ≤ tp.length + 1 → A <+: A1 → MdT G U1 BB A1 S B F T M1 → tpT tp M1 → mI M1 11 0 86 = mI M 11 0 86 → dfD (txt (ds.map (rwL (pT tp) tp.length))) M1 → ds ++ SLr (pT tp) tp.length a = stL (pT tp) tp.length 0 → (ds ≠ [] → v2 = Int32.ofNat (ds.getLastD 0) ∧ v3 = Int32.ofNat (nl (pT tp) tp.length (ds.getLastD 0))) → w_Model_trial_L36 0 Q d (Int32.ofNat ds.length) v2 v3 (Int32.ofNat a) M1 := by
    intro d
    induction d with
    | zero => intro a ds A1 M1 v2 v3 z; exact absurd z (by omega)
    | succ d ih =>
      intro a ds A1 M1 v2 v3 hd1 ha p1 p2 p3 p4 p5 p6 p7
      obtain ⟨u1, u2, u3, u4⟩ := id p3
      have hdl : ds.length ≤ 1300 := by
        have e := congrArg List.length p6
        rw [List.length_append] at e
        have : (stL (pT tp) tp.length 0).length = (lns (pT tp) tp.length 0).length := by rw [lns_st, List.length_map]
        have l1 : (trLs tp).length ≤ (txt (trLs tp)).length := by
          have : ∀ L : Trl, L.length ≤ (txt L).length := fun L => by
            induction L with
            | nil => exact Nat.le_refl _
            | cons l L ih => rw [txt_cons, List.length_cons, List.length_append, List.length_append, List.length_singleton]; omega
          exact this _
        have l2 := tr_len (tp := tp)
        have l3 : (trLs tp).length = (stL (pT tp) tp.length 0).length := by unfold trLs; rw [List.length_map]
        omega
      unfold w_Model_trial_L36
      rw [u1]
      by_cases ea : a = tp.length + 1
      · subst ea
        have e0 : SLr (pT tp) tp.length (tp.length + 1) = [] := if_neg (by omega)
        rw [e0, List.append_nil] at p6
        have etr : ds.map (rwL (pT tp) tp.length) = trLs tp := by rw [p6]; rfl
        have el : (trLs tp).length = ds.length := by rw [← etr, List.length_map]
        refine itp (lt_oN (Nat.lt_succ_self _) (by omega)) ?_
        by_cases c6 : ds.length ≤ 60
        · refine itp (le_oN (b := 60) c6 (by omega)) ?_
          rw [if_neg (fun z => z.elim c40 (fun z => z.elim cn (fun z => by omega)))] at hQ
          have f2 : Fr (21022075495527101210150853274558976129597612410601670189036096316841313546930411294804191358367804554202430559187746093359116103186928281783082663656207298409141563911734509496264616322728609840065611711488122459024380335148493499600760923291313411863993343666856920277966254149920095845880026600461872364022574955211907392261307668639649573894594240143936249860412130221255153933194533638025736742022863542817019007373916092736557948918432250382914211650712185127675151140013102011282177411923016862254210656097135534308632172139638531616955847151701982330525411784024487080942387961832363675756257324536810959792364865554370620812576166772985647763865389126210510996168603596071124133313789571382871533157615923076383810164692174678635120833304651081555017628619606181638196032150210084044475319888285656578779703297371989372747058555402674182366390967890101433935759858932443149684818002169792305143463207430209626027071766399421374840431814203332508384733989109541760781300540579507055327872811008) M1 (sI (sI M1 11 0 85 0) 11 0 86 (-2)) := Fr.wI rfl (Fr.wI rfl (Fr.rf _ _))
          have f2' : Fr (229433595398924818598082439595173786328841073092256874034616042366615483892715519442333707108542194114421963950808175971269242951700933614098704093071594917812799056198000949080596350980864519323419668859038605189183818547018487308964640061993291293787479506569828380867654331476505192925144235132793926410774813435285605870296662718130605693766086563666287438137214952255285668589995999021292744979308599407934275309882452174060841535658671006028331692265243183305682483005956814249034002543419587088037126548542056200968619479012012512298793822695041182754689041044218880850874510517112748841891275249817259659276325028932780286962698153576889485815137955509948802944476353802674360262365901265589916495359204490316456274824766861316424408563633478548487446278935226313761749834190941337986635101154741512556483522910444726401728408698555858140038273010760129119353220410409520834350503380713861877365044975239984528158041327198981331354975628085089316547427602284146851799578885956304896) M1 (sI (sI M1 11 0 85 0) 11 0 86 (-2)) := Fr.wI rfl (Fr.wI rfl (Fr.rf _ _))
          have e85 : mI (sI (sI M1 11 0 85 0) 11 0 86 (-2)) 11 0 85 = 0 := by rw [mI_sI, if_neg (fun z => absurd z.2.2 (by decide)), mI_sI, if_pos ⟨rfl, rfl, rfl⟩]
          have e86 : mI (sI (sI M1 11 0 85 0) 11 0 86 (-2)) 11 0 86 = -2 := by rw [mI_sI, if_pos ⟨rfl, rfl, rfl⟩]
          generalize sI (sI M1 11 0 85 0) 11 0 86 (-2) = M2 at f2 f2' e85 e86 ⊢
          have p22 := p2.w8 f2
          have tpe : ∀ {M9 : Mem}, mI M9 11 0 85 = 0 → mL M9 402 1 = 6000 → tpT [] M9 := fun h1 h2 => ⟨h1, h2, by simp, fun j hj => absurd hj (by simp)⟩
          have l402 : mL M2 402 1 = 6000 := (f2.L (f := 402) rfl 1).trans u2
          -- a refusal
          have j229 : ∀ A9 S9 M9 e, triR tp = .inl e → A <+: A9 → S <+: S9 → MdT G U1 BB A9 S9 B F T M9 → mI M9 11 0 85 = 0 → mL M9 402 1 = 6000 → mI M9 11 0 50 = Int32.ofNat e.2 → w_Model_trial_j229 0 Q 0 M9 := fun A9 S9 M9 e z1 z2 z3 z4 z5 z6 z7 => by
            unfold w_Model_trial_j229
            rw [z1] at hQ
            have f9 : Fr (21022075495527101210150853274558976129597612410601670189036096316841313546930411294804191358367804554202430559187746093359116103186928281783082663656207298409141563911734509496264616322728609840065611711488122459024380335148493499600760923291313411863993343666856920277966254149920095845880026600461872364022574955211907392261307668639649573894594240143936249860412130221255153933194533638025736742022863542817019007373916092736557948918432250382914211650712185127675151140013102011282177411923016862254210656097135534308632172139638531616955847151701982330525411784024487080942387961832363675756257324536810959792364865554370620812576166772985647763865389126210510996168603596071124133313789571382871533157615923076383810164692174678635120833304651081555017628619606181638196032150210084044475319888285656578779703297371989372747058555402674182366390967890101433935759858932443149684818002169792305143463207430209626027071766399421374840431814203332508384733989109541760781300540579507055327872811008) M9 (sI M9 11 0 86 (mI M9 11 0 50)) := Fr.wI rfl (Fr.rf _ _)
            refine hQ A9 S9 _ z2 z3 (z4.w8 f9) (tpe (by rw [mI_sI, if_neg (fun z => absurd z.2.2 (by decide))]; exact z5) z6) ?_
            rw [mI_sI, if_pos ⟨rfl, rfl, rfl⟩]; exact z7
          by_cases cd : ds = []
          · have er : triR tp = .inl (1, tp.length) := by
              unfold triR; rw [← p6, if_pos cd]
            refine itp (by rw [cd]; rfl) (k_refT (ct_refuse (rule := 1) (pl := tp.length) (fun M9 th f9 => ?_)))
            have p9 : MdT G U1 BB A1 S B F T M9 := by
              obtain ⟨⟨hx, hR, hTG, hV⟩, hkk, -, -, h113, -⟩ := id p22.1
              exact p22.tk (f9.sub rfl) ((GF.rf hTG).fr (f9) hx.1) (hV.fr f9 hx) rfl (hkk.1.fr f9) List.prefix_rfl hkk.2.2.1 ((f9.L (f := 113) rfl 0).trans h113)
            exact j229 A1 S M9 _ er p1 List.prefix_rfl p9 ((f9.I (f := 11) (k := 85) rfl 0).trans e85) ((f9.L (f := 402) rfl 1).trans l402) th.2
          refine itn (fun z => cd (List.length_eq_zero_iff.mp ((oN_inj (by omega) (by omega)).mp (z.trans (show (0 : Int32) = Int32.ofNat 0 from rfl))))) ?_
          obtain ⟨ev2, ev3⟩ := p7 cd
          have hs : ds.getLastD 0 ∈ stL (pT tp) tp.length 0 := by rw [← p6]; exact getLastD_in cd
          have hsn := st_le hp _ 0 (Nat.zero_le _) _ hs
          have eR : triR tp = runP (full (nl (pT tp) tp.length (ds.getLastD 0)) (tks (pT tp) tp.length (ds.getLastD 0))) := by
            unfold triR
            rw [← p6, if_neg cd, lns_st, ← p6, getLastD_map (e := 0) cd]
          obtain ⟨hnb, hul⟩ := hB _ (lns_mem hs)
          unfold w_Model_trial_j203
          rw [ev2, ev3]
          have hX2 : TXt 1 tp.length (pT tp) M2 := ⟨by rw [l402]; omega, by omega, fun k hk => by rw [f2'.Ia (f := 402) rfl rfl, u4 k hk, pT_in hk], hp⟩
          refine ct_cutM p22 hp (by omega) hX2 hsn hnb (fun A3 M3 g1 g2 g3 f3 g5 => ?_)
          have hz : lz (full (nl (pT tp) tp.length (ds.getLastD 0)) (tks (pT tp) tp.length (ds.getLastD 0))) := full_lz hp (by omega)
          have c2w : (hd (full (nl (pT tp) tp.length (ds.getLastD 0)) (tks (pT tp) tp.length (ds.getLastD 0)))).1 ≠ 0 → 1 < (full (nl (pT tp) tp.length (ds.getLastD 0)) (tks (pT tp) tp.length (ds.getLastD 0))).length := (full_two hp (by omega)).mpr
          have hneL : full (nl (pT tp) tp.length (ds.getLastD 0)) (tks (pT tp) tp.length (ds.getLastD 0)) ≠ [] := fun z => by
            have hne := tks_ne (p := pT tp) (n := tp.length) (a := ds.getLastD 0) hp (by omega)
            have := full_hd (to := nl (pT tp) tp.length (ds.getLastD 0)) hne
            unfold full at z
            split at z
            · exact absurd z (by simp)
            · exact hne z
          generalize full (nl (pT tp) tp.length (ds.getLastD 0)) (tks (pT tp) tp.length (ds.getLastD 0)) = LL at eR hnb hul g5 hz c2w hneL
          obtain ⟨⟨hx, hR, hTG3, hV3⟩, ⟨hK3, -, hAB3, -⟩, -, -, h1133, -⟩ := id g2.1
          have k25 := hK3 (25, nRun) (by simp [kF])
          have e853 : mI M3 11 0 85 = 0 := (f3.I (f := 11) (k := 85) rfl 0).trans e85
          have l3 : mL M3 402 1 = 6000 := (f3.L (f := 402) rfl 1).trans l402
          rw [show mI M3 11 0 25 = nc A3 nRun from k25.1]
          refine k_needT2 (ct_needWord g5 hneL k25.2 (fun M4 w1 q4 f4 => ?_) (fun M4 w0 th f4 => ?_))
          · have hg4 : GF G X9 M3 M4 := (GF.rf hTG3).fr f4 hx.1
            have h2w : (hd LL).1 = 2 := (of_decide_eq_true w1).1
            have hne2 : LL.tail ≠ [] := fun q => by
              have := congrArg List.length q
              rw [List.length_tail] at this
              have := c2w (by omega)
              simp at *; omega
            have v4 : mL M4 113 0 = 6 := (f4.L (f := 113) rfl 0).trans h1133
            have eR2 : triR tp = pCall LL.tail := by rw [eR]; unfold runP; rw [if_pos w1]
            have e854 : mI M4 11 0 85 = 0 := (f4.I (f := 11) (k := 85) rfl 0).trans e853
            have l4 : mL M4 402 1 = 6000 := (f4.L (f := 402) rfl 1).trans l3
            refine k_callT2 (ct_callWords (M0 := M4) hx hz (US := (U1, S)) hul q4 hne2 ⟨hV3.fr f4 hx, GF.rf hg4.1, v4⟩ (fun k m κ vs M5 z1 z2 z3 z4 z5 z6 f5 => ?_) (fun e S5 M5 z1 z2 z3 z4 f5 => ?_))
            · obtain ⟨⟨y1, y2, y3⟩, -, -⟩ := z6
              have f35 : Fr F_Model_takesLine M3 M5 := (f4.sub rfl).trans (f5.sub rfl)
              have p5' : MdT G U1 BB A3 (ins S (sg A3 (kNs vs.length) κ)) B F T M5 := g2.tk f35 (hg4.trans (y2.sub (by decide))) y1 rfl ((hK3.fr f4).fr f5) List.prefix_rfl hAB3 y3
              have hr : triR tp = .inr (k, m, κ, vs) := by rw [eR2]; exact z1
              rw [hr] at hQ
              have hD5 : dfD (txt (trLs tp)) M5 := by
                rw [← etr]
                obtain ⟨x1, x2, x3⟩ := p5
                exact ⟨((f35.L (f := 402) rfl 2).trans (f3.L (f := 402) rfl 2)).trans ((f2'.L (f := 402) rfl 2).trans x1), ((f35.I (f := 11) (k := 123) rfl 0).trans (f3.I (f := 11) (k := 123) rfl 0)).trans ((f2'.I (f := 11) (k := 123) rfl 0).trans x2), fun x hx => ((f35.Ia (f := 402) rfl rfl 2 x).trans (f3.Ia (f := 402) rfl rfl 2 x)).trans ((f2'.Ia (f := 402) rfl rfl 2 x).trans (x3 x hx))⟩
              refine ct_keep p5' (by omega) (tri_ok (by omega) (by omega) hr) (tri_nm (fun l hl => (hB l hl).1)) (tri_ul (fun l hl => (hB l hl).2)) hD5 (fun M6 q1 f6 => ?_)
              refine hQ A3 _ M6 (p1.trans g1) (ins_pre _ _) q1 (tpe ((f6.I (f := 11) (k := 85) rfl 0).trans ((f5.I (f := 11) (k := 85) rfl 0).trans e854)) ((f6.L (f := 402) rfl 1).trans ((f5.L (f := 402) rfl 1).trans l4))) ?_
              show mI M6 11 0 86 = -2
              rw [f6.I (f := 11) (k := 86) rfl, f5.I (f := 11) (k := 86) rfl, f4.I (f := 11) (k := 86) rfl, f3.I (f := 11) (k := 86) rfl]; exact e86
            · obtain ⟨y1, y2, y3⟩ := z4
              have f35 : Fr F_Model_takesLine M3 M5 := (f4.sub rfl).trans (f5.sub rfl)
              have p5' : MdT G U1 BB A3 S5 B F T M5 := g2.tk f35 (hg4.trans (y2.sub (by decide))) y1 rfl ((hK3.fr f4).fr f5) List.prefix_rfl hAB3 y3
              exact j229 A3 S5 M5 e (by rw [eR2]; exact z1) (p1.trans g1) z2 p5' ((f5.I (f := 11) (k := 85) rfl 0).trans e854) ((f5.L (f := 402) rfl 1).trans l4) z3.2
          · have p4' : MdT G U1 BB A3 S B F T M4 := g2.tk (f4.sub rfl) ((GF.rf hTG3).fr f4 hx.1) (hV3.fr f4 hx) rfl (hK3.fr f4) List.prefix_rfl hAB3 ((f4.L (f := 113) rfl 0).trans h1133)
            exact j229 A3 S M4 (er LL) (by rw [eR]; unfold runP; rw [if_neg (by rw [w0]; decide)]) (p1.trans g1) List.prefix_rfl p4' ((f4.I (f := 11) (k := 85) rfl 0).trans e853) ((f4.L (f := 402) rfl 1).trans l3) th.2
        · rw [if_pos (Or.inr (Or.inr (by omega)))] at hQ
          exact itn (nle_oN (b := 60) (by omega) (by omega)) (hQ A1 S M1 p1 List.prefix_rfl p2 p3 p4)
      have han : a ≤ tp.length := by omega
      obtain ⟨x1, x2, x3, x4⟩ := nl_ok hp han
      have hSL := SLr_eq hp han
      refine itn (nlt_oN (by omega) (by omega)) ⟨nl (pT tp) tp.length a - a + 1, ?_⟩
      have hX1 : TXt 1 tp.length (pT tp) M1 := ⟨by rw [u2]; omega, by omega, fun k hk => by rw [u4 k hk, pT_in hk], hp⟩
      have j76 : w_Model_trial_j76 0 Q (w_Model_trial_L36 0 Q d) (Int32.ofNat ds.length) v2 v3 (Int32.ofNat a) (Int32.ofNat (nl (pT tp) tp.length a)) M1 := by
        unfold w_Model_trial_j76
        have hnb : NB BB (full (nl (pT tp) tp.length a) (tks (pT tp) tp.length a)) := by
          by_cases c1 : 1 < (full (nl (pT tp) tp.length a) (tks (pT tp) tp.length a)).length
          · rw [if_pos c1] at hSL
            exact (hB _ (lns_mem (by rw [← p6, hSL]; simp))).1
          · exact NB_no hp han c1
        refine ct_cutM p2 hp (by omega) hX1 han hnb (fun A3 M3 g1 g2 g3 f3 _ => ?_)
        have tp3 : tpT tp M3 := ⟨(f3.I (f := 11) (k := 85) rfl 0).trans u1, (f3.L (f := 402) rfl 1).trans u2, u3, fun k hk => (f3.Ia (f := 402) rfl rfl 1 k).trans (u4 k hk)⟩
        have e863 : mI M3 11 0 86 = mI M 11 0 86 := (f3.I (f := 11) (k := 86) rfl 0).trans p4
        obtain ⟨y1, y2, y3⟩ := p5
        have hD3 : dfD (txt (ds.map (rwL (pT tp) tp.length))) M3 := ⟨(f3.L (f := 402) rfl 2).trans y1, (f3.I (f := 11) (k := 123) rfl 0).trans y2, fun x hx => (f3.Ia (f := 402) rfl rfl 2 x).trans (y3 x hx)⟩
        by_cases c1 : 1 < (full (nl (pT tp) tp.length a) (tks (pT tp) tp.length a)).length
        · rw [if_pos c1] at hSL
          rw [decide_eq_true c1]
          refine itn (by decide) ?_
          obtain ⟨z1, z2, z3⟩ := hD3
          -- how much is drafted
          have hlt : (txt (ds.map (rwL (pT tp) tp.length))).length + (nl (pT tp) tp.length a - a + 1) ≤ 1300 := by
            have e : trLs tp = ds.map (rwL (pT tp) tp.length) ++ (rwL (pT tp) tp.length a :: (SLr (pT tp) tp.length (nl (pT tp) tp.length a + 1)).map (rwL (pT tp) tp.length)) := by
              unfold trLs; rw [← p6, hSL, List.map_append, List.map_cons]
            have l := tr_len (tp := tp)
            rw [e, txt_app, txt_cons] at l
            simp only [List.length_append, List.length_singleton, rw_len] at l
            omega
          rw [oN_sub x1, oN_tnc (k := a) (by omega), oN_tnc (k := nl (pT tp) tp.length a - a) (by omega), z2, oN_tnc (k := (txt (ds.map (rwL (pT tp) tp.length))).length) (by omega)]
          refine ⟨nlt_oN (b := 0) (by omega) (by omega), nlt_oN (b := 0) (by omega) (by omega), nlt_oN (b := 0) (by omega) (by omega), by rw [tp3.2.1]; omega, by rw [z1]; omega, _, rfl, ?_⟩
          have f4 : Fr (10328999512347634358623676688012047497318823171316894051322637426162590488067364778518581413120551325743612687890989973504) M3 (cpI M3 402 1 a 402 2 (txt (ds.map (rwL (pT tp) tp.length))).length (nl (pT tp) tp.length a - a)) := Fr.wcp rfl rfl (Fr.rf _ _)
          have e4 : ∀ x, mI (cpI M3 402 1 a 402 2 (txt (ds.map (rwL (pT tp) tp.length))).length (nl (pT tp) tp.length a - a)) 402 2 x = if (txt (ds.map (rwL (pT tp) tp.length))).length ≤ x ∧ x < (txt (ds.map (rwL (pT tp) tp.length))).length + (nl (pT tp) tp.length a - a) then mI M3 402 1 (a + (x - (txt (ds.map (rwL (pT tp) tp.length))).length)) else mI M3 402 2 x := fun x => by rw [mI_cpI, if_pos ⟨rfl, rfl⟩]
          have o4 : ∀ x, mI (cpI M3 402 1 a 402 2 (txt (ds.map (rwL (pT tp) tp.length))).length (nl (pT tp) tp.length a - a)) 402 1 x = mI M3 402 1 x := fun x => by rw [mI_cpI, if_neg (fun z => absurd z.2 (by decide))]
          generalize cpI M3 402 1 a 402 2 (txt (ds.map (rwL (pT tp) tp.length))).length (nl (pT tp) tp.length a - a) = M4 at f4 e4 o4 ⊢
          rw [show mI M4 11 0 123 = Int32.ofNat (txt (ds.map (rwL (pT tp) tp.length))).length from (f4.I (f := 11) (k := 123) rfl 0).trans z2, oN_add]
          rw [show mI (sI M4 11 0 123 (Int32.ofNat ((txt (ds.map (rwL (pT tp) tp.length))).length + (nl (pT tp) tp.length a - a)))) 11 0 123 = Int32.ofNat ((txt (ds.map (rwL (pT tp) tp.length))).length + (nl (pT tp) tp.length a - a)) from by rw [mI_sI, if_pos ⟨rfl, rfl, rfl⟩], oN_tnc (k := (txt (ds.map (rwL (pT tp) tp.length))).length + (nl (pT tp) tp.length a - a)) (by omega), show (10 : Int32).toInt8.toInt32 = 10 from rfl]
          refine ⟨show vp_in _ (mL M4 402 2) from by rw [f4.L (f := 402) rfl, z1]; exact (vp_oN (by omega)).mpr (by omega), _, rfl, ?_⟩
          rw [show mI (sI (sI M4 11 0 123 (Int32.ofNat ((txt (ds.map (rwL (pT tp) tp.length))).length + (nl (pT tp) tp.length a - a)))) 402 2 ((txt (ds.map (rwL (pT tp) tp.length))).length + (nl (pT tp) tp.length a - a)) 10) 11 0 123 = Int32.ofNat ((txt (ds.map (rwL (pT tp) tp.length))).length + (nl (pT tp) tp.length a - a)) from by rw [mI_sI, if_neg (fun z => absurd z.1 (by decide)), mI_sI, if_pos ⟨rfl, rfl, rfl⟩], show Int32.ofNat ((txt (ds.map (rwL (pT tp) tp.length))).length + (nl (pT tp) tp.length a - a)) + (1 : Int32) = Int32.ofNat ((txt (ds.map (rwL (pT tp) tp.length))).length + (nl (pT tp) tp.length a - a) + 1) from oN_add _ 1]
          have f5 : Fr (21022075495527101210150853274558976129597612410601670189036096316841313546930411294804191358367804554202430559187746093359116103186928281783082663656207298409141563911734509496264616322728609840065611711488122459024380335148493499600760923291313411863993343666856920277966254149920095845880026600461872364022574955211907392261307668639649573894594240143936249860412130221255153933194533638025736742022863542817019007373916092736557948918432250382914211650712185127675151140013102011282177411923016862254210656097135534308632172139638531616955847151701982330525411784024487080942387961832363675756257324536810959792364865554370620812576166772985647763865389126210510996168603596071124133313789571382871533157615923076383810164692174678635120833304651081555017628619606181638196032150210084044475319888285656578779703297371989372747058555402674182366390967890101433935759858932443149684818002169792305143463207430209626027071766399421374840431814203332508384733989109541760781300540579507055327872811008) M3 (sI (sI (sI M4 11 0 123 (Int32.ofNat ((txt (ds.map (rwL (pT tp) tp.length))).length + (nl (pT tp) tp.length a - a)))) 402 2 ((txt (ds.map (rwL (pT tp) tp.length))).length + (nl (pT tp) tp.length a - a)) 10) 11 0 123 (Int32.ofNat ((txt (ds.map (rwL (pT tp) tp.length))).length + (nl (pT tp) tp.length a - a) + 1))) := Fr.wI rfl (Fr.wIa rfl rfl (Fr.wI rfl (f4.sub rfl)))
          have f5' : Fr (21022075495297667614751928455960893690002438624272829115943839442806697504563795810911475838925470847093888365073324129408307927215659038831381730042108594316069968993921710440066615373648013489084747192164702790165341729959309681053742435982348771802000052373069440771396425769052441514403521407536728128889781028801132578826022062769352911176463634450170163296745842783117938980939247969435740743001570797837710407965981817426675496744371408847255540644683853435409907956707419528276220597673982859710791069009098407760090115938669912137943834639403188507830370601269798039898169080981489165239144575694919684542547605895094295783643386486022949610288499640395373040658654793126647779511115211120505631892026006581024605674375718403810353971988226672991384150071118735359260805836448334210284378550299021477624961784815505849836613829000945773667835109750063160924999729813089929274408481335441801762749345552844581051831781871263333513232832871977532756648899792994333179016393727707476441916506112) M3 (sI (sI (sI M4 11 0 123 (Int32.ofNat ((txt (ds.map (rwL (pT tp) tp.length))).length + (nl (pT tp) tp.length a - a)))) 402 2 ((txt (ds.map (rwL (pT tp) tp.length))).length + (nl (pT tp) tp.length a - a)) 10) 11 0 123 (Int32.ofNat ((txt (ds.map (rwL (pT tp) tp.length))).length + (nl (pT tp) tp.length a - a) + 1))) := Fr.wI rfl (Fr.wIa rfl rfl (Fr.wI rfl (f4.sub rfl)))
          unfold w_Model_trial_j157
          rw [show Int32.ofNat ds.length + (1 : Int32) = Int32.ofNat (ds.length + 1) from oN_add _ 1, show Int32.ofNat (nl (pT tp) tp.length a) + (1 : Int32) = Int32.ofNat (nl (pT tp) tp.length a + 1) from oN_add _ 1]
          have hl1 : ds.length + 1 = (ds ++ [a]).length := by rw [List.length_append, List.length_singleton]
          rw [hl1]
          have etx : txt ((ds ++ [a]).map (rwL (pT tp) tp.length)) = txt (ds.map (rwL (pT tp) tp.length)) ++ (rwL (pT tp) tp.length a ++ [10]) := by rw [List.map_append, List.map_singleton, txt_app, txt_11]
          have ltx : (txt ((ds ++ [a]).map (rwL (pT tp) tp.length))).length = (txt (ds.map (rwL (pT tp) tp.length))).length + (nl (pT tp) tp.length a - a) + 1 := by rw [etx, List.length_append, List.length_append, List.length_singleton, rw_len]; omega
          refine ih (nl (pT tp) tp.length a + 1) (ds ++ [a]) A3 _ _ _ (by omega) (by omega) (p1.trans g1) (g2.w8 f5) ⟨(f5'.I (f := 11) (k := 85) rfl 0).trans tp3.1, (f5'.L (f := 402) rfl 1).trans tp3.2.1, u3, fun k hk => ?_⟩ ((f5'.I (f := 11) (k := 86) rfl 0).trans e863) ⟨(f5'.L (f := 402) rfl 2).trans z1, by rw [mI_sI, if_pos ⟨rfl, rfl, rfl⟩, ltx], fun x hx => ?_⟩ (by rw [List.append_assoc, List.singleton_append, ← hSL]; exact p6) (fun _ => by rw [List.getLastD_concat]; exact ⟨rfl, rfl⟩)
          · rw [mI_sI, if_neg (fun z => absurd z.1 (by decide)), mI_sI, if_neg (fun z => absurd z.2.1 (by decide)), mI_sI, if_neg (fun z => absurd z.1 (by decide)), o4]; exact tp3.2.2.2 k hk
          · rw [ltx] at hx
            rw [mI_sI, if_neg (fun z => absurd z.1 (by decide)), mI_sI, etx, gi_apL]
            by_cases cx : x < (txt (ds.map (rwL (pT tp) tp.length))).length
            · rw [if_neg (fun z => by have := z.2.2; omega), if_pos cx, mI_sI, if_neg (fun z => absurd z.1 (by decide)), e4, if_neg (by omega)]; exact z3 x cx
            · rw [if_neg cx, gi_apL, rw_len]
              by_cases cy : x - (txt (ds.map (rwL (pT tp) tp.length))).length < nl (pT tp) tp.length a - a
              · rw [if_neg (fun z => by have := z.2.2; omega), if_pos cy, mI_sI, if_neg (fun z => absurd z.1 (by decide)), e4, if_pos (by omega), rw_gi cy, tp3.2.2.2 _ (by omega), pT_in (by omega)]
              · rw [if_pos ⟨rfl, rfl, by omega⟩, if_neg cy, show x - (txt (ds.map (rwL (pT tp) tp.length))).length - (nl (pT tp) tp.length a - a) = 0 by omega]; rfl
        · rw [if_neg c1] at hSL
          rw [decide_eq_false c1]
          refine itp rfl ?_
          unfold w_Model_trial_j157
          rw [show Int32.ofNat (nl (pT tp) tp.length a) + (1 : Int32) = Int32.ofNat (nl (pT tp) tp.length a + 1) from oN_add _ 1]
          exact ih (nl (pT tp) tp.length a + 1) ds A3 M3 v2 v3 (by omega) (by omega) (p1.trans g1) g2 tp3 e863 hD3 (by rw [← hSL]; exact p6) p7
      have scan : ∀ m k, nl (pT tp) tp.length a - k < m → a ≤ k → k ≤ nl (pT tp) tp.length a → w_Model_trial_L49 0 Q (w_Model_trial_L36 0 Q d) m (Int32.ofNat ds.length) v2 v3 (Int32.ofNat a) (Int32.ofNat k) M1 := by
        intro m
        induction m with
        | zero => intro k z; exact absurd z (by omega)
        | succ m im =>
          intro k hm hk1 hk2
          unfold w_Model_trial_L49
          rw [u1]
          by_cases ek : k = nl (pT tp) tp.length a
          · subst ek
            by_cases cN : tp.length ≤ nl (pT tp) tp.length a
            · exact itp (le_oN cN (by omega)) j76
            · refine itn (nle_oN (by omega) (by omega)) ⟨by rw [u2]; exact (vp_oN (by omega)).mpr (by omega), ?_⟩
              rw [oN_tnc (k := nl (pT tp) tp.length a) (by omega), u4 _ (by omega), ← pT_in (tp := tp) (by omega)]
              exact itp x3 j76
          · refine itn (nle_oN (by omega) (by omega)) ⟨by rw [u2]; exact (vp_oN (by omega)).mpr (by omega), ?_⟩
            rw [oN_tnc (k := k) (by omega), u4 k (by omega), ← pT_in (tp := tp) (by omega), lit32 1, oN_add]
            exact itn (x4 k hk1 (by omega)) (im (k + 1) (by omega) (by omega) (by omega))
      exact scan _ a (by omega) (Nat.le_refl _) x1
  have f1 : Fr (21022075495527101210150853274558976129597612410601670189036096316841313546930411294804191358367804554202430559187746093359116103186928281783082663656207298409141563911734509496264616322728609840065611711488122459024380335148493499600760923291313411863993343666856920277966254149920095845880026600461872364022574955211907392261307668639649573894594240143936249860412130221255153933194533638025736742022863542817019007373916092736557948918432250382914211650712185127675151140013102011282177411923016862254210656097135534308632172139638531616955847151701982330525411784024487080942387961832363675756257324536810959792364865554370620812576166772985647763865389126210510996168603596071124133313789571382871533157615923076383810164692174678635120833304651081555017628619606181638196032150210084044475319888285656578779703297371989372747058555402674182366390967890101433935759858932443149684818002169792305143463207430209626027071766399421374840431814203332508384733989109541760781300540579507055327872811008) M (sI M 11 0 123 0) := Fr.wI rfl (Fr.rf _ _)
  have f1' : Fr (21022075495297667614751928455960893690002438624272829115943839442806697504563795810911475838925470847093888365073324129408307927215659038831381730042108594316069968993921710440066615373648013489084747192164702790165341729959309681053742435982348771802000052373069440771396425769052441514403521407536728128889781028801132578826022062769352911176463634450170163296745842783117938980939247969435740743001570797837710407965981817426675496744371408847255540644683853435409907956707419528276220597673982859710791069009098407760090115938669912137943834639403188507830370601269798039898169080981489165239144575694919684542547605895094295783643386486022949610288499640395373040658654793126647779511115211120505631892026006581024605674375718403810353971988226672991384150071118735359260805836448334210284378550299021477624961784815505849836613829000945773667835109750063160924999729813089918945408968987807443139072657540797083733008610554369282190595406709387044689284121274412920058465067984094788550926532608) M (sI M 11 0 123 0) := Fr.wI rfl (Fr.rf _ _)
  exact loop (tp.length + 3) 0 [] A _ 0 0 (by omega) (by omega) List.prefix_rfl (h.w8 f1) ⟨(f1'.I (f := 11) (k := 85) rfl 0).trans t1, t2, t3, fun k hk => (f1'.Ia (f := 402) rfl rfl 1 k).trans (t4 k hk)⟩ (f1'.I (f := 11) (k := 86) rfl 0) ⟨h.2.1.2.1.2.2.2, by rw [mI_sI, if_pos ⟨rfl, rfl, rfl⟩]; rfl, fun x hx => absurd hx (by show ¬ x < 0; omega)⟩ (by rw [List.nil_append]; exact hst.symm) (fun z => absurd rfl z)
end
