/-! KINDS in the works: inferred -/
section
variable {A : List Nm} {W : List Cls} {w c k this : Nat} {br : Int32} {nq nk np nh nr a : Nat} {lo st st2 : List Kd} {M M' : Mem} {Q : Int32 → Mem → Prop} {Q' : Mem → Prop} {R : Tr} {s : Ti}
/-- at the end of rounds -/
def KF (A : List Nm) (W : List Cls) (w c k : Nat) (br : Int32) (nq nk np nh nr this r p : Nat) (R : Tr) (M : Mem) : Prop :=
  KE A W w c k br nq nk np nh nr this M ∧ (mL M 31 this = 20 ∧ mL M 32 this = 24) ∧ TbC A (gmt (gc W c) k) R this M ∧ mI M 4 this 15 = Int32.ofNat (co (gmt (gc W c) k)).length ∧ mI M 4 this 8 = Int32.ofNat r ∧ (r ≠ 0 → mI M 4 this 7 = Int32.ofNat p) ∧ k0 this M
theorem KF.fr {S r p : Nat} (h : KF A W w c k br nq nk np nh nr this r p R M) (hf : Fr S M M') (h0 : k0 this M') (hS : S &&& (5962793378819596268925759763073545913455048584245100042833925462628608873386818161963339549633906619457401328936073113547724710235540697893766355357946092687765169407237505718328565527329261934941166304980269238188912409561250414287236780789939651348638294785338874615078968481011643565015343330074884093037544929396191532759270736180640928801812635202658074573325906354751591404683790748754747876831058567669961097224797834731332609081422942187715306069384429032257638848162357408898095653495813654962368224996846979985066749442320501255987789824) = S := by rfl) : KF A W w c k br nq nk np nh nr this r p R M' := by
  have hf := hf.sub hS
  obtain ⟨h1, h2, h3, h4, h5, h6, h7⟩ := h
  exact ⟨h1.fr hf, ⟨(hf.L (f := 31) rfl this).trans h2.1, (hf.L (f := 32) rfl this).trans h2.2⟩, h3.fr hf, (hf.I (f := 4) (k := 15) rfl this).trans h4, (hf.I (f := 4) (k := 8) rfl this).trans h5, fun z => (hf.I (f := 4) (k := 7) rfl this).trans (h6 z), h0⟩
def ansI (r p : Nat) : Int32 := if r = 0 then 0 else 1000 * Int32.ofNat r + Int32.ofNat p
theorem c_tellE {r p : Nat} (h : KF A W w c k br nq nk np nh nr this r p R M) (h10 : mI M 4 this 10 = 0) (hr : r ≤ 60) (hQ : ∀ M', cTd (tlR W R) this M' → k0 this M' → Q (ansI r p) M') : w_Checker_tell this (fun M16 => if (mI M16 4 this 8) = 0 then (Q (0 : Int32) M16) else (Q (((1000 : Int32) * (mI M16 4 this 8)) + (mI M16 4 this 7)) M16)) M := by
  have h80 := h.1.wf.2.2.1.1
  have hlr := h.1.lr.2
  have hsr := h.1.sr.2
  refine c_tell h.1 h.2.2.1 h.2.2.2.1 h.2.2.2.2.2.2.2.2 (fun M' hf hT h16 hd => ?_)
  have h0 := h.2.2.2.2.2.2.fr hf
  have g := h.fr hf h0
  have ht := cTd_of hT hd g.2.1 h0.2.2 ⟨h0.2.1, (hf.I (f := 4) (k := 10) rfl this).trans h10⟩ h80 ⟨hlr, hsr⟩ g.2.2.2.1 h16
  have hQ := hQ M' ht h0
  unfold ansI at hQ
  rw [g.2.2.2.2.1]
  by_cases e : r = 0
  · rw [if_pos e] at hQ
    exact itp (by rw [e]; rfl) hQ
  · rw [if_neg e] at hQ
    refine itn (ne_oN (b := 0) e (by omega) (by omega)) ?_
    rw [g.2.2.2.2.2.1 e]
    exact hQ
theorem c_inf187 {r p : Nat} (h : KF A W w c k br nq nk np nh nr this r p R M) (hr : r ≤ 60) (hQ : ∀ M', cTd (tlR W R) this M' → k0 this M' → Q (ansI r p) M') : w_Checker_inferred_j187 this Q M := by
  have f : Fr (73163108942571733361052267031577250471841086923252761261765956596670047526218627754151405516980449318495721827436479920830978039699885863727194544269277210892824164505981665255565221194224072821364003742089193106612422203205526555671616942207848482805377850126857357240232742098302375030863108344477105436043496066210939052260990627983324279776842149725865945684980446070571673677101726978585863519399491627852283401531261775844571890569606652610003755452569681377394341695243649188933688999948633803219242024501189938467076680273871180633473024) M (sI M 4 this 10 0) := Fr.wI rfl (Fr.rf _ _)
  obtain ⟨⟨z1, z2⟩, z3, z4⟩ := h.2.2.2.2.2.2
  have h0 : k0 this (sI M 4 this 10 0) := ⟨⟨(f.I (f := 4) (k := 9) rfl 0).trans z1, by
    rw [mI_sI]
    split
    · rfl
    · exact z2⟩, (f.I (f := 4) (k := 9) rfl this).trans z3, (f.L (f := 35) rfl this).trans z4⟩
  exact ⟨Or.inl rfl, c_tellE (h.fr f h0) (by rw [mI_sI, if_pos ⟨rfl, rfl, rfl⟩]) hr hQ⟩
theorem KZx.kf {r p : Nat} (h : KZx A W w c k br nq nk np nh nr this (EI A (gmt (gc W c) k) this s) p r M) (h0 : k0 this M) : KF A W w c k br nq nk np nh nr this r p s.1 M := ⟨h.1, h.2.1, h.2.2.1.1.1, h.2.2.1.1.2.2.2, h.2.2.2.2, fun _ => h.2.2.2.1, h0⟩
theorem KIn.kf {p : Nat} (h : KIn A W w c k br nq nk np nh nr this s M) (h0 : k0 this M) : KF A W w c k br nq nk np nh nr this 0 p s.1 M := ⟨h.1, h.2.1, h.2.2.1.1.1, h.2.2.1.1.2.2.2, h.2.2.2.2, fun z => absurd rfl z, h0⟩
theorem c_infL {R0 : Tr} (hQ : ∀ M', cTd (tlR W (infI W c (gmt (gc W c) k) 100 R0).2) this M' → k0 this M' → Q (ansI (infI W c (gmt (gc W c) k) 100 R0).1.1 (infI W c (gmt (gc W c) k) 100 R0).1.2) M') : ∀ m n R M, n + 1 < m → 1 ≤ n → n ≤ 100 → KIn A W w c k br nq nk np nh nr this (R, true) M → k0 this M → infI W c (gmt (gc W c) k) 100 R0 = infI W c (gmt (gc W c) k) n R → w_Checker_inferred_L51 this Q m (Int32.ofNat (moff W c + k)) (Int32.ofNat (100 - n)) M := by
  intro m
  induction m with
  | zero => intro n R M hn; exact absurd hn (by omega)
  | succ m ih =>
    intro n R M hm h1 h100 h h0 he
    obtain ⟨n', en⟩ : ∃ n', n = n' + 1 := ⟨n - 1, by omega⟩
    obtain ⟨m', em⟩ : ∃ m', m = m' + 1 := ⟨m - 1, by omega⟩
    -- the end
    have fin : ∀ r p R' M' v, infI W c (gmt (gc W c) k) 100 R0 = ((r, p), R') → r ≤ 60 → KF A W w c k br nq nk np nh nr this r p R' M' → (mI M' 4 this 14 = 0 ∨ r ≠ 0) → w_Checker_inferred_L51 this Q m (Int32.ofNat (moff W c + k)) v M' := fun r p R' M' v e1 hr g z => by
      have g187 : w_Checker_inferred_j187 this Q M' := c_inf187 g hr (by rw [e1] at hQ; exact hQ)
      rw [em]
      unfold w_Checker_inferred_L51
      by_cases c1 : mI M' 4 this 14 = 0
      · exact itp c1 g187
      · refine itn c1 (itn ?_ g187)
        rw [g.2.2.2.2.1]
        exact ne_oN (b := 0) (z.resolve_left c1) (by omega) (by omega)
    have e14 : mI M 4 this 14 = 1 := h.2.2.1.1.2.1
    unfold w_Checker_inferred_L51
    refine itn (by rw [e14]; decide) (itp h.2.2.2.2 ⟨Or.inl rfl, ?_⟩)
    have f : Fr (1179755131698969200446967805884183163858437526637450775345976050121304516360275372535691413961309745260743514467413238723399520890160659552601012026342095025646789652658954352245989191756863174244494560341188238844125308026689115710204823193101556785236717833295574885498752966335125797372667622054693325156201374067651392217708473876231104011401579664329588374170309692887968238043265347529697049250316802499118069849691596135493721735434907273336310556672686112210483759835803843171555735124171720076910277645081687757781611469416172787714752512) M (sI (sI M 4 this 14 0) 4 this 7 0) := Fr.wI rfl (Fr.wI rfl (Fr.rf _ _))
    have r14 : mI (sI (sI M 4 this 14 0) 4 this 7 0) 4 this 14 = b2 false := by
      rw [mI_sI, if_neg (fun z => absurd z.2.2 (by decide)), mI_sI, if_pos ⟨rfl, rfl, rfl⟩]; rfl
    have r7 : mI (sI (sI M 4 this 14 0) 4 this 7 0) 4 this 7 = 0 := by rw [mI_sI, if_pos ⟨rfl, rfl, rfl⟩]
    generalize sI (sI M 4 this 14 0) 4 this 7 0 = M1 at f r14 r7 ⊢
    have hK : KIn A W w c k br nq nk np nh nr this (R, false) M1 := by
      obtain ⟨g1, g2, g3, g4, g5⟩ := h
      obtain ⟨⟨t1, t2, t3, t4⟩, -⟩ := g3
      exact ⟨g1.fr f, ⟨(f.L (f := 31) rfl this).trans g2.1, (f.L (f := 32) rfl this).trans g2.2⟩, ExI.ex ⟨t1.fr f, r14, (f.I (f := 4) (k := 10) rfl this).trans t3, (f.I (f := 4) (k := 15) rfl this).trans t4⟩, (f.I (f := 4) (k := 3) rfl this).trans g4, (f.I (f := 4) (k := 8) rfl this).trans g5⟩
    rw [en] at he
    have he2 : infI W c (gmt (gc W c) k) 100 R0 = if (rndI W c (gmt (gc W c) k) (co (gmt (gc W c) k)).length 0 (R, false)).1 ≠ 0 then (((rndI W c (gmt (gc W c) k) (co (gmt (gc W c) k)).length 0 (R, false)).1, (rndI W c (gmt (gc W c) k) (co (gmt (gc W c) k)).length 0 (R, false)).2.1), (rndI W c (gmt (gc W c) k) (co (gmt (gc W c) k)).length 0 (R, false)).2.2.1)
      else if (rndI W c (gmt (gc W c) k) (co (gmt (gc W c) k)).length 0 (R, false)).2.2.2 = false then ((0, 0), (rndI W c (gmt (gc W c) k) (co (gmt (gc W c) k)).length 0 (R, false)).2.2.1) else infI W c (gmt (gc W c) k) n' (rndI W c (gmt (gc W c) k) (co (gmt (gc W c) k)).length 0 (R, false)).2.2.1 := he
    have hle := rndI_le (W := W) (c := c) (x := (gmt (gc W c) k)) (n := (co (gmt (gc W c) k)).length) (a := 0) (s := (R, false))
    have hround := c_round (Q := Q) (k51 := w_Checker_inferred_L51 this Q m) (v := Int32.ofNat (100 - n)) (M := M1) (s := (R, false)) (A := A) (W := W) (w := w) (c := c) (k := k) (br := br) (nq := nq) (nk := nk) (np := np) (nh := nh) (nr := nr) (this := this)
    generalize rndI W c (gmt (gc W c) k) (co (gmt (gc W c) k)).length 0 (R, false) = rs at he2 hle hround
    obtain ⟨r, p, s'⟩ := rs
    obtain ⟨R', b'⟩ := s'
    dsimp only at he2 hle hround
    have ev : Int32.ofNat (100 - n) + (1 : Int32) = Int32.ofNat (100 - n') := by
      rw [show Int32.ofNat (100 - n) + (1 : Int32) = Int32.ofNat (100 - n + 1) from oN_add _ 1]
      congr 1; omega
    refine hround (fun M' z g g0 => ?_) (fun M' z g g0 => ?_) hK r7 (h0.fr f)
    · rw [if_pos z] at he2
      have g := g.kf g0
      have key := fun v => fin r p R' M' v he2 hle g (Or.inr z)
      unfold w_Checker_inferred_j149
      by_cases c1 : mI M' 4 this 14 = 0
      · exact itp c1 (key _)
      refine itn c1 ?_
      by_cases c2 : Int32.ofNat (100 - n) + 1 = (100 : Int32)
      · refine itp c2 (itn ?_ (key _))
        rw [g.2.2.2.2.1]
        exact ne_oN (b := 0) z (by omega) (by omega)
      · exact itn c2 (key _)
    · rw [if_neg (fun q => q z)] at he2
      have g14 : mI M' 4 this 14 = b2 b' := g.2.2.1.1.2.1
      unfold w_Checker_inferred_j149
      rw [g14, ev]
      cases b' with
      | false =>
        rw [if_pos rfl] at he2
        exact itp rfl (fin 0 0 R' M' _ he2 (by omega) (g.kf g0) (Or.inl g14))
      | true =>
        rw [if_neg (by decide)] at he2
        refine itn (by decide) ?_
        by_cases c2 : n' = 0
        · subst c2
          refine itp rfl (itp g.2.2.2.2 (k_breaks (r := 44) g.2.2.2.2 ?_))
          have he3 : infI W c (gmt (gc W c) k) 100 R0 = ((44, 0), R') := he2
          have f2 : Fr (27436165853464400010394600136841468926940407596219785473162233723751267822331985407806777068867668494435895685288679970311616764887457198897697954100978954084809061689743124470836957947834027308011501403283447414979658326202072458376856353327943181052016693797571508965087278286863390636573665629178914538516311024829102144597871485493746604916315806147199729631867667276464377628913147616969698819774809360444606275574223165941714458963602494728751408294713630516522878135716368445850133374980737676207215759187946226925153755102701692737552384) M' (sI (sI M' 4 this 8 (Int32.ofNat 44)) 4 this 7 0) := Fr.wI rfl (Fr.wI rfl (Fr.rf _ _))
          have g2 := g.kf (p := 0) g0
          refine fin 44 0 R' _ _ he3 (by omega) ⟨g2.1.fr f2, ⟨(f2.L (f := 31) rfl this).trans g2.2.1.1, (f2.L (f := 32) rfl this).trans g2.2.1.2⟩, g2.2.2.1.fr f2, (f2.I (f := 4) (k := 15) rfl this).trans g2.2.2.2.1, ?_, fun _ => ?_, g0.fr f2⟩ (Or.inr (by decide))
          · rw [mI_sI, if_neg (fun z => absurd z.2.2 (by decide)), mI_sI, if_pos ⟨rfl, rfl, rfl⟩]
          · rw [mI_sI, if_pos ⟨rfl, rfl, rfl⟩]; rfl
        · refine itn (ne_oN (b := 100) (by omega) (by omega) (by omega)) ?_
          exact ih n' R' M' (by omega) (by omega) (by omega) g g0 he2
/-- the checker that asks is put to a method -/
theorem c_kask (hCW : CWx A W w br nq nk np nh nr M) (hA : nA A) (hKB : KB w nq nk np nh nr) (hc : c < W.length) (hk : k < (gc W c).2.2.2.2.2.length) (hwf : wfM (gmt (gc W c) k)) (hpar : (gc W c).2.1 ≠ []) (hT : mL M 510 this = 80 ∧ mL M 33 this = 80 ∧ mL M 34 this = 3200) (hQ : ∀ M', Fr (2367512478438532184230300703474945089487232672157132321454957751745369819168730907481993137901039227165697498509702342438139930003413494121547185955963642246234981948310750449129305829581844606453825808591667483184286349731853835887436229489257096998280273868948774794445656388837253417014335896584563833719470005517544605894257993602397884115903751438785443336149914122064905252894963696447680279275050410044307376702675225489252313362856013372646271164458927474329138412538725429047692818339635329940594281399306631635786046093223908648062812160) M M' → KE A W w c k br nq nk np nh nr this M' → mI M' 4 this 8 = 0 → mI M' 4 this 15 = Int32.ofNat (co (gmt (gc W c) k)).length → TbC A (gmt (gc W c) k) (noR (gmt (gc W c) k)) this M' → Q' M') : w_Checker_ask this w (Int32.ofNat (moff W c + k)) Q' M := by
  have h80 := hwf.2.2.1.1
  obtain ⟨hH, q0, h0, ⟨-, e63, -⟩, -⟩ := hCW.2.1.2.2 c hc k hk
  have hmo := hCW.mo (e := 0) hc
  have hm : moff W c + k < 381 := by omega
  have lm : ∀ f, 55 ≤ f → f ≤ 65 → mL M f w = 381 := fun f x y => hCW.2.1.1.2.1 f x y
  unfold w_Checker_ask
  rw [oN_tnc (k := moff W c + k) (by omega)]
  refine ⟨by show vp_in _ (mL M 55 w); rw [lm 55 (by omega) (by omega)]; exact (vp_oN (by omega)).mpr hm, _, rfl, by show vp_in _ (mL M 63 w); rw [lm 63 (by omega) (by omega)]; exact (vp_oN (by omega)).mpr hm, _, rfl, ?_⟩
  have e55 : mI (sR M 4 this 4 (some (5, w))) 55 w (moff W c + k) = Int32.ofNat c := by rw [mI_sR]; exact hH.1
  have e63' : ∀ v, mI (sI (sI (sI (sR M 4 this 4 (some (5, w))) 4 this 5 v) 4 this 6 (Int32.ofNat (moff W c + k))) 4 this 8 0) 63 w (moff W c + k) = Int32.ofNat (co (gmt (gc W c) k)).length := fun v => by
    rw [mI_sI, if_neg (fun z => absurd z.1 (by decide)), mI_sI, if_neg (fun z => absurd z.1 (by decide)), mI_sI, if_neg (fun z => absurd z.1 (by decide)), mI_sR]; exact e63
  rw [e55, e63']
  have f0 : Fr (2367512478438532184230300703474945089487232672157132321454957751745369819168730907481993137901039227165697498509702342438139930003413494121547185955963642246234981948310750449129305829581844606453825808591667483184286349731853835887436229489257096998280273868948774794445656388837253417014335896584563833719470005517544605894257993602397884115903751438785443336149914122064905252894963696447680279275050410044307376702675225489252313362856013372646271164458927474329138412538725429047692818339635329940594281399306631635786046093223908648062812160) M (sI (sI (sI (sI (sR M 4 this 4 (some (5, w))) 4 this 5 (Int32.ofNat c)) 4 this 6 (Int32.ofNat (moff W c + k))) 4 this 8 0) 4 this 15 (Int32.ofNat (co (gmt (gc W c) k)).length)) := Fr.wI rfl (Fr.wI rfl (Fr.wI rfl (Fr.wI rfl (Fr.wR rfl (Fr.rf _ _)))))
  have r4 : mR (sI (sI (sI (sI (sR M 4 this 4 (some (5, w))) 4 this 5 (Int32.ofNat c)) 4 this 6 (Int32.ofNat (moff W c + k))) 4 this 8 0) 4 this 15 (Int32.ofNat (co (gmt (gc W c) k)).length)) 4 this 4 = some (5, w) := by
    show mR (sR M 4 this 4 (some (5, w))) 4 this 4 = _
    rw [mR_sR, if_pos ⟨rfl, rfl, rfl⟩]
  have r5 : mI (sI (sI (sI (sI (sR M 4 this 4 (some (5, w))) 4 this 5 (Int32.ofNat c)) 4 this 6 (Int32.ofNat (moff W c + k))) 4 this 8 0) 4 this 15 (Int32.ofNat (co (gmt (gc W c) k)).length)) 4 this 5 = Int32.ofNat c := by simp only [mI_sI, mI_sR, mI_sJ, mR_sI, mL_sI, mL_sR, mR_sR, Nat.reduceEqDiff, and_false, false_and, if_false, and_self, true_and, and_true, if_true]
  have r6 : mI (sI (sI (sI (sI (sR M 4 this 4 (some (5, w))) 4 this 5 (Int32.ofNat c)) 4 this 6 (Int32.ofNat (moff W c + k))) 4 this 8 0) 4 this 15 (Int32.ofNat (co (gmt (gc W c) k)).length)) 4 this 6 = Int32.ofNat (moff W c + k) := by simp only [mI_sI, mI_sR, mI_sJ, mR_sI, mL_sI, mL_sR, mR_sR, Nat.reduceEqDiff, and_false, false_and, if_false, and_self, true_and, and_true, if_true]
  have r8 : mI (sI (sI (sI (sI (sR M 4 this 4 (some (5, w))) 4 this 5 (Int32.ofNat c)) 4 this 6 (Int32.ofNat (moff W c + k))) 4 this 8 0) 4 this 15 (Int32.ofNat (co (gmt (gc W c) k)).length)) 4 this 8 = 0 := by simp only [mI_sI, mI_sR, mI_sJ, mR_sI, mL_sI, mL_sR, mR_sR, Nat.reduceEqDiff, and_false, false_and, if_false, and_self, true_and, and_true, if_true]
  have r15 : mI (sI (sI (sI (sI (sR M 4 this 4 (some (5, w))) 4 this 5 (Int32.ofNat c)) 4 this 6 (Int32.ofNat (moff W c + k))) 4 this 8 0) 4 this 15 (Int32.ofNat (co (gmt (gc W c) k)).length)) 4 this 15 = Int32.ofNat (co (gmt (gc W c) k)).length := by simp only [mI_sI, mI_sR, mI_sJ, mR_sI, mL_sI, mL_sR, mR_sR, Nat.reduceEqDiff, and_false, false_and, if_false, and_self, true_and, and_true, if_true]
  generalize sI (sI (sI (sI (sR M 4 this 4 (some (5, w))) 4 this 5 (Int32.ofNat c)) 4 this 6 (Int32.ofNat (moff W c + k))) 4 this 8 0) 4 this 15 (Int32.ofNat (co (gmt (gc W c) k)).length) = M1 at f0 r4 r5 r6 r8 r15 ⊢
  have hK1 : KE A W w c k br nq nk np nh nr this M1 := ⟨⟨r4, r5, r6⟩, hCW.fr f0, ⟨hc, hk⟩, ⟨hA, hKB⟩, hwf, hpar⟩
  have loop : ∀ n j M2, 80 - j < n → j ≤ 80 → Fr (3351951982485649274893506249551461531869841455148098344430890360930441007518386744200468574541725856922507964546621512713438470702986642486608412251521024) M1 M2 → (∀ i, i < j → mI M2 510 this i = 0) → w_Checker_ask_L37 this Q' n (Int32.ofNat j) M2 := by
    intro n
    induction n with
    | zero => intro j M2 hn; exact absurd hn (by omega)
    | succ n ih =>
      intro j M2 hn hj f2 hz
      unfold w_Checker_ask_L37
      by_cases cj : 80 ≤ j
      · refine itp (le_oN (a := 80) cj (by omega)) (hQ M2 (f0.trans (f2.sub rfl)) (hK1.fr f2) ((f2.I (f := 4) (k := 8) rfl this).trans r8) ((f2.I (f := 4) (k := 15) rfl this).trans r15) ?_)
        have f3 := f0.trans (f2.sub rfl)
        have hnl : (noR (gmt (gc W c) k)).length = (co (gmt (gc W c) k)).length := List.length_replicate ..
        have hnone : ∀ i, gR (noR (gmt (gc W c) k)) i = none := fun i => by
          unfold gR noR
          rw [List.getD_eq_getElem?_getD, List.getElem?_replicate]
          split <;> rfl
        refine ⟨hnl, ⟨(f3.L (f := 510) rfl this).trans hT.1, (f3.L (f := 33) rfl this).trans hT.2.1, (f3.L (f := 34) rfl this).trans hT.2.2⟩, fun i hi => ⟨?_, fun l t e => ?_⟩⟩
        · rw [hnone i, hz i (by omega)]; rfl
        · rw [hnone i] at e; cases e
      refine itn (nle_oN (a := 80) (by omega) (by omega)) ?_
      rw [oN_tnc (k := j) (by omega), show Int32.ofNat j + (1 : Int32) = Int32.ofNat (j + 1) from oN_add j 1, show (0 : Int32) &&& 1 = 0 from rfl]
      refine ⟨?_, ih (j + 1) _ (by omega) (by omega) (Fr.wIa rfl rfl f2) (fun i hi => ?_)⟩
      · have f3 := f0.trans (f2.sub rfl)
        rw [f3.L (f := 510) rfl, hT.1]; exact (vp_oN (by omega)).mpr (by omega)
      · rw [mI_sI]
        by_cases e : i = j
        · rw [if_pos ⟨rfl, rfl, e⟩]
        · rw [if_neg (fun z => e z.2.2)]; exact hz i (by omega)
  exact ⟨81, loop _ 0 M1 (by omega) (by omega) (Fr.rf _ _) (fun i hi => absurd hi (by omega))⟩
/-- kinds inferred, in the works -/
theorem c_inferred {L : Tl} (hCW : CWx A W w br nq nk np nh nr M) (hA : nA A) (hKB : KB w nq nk np nh nr) (hc : c < W.length) (hk : k < (gc W c).2.2.2.2.2.length) (hwf : wfM (gmt (gc W c) k)) (hpar : (gc W c).2.1 ≠ []) (hne : co (gmt (gc W c) k) ≠ []) (ht : cTd L this M) (h0 : k0 this M) (hth : this ≠ 0) (hQ : ∀ M', cTd (tlR W (infS W c (gmt (gc W c) k)).2) this M' → k0 this M' → Q (ansI (infS W c (gmt (gc W c) k)).1.1 (infS W c (gmt (gc W c) k)).1.2) M') : w_Checker_inferred this w (Int32.ofNat (moff W c + k)) Q M := by
  obtain ⟨t1, ⟨l1, l2, l3, l4⟩, t3, -⟩ := ht
  have h80 := hwf.2.2.1.1
  unfold w_Checker_inferred
  refine c_kask hCW hA hKB hc hk hwf hpar ⟨l1, l2, l3⟩ (fun M1 f1 hK1 h8 h15 hT1 => ⟨Or.inr rfl, ?_⟩)
  have f2 : Fr (2440675587381103917591352970506522339959073759080385082716723708342039866694949535236144543418019676484193220337138822358970908043113379985274380500232919457127806112816732114384871050776068679275189812333756676290898771935059362443107846431464945481085651719075632151685889130935555792045199004929040939155513501583755544946518984230381208395680593588511309281834894568135476926572065423426266142794449901672159660104206487265096885253425620025256274919911497155706532754233969078236626507339583963743813523423807821574253122773497779828696285184) M (sI M1 4 this 10 1) := Fr.wI rfl (f1.sub rfl)
  have f2' : Fr (73163108942571733361052267031577250471841086923252761261765956596670047526218627754151405516980449318495721827436479920830978039699885863727194544269277210892824164505981665255565221194224072821364003742089193106612422203205526555671616942207848482805377850126857357240232742098302375030863108344477105436043496066210939052260990627983324279776842149725865945684980446070571673677101726978585863519399491627852283401531261775844571890569606652610003755452569681377394341695243649188933688999948633803219242024501189938467076680273871180633473024) M1 (sI M1 4 this 10 1) := Fr.wI rfl (Fr.rf _ _)
  have h10 : mI (sI M1 4 this 10 1) 4 this 10 = 1 := by rw [mI_sI, if_pos ⟨rfl, rfl, rfl⟩]
  have h02 : k0 this (sI M1 4 this 10 1) := by
    have g := h0.fr f1
    exact ⟨⟨(f2'.I (f := 4) (k := 9) rfl 0).trans g.1.1, by rw [mI_sI, if_neg (fun z => hth z.2.1.symm)]; exact g.1.2⟩, (f2'.I (f := 4) (k := 9) rfl this).trans g.2.1, (f2'.L (f := 35) rfl this).trans g.2.2⟩
  generalize sI M1 4 this 10 1 = M2 at f2 f2' h10 h02 ⊢
  have hK2 := hK1.fr f2'
  have hT2 := hT1.fr f2'
  refine mf_w_Checker_begin (Q := fun M' => Fr F_Checker_begin M2 M' → _) (fun M' hf hp => hp hf) (c_kbegin hK2 ⟨(f2.L (f := 31) rfl this).trans t1.1, (f2.L (f := 32) rfl this).trans t1.2⟩ ((f2'.I (f := 4) (k := 8) rfl this).trans h8) hne (fun M3 hK3 hS3 f3 => ?_))
  have hT3 := hT2.fr f3
  have g15 : mI M3 4 this 15 = Int32.ofNat (co (gmt (gc W c) k)).length := (f3.I (f := 4) (k := 15) rfl this).trans ((f2'.I (f := 4) (k := 15) rfl this).trans h15)
  have g10 : mI M3 4 this 10 = 1 := (f3.I (f := 4) (k := 10) rfl this).trans h10
  have h03 := h02.fr f3
  have hlen : 0 < (co (gmt (gc W c) k)).length := by
    rcases Nat.eq_zero_or_pos (co (gmt (gc W c) k)).length with z | z
    · exact absurd (List.eq_nil_of_length_eq_zero z) hne
    · exact z
  rw [show (0 : Int32).toNatClampNeg = 0 from rfl, show (20 : Int32).toNatClampNeg = 20 from rfl, show (1 : Int32) &&& 1 = 1 from rfl]
  refine ⟨by rw [hT3.2.1.1]; exact (vp_oN (a := 0) (by omega)).mpr (by omega), by show vp_in 0 (mL M3 33 this); rw [hT3.2.1.2.1]; exact (vp_oN (a := 0) (by omega)).mpr (by omega), _, rfl, by decide, by decide, by decide, by show 0 + 20 ≤ mL M3 31 this; rw [hS3.1.1]; omega, by show 0 + 20 ≤ mL M3 34 this; rw [hT3.2.1.2.2]; omega, _, rfl, Or.inr rfl, ?_⟩
  have f4 : Fr (3351951982485649274893506249551461531869841455148098344430890360930441007518386744200468574541725856922507964546621512713438470702986642486608438021324800) M3 (cpI (sI (sI M3 510 this 0 1) 33 this 0 0) 31 this 0 34 this 0 20) := Fr.wcp rfl rfl (Fr.wIa rfl rfl (Fr.wIa rfl rfl (Fr.rf _ _)))
  have hlr := hK3.lr
  have hsr := hK3.sr
  have hpl := hS3.2.1.2
  have hT4 : TbC A (gmt (gc W c) k) ((noR (gmt (gc W c) k)).set 0 (some (padL (gmt (gc W c) k) (begL W c (gmt (gc W c) k)), []))) this (cpI (sI (sI M3 510 this 0 1) 33 this 0 0) 31 this 0 34 this 0 20) := by
    refine TbC.new hT3 hlr.2 hsr.2 (by rw [hT3.1]; exact hlen) f4 ?_ (fun j hj => ?_) ?_ (fun j hj => ?_) hpl (Nat.zero_le _) (fun q hq => ?_) (fun q hq => absurd hq (by simp)) (fun q hq => ?_)
    · rw [mI_cpI, if_neg (fun z => absurd z.1 (by decide)), mI_sI, if_neg (fun z => absurd z.1 (by decide)), mI_sI, if_pos ⟨rfl, rfl, rfl⟩]
    · rw [mI_cpI, if_neg (fun z => absurd z.1 (by decide)), mI_sI, if_neg (fun z => absurd z.1 (by decide)), mI_sI, if_neg (fun z => hj z.2.2)]
    · rw [mI_cpI, if_neg (fun z => absurd z.1 (by decide)), mI_sI, if_pos ⟨rfl, rfl, rfl⟩]; rfl
    · rw [mI_cpI, if_neg (fun z => absurd z.1 (by decide)), mI_sI, if_neg (fun z => hj z.2.2), mI_sI, if_neg (fun z => absurd z.1 (by decide))]
    · rw [mI_cpI, if_pos ⟨rfl, rfl⟩, if_pos (by omega), mI_sI, if_neg (fun z => absurd z.1 (by decide)), mI_sI, if_neg (fun z => absurd z.1 (by decide)), show 0 + (40 * 0 + q - 0) = q by omega]
      exact hS3.2.1.1 q hq
    · rw [mI_cpI, if_pos ⟨rfl, rfl⟩, if_neg (by omega), mI_sI, if_neg (fun z => absurd z.1 (by decide)), mI_sI, if_neg (fun z => absurd z.1 (by decide))]
  generalize cpI (sI (sI M3 510 this 0 1) 33 this 0 0) 31 this 0 34 this 0 20 = M4 at f4 hT4 ⊢
  have f5 : Fr (1170609743081147733776836272505236007549457390772044180188255305546720760419498044066422488271687189095931549238983678733295648635198173819635112708308435374285186632095706644089043539107585165141824059873427089705798755251288424890745871075325575724886045602029717715843723873572838000493809733511633686976695937059375024836175850047733188476429474395613855130959687137129146778833627631657377168262374351694911427930749739875045020090568854540104490977602045343045827853868098855597480749856100648816054493904732477486176213526868547328156893184) M3 (sI M4 4 this 14 1) := Fr.wI rfl (f4.sub rfl)
  have f5' : Fr (1170609743081147733776836272505236007549457390772044180188255305546720760419498044066422488271687189095931549238983678733295648635198173819635112708308435374285186632095706644089043539107585165141824059873427089705798755251288424890745871075325575724886045602029717715843723873572838000493809733511633686976695937059375024836175850047733188476429474395613855130959687137129146778833627631657373816310391866045636534424500188413513150249113706441760060087241114902038309467123898387022939023999178140851507872392019039015473226884381938890135568384) M4 (sI M4 4 this 14 1) := Fr.wI rfl (Fr.rf _ _)
  unfold infS at hQ
  refine ⟨102, c_infL hQ 102 100 _ _ (by omega) (by omega) (by omega) ⟨hK3.fr f5, ⟨(f5.L (f := 31) rfl this).trans hS3.1.1, (f5.L (f := 32) rfl this).trans hS3.1.2⟩, ExI.ex ⟨hT4.fr f5', by rw [mI_sI, if_pos ⟨rfl, rfl, rfl⟩]; rfl, (f5.I (f := 4) (k := 10) rfl this).trans g10, (f5.I (f := 4) (k := 15) rfl this).trans g15⟩, (f5.I (f := 4) (k := 3) rfl this).trans hS3.2.2.2.1, (f5.I (f := 4) (k := 8) rfl this).trans hS3.2.2.2.2⟩ (h03.fr f5) rfl⟩
end
