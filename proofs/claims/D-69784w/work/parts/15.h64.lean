/-! THE OPERATIONS call, asked: the one line of the tape, in the twin -/
abbrev X9 : List Sl := [sB, sZ, sX, sTr, sF, sC, sRe, sNx, sTy]
abbrev FCm : Nat := F_Model_callWords ||| F_Model_methodWords
/-- between lines -/
def TIl (G : List Sl) (US : UST) (B : List Nm) (n : Nat) (p : Nat → Int32) (A A1 : List Nm) (S S1 : List Sg) (M0 M : Mem) : Prop := (TXt 1 n p M ∧ TKs A1 M ∧ (mL M 411 0 = 6002 ∧ mL M 107 0 = 6002 ∧ mL M 108 0 = 6002)) ∧ (A <+: A1 ∧ A1 ⊆ B ∧ S <+: S1) ∧ TV US A1 S1 M ∧ GF G X9 M0 M ∧ mL M 113 0 = 6
section
variable {G : List Sl} {US : UST} {B A A1 : List Nm} {S S1 S' : List Sg} {w n : Nat} {p : Nat → Int32} {L ts : List Tok} {M M' M0 M1 : Mem} {F : Nat} {Q : Int32 → Mem → Prop} {k21 : Int32 → Int32 → Int32 → Int32 → Mem → Prop} {v1 v3 : Int32} {tp : List Int32}
theorem ct_scanL {a to : Nat} (hT : TXt 1 n p M) (hto : to ≤ n) (h10 : p to = 10) (hno : ∀ k, a ≤ k → k < to → p k ≠ 10) (h : w_Model_takesLine_j55 0 Q k21 v1 (Int32.ofNat n) v3 (Int32.ofNat a) (Int32.ofNat to) M) : ∀ d k, to - k < d → a ≤ k → k ≤ to → w_Model_takesLine_L31 0 Q k21 d v1 (Int32.ofNat n) v3 (Int32.ofNat a) (Int32.ofNat k) M := by
  obtain ⟨t1, t2, t3, t4⟩ := hT
  intro d
  induction d with
  | zero => intro k h1; omega
  | succ d ih =>
    intro k h1 h2 h3
    unfold w_Model_takesLine_L31
    by_cases c : k = n
    · have : to = n := by omega
      subst this; subst c
      exact itp (le_oN (by omega) (by omega)) h
    · refine itn (nle_oN (by omega) (by omega)) ⟨(vp_oN (by omega)).mpr (by omega), ?_⟩
      rw [oN_tnc (by omega), t3 k (by omega)]
      by_cases c2 : k = to
      · subst c2; exact itp h10 h
      · refine itn (hno k h2 (by omega)) ?_
        rw [lit32 1, oN_add]
        exact ih (k + 1) (by omega) (by omega) (by omega)
theorem TIl.wd (h : TIl G US B n p A A1 S S1 M0 M) (hx : Gx G w) (hT : Tc G US A1 S' M M') (hS : S1 <+: S') (hf : Fr FCm M M') : TIl G US B n p A A1 S S' M0 M' := by
  obtain ⟨⟨a1, a2, a3, a4, a5⟩, ⟨b1, b2, b3⟩, c, d, e⟩ := h
  exact ⟨⟨a1.fr hf, a2.fr hf, (hf.L (f := 411) rfl 0).trans a3, (hf.L (f := 107) rfl 0).trans a4, (hf.L (f := 108) rfl 0).trans a5⟩, ⟨b1, b2, b3.trans hS⟩, hT.1, d.trans (hT.2.1.sub (by decide)), hT.2.2⟩
theorem ct_takesLine {α : Type} {pf : List Tok → (Nat × Nat) ⊕ α} {P : α → List Nm → List Sg → Mem → Prop} (hx : Gx G w) (hTp : tpT tp M) (hn : tp.length ≤ 1400) (hTG : TG G M) (hV : TV US A S M) (hKs : TKs A M) (hw3 : mL M 411 0 = 6002 ∧ mL M 107 0 = 6002 ∧ mL M 108 0 = 6002) (h113 : mL M 113 0 = 6) (hBl : B.length ≤ 50000) (hAB : A ⊆ B) (hNB : ∀ l ∈ lns (pT tp) tp.length 0, NB B l ∧ UL US l)
    (hP : ∀ x A A' S M M', P x A S M → A <+: A' → Fr F_Model_cutLine M M' → P x A' S M')
    (hW : ∀ A1 S1 L M2 (Q X : Mem → Prop), Tc G US A1 S1 M2 M2 → TQ A1 L L M2 → lz L → UL US L → L ≠ [] → (∀ x S' M', pf L = .inr x → S1 <+: S' → Tc G US A1 S' M2 M' → P x A1 S' M' → Fr FCm M2 M' → Q M') → (∀ e S' M', pf L = .inl e → S1 <+: S' → ThT e M' → Tc G US A1 S' M2 M' → Fr FCm M2 M' → X M') → (if v1 = 0 then w_Model_callWords 0 Q X M2 else w_Model_methodWords 0 Q X M2))
    (hQ : ∀ A' S' x M', takO pf tp.length (lns (pT tp) tp.length 0) = .inr x → TIl G US B tp.length (pT tp) A A' S S' M M' → P x A' S' M' → tpT [] M' → mI M' 11 0 86 = -2 → Q 1 M')
    (hX : ∀ A' S' e M', takO pf tp.length (lns (pT tp) tp.length 0) = .inl e → TIl G US B tp.length (pT tp) A A' S S' M M' → tpT [] M' → mI M' 11 0 86 = Int32.ofNat e.2 → Q 0 M') : w_Model_takesLine 0 v1 Q M := by
  obtain ⟨t1, t2, t3, t4⟩ := id hTp
  have hp := pT_end tp
  have tp0 : ∀ {M' : Mem}, Fr (F_Model_takesLine) M M' → mI M' 11 0 85 = 0 → tpT [] M' := fun hf e => ⟨e, (hf.L (f := 402) rfl 1).trans t2, by simp, fun j hj => absurd hj (by simp)⟩
  generalize hpp : pT tp = p at hp hNB hQ hX
  generalize hnn : tp.length = n at hp hNB hQ hX hn t1 t3 t4
  have hp4 : ∀ k, k < n → mI M 402 1 k = p k := fun k hk => by rw [t4 k hk, ← hpp, pT_in (by omega)]
  -- the end with a refusal
  have bad : ∀ A1 S1 e M1, takO pf n (lns p n 0) = .inl e → TIl G US B n p A A1 S S1 M M1 → ThT e M1 → Fr F_Model_takesLine M M1 → mI M1 11 0 85 = 0 → w_Model_takesLine_j117 0 Q 0 M1 := by
    intro A1 S1 e M1 h1 h2 h3 hfm h85
    unfold w_Model_takesLine_j117
    have hf : Fr (152955730265949879065388293063449190885894048728171249356410694911076989261810346294889138072361462742947975967205450647512828634467289076065802728714396611875199370798667299387064233987243012882279779239359070126122545698012324872643093374662194195858319671046552253911769554317670128616762823421862617607183208956857070580197775145420403795844057709110858292091476634836857112393330666014195163319539066271956183539921634782707227690439114004018887794843495455537121655337304542832689335028946391392024751032361370800645746319341341674865862548463360788503126027362812587233916340344741832561260850166544839772850883352621853524641798769051259657210091970339965868629650902535116240174910600843726610996906136326877637516549844574210949605709088985698991630852623484209174499889460627558657756734103161008370989015273629817601152272465703905426692182007173419412902146940273013889567002253809241251576696650159989685438694218132654220903317085390059544364951734856097901199719257304203264) M1 (sI M1 11 0 86 (mI M1 11 0 50)) := Fr.wI rfl (Fr.rf _ _)
    have hfm2 : Fr F_Model_takesLine M (sI M1 11 0 86 (mI M1 11 0 50)) := Fr.wI rfl hfm
    obtain ⟨⟨a1, a2, a3, a4, a5⟩, b, c, d, e'⟩ := h2
    refine hX A1 S1 e _ h1 ⟨⟨a1.fr hf, a2.fr hf, a3, a4, a5⟩, b, c.fr hf hx, d.fr hf hx.1, e'⟩ (tp0 hfm2 ?_) ?_
    · rw [mI_sI, if_neg (fun z => absurd z.2.2 (by decide))]; exact h85
    · rw [mI_sI, if_pos ⟨rfl, rfl, rfl⟩]; exact h3.2
  have main : ∀ d a A1 S1 (hv : Option α) M1, n + 1 - a < d → a ≤ n + 1 → TIl G US B n p A A1 S S1 M M1 → Fr F_Model_takesLine M M1 → mI M1 11 0 85 = 0 → mI M1 11 0 86 = -2 → (∀ l ∈ Lr p n a, NB B l ∧ UL US l) → (match hv with | none => takO pf n (lns p n 0) = takO pf n (Lr p n a) | some x => P x A1 S1 M1 ∧ takO pf n (lns p n 0) = (match Lr p n a with | [] => .inr x | l2 :: _ => .inl (er l2))) → w_Model_takesLine_L21 0 Q d v1 (Int32.ofNat n) (b2 hv.isSome) (Int32.ofNat a) M1 := by
    intro d
    induction d with
    | zero => intro a A1 S1 hv M1 h; omega
    | succ d ih =>
      intro a A1 S1 hv M1 hd' ha hT1 hfm h85 h86 hNB1 hrun
      unfold w_Model_takesLine_L21
      by_cases cn : a = n + 1
      · refine itp (lt_oN (by omega) (by omega)) ?_
        have eL : Lr p n a = [] := if_neg (by omega)
        rw [eL] at hrun
        cases hv with
        | none =>
          refine itp rfl ?_
          exact mf_w_Model_refuse (Q := fun _ => False) (X := fun M' => ThT (1, n) M') (fun M' hf hp => hp.elim) (fun M' hf hp => by
            obtain ⟨⟨a1, a2, a3, a4, a5⟩, b, c, d', e'⟩ := hT1
            exact bad A1 S1 (1, n) M' hrun ⟨⟨a1.fr hf, a2.fr hf, (hf.L (f := 411) rfl 0).trans a3, (hf.L (f := 107) rfl 0).trans a4, (hf.L (f := 108) rfl 0).trans a5⟩, b, c.fr hf hx, d'.fr hf hx.1, (hf.L (f := 113) rfl 0).trans e'⟩ hp (hfm.trans (hf.sub rfl)) ((hf.I (f := 11) (k := 85) rfl 0).trans h85)) (ct_refuse (fun M' a => a))
        | some x =>
          refine itn (show ¬ (b2 true = 0) by decide) ?_
          exact hQ A1 S1 x M1 hrun.2 hT1 hrun.1 (tp0 hfm h85) h86
      · have han : a ≤ n := by omega
        obtain ⟨x1, x2, x3, x4⟩ := nl_ok hp han
        have hLr := Lr_eq hp han
        refine itn (nlt_oN (by omega) (by omega)) ⟨nl p n a - a + 1, ?_⟩
        generalize hto : nl p n a = to at x1 x2 x3 x4 hLr
        refine ct_scanL hT1.1.1 x2 x3 x4 ?_ _ a (by omega) (Nat.le_refl _) x1
        unfold w_Model_takesLine_j55
        obtain ⟨⟨a1, a2, a3⟩, ⟨b1, b2', b3⟩, c1, d1, e1⟩ := id hT1
        have hAl : A1.length ≤ B.length := nd_le c1.1.1.2.1.1 b2'
        have hTK : TK A1 M1 := by
          have k6 := a2 (6, nMake) (by simp [kF])
          have k7 := a2 (7, nStart) (by simp [kF])
          exact ⟨k6, k7⟩
        refine mf_w_Model_cutLine (Q := fun v M' => Fr F_Model_cutLine M1 M' → (if v = 0 then (w_Model_takesLine_j95 0 Q (w_Model_takesLine_L21 0 Q d) v1 (Int32.ofNat n) (b2 hv.isSome) (Int32.ofNat to) M') else (if b2 hv.isSome = 0 then (w_Model_takesLine_j78 0 Q (w_Model_takesLine_L21 0 Q d) v1 (Int32.ofNat n) (Int32.ofNat to) M') else (w_Model_wrong 0 (fun M15 => w_Model_takesLine_j78 0 Q (w_Model_takesLine_L21 0 Q d) v1 (Int32.ofNat n) (Int32.ofNat to) M15) (fun M16 => w_Model_takesLine_j117 0 Q 0 M16) M')))) (fun v M' hf hp => hp hf) (c_cutLine hx.1 d1.1 c1.1.1 a1 hTK a3 (by omega) x1 x2 x3 x4 (fun M2 hTL hf2 => ?_))
        obtain ⟨hg2, hN2, hX2, hWA2, hK2⟩ := hTL
        have hpre := foldT_pre (tks p n a) A1
        have hsub : foldT A1 (tks p n a) ⊆ B := by
          by_cases c1 : 1 < (full to (tks p n a)).length
          · rw [if_pos c1] at hLr
            have := (hNB1 _ (by rw [hLr]; exact List.mem_cons_self)).1
            refine foldT_sub _ _ b2' (fun t ht => this t ?_)
            unfold full; split
            · exact List.mem_append_left _ ht
            · exact ht
          · have hk0 : (hd (full to (tks p n a))).1 = 0 := Classical.byContradiction (fun q => c1 ((full_two hp (by omega)).mpr q))
            rw [full_hd (tks_ne hp (by omega)), tks_hd hp (by omega)] at hk0
            have : tks p n a = [(lex p n a).1] := by rw [tks_eq hp (by omega), if_pos (by omega)]
            rw [this]
            refine foldT_sub _ _ b2' (fun t ht => ?_)
            rw [List.mem_singleton.mp ht, hk0]; intro q; cases q
        have hAl2 : (foldT A1 (tks p n a)).length ≤ B.length := nd_le hN2.2.1.1 hsub
        have hT2 : TIl G US B n p A (foldT A1 (tks p n a)) S S1 M M2 := ⟨⟨hX2, (a2.fr hf2).pre hpre, hWA2.2.1⟩, ⟨b1.trans hpre, hsub, b3⟩, c1.cut hf2 hg2 hx hN2 hpre, d1.trans (hg2.sub (by decide)), (hf2.L (f := 113) rfl 0).trans e1⟩
        have hfm2 : Fr F_Model_takesLine M M2 := hfm.trans (hf2.sub rfl)
        have h852 : mI M2 11 0 85 = 0 := (hf2.I (f := 11) (k := 85) rfl 0).trans h85
        have h862 : mI M2 11 0 86 = -2 := (hf2.I (f := 11) (k := 86) rfl 0).trans h86
        by_cases c1' : 1 < (full to (tks p n a)).length
        · rw [decide_eq_true c1']
          refine itn (by decide) ?_
          rw [if_pos c1'] at hLr
          have hz : lz (full to (tks p n a)) := full_lz hp (by omega)
          have hok := tks_ok hp _ a (Nat.le_refl _) (by omega)
          have hL1 := tks_len hp _ a (Nat.le_refl _) (by omega)
          have hL2 := full_len to (tks p n a)
          have hNL := hNB1 _ (by rw [hLr]; exact List.mem_cons_self)
          have hq2 : TQ (foldT A1 (tks p n a)) (full to (tks p n a)) (full to (tks p n a)) M2 := by
            refine ⟨⟨hWA2, hT2.1.2.1, by omega, by omega, fun t ht => ?_⟩, 0, hK2.2, rfl, Nat.zero_le _⟩
            rcases full_mem ht with q | q
            · exact (hok t q).2.1
            · rw [q]; exact (by decide : (0 : Nat) < 100)
          have hneL : full to (tks p n a) ≠ [] := fun q => by rw [q] at c1'; simp at c1'
          have hTc : Tc G US (foldT A1 (tks p n a)) S1 M2 M2 := ⟨hT2.2.2.1, GF.rf hT2.2.2.2.1.1, hT2.2.2.2.2⟩
          cases hv with
          | none =>
            refine itp rfl ?_
            unfold w_Model_takesLine_j78
            rw [hLr] at hrun
            refine hW _ S1 _ M2 _ _ hTc hq2 hz hNL.2 hneL (fun x S' M3 y1 y2 y3 y4 hf3 => ?_) (fun e S' M3 y1 y2 y3 y4 hf3 => ?_)
            · unfold w_Model_takesLine_j95
              rw [lit32 1, oN_add]
              refine ih (to + 1) _ S' (some x) M3 (by omega) (by omega) (hT2.wd hx y3 y2 hf3) (hfm2.trans (hf3.sub rfl)) ((hf3.I (f := 11) (k := 85) rfl 0).trans h852) ((hf3.I (f := 11) (k := 86) rfl 0).trans h862) (fun l hl => hNB1 l (by rw [hLr]; exact List.mem_cons_of_mem _ hl)) ⟨y4, ?_⟩
              rw [hrun]
              conv => lhs; unfold takO
              dsimp only
              rw [y1]
              all_goals (cases Lr p n (to + 1) <;> rfl)
            · refine bad _ S' e M3 ?_ (hT2.wd hx y4 y2 hf3) y3 (hfm2.trans (hf3.sub rfl)) ((hf3.I (f := 11) (k := 85) rfl 0).trans h852)
              rw [hrun]
              conv => lhs; unfold takO
              dsimp only
              rw [y1]
          | some x =>
            refine itn (show ¬ (b2 true = 0) by decide) ?_
            have hr2 := hrun.2
            rw [hLr] at hr2
            exact mf_w_Model_wrong (Q := fun _ => False) (X := fun M' => ThT (er (full to (tks p n a))) M') (fun M' hf hp => hp.elim) (fun M' hf hp => by
              obtain ⟨⟨a1, a2, a3, a4, a5⟩, b, c, d', e'⟩ := hT2
              exact bad _ S1 (er (full to (tks p n a))) M' hr2 ⟨⟨a1.fr hf, a2.fr hf, (hf.L (f := 411) rfl 0).trans a3, (hf.L (f := 107) rfl 0).trans a4, (hf.L (f := 108) rfl 0).trans a5⟩, b, c.fr hf hx, d'.fr hf hx.1, (hf.L (f := 113) rfl 0).trans e'⟩ hp (hfm2.trans (hf.sub rfl)) ((hf.I (f := 11) (k := 85) rfl 0).trans h852)) (ct_wrong hq2 hneL (fun M' a => a))
        · rw [decide_eq_false c1']
          refine itp rfl ?_
          rw [if_neg c1'] at hLr
          rw [hLr] at hrun hNB1
          unfold w_Model_takesLine_j95
          rw [lit32 1, oN_add]
          refine ih (to + 1) _ S1 hv M2 (by omega) (by omega) hT2 hfm2 h852 h862 hNB1 ?_
          cases hv with
          | none => exact hrun
          | some x => exact ⟨hP x _ _ _ _ _ hrun.1 hpre hf2, hrun.2⟩
  unfold w_Model_takesLine
  rw [t1]
  obtain ⟨M6, hM6⟩ : ∃ M6, M6 = sI (sI M 11 0 85 0) 11 0 86 (-2) := ⟨_, rfl⟩
  rw [← hM6]
  have hf : Fr (229433595398924818598082439595173786328841073092256874034616042366615483892715519442333707108542194114421963950808175971269242951700933614098704093071594917812799056198000949080596350980864519323419668859038605189183818547018487308964640061993291293787479506569828380867654331476505192925144235132793926410774813435285605870296662718130605693766086563666287438137214952255285668589995999021292744979308599407934275309882452174060841535658671006028331692265243183305682483005956814249034002543419587088037126548542056200968619479012012512298793822695041182754689041044218880850874510517112748841891275249817259659276325028932780286962698153576889485815137955509948802944476353802674360262365901265589916495359204490316456274824766861316424408563633478548487446278935226313761749834190941337986635101154741512556483522910444726401728408698555858140038273010760129119353220410409520834350503380713861877365044975239984528158041327198981331354975628085089316547427602284146851799578885956304896) M M6 := by rw [hM6]; exact Fr.wI rfl (Fr.wI rfl (Fr.rf _ _))
  have c85 : mI M6 11 0 85 = 0 := by rw [hM6]; simp only [mI_sI, mI_sR, mI_sJ, mR_sI, mL_sI, mL_sR, mR_sR, Nat.reduceEqDiff, and_false, false_and, if_false, and_self, true_and, and_true, if_true]
  have c86 : mI M6 11 0 86 = -2 := by rw [hM6]; simp only [mI_sI, mI_sR, mI_sJ, mR_sI, mL_sI, mL_sR, mR_sR, Nat.reduceEqDiff, and_false, false_and, if_false, and_self, true_and, and_true, if_true]
  clear hM6
  have e0 : Lr p n 0 = lns p n 0 := if_pos (Nat.zero_le _)
  refine ⟨n + 2, main _ 0 A S none M6 (by omega) (by omega) ⟨⟨⟨by rw [hf.L (f := 402) rfl, t2]; exact t3, by omega, fun k hk => (hf.Ia (f := 402) rfl rfl 1 k).trans (hp4 k hk), hp⟩, hKs.fr hf, (hf.L (f := 411) rfl 0).trans hw3.1, (hf.L (f := 107) rfl 0).trans hw3.2.1, (hf.L (f := 108) rfl 0).trans hw3.2.2⟩, ⟨List.prefix_refl _, hAB, List.prefix_refl _⟩, hV.fr hf hx, (GF.rf hTG).fr hf hx.1, (hf.L (f := 113) rfl 0).trans h113⟩ (hf.sub rfl) c85 c86 (by rw [e0]; exact hNB) (by rw [e0])⟩
/-- of a call's line -/
def PcT (x : Nm × Nm × Kd × List Int32) (A : List Nm) (S : List Sg) (M : Mem) : Prop := (x.1 ∈ A ∧ x.2.1 ∈ A ∧ kok A x.2.2.1 ∧ x.2.2.2.length ≤ 6) ∧ (mI M 11 0 88 = nc A x.1 ∧ mI M 11 0 89 = nc A x.2.1 ∧ mI M 11 0 90 = Int32.ofNat (S.idxOf (sg A (kNs x.2.2.2.length) x.2.2.1))) ∧ sg A (kNs x.2.2.2.length) x.2.2.1 ∈ S ∧ ∀ i, i < x.2.2.2.length → mI M 113 0 i = x.2.2.2.getD i 0
/-- of an asked line -/
def PaT (x : Nm × Nm × List Kd × Kd) (A : List Nm) (S : List Sg) (M : Mem) : Prop := (x.1 ∈ A ∧ x.2.1 ∈ A ∧ (∀ κ ∈ x.2.2.1, kok A κ) ∧ kok A x.2.2.2 ∧ x.2.2.1.length ≤ 6) ∧ (mI M 11 0 88 = nc A x.1 ∧ mI M 11 0 91 = nc A x.2.1 ∧ mI M 11 0 92 = Int32.ofNat (S.idxOf (sg A x.2.2.1 x.2.2.2))) ∧ sg A x.2.2.1 x.2.2.2 ∈ S
theorem kNs_ok {n : Nat} : ∀ κ ∈ kNs n, kok A κ := fun κ hκ => by rw [List.eq_of_mem_replicate hκ]; exact fun z => absurd z (by decide)
theorem ct_takesC (hx : Gx G w) (hTp : tpT tp M) (hn : tp.length ≤ 1400) (hTG : TG G M) (hV : TV US A S M) (hKs : TKs A M) (hw3 : mL M 411 0 = 6002 ∧ mL M 107 0 = 6002 ∧ mL M 108 0 = 6002) (h113 : mL M 113 0 = 6) (hBl : B.length ≤ 50000) (hAB : A ⊆ B) (hNB : ∀ l ∈ lns (pT tp) tp.length 0, NB B l ∧ UL US l)
    (hQ : ∀ A' S' x M', takO pCall tp.length (lns (pT tp) tp.length 0) = .inr x → TIl G US B tp.length (pT tp) A A' S S' M M' → PcT x A' S' M' → tpT [] M' → mI M' 11 0 86 = -2 → Q 1 M')
    (hX : ∀ A' S' e M', takO pCall tp.length (lns (pT tp) tp.length 0) = .inl e → TIl G US B tp.length (pT tp) A A' S S' M M' → tpT [] M' → mI M' 11 0 86 = Int32.ofNat e.2 → Q 0 M') : w_Model_takesLine 0 0 Q M := by
  refine ct_takesLine (P := PcT) hx hTp hn hTG hV hKs hw3 h113 hBl hAB hNB (fun x A A' S M M' h hp hf => ?_) (fun A1 S1 L M2 Q X hT hq hz hU hne hQ' hX' => ?_) hQ hX
  · obtain ⟨⟨a1, a2, a3, a4⟩, ⟨b1, b2, b3⟩, c, d⟩ := h
    have e := sg_pre hp (kNs_ok (n := x.2.2.2.length)) a3
    exact ⟨⟨hp.subset a1, hp.subset a2, kok_pre hp a3, a4⟩, ⟨by rw [hf.I (f := 11) (k := 88) rfl, b1, nc_pre hp a1], by rw [hf.I (f := 11) (k := 89) rfl, b2, nc_pre hp a2], by rw [hf.I (f := 11) (k := 90) rfl, b3, e]⟩, by rw [e]; exact c, fun i hi => (hf.Ia (f := 113) rfl rfl 0 i).trans (d i hi)⟩
  · rw [if_pos rfl]
    exact mf_w_Model_callWords (Q := fun M' => Fr F_Model_callWords M2 M' → Q M') (X := fun M' => Fr F_Model_callWords M2 M' → X M') (fun _ hf hp => hp hf) (fun _ hf hp => hp hf) (ct_callWords hx hz hU hq hne hT (fun k m κ vs M' y1 y2 y3 y4 y5 y6 hf => hQ' (k, m, κ, vs) _ M' y1 (ins_pre _ _) y6.1 ⟨⟨y2, y3, y4, y5⟩, ⟨y6.2.1.1, y6.2.1.2.1, by rw [ins_idx]; exact y6.2.1.2.2⟩, ins_mem _ _, y6.2.2⟩ (hf.sub rfl)) (fun e S' M' y1 y2 y3 y4 hf => hX' e S' M' y1 y2 y3 y4 (hf.sub rfl)))
theorem ct_takesA (hx : Gx G w) (hTp : tpT tp M) (hn : tp.length ≤ 1400) (hTG : TG G M) (hV : TV US A S M) (hKs : TKs A M) (hw3 : mL M 411 0 = 6002 ∧ mL M 107 0 = 6002 ∧ mL M 108 0 = 6002) (h113 : mL M 113 0 = 6) (hBl : B.length ≤ 50000) (hAB : A ⊆ B) (hNB : ∀ l ∈ lns (pT tp) tp.length 0, NB B l ∧ UL US l)
    (hQ : ∀ A' S' x M', takO pAsk tp.length (lns (pT tp) tp.length 0) = .inr x → TIl G US B tp.length (pT tp) A A' S S' M M' → PaT x A' S' M' → tpT [] M' → mI M' 11 0 86 = -2 → Q 1 M')
    (hX : ∀ A' S' e M', takO pAsk tp.length (lns (pT tp) tp.length 0) = .inl e → TIl G US B tp.length (pT tp) A A' S S' M M' → tpT [] M' → mI M' 11 0 86 = Int32.ofNat e.2 → Q 0 M') : w_Model_takesLine 0 1 Q M := by
  refine ct_takesLine (P := PaT) hx hTp hn hTG hV hKs hw3 h113 hBl hAB hNB (fun x A A' S M M' h hp hf => ?_) (fun A1 S1 L M2 Q X hT hq hz hU hne hQ' hX' => ?_) hQ hX
  · obtain ⟨⟨a1, a2, a3, a3', a4⟩, ⟨b1, b2, b3⟩, c⟩ := h
    have e := sg_pre hp a3 a3'
    exact ⟨⟨hp.subset a1, hp.subset a2, fun κ hκ => kok_pre hp (a3 κ hκ), kok_pre hp a3', a4⟩, ⟨by rw [hf.I (f := 11) (k := 88) rfl, b1, nc_pre hp a1], by rw [hf.I (f := 11) (k := 91) rfl, b2, nc_pre hp a2], by rw [hf.I (f := 11) (k := 92) rfl, b3, e]⟩, by rw [e]; exact c⟩
  · rw [if_neg (by decide)]
    exact mf_w_Model_methodWords (Q := fun M' => Fr F_Model_methodWords M2 M' → Q M') (X := fun M' => Fr F_Model_methodWords M2 M' → X M') (fun _ hf hp => hp hf) (fun _ hf hp => hp hf) (ct_methodWords hx hz hU hq hne hT (fun k m ks κ M' y1 y2 y3 y4 y5 y6 y7 hf => hQ' (k, m, ks, κ) _ M' y1 (ins_pre _ _) y7.1 ⟨⟨y2, y3, y4, y5, y6⟩, ⟨y7.2.1, y7.2.2.1, by rw [ins_idx]; exact y7.2.2.2⟩, ins_mem _ _⟩ (hf.sub rfl)) (fun e S' M' y1 y2 y3 y4 hf => hX' e S' M' y1 y2 y3 y4 (hf.sub rfl)))
end
