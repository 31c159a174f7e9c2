/-! KINDS in the twin: rounds; records -/
theorem gdL_pad {x : Mth} {fl : List Kd} (h : ∀ κ ∈ fl, κ.1 ≠ -4) : gdL (padL x fl) := fun κ hκ => by
  unfold padL at hκ
  rcases List.mem_append.mp hκ with z | z
  · exact h κ z
  · rw [(List.mem_replicate.mp z).2]; decide
theorem gdL_beg {W : List Cls} {c : Nat} {x : Mth} (hw : wfM x) : gdL (padL x (begL W c x)) := gdL_pad (fun κ hκ => by
  unfold begL at hκ
  rcases List.mem_append.mp hκ with z | z
  · split at z
    · rw [List.mem_singleton.mp z]
      split <;> first | decide | (show (2 : Int) ≠ -4; decide)
    · cases z
  · rcases hw.1.1 κ z with q | q | q
    · rw [q]; decide
    · rw [q]; decide
    · rw [q]; decide)
theorem gdR_no {x : Mth} : gdR (noR x) := fun i l t e => by
  unfold gR noR at e
  rw [List.getD_eq_getElem?_getD, List.getElem?_replicate] at e
  split at e <;> cases e
abbrev gdK (s : KSt) : Prop := s.2.2 = true → gdL s.1 ∧ gdS s.2.1
theorem wfI_at {x : Mth} (hw : wfM x) {a : Nat} (ha : a < (co x).length) : wfI (co x).length (gin (co x) a) := hw.2.2.1.2 _ (by
  show (co x).getD a _ ∈ _
  rw [List.getD_eq_getElem?_getD, List.getElem?_eq_getElem ha]; exact List.getElem_mem ha)
theorem ent_good {W : List Cls} {x : Mth} {a : Nat} {s : KSt} {y : List Kd × List Kd} (hw : wfM x) (ha : a < (co x).length) (h : gdK s) (e : entS W x a s = .inr y) : gdL y.1 ∧ gdS y.2 := by
  unfold entS at e
  cases hf : frOf x a with
  | none =>
    rw [hf] at e
    have e : (if s.2.2 = true then (Sum.inr (s.1, s.2.1) : Nat ⊕ (List Kd × List Kd)) else .inl 36) = .inr y := e
    by_cases c : s.2.2 = true
    · rw [if_pos c] at e
      cases e
      exact h c
    · rw [if_neg c] at e; cases e
  | some f =>
    obtain ⟨fl, fs⟩ := f
    rw [hf] at e
    have e : (if wrongF x fl fs = true then (Sum.inl 38 : Nat ⊕ (List Kd × List Kd)) else if s.2.2 = true ∧ fitS W s.1 s.2.1 fl fs ≠ 0 then .inl (fitS W s.1 s.2.1 fl fs) else .inr (padL x fl, fs)) = .inr y := e
    by_cases c : wrongF x fl fs = true
    · rw [if_pos c] at e; cases e
    rw [if_neg c] at e
    by_cases c2 : s.2.2 = true ∧ fitS W s.1 s.2.1 fl fs ≠ 0
    · rw [if_pos c2] at e; cases e
    rw [if_neg c2] at e
    cases e
    have hk := (wfI_at hw ha).2.2.2.2 (fl, fs) hf
    have h4 : ∀ κ ∈ fl ++ fs, κ.1 ≠ -4 := fun κ hκ => by
      rcases hk κ hκ with q | q | q | q | q | q <;> rw [q] <;> decide
    refine ⟨gdL_pad (fun κ hκ => h4 κ (List.mem_append_left _ hκ)), fun κ hκ => ⟨h4 κ (List.mem_append_right _ hκ), fun z => c ?_⟩⟩
    obtain ⟨j, hj, ej⟩ := mem_gk hκ
    have hj : j < fs.length := hj
    refine wrongF_iff.mpr (Or.inr ⟨fl.length + j, by omega, Or.inl ⟨?_, by omega⟩⟩)
    show (gk (fl ++ fs) (fl.length + j)).1 = -2
    rw [gk_ap, if_neg (by omega), show fl.length + j - fl.length = j by omega, ej]; exact z
theorem step_good {W : List Cls} {c : Nat} {x : Mth} {a : Nat} {lo st : List Kd} {s : KSt} (hw : wfM x) (ha : a < (co x).length) (hl : gdL lo) (hs : gdS st) (e : stepS W c x a lo st = .inr s) : gdK s := by
  unfold stepS at e
  split at e
  · cases e
  split at e
  · cases e
  rename_i ht
  split at e
  · cases e
  split at e
  · cases e
  split at e
  · cases e
  split at e
  · cases e
  split at e
  · cases e
    exact fun _ => good_next hl hs (wfI_at hw ha) (Decidable.not_not.mp ht)
  · cases e
    exact fun z => by cases z
section
variable {G : List Sl} {US : UST} {A : List Nm} {S : List Sg} {W : List Cls} {w c k : Nat} {br : Int32} {nq nl nf nk : Nat} {M M' : Mem} {Q : Int32 → Mem → Prop} {Q' : Mem → Prop} {n a : Nat} {s : Ti} {R : Tr} {lo st : List Kd} {Ex : Mem → Prop}
theorem ct_record (hT : TbT A (gmt (gc W c) k) R M) (hlr : lr (gmt (gc W c) k) ≤ 20) (hsr : sr (gmt (gc W c) k) ≤ 20) (h80 : (co (gmt (gc W c) k)).length ≤ 80) (h102 : mI M 11 0 102 = Int32.ofNat (lr (gmt (gc W c) k))) (hl : mL M 111 0 = 20 ∧ mL M 212 0 = 28) (hlo : TLk A (co (gmt (gc W c) k)) 111 0 lo M) (hll : lo.length = lr (gmt (gc W c) k)) (hst : TLk A (co (gmt (gc W c) k)) 212 0 st M) (h72 : mI M 11 0 72 = Int32.ofNat st.length) (hsl : st.length ≤ sr (gmt (gc W c) k)) (ha : a < (co (gmt (gc W c) k)).length) (hQ : ∀ M', Fr (1716199415032652428745475199770348304317358825035826352348615864796385795849414013030639910165363638744324077847870214509425881311968136126742360969996926976) M M' → TbT A (gmt (gc W c) k) (R.set a (some (lo, st))) M' → Q' M') : w_Model_record 0 (Int32.ofNat a) Q' M := by
  obtain ⟨t1, ⟨l1, l2, l3, l4⟩, t2⟩ := id hT
  unfold w_Model_record
  have ez : (0 : Int32).toNatClampNeg = 0 := rfl
  have n0 : ∀ g i q, g ≠ 519 → g ≠ 114 → mI (sI (sI M 519 0 a 1) 114 0 a (Int32.ofNat st.length)) g i q = mI M g i q := fun g i q z1 z2 => by rw [mI_sI, if_neg (fun z => z2 z.1), mI_sI, if_neg (fun z => z1 z.1)]
  have r72 : mI (sI M 519 0 a 1) 11 0 72 = Int32.ofNat st.length := by rw [mI_sI, if_neg (fun z => absurd z.1 (by decide))]; exact h72
  rw [oN_tnc (k := a) (by omega), show (1 : Int32) &&& 1 = 1 from rfl, r72, show (20 : Int32) * Int32.ofNat a = Int32.ofNat (20 * a) from oN_mul 20 a, show (28 : Int32) * Int32.ofNat a = Int32.ofNat (28 * a) from oN_mul 28 a, ez, oN_tnc (k := 20 * a) (by omega), oN_tnc (k := 28 * a) (by omega)]
  refine ⟨by rw [l1]; exact (vp_oN (by omega)).mpr (by omega), by show vp_in _ (mL M 114 0); rw [l2]; exact (vp_oN (by omega)).mpr (by omega), _, rfl, by decide, oN_nonneg (by omega), ?_⟩
  rw [n0 11 0 102 (by decide) (by decide), h102, oN_tnc (k := lr (gmt (gc W c) k)) (by omega)]
  refine ⟨oN_nonneg (by omega), by show 0 + lr (gmt (gc W c) k) ≤ mL M 111 0; rw [hl.1]; omega, by show 20 * a + lr (gmt (gc W c) k) ≤ mL M 115 0; rw [l3]; omega, _, rfl, by decide, oN_nonneg (by omega), ?_⟩
  have s72 : mI (cpI (sI (sI M 519 0 a 1) 114 0 a (Int32.ofNat st.length)) 111 0 0 115 0 (20 * a) (lr (gmt (gc W c) k))) 11 0 72 = Int32.ofNat st.length := by rw [mI_cpI, if_neg (fun z => absurd z.1 (by decide)), n0 _ _ _ (by decide) (by decide)]; exact h72
  rw [s72, oN_tnc (k := st.length) (by omega)]
  refine ⟨oN_nonneg (by omega), by show 0 + st.length ≤ mL M 212 0; rw [hl.2]; omega, by show 28 * a + st.length ≤ mL M 116 0; rw [l4]; omega, _, rfl, ?_⟩
  have f5 : Fr (1716199415032652428745475199770348304317358825035826352348615864796385795849414013030639910165363638744324077847870214509425881311968136126742360969996926976) M (cpI (cpI (sI (sI M 519 0 a 1) 114 0 a (Int32.ofNat st.length)) 111 0 0 115 0 (20 * a) (lr (gmt (gc W c) k))) 212 0 0 116 0 (28 * a) st.length) := Fr.wcp rfl rfl (Fr.wcp rfl rfl (Fr.wIa rfl rfl (Fr.wIa rfl rfl (Fr.rf _ _))))
  refine hQ _ f5 ?_
  refine TbT.new hT hlr hsr (by omega) f5 ?_ (fun j hj => ?_) ?_ (fun j hj => ?_) hll hsl (fun q hq => ?_) (fun q hq => ?_) (fun q hq => ?_) (fun q hq => ?_)
  · rw [mI_cpI, if_neg (fun z => absurd z.1 (by decide)), mI_cpI, if_neg (fun z => absurd z.1 (by decide)), mI_sI, if_neg (fun z => absurd z.1 (by decide)), mI_sI, if_pos ⟨rfl, rfl, rfl⟩]
  · rw [mI_cpI, if_neg (fun z => absurd z.1 (by decide)), mI_cpI, if_neg (fun z => absurd z.1 (by decide)), mI_sI, if_neg (fun z => absurd z.1 (by decide)), mI_sI, if_neg (fun z => hj z.2.2)]
  · rw [mI_cpI, if_neg (fun z => absurd z.1 (by decide)), mI_cpI, if_neg (fun z => absurd z.1 (by decide)), mI_sI, if_pos ⟨rfl, rfl, rfl⟩]
  · rw [mI_cpI, if_neg (fun z => absurd z.1 (by decide)), mI_cpI, if_neg (fun z => absurd z.1 (by decide)), mI_sI, if_neg (fun z => hj z.2.2), mI_sI, if_neg (fun z => absurd z.1 (by decide))]
  · rw [mI_cpI, if_neg (fun z => absurd z.1 (by decide)), mI_cpI, if_pos ⟨rfl, rfl⟩, if_pos (by omega), n0 _ _ _ (by decide) (by decide), Nat.zero_add, show 20 * a + q - 20 * a = q by omega]; exact hlo q hq
  · rw [mI_cpI, if_pos ⟨rfl, rfl⟩, if_pos (by omega), mI_cpI, if_neg (fun z => absurd z.1 (by decide)), n0 _ _ _ (by decide) (by decide), Nat.zero_add, show 28 * a + q - 28 * a = q by omega]; exact hst q hq
  · rw [mI_cpI, if_neg (fun z => absurd z.1 (by decide)), mI_cpI, if_pos ⟨rfl, rfl⟩, if_neg (by omega), n0 _ _ _ (by decide) (by decide)]
  · rw [mI_cpI, if_pos ⟨rfl, rfl⟩, if_neg (by omega), mI_cpI, if_neg (fun z => absurd z.1 (by decide)), n0 _ _ _ (by decide) (by decide)]
/-- between looks in the twin -/
def TIn (G : List Sl) (US : UST) (A : List Nm) (S : List Sg) (W : List Cls) (w c k : Nat) (br : Int32) (nq nl nf nk : Nat) (s : Ti) (M : Mem) : Prop :=
  TE G US A S W w c k br nq nl nf nk M ∧ TJn A (gmt (gc W c) k) s M ∧ ((mL M 111 0 = 20 ∧ mL M 212 0 = 28 ∧ mL M 112 0 = 10) ∧ mL M 212 1 = 1) ∧ mI M 11 0 73 = b2 true
theorem TIn.fr {F : Nat} (h : TIn G US A S W w c k br nq nl nf nk s M) (hf : Fr F M M') (hT : TJn A (gmt (gc W c) k) s M') (hF : teOk F = true := by rfl) (hF2 : okF F [5111, 5212, 5112, 3273] = true := by rfl) : TIn G US A S W w c k br nq nl nf nk s M' :=
  ⟨h.1.fr hf hF, hT, ⟨⟨(hf.L (f := 111) (okF_in hF2 (by simp)) 0).trans h.2.2.1.1.1, (hf.L (f := 212) (okF_in hF2 (by simp)) 0).trans h.2.2.1.1.2.1, (hf.L (f := 112) (okF_in hF2 (by simp)) 0).trans h.2.2.1.1.2.2⟩, (hf.L (f := 212) (okF_in hF2 (by simp)) 1).trans h.2.2.1.2⟩, (hf.I (f := 11) (k := 73) (okF_in hF2 (by simp [cd])) 0).trans h.2.2.2⟩
theorem ct_round {k18 : Int32 → Mem → Prop} {v : Int32} (hB : BI W) (h : TIn G US A S W w c k br nq nl nf nk s M)
    (hX : ∀ M', (rndI W c (gmt (gc W c) k) (co (gmt (gc W c) k)).length 0 s).1 ≠ 0 → TIn G US A S W w c k br nq nl nf nk (rndI W c (gmt (gc W c) k) (co (gmt (gc W c) k)).length 0 s).2.2 M' → mI M' 11 0 74 = Int32.ofNat (rndI W c (gmt (gc W c) k) (co (gmt (gc W c) k)).length 0 s).2.1 → Q (Int32.ofNat (rndI W c (gmt (gc W c) k) (co (gmt (gc W c) k)).length 0 s).1) M')
    (hQ : ∀ M', (rndI W c (gmt (gc W c) k) (co (gmt (gc W c) k)).length 0 s).1 = 0 → TIn G US A S W w c k br nq nl nf nk (rndI W c (gmt (gc W c) k) (co (gmt (gc W c) k)).length 0 s).2.2 M' → w_Model_infer_j97 0 Q k18 (b2 (rndI W c (gmt (gc W c) k) (co (gmt (gc W c) k)).length 0 s).2.2.2) v M') : ∃ n, w_Model_infer_L33 0 Q k18 n v 0 M := by
  have h80 := h.1.wf.2.2.1.1
  have loop : ∀ n a s1 M1, (co (gmt (gc W c) k)).length - a < n → a ≤ (co (gmt (gc W c) k)).length → TIn G US A S W w c k br nq nl nf nk s1 M1 → rndI W c (gmt (gc W c) k) (co (gmt (gc W c) k)).length 0 s = rndI W c (gmt (gc W c) k) ((co (gmt (gc W c) k)).length - a) a s1 → w_Model_infer_L33 0 Q k18 n v (Int32.ofNat a) M1 := by
    intro n
    induction n with
    | zero => intro a s1 M1 hn; exact absurd hn (by omega)
    | succ n ih =>
      intro a s1 M1 hn ha h he
      obtain ⟨hE, hT, hl, h73⟩ := id h
      obtain ⟨⟨⟨t1, ⟨l1, l2, l3, l4⟩, t2⟩, hg⟩, ⟨h103, h101, h102⟩, l17, l18⟩ := id hT
      unfold w_Model_infer_L33
      rw [h101, h103]
      by_cases ca : (co (gmt (gc W c) k)).length ≤ a
      · rw [show (co (gmt (gc W c) k)).length - a = 0 by omega] at he
        have he : rndI W c (gmt (gc W c) k) (co (gmt (gc W c) k)).length 0 s = (0, a, s1) := he
        rw [he] at hQ
        refine itp (le_oN ca (by omega)) ?_
        have := hQ M1 rfl h
        cases e : s1.2 with
        | false => rw [e] at this; exact itp rfl this
        | true => rw [e] at this; exact itn (by decide) this
      rw [show (co (gmt (gc W c) k)).length - a = ((co (gmt (gc W c) k)).length - (a + 1)) + 1 by omega] at he
      refine itn (nle_oN (by omega) (by omega)) ?_
      obtain ⟨x1, x2⟩ := t2 a (by omega)
      rw [l1, oN_tnc (k := a) (by omega), x1]
      refine ⟨(vp_oN (by omega)).mpr (by omega), ?_⟩
      unfold w_Model_infer_j62
      cases e : gR s1.1 a with
      | none =>
        refine itp rfl (itp (by decide) ?_)
        rw [show Int32.ofNat a + (1 : Int32) = Int32.ofNat (a + 1) from oN_add a 1]
        refine ih (a + 1) s1 M1 (by omega) (by omega) h ?_
        rw [he]
        show (match gR s1.1 a with | none => _ | some (lo, st) => _) = _
        rw [e]
      | some y =>
        obtain ⟨lo, st⟩ := y
        have he2 : rndI W c (gmt (gc W c) k) (co (gmt (gc W c) k)).length 0 s = if (stpI W c (gmt (gc W c) k) a lo st s1).1 ≠ 0 then ((stpI W c (gmt (gc W c) k) a lo st s1).1, a, (stpI W c (gmt (gc W c) k) a lo st s1).2) else rndI W c (gmt (gc W c) k) ((co (gmt (gc W c) k)).length - (a + 1)) (a + 1) (stpI W c (gmt (gc W c) k) a lo st s1).2 := by
          rw [he]
          show (match gR s1.1 a with | none => _ | some (lo, st) => _) = _
          rw [e]
        obtain ⟨q0, a1, a2, ⟨a3, a4⟩, -⟩ := hE.mc
        have hb := hE.1.1.2.2.2
        refine itn (by show ¬ (1 : Int32) = 0; decide) (mf_w_Model_inferOne (Q := fun v M' => Fr F_Model_inferOne M1 M' → _) (fun v M' hf hp => hp hf) (ct_inferOne (n := q0) hE hB hT hl h73 e (by omega) a1 (by omega) (fun M2 hT2 f2 => ?_)))
        have h60 := stpI_le W c (gmt (gc W c) k) a lo st s1
        have hI2 : TIn G US A S W w c k br nq nl nf nk (stpI W c (gmt (gc W c) k) a lo st s1).2 M2 := ⟨hE.fr f2, hT2, ⟨⟨(f2.L (f := 111) rfl 0).trans hl.1.1, (f2.L (f := 212) rfl 0).trans hl.1.2.1, (f2.L (f := 112) rfl 0).trans hl.1.2.2⟩, (f2.L (f := 212) rfl 1).trans hl.2⟩, (f2.I (f := 11) (k := 73) rfl 0).trans h73⟩
        by_cases cz : (stpI W c (gmt (gc W c) k) a lo st s1).1 = 0
        · rw [if_neg (fun z => z cz)] at he2
          rw [cz, show Int32.ofNat a + (1 : Int32) = Int32.ofNat (a + 1) from oN_add a 1]
          exact itp (by decide) (ih (a + 1) _ M2 (by omega) (by omega) hI2 he2)
        · rw [if_pos cz] at he2
          rw [he2] at hX
          have f3 : Fr (37342707584460419693698313736193650118626476740276183924904954812274655581496666575900668474697622739977533195118518224490436678336740497086377619315038235321093596386393383639419979000791751191962836728359147980010387133303790252110130218423387254848222575939099671365178113847087433744326861186978178126753713124232683247118597447612403270469740651638393137717645662801967068455402994632371866044809342351551802622051180366871881760361111817387423778037962757699492591635084116902512044684801365085943542732510100293126402909995444744840298473745937692505646002774124166805155356529477986465151574747691611272668672693511194708164501652600405189748557609946280729645910864876737363323952783409112942137916537189179110721813926898000720118581320553149167878626128780324505493137075348525062928890161904543059323490057038529687781316519947242535813520997845073098853063217840091281632568909621396789935716955605466231796556205598792534400223897800307505948474544642602026660087709302784) M2 (sI M2 11 0 74 (Int32.ofNat a)) := Fr.wI rfl (Fr.rf _ _)
          exact itn (nle_oN (b := 0) (by omega) (by omega)) (hX _ cz (hI2.fr f3 (hT2.fr f3)) (by rw [mI_sI, if_pos ⟨rfl, rfl, rfl⟩]))
  exact ⟨(co (gmt (gc W c) k)).length + 1, loop _ 0 s M (by omega) (by omega) h rfl⟩
theorem ct_inferL {R0 : Tr} (hB : BI W) (hQ : ∀ M', TbT A (gmt (gc W c) k) (infI W c (gmt (gc W c) k) 100 R0).2 M' → gdR (infI W c (gmt (gc W c) k) 100 R0).2 → TE G US A S W w c k br nq nl nf nk M' → ((infI W c (gmt (gc W c) k) 100 R0).1.1 ≠ 0 → mI M' 11 0 74 = Int32.ofNat (infI W c (gmt (gc W c) k) 100 R0).1.2) → Q (Int32.ofNat (infI W c (gmt (gc W c) k) 100 R0).1.1) M') : ∀ m n R M, n < m → 1 ≤ n → n ≤ 100 → TIn G US A S W w c k br nq nl nf nk (R, true) M → infI W c (gmt (gc W c) k) 100 R0 = infI W c (gmt (gc W c) k) n R → w_Model_infer_L18 0 Q m (Int32.ofNat (100 - n)) M := by
  intro m
  induction m with
  | zero => intro n R M hn; exact absurd hn (by omega)
  | succ m ih =>
    intro n R M hm h1 h100 h he
    obtain ⟨n', en⟩ : ∃ n', n = n' + 1 := ⟨n - 1, by omega⟩
    unfold w_Model_infer_L18
    rw [h.2.1.2.1.1]
    refine itn (by show ¬ (1 : Int32) = 0; decide) ⟨Or.inl rfl, ?_⟩
    have f : Fr (20048213477418582548858574348412412347795904754898861995643462603384683136524005709563709105420561644643677105973552827270801474776896513778096895258053392711706131929322920265261283277175916184506175224461272039571134309729871445707075534803723117639541675923413697024723459023525659098056336791550377015008717564393169955087682783860543166328872332048578418061014025481336535435618637055812588446618624494397840888944608514239001747841235550734763661045726636348161609608371181038166256520914061412535468167313669593582239261568708336008018335952189625270681734658498571433923882561666001477469582153029365238707110982794851585181849848257086705789841174736400006333025603097082755832205882273788934356586481100636505704569221228030977586719501711533538231039115065322264920049511383375368389490652369519689202272209945207452618230656624742292087397680044234429287910203755464476533326119411284869326660783329770168049820528559083254042239577016245884599002953791058464106049602493376530219008) M (sI M 11 0 103 0) := Fr.wI rfl (Fr.rf _ _)
    have hK : TIn G US A S W w c k br nq nl nf nk (R, false) (sI M 11 0 103 0) := by
      obtain ⟨g1, g2, g3, g4⟩ := h
      obtain ⟨⟨z1, z2⟩, ⟨z3, z4, z5⟩, z6, z7⟩ := g2
      exact ⟨g1.fr f, ⟨⟨z1.fr f, z2⟩, ⟨by rw [mI_sI, if_pos ⟨rfl, rfl, rfl⟩]; rfl, (f.I (f := 11) (k := 101) rfl 0).trans z4, (f.I (f := 11) (k := 102) rfl 0).trans z5⟩, z6, z7⟩, g3, (f.I (f := 11) (k := 73) rfl 0).trans g4⟩
    rw [en] at he
    have he2 : infI W c (gmt (gc W c) k) 100 R0 = if (rndI W c (gmt (gc W c) k) (co (gmt (gc W c) k)).length 0 (R, false)).1 ≠ 0 then (((rndI W c (gmt (gc W c) k) (co (gmt (gc W c) k)).length 0 (R, false)).1, (rndI W c (gmt (gc W c) k) (co (gmt (gc W c) k)).length 0 (R, false)).2.1), (rndI W c (gmt (gc W c) k) (co (gmt (gc W c) k)).length 0 (R, false)).2.2.1)
      else if (rndI W c (gmt (gc W c) k) (co (gmt (gc W c) k)).length 0 (R, false)).2.2.2 = false then ((0, 0), (rndI W c (gmt (gc W c) k) (co (gmt (gc W c) k)).length 0 (R, false)).2.2.1) else infI W c (gmt (gc W c) k) n' (rndI W c (gmt (gc W c) k) (co (gmt (gc W c) k)).length 0 (R, false)).2.2.1 := he
    have hround := ct_round (Q := Q) (k18 := w_Model_infer_L18 0 Q m) (v := Int32.ofNat (100 - n)) hB hK
    generalize rndI W c (gmt (gc W c) k) (co (gmt (gc W c) k)).length 0 (R, false) = rs at he2 hround
    obtain ⟨r, p, s'⟩ := rs
    obtain ⟨R', b'⟩ := s'
    dsimp only at he2 hround
    refine hround (fun M' z g g74 => ?_) (fun M' z g => ?_)
    · rw [if_pos z] at he2
      rw [he2] at hQ
      exact hQ M' g.2.1.1.1 g.2.1.1.2 g.1 (fun _ => g74)
    · rw [if_neg (fun q => q z)] at he2
      unfold w_Model_infer_j97
      cases b' with
      | false =>
        rw [if_pos rfl] at he2
        rw [he2] at hQ
        rw [show Int32.ofNat (100 - n) + b2 false = Int32.ofNat (100 - n) from oN_add _ 0]
        refine itn (ne_oN (b := 100) (by omega) (by omega) (by omega)) ?_
        obtain ⟨m', em⟩ : ∃ m', m = m' + 1 := ⟨m - 1, by omega⟩
        rw [em]
        unfold w_Model_infer_L18
        rw [g.2.1.2.1.1]
        exact itp rfl (hQ M' g.2.1.1.1 g.2.1.1.2 g.1 (fun q => absurd rfl q))
      | true =>
        rw [if_neg (by decide)] at he2
        rw [show Int32.ofNat (100 - n) + b2 true = Int32.ofNat (100 - n + 1) from oN_add _ 1]
        by_cases c2 : n' = 0
        · subst c2
          have he3 : infI W c (gmt (gc W c) k) 100 R0 = ((44, 0), R') := he2
          rw [he3] at hQ
          have f2 : Fr (37342707584460419693698313736193650118626476740276183924904954812274655581496666575900668474697622739977533195118518224490436678336740497086377619315038235321093596386393383639419979000791751191962836728359147980010387133303790252110130218423387254848222575939099671365178113847087433744326861186978178126753713124232683247118597447612403270469740651638393137717645662801967068455402994632371866044809342351551802622051180366871881760361111817387423778037962757699492591635084116902512044684801365085943542732510100293126402909995444744840298473745937692505646002774124166805155356529477986465151574747691611272668672693511194708164501652600405189748557609946280729645910864876737363323952783409112942137916537189179110721813926898000720118581320553149167878626128780324505493137075348525062928890161904543059323490057038529687781316519947242535813520997845073098853063217840091281632568909621396789935716955605466231796556205598792534400223897800307505948474544642602026660087709302784) M' (sI M' 11 0 74 0) := Fr.wI rfl (Fr.rf _ _)
          refine itp (by rw [en]; rfl) (hQ _ (g.2.1.1.1.fr f2) g.2.1.1.2 (g.1.fr f2) (fun _ => by rw [mI_sI, if_pos ⟨rfl, rfl, rfl⟩]; rfl))
        · refine itn (ne_oN (b := 100) (by omega) (by omega) (by omega)) ?_
          rw [show 100 - n + 1 = 100 - n' by omega]
          exact ih n' R' M' (by omega) (by omega) (by omega) g he2
end
