/-! KINDS in the twin: a state comes to an instruction -/
theorem jnK_g {W : List Cls} {a b : Kd} (ha : a.1 ≠ -4) : (jnK W a b).1 ≠ -4 := by
  by_cases c1 : a = b
  · have e : jnK W a b = a := by unfold jnK; rw [if_pos c1]
    rw [e]; exact ha
  · by_cases c2 : rfK a = false ∨ rfK b = false
    · rw [jnK_ne c1 c2]; decide
    · exact (rfK_v (jnK_rf (W := W) c1 (by simpa using fun z => c2 (Or.inl z)) (by simpa using fun z => c2 (Or.inr z)))).1
theorem gdL_zJ {W : List Cls} {l lo : List Kd} (h : gdL l) (he : l.length = lo.length) : gdL (zJ W l lo) := fun κ hκ => by
  obtain ⟨j, hj, e⟩ := mem_gk hκ
  rw [zJ_len he] at hj
  rw [← e, zJ_gk he hj]
  exact jnK_g (h _ (gk_me hj))
theorem gdS_zJ {W : List Cls} {t st : List Kd} (h : gdS t) (he : t.length = st.length) (hu : uns ∉ zJ W t st) (hk : ∀ κ ∈ zJ W t st, κ.1 = -2 → κ = uns) : gdS (zJ W t st) := fun κ hκ => by
  refine ⟨?_, fun z => hu (by rw [← hk κ hκ z]; exact hκ)⟩
  obtain ⟨j, hj, e⟩ := mem_gk hκ
  rw [zJ_len he] at hj
  rw [← e, zJ_gk he hj]
  exact jnK_g (h _ (gk_me hj)).1
theorem or_b2 {f g : Bool} : b2 f ||| b2 g = b2 (f || g) := by cases f <;> cases g <;> rfl
section
variable {G : List Sl} {US : UST} {A : List Nm} {S : List Sg} {W : List Cls} {w c k : Nat} {br : Int32} {nq nl nf nk : Nat} {M M' : Mem} {Q : Int32 → Mem → Prop} {lo st : List Kd} {s : Ti} {to p : Nat}
theorem ct_join (h : TE G US A S W w c k br nq nl nf nk M) (hB : BI W) (hT : TJn A (gmt (gc W c) k) s M) (hlo : TLk A (co (gmt (gc W c) k)) 111 0 lo M) (hll : lo.length = lr (gmt (gc W c) k)) (hgl : gdL lo) (hst : TLk A (co (gmt (gc W c) k)) 212 p st M) (hsl : st.length ≤ sr (gmt (gc W c) k)) (hgs : gdS st) (h111 : mL M 111 0 = 20) (h212 : st.length ≤ mL M 212 p) (hto : to < (co (gmt (gc W c) k)).length)
    (hQ : ∀ M', TJn A (gmt (gc W c) k) (jnS W s to lo st).2 M' → Fr (20048213477418582548858574348412412347795904754898861995643462603384683136524005709563709105420561644643677105973552827270801474776896513778096895258053392711706131929322920265261283277175916184506175224461272039571134309729871445707075534803723117639541675923413697024723459023525659098056336791550377015008717564393169955087682783860543166328872332048578418061014025481336535435618637055812588446618624494397840888944608514239001747841235550734763661045726636348161609608371181038166256520914061412535468167313669593582239261568708336008018335952189625270681734658498571433923882561666001477469582153029365238707110982794851585181849848257086705789841174736400006333025603097082755832205882273788934356586481100636505704569221228030977586719501711533538231039115065322264920049511383375368389490652369519689202272209945207452618230656626458491502430332472979904487680552059781835358361945763633485191457169125619582062851168469248617680983901094093754813512878132868851585628683781994132275200) M M' → Q (Int32.ofNat (jnS W s to lo st).1) M') : w_Model_join 0 (Int32.ofNat to) p (Int32.ofNat st.length) Q M := by
  have hlr := h.lr.2
  have hsr := h.sr.2
  have h80 := h.wf.2.2.1.1
  have hla := h.la
  have hK := h.1.2.2.1
  obtain ⟨⟨⟨t1, ⟨l1, l2, l3, l4⟩, t2⟩, hg⟩, ⟨h103, h101, h102⟩, l17, l18⟩ := id hT
  have hTb := hT.1.1
  have e20 : (20 : Int32) * Int32.ofNat to = Int32.ofNat (20 * to) := oN_mul 20 to
  have e28 : (28 : Int32) * Int32.ofNat to = Int32.ofNat (28 * to) := oN_mul 28 to
  obtain ⟨x1, x2⟩ := t2 to (by omega)
  unfold w_Model_join
  rw [oN_tnc (k := to) (by omega), x1, e20, e28, l1]
  refine ⟨(vp_oN (by omega)).mpr (by omega), ?_⟩
  cases e : gR s.1 to with
  | none =>
    have ej : jnS W s to lo st = (0, s.1.set to (some (lo, st)), true) := by unfold jnS; rw [e]
    rw [ej] at hQ
    have ez : (0 : Int32).toNatClampNeg = 0 := rfl
    refine itp rfl ⟨(vp_oN (by omega)).mpr (by omega), by show vp_in _ (mL M 114 0); rw [l2]; exact (vp_oN (by omega)).mpr (by omega), _, rfl, by decide, nlt_oN (b := 0) (by omega) (by omega), ?_⟩
    have r102 : mI (sI (sI M 519 0 to ((1 : Int32) &&& 1)) 114 0 to (Int32.ofNat st.length)) 11 0 102 = Int32.ofNat (lr (gmt (gc W c) k)) := by rw [mI_sI, if_neg (fun z => absurd z.1 (by decide)), mI_sI, if_neg (fun z => absurd z.1 (by decide))]; exact h102
    rw [r102, ez, show (1 : Int32) &&& 1 = 1 from rfl, oN_tnc (k := lr (gmt (gc W c) k)) (by omega), oN_tnc (k := 20 * to) (by omega), oN_tnc (k := 28 * to) (by omega), oN_tnc (k := st.length) (by omega)]
    refine ⟨oN_nonneg (by omega), by show 0 + lr (gmt (gc W c) k) ≤ mL M 111 0; rw [h111]; omega, by show 20 * to + lr (gmt (gc W c) k) ≤ mL M 115 0; rw [l3]; omega, _, rfl, by decide, nlt_oN (b := 0) (by omega) (by omega), oN_nonneg (by omega), by show 0 + st.length ≤ mL M 212 p; omega, by show 28 * to + st.length ≤ mL M 116 0; rw [l4]; omega, _, rfl, Or.inr rfl, ?_⟩
    have f5 : Fr (1716199415032652428745475199770348304317358825035826352348615864796385795849414013030639910165363638744324077847870214509425881311968136126742360969996926976) M (cpI (cpI (sI (sI M 519 0 to 1) 114 0 to (Int32.ofNat st.length)) 111 0 0 115 0 (20 * to) (lr (gmt (gc W c) k))) 212 p 0 116 0 (28 * to) st.length) := Fr.wcp rfl rfl (Fr.wcp rfl rfl (Fr.wIa rfl rfl (Fr.wIa rfl rfl (Fr.rf _ _))))
    have n0 : ∀ g i q, g ≠ 519 → g ≠ 114 → mI (sI (sI M 519 0 to 1) 114 0 to (Int32.ofNat st.length)) g i q = mI M g i q := fun g i q z1 z2 => by rw [mI_sI, if_neg (fun z => z2 z.1), mI_sI, if_neg (fun z => z1 z.1)]
    have a5 : ∀ q, mI (cpI (cpI (sI (sI M 519 0 to 1) 114 0 to (Int32.ofNat st.length)) 111 0 0 115 0 (20 * to) (lr (gmt (gc W c) k))) 212 p 0 116 0 (28 * to) st.length) 519 0 q = if q = to then 1 else mI M 519 0 q := fun q => by
      rw [mI_cpI, if_neg (fun z => absurd z.1 (by decide)), mI_cpI, if_neg (fun z => absurd z.1 (by decide)), mI_sI, if_neg (fun z => absurd z.1 (by decide)), mI_sI]
      by_cases eq : q = to
      · rw [if_pos ⟨rfl, rfl, eq⟩, if_pos eq]
      · rw [if_neg (fun z => eq z.2.2), if_neg eq]
    have a3 : ∀ q, mI (cpI (cpI (sI (sI M 519 0 to 1) 114 0 to (Int32.ofNat st.length)) 111 0 0 115 0 (20 * to) (lr (gmt (gc W c) k))) 212 p 0 116 0 (28 * to) st.length) 114 0 q = if q = to then Int32.ofNat st.length else mI M 114 0 q := fun q => by
      rw [mI_cpI, if_neg (fun z => absurd z.1 (by decide)), mI_cpI, if_neg (fun z => absurd z.1 (by decide)), mI_sI]
      by_cases eq : q = to
      · rw [if_pos ⟨rfl, rfl, eq⟩, if_pos eq]
      · rw [if_neg (fun z => eq z.2.2), if_neg eq, mI_sI, if_neg (fun z => absurd z.1 (by decide))]
    have a4 : ∀ q, mI (cpI (cpI (sI (sI M 519 0 to 1) 114 0 to (Int32.ofNat st.length)) 111 0 0 115 0 (20 * to) (lr (gmt (gc W c) k))) 212 p 0 116 0 (28 * to) st.length) 115 0 q = if 20 * to ≤ q ∧ q < 20 * to + lr (gmt (gc W c) k) then mI M 111 0 (q - 20 * to) else mI M 115 0 q := fun q => by
      rw [mI_cpI, if_neg (fun z => absurd z.1 (by decide)), mI_cpI, if_pos ⟨rfl, rfl⟩]
      by_cases eq : 20 * to ≤ q ∧ q < 20 * to + lr (gmt (gc W c) k)
      · rw [if_pos eq, if_pos eq, Nat.zero_add, n0 _ _ _ (by decide) (by decide)]
      · rw [if_neg eq, if_neg eq, n0 _ _ _ (by decide) (by decide)]
    have a6 : ∀ q, mI (cpI (cpI (sI (sI M 519 0 to 1) 114 0 to (Int32.ofNat st.length)) 111 0 0 115 0 (20 * to) (lr (gmt (gc W c) k))) 212 p 0 116 0 (28 * to) st.length) 116 0 q = if 28 * to ≤ q ∧ q < 28 * to + st.length then mI M 212 p (q - 28 * to) else mI M 116 0 q := fun q => by
      rw [mI_cpI, if_pos ⟨rfl, rfl⟩]
      by_cases eq : 28 * to ≤ q ∧ q < 28 * to + st.length
      · rw [if_pos eq, if_pos eq, Nat.zero_add, mI_cpI, if_neg (fun z => absurd z.1 (by decide)), n0 _ _ _ (by decide) (by decide)]
      · rw [if_neg eq, if_neg eq, mI_cpI, if_neg (fun z => absurd z.1 (by decide)), n0 _ _ _ (by decide) (by decide)]
    generalize cpI (cpI (sI (sI M 519 0 to 1) 114 0 to (Int32.ofNat st.length)) 111 0 0 115 0 (20 * to) (lr (gmt (gc W c) k))) 212 p 0 116 0 (28 * to) st.length = M7 at f5 a5 a3 a4 a6 ⊢
    have hT7 : TbT A (gmt (gc W c) k) (s.1.set to (some (lo, st))) M7 := by
      refine TbT.new hTb hlr hsr (by omega) f5 (by rw [a5, if_pos rfl]) (fun j hj => by rw [a5, if_neg hj]) (by rw [a3, if_pos rfl]) (fun j hj => by rw [a3, if_neg hj]) hll hsl (fun q hq => ?_) (fun q hq => ?_) (fun q hq => ?_) (fun q hq => ?_)
      · rw [a4, if_pos (by omega), show 20 * to + q - 20 * to = q by omega]; exact hlo q hq
      · rw [a6, if_pos (by omega), show 28 * to + q - 28 * to = q by omega]; exact hst q hq
      · rw [a4, if_neg (by omega)]
      · rw [a6, if_neg (by omega)]
    have f8 : Fr (20048213477418582548858574348412412347795904754898861995643462603384683136524005709563709105420561644643677105973552827270801474776896513778096895258053392711706131929322920265261283277175916184506175224461272039571134309729871445707075534803723117639541675923413697024723459023525659098056336791550377015008717564393169955087682783860543166328872332048578418061014025481336535435618637055812588446618624494397840888944608514239001747841235550734763661045726636348161609608371181038166256520914061412535468167313669593582239261568708336008018335952189625270681734658498571433923882561666001477469582153029365238707110982794851585181849848257086705789841174736400006333025603097082755832205882273788934356586481100636505704569221228030977586719501711533538231039115065322264920049511383375368389490652369519689202272209945207452618230656624742292087397680044234429287910203755464476533326119411284869326660783329770168049820528559083254042239577016245884599002953791058464106049602493376530219008) M7 (sI M7 11 0 103 1) := Fr.wI rfl (Fr.rf _ _)
    have f7 : Fr (20048213477418582548858574348412412347795904754898861995643462603384683136524005709563709105420561644643677105973552827270801474776896513778096895258053392711706131929322920265261283277175916184506175224461272039571134309729871445707075534803723117639541675923413697024723459023525659098056336791550377015008717564393169955087682783860543166328872332048578418061014025481336535435618637055812588446618624494397840888944608514239001747841235550734763661045726636348161609608371181038166256520914061412535468167313669593582239261568708336008018335952189625270681734658498571433923882561666001477469582153029365238707110982794851585181849848257086705789841174736400006333025603097082755832205882273788934356586481100636505704569221228030977586719501711533538231039115065322264920049511383375368389490652369519689202272209945207452618230656626458491502430332472979904487680552059781835358361945763633485191457169125619582062851168469248617680983901094093754813512878132868851585628683781994132275200) M (sI M7 11 0 103 1) := Fr.wI rfl (f5.sub rfl)
    exact hQ _ ⟨⟨hT7.fr f8, hg.set (by omega) hgl hgs⟩, ⟨by rw [mI_sI, if_pos ⟨rfl, rfl, rfl⟩]; rfl, (f7.I (f := 11) (k := 101) rfl 0).trans h101, (f7.I (f := 11) (k := 102) rfl 0).trans h102⟩, (f7.L (f := 117) rfl 0).trans l17, (f7.L (f := 118) rfl 0).trans l18⟩ f7
  | some y =>
    obtain ⟨l, t⟩ := y
    obtain ⟨⟨y1, y2, y3⟩, y4, y5⟩ := x2 l t e
    obtain ⟨g1, g2⟩ := hg to l t e
    have hll2 : l.length = lo.length := by rw [y2, hll]
    refine itn (show ¬ (1 : Int32) = 0 by decide) ⟨by rw [l2]; exact (vp_oN (by omega)).mpr (by omega), ?_⟩
    rw [y1]
    -- a rule is broken
    have fail : ∀ M1, (37, s) = jnS W s to lo st → Fr (498460498419343452338927647605129216) M M1 → Q 37 M1 := fun M1 ej f => by
      rw [← ej] at hQ
      exact hQ M1 (hT.fr f) (f.sub rfl)
    by_cases ct : t.length = st.length
    rotate_left
    · exact itn (fun z => ct ((oN_inj (by omega) (by omega)).mp z)) (fail M (by unfold jnS; rw [e]; dsimp only; rw [if_pos ct]) (Fr.rf _ _))
    refine itp (by rw [ct]) ⟨lr (gmt (gc W c) k) + 1, ?_⟩
    have hwK : ∀ M1, Fr (498460498419343452338927647605129216) M M1 → mR M1 11 0 45 = some (12, w) ∧ tCl A W w M1 ∧ TKs A M1 := fun M1 f => by
      have h1 := h.fr f
      exact ⟨h1.r45, h1.cl, h1.1.2.2.1⟩
    -- it is put
    have go : ∀ M1, Fr (498460498419343452338927647605129216) M M1 → (∀ i, i < l.length → mI M1 117 0 i = kt A (jnK W (gk l i) (gk lo i)) ∧ kwf A (co (gmt (gc W c) k)) (jnK W (gk l i) (gk lo i))) → (∀ i, i < t.length → mI M1 118 0 i = kt A (jnK W (gk t i) (gk st i)) ∧ kwf A (co (gmt (gc W c) k)) (jnK W (gk t i) (gk st i)) ∧ jnK W (gk t i) (gk st i) ≠ uns) → ∃ n, w_Model_join_L196 0 Q n (Int32.ofNat to) (Int32.ofNat st.length) 0 M1 := fun M1 f1 k17 k18 => by
      have hnu : uns ∉ zJ W t st := fun z => by
        obtain ⟨i, hi, e2⟩ := (zJ_mem ct).mp z
        exact (k18 i hi).2.2 e2
      have hgS : gdS (zJ W t st) := gdS_zJ g2 ct hnu (fun κ hκ z => by
        obtain ⟨j, hj, ej⟩ := mem_gk hκ
        rw [zJ_len ct] at hj
        have hw := (k18 j hj).2.1
        rw [zJ_gk ct hj] at ej
        rw [← ej] at z ⊢
        rcases hw.rg with q | q
        · omega
        · exact kd_ext z q.1)
      have ej : jnS W s to lo st = (0, s.1.set to (some (zJ W l lo, zJ W t st)), s.2 || !(decide (l = zJ W l lo) && decide (t = zJ W t st))) := by unfold jnS; rw [e]; dsimp only; rw [if_neg (fun z => z ct), if_neg hnu]
      rw [ej] at hQ
      have hT1 := hT.fr f1
      -- the stack
      have loopS : ∀ m j q M2, t.length - j < m → j ≤ t.length → q.length = t.length → (∀ i, i < j → gk q i = jnK W (gk t i) (gk st i)) → (∀ i, j ≤ i → gk q i = gk t i) → TbT A (gmt (gc W c) k) (s.1.set to (some (zJ W l lo, q))) M2 → mI M2 11 0 103 = b2 ((s.2 || !decide (l = zJ W l lo)) || !decide (t = q)) → Fr (20048213477418582548858574348412412347795904754898861995643462603384683136524005709563709105420561644643677105973552827270801474776896513778096895258053392711706131929322920265261283277175916184506175224461272039571134309729871445707075534803723117639541675923413697024723459023525659098056336791550377015008717564393169955087682783860543166328872332048578418061014025481336535435618637055812588446618624494397840888944608514239001747841235550734763661045726636348161609608371181038166256520914061412535468167313669593582239261568708336008018335952189625270681734658498571433923882561666001477469582153029365238707110982794851585181849848257086705789841174736400006333025603097082755832205882273788934356586481100636505704569221228030977586719501711533538231039115065322264920049511383375368389490652369519689202272209945207452618230656624742292087397680044234429287910203755464476533326119411284869326660783329770168049820528559083254042239577016245884599003078406183068941912687225288431501312) M1 M2 → w_Model_join_L269 0 Q m (Int32.ofNat to) (Int32.ofNat st.length) (Int32.ofNat j) M2 := by
        intro m
        induction m with
        | zero => intro j q M2 z; exact absurd z (by omega)
        | succ m im =>
          intro j q M2 hm hj hq hq1 hq2 hb h3 hf
          unfold w_Model_join_L269
          by_cases cj : t.length ≤ j
          · have eq : q = zJ W t st := gk_ext (by rw [hq, zJ_len ct]) (fun i hi => by rw [zJ_len ct] at hi; rw [zJ_gk ct (by omega)]; exact hq1 i (by omega))
            rw [eq] at hb h3
            have ff : Fr (20048213477418582548858574348412412347795904754898861995643462603384683136524005709563709105420561644643677105973552827270801474776896513778096895258053392711706131929322920265261283277175916184506175224461272039571134309729871445707075534803723117639541675923413697024723459023525659098056336791550377015008717564393169955087682783860543166328872332048578418061014025481336535435618637055812588446618624494397840888944608514239001747841235550734763661045726636348161609608371181038166256520914061412535468167313669593582239261568708336008018335952189625270681734658498571433923882561666001477469582153029365238707110982794851585181849848257086705789841174736400006333025603097082755832205882273788934356586481100636505704569221228030977586719501711533538231039115065322264920049511383375368389490652369519689202272209945207452618230656626458491502430332472979904487680552059781835358361945763633485191457169125619582062851168469248617680983901094093754813512878132868851585628683781994132275200) M M2 := (f1.sub rfl).trans (hf.sub rfl)
            refine itp (by rw [← ct]; exact le_oN cj (by omega)) (hQ M2 ⟨⟨hb, hg.set (by omega) (gdL_zJ g1 hll2) hgS⟩, ⟨?_, (ff.I (f := 11) (k := 101) rfl 0).trans h101, (ff.I (f := 11) (k := 102) rfl 0).trans h102⟩, (ff.L (f := 117) rfl 0).trans l17, (ff.L (f := 118) rfl 0).trans l18⟩ ff)
            rw [h3]
            show b2 _ = b2 (s.2 || !(decide (l = zJ W l lo) && decide (t = zJ W t st)))
            rw [Bool.not_and, Bool.or_assoc]
          have hTo : to < (s.1.set to (some (zJ W l lo, q))).length := by rw [List.length_set]; omega
          have hR : gR (s.1.set to (some (zJ W l lo, q))) to = some (zJ W l lo, q) := by rw [gR_set (by omega), if_pos rfl]
          obtain ⟨-, -, w5⟩ := (hb.2.2 to hTo).2 _ _ hR
          obtain ⟨w5a, w5b⟩ := w5 j (by omega)
          obtain ⟨k8a, k8b, -⟩ := k18 j (by omega)
          have v18 : mI M2 118 0 j = kt A (jnK W (gk t j) (gk st j)) := (hf.Ia (f := 118) rfl rfl 0 j).trans k8a
          have lv18 : mL M2 118 0 = 28 := (hf.L (f := 118) rfl 0).trans ((f1.L (f := 118) rfl 0).trans l18)
          have eκ : gk q j = gk t j := hq2 j (Nat.le_refl _)
          rw [e28, oN_add, oN_tnc (k := 28 * to + j) (by omega), oN_tnc (k := j) (by omega), w5a, v18, hb.2.1.2.2.2, lv18, h3]
          refine itn (by rw [← ct]; exact nle_oN (by omega) (by omega)) ⟨(vp_oN (by omega)).mpr (by omega), (vp_oN (by omega)).mpr (by omega), ?_⟩
          generalize hκe : jnK W (gk t j) (gk st j) = κ at k8b v18
          have fin : ∀ f : Bool, f = decide (gk q j ≠ κ) → w_Model_join_j307 0 Q (w_Model_join_L269 0 Q m) (Int32.ofNat to) (Int32.ofNat st.length) (Int32.ofNat j) (b2 f) (b2 ((s.2 || !decide (l = zJ W l lo)) || !decide (t = q))) M2 := fun f ef => by
            unfold w_Model_join_j307
            rw [or_b2, ef, flgK (f := (s.2 || !decide (l = zJ W l lo))) (by omega) eκ, e28, oN_add, oN_tnc (k := 28 * to + j) (by omega), oN_tnc (k := j) (by omega)]
            have f2 : Fr (20048213477418582548858574348412412347795904754898861995643462603384683136524005709563709105420561644643677105973552827270801474776896513778096895258053392711706131929322920265261283277175916184506175224461272039571134309729871445707075534803723117639541675923413697024723459023525659098056336791550377015008717564393169955087682783860543166328872332048578418061014025481336535435618637055812588446618624494397840888944608514239001747841235550734763661045726636348161609608371181038166256520914061412535468167313669593582239261568708336008018335952189625270681734658498571433923882561666001477469582153029365238707110982794851585181849848257086705789841174736400006333025603097082755832205882273788934356586481100636505704569221228030977586719501711533538231039115065322264920049511383375368389490652369519689202272209945207452618230656624742292087397680044234429287910203755464476533326119411284869326660783329770168049820528559083254042239577016245884599002953791058464106049602493376530219008) M2 (sI M2 11 0 103 (b2 ((s.2 || !decide (l = zJ W l lo)) || !decide (t = q.set j κ)))) := Fr.wI rfl (Fr.rf _ _)
            rw [f2.L (f := 118) rfl, lv18, f2.L (f := 116) rfl, hb.2.1.2.2.2, f2.Ia (f := 118) rfl rfl, v18, show Int32.ofNat j + (1 : Int32) = Int32.ofNat (j + 1) from oN_add j 1]
            refine ⟨by generalize ((s.2 || !decide (l = zJ W l lo)) || !decide (t = q.set j κ)) = z; cases z <;> simp [b2], (vp_oN (by omega)).mpr (by omega), (vp_oN (by omega)).mpr (by omega), _, rfl, ?_⟩
            have hT2 := (hb.fr f2).setS hsr hTo hR (show j < q.length by omega) k8b
            rw [List.set_set] at hT2
            refine im (j + 1) (q.set j κ) _ (by omega) (by omega) (by rw [List.length_set]; exact hq) (fun i hi => ?_) (fun i hi => ?_) hT2 (by rw [mI_sI, if_neg (fun z => absurd z.1 (by decide)), mI_sI, if_pos ⟨rfl, rfl, rfl⟩]) (Fr.wIa rfl rfl (Fr.wI rfl hf))
            · rw [gk_set (by omega)]
              by_cases z : i = j
              · rw [if_pos z, z]; exact hκe.symm
              · rw [if_neg z]; exact hq1 i (by omega)
            · rw [gk_set (by omega), if_neg (by omega)]; exact hq2 i (by omega)
          by_cases ce : kt A (gk q j) = kt A κ
          · exact itp ce (fin false (by rw [decide_eq_false (fun z => z ((kt_inw w5b k8b hla).mp ce))]))
          · exact itn ce (fin true (by
              have hh : gk q j ≠ κ := fun z => ce (by rw [z])
              rw [decide_eq_true hh]))
      -- the locals
      have loopL : ∀ m j q M2, lr (gmt (gc W c) k) - j < m → j ≤ lr (gmt (gc W c) k) → q.length = l.length → (∀ i, i < j → gk q i = jnK W (gk l i) (gk lo i)) → (∀ i, j ≤ i → gk q i = gk l i) → TbT A (gmt (gc W c) k) (s.1.set to (some (q, t))) M2 → mI M2 11 0 103 = b2 (s.2 || !decide (l = q)) → Fr (20048213477418582548858574348412412347795904754898861995643462603384683136524005709563709105420561644643677105973552827270801474776896513778096895258053392711706131929322920265261283277175916184506175224461272039571134309729871445707075534803723117639541675923413697024723459023525659098056336791550377015008717564393169955087682783860543166328872332048578418061014025481336535435618637055812588446618624494397840888944608514239001747841235550734763661045726636348161609608371181038166256520914061412535468167313669593582239261568708336008018335952189625270681734658498571433923882561666001477469582153029365238707110982794851585181849848257086705789841174736400006333025603097082755832205882273788934356586481100636505704569221228030977586719501711533538231039115065322264920049511383375368389490652369519689202272209945207452618230656624742292087397680044234429287910203755464476533326119411284869326660783329770168049820528559083254042239577016245884599003078406183068941912687225288431501312) M1 M2 → w_Model_join_L196 0 Q m (Int32.ofNat to) (Int32.ofNat st.length) (Int32.ofNat j) M2 := by
        intro m
        induction m with
        | zero => intro j q M2 z; exact absurd z (by omega)
        | succ m im =>
          intro j q M2 hm hj hq hq1 hq2 hb h3 hf
          have h2 : mI M2 11 0 102 = Int32.ofNat (lr (gmt (gc W c) k)) := (hf.I (f := 11) (k := 102) rfl 0).trans hT1.2.1.2.2
          unfold w_Model_join_L196
          rw [h2]
          by_cases cj : lr (gmt (gc W c) k) ≤ j
          · have eq : q = zJ W l lo := gk_ext (by rw [hq, zJ_len hll2]) (fun i hi => by rw [zJ_len hll2] at hi; rw [zJ_gk hll2 (by omega)]; exact hq1 i (by omega))
            rw [eq] at hb h3
            refine itp (le_oN cj (by omega)) ⟨t.length + 1, loopS _ 0 t M2 (by omega) (by omega) rfl (fun i hi => absurd hi (by omega)) (fun _ _ => rfl) hb ?_ hf⟩
            rw [h3, decide_eq_true (rfl : t = t), show (!true) = false from rfl, Bool.or_false]
          have hTo : to < (s.1.set to (some (q, t))).length := by rw [List.length_set]; omega
          have hR : gR (s.1.set to (some (q, t))) to = some (q, t) := by rw [gR_set (by omega), if_pos rfl]
          obtain ⟨-, w4, -⟩ := (hb.2.2 to hTo).2 _ _ hR
          obtain ⟨w4a, w4b⟩ := w4 j (by omega)
          obtain ⟨k7a, k7b⟩ := k17 j (by omega)
          have v17 : mI M2 117 0 j = kt A (jnK W (gk l j) (gk lo j)) := (hf.Ia (f := 117) rfl rfl 0 j).trans k7a
          have lv17 : mL M2 117 0 = 20 := (hf.L (f := 117) rfl 0).trans ((f1.L (f := 117) rfl 0).trans l17)
          have eκ : gk q j = gk l j := hq2 j (Nat.le_refl _)
          rw [e20, oN_add, oN_tnc (k := 20 * to + j) (by omega), oN_tnc (k := j) (by omega), w4a, v17, hb.2.1.2.2.1, lv17, h3]
          refine itn (nle_oN (by omega) (by omega)) ⟨(vp_oN (by omega)).mpr (by omega), (vp_oN (by omega)).mpr (by omega), ?_⟩
          generalize hκe : jnK W (gk l j) (gk lo j) = κ at k7b v17
          have fin : ∀ f : Bool, f = decide (gk q j ≠ κ) → w_Model_join_j237 0 Q (w_Model_join_L196 0 Q m) (Int32.ofNat to) (Int32.ofNat st.length) (Int32.ofNat j) (b2 f) (b2 (s.2 || !decide (l = q))) M2 := fun f ef => by
            unfold w_Model_join_j237
            rw [or_b2, ef, flgK (f := s.2) (by omega) eκ, e20, oN_add, oN_tnc (k := 20 * to + j) (by omega), oN_tnc (k := j) (by omega)]
            have f2 : Fr (20048213477418582548858574348412412347795904754898861995643462603384683136524005709563709105420561644643677105973552827270801474776896513778096895258053392711706131929322920265261283277175916184506175224461272039571134309729871445707075534803723117639541675923413697024723459023525659098056336791550377015008717564393169955087682783860543166328872332048578418061014025481336535435618637055812588446618624494397840888944608514239001747841235550734763661045726636348161609608371181038166256520914061412535468167313669593582239261568708336008018335952189625270681734658498571433923882561666001477469582153029365238707110982794851585181849848257086705789841174736400006333025603097082755832205882273788934356586481100636505704569221228030977586719501711533538231039115065322264920049511383375368389490652369519689202272209945207452618230656624742292087397680044234429287910203755464476533326119411284869326660783329770168049820528559083254042239577016245884599002953791058464106049602493376530219008) M2 (sI M2 11 0 103 (b2 (s.2 || !decide (l = q.set j κ)))) := Fr.wI rfl (Fr.rf _ _)
            rw [f2.L (f := 117) rfl, lv17, f2.L (f := 115) rfl, hb.2.1.2.2.1, f2.Ia (f := 117) rfl rfl, v17, show Int32.ofNat j + (1 : Int32) = Int32.ofNat (j + 1) from oN_add j 1]
            refine ⟨by generalize (s.2 || !decide (l = q.set j κ)) = z; cases z <;> simp [b2], (vp_oN (by omega)).mpr (by omega), (vp_oN (by omega)).mpr (by omega), _, rfl, ?_⟩
            have hT2 := (hb.fr f2).setL hlr hTo hR (show j < q.length by omega) k7b
            rw [List.set_set] at hT2
            refine im (j + 1) (q.set j κ) _ (by omega) (by omega) (by rw [List.length_set]; exact hq) (fun i hi => ?_) (fun i hi => ?_) hT2 (by rw [mI_sI, if_neg (fun z => absurd z.1 (by decide)), mI_sI, if_pos ⟨rfl, rfl, rfl⟩]) (Fr.wIa rfl rfl (Fr.wI rfl hf))
            · rw [gk_set (by omega)]
              by_cases z : i = j
              · rw [if_pos z, z]; exact hκe.symm
              · rw [if_neg z]; exact hq1 i (by omega)
            · rw [gk_set (by omega), if_neg (by omega)]; exact hq2 i (by omega)
          by_cases ce : kt A (gk q j) = kt A κ
          · exact itp ce (fin false (by rw [decide_eq_false (fun z => z ((kt_inw w4b k7b hla).mp ce))]))
          · exact itn ce (fin true (by
              have hh : gk q j ≠ κ := fun z => ce (by rw [z])
              rw [decide_eq_true hh]))
      have es : s.1.set to (some (l, t)) = s.1 := by
        refine List.ext_getElem (by rw [List.length_set]) (fun i h1 h2 => ?_)
        rw [List.getElem_set]
        by_cases z : to = i
        · subst z
          rw [if_pos rfl]
          unfold gR at e
          rw [List.getD_eq_getElem?_getD, List.getElem?_eq_getElem h2] at e
          exact e.symm
        · rw [if_neg z]
      refine ⟨lr (gmt (gc W c) k) + 1, loopL _ 0 l M1 (by omega) (by omega) rfl (fun i hi => absurd hi (by omega)) (fun _ _ => rfl) ?_ ?_ (Fr.rf _ _)⟩
      · rw [es]; exact hT1.1.1
      · rw [hT1.2.1.1, decide_eq_true (rfl : l = l), show (!true) = false from rfl, Bool.or_false]
    -- the stack's kinds are joined
    have loopP : ∀ m j M1, t.length - j < m → j ≤ t.length → Fr (498460498419343452338927647605129216) M M1 → (∀ i, i < l.length → mI M1 117 0 i = kt A (jnK W (gk l i) (gk lo i)) ∧ kwf A (co (gmt (gc W c) k)) (jnK W (gk l i) (gk lo i))) → (∀ i, i < j → mI M1 118 0 i = kt A (jnK W (gk t i) (gk st i)) ∧ kwf A (co (gmt (gc W c) k)) (jnK W (gk t i) (gk st i)) ∧ jnK W (gk t i) (gk st i) ≠ uns) → w_Model_join_L141 0 Q m (Int32.ofNat to) p (Int32.ofNat st.length) (Int32.ofNat j) M1 := by
      intro m
      induction m with
      | zero => intro j M1 z; exact absurd z (by omega)
      | succ m im =>
        intro j M1 hm hj f1 k17 k18
        unfold w_Model_join_L141
        by_cases cj : t.length ≤ j
        · exact itp (by rw [← ct]; exact le_oN cj (by omega)) (go M1 f1 k17 (fun i hi => k18 i (by omega)))
        obtain ⟨w5a, w5b⟩ := y5 j (by omega)
        obtain ⟨s5a, s5b⟩ := hst j (by omega)
        obtain ⟨z1, z2, z3⟩ := hwK M1 f1
        rw [e28, oN_add, oN_tnc (k := 28 * to + j) (by omega), oN_tnc (k := j) (by omega), f1.Ia (f := 116) rfl rfl, f1.Ia (f := 212) rfl rfl, w5a, s5a, f1.L (f := 116) rfl, l4, f1.L (f := 212) rfl]
        refine itn (by rw [← ct]; exact nle_oN (by omega) (by omega)) ⟨(vp_oN (by omega)).mpr (by omega), (vp_oN (by omega)).mpr (by omega), ct_joinedK z1 z2 hB z3 hla w5b s5b (fun hκ => ?_)⟩
        obtain ⟨j1, j2⟩ := jt_stk hκ w5b hla (g2 _ (gk_me (show j < t.length by omega)))
        have e18 : mI (sI M1 118 0 j (jt A W (gk t j) (gk st j))) 118 0 j = jt A W (gk t j) (gk st j) := by rw [mI_sI, if_pos ⟨rfl, rfl, rfl⟩]
        have f2 : Fr (498460498419343452338927647605129216) M (sI M1 118 0 j (jt A W (gk t j) (gk st j))) := Fr.wIa rfl rfl f1
        have lv18 : mL M1 118 0 = 28 := (f1.L (f := 118) rfl 0).trans l18
        rw [e18, lv18]
        refine ⟨(vp_oN (by omega)).mpr (by omega), by show vp_in _ (mL M1 118 0); rw [lv18]; exact (vp_oN (by omega)).mpr (by omega), ?_⟩
        by_cases c0 : jt A W (gk t j) (gk st j) = 0
        · exact itp c0 (fail _ (by unfold jnS; rw [e]; dsimp only; rw [if_neg (fun z => z ct), if_pos ((zJ_mem ct).mpr ⟨j, by omega, j1.mp c0⟩)]) f2)
        · rw [show Int32.ofNat j + (1 : Int32) = Int32.ofNat (j + 1) from oN_add j 1]
          refine itn c0 (im (j + 1) _ (by omega) (by omega) f2 (fun i hi => ?_) (fun i hi => ?_))
          · rw [mI_sI, if_neg (fun z => absurd z.1 (by decide))]; exact k17 i hi
          · rw [mI_sI]
            by_cases z : i = j
            · rw [if_pos ⟨rfl, rfl, z⟩, z]; exact ⟨j2 c0, hκ, fun q => c0 (j1.mpr q)⟩
            · rw [if_neg (fun q => z q.2.2)]; exact k18 i (by omega)
    -- the locals' kinds are joined
    have loopQ : ∀ m j M1, lr (gmt (gc W c) k) - j < m → j ≤ lr (gmt (gc W c) k) → Fr (498460498419343452338927647605129216) M M1 → (∀ i, i < j → mI M1 117 0 i = kt A (jnK W (gk l i) (gk lo i)) ∧ kwf A (co (gmt (gc W c) k)) (jnK W (gk l i) (gk lo i))) → w_Model_join_L80 0 Q m (Int32.ofNat to) p (Int32.ofNat st.length) (Int32.ofNat j) M1 := by
      intro m
      induction m with
      | zero => intro j M1 z; exact absurd z (by omega)
      | succ m im =>
        intro j M1 hm hj f1 k17
        unfold w_Model_join_L80
        rw [(f1.I (f := 11) (k := 102) rfl 0).trans h102]
        by_cases cj : lr (gmt (gc W c) k) ≤ j
        · exact itp (le_oN cj (by omega)) ⟨t.length + 1, loopP _ 0 M1 (by omega) (by omega) f1 (fun i hi => k17 i (by omega)) (fun i hi => absurd hi (by omega))⟩
        obtain ⟨w4a, w4b⟩ := y4 j (by omega)
        obtain ⟨s4a, s4b⟩ := hlo j (by omega)
        obtain ⟨z1, z2, z3⟩ := hwK M1 f1
        rw [e20, oN_add, oN_tnc (k := 20 * to + j) (by omega), oN_tnc (k := j) (by omega), f1.Ia (f := 115) rfl rfl, f1.Ia (f := 111) rfl rfl, w4a, s4a, f1.L (f := 115) rfl, l3, f1.L (f := 111) rfl, h111]
        refine itn (nle_oN (by omega) (by omega)) ⟨(vp_oN (by omega)).mpr (by omega), (vp_oN (by omega)).mpr (by omega), ct_joinedK z1 z2 hB z3 hla w4b s4b (fun hκ => ?_)⟩
        have j1 := jt_loc hκ w4b hla (g1 _ (gk_me (show j < l.length by omega)))
        have put : ∀ v, v = kt A (jnK W (gk l j) (gk lo j)) → w_Model_join_j131 0 Q (w_Model_join_L80 0 Q m) (Int32.ofNat to) p (Int32.ofNat st.length) (Int32.ofNat j) v (Int32.ofNat j) M1 := fun v ev => by
          unfold w_Model_join_j131
          rw [(f1.L (f := 117) rfl 0).trans l17, oN_tnc (k := j) (by omega), show Int32.ofNat j + (1 : Int32) = Int32.ofNat (j + 1) from oN_add j 1]
          refine ⟨(vp_oN (by omega)).mpr (by omega), im (j + 1) _ (by omega) (by omega) (Fr.wIa rfl rfl f1) (fun i hi => ?_)⟩
          rw [mI_sI]
          by_cases z : i = j
          · rw [if_pos ⟨rfl, rfl, z⟩, z]; exact ⟨ev, hκ⟩
          · rw [if_neg (fun q => z q.2.2)]; exact k17 i (by omega)
        by_cases c0 : jt A W (gk l j) (gk lo j) = 0
        · rw [if_pos c0] at j1
          exact itp c0 (put 4 j1)
        · rw [if_neg c0] at j1
          exact itn c0 (put _ j1)
    exact loopQ _ 0 M (by omega) (by omega) (Fr.rf _ _) (fun i hi => absurd hi (by omega))
end
