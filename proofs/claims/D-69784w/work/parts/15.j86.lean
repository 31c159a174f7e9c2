/-! KINDS in the twin: handlers; what an instruction leaves can be told -/
theorem tpG {st : List Kd} (h : gdS st) (k : Nat) : (tp st k).1 ≠ -4 ∧ (tp st k).1 ≠ -2 := by
  by_cases c : st.length - 1 - k < st.length
  · exact h _ (gk_me c)
  · have e : tp st k = (0, []) := by
      show st.getD _ _ = _
      rw [List.getD_eq_getElem?_getD, List.getElem?_eq_none (by omega)]; rfl
    rw [e]; decide
theorem gdS.take {st : List Kd} (h : gdS st) (n : Nat) : gdS (st.take n) := fun κ hκ => h κ (List.mem_of_mem_take hκ)
theorem made_g {W : List Cls} {c : Nat} {i : Ins} {κ0 κ : Kd} : ((made W c i κ0 κ).1 = κ.1) ∨ (made W c i κ0 κ).1 = 2 := by
  unfold made
  split
  · exact Or.inr rfl
  · exact Or.inl rfl
theorem ite_gd {c : Prop} {_ : Decidable c} {a b : List Kd} (h1 : c → gdS a) (h2 : ¬ c → gdS b) : gdS (if c then a else b) := by
  by_cases e : c
  · rw [if_pos e]; exact h1 e
  · rw [if_neg e]; exact h2 e
theorem good_next {W : List Cls} {c n a : Nat} {x : Mth} {i : Ins} {lo st : List Kd} (hl : gdL lo) (hs : gdS st) (hw : wfI n i) (ht : takenS W c x i lo st = 0) : gdL (loS W c i lo st) ∧ gdS (stS W c x i a lo st) := by
  have hset : ∀ j κ, κ.1 ≠ -4 → gdL (lo.set j κ) := fun j κ hκ κ' h' => by
    rcases List.mem_or_eq_of_mem_set h' with z | z
    · exact hl κ' z
    · rw [z]; exact hκ
  refine ⟨?_, ?_⟩
  · unfold loS
    split
    · exact hset _ _ (by decide)
    · split
      · exact hset _ _ (tpG hs 0).1
      · split
        · intro κ hκ
          obtain ⟨κ', h1, h2⟩ := List.mem_map.mp hκ
          rw [← h2]
          rcases made_g (W := W) (c := c) (i := i) (κ0 := tp st (iA i).length) (κ := κ') with z | z
          · rw [z]; exact hl κ' h1
          · rw [z]; decide
        · exact hl
  · have hrest : gdS (restS W c x i st) := by
      unfold restS
      split
      · exact hs
      · split
        · intro κ hκ
          obtain ⟨κ', h1, h2⟩ := List.mem_map.mp hκ
          rw [← h2]
          rcases made_g (W := W) (c := c) (i := i) (κ0 := tp st (iA i).length) (κ := κ') with z | z
          · rw [z]; exact hs.take _ κ' h1
          · rw [z]; decide
        · exact hs.take _
    have one : ∀ κ : Kd, κ.1 ≠ -4 → κ.1 ≠ -2 → gdS [κ] := fun κ h1 h2 κ' h' => by rw [List.mem_singleton.mp h']; exact ⟨h1, h2⟩
    have hpush : gdS (pushS i a lo st) := by
      unfold pushS
      refine ite_gd (fun hh => ?_) (fun hh' => ?_)
      · first | exact one _ (by decide) (by decide) | exact one _ (show (2 : Int) ≠ -4 by decide) (show (2 : Int) ≠ -2 by decide)
      refine ite_gd (fun hh => ?_) (fun hh' => ?_)
      · first | exact one _ (by decide) (by decide) | exact one _ (show (2 : Int) ≠ -4 by decide) (show (2 : Int) ≠ -2 by decide)
      refine ite_gd (fun hh => ?_) (fun hh' => ?_)
      · first | exact one _ (by decide) (by decide) | exact one _ (show (2 : Int) ≠ -4 by decide) (show (2 : Int) ≠ -2 by decide)
      refine ite_gd (fun hh => ?_) (fun hh' => ?_)
      · have h4 := hh
        unfold takenS at ht
        by_cases c1 : (3 ≤ i.1 ∧ i.1 ≤ 7) ∧ lr x ≤ iL i
        · rw [if_pos c1] at ht; exact absurd ht (by decide)
        rw [if_neg c1] at ht
        by_cases c2 : takeS W st (wlist W c x i) = 0
        · rw [if_neg (fun z => z c2)] at ht
          by_cases c3 : ((i.1 = 3 ∨ i.1 = 7) ∧ (gk lo (iL i)).1 ≠ 0) ∨ (i.1 = 4 ∧ rfK (gk lo (iL i)) = false ∧ umK (gk lo (iL i)) = false)
          · rw [if_pos c3] at ht; exact absurd ht (by decide)
          · have hk : rfK (gk lo (iL i)) = true ∨ umK (gk lo (iL i)) = true := by
              cases e1 : rfK (gk lo (iL i)) with
              | true => exact Or.inl rfl
              | false =>
                cases e2 : umK (gk lo (iL i)) with
                | true => exact Or.inr rfl
                | false => exact absurd (Or.inr ⟨h4, e1, e2⟩) c3
            rcases hk with z | z
            · exact one _ (rfK_v z).1 (rfK_v z).2
            · unfold umK at z
              rw [Bool.or_eq_true, decide_eq_true_iff, decide_eq_true_iff] at z
              exact one _ (by omega) (by omega)
        · rw [if_pos c2] at ht; exact absurd ht c2
      refine ite_gd (fun hh => ?_) (fun hh' => ?_)
      · intro κ hκ
        have : κ = tp st 0 := by simpa using hκ
        rw [this]; exact tpG hs 0
      refine ite_gd (fun hh => ?_) (fun hh' => ?_)
      · intro κ hκ
        have : κ = tp st 0 ∨ κ = tp st 1 ∨ κ = tp st 0 := by simpa using hκ
        rcases this with z | z | z
        · rw [z]; exact tpG hs 0
        · rw [z]; exact tpG hs 1
        · rw [z]; exact tpG hs 0
      refine ite_gd (fun hh => ?_) (fun hh' => ?_)
      · intro κ hκ
        have : κ = tp st 0 ∨ κ = tp st 1 := by simpa using hκ
        rcases this with z | z
        · rw [z]; exact tpG hs 0
        · rw [z]; exact tpG hs 1
      refine ite_gd (fun hh => ?_) (fun hh' => ?_)
      · exact one _ (by show (-10 - (a : Int)) ≠ -4; omega) (by show (-10 - (a : Int)) ≠ -2; omega)
      refine ite_gd (fun hh => ?_) (fun hh' => ?_)
      · have h46 := hh
        have hty := hw.2.1.2.2.2.2.2.2 (by omega)
        rcases hty with z | z | z
        · exact one _ (by rw [z]; decide) (by rw [z]; decide)
        · exact one _ (by rw [z]; decide) (by rw [z]; decide)
        · exact one _ (by rw [z]; decide) (by rw [z]; decide)
      refine ite_gd (fun hh => ?_) (fun hh' => ?_)
      · first | exact one _ (by decide) (by decide) | exact one _ (show (2 : Int) ≠ -4 by decide) (show (2 : Int) ≠ -2 by decide)
      refine ite_gd (fun hh => ?_) (fun hh' => ?_)
      · refine ite_gd (fun _ => ?_) (fun hh' => ?_)
        · exact fun κ hκ => absurd hκ (by simp)
        · have h4 := hh'
          have hty := hw.2.1.2.2.2.2.2.1
          rcases hty with z | z | z | z
          · exact one _ (by rw [z]; decide) (by rw [z]; decide)
          · exact one _ (by rw [z]; decide) (by rw [z]; decide)
          · exact absurd (by rw [z]) h4
          · exact one _ (by rw [z]; decide) (by rw [z]; decide)
      · exact fun κ hκ => absurd hκ (by simp)
    unfold stS
    intro κ hκ
    rcases List.mem_append.mp hκ with z | z
    · exact hrest κ z
    · exact hpush κ z
section
variable {G : List Sl} {US : UST} {A : List Nm} {S : List Sg} {W : List Cls} {w c k : Nat} {br : Int32} {nq nl nf nk : Nat} {M M' : Mem} {Q : Int32 → Mem → Prop} {lo st : List Kd} {s : Ti} {to p a : Nat}
theorem TLk.fr {co : List Ins} {f i F : Nat} {ks : List Kd} (h : TLk A co f i ks M) (hf : Fr F M M') (h20 : Nat.ble 20 f = true) (hF : F.testBit f = false) : TLk A co f i ks M' := fun j hj => ⟨(hf.Ia h20 hF i j).trans (h j hj).1, (h j hj).2⟩
theorem ct_inferHandlers (h : TE G US A S W w c k br nq nl nf nk M) (hB : BI W) (hT : TJn A (gmt (gc W c) k) s M) (hlo : TLk A (co (gmt (gc W c) k)) 111 0 lo M) (hll : lo.length = lr (gmt (gc W c) k)) (hgl : gdL lo) (h111 : mL M 111 0 = 20) (h212 : mL M 212 1 = 1) (ha : a ≤ 80)
    (hQ : ∀ M', TJn A (gmt (gc W c) k) (handI W (gmt (gc W c) k) lo a (hs (gmt (gc W c) k)) s).2 M' → Fr (20048213477418582548858574348412412347795904754898861995643462603384683136524005709563709105420561644643677105973552827270801474776896513778096895258053392711706131929322920265261283277175916184506175224461272039571134309729871445707075534803723117639541675923413697024723459023525659098056336791550377015008717564393169955087682783860543166328872332048578418061014025481336535435618637055812588446618624494397840888944608514239001747841235550734763661045726636348161609608371181038166256520914061412535468167313669593582239261568708336008018335952189625270681734658498571433923882561666001477469582153029365238707110982794851585181849848257086705789841174736400006333025603097082755832205882273788934356586481100636505704569221228030977586719501711533538231039115065322264920049511383375368389490652369519689202272209945207452618230656626458491502430332472979904487680552059781835358361945763633485191457169125619582062851168469255199699213185918262374690243107534888782529091218101447526711296) M M' → (∀ q, mI M' 212 0 q = mI M 212 0 q) → Q (Int32.ofNat (handI W (gmt (gc W c) k) lo a (hs (gmt (gc W c) k)) s).1) M') : w_Model_inferHandlers 0 (Int32.ofNat a) Q M := by
  have hm := h.mlt
  have hla := h.la
  have hco := h.wf.2.2.1.1
  have hsr := h.sr
  have loop : ∀ n j s1 M1 r, (hs (gmt (gc W c) k)).length - j < n → j ≤ (hs (gmt (gc W c) k)).length → r ≤ 60 → TJn A (gmt (gc W c) k) s1 M1 → Fr (20048213477418582548858574348412412347795904754898861995643462603384683136524005709563709105420561644643677105973552827270801474776896513778096895258053392711706131929322920265261283277175916184506175224461272039571134309729871445707075534803723117639541675923413697024723459023525659098056336791550377015008717564393169955087682783860543166328872332048578418061014025481336535435618637055812588446618624494397840888944608514239001747841235550734763661045726636348161609608371181038166256520914061412535468167313669593582239261568708336008018335952189625270681734658498571433923882561666001477469582153029365238707110982794851585181849848257086705789841174736400006333025603097082755832205882273788934356586481100636505704569221228030977586719501711533538231039115065322264920049511383375368389490652369519689202272209945207452618230656626458491502430332472979904487680552059781835358361945763633485191457169125619582062851168469255199699213185918262374690243107534888782529091218101447526711296) M M1 → (∀ q, mI M1 212 0 q = mI M 212 0 q) → handI W (gmt (gc W c) k) lo a (hs (gmt (gc W c) k)) s = (if r = 0 then handI W (gmt (gc W c) k) lo a ((hs (gmt (gc W c) k)).drop j) s1 else (r, s1)) → w_Model_inferHandlers_L10 0 Q n (Int32.ofNat a) (Int32.ofNat r) (Int32.ofNat (8 * (12 * c + k) + j)) M1 := by
    intro n
    induction n with
    | zero => intro j s1 M1 r hn; exact absurd hn (by omega)
    | succ n ih =>
      intro j s1 M1 r hn hj hr60 hT1 f1 k1 he
      have h1 := h.fr f1
      obtain ⟨q0, a1, a2, ⟨a3, a4⟩, hI, ⟨a5, a6⟩, hH⟩ := h1.mc
      have a5' : mI M1 151 w (12 * c + k) = Int32.ofNat (hs (gmt (gc W c) k)).length := a5
      have a6' : (hs (gmt (gc W c) k)).length ≤ 8 := a6
      have h155 := h1.ms.2.1
      unfold w_Model_inferHandlers_L10
      refine ⟨w, h1.r45, ?_⟩
      rw [h1.m75, oN_tnc (k := 12 * c + k) (by omega), a5', show (8 : Int32) * Int32.ofNat (12 * c + k) = Int32.ofNat (8 * (12 * c + k)) from oN_mul 8 _, oN_add, h1.ml (by omega) (by omega)]
      refine ⟨(vp_oN (by omega)).mpr hm, ?_⟩
      by_cases cj : (hs (gmt (gc W c) k)).length ≤ j
      · refine itp (le_oN (by omega) (by omega)) ?_
        rw [List.drop_eq_nil_of_le cj] at he
        have he : handI W (gmt (gc W c) k) lo a (hs (gmt (gc W c) k)) s = (r, s1) := by
          rw [he]
          by_cases c0 : r = 0
          · rw [if_pos c0, c0]; rfl
          · rw [if_neg c0]
        rw [he] at hQ
        exact hQ M1 hT1 f1 k1
      refine itn (nle_oN (by omega) (by omega)) ?_
      by_cases c0 : r = 0
      rotate_left
      · rw [if_neg c0] at he
        rw [he] at hQ
        exact itn (ne_oN (b := 0) c0 (by omega) (by omega)) (hQ M1 hT1 f1 k1)
      rw [if_pos c0] at he
      subst c0
      refine itp rfl ⟨w, h1.r45, ?_⟩
      have hjl : j < (hs (gmt (gc W c) k)).length := by omega
      obtain ⟨g1, g2, g3, g4, g5⟩ := hH j hjl
      have hwf := h.wf.2.2.2.1.2 (ghn (hs (gmt (gc W c) k)) j) (by
        show (hs (gmt (gc W c) k)).getD j _ ∈ _
        rw [List.getD_eq_getElem?_getD, List.getElem?_eq_getElem hjl]; exact List.getElem_mem hjl)
      have g1 : mI M1 152 w (8 * (12 * c + k) + j) = Int32.ofNat (ghn (hs (gmt (gc W c) k)) j).1 := g1
      have g2 : mI M1 153 w (8 * (12 * c + k) + j) = Int32.ofNat (ghn (hs (gmt (gc W c) k)) j).2.1 := g2
      have g3 : mI M1 154 w (8 * (12 * c + k) + j) = Int32.ofNat (ghn (hs (gmt (gc W c) k)) j).2.2.1 := g3
      have g4 : mI M1 155 w (8 * (12 * c + k) + j) = anyC A (ghn (hs (gmt (gc W c) k)) j).2.2.2 := g4
      have g5 : (ghn (hs (gmt (gc W c) k)) j).2.2.2 ∈ A := g5
      rw [handI_drop hjl] at he
      generalize ghn (hs (gmt (gc W c) k)) j = H at g1 g2 g3 g4 g5 hwf he
      obtain ⟨w1, w2, w3, w4⟩ := hwf
      rw [oN_tnc (k := 8 * (12 * c + k) + j) (by omega), g1, h155 152 (by omega) (by omega)]
      refine ⟨(vp_oN (by omega)).mpr (by omega), ?_⟩
      have next : ∀ s2 M2 r2, r2 ≤ 60 → TJn A (gmt (gc W c) k) s2 M2 → Fr (20048213477418582548858574348412412347795904754898861995643462603384683136524005709563709105420561644643677105973552827270801474776896513778096895258053392711706131929322920265261283277175916184506175224461272039571134309729871445707075534803723117639541675923413697024723459023525659098056336791550377015008717564393169955087682783860543166328872332048578418061014025481336535435618637055812588446618624494397840888944608514239001747841235550734763661045726636348161609608371181038166256520914061412535468167313669593582239261568708336008018335952189625270681734658498571433923882561666001477469582153029365238707110982794851585181849848257086705789841174736400006333025603097082755832205882273788934356586481100636505704569221228030977586719501711533538231039115065322264920049511383375368389490652369519689202272209945207452618230656626458491502430332472979904487680552059781835358361945763633485191457169125619582062851168469255199699213185918262374690243107534888782529091218101447526711296) M M2 → (∀ q, mI M2 212 0 q = mI M 212 0 q) → handI W (gmt (gc W c) k) lo a (hs (gmt (gc W c) k)) s = (if r2 = 0 then handI W (gmt (gc W c) k) lo a ((hs (gmt (gc W c) k)).drop (j + 1)) s2 else (r2, s2)) → w_Model_inferHandlers_j142 0 Q (w_Model_inferHandlers_L10 0 Q n) (Int32.ofNat a) (Int32.ofNat r2) (Int32.ofNat (8 * (12 * c + k) + j)) M2 := fun s2 M2 r2 q1 q2 q3 q4 q5 => by
        unfold w_Model_inferHandlers_j142
        rw [show Int32.ofNat (8 * (12 * c + k) + j) + (1 : Int32) = Int32.ofNat (8 * (12 * c + k) + (j + 1)) from oN_add _ 1]
        exact ih (j + 1) s2 M2 r2 (by omega) (by omega) q1 q2 q3 q4 q5
      by_cases c1 : a < H.1
      · rw [if_pos (Or.inl c1)] at he
        exact itp (lt_oN c1 (by omega)) (next s1 M1 0 (by omega) hT1 f1 k1 (by rw [if_pos rfl]; exact he))
      refine itn (nlt_oN (by omega) (by omega)) ⟨w, h1.r45, ?_⟩
      rw [g2, h155 153 (by omega) (by omega)]
      refine ⟨(vp_oN (by omega)).mpr (by omega), ?_⟩
      by_cases c2 : H.2.1 ≤ a
      · rw [if_pos (by omega)] at he
        exact itp (le_oN c2 (by omega)) (next s1 M1 0 (by omega) hT1 f1 k1 (by rw [if_pos rfl]; exact he))
      rw [if_neg (by omega)] at he
      refine itn (nle_oN (by omega) (by omega)) ⟨w, h1.r45, ?_⟩
      rw [g4, h155 155 (by omega) (by omega)]
      refine ⟨(vp_oN (by omega)).mpr (by omega), ?_⟩
      have step : ∀ nm, (if H.2.2.2 = nAny then nFault else H.2.2.2) = nm → nm ∈ A → w_Model_inferHandlers_j101 0 Q (w_Model_inferHandlers_L10 0 Q n) (Int32.ofNat a) (Int32.ofNat (8 * (12 * c + k) + j)) (nc A nm) 16 0 1 M1 := fun nm en hn => by
        rw [en] at he
        unfold w_Model_inferHandlers_j101 w_Model_inferHandlers_j141
        rw [show (0 : Int32).toNatClampNeg = 0 from rfl, kt_cl2]
        have f2 : Fr (6582018229284824168619876730229402019930943462534319453394436096) M1 (sI M1 212 1 0 (kt A (2, nm))) := Fr.wIa rfl rfl (Fr.rf _ _)
        have r2 : mI (sI M1 212 1 0 (kt A (2, nm))) 212 1 0 = kt A (2, nm) := by rw [mI_sI, if_pos ⟨rfl, rfl, rfl⟩]
        have k2 : ∀ q, mI (sI M1 212 1 0 (kt A (2, nm))) 212 0 q = mI M 212 0 q := fun q => by rw [mI_sI, if_neg (fun z => absurd z.2.1 (by decide))]; exact k1 q
        refine ⟨by rw [f1.L (f := 212) rfl, h212]; exact (vp_oN (a := 0) (by omega)).mpr (by omega), ?_⟩
        generalize sI M1 212 1 0 (kt A (2, nm)) = M2 at f2 r2 k2 ⊢
        have h2 := h1.fr f2
        have f12 : Fr (20048213477418582548858574348412412347795904754898861995643462603384683136524005709563709105420561644643677105973552827270801474776896513778096895258053392711706131929322920265261283277175916184506175224461272039571134309729871445707075534803723117639541675923413697024723459023525659098056336791550377015008717564393169955087682783860543166328872332048578418061014025481336535435618637055812588446618624494397840888944608514239001747841235550734763661045726636348161609608371181038166256520914061412535468167313669593582239261568708336008018335952189625270681734658498571433923882561666001477469582153029365238707110982794851585181849848257086705789841174736400006333025603097082755832205882273788934356586481100636505704569221228030977586719501711533538231039115065322264920049511383375368389490652369519689202272209945207452618230656626458491502430332472979904487680552059781835358361945763633485191457169125619582062851168469255199699213185918262374690243107534888782529091218101447526711296) M M2 := f1.trans (f2.sub rfl)
        refine ⟨w, h2.r45, ?_⟩
        rw [h2.m75, oN_tnc (k := 12 * c + k) (by omega), h2.sr.1, h2.ml (by omega) (by omega)]
        refine ⟨(vp_oN (by omega)).mpr hm, ?_⟩
        by_cases c0 : sr (gmt (gc W c) k) = 0
        · rw [if_pos c0] at he
          exact itp (by rw [c0]; rfl) (next s1 M2 30 (by omega) (hT1.fr f2) f12 k2 (by rw [if_neg (by decide)]; exact he))
        rw [if_neg c0] at he
        refine itn (ne_oN (b := 0) c0 (by omega) (by omega)) ⟨w, h2.r45, ?_⟩
        rw [oN_tnc (k := 8 * (12 * c + k) + j) (by omega), h2.ms.2.1 154 (by omega) (by omega), (f2.Ia (f := 154) rfl rfl w _).trans g3]
        refine ⟨(vp_oN (by omega)).mpr (by omega), ?_⟩
        refine ct_join (st := [(2, nm)]) (p := 1) h2 hB (hT1.fr f2) ((hlo.fr f1 rfl rfl).fr f2 rfl rfl) hll hgl (fun j hj => ?_) (by show 1 ≤ _; omega) (fun κ hκ => by rw [List.mem_singleton.mp hκ]; exact ⟨(by decide : (2 : Int) ≠ -4), (by decide : (2 : Int) ≠ -2)⟩) ((f12.L (f := 111) rfl 0).trans h111) (by rw [f12.L (f := 212) rfl, h212]; exact Nat.le_refl 1) w3 (fun M3 q1 q2 => ?_)
        · have : j = 0 := by
            have : j < 1 := hj
            omega
          subst this
          exact ⟨r2, kwf_cls hn⟩
        · refine next _ M3 _ jnS_le q1 (f12.trans (q2.sub rfl)) (fun q => (q2.Ia (f := 212) rfl rfl 0 q).trans (k2 q)) ?_
          by_cases cz : (jnS W s1 H.2.2.1 lo [(2, nm)]).1 = 0
          · rw [if_pos cz] at he ⊢; exact he
          · rw [if_neg cz] at he ⊢; exact he
      unfold anyC
      by_cases c5 : H.2.2.2 = nAny
      · rw [if_pos c5]
        refine itn (by decide) ?_
        rw [h1.1.2.2.1.thing.1, h1.fault.1]
        exact step nFault (by rw [if_pos c5]) h1.fault.2
      · rw [if_neg c5]
        have hz : (0 : Int32) ≤ nc A H.2.2.2 := oN_zero_le (by have := List.idxOf_lt_length_of_mem g5; omega)
        have g4n : mI M1 155 w (8 * (12 * c + k) + j) = nc A H.2.2.2 := by rw [g4]; exact if_neg c5
        refine itp hz ⟨w, h1.r45, ?_⟩
        refine ⟨by rw [h155 155 (by omega) (by omega)]; exact (vp_oN (by omega)).mpr (by omega), ?_⟩
        rw [g4n]
        exact step _ (by rw [if_neg c5]) g5
  unfold w_Model_inferHandlers
  rw [h.m75, show (8 : Int32) * Int32.ofNat (12 * c + k) = Int32.ofNat (8 * (12 * c + k)) from oN_mul 8 _]
  exact ⟨(hs (gmt (gc W c) k)).length + 1, loop _ 0 s M 0 (by omega) (by omega) (by omega) hT (Fr.rf _ _) (fun _ => rfl) (by rw [if_pos rfl]; rfl)⟩
end
