/-! KINDS in the twin: a look at an instruction -/
section
variable {G : List Sl} {US : UST} {A : List Nm} {S : List Sg} {W : List Cls} {w c k : Nat} {br : Int32} {nq nl nf nk : Nat} {M M' : Mem} {Q : Int32 → Mem → Prop} {lo st : List Kd} {s : Ti} {to p a n : Nat}
/-- locals and stack at hand in the twin -/
def TPk (G : List Sl) (US : UST) (A : List Nm) (S : List Sg) (W : List Cls) (w c k : Nat) (br : Int32) (nq nl nf nk : Nat) (lo st : List Kd) (M : Mem) : Prop :=
  TE G US A S W w c k br nq nl nf nk M ∧ (mL M 111 0 = 20 ∧ mL M 212 0 = 28 ∧ mL M 212 1 = 1) ∧ (TLk A (co (gmt (gc W c) k)) 111 0 lo M ∧ lo.length = lr (gmt (gc W c) k)) ∧ TLk A (co (gmt (gc W c) k)) 212 0 st M ∧ mI M 11 0 72 = Int32.ofNat st.length
theorem TPk.hn (h : TPk G US A S W w c k br nq nl nf nk lo st M) (hf : Fr (20048213477418582548858574348412412347795904754898861995643462603384683136524005709563709105420561644643677105973552827270801474776896513778096895258053392711706131929322920265261283277175916184506175224461272039571134309729871445707075534803723117639541675923413697024723459023525659098056336791550377015008717564393169955087682783860543166328872332048578418061014025481336535435618637055812588446618624494397840888944608514239001747841235550734763661045726636348161609608371181038166256520914061412535468167313669593582239261568708336008018335952189625270681734658498571433923882561666001477469582153029365238707110982794851585181849848257086705789841174736400006333025603097082755832205882273788934356586481100636505704569221228030977586719501711533538231039115065322264920049511383375368389490652369519689202272209945207452618230656626458491502430332472979904487680552059781835358361945763633485191457169125619582062851168469255199699213185918262374690243107534888782529091218101447526711296) M M') (hk : ∀ q, mI M' 212 0 q = mI M 212 0 q) : TPk G US A S W w c k br nq nl nf nk lo st M' :=
  ⟨h.1.fr hf, ⟨(hf.L (f := 111) rfl 0).trans h.2.1.1, (hf.L (f := 212) rfl 0).trans h.2.1.2.1, (hf.L (f := 212) rfl 1).trans h.2.1.2.2⟩, ⟨h.2.2.1.1.fr hf rfl rfl, h.2.2.1.2⟩, fun j hj => ⟨(hk j).trans (h.2.2.2.1 j hj).1, (h.2.2.2.1 j hj).2⟩, (hf.I (f := 11) (k := 72) rfl 0).trans h.2.2.2.2⟩
theorem TPk.jn (h : TPk G US A S W w c k br nq nl nf nk lo st M) (hf : Fr (20048213477418582548858574348412412347795904754898861995643462603384683136524005709563709105420561644643677105973552827270801474776896513778096895258053392711706131929322920265261283277175916184506175224461272039571134309729871445707075534803723117639541675923413697024723459023525659098056336791550377015008717564393169955087682783860543166328872332048578418061014025481336535435618637055812588446618624494397840888944608514239001747841235550734763661045726636348161609608371181038166256520914061412535468167313669593582239261568708336008018335952189625270681734658498571433923882561666001477469582153029365238707110982794851585181849848257086705789841174736400006333025603097082755832205882273788934356586481100636505704569221228030977586719501711533538231039115065322264920049511383375368389490652369519689202272209945207452618230656626458491502430332472979904487680552059781835358361945763633485191457169125619582062851168469248617680983901094093754813512878132868851585628683781994132275200) M M') : TPk G US A S W w c k br nq nl nf nk lo st M' := h.hn (hf.sub rfl) (fun q => hf.Ia (f := 212) rfl rfl 0 q)
theorem TPk.join (h : TPk G US A S W w c k br nq nl nf nk lo st M) (hB : BI W) (hT : TJn A (gmt (gc W c) k) s M) (hgl : gdL lo) (hgs : gdS st) (hsl : st.length ≤ sr (gmt (gc W c) k)) (hto : to < (co (gmt (gc W c) k)).length) (hQ : ∀ M', TJn A (gmt (gc W c) k) (jnS W s to lo st).2 M' → TPk G US A S W w c k br nq nl nf nk lo st M' → Q (Int32.ofNat (jnS W s to lo st).1) M') : w_Model_join 0 (Int32.ofNat to) 0 (mI M 11 0 72) Q M := by
  have hsr := h.1.sr.2
  rw [h.2.2.2.2]
  exact ct_join h.1 hB hT h.2.2.1.1 h.2.2.1.2 hgl h.2.2.2.1 hsl hgs h.2.1.1 (by rw [h.2.1.2.1]; omega) hto (fun M' q1 q2 => hQ M' q1 (h.jn q2))
/-- behind the jumps -/
theorem ct_i304 {i : Ins} {r : Nat} {st' : List Kd} (h : TPk G US A S W w c k br nq nl nf nk lo st' M) (hB : BI W) (hT : TJn A (gmt (gc W c) k) s M) (hgl : gdL lo) (hgs : gdS st) (hsl : st.length ≤ sr (gmt (gc W c) k)) (hst : ¬ (57 ≤ i.1 ∧ i.1 ≤ 59) → st' = st) (ho : i.1 < 62) (ha : a < (co (gmt (gc W c) k)).length) (hr : r ≤ 60) (hQ : ∀ M', TJn A (gmt (gc W c) k) (if r ≠ 0 then (r, s) else folE W (gmt (gc W c) k) i a lo st s).2 M' → Q (Int32.ofNat (if r ≠ 0 then (r, s) else folE W (gmt (gc W c) k) i a lo st s).1) M') : w_Model_inferOne_j304 0 Q (Int32.ofNat a) (Int32.ofNat i.1) (Int32.ofNat r) M := by
  have h80 := h.1.wf.2.2.1.1
  unfold w_Model_inferOne_j304
  by_cases c0 : r = 0
  rotate_left
  · rw [if_pos c0] at hQ
    exact itp (lt_oN (a := 0) (by omega) (by omega)) (hQ M hT)
  rw [if_neg (fun z => z c0)] at hQ
  subst c0
  refine itn (by decide) ?_
  unfold folE at hQ
  have stop : ¬ goesOn i.1 → Q (Int32.ofNat 0) M := fun hn => by
    rw [if_pos hn] at hQ
    exact hQ M hT
  by_cases d1 : i.1 = 23
  · exact itp (by rw [d1]; rfl) (stop (fun z => z.1 d1))
  refine itn (ne_oN (b := 23) d1 (by omega) (by omega)) ?_
  by_cases d2 : i.1 = 40
  · exact itp (by rw [d2]; rfl) (stop (fun z => z.2.1 d2))
  refine itn (ne_oN (b := 40) d2 (by omega) (by omega)) ?_
  by_cases d3 : i.1 = 56
  · exact itp (by rw [d3]; rfl) (stop (fun z => z.2.2.1 d3))
  refine itn (ne_oN (b := 56) d3 (by omega) (by omega)) ?_
  by_cases d4 : i.1 = 57
  · exact itp (by rw [d4]; rfl) (stop (fun z => z.2.2.2 (by omega)))
  refine itn (ne_oN (b := 57) d4 (by omega) (by omega)) ?_
  by_cases d5 : i.1 = 58
  · exact itp (by rw [d5]; rfl) (stop (fun z => z.2.2.2 (by omega)))
  refine itn (ne_oN (b := 58) d5 (by omega) (by omega)) ?_
  by_cases d6 : i.1 = 59
  · exact itp (by rw [d6]; rfl) (stop (fun z => z.2.2.2 (by omega)))
  refine itn (ne_oN (b := 59) d6 (by omega) (by omega)) ?_
  rw [if_neg (fun z => z ⟨d1, d2, d3, by omega⟩)] at hQ
  rw [hst (by omega)] at h
  rw [hT.2.1.2.1, show Int32.ofNat a + (1 : Int32) = Int32.ofNat (a + 1) from oN_add a 1]
  by_cases c5 : a + 1 = (co (gmt (gc W c) k)).length
  · rw [if_pos c5] at hQ
    exact itp (by rw [c5]) (hQ M hT)
  · rw [if_neg c5] at hQ
    exact itn (ne_oN c5 (by omega) (by omega)) (h.join hB hT hgl hgs hsl (by omega) (fun M' q _ => hQ M' q))
theorem ct_inferOne (h : TE G US A S W w c k br nq nl nf nk M) (hB : BI W) (hT : TJn A (gmt (gc W c) k) s M) (hl : (mL M 111 0 = 20 ∧ mL M 212 0 = 28 ∧ mL M 112 0 = 10) ∧ mL M 212 1 = 1) (h73 : mI M 11 0 73 = b2 true) (hR : gR s.1 a = some (lo, st)) (ha : a < (co (gmt (gc W c) k)).length) (hq0 : mI M 149 w (12 * c + k) = Int32.ofNat n) (hn : n ≤ 30000)
    (hQ : ∀ M', TJn A (gmt (gc W c) k) (stpI W c (gmt (gc W c) k) a lo st s).2 M' → Q (Int32.ofNat (stpI W c (gmt (gc W c) k) a lo st s).1) M') : w_Model_inferOne 0 (Int32.ofNat a) Q M := by
  have h80 := h.wf.2.2.1.1
  have hlr := h.lr
  have hsr := h.sr
  have hm := h.mlt
  obtain ⟨⟨⟨t1, ⟨l1, l2, l3, l4⟩, t2⟩, hg⟩, ⟨h103, h101, h102⟩, l17, l18⟩ := id hT
  obtain ⟨x1, x2⟩ := t2 a (by omega)
  obtain ⟨⟨y1, y2, y3⟩, y4, y5⟩ := x2 lo st hR
  obtain ⟨g1, g2⟩ := hg a lo st hR
  unfold w_Model_inferOne
  refine ⟨w, h.r45, ?_⟩
  rw [h.m75, oN_tnc (k := 12 * c + k) (by omega), hq0, oN_tnc (k := a) (by omega), y1, h.ml (by omega) (by omega), l2, show (20 : Int32) * Int32.ofNat a = Int32.ofNat (20 * a) from oN_mul 20 a, show (28 : Int32) * Int32.ofNat a = Int32.ofNat (28 * a) from oN_mul 28 a, oN_add n a, oN_tnc (k := 20 * a) (by omega), oN_tnc (k := 28 * a) (by omega), oN_tnc (k := n + a) (by omega), show (0 : Int32).toNatClampNeg = 0 from rfl]
  refine ⟨(vp_oN (by omega)).mpr hm, (vp_oN (by omega)).mpr (by omega), oN_nonneg (by omega), by decide, ?_⟩
  have f1 : Fr (9335676896115104923424578434048412529656619185069045981226238703068663895374166643975167118674405684994383298779629556122609169584185124271594404828759558830273399096598345909854994750197937797990709182089786995002596783325947563027532554605846813712055643984774917841294528461771858436081715296744544531688428281058170811779649361903100817617435162909598284429411415700491767113850748658092966511202335587887950655512795091717970440090277954346855944509490689424873147908771029225628011171200341271485885683127525073281600727498861186210074618436484423126411500693531041701288839132369496616287893686922902818167168173377798677041125413150101297437139402486570182411477716219184340830988195852278235534479134297294777680453481724500180029645330138287291969656532195081126373284268837131265732222540476135764830872514259632421945329129986810633953380249461268274713265804460022820408142227405349197483929238901366557949139051399698133600055974450076876487118636160650506665021927325696) M (sI M 11 0 72 (Int32.ofNat st.length)) := Fr.wI rfl (Fr.rf _ _)
  have r72 : mI (sI M 11 0 72 (Int32.ofNat st.length)) 11 0 72 = Int32.ofNat st.length := by rw [mI_sI, if_pos ⟨rfl, rfl, rfl⟩]
  generalize sI M 11 0 72 (Int32.ofNat st.length) = M1 at f1 r72 ⊢
  rw [(f1.I (f := 11) (k := 102) rfl 0).trans h102, oN_tnc (k := lr (gmt (gc W c) k)) (by omega)]
  refine ⟨oN_nonneg (by omega), by rw [f1.L (f := 115) rfl, l3]; omega, by rw [f1.L (f := 111) rfl, hl.1.1]; omega, _, rfl, oN_nonneg (by omega), by decide, ?_⟩
  have f2 : Fr (9335676896115104923424578434048412529656619185069045981226238703068663895374166643975167118674405684994383298779629556122609169584185124271594404828759558830273399096598345909854994750197937797990709182089786995002596783325947563027532554605846813712055643984774917841294528461771858436081715296744544531688428281058170811779649361903100817617435162909598284429411415700491767113850748658092966511202335587887950655512795091717970440090277954346855944509490689424873147908771029225628011171200341271485885683127525073281600727498861186210074618436484423126411500693531041701288839132369496616287893686922902818167168173377798677041125413150101297437139402486570182411477716219184340830988195852278235534479134297294777680453481724500180029645330138287291969656532195081126373284268837131265732222540476135764830872514259632421945329129986810633953380249461268274713265804460022820408142227405349197483929238901366557949139051399698133600055974450076879083267065428064320930270091935744) M (cpI M1 115 0 (20 * a) 111 0 0 (lr (gmt (gc W c) k))) := Fr.wcp rfl rfl (f1.sub rfl)
  have k2 : ∀ q, q < lr (gmt (gc W c) k) → mI (cpI M1 115 0 (20 * a) 111 0 0 (lr (gmt (gc W c) k))) 111 0 q = mI M 115 0 (20 * a + q) := fun q hq => by
    rw [mI_cpI, if_pos ⟨rfl, rfl⟩, if_pos (by omega), f1.Ia (f := 115) rfl rfl, show q - 0 = q by omega]
  have r72 : mI (cpI M1 115 0 (20 * a) 111 0 0 (lr (gmt (gc W c) k))) 11 0 72 = Int32.ofNat st.length := by rw [mI_cpI, if_neg (fun z => absurd z.1 (by decide))]; exact r72
  generalize cpI M1 115 0 (20 * a) 111 0 0 (lr (gmt (gc W c) k)) = M4 at f2 k2 r72 ⊢
  rw [r72, oN_tnc (k := st.length) (by omega)]
  refine ⟨oN_nonneg (by omega), by rw [f2.L (f := 116) rfl, l4]; omega, by rw [f2.L (f := 212) rfl, hl.1.2.1]; omega, _, rfl, ?_⟩
  have f3 : Fr (9335676896115104923424578434048412529656619185069045981226238703068663895374166643975167118674405684994383298779629556122609169584185124271594404828759558830273399096598345909854994750197937797990709182089786995002596783325947563027532554605846813712055643984774917841294528461771858436081715296744544531688428281058170811779649361903100817617435162909598284429411415700491767113850748658092966511202335587887950655512795091717970440090277954346855944509490689424873147908771029225628011171200341271485885683127525073281600727498861186210074618436484423126411500693531041701288839132369496616287893686922902818167168173377798677041125413150101297437139402486570182411477716219184340830988195852278235534479134297294777680453481724500180029645330138287291969656532195081126373284268837131265732222540476135764830872514259632421945329129986810633953380249461268274713265804460022820408142227405349197483929238901366557949145633417927418424224594326807108485286996371526855249723486371840) M (cpI M4 116 0 (28 * a) 212 0 0 st.length) := Fr.wcp rfl rfl (f2.sub rfl)
  have k3 : ∀ q, q < lr (gmt (gc W c) k) → mI (cpI M4 116 0 (28 * a) 212 0 0 st.length) 111 0 q = mI M 115 0 (20 * a + q) := fun q hq => by
    rw [mI_cpI, if_neg (fun z => absurd z.1 (by decide))]; exact k2 q hq
  have k4 : ∀ q, q < st.length → mI (cpI M4 116 0 (28 * a) 212 0 0 st.length) 212 0 q = mI M 116 0 (28 * a + q) := fun q hq => by
    rw [mI_cpI, if_pos ⟨rfl, rfl⟩, if_pos (by omega), f2.Ia (f := 116) rfl rfl, show q - 0 = q by omega]
  have r72 : mI (cpI M4 116 0 (28 * a) 212 0 0 st.length) 11 0 72 = Int32.ofNat st.length := by rw [mI_cpI, if_neg (fun z => absurd z.1 (by decide))]; exact r72
  generalize cpI M4 116 0 (28 * a) 212 0 0 st.length = M5 at f3 k3 k4 r72 ⊢
  have h5 := h.fr f3
  have hT5 := hT.fr f3
  have hP5 : TPk G US A S W w c k br nq nl nf nk lo st M5 := ⟨h5, ⟨(f3.L (f := 111) rfl 0).trans hl.1.1, (f3.L (f := 212) rfl 0).trans hl.1.2.1, (f3.L (f := 212) rfl 1).trans hl.2⟩, ⟨fun j hj => by rw [k3 j (by omega)]; exact y4 j hj, y2⟩, fun j hj => by rw [k4 j hj]; exact y5 j hj, r72⟩
  have l112 : mL M5 112 0 = 10 := (f3.L (f := 112) rfl 0).trans hl.1.2.2
  have e73 : mI M5 11 0 73 = b2 true := (f3.I (f := 11) (k := 73) rfl 0).trans h73
  have q05 : mI M5 149 w (12 * c + k) = Int32.ofNat n := (f3.Ia (f := 149) rfl rfl w _).trans hq0
  obtain ⟨hfi, hlt, hwf⟩ := h5.ins q05 hn ha
  obtain ⟨i, hgi⟩ : ∃ i, gin (co (gmt (gc W c) k)) a = i := ⟨_, rfl⟩
  rw [hgi] at hfi hwf
  have hI : TI1 A S w nl nf nk nq (n + a) (co (gmt (gc W c) k)).length i M5 := ⟨hfi, hlt, hwf⟩
  have o62 := hwf.1
  have rO : nq ≤ mL M5 401 (rdI M5 (sOp w)) := h5.rl.1 (sOp w) (by simp)
  refine ⟨w, h5.r45, rdI M5 (sOp w), h5.sl (s := sOp w) (by simp), (vp_oN (by omega)).mpr (by omega), _, rfl, ?_⟩
  rw [show mI M5 401 (rdI M5 (sOp w)) (n + a) = Int32.ofNat i.1 from hfi.1.1]
  refine ct_inferHandlers h5 hB hT5 hP5.2.2.1.1 y2 g1 hP5.2.1.1 hP5.2.1.2.2 (by omega) (fun M6 hT6 f6 k6 => ?_)
  have hP6 := hP5.hn f6 k6
  have h6 := hP6.1
  have hI6 := hI.fr f6 h.2.1.1 h.2.1.2.2.2.1
  unfold stpI at hQ
  have hhl := handI_le (W := W) (x := (gmt (gc W c) k)) (lo := lo) (a := a) (H := hs (gmt (gc W c) k)) (s := s)
  have up : ∀ r M', r ≠ 0 → r ≤ 60 → Q (Int32.ofNat r) M' → w_Model_inferOne_j98 0 Q (Int32.ofNat a) (Int32.ofNat (n + a)) (Int32.ofNat i.1) (Int32.ofNat r) M' := fun r M' hr hr60 hq => by
    unfold w_Model_inferOne_j98 w_Model_inferOne_j116
    exact itn (nle_oN (b := 0) (by omega) (by omega)) (itn (nle_oN (b := 0) (by omega) (by omega)) hq)
  by_cases c1 : (handI W (gmt (gc W c) k) lo a (hs (gmt (gc W c) k)) s).1 = 0
  rotate_left
  · rw [if_pos c1] at hQ
    exact itn (nle_oN (b := 0) (by omega) (by omega)) (up _ M6 c1 hhl (hQ M6 hT6))
  rw [if_neg (fun z => z c1)] at hQ
  rw [c1]
  generalize (handI W (gmt (gc W c) k) lo a (hs (gmt (gc W c) k)) s).2 = s1 at hT6 hQ
  have hS6 : TS A (gmt (gc W c) k) lo st true M6 := ⟨⟨hP6.2.1.1, hP6.2.1.2.1, (f6.L (f := 112) rfl 0).trans l112⟩, ⟨hP6.2.2.1.1, y2⟩, ⟨hP6.2.2.2.1, hP6.2.2.2.2, y3⟩, (f6.I (f := 11) (k := 73) rfl 0).trans e73⟩
  refine itp (by decide) ?_
  have htl := takenS_le (W := W) (c := c) (x := (gmt (gc W c) k)) (i := i) (lo := lo) (st := st)
  -- a rule that the instruction's own work breaks
  have pre : ∀ r M', r ≠ 0 → preI W c (gmt (gc W c) k) a lo st = r → TJn A (gmt (gc W c) k) s1 M' → Q (Int32.ofNat r) M' := fun r M' hr e q => by
    have ea : actI W c (gmt (gc W c) k) a lo st s1 = (r, s1) := by unfold actI; rw [e, if_pos hr]
    rw [ea, if_pos hr] at hQ
    exact hQ M' q
  refine ct_checkTaken h6 hS6 hI6 (fun z M7 f7 => ?_) (fun z M7 hWl hle f7 => ?_)
  · exact up _ M7 z htl (pre _ M7 z (by unfold preI; rw [hgi, if_pos z]) (hT6.fr f7))
  have h7 := h6.fr f7
  have hI7 := hI6.fr f7 h.2.1.1 h.2.1.2.2.2.1
  have hS7 : TS A (gmt (gc W c) k) lo st true M7 := by
    obtain ⟨⟨m1, m2, m3⟩, ⟨k1, k2⟩, ⟨k3, k4, k5⟩, k6⟩ := hS6
    exact ⟨⟨(f7.L (f := 111) rfl 0).trans m1, (f7.L (f := 212) rfl 0).trans m2, (f7.L (f := 112) rfl 0).trans m3⟩, ⟨k1.fr f7 rfl rfl, k2⟩, ⟨k3.fr f7 rfl rfl, (f7.I (f := 11) (k := 72) rfl 0).trans k4, k5⟩, (f7.I (f := 11) (k := 73) rfl 0).trans k6⟩
  have hT7 := hT6.fr f7
  unfold w_Model_inferOne_j98
  refine itp (by decide) (ct_checkOwn h7 hS7 hI7 hWl hle ?_)
  have hol := ownS_le (W := W) (c := c) (x := (gmt (gc W c) k)) (i := i) (lo := lo) (st := st)
  unfold w_Model_inferOne_j116
  by_cases c2 : ownS W c (gmt (gc W c) k) i lo st = 0
  rotate_left
  · exact itn (nle_oN (b := 0) (by omega) (by omega)) (pre _ M7 c2 (by unfold preI; rw [hgi, if_neg (fun y => y z), if_pos c2]) hT7)
  rw [c2]
  refine itp (by decide) (mf_w_Model_act (Q := fun M22 => Fr F_Model_act M7 M22 → _) (fun M22 hf hp => hp hf) (ct_act h7 hS7 hI7 hWl hle ha hgi z c2 (fun M8 hR8 f8 => ?_)))
  have h8 := h7.fr f8
  have hI8 := hI7.fr f8 h.2.1.1 h.2.1.2.2.2.1
  have hT8 := hT7.fr f8
  obtain ⟨r1, ⟨r2, r3⟩, r4, r5⟩ := hR8
  have hP8 : TPk G US A S W w c k br nq nl nf nk (loS W c i lo st) (stT W c (gmt (gc W c) k) i a lo st) M8 := ⟨h8, ⟨r1.1, r1.2.1, (f8.L (f := 212) rfl 1).trans ((f7.L (f := 212) rfl 1).trans hP6.2.1.2.2)⟩, ⟨r2, r3⟩, r4, r5⟩
  obtain ⟨gn1, gn2⟩ := good_next (a := a) (c := c) (W := W) (x := (gmt (gc W c) k)) g1 g2 hwf z
  refine ⟨w, h8.r45, ?_⟩
  rw [h8.m75, oN_tnc (k := 12 * c + k) (by omega), h8.sr.1, r5, h8.ml (by omega) (by omega)]
  refine ⟨(vp_oN (by omega)).mpr hm, ?_⟩
  have hst : ¬ (57 ≤ i.1 ∧ i.1 ≤ 59) → stT W c (gmt (gc W c) k) i a lo st = stS W c (gmt (gc W c) k) i a lo st := stT_eq
  have hlv : (57 ≤ i.1 ∧ i.1 ≤ 59) → (stT W c (gmt (gc W c) k) i a lo st).length ≤ sr (gmt (gc W c) k) ∧ (stS W c (gmt (gc W c) k) i a lo st).length ≤ sr (gmt (gc W c) k) := fun e => by
    have e1 : pushS i a lo st = [] := by
      unfold pushS
      rw [if_neg (by omega), if_neg (by omega), if_neg (by omega), if_neg (by omega), if_neg (by omega), if_neg (by omega), if_neg (by omega), if_neg (by omega), if_neg (by omega), if_neg (by omega), if_neg (by omega)]
    unfold stT stS restS
    rw [if_neg (fun z => by have := z.1; omega), if_pos e, e1, List.append_nil, List.append_nil, List.length_take]
    omega
  have hlen : (stT W c (gmt (gc W c) k) i a lo st).length < 1000 := by
    unfold stT
    rw [List.length_append]
    have hp := pushS_len (i := i) (a := a) (lo := lo) (st := st)
    have : (if isMk i then (st.take (st.length - (wlist W c (gmt (gc W c) k) i).length)).map (made W c i (tp st (iA i).length)) else st.take (st.length - (wlist W c (gmt (gc W c) k) i).length)).length ≤ st.length := by
      by_cases e : isMk i
      · rw [if_pos e, List.length_map, List.length_take]; omega
      · rw [if_neg e, List.length_take]; omega
    omega
  have h30 : ((stT W c (gmt (gc W c) k) i a lo st).length ≤ sr (gmt (gc W c) k)) ↔ ¬ sr (gmt (gc W c) k) < (stS W c (gmt (gc W c) k) i a lo st).length := by
    by_cases e : 57 ≤ i.1 ∧ i.1 ≤ 59
    · have := hlv e; omega
    · rw [hst e]; omega
  by_cases c3 : (stT W c (gmt (gc W c) k) i a lo st).length ≤ sr (gmt (gc W c) k)
  rotate_left
  · exact itn (nle_oN (by omega) (by omega)) (pre 30 M8 (by decide) (by unfold preI; rw [hgi, if_neg (fun y => y z), if_neg (fun y => y c2), if_pos (by omega)]) hT8)
  have hsl : (stS W c (gmt (gc W c) k) i a lo st).length ≤ sr (gmt (gc W c) k) := by have := h30.mp c3; omega
  refine itp (le_oN c3 (by omega)) ?_
  have ep : preI W c (gmt (gc W c) k) a lo st = 0 := by unfold preI; rw [hgi, if_neg (fun y => y z), if_neg (fun y => y c2), if_neg (by omega)]
  clear pre up
  have eact : actI W c (gmt (gc W c) k) a lo st s1 = if isH i then handI W (gmt (gc W c) k) (loS W c i lo st) a (hs (gmt (gc W c) k)) s1 else (0, s1) := by
    unfold actI
    rw [ep, if_neg (fun y => y rfl), hgi]
  rw [eact, hgi] at hQ
  -- handlers behind it
  have hand : isH i → w_Model_inferOne_j188 0 Q (Int32.ofNat a) (Int32.ofNat i.1) M8 := fun e => by
    rw [if_pos e] at hQ
    unfold w_Model_inferOne_j188
    refine ct_inferHandlers h8 hB hT8 r2 r3 gn1 r1.1 hP8.2.1.2.2 (by omega) (fun M9 hT9 f9 k9 => ?_)
    have hhl := handI_le (W := W) (x := (gmt (gc W c) k)) (lo := loS W c i lo st) (a := a) (H := hs (gmt (gc W c) k)) (s := s1)
    have eT : (if isJ i.1 then [gtn (iT i) 0] else if i.1 = 40 then iT i else []) = [] := by
      have e51 : i.1 = 5 ∨ i.1 = 6 ∨ i.1 = 51 := by
        rcases e with e | e | e
        · exact Or.inl e
        · exact Or.inr (Or.inl e)
        · exact Or.inr (Or.inr e.1)
      rw [if_neg (by omega), if_neg (by omega)]
    refine ct_i304 (hP8.hn f9 k9) hB hT9 gn1 gn2 hsl hst o62 ha hhl (fun M' q => ?_)
    rw [folI_eq eT] at hQ
    have e1 : pickI W (loS W c i lo st) (stS W c (gmt (gc W c) k) i a lo st) [] (handI W (gmt (gc W c) k) (loS W c i lo st) a (hs (gmt (gc W c) k)) s1).2 = (0, (handI W (gmt (gc W c) k) (loS W c i lo st) a (hs (gmt (gc W c) k)) s1).2) := rfl
    rw [e1, if_neg (c := (0 : Nat) ≠ 0) (fun z => z rfl)] at hQ
    by_cases cz : (handI W (gmt (gc W c) k) (loS W c i lo st) a (hs (gmt (gc W c) k)) s1).1 = 0
    · rw [if_neg (fun z => z cz)] at q hQ ⊢; exact hQ M' q
    · rw [if_pos cz] at q hQ ⊢; exact hQ M' q
  -- where it goes
  have go : ¬ isH i → w_Model_inferOne_j198 0 Q (Int32.ofNat a) (Int32.ofNat (n + a)) (Int32.ofNat i.1) 0 M8 := fun e => by
    rw [if_neg e] at hQ
    dsimp only at hQ
    rw [if_neg (fun z => z rfl), folI_eq rfl] at hQ
    have htg := hwf.2.2.1
    have hop := hwf.2.1
    unfold w_Model_inferOne_j198
    by_cases cJ : isJ i.1
    · rw [if_pos cJ] at hQ
      refine itn (nlt_oN (b := 23) (by omega) (by omega)) (itn (nlt_oN (a := 39) (by omega) (by omega)) ?_)
      have hln := hop.2.2.1 cJ
      obtain ⟨⟨-, ⟨t1, -⟩, -⟩, -⟩ := id hI8
      rw [if_pos cJ] at t1
      have rA : nq ≤ mL M8 300 (rdI M8 (sAs w)) := h8.rl.1 (sAs w) (by simp)
      refine ⟨w, h8.r45, rdI M8 (sAs w), h8.sl (s := sAs w) (by simp), (vp_oN (by omega)).mpr (by omega), ?_⟩
      have et : mI M8 300 (rdI M8 (sAs w)) (n + a) = Int32.ofNat (gtn (iT i) 0) := by
        have e1 : mI M8 300 (rdI M8 (sAs w)) (n + a) = ((iT i).map Int32.ofNat).headD 0 := t1
        rw [e1]
        match hT : iT i, hln with
        | [t], _ => rfl
      rw [oN_tnc (k := n + a) (by omega), et]
      have e57 : ¬ (57 ≤ i.1 ∧ i.1 ≤ 59) := by omega
      rw [hst e57] at hP8
      refine hP8.join hB hT8 gn1 gn2 hsl (htg _ ?_) (fun M9 hT9 hP9 => ct_i304 hP9 hB hT9 gn1 gn2 hsl (fun _ => rfl) o62 ha jnS_le (fun M' q => ?_))
      · show (iT i).getD 0 0 ∈ iT i
        rw [List.getD_eq_getElem?_getD, List.getElem?_eq_getElem (by omega)]; exact List.getElem_mem _
      · have e1 : pickI W (loS W c i lo st) (stS W c (gmt (gc W c) k) i a lo st) [gtn (iT i) 0] s1 = if (jnS W s1 (gtn (iT i) 0) (loS W c i lo st) (stS W c (gmt (gc W c) k) i a lo st)).1 = 0 then (0, (jnS W s1 (gtn (iT i) 0) (loS W c i lo st) (stS W c (gmt (gc W c) k) i a lo st)).2) else jnS W s1 (gtn (iT i) 0) (loS W c i lo st) (stS W c (gmt (gc W c) k) i a lo st) := rfl
        rw [e1] at hQ
        by_cases cz : (jnS W s1 (gtn (iT i) 0) (loS W c i lo st) (stS W c (gmt (gc W c) k) i a lo st)).1 = 0
        · rw [if_pos cz, if_neg (c := (0 : Nat) ≠ 0) (fun z => z rfl)] at hQ
          rw [if_neg (fun z => z cz)] at q ⊢
          exact hQ M' q
        · rw [if_neg cz, if_pos cz] at hQ
          rw [if_pos cz] at q ⊢
          exact hQ M' q
    · rw [if_neg cJ] at hQ
      have j236 : w_Model_inferOne_j236 0 Q (Int32.ofNat a) (Int32.ofNat (n + a)) (Int32.ofNat i.1) 0 M8 := by
        unfold w_Model_inferOne_j236
        by_cases c40 : i.1 = 40
        · rw [if_pos c40] at hQ
          refine itp (by rw [c40]; rfl) ⟨(iT i).length + 1, ?_⟩
          have e57 : ¬ (57 ≤ i.1 ∧ i.1 ≤ 59) := by omega
          rw [hst e57] at hP8
          have loop : ∀ m j r s2 M9, (iT i).length - j < m → j ≤ (iT i).length → r ≤ 60 → TJn A (gmt (gc W c) k) s2 M9 → TPk G US A S W w c k br nq nl nf nk (loS W c i lo st) (stS W c (gmt (gc W c) k) i a lo st) M9 → TI1 A S w nl nf nk nq (n + a) (co (gmt (gc W c) k)).length i M9 → pickI W (loS W c i lo st) (stS W c (gmt (gc W c) k) i a lo st) (iT i) s1 = (if r = 0 then pickI W (loS W c i lo st) (stS W c (gmt (gc W c) k) i a lo st) ((iT i).drop j) s2 else (r, s2)) → w_Model_inferOne_L245 0 Q m (Int32.ofNat a) (Int32.ofNat (n + a)) (Int32.ofNat i.1) (Int32.ofNat r) (Int32.ofNat j) M9 := by
            intro m
            induction m with
            | zero => intro j r s2 M9 hn; exact absurd hn (by omega)
            | succ m ih =>
              intro j r s2 M9 hn hj h60 hT9 hP9 hI9 he
              have h9 := hP9.1
              obtain ⟨⟨-, ⟨-, -, t3, -⟩, -⟩, -⟩ := id hI9
              obtain ⟨lf, u1, u2, u3, u4⟩ := t3 c40
              rw [List.length_map] at u2 u3 u4
              have u3' : lf + (iT i).length ≤ nl := u3
              have rB : nq ≤ mL M9 300 (rdI M9 (sBs w)) := h9.rl.1 (sBs w) (by simp)
              have rC : nq ≤ mL M9 300 (rdI M9 (sCs w)) := h9.rl.1 (sCs w) (by simp)
              have rL : nl ≤ mL M9 300 (rdI M9 (sLi w)) := h9.rl.2.1
              have hb := h9.1.1.2.2.2
              have u1 : mI M9 300 (rdI M9 (sBs w)) (n + a) = Int32.ofNat lf := u1
              have u2 : mI M9 300 (rdI M9 (sCs w)) (n + a) = Int32.ofNat (iT i).length := u2
              have fin : pickI W (loS W c i lo st) (stS W c (gmt (gc W c) k) i a lo st) (iT i) s1 = (r, s2) → w_Model_inferOne_j304 0 Q (Int32.ofNat a) (Int32.ofNat i.1) (Int32.ofNat r) M9 := fun e2 => by
                refine ct_i304 hP9 hB hT9 gn1 gn2 hsl (fun _ => rfl) o62 ha h60 (fun M' q => ?_)
                rw [e2] at hQ
                exact hQ M' q
              unfold w_Model_inferOne_L245
              refine ⟨w, h9.r45, rdI M9 (sCs w), h9.sl (s := sCs w) (by simp), (vp_oN (by omega)).mpr (by omega), ?_⟩
              rw [oN_tnc (k := n + a) (by omega), u2]
              by_cases cj : (iT i).length ≤ j
              · refine itp (le_oN cj (by omega)) (fin ?_)
                rw [List.drop_eq_nil_of_le cj] at he
                rw [he]
                by_cases c0 : r = 0
                · rw [if_pos c0, c0]; rfl
                · rw [if_neg c0]
              refine itn (nle_oN (by omega) (by omega)) ?_
              by_cases c0 : r = 0
              · subst c0
                rw [if_pos rfl, pickI_drop (by omega)] at he
                have u5 : mI M9 300 (rdI M9 (sLi w)) (lf + j) = Int32.ofNat (gtn (iT i) j) := by
                  have e1 : mI M9 300 (rdI M9 (sLi w)) (lf + j) = gi ((iT i).map Int32.ofNat) j := u4 j (by first | exact Nat.lt_of_not_le cj | (rw [List.length_map]; exact Nat.lt_of_not_le cj))
                  rw [e1]
                  show ((iT i).map Int32.ofNat).getD _ 0 = Int32.ofNat ((iT i).getD _ 0)
                  rw [List.getD_eq_getElem?_getD, List.getD_eq_getElem?_getD, List.getElem?_map, List.getElem?_eq_getElem (by omega)]; rfl
                refine itp rfl ⟨w, h9.r45, rdI M9 (sLi w), h9.sl (s := sLi w) (by simp), w, h9.r45, rdI M9 (sBs w), h9.sl (s := sBs w) (by simp), (vp_oN (by omega)).mpr (by omega), ?_⟩
                rw [u1, oN_add, oN_tnc (k := lf + j) (by omega), u5]
                refine ⟨(vp_oN (by omega)).mpr (by omega), ct_join h9 hB hT9 hP9.2.2.1.1 hP9.2.2.1.2 gn1 hP9.2.2.2.1 hsl gn2 hP9.2.1.1 (by rw [hP9.2.1.2.1]; omega) (htg _ ?_) (fun M10 hT10 f10 => ?_) |> fun z => by rw [hP9.2.2.2.2]; exact z⟩
                · show (iT i).getD _ 0 ∈ iT i
                  rw [List.getD_eq_getElem?_getD, List.getElem?_eq_getElem (by omega)]; exact List.getElem_mem _
                · rw [show Int32.ofNat j + (1 : Int32) = Int32.ofNat (j + 1) from oN_add j 1]
                  refine ih (j + 1) _ _ M10 (by omega) (by omega) jnS_le hT10 (hP9.jn f10) (hI9.fr f10 h.2.1.1 h.2.1.2.2.2.1) ?_
                  exact he
              · rw [if_neg c0] at he
                exact itn (ne_oN (b := 0) c0 (by omega) (by omega)) (fin he)
          exact loop _ 0 0 s1 M8 (by omega) (by omega) (by omega) hT8 hP8 hI8 (by rw [if_pos rfl]; rfl)
        · rw [if_neg c40] at hQ
          refine itn (ne_oN (b := 40) c40 (by omega) (by omega)) (ct_i304 (r := 0) hP8 hB hT8 gn1 gn2 hsl hst o62 ha (by omega) (fun M' q => ?_))
          exact hQ M' q
      by_cases c23 : i.1 < 23
      · exact itp (lt_oN (b := 23) c23 (by omega)) j236
      · exact itn (nlt_oN (b := 23) (by omega) (by omega)) (itp (lt_oN (a := 39) (by omega) (by omega)) j236)
  by_cases d5 : i.1 = 5
  · exact itp (by rw [d5]; rfl) (hand (Or.inl d5))
  refine itn (ne_oN (b := 5) d5 (by omega) (by omega)) ?_
  by_cases d6 : i.1 = 6
  · exact itp (by rw [d6]; rfl) (hand (Or.inr (Or.inl d6)))
  refine itn (ne_oN (b := 6) d6 (by omega) (by omega)) ?_
  by_cases d51 : i.1 = 51
  · refine itp (by rw [d51]; rfl) ?_
    obtain ⟨-, ⟨p1, p2, p3, p4⟩, -⟩ := rdA h8 hI8 (by omega)
    refine ⟨w, h8.r45, _, p1, (vp_oN (by omega)).mpr p2, ?_⟩
    rw [oN_tnc (k := n + a) (by omega), p3, h8.1.2.2.1.make.1]
    by_cases cm : iM i = nMake
    · exact itp (by rw [cm]) (hand (Or.inr (Or.inr ⟨d51, cm⟩)))
    · exact itn (fun y => cm ((nc_inj (by have := h.la; omega) p4 h8.1.2.2.1.make.2).mp y)) (go (fun y => by
        rcases y with y | y | y
        · omega
        · omega
        · exact cm y.2))
  · exact itn (ne_oN (b := 51) d51 (by omega) (by omega)) (go (fun y => by
      rcases y with y | y | y
      · omega
      · omega
      · exact d51 y.1))
end
