/-! B: the twin's checker: what an instruction does to kinds (printed by gen/ta.py) -/
def TSr (A : List Nm) (x : Mth) (lo st : List Kd) (M : Mem) : Prop := (mL M 111 0 = 20 ∧ mL M 212 0 = 28 ∧ mL M 112 0 = 10) ∧ (TLk A (co x) 111 0 lo M ∧ lo.length = lr x) ∧ TLk A (co x) 212 0 st M ∧ mI M 11 0 72 = Int32.ofNat st.length
/-- the stack behind it, as the twin has it: what was wanted is gone -/
def stT (W : List Cls) (c : Nat) (x : Mth) (i : Ins) (a : Nat) (lo st : List Kd) : List Kd := (if isMk i then (st.take (st.length - (wlist W c x i).length)).map (made W c i (tp st (iA i).length)) else st.take (st.length - (wlist W c x i).length)) ++ pushS i a lo st
theorem stT_eq {W : List Cls} {c : Nat} {x : Mth} {i : Ins} {a : Nat} {lo st : List Kd} (h : ¬ (57 ≤ i.1 ∧ i.1 ≤ 59)) : stT W c x i a lo st = stS W c x i a lo st := by
  unfold stT stS restS
  rw [if_neg h]
section
variable {G : List Sl} {US : UST} {A : List Nm} {S : List Sg} {W : List Cls} {w c k : Nat} {br : Int32} {nq nl nf nk : Nat} {M M' : Mem} {Q : Mem → Prop} {lo st : List Kd} {q n a : Nat} {i : Ins}
theorem TSr.pop {m : Nat} {v : Int32} (h : TSr A (gmt (gc W c) k) lo st M) (hm : m ≤ st.length) (hv : v = Int32.ofNat m) : TSr A (gmt (gc W c) k) lo (st.take (st.length - m)) (sI M 11 0 72 (mI M 11 0 72 - v)) := by
  obtain ⟨h1, ⟨h2, h3⟩, h4, h5⟩ := h
  have hl : (st.take (st.length - m)).length = st.length - m := by rw [List.length_take]; omega
  refine ⟨h1, ⟨fun j hj => ?_, h3⟩, fun j hj => ?_, ?_⟩
  · rw [mI_sI, if_neg (fun z => absurd z.1 (by decide))]; exact h2 j hj
  · rw [hl] at hj
    rw [mI_sI, if_neg (fun z => absurd z.1 (by decide)), gk_take hj]; exact h4 j (by omega)
  · rw [mI_sI, if_pos ⟨rfl, rfl, rfl⟩, h5, hv, oN_sub hm, hl]
theorem ct_lay {κ : Kd} (h : TSr A (gmt (gc W c) k) lo st M) (hl : st.length ≤ 25) (hκ : kwf A (co (gmt (gc W c) k)) κ) (hQ : ∀ M', TSr A (gmt (gc W c) k) lo (st ++ [κ]) M' → Q M') : w_Model_lay 0 (kt A κ) Q M := by
  obtain ⟨h1, ⟨h2, h3⟩, h4, h5⟩ := h
  unfold w_Model_lay
  rw [h5, oN_tnc (by omega), h1.2.1]
  refine ⟨(vp_oN (by omega)).mpr (by omega), _, rfl, hQ _ ⟨h1, ⟨fun j hj => ?_, h3⟩, fun j hj => ?_, ?_⟩⟩
  · rw [mI_sI, if_neg (fun z => absurd z.1 (by decide)), mI_sI, if_neg (fun z => absurd z.1 (by decide))]; exact h2 j hj
  · rw [List.length_append, List.length_singleton] at hj
    rw [mI_sI, if_neg (fun z => absurd z.1 (by decide)), mI_sI]
    by_cases e : j = st.length
    · rw [if_pos ⟨rfl, rfl, e⟩, e, gk_snoc]; exact ⟨rfl, hκ⟩
    · rw [if_neg (fun z => e z.2.2), gk_ap, if_pos (by omega)]; exact h4 j (by omega)
  · rw [mI_sI, if_pos ⟨rfl, rfl, rfl⟩, mI_sI, if_neg (fun z => absurd z.1 (by decide)), h5, List.length_append, List.length_singleton]; exact oN_add _ 1
theorem ct_res (h : TE G US A S W w c k br nq nl nf nk M) (hR : TSr A (gmt (gc W c) k) lo st M) (hl : st.length ≤ 25) (hI : TI1 A S w nl nf nk nq q n i M) (ho : isMo i.1) (hQ : ∀ M', TSr A (gmt (gc W c) k) lo (st ++ (if (iR i).1 = -4 then [] else [iR i])) M' → Q M') : w_Model_act_j643 0 Q (Int32.ofNat q) M := by
  have hla := h.la
  have hq := hI.2.1
  obtain ⟨-, ⟨-, -, -, -, -, -, t7⟩, -⟩ := hI.1
  have hsg : sg A (iA i) (iR i) ∈ S := (t7 ho).1
  have hκ : kwf A (co (gmt (gc W c) k)) (iR i) := kwf_kd (t7 ho).2.2.2.1 (t7 ho).2.2.1
  obtain ⟨-, -, r1, r2, r3⟩ := rdA h hI (Or.inr ho)
  rw [if_neg (by omega)] at r3
  obtain ⟨⟨g0, gF, gC, gR⟩, eC, eR, -⟩ := te_sig h hsg
  have slR := h.sl5 (s := sRe) (X5_in h.2.1.2.1 (by simp))
  unfold w_Model_act_j643
  refine ⟨rdI M sRe, slR, w, h.r45, _, r1, (vp_oN (by omega)).mpr r2, ?_⟩
  rw [oN_tnc (k := q) (by omega), r3, oN_tnc (k := S.idxOf (sg A (iA i) (iR i))) (by omega), show mI M 300 (rdI M sRe) (S.idxOf (sg A (iA i) (iR i))) = kt A (iR i) from eR]
  refine ⟨(by show vp_in _ (rl M sRe); exact (vp_oN (by omega)).mpr gR), ?_⟩
  by_cases c4 : (iR i).1 = -4
  · rw [if_pos c4] at hQ
    exact itp ((kt_e (n := 0) hκ hla (by omega)).mpr c4) (hQ M (by rw [List.append_nil]; exact hR))
  · rw [if_neg c4] at hQ
    refine itn (fun z => c4 ((kt_e (n := 0) (m := -4) hκ hla (by omega)).mp z)) ⟨rdI M sRe, slR, w, h.r45, _, r1, (vp_oN (by omega)).mpr r2, ?_⟩
    rw [r3, oN_tnc (k := S.idxOf (sg A (iA i) (iR i))) (by omega), show mI M 300 (rdI M sRe) (S.idxOf (sg A (iA i) (iR i))) = kt A (iR i) from eR]
    exact ⟨(by show vp_in _ (rl M sRe); exact (vp_oN (by omega)).mpr gR), ct_lay hR hl hκ hQ⟩
/-- what was not made becomes made -/
theorem ct_changeT {κ0 κ1 : Kd} {v8 : Int32} (h : TE G US A S W w c k br nq nl nf nk M) (hR : TSr A (gmt (gc W c) k) lo st M) (hl : st.length ≤ 20) (hI : TI1 A S w nl nf nk nq q n i M) (ho : isMo i.1) (h0 : kwf A (co (gmt (gc W c) k)) κ0) (h1 : kwf A (co (gmt (gc W c) k)) κ1) (ev : v8 = kt A κ1) (hQ : ∀ M', TSr A (gmt (gc W c) k) (lo.map (fun κ => if κ = κ0 then κ1 else κ)) (st.map (fun κ => if κ = κ0 then κ1 else κ) ++ (if (iR i).1 = -4 then [] else [iR i])) M' → Q M') : ∃ m, w_Model_act_L540 0 Q m (Int32.ofNat q) (kt A κ0) v8 0 M := by
  have hla := h.la
  have hlr := h.lr
  have hm := h.mlt
  have hll : lo.length = lr (gmt (gc W c) k) := hR.2.1.2
  have loop2 : ∀ m j (s : List Kd) M, TE G US A S W w c k br nq nl nf nk M → TI1 A S w nl nf nk nq q n i M → TSr A (gmt (gc W c) k) (lo.map (fun κ => if κ = κ0 then κ1 else κ)) s M → st.length - j < m → j ≤ st.length → s.length = st.length → (∀ x, x < st.length → gk s x = if x < j then (if gk st x = κ0 then κ1 else gk st x) else gk st x) → w_Model_act_L597 0 Q m (Int32.ofNat q) (kt A κ0) v8 (Int32.ofNat j) M := by
    intro m
    induction m with
    | zero => intro j s M _ _ _ hn; exact absurd hn (by omega)
    | succ m ih =>
      intro j s M h hI hS hn hj hls hs
      obtain ⟨⟨m1, m2, m3⟩, ⟨k1, k2⟩, k3, k4⟩ := id hS
      unfold w_Model_act_L597 w_Model_act_j636
      rw [k4]
      by_cases cj : st.length ≤ j
      · refine itp (le_oN (by omega) (by omega)) (ct_res h hS (by omega) hI ho ?_)
        rw [map_ext (l := st) (l' := s) (f := fun κ => if κ = κ0 then κ1 else κ) hls (fun x hx => by rw [hs x hx, if_pos (by omega)])]
        exact hQ
      obtain ⟨s1, s2⟩ := k3 j (by omega)
      have ej := hs j (by omega)
      rw [if_neg (by omega)] at ej
      rw [ej] at s1 s2
      rw [oN_tnc (k := j) (by omega), s1, m2]
      refine itn (nle_oN (by omega) (by omega)) ⟨(vp_oN (by omega)).mpr (by omega), ?_⟩
      have step : ∀ κ, kwf A (co (gmt (gc W c) k)) κ → κ = (if gk st j = κ0 then κ1 else gk st j) → w_Model_act_L597 0 Q m (Int32.ofNat q) (kt A κ0) v8 (Int32.ofNat j + 1) (sI M 212 0 j (kt A κ)) := fun κ hκ eκ => by
        rw [show Int32.ofNat j + (1 : Int32) = Int32.ofNat (j + 1) from oN_add j 1]
        have fj : Fr (6582018229284824168619876730229402019930943462534319453394436096) M (sI M 212 0 j (kt A κ)) := Fr.wIa rfl rfl (Fr.rf _ _)
        refine ih (j + 1) (s.set j κ) _ (h.fr fj) (hI.fr fj h.2.1.1 h.2.1.2.2.2.1) ⟨⟨m1, m2, m3⟩, ⟨fun x hx => by rw [mI_sI, if_neg (fun z => absurd z.1 (by decide))]; exact k1 x hx, k2⟩, fun x hx => ?_, by rw [mI_sI, if_neg (fun z => absurd z.1 (by decide)), List.length_set]; exact k4⟩ (by omega) (by omega) (by rw [List.length_set]; exact hls) (fun x hx => ?_)
        · rw [List.length_set] at hx
          rw [gk_set (by omega), mI_sI]
          by_cases e : x = j
          · rw [if_pos e, if_pos ⟨rfl, rfl, e⟩]; exact ⟨rfl, hκ⟩
          · rw [if_neg e, if_neg (fun z => e z.2.2)]; exact k3 x hx
        · rw [gk_set (by omega)]
          by_cases e : x = j
          · rw [if_pos e, if_pos (c := x < j + 1) (by omega), e]; exact eκ
          · rw [if_neg e, hs x hx]
            by_cases e2 : x < j
            · rw [if_pos e2, if_pos (c := x < j + 1) (by omega)]
            · rw [if_neg e2, if_neg (c := x < j + 1) (by omega)]
      by_cases c1 : gk st j = κ0
      · rw [ev]
        rw [ev] at step
        exact itp (by rw [c1]) ⟨(vp_oN (by omega)).mpr (by omega), step κ1 h1 (by rw [if_pos c1])⟩
      · exact itn (fun z => c1 ((kt_inw s2 h0 hla).mp z)) ⟨(vp_oN (by omega)).mpr (by omega), (vp_oN (by omega)).mpr (by omega), step (gk st j) s2 (by rw [if_neg c1])⟩
  have loop1 : ∀ m j (s : List Kd) M, TE G US A S W w c k br nq nl nf nk M → TI1 A S w nl nf nk nq q n i M → TSr A (gmt (gc W c) k) s st M → lo.length - j < m → j ≤ lo.length → s.length = lo.length → (∀ x, x < lo.length → gk s x = if x < j then (if gk lo x = κ0 then κ1 else gk lo x) else gk lo x) → w_Model_act_L540 0 Q m (Int32.ofNat q) (kt A κ0) v8 (Int32.ofNat j) M := by
    intro m
    induction m with
    | zero => intro j s M _ _ _ hn; exact absurd hn (by omega)
    | succ m ih =>
      intro j s M h hI hS hn hj hls hs
      obtain ⟨⟨m1, m2, m3⟩, ⟨k1, k2⟩, k3, k4⟩ := id hS
      unfold w_Model_act_L540 w_Model_act_j587
      refine ⟨w, h.r45, ?_⟩
      rw [h.m75, oN_tnc (k := 12 * c + k) (by omega), h.lr.1, h.ml (by omega) (by omega)]
      refine ⟨(vp_oN (by omega)).mpr hm, ?_⟩
      by_cases cj : lo.length ≤ j
      · refine itp (le_oN (by omega) (by omega)) ⟨st.length + 1, loop2 _ 0 st M h hI ?_ (by omega) (by omega) rfl (fun x hx => by rw [if_neg (by omega)])⟩
        rw [← map_ext (l := lo) (l' := s) hls (fun x hx => by rw [hs x hx, if_pos (by omega)])]
        exact hS
      obtain ⟨s1, s2⟩ := k1 j (by omega)
      have ej := hs j (by omega)
      rw [if_neg (by omega)] at ej
      rw [ej] at s1 s2
      rw [oN_tnc (k := j) (by omega), s1, m1]
      refine itn (nle_oN (by omega) (by omega)) ⟨(vp_oN (by omega)).mpr (by omega), ?_⟩
      have step : ∀ κ, kwf A (co (gmt (gc W c) k)) κ → κ = (if gk lo j = κ0 then κ1 else gk lo j) → w_Model_act_L540 0 Q m (Int32.ofNat q) (kt A κ0) v8 (Int32.ofNat j + 1) (sI M 111 0 j (kt A κ)) := fun κ hκ eκ => by
        rw [show Int32.ofNat j + (1 : Int32) = Int32.ofNat (j + 1) from oN_add j 1]
        have fj : Fr (2596148429267413814265248164610048) M (sI M 111 0 j (kt A κ)) := Fr.wIa rfl rfl (Fr.rf _ _)
        refine ih (j + 1) (s.set j κ) _ (h.fr fj) (hI.fr fj h.2.1.1 h.2.1.2.2.2.1) ⟨⟨m1, m2, m3⟩, ⟨fun x hx => ?_, by rw [List.length_set]; exact k2⟩, fun x hx => by rw [mI_sI, if_neg (fun z => absurd z.1 (by decide))]; exact k3 x hx, by rw [mI_sI, if_neg (fun z => absurd z.1 (by decide))]; exact k4⟩ (by omega) (by omega) (by rw [List.length_set]; exact hls) (fun x hx => ?_)
        · rw [List.length_set] at hx
          rw [gk_set (by omega), mI_sI]
          by_cases e : x = j
          · rw [if_pos e, if_pos ⟨rfl, rfl, e⟩]; exact ⟨rfl, hκ⟩
          · rw [if_neg e, if_neg (fun z => e z.2.2)]; exact k1 x hx
        · rw [gk_set (by omega)]
          by_cases e : x = j
          · rw [if_pos e, if_pos (c := x < j + 1) (by omega), e]; exact eκ
          · rw [if_neg e, hs x hx]
            by_cases e2 : x < j
            · rw [if_pos e2, if_pos (c := x < j + 1) (by omega)]
            · rw [if_neg e2, if_neg (c := x < j + 1) (by omega)]
      by_cases c1 : gk lo j = κ0
      · rw [ev]
        rw [ev] at step
        exact itp (by rw [c1]) ⟨(vp_oN (by omega)).mpr (by omega), step κ1 h1 (by rw [if_pos c1])⟩
      · exact itn (fun z => c1 ((kt_inw s2 h0 hla).mp z)) ⟨(vp_oN (by omega)).mpr (by omega), (vp_oN (by omega)).mpr (by omega), step (gk lo j) s2 (by rw [if_neg c1])⟩
  exact ⟨lo.length + 1, loop1 _ 0 lo M h hI hR (by omega) (by omega) rfl (fun x hx => by rw [if_neg (by omega)])⟩
/-- all that goes into it -/
def TAc (G : List Sl) (US : UST) (A : List Nm) (S : List Sg) (W : List Cls) (w c k : Nat) (br : Int32) (nq nl nf nk q n a : Nat) (i : Ins) (lo st : List Kd) (v4 v5 v6 s0 : Int32) (M : Mem) : Prop :=
  (TE G US A S W w c k br nq nl nf nk M ∧ TSr A (gmt (gc W c) k) lo st M ∧ TI1 A S w nl nf nk nq q n i M ∧ TWl A (wlist W c (gmt (gc W c) k) i) M) ∧ ((wlist W c (gmt (gc W c) k) i).length ≤ st.length ∧ st.length ≤ 20 ∧ a < 80 ∧ a < (co (gmt (gc W c) k)).length ∧ gin (co (gmt (gc W c) k)) a = i) ∧
  (3 ≤ i.1 ∧ i.1 ≤ 7 → v4 = Int32.ofNat (iL i) ∧ iL i < lr (gmt (gc W c) k)) ∧ (isN i.1 ∨ isFo i.1 ∨ isMo i.1 → v4 = nc A (iK i) ∧ iK i ∈ A) ∧ (1 ≤ st.length → v5 = kt A (tp st 0)) ∧ (2 ≤ st.length → v6 = kt A (tp st 1)) ∧ (isMk i → s0 = kt A (tp st (iA i).length) ∧ ((tp st (iA i).length).1 = -3 ∨ (tp st (iA i).length).1 ≤ -10)) ∧ (¬ isMk i → s0 = 0)
theorem TAc.m1 {v4 v5 v6 s0 : Int32} (h : TAc G US A S W w c k br nq nl nf nk q n a i lo st v4 v5 v6 s0 M) : TE G US A S W w c k br nq nl nf nk (sI M 11 0 72 (mI M 11 0 72 - mI M 11 0 79)) ∧ TSr A (gmt (gc W c) k) lo (st.take (st.length - (wlist W c (gmt (gc W c) k) i).length)) (sI M 11 0 72 (mI M 11 0 72 - mI M 11 0 79)) ∧ TI1 A S w nl nf nk nq q n i (sI M 11 0 72 (mI M 11 0 72 - mI M 11 0 79)) ∧ (st.take (st.length - (wlist W c (gmt (gc W c) k) i).length)).length ≤ 20 := by
  obtain ⟨⟨h1, h2, h3, h4⟩, ⟨h5, h6, -⟩, -⟩ := h
  have f1 : Fr (9335676896115104923424578434048412529656619185069045981226238703068663895374166643975167118674405684994383298779629556122609169584185124271594404828759558830273399096598345909854994750197937797990709182089786995002596783325947563027532554605846813712055643984774917841294528461771858436081715296744544531688428281058170811779649361903100817617435162909598284429411415700491767113850748658092966511202335587887950655512795091717970440090277954346855944509490689424873147908771029225628011171200341271485885683127525073281600727498861186210074618436484423126411500693531041701288839132369496616287893686922902818167168173377798677041125413150101297437139402486570182411477716219184340830988195852278235534479134297294777680453481724500180029645330138287291969656532195081126373284268837131265732222540476135764830872514259632421945329129986810633953380249461268274713265804460022820408142227405349197483929238901366557949139051399698133600055974450076876487118636160650506665021927325696) M (sI M 11 0 72 (mI M 11 0 72 - mI M 11 0 79)) := Fr.wI rfl (Fr.rf _ _)
  exact ⟨h1.fr f1, h2.pop h5 h4.2.1, h3.fr f1 h1.2.1.1 h1.2.1.2.2.2.1, by rw [List.length_take]; omega⟩
theorem t_ac0 {v4 v5 v6 s0 : Int32} (h : TAc G US A S W w c k br nq nl nf nk q n a i lo st v4 v5 v6 s0 M) (ho : i.1 = 0) (hQ : ∀ M', TSr A (gmt (gc W c) k) (loS W c i lo st) (stT W c (gmt (gc W c) k) i a lo st) M' → Q M') : w_Model_act_j100 0 Q (Int32.ofNat 0) (Int32.ofNat q) (Int32.ofNat a) v4 v5 v6 s0 M := by
  obtain ⟨hE, hR, hI, h20⟩ := h.m1
  obtain ⟨⟨h1, h2, -, -⟩, ⟨hle, h20', h80, hac, hgin⟩, hv4, hvn, hv5, hv6, hmk, hs0⟩ := h
  have hla := h1.la
  have hq := hI.2.1
  have e4 : ¬ isMk i := fun z => by have := z.1; omega
  have e1 : wlist W c (gmt (gc W c) k) i = [] := by simp [wlist, ho]
  have e2 : loS W c i lo st = lo := by unfold loS; rw [if_neg (by omega), if_neg (by omega), if_neg e4]
  have e3 : stT W c (gmt (gc W c) k) i a lo st = st.take (st.length - ([] : List Wt).length) ++ [] := by unfold stT; rw [if_neg e4, e1, show pushS i a lo st = [] by simp [pushS, ho]]
  rw [e2, e3] at hQ
  rw [e1] at hR h20 hle
  unfold w_Model_act_j100 w_Model_act_j364
  (repeat (first | refine itp (by decide) ?_ | refine itn (by decide) ?_))
  generalize sI M 11 0 72 (mI M 11 0 72 - mI M 11 0 79) = M1 at hE hR hI ⊢
  exact hQ _ (by rw [List.append_nil]; exact hR)
theorem t_ac1 {v4 v5 v6 s0 : Int32} (h : TAc G US A S W w c k br nq nl nf nk q n a i lo st v4 v5 v6 s0 M) (ho : i.1 = 1) (hQ : ∀ M', TSr A (gmt (gc W c) k) (loS W c i lo st) (stT W c (gmt (gc W c) k) i a lo st) M' → Q M') : w_Model_act_j100 0 Q (Int32.ofNat 1) (Int32.ofNat q) (Int32.ofNat a) v4 v5 v6 s0 M := by
  obtain ⟨hE, hR, hI, h20⟩ := h.m1
  obtain ⟨⟨h1, h2, -, -⟩, ⟨hle, h20', h80, hac, hgin⟩, hv4, hvn, hv5, hv6, hmk, hs0⟩ := h
  have hla := h1.la
  have hq := hI.2.1
  have e4 : ¬ isMk i := fun z => by have := z.1; omega
  have e1 : wlist W c (gmt (gc W c) k) i = [] := by simp [wlist, ho]
  have e2 : loS W c i lo st = lo := by unfold loS; rw [if_neg (by omega), if_neg (by omega), if_neg e4]
  have e3 : stT W c (gmt (gc W c) k) i a lo st = st.take (st.length - ([] : List Wt).length) ++ [(0, [])] := by unfold stT; rw [if_neg e4, e1, show pushS i a lo st = [(0, [])] by simp [pushS, ho]]
  rw [e2, e3] at hQ
  rw [e1] at hR h20 hle
  unfold w_Model_act_j100 w_Model_act_j364
  (repeat (first | refine itp (by decide) ?_ | refine itn (by decide) ?_))
  generalize sI M 11 0 72 (mI M 11 0 72 - mI M 11 0 79) = M1 at hE hR hI ⊢
  exact ct_lay (κ := (0, [])) hR (by omega) kwf0 (fun _ r1 => hQ _ r1)
theorem t_ac2 {v4 v5 v6 s0 : Int32} (h : TAc G US A S W w c k br nq nl nf nk q n a i lo st v4 v5 v6 s0 M) (ho : i.1 = 2) (hQ : ∀ M', TSr A (gmt (gc W c) k) (loS W c i lo st) (stT W c (gmt (gc W c) k) i a lo st) M' → Q M') : w_Model_act_j100 0 Q (Int32.ofNat 2) (Int32.ofNat q) (Int32.ofNat a) v4 v5 v6 s0 M := by
  obtain ⟨hE, hR, hI, h20⟩ := h.m1
  obtain ⟨⟨h1, h2, -, -⟩, ⟨hle, h20', h80, hac, hgin⟩, hv4, hvn, hv5, hv6, hmk, hs0⟩ := h
  have hla := h1.la
  have hq := hI.2.1
  have e4 : ¬ isMk i := fun z => by have := z.1; omega
  have e1 : wlist W c (gmt (gc W c) k) i = [] := by simp [wlist, ho]
  have e2 : loS W c i lo st = lo := by unfold loS; rw [if_neg (by omega), if_neg (by omega), if_neg e4]
  have e3 : stT W c (gmt (gc W c) k) i a lo st = st.take (st.length - ([] : List Wt).length) ++ [(-1, [])] := by unfold stT; rw [if_neg e4, e1, show pushS i a lo st = [(-1, [])] by simp [pushS, ho]]
  rw [e2, e3] at hQ
  rw [e1] at hR h20 hle
  unfold w_Model_act_j100 w_Model_act_j364
  (repeat (first | refine itp (by decide) ?_ | refine itn (by decide) ?_))
  generalize sI M 11 0 72 (mI M 11 0 72 - mI M 11 0 79) = M1 at hE hR hI ⊢
  exact ct_lay (κ := (-1, [])) hR (by omega) kwfN (fun _ r1 => hQ _ r1)
theorem t_ac3 {v4 v5 v6 s0 : Int32} (h : TAc G US A S W w c k br nq nl nf nk q n a i lo st v4 v5 v6 s0 M) (ho : i.1 = 3) (hQ : ∀ M', TSr A (gmt (gc W c) k) (loS W c i lo st) (stT W c (gmt (gc W c) k) i a lo st) M' → Q M') : w_Model_act_j100 0 Q (Int32.ofNat 3) (Int32.ofNat q) (Int32.ofNat a) v4 v5 v6 s0 M := by
  obtain ⟨hE, hR, hI, h20⟩ := h.m1
  obtain ⟨⟨h1, h2, -, -⟩, ⟨hle, h20', h80, hac, hgin⟩, hv4, hvn, hv5, hv6, hmk, hs0⟩ := h
  have hla := h1.la
  have hq := hI.2.1
  have e4 : ¬ isMk i := fun z => by have := z.1; omega
  have e1 : wlist W c (gmt (gc W c) k) i = [] := by simp [wlist, ho]
  have e2 : loS W c i lo st = lo := by unfold loS; rw [if_neg (by omega), if_neg (by omega), if_neg e4]
  have e3 : stT W c (gmt (gc W c) k) i a lo st = st.take (st.length - ([] : List Wt).length) ++ [(0, [])] := by unfold stT; rw [if_neg e4, e1, show pushS i a lo st = [(0, [])] by simp [pushS, ho]]
  rw [e2, e3] at hQ
  rw [e1] at hR h20 hle
  unfold w_Model_act_j100 w_Model_act_j364
  (repeat (first | refine itp (by decide) ?_ | refine itn (by decide) ?_))
  generalize sI M 11 0 72 (mI M 11 0 72 - mI M 11 0 79) = M1 at hE hR hI ⊢
  exact ct_lay (κ := (0, [])) hR (by omega) kwf0 (fun _ r1 => hQ _ r1)
theorem t_ac4 {v4 v5 v6 s0 : Int32} (h : TAc G US A S W w c k br nq nl nf nk q n a i lo st v4 v5 v6 s0 M) (ho : i.1 = 4) (hQ : ∀ M', TSr A (gmt (gc W c) k) (loS W c i lo st) (stT W c (gmt (gc W c) k) i a lo st) M' → Q M') : w_Model_act_j100 0 Q (Int32.ofNat 4) (Int32.ofNat q) (Int32.ofNat a) v4 v5 v6 s0 M := by
  obtain ⟨hE, hR, hI, h20⟩ := h.m1
  obtain ⟨⟨h1, h2, -, -⟩, ⟨hle, h20', h80, hac, hgin⟩, hv4, hvn, hv5, hv6, hmk, hs0⟩ := h
  have hla := h1.la
  have hq := hI.2.1
  have e4 : ¬ isMk i := fun z => by have := z.1; omega
  have e1 : wlist W c (gmt (gc W c) k) i = [] := by simp [wlist, ho]
  have e2 : loS W c i lo st = lo := by unfold loS; rw [if_neg (by omega), if_neg (by omega), if_neg e4]
  have e3 : stT W c (gmt (gc W c) k) i a lo st = st.take (st.length - ([] : List Wt).length) ++ [gk lo (iL i)] := by unfold stT; rw [if_neg e4, e1, show pushS i a lo st = [gk lo (iL i)] by simp [pushS, ho]]
  rw [e2, e3] at hQ
  rw [e1] at hR h20 hle
  obtain ⟨ev, hlt⟩ := hv4 (by omega)
  have hlr := h1.lr.2
  subst ev
  unfold w_Model_act_j100 w_Model_act_j364
  (repeat (first | refine itp (by decide) ?_ | refine itn (by decide) ?_))
  generalize sI M 11 0 72 (mI M 11 0 72 - mI M 11 0 79) = M1 at hE hR hI ⊢
  obtain ⟨x1, x2⟩ := hR.2.1.1 (iL i) (by rw [hR.2.1.2]; exact hlt)
  rw [oN_tnc (k := iL i) (by omega), x1, hR.1.1]
  refine ⟨(vp_oN (by omega)).mpr (by omega), ct_lay (κ := gk lo (iL i)) hR (by omega) x2 (fun _ r1 => hQ _ r1)⟩
theorem t_ac5 {v4 v5 v6 s0 : Int32} (h : TAc G US A S W w c k br nq nl nf nk q n a i lo st v4 v5 v6 s0 M) (ho : i.1 = 5) (hQ : ∀ M', TSr A (gmt (gc W c) k) (loS W c i lo st) (stT W c (gmt (gc W c) k) i a lo st) M' → Q M') : w_Model_act_j100 0 Q (Int32.ofNat 5) (Int32.ofNat q) (Int32.ofNat a) v4 v5 v6 s0 M := by
  obtain ⟨hE, hR, hI, h20⟩ := h.m1
  obtain ⟨⟨h1, h2, -, -⟩, ⟨hle, h20', h80, hac, hgin⟩, hv4, hvn, hv5, hv6, hmk, hs0⟩ := h
  have hla := h1.la
  have hq := hI.2.1
  have e4 : ¬ isMk i := fun z => by have := z.1; omega
  have e1 : wlist W c (gmt (gc W c) k) i = [wNum] := by simp [wlist, ho]
  have e2 : loS W c i lo st = lo.set (iL i) (0, []) := by simp [loS, ho]
  have e3 : stT W c (gmt (gc W c) k) i a lo st = st.take (st.length - 1) := by unfold stT; rw [if_neg e4, e1, show pushS i a lo st = [] by simp [pushS, ho], List.append_nil]; rfl
  rw [e2, e3] at hQ
  rw [e1] at hR h20 hle
  have hle1 : 1 ≤ st.length := hle
  have hR : TSr A (gmt (gc W c) k) lo (st.take (st.length - 1)) (sI M 11 0 72 (mI M 11 0 72 - mI M 11 0 79)) := hR
  obtain ⟨ev, hlt⟩ := hv4 (by omega)
  have hlr := h1.lr.2
  subst ev
  obtain ⟨x1, x2⟩ := h2.2.2.1 (st.length - 1 - 0) (by omega)
  unfold w_Model_act_j100 w_Model_act_j364
  (repeat (first | refine itp (by decide) ?_ | refine itn (by decide) ?_))
  generalize sI M 11 0 72 (mI M 11 0 72 - mI M 11 0 79) = M1 at hE hR hI ⊢
  rw [oN_tnc (k := iL i) (by omega), hR.1.1]
  refine ⟨(vp_oN (by omega)).mpr (by omega), _, rfl, hQ _ ?_⟩
  obtain ⟨r1, ⟨r2, r3⟩, r4, r5⟩ := hR
  refine ⟨r1, ⟨fun j hj => ?_, by rw [List.length_set]; exact r3⟩, fun j hj => by rw [mI_sI, if_neg (fun z => absurd z.1 (by decide))]; exact r4 j hj, by rw [mI_sI, if_neg (fun z => absurd z.1 (by decide))]; exact r5⟩
  rw [List.length_set] at hj
  rw [gk_set (by omega), mI_sI]
  by_cases e : j = iL i
  · rw [if_pos e, if_pos ⟨rfl, rfl, e⟩]; exact ⟨rfl, kwf0⟩
  · rw [if_neg e, if_neg (fun z => e z.2.2)]; exact r2 j hj
theorem t_ac6 {v4 v5 v6 s0 : Int32} (h : TAc G US A S W w c k br nq nl nf nk q n a i lo st v4 v5 v6 s0 M) (ho : i.1 = 6) (hQ : ∀ M', TSr A (gmt (gc W c) k) (loS W c i lo st) (stT W c (gmt (gc W c) k) i a lo st) M' → Q M') : w_Model_act_j100 0 Q (Int32.ofNat 6) (Int32.ofNat q) (Int32.ofNat a) v4 v5 v6 s0 M := by
  obtain ⟨hE, hR, hI, h20⟩ := h.m1
  obtain ⟨⟨h1, h2, -, -⟩, ⟨hle, h20', h80, hac, hgin⟩, hv4, hvn, hv5, hv6, hmk, hs0⟩ := h
  have hla := h1.la
  have hq := hI.2.1
  have e4 : ¬ isMk i := fun z => by have := z.1; omega
  have e1 : wlist W c (gmt (gc W c) k) i = [wSto] := by simp [wlist, ho]
  have e2 : loS W c i lo st = lo.set (iL i) (tp st 0) := by simp [loS, ho]
  have e3 : stT W c (gmt (gc W c) k) i a lo st = st.take (st.length - 1) := by unfold stT; rw [if_neg e4, e1, show pushS i a lo st = [] by simp [pushS, ho], List.append_nil]; rfl
  rw [e2, e3] at hQ
  rw [e1] at hR h20 hle
  have hle1 : 1 ≤ st.length := hle
  have hR : TSr A (gmt (gc W c) k) lo (st.take (st.length - 1)) (sI M 11 0 72 (mI M 11 0 72 - mI M 11 0 79)) := hR
  obtain ⟨ev, hlt⟩ := hv4 (by omega)
  have hlr := h1.lr.2
  subst ev
  obtain ⟨x1, x2⟩ := h2.2.2.1 (st.length - 1 - 0) (by omega)
  unfold w_Model_act_j100 w_Model_act_j364
  (repeat (first | refine itp (by decide) ?_ | refine itn (by decide) ?_))
  generalize sI M 11 0 72 (mI M 11 0 72 - mI M 11 0 79) = M1 at hE hR hI ⊢
  rw [oN_tnc (k := iL i) (by omega), hR.1.1]
  refine ⟨(vp_oN (by omega)).mpr (by omega), _, rfl, hQ _ ?_⟩
  obtain ⟨r1, ⟨r2, r3⟩, r4, r5⟩ := hR
  refine ⟨r1, ⟨fun j hj => ?_, by rw [List.length_set]; exact r3⟩, fun j hj => by rw [mI_sI, if_neg (fun z => absurd z.1 (by decide))]; exact r4 j hj, by rw [mI_sI, if_neg (fun z => absurd z.1 (by decide))]; exact r5⟩
  rw [List.length_set] at hj
  rw [gk_set (by omega), mI_sI]
  by_cases e : j = iL i
  · rw [if_pos e, if_pos ⟨rfl, rfl, e⟩]; exact ⟨hv5 hle1, x2⟩
  · rw [if_neg e, if_neg (fun z => e z.2.2)]; exact r2 j hj
theorem t_ac7 {v4 v5 v6 s0 : Int32} (h : TAc G US A S W w c k br nq nl nf nk q n a i lo st v4 v5 v6 s0 M) (ho : i.1 = 7) (hQ : ∀ M', TSr A (gmt (gc W c) k) (loS W c i lo st) (stT W c (gmt (gc W c) k) i a lo st) M' → Q M') : w_Model_act_j100 0 Q (Int32.ofNat 7) (Int32.ofNat q) (Int32.ofNat a) v4 v5 v6 s0 M := by
  obtain ⟨hE, hR, hI, h20⟩ := h.m1
  obtain ⟨⟨h1, h2, -, -⟩, ⟨hle, h20', h80, hac, hgin⟩, hv4, hvn, hv5, hv6, hmk, hs0⟩ := h
  have hla := h1.la
  have hq := hI.2.1
  have e4 : ¬ isMk i := fun z => by have := z.1; omega
  have e1 : wlist W c (gmt (gc W c) k) i = [] := by simp [wlist, ho]
  have e2 : loS W c i lo st = lo := by unfold loS; rw [if_neg (by omega), if_neg (by omega), if_neg e4]
  have e3 : stT W c (gmt (gc W c) k) i a lo st = st.take (st.length - ([] : List Wt).length) ++ [] := by unfold stT; rw [if_neg e4, e1, show pushS i a lo st = [] by simp [pushS, ho]]
  rw [e2, e3] at hQ
  rw [e1] at hR h20 hle
  unfold w_Model_act_j100 w_Model_act_j364
  (repeat (first | refine itp (by decide) ?_ | refine itn (by decide) ?_))
  generalize sI M 11 0 72 (mI M 11 0 72 - mI M 11 0 79) = M1 at hE hR hI ⊢
  exact hQ _ (by rw [List.append_nil]; exact hR)
theorem t_ac8 {v4 v5 v6 s0 : Int32} (h : TAc G US A S W w c k br nq nl nf nk q n a i lo st v4 v5 v6 s0 M) (ho : i.1 = 8) (hQ : ∀ M', TSr A (gmt (gc W c) k) (loS W c i lo st) (stT W c (gmt (gc W c) k) i a lo st) M' → Q M') : w_Model_act_j100 0 Q (Int32.ofNat 8) (Int32.ofNat q) (Int32.ofNat a) v4 v5 v6 s0 M := by
  obtain ⟨hE, hR, hI, h20⟩ := h.m1
  obtain ⟨⟨h1, h2, -, -⟩, ⟨hle, h20', h80, hac, hgin⟩, hv4, hvn, hv5, hv6, hmk, hs0⟩ := h
  have hla := h1.la
  have hq := hI.2.1
  have e4 : ¬ isMk i := fun z => by have := z.1; omega
  have e1 : wlist W c (gmt (gc W c) k) i = [wNum, wNum] := by simp [wlist, ho]
  have e2 : loS W c i lo st = lo := by unfold loS; rw [if_neg (by omega), if_neg (by omega), if_neg e4]
  have e3 : stT W c (gmt (gc W c) k) i a lo st = st.take (st.length - ([wNum, wNum] : List Wt).length) ++ [(0, [])] := by unfold stT; rw [if_neg e4, e1, show pushS i a lo st = [(0, [])] by simp [pushS, ho]]
  rw [e2, e3] at hQ
  rw [e1] at hR h20 hle
  unfold w_Model_act_j100 w_Model_act_j364
  (repeat (first | refine itp (by decide) ?_ | refine itn (by decide) ?_))
  generalize sI M 11 0 72 (mI M 11 0 72 - mI M 11 0 79) = M1 at hE hR hI ⊢
  exact ct_lay (κ := (0, [])) hR (by omega) kwf0 (fun _ r1 => hQ _ r1)
theorem t_ac9 {v4 v5 v6 s0 : Int32} (h : TAc G US A S W w c k br nq nl nf nk q n a i lo st v4 v5 v6 s0 M) (ho : i.1 = 9) (hQ : ∀ M', TSr A (gmt (gc W c) k) (loS W c i lo st) (stT W c (gmt (gc W c) k) i a lo st) M' → Q M') : w_Model_act_j100 0 Q (Int32.ofNat 9) (Int32.ofNat q) (Int32.ofNat a) v4 v5 v6 s0 M := by
  obtain ⟨hE, hR, hI, h20⟩ := h.m1
  obtain ⟨⟨h1, h2, -, -⟩, ⟨hle, h20', h80, hac, hgin⟩, hv4, hvn, hv5, hv6, hmk, hs0⟩ := h
  have hla := h1.la
  have hq := hI.2.1
  have e4 : ¬ isMk i := fun z => by have := z.1; omega
  have e1 : wlist W c (gmt (gc W c) k) i = [wNum, wNum] := by simp [wlist, ho]
  have e2 : loS W c i lo st = lo := by unfold loS; rw [if_neg (by omega), if_neg (by omega), if_neg e4]
  have e3 : stT W c (gmt (gc W c) k) i a lo st = st.take (st.length - ([wNum, wNum] : List Wt).length) ++ [(0, [])] := by unfold stT; rw [if_neg e4, e1, show pushS i a lo st = [(0, [])] by simp [pushS, ho]]
  rw [e2, e3] at hQ
  rw [e1] at hR h20 hle
  unfold w_Model_act_j100 w_Model_act_j364
  (repeat (first | refine itp (by decide) ?_ | refine itn (by decide) ?_))
  generalize sI M 11 0 72 (mI M 11 0 72 - mI M 11 0 79) = M1 at hE hR hI ⊢
  exact ct_lay (κ := (0, [])) hR (by omega) kwf0 (fun _ r1 => hQ _ r1)
theorem t_ac10 {v4 v5 v6 s0 : Int32} (h : TAc G US A S W w c k br nq nl nf nk q n a i lo st v4 v5 v6 s0 M) (ho : i.1 = 10) (hQ : ∀ M', TSr A (gmt (gc W c) k) (loS W c i lo st) (stT W c (gmt (gc W c) k) i a lo st) M' → Q M') : w_Model_act_j100 0 Q (Int32.ofNat 10) (Int32.ofNat q) (Int32.ofNat a) v4 v5 v6 s0 M := by
  obtain ⟨hE, hR, hI, h20⟩ := h.m1
  obtain ⟨⟨h1, h2, -, -⟩, ⟨hle, h20', h80, hac, hgin⟩, hv4, hvn, hv5, hv6, hmk, hs0⟩ := h
  have hla := h1.la
  have hq := hI.2.1
  have e4 : ¬ isMk i := fun z => by have := z.1; omega
  have e1 : wlist W c (gmt (gc W c) k) i = [wNum, wNum] := by simp [wlist, ho]
  have e2 : loS W c i lo st = lo := by unfold loS; rw [if_neg (by omega), if_neg (by omega), if_neg e4]
  have e3 : stT W c (gmt (gc W c) k) i a lo st = st.take (st.length - ([wNum, wNum] : List Wt).length) ++ [(0, [])] := by unfold stT; rw [if_neg e4, e1, show pushS i a lo st = [(0, [])] by simp [pushS, ho]]
  rw [e2, e3] at hQ
  rw [e1] at hR h20 hle
  unfold w_Model_act_j100 w_Model_act_j364
  (repeat (first | refine itp (by decide) ?_ | refine itn (by decide) ?_))
  generalize sI M 11 0 72 (mI M 11 0 72 - mI M 11 0 79) = M1 at hE hR hI ⊢
  exact ct_lay (κ := (0, [])) hR (by omega) kwf0 (fun _ r1 => hQ _ r1)
theorem t_ac11 {v4 v5 v6 s0 : Int32} (h : TAc G US A S W w c k br nq nl nf nk q n a i lo st v4 v5 v6 s0 M) (ho : i.1 = 11) (hQ : ∀ M', TSr A (gmt (gc W c) k) (loS W c i lo st) (stT W c (gmt (gc W c) k) i a lo st) M' → Q M') : w_Model_act_j100 0 Q (Int32.ofNat 11) (Int32.ofNat q) (Int32.ofNat a) v4 v5 v6 s0 M := by
  obtain ⟨hE, hR, hI, h20⟩ := h.m1
  obtain ⟨⟨h1, h2, -, -⟩, ⟨hle, h20', h80, hac, hgin⟩, hv4, hvn, hv5, hv6, hmk, hs0⟩ := h
  have hla := h1.la
  have hq := hI.2.1
  have e4 : ¬ isMk i := fun z => by have := z.1; omega
  have e1 : wlist W c (gmt (gc W c) k) i = [wNum, wNum] := by simp [wlist, ho]
  have e2 : loS W c i lo st = lo := by unfold loS; rw [if_neg (by omega), if_neg (by omega), if_neg e4]
  have e3 : stT W c (gmt (gc W c) k) i a lo st = st.take (st.length - ([wNum, wNum] : List Wt).length) ++ [(0, [])] := by unfold stT; rw [if_neg e4, e1, show pushS i a lo st = [(0, [])] by simp [pushS, ho]]
  rw [e2, e3] at hQ
  rw [e1] at hR h20 hle
  unfold w_Model_act_j100 w_Model_act_j364
  (repeat (first | refine itp (by decide) ?_ | refine itn (by decide) ?_))
  generalize sI M 11 0 72 (mI M 11 0 72 - mI M 11 0 79) = M1 at hE hR hI ⊢
  exact ct_lay (κ := (0, [])) hR (by omega) kwf0 (fun _ r1 => hQ _ r1)
theorem t_ac12 {v4 v5 v6 s0 : Int32} (h : TAc G US A S W w c k br nq nl nf nk q n a i lo st v4 v5 v6 s0 M) (ho : i.1 = 12) (hQ : ∀ M', TSr A (gmt (gc W c) k) (loS W c i lo st) (stT W c (gmt (gc W c) k) i a lo st) M' → Q M') : w_Model_act_j100 0 Q (Int32.ofNat 12) (Int32.ofNat q) (Int32.ofNat a) v4 v5 v6 s0 M := by
  obtain ⟨hE, hR, hI, h20⟩ := h.m1
  obtain ⟨⟨h1, h2, -, -⟩, ⟨hle, h20', h80, hac, hgin⟩, hv4, hvn, hv5, hv6, hmk, hs0⟩ := h
  have hla := h1.la
  have hq := hI.2.1
  have e4 : ¬ isMk i := fun z => by have := z.1; omega
  have e1 : wlist W c (gmt (gc W c) k) i = [wNum, wNum] := by simp [wlist, ho]
  have e2 : loS W c i lo st = lo := by unfold loS; rw [if_neg (by omega), if_neg (by omega), if_neg e4]
  have e3 : stT W c (gmt (gc W c) k) i a lo st = st.take (st.length - ([wNum, wNum] : List Wt).length) ++ [(0, [])] := by unfold stT; rw [if_neg e4, e1, show pushS i a lo st = [(0, [])] by simp [pushS, ho]]
  rw [e2, e3] at hQ
  rw [e1] at hR h20 hle
  unfold w_Model_act_j100 w_Model_act_j364
  (repeat (first | refine itp (by decide) ?_ | refine itn (by decide) ?_))
  generalize sI M 11 0 72 (mI M 11 0 72 - mI M 11 0 79) = M1 at hE hR hI ⊢
  exact ct_lay (κ := (0, [])) hR (by omega) kwf0 (fun _ r1 => hQ _ r1)
theorem t_ac13 {v4 v5 v6 s0 : Int32} (h : TAc G US A S W w c k br nq nl nf nk q n a i lo st v4 v5 v6 s0 M) (ho : i.1 = 13) (hQ : ∀ M', TSr A (gmt (gc W c) k) (loS W c i lo st) (stT W c (gmt (gc W c) k) i a lo st) M' → Q M') : w_Model_act_j100 0 Q (Int32.ofNat 13) (Int32.ofNat q) (Int32.ofNat a) v4 v5 v6 s0 M := by
  obtain ⟨hE, hR, hI, h20⟩ := h.m1
  obtain ⟨⟨h1, h2, -, -⟩, ⟨hle, h20', h80, hac, hgin⟩, hv4, hvn, hv5, hv6, hmk, hs0⟩ := h
  have hla := h1.la
  have hq := hI.2.1
  have e4 : ¬ isMk i := fun z => by have := z.1; omega
  have e1 : wlist W c (gmt (gc W c) k) i = [wNum] := by simp [wlist, ho]
  have e2 : loS W c i lo st = lo := by unfold loS; rw [if_neg (by omega), if_neg (by omega), if_neg e4]
  have e3 : stT W c (gmt (gc W c) k) i a lo st = st.take (st.length - ([wNum] : List Wt).length) ++ [(0, [])] := by unfold stT; rw [if_neg e4, e1, show pushS i a lo st = [(0, [])] by simp [pushS, ho]]
  rw [e2, e3] at hQ
  rw [e1] at hR h20 hle
  unfold w_Model_act_j100 w_Model_act_j364
  (repeat (first | refine itp (by decide) ?_ | refine itn (by decide) ?_))
  generalize sI M 11 0 72 (mI M 11 0 72 - mI M 11 0 79) = M1 at hE hR hI ⊢
  exact ct_lay (κ := (0, [])) hR (by omega) kwf0 (fun _ r1 => hQ _ r1)
theorem t_ac14 {v4 v5 v6 s0 : Int32} (h : TAc G US A S W w c k br nq nl nf nk q n a i lo st v4 v5 v6 s0 M) (ho : i.1 = 14) (hQ : ∀ M', TSr A (gmt (gc W c) k) (loS W c i lo st) (stT W c (gmt (gc W c) k) i a lo st) M' → Q M') : w_Model_act_j100 0 Q (Int32.ofNat 14) (Int32.ofNat q) (Int32.ofNat a) v4 v5 v6 s0 M := by
  obtain ⟨hE, hR, hI, h20⟩ := h.m1
  obtain ⟨⟨h1, h2, -, -⟩, ⟨hle, h20', h80, hac, hgin⟩, hv4, hvn, hv5, hv6, hmk, hs0⟩ := h
  have hla := h1.la
  have hq := hI.2.1
  have e4 : ¬ isMk i := fun z => by have := z.1; omega
  have e1 : wlist W c (gmt (gc W c) k) i = [wNum, wNum] := by simp [wlist, ho]
  have e2 : loS W c i lo st = lo := by unfold loS; rw [if_neg (by omega), if_neg (by omega), if_neg e4]
  have e3 : stT W c (gmt (gc W c) k) i a lo st = st.take (st.length - ([wNum, wNum] : List Wt).length) ++ [(0, [])] := by unfold stT; rw [if_neg e4, e1, show pushS i a lo st = [(0, [])] by simp [pushS, ho]]
  rw [e2, e3] at hQ
  rw [e1] at hR h20 hle
  unfold w_Model_act_j100 w_Model_act_j364
  (repeat (first | refine itp (by decide) ?_ | refine itn (by decide) ?_))
  generalize sI M 11 0 72 (mI M 11 0 72 - mI M 11 0 79) = M1 at hE hR hI ⊢
  exact ct_lay (κ := (0, [])) hR (by omega) kwf0 (fun _ r1 => hQ _ r1)
theorem t_ac15 {v4 v5 v6 s0 : Int32} (h : TAc G US A S W w c k br nq nl nf nk q n a i lo st v4 v5 v6 s0 M) (ho : i.1 = 15) (hQ : ∀ M', TSr A (gmt (gc W c) k) (loS W c i lo st) (stT W c (gmt (gc W c) k) i a lo st) M' → Q M') : w_Model_act_j100 0 Q (Int32.ofNat 15) (Int32.ofNat q) (Int32.ofNat a) v4 v5 v6 s0 M := by
  obtain ⟨hE, hR, hI, h20⟩ := h.m1
  obtain ⟨⟨h1, h2, -, -⟩, ⟨hle, h20', h80, hac, hgin⟩, hv4, hvn, hv5, hv6, hmk, hs0⟩ := h
  have hla := h1.la
  have hq := hI.2.1
  have e4 : ¬ isMk i := fun z => by have := z.1; omega
  have e1 : wlist W c (gmt (gc W c) k) i = [wNum, wNum] := by simp [wlist, ho]
  have e2 : loS W c i lo st = lo := by unfold loS; rw [if_neg (by omega), if_neg (by omega), if_neg e4]
  have e3 : stT W c (gmt (gc W c) k) i a lo st = st.take (st.length - ([wNum, wNum] : List Wt).length) ++ [(0, [])] := by unfold stT; rw [if_neg e4, e1, show pushS i a lo st = [(0, [])] by simp [pushS, ho]]
  rw [e2, e3] at hQ
  rw [e1] at hR h20 hle
  unfold w_Model_act_j100 w_Model_act_j364
  (repeat (first | refine itp (by decide) ?_ | refine itn (by decide) ?_))
  generalize sI M 11 0 72 (mI M 11 0 72 - mI M 11 0 79) = M1 at hE hR hI ⊢
  exact ct_lay (κ := (0, [])) hR (by omega) kwf0 (fun _ r1 => hQ _ r1)
theorem t_ac16 {v4 v5 v6 s0 : Int32} (h : TAc G US A S W w c k br nq nl nf nk q n a i lo st v4 v5 v6 s0 M) (ho : i.1 = 16) (hQ : ∀ M', TSr A (gmt (gc W c) k) (loS W c i lo st) (stT W c (gmt (gc W c) k) i a lo st) M' → Q M') : w_Model_act_j100 0 Q (Int32.ofNat 16) (Int32.ofNat q) (Int32.ofNat a) v4 v5 v6 s0 M := by
  obtain ⟨hE, hR, hI, h20⟩ := h.m1
  obtain ⟨⟨h1, h2, -, -⟩, ⟨hle, h20', h80, hac, hgin⟩, hv4, hvn, hv5, hv6, hmk, hs0⟩ := h
  have hla := h1.la
  have hq := hI.2.1
  have e4 : ¬ isMk i := fun z => by have := z.1; omega
  have e1 : wlist W c (gmt (gc W c) k) i = [wNum, wNum] := by simp [wlist, ho]
  have e2 : loS W c i lo st = lo := by unfold loS; rw [if_neg (by omega), if_neg (by omega), if_neg e4]
  have e3 : stT W c (gmt (gc W c) k) i a lo st = st.take (st.length - ([wNum, wNum] : List Wt).length) ++ [(0, [])] := by unfold stT; rw [if_neg e4, e1, show pushS i a lo st = [(0, [])] by simp [pushS, ho]]
  rw [e2, e3] at hQ
  rw [e1] at hR h20 hle
  unfold w_Model_act_j100 w_Model_act_j364
  (repeat (first | refine itp (by decide) ?_ | refine itn (by decide) ?_))
  generalize sI M 11 0 72 (mI M 11 0 72 - mI M 11 0 79) = M1 at hE hR hI ⊢
  exact ct_lay (κ := (0, [])) hR (by omega) kwf0 (fun _ r1 => hQ _ r1)
theorem t_ac17 {v4 v5 v6 s0 : Int32} (h : TAc G US A S W w c k br nq nl nf nk q n a i lo st v4 v5 v6 s0 M) (ho : i.1 = 17) (hQ : ∀ M', TSr A (gmt (gc W c) k) (loS W c i lo st) (stT W c (gmt (gc W c) k) i a lo st) M' → Q M') : w_Model_act_j100 0 Q (Int32.ofNat 17) (Int32.ofNat q) (Int32.ofNat a) v4 v5 v6 s0 M := by
  obtain ⟨hE, hR, hI, h20⟩ := h.m1
  obtain ⟨⟨h1, h2, -, -⟩, ⟨hle, h20', h80, hac, hgin⟩, hv4, hvn, hv5, hv6, hmk, hs0⟩ := h
  have hla := h1.la
  have hq := hI.2.1
  have e4 : ¬ isMk i := fun z => by have := z.1; omega
  have e1 : wlist W c (gmt (gc W c) k) i = [wNum, wNum] := by simp [wlist, ho]
  have e2 : loS W c i lo st = lo := by unfold loS; rw [if_neg (by omega), if_neg (by omega), if_neg e4]
  have e3 : stT W c (gmt (gc W c) k) i a lo st = st.take (st.length - ([wNum, wNum] : List Wt).length) ++ [(0, [])] := by unfold stT; rw [if_neg e4, e1, show pushS i a lo st = [(0, [])] by simp [pushS, ho]]
  rw [e2, e3] at hQ
  rw [e1] at hR h20 hle
  unfold w_Model_act_j100 w_Model_act_j364
  (repeat (first | refine itp (by decide) ?_ | refine itn (by decide) ?_))
  generalize sI M 11 0 72 (mI M 11 0 72 - mI M 11 0 79) = M1 at hE hR hI ⊢
  exact ct_lay (κ := (0, [])) hR (by omega) kwf0 (fun _ r1 => hQ _ r1)
theorem t_ac18 {v4 v5 v6 s0 : Int32} (h : TAc G US A S W w c k br nq nl nf nk q n a i lo st v4 v5 v6 s0 M) (ho : i.1 = 18) (hQ : ∀ M', TSr A (gmt (gc W c) k) (loS W c i lo st) (stT W c (gmt (gc W c) k) i a lo st) M' → Q M') : w_Model_act_j100 0 Q (Int32.ofNat 18) (Int32.ofNat q) (Int32.ofNat a) v4 v5 v6 s0 M := by
  obtain ⟨hE, hR, hI, h20⟩ := h.m1
  obtain ⟨⟨h1, h2, -, -⟩, ⟨hle, h20', h80, hac, hgin⟩, hv4, hvn, hv5, hv6, hmk, hs0⟩ := h
  have hla := h1.la
  have hq := hI.2.1
  have e4 : ¬ isMk i := fun z => by have := z.1; omega
  have e1 : wlist W c (gmt (gc W c) k) i = [wNum, wNum] := by simp [wlist, ho]
  have e2 : loS W c i lo st = lo := by unfold loS; rw [if_neg (by omega), if_neg (by omega), if_neg e4]
  have e3 : stT W c (gmt (gc W c) k) i a lo st = st.take (st.length - ([wNum, wNum] : List Wt).length) ++ [(0, [])] := by unfold stT; rw [if_neg e4, e1, show pushS i a lo st = [(0, [])] by simp [pushS, ho]]
  rw [e2, e3] at hQ
  rw [e1] at hR h20 hle
  unfold w_Model_act_j100 w_Model_act_j364
  (repeat (first | refine itp (by decide) ?_ | refine itn (by decide) ?_))
  generalize sI M 11 0 72 (mI M 11 0 72 - mI M 11 0 79) = M1 at hE hR hI ⊢
  exact ct_lay (κ := (0, [])) hR (by omega) kwf0 (fun _ r1 => hQ _ r1)
theorem t_ac19 {v4 v5 v6 s0 : Int32} (h : TAc G US A S W w c k br nq nl nf nk q n a i lo st v4 v5 v6 s0 M) (ho : i.1 = 19) (hQ : ∀ M', TSr A (gmt (gc W c) k) (loS W c i lo st) (stT W c (gmt (gc W c) k) i a lo st) M' → Q M') : w_Model_act_j100 0 Q (Int32.ofNat 19) (Int32.ofNat q) (Int32.ofNat a) v4 v5 v6 s0 M := by
  obtain ⟨hE, hR, hI, h20⟩ := h.m1
  obtain ⟨⟨h1, h2, -, -⟩, ⟨hle, h20', h80, hac, hgin⟩, hv4, hvn, hv5, hv6, hmk, hs0⟩ := h
  have hla := h1.la
  have hq := hI.2.1
  have e4 : ¬ isMk i := fun z => by have := z.1; omega
  have e1 : wlist W c (gmt (gc W c) k) i = [wAny] := by simp [wlist, ho]
  have e2 : loS W c i lo st = lo := by unfold loS; rw [if_neg (by omega), if_neg (by omega), if_neg e4]
  have e3 : stT W c (gmt (gc W c) k) i a lo st = st.take (st.length - ([wAny] : List Wt).length) ++ [] := by unfold stT; rw [if_neg e4, e1, show pushS i a lo st = [] by simp [pushS, ho]]
  rw [e2, e3] at hQ
  rw [e1] at hR h20 hle
  unfold w_Model_act_j100 w_Model_act_j364
  (repeat (first | refine itp (by decide) ?_ | refine itn (by decide) ?_))
  generalize sI M 11 0 72 (mI M 11 0 72 - mI M 11 0 79) = M1 at hE hR hI ⊢
  exact hQ _ (by rw [List.append_nil]; exact hR)
theorem t_ac20 {v4 v5 v6 s0 : Int32} (h : TAc G US A S W w c k br nq nl nf nk q n a i lo st v4 v5 v6 s0 M) (ho : i.1 = 20) (hQ : ∀ M', TSr A (gmt (gc W c) k) (loS W c i lo st) (stT W c (gmt (gc W c) k) i a lo st) M' → Q M') : w_Model_act_j100 0 Q (Int32.ofNat 20) (Int32.ofNat q) (Int32.ofNat a) v4 v5 v6 s0 M := by
  obtain ⟨hE, hR, hI, h20⟩ := h.m1
  obtain ⟨⟨h1, h2, -, -⟩, ⟨hle, h20', h80, hac, hgin⟩, hv4, hvn, hv5, hv6, hmk, hs0⟩ := h
  have hla := h1.la
  have hq := hI.2.1
  have e4 : ¬ isMk i := fun z => by have := z.1; omega
  have e1 : wlist W c (gmt (gc W c) k) i = [wAny] := by simp [wlist, ho]
  have e2 : loS W c i lo st = lo := by unfold loS; rw [if_neg (by omega), if_neg (by omega), if_neg e4]
  have e3 : stT W c (gmt (gc W c) k) i a lo st = st.take (st.length - ([wAny] : List Wt).length) ++ [tp st 0, tp st 0] := by unfold stT; rw [if_neg e4, e1, show pushS i a lo st = [tp st 0, tp st 0] by simp [pushS, ho]]
  rw [e2, e3] at hQ
  rw [e1] at hR h20 hle
  have hle1 : 1 ≤ st.length := hle
  obtain ⟨x1, x2⟩ := h2.2.2.1 (st.length - 1 - 0) (by omega)
  have x2 : kwf A (co (gmt (gc W c) k)) (tp st 0) := x2
  rw [hv5 (by omega)]
  unfold w_Model_act_j100 w_Model_act_j364
  (repeat (first | refine itp (by decide) ?_ | refine itn (by decide) ?_))
  generalize sI M 11 0 72 (mI M 11 0 72 - mI M 11 0 79) = M1 at hE hR hI ⊢
  exact ct_lay (κ := tp st 0) hR (by omega) x2 (fun _ r1 => ct_lay (κ := tp st 0) r1 (by rw [List.length_append]; show _ + 1 ≤ 25; omega) x2 (fun _ r2 => hQ _ (by simpa using r2)))
theorem t_ac21 {v4 v5 v6 s0 : Int32} (h : TAc G US A S W w c k br nq nl nf nk q n a i lo st v4 v5 v6 s0 M) (ho : i.1 = 21) (hQ : ∀ M', TSr A (gmt (gc W c) k) (loS W c i lo st) (stT W c (gmt (gc W c) k) i a lo st) M' → Q M') : w_Model_act_j100 0 Q (Int32.ofNat 21) (Int32.ofNat q) (Int32.ofNat a) v4 v5 v6 s0 M := by
  obtain ⟨hE, hR, hI, h20⟩ := h.m1
  obtain ⟨⟨h1, h2, -, -⟩, ⟨hle, h20', h80, hac, hgin⟩, hv4, hvn, hv5, hv6, hmk, hs0⟩ := h
  have hla := h1.la
  have hq := hI.2.1
  have e4 : ¬ isMk i := fun z => by have := z.1; omega
  have e1 : wlist W c (gmt (gc W c) k) i = [wAny, wAny] := by simp [wlist, ho]
  have e2 : loS W c i lo st = lo := by unfold loS; rw [if_neg (by omega), if_neg (by omega), if_neg e4]
  have e3 : stT W c (gmt (gc W c) k) i a lo st = st.take (st.length - ([wAny, wAny] : List Wt).length) ++ [tp st 0, tp st 1, tp st 0] := by unfold stT; rw [if_neg e4, e1, show pushS i a lo st = [tp st 0, tp st 1, tp st 0] by simp [pushS, ho]]
  rw [e2, e3] at hQ
  rw [e1] at hR h20 hle
  have hle1 : 2 ≤ st.length := hle
  obtain ⟨x1, x2⟩ := h2.2.2.1 (st.length - 1 - 0) (by omega)
  have x2 : kwf A (co (gmt (gc W c) k)) (tp st 0) := x2
  rw [hv5 (by omega)]
  obtain ⟨y1, y2⟩ := h2.2.2.1 (st.length - 1 - 1) (by omega)
  have y2 : kwf A (co (gmt (gc W c) k)) (tp st 1) := y2
  rw [hv6 (by omega)]
  unfold w_Model_act_j100 w_Model_act_j364
  (repeat (first | refine itp (by decide) ?_ | refine itn (by decide) ?_))
  generalize sI M 11 0 72 (mI M 11 0 72 - mI M 11 0 79) = M1 at hE hR hI ⊢
  exact ct_lay (κ := tp st 0) hR (by omega) x2 (fun _ r1 => ct_lay (κ := tp st 1) r1 (by rw [List.length_append]; show _ + 1 ≤ 25; omega) y2 (fun _ r2 => ct_lay (κ := tp st 0) r2 (by rw [List.length_append, List.length_append]; show _ + 1 + 1 ≤ 25; omega) x2 (fun _ r3 => hQ _ (by simpa using r3))))
theorem t_ac22 {v4 v5 v6 s0 : Int32} (h : TAc G US A S W w c k br nq nl nf nk q n a i lo st v4 v5 v6 s0 M) (ho : i.1 = 22) (hQ : ∀ M', TSr A (gmt (gc W c) k) (loS W c i lo st) (stT W c (gmt (gc W c) k) i a lo st) M' → Q M') : w_Model_act_j100 0 Q (Int32.ofNat 22) (Int32.ofNat q) (Int32.ofNat a) v4 v5 v6 s0 M := by
  obtain ⟨hE, hR, hI, h20⟩ := h.m1
  obtain ⟨⟨h1, h2, -, -⟩, ⟨hle, h20', h80, hac, hgin⟩, hv4, hvn, hv5, hv6, hmk, hs0⟩ := h
  have hla := h1.la
  have hq := hI.2.1
  have e4 : ¬ isMk i := fun z => by have := z.1; omega
  have e1 : wlist W c (gmt (gc W c) k) i = [wAny, wAny] := by simp [wlist, ho]
  have e2 : loS W c i lo st = lo := by unfold loS; rw [if_neg (by omega), if_neg (by omega), if_neg e4]
  have e3 : stT W c (gmt (gc W c) k) i a lo st = st.take (st.length - ([wAny, wAny] : List Wt).length) ++ [tp st 0, tp st 1] := by unfold stT; rw [if_neg e4, e1, show pushS i a lo st = [tp st 0, tp st 1] by simp [pushS, ho]]
  rw [e2, e3] at hQ
  rw [e1] at hR h20 hle
  have hle1 : 2 ≤ st.length := hle
  obtain ⟨x1, x2⟩ := h2.2.2.1 (st.length - 1 - 0) (by omega)
  have x2 : kwf A (co (gmt (gc W c) k)) (tp st 0) := x2
  rw [hv5 (by omega)]
  obtain ⟨y1, y2⟩ := h2.2.2.1 (st.length - 1 - 1) (by omega)
  have y2 : kwf A (co (gmt (gc W c) k)) (tp st 1) := y2
  rw [hv6 (by omega)]
  unfold w_Model_act_j100 w_Model_act_j364
  (repeat (first | refine itp (by decide) ?_ | refine itn (by decide) ?_))
  generalize sI M 11 0 72 (mI M 11 0 72 - mI M 11 0 79) = M1 at hE hR hI ⊢
  exact ct_lay (κ := tp st 0) hR (by omega) x2 (fun _ r1 => ct_lay (κ := tp st 1) r1 (by rw [List.length_append]; show _ + 1 ≤ 25; omega) y2 (fun _ r2 => hQ _ (by simpa using r2)))
theorem t_ac23 {v4 v5 v6 s0 : Int32} (h : TAc G US A S W w c k br nq nl nf nk q n a i lo st v4 v5 v6 s0 M) (ho : i.1 = 23) (hQ : ∀ M', TSr A (gmt (gc W c) k) (loS W c i lo st) (stT W c (gmt (gc W c) k) i a lo st) M' → Q M') : w_Model_act_j100 0 Q (Int32.ofNat 23) (Int32.ofNat q) (Int32.ofNat a) v4 v5 v6 s0 M := by
  obtain ⟨hE, hR, hI, h20⟩ := h.m1
  obtain ⟨⟨h1, h2, -, -⟩, ⟨hle, h20', h80, hac, hgin⟩, hv4, hvn, hv5, hv6, hmk, hs0⟩ := h
  have hla := h1.la
  have hq := hI.2.1
  have e4 : ¬ isMk i := fun z => by have := z.1; omega
  have e1 : wlist W c (gmt (gc W c) k) i = [] := by simp [wlist, ho]
  have e2 : loS W c i lo st = lo := by unfold loS; rw [if_neg (by omega), if_neg (by omega), if_neg e4]
  have e3 : stT W c (gmt (gc W c) k) i a lo st = st.take (st.length - ([] : List Wt).length) ++ [] := by unfold stT; rw [if_neg e4, e1, show pushS i a lo st = [] by simp [pushS, ho]]
  rw [e2, e3] at hQ
  rw [e1] at hR h20 hle
  unfold w_Model_act_j100 w_Model_act_j364
  (repeat (first | refine itp (by decide) ?_ | refine itn (by decide) ?_))
  generalize sI M 11 0 72 (mI M 11 0 72 - mI M 11 0 79) = M1 at hE hR hI ⊢
  exact hQ _ (by rw [List.append_nil]; exact hR)
theorem t_ac24 {v4 v5 v6 s0 : Int32} (h : TAc G US A S W w c k br nq nl nf nk q n a i lo st v4 v5 v6 s0 M) (ho : i.1 = 24) (hQ : ∀ M', TSr A (gmt (gc W c) k) (loS W c i lo st) (stT W c (gmt (gc W c) k) i a lo st) M' → Q M') : w_Model_act_j100 0 Q (Int32.ofNat 24) (Int32.ofNat q) (Int32.ofNat a) v4 v5 v6 s0 M := by
  obtain ⟨hE, hR, hI, h20⟩ := h.m1
  obtain ⟨⟨h1, h2, -, -⟩, ⟨hle, h20', h80, hac, hgin⟩, hv4, hvn, hv5, hv6, hmk, hs0⟩ := h
  have hla := h1.la
  have hq := hI.2.1
  have e4 : ¬ isMk i := fun z => by have := z.1; omega
  have e1 : wlist W c (gmt (gc W c) k) i = [wNum] := by simp [wlist, ho]
  have e2 : loS W c i lo st = lo := by unfold loS; rw [if_neg (by omega), if_neg (by omega), if_neg e4]
  have e3 : stT W c (gmt (gc W c) k) i a lo st = st.take (st.length - ([wNum] : List Wt).length) ++ [] := by unfold stT; rw [if_neg e4, e1, show pushS i a lo st = [] by simp [pushS, ho]]
  rw [e2, e3] at hQ
  rw [e1] at hR h20 hle
  unfold w_Model_act_j100 w_Model_act_j364
  (repeat (first | refine itp (by decide) ?_ | refine itn (by decide) ?_))
  generalize sI M 11 0 72 (mI M 11 0 72 - mI M 11 0 79) = M1 at hE hR hI ⊢
  exact hQ _ (by rw [List.append_nil]; exact hR)
theorem t_ac25 {v4 v5 v6 s0 : Int32} (h : TAc G US A S W w c k br nq nl nf nk q n a i lo st v4 v5 v6 s0 M) (ho : i.1 = 25) (hQ : ∀ M', TSr A (gmt (gc W c) k) (loS W c i lo st) (stT W c (gmt (gc W c) k) i a lo st) M' → Q M') : w_Model_act_j100 0 Q (Int32.ofNat 25) (Int32.ofNat q) (Int32.ofNat a) v4 v5 v6 s0 M := by
  obtain ⟨hE, hR, hI, h20⟩ := h.m1
  obtain ⟨⟨h1, h2, -, -⟩, ⟨hle, h20', h80, hac, hgin⟩, hv4, hvn, hv5, hv6, hmk, hs0⟩ := h
  have hla := h1.la
  have hq := hI.2.1
  have e4 : ¬ isMk i := fun z => by have := z.1; omega
  have e1 : wlist W c (gmt (gc W c) k) i = [wNum] := by simp [wlist, ho]
  have e2 : loS W c i lo st = lo := by unfold loS; rw [if_neg (by omega), if_neg (by omega), if_neg e4]
  have e3 : stT W c (gmt (gc W c) k) i a lo st = st.take (st.length - ([wNum] : List Wt).length) ++ [] := by unfold stT; rw [if_neg e4, e1, show pushS i a lo st = [] by simp [pushS, ho]]
  rw [e2, e3] at hQ
  rw [e1] at hR h20 hle
  unfold w_Model_act_j100 w_Model_act_j364
  (repeat (first | refine itp (by decide) ?_ | refine itn (by decide) ?_))
  generalize sI M 11 0 72 (mI M 11 0 72 - mI M 11 0 79) = M1 at hE hR hI ⊢
  exact hQ _ (by rw [List.append_nil]; exact hR)
theorem t_ac26 {v4 v5 v6 s0 : Int32} (h : TAc G US A S W w c k br nq nl nf nk q n a i lo st v4 v5 v6 s0 M) (ho : i.1 = 26) (hQ : ∀ M', TSr A (gmt (gc W c) k) (loS W c i lo st) (stT W c (gmt (gc W c) k) i a lo st) M' → Q M') : w_Model_act_j100 0 Q (Int32.ofNat 26) (Int32.ofNat q) (Int32.ofNat a) v4 v5 v6 s0 M := by
  obtain ⟨hE, hR, hI, h20⟩ := h.m1
  obtain ⟨⟨h1, h2, -, -⟩, ⟨hle, h20', h80, hac, hgin⟩, hv4, hvn, hv5, hv6, hmk, hs0⟩ := h
  have hla := h1.la
  have hq := hI.2.1
  have e4 : ¬ isMk i := fun z => by have := z.1; omega
  have e1 : wlist W c (gmt (gc W c) k) i = [wNum] := by simp [wlist, ho]
  have e2 : loS W c i lo st = lo := by unfold loS; rw [if_neg (by omega), if_neg (by omega), if_neg e4]
  have e3 : stT W c (gmt (gc W c) k) i a lo st = st.take (st.length - ([wNum] : List Wt).length) ++ [] := by unfold stT; rw [if_neg e4, e1, show pushS i a lo st = [] by simp [pushS, ho]]
  rw [e2, e3] at hQ
  rw [e1] at hR h20 hle
  unfold w_Model_act_j100 w_Model_act_j364
  (repeat (first | refine itp (by decide) ?_ | refine itn (by decide) ?_))
  generalize sI M 11 0 72 (mI M 11 0 72 - mI M 11 0 79) = M1 at hE hR hI ⊢
  exact hQ _ (by rw [List.append_nil]; exact hR)
theorem t_ac27 {v4 v5 v6 s0 : Int32} (h : TAc G US A S W w c k br nq nl nf nk q n a i lo st v4 v5 v6 s0 M) (ho : i.1 = 27) (hQ : ∀ M', TSr A (gmt (gc W c) k) (loS W c i lo st) (stT W c (gmt (gc W c) k) i a lo st) M' → Q M') : w_Model_act_j100 0 Q (Int32.ofNat 27) (Int32.ofNat q) (Int32.ofNat a) v4 v5 v6 s0 M := by
  obtain ⟨hE, hR, hI, h20⟩ := h.m1
  obtain ⟨⟨h1, h2, -, -⟩, ⟨hle, h20', h80, hac, hgin⟩, hv4, hvn, hv5, hv6, hmk, hs0⟩ := h
  have hla := h1.la
  have hq := hI.2.1
  have e4 : ¬ isMk i := fun z => by have := z.1; omega
  have e1 : wlist W c (gmt (gc W c) k) i = [wNum] := by simp [wlist, ho]
  have e2 : loS W c i lo st = lo := by unfold loS; rw [if_neg (by omega), if_neg (by omega), if_neg e4]
  have e3 : stT W c (gmt (gc W c) k) i a lo st = st.take (st.length - ([wNum] : List Wt).length) ++ [] := by unfold stT; rw [if_neg e4, e1, show pushS i a lo st = [] by simp [pushS, ho]]
  rw [e2, e3] at hQ
  rw [e1] at hR h20 hle
  unfold w_Model_act_j100 w_Model_act_j364
  (repeat (first | refine itp (by decide) ?_ | refine itn (by decide) ?_))
  generalize sI M 11 0 72 (mI M 11 0 72 - mI M 11 0 79) = M1 at hE hR hI ⊢
  exact hQ _ (by rw [List.append_nil]; exact hR)
theorem t_ac28 {v4 v5 v6 s0 : Int32} (h : TAc G US A S W w c k br nq nl nf nk q n a i lo st v4 v5 v6 s0 M) (ho : i.1 = 28) (hQ : ∀ M', TSr A (gmt (gc W c) k) (loS W c i lo st) (stT W c (gmt (gc W c) k) i a lo st) M' → Q M') : w_Model_act_j100 0 Q (Int32.ofNat 28) (Int32.ofNat q) (Int32.ofNat a) v4 v5 v6 s0 M := by
  obtain ⟨hE, hR, hI, h20⟩ := h.m1
  obtain ⟨⟨h1, h2, -, -⟩, ⟨hle, h20', h80, hac, hgin⟩, hv4, hvn, hv5, hv6, hmk, hs0⟩ := h
  have hla := h1.la
  have hq := hI.2.1
  have e4 : ¬ isMk i := fun z => by have := z.1; omega
  have e1 : wlist W c (gmt (gc W c) k) i = [wNum] := by simp [wlist, ho]
  have e2 : loS W c i lo st = lo := by unfold loS; rw [if_neg (by omega), if_neg (by omega), if_neg e4]
  have e3 : stT W c (gmt (gc W c) k) i a lo st = st.take (st.length - ([wNum] : List Wt).length) ++ [] := by unfold stT; rw [if_neg e4, e1, show pushS i a lo st = [] by simp [pushS, ho]]
  rw [e2, e3] at hQ
  rw [e1] at hR h20 hle
  unfold w_Model_act_j100 w_Model_act_j364
  (repeat (first | refine itp (by decide) ?_ | refine itn (by decide) ?_))
  generalize sI M 11 0 72 (mI M 11 0 72 - mI M 11 0 79) = M1 at hE hR hI ⊢
  exact hQ _ (by rw [List.append_nil]; exact hR)
theorem t_ac29 {v4 v5 v6 s0 : Int32} (h : TAc G US A S W w c k br nq nl nf nk q n a i lo st v4 v5 v6 s0 M) (ho : i.1 = 29) (hQ : ∀ M', TSr A (gmt (gc W c) k) (loS W c i lo st) (stT W c (gmt (gc W c) k) i a lo st) M' → Q M') : w_Model_act_j100 0 Q (Int32.ofNat 29) (Int32.ofNat q) (Int32.ofNat a) v4 v5 v6 s0 M := by
  obtain ⟨hE, hR, hI, h20⟩ := h.m1
  obtain ⟨⟨h1, h2, -, -⟩, ⟨hle, h20', h80, hac, hgin⟩, hv4, hvn, hv5, hv6, hmk, hs0⟩ := h
  have hla := h1.la
  have hq := hI.2.1
  have e4 : ¬ isMk i := fun z => by have := z.1; omega
  have e1 : wlist W c (gmt (gc W c) k) i = [wNum] := by simp [wlist, ho]
  have e2 : loS W c i lo st = lo := by unfold loS; rw [if_neg (by omega), if_neg (by omega), if_neg e4]
  have e3 : stT W c (gmt (gc W c) k) i a lo st = st.take (st.length - ([wNum] : List Wt).length) ++ [] := by unfold stT; rw [if_neg e4, e1, show pushS i a lo st = [] by simp [pushS, ho]]
  rw [e2, e3] at hQ
  rw [e1] at hR h20 hle
  unfold w_Model_act_j100 w_Model_act_j364
  (repeat (first | refine itp (by decide) ?_ | refine itn (by decide) ?_))
  generalize sI M 11 0 72 (mI M 11 0 72 - mI M 11 0 79) = M1 at hE hR hI ⊢
  exact hQ _ (by rw [List.append_nil]; exact hR)
theorem t_ac30 {v4 v5 v6 s0 : Int32} (h : TAc G US A S W w c k br nq nl nf nk q n a i lo st v4 v5 v6 s0 M) (ho : i.1 = 30) (hQ : ∀ M', TSr A (gmt (gc W c) k) (loS W c i lo st) (stT W c (gmt (gc W c) k) i a lo st) M' → Q M') : w_Model_act_j100 0 Q (Int32.ofNat 30) (Int32.ofNat q) (Int32.ofNat a) v4 v5 v6 s0 M := by
  obtain ⟨hE, hR, hI, h20⟩ := h.m1
  obtain ⟨⟨h1, h2, -, -⟩, ⟨hle, h20', h80, hac, hgin⟩, hv4, hvn, hv5, hv6, hmk, hs0⟩ := h
  have hla := h1.la
  have hq := hI.2.1
  have e4 : ¬ isMk i := fun z => by have := z.1; omega
  have e1 : wlist W c (gmt (gc W c) k) i = [wNum, wNum] := by simp [wlist, ho]
  have e2 : loS W c i lo st = lo := by unfold loS; rw [if_neg (by omega), if_neg (by omega), if_neg e4]
  have e3 : stT W c (gmt (gc W c) k) i a lo st = st.take (st.length - ([wNum, wNum] : List Wt).length) ++ [] := by unfold stT; rw [if_neg e4, e1, show pushS i a lo st = [] by simp [pushS, ho]]
  rw [e2, e3] at hQ
  rw [e1] at hR h20 hle
  unfold w_Model_act_j100 w_Model_act_j364
  (repeat (first | refine itp (by decide) ?_ | refine itn (by decide) ?_))
  generalize sI M 11 0 72 (mI M 11 0 72 - mI M 11 0 79) = M1 at hE hR hI ⊢
  exact hQ _ (by rw [List.append_nil]; exact hR)
theorem t_ac31 {v4 v5 v6 s0 : Int32} (h : TAc G US A S W w c k br nq nl nf nk q n a i lo st v4 v5 v6 s0 M) (ho : i.1 = 31) (hQ : ∀ M', TSr A (gmt (gc W c) k) (loS W c i lo st) (stT W c (gmt (gc W c) k) i a lo st) M' → Q M') : w_Model_act_j100 0 Q (Int32.ofNat 31) (Int32.ofNat q) (Int32.ofNat a) v4 v5 v6 s0 M := by
  obtain ⟨hE, hR, hI, h20⟩ := h.m1
  obtain ⟨⟨h1, h2, -, -⟩, ⟨hle, h20', h80, hac, hgin⟩, hv4, hvn, hv5, hv6, hmk, hs0⟩ := h
  have hla := h1.la
  have hq := hI.2.1
  have e4 : ¬ isMk i := fun z => by have := z.1; omega
  have e1 : wlist W c (gmt (gc W c) k) i = [wNum, wNum] := by simp [wlist, ho]
  have e2 : loS W c i lo st = lo := by unfold loS; rw [if_neg (by omega), if_neg (by omega), if_neg e4]
  have e3 : stT W c (gmt (gc W c) k) i a lo st = st.take (st.length - ([wNum, wNum] : List Wt).length) ++ [] := by unfold stT; rw [if_neg e4, e1, show pushS i a lo st = [] by simp [pushS, ho]]
  rw [e2, e3] at hQ
  rw [e1] at hR h20 hle
  unfold w_Model_act_j100 w_Model_act_j364
  (repeat (first | refine itp (by decide) ?_ | refine itn (by decide) ?_))
  generalize sI M 11 0 72 (mI M 11 0 72 - mI M 11 0 79) = M1 at hE hR hI ⊢
  exact hQ _ (by rw [List.append_nil]; exact hR)
theorem t_ac32 {v4 v5 v6 s0 : Int32} (h : TAc G US A S W w c k br nq nl nf nk q n a i lo st v4 v5 v6 s0 M) (ho : i.1 = 32) (hQ : ∀ M', TSr A (gmt (gc W c) k) (loS W c i lo st) (stT W c (gmt (gc W c) k) i a lo st) M' → Q M') : w_Model_act_j100 0 Q (Int32.ofNat 32) (Int32.ofNat q) (Int32.ofNat a) v4 v5 v6 s0 M := by
  obtain ⟨hE, hR, hI, h20⟩ := h.m1
  obtain ⟨⟨h1, h2, -, -⟩, ⟨hle, h20', h80, hac, hgin⟩, hv4, hvn, hv5, hv6, hmk, hs0⟩ := h
  have hla := h1.la
  have hq := hI.2.1
  have e4 : ¬ isMk i := fun z => by have := z.1; omega
  have e1 : wlist W c (gmt (gc W c) k) i = [wNum, wNum] := by simp [wlist, ho]
  have e2 : loS W c i lo st = lo := by unfold loS; rw [if_neg (by omega), if_neg (by omega), if_neg e4]
  have e3 : stT W c (gmt (gc W c) k) i a lo st = st.take (st.length - ([wNum, wNum] : List Wt).length) ++ [] := by unfold stT; rw [if_neg e4, e1, show pushS i a lo st = [] by simp [pushS, ho]]
  rw [e2, e3] at hQ
  rw [e1] at hR h20 hle
  unfold w_Model_act_j100 w_Model_act_j364
  (repeat (first | refine itp (by decide) ?_ | refine itn (by decide) ?_))
  generalize sI M 11 0 72 (mI M 11 0 72 - mI M 11 0 79) = M1 at hE hR hI ⊢
  exact hQ _ (by rw [List.append_nil]; exact hR)
theorem t_ac33 {v4 v5 v6 s0 : Int32} (h : TAc G US A S W w c k br nq nl nf nk q n a i lo st v4 v5 v6 s0 M) (ho : i.1 = 33) (hQ : ∀ M', TSr A (gmt (gc W c) k) (loS W c i lo st) (stT W c (gmt (gc W c) k) i a lo st) M' → Q M') : w_Model_act_j100 0 Q (Int32.ofNat 33) (Int32.ofNat q) (Int32.ofNat a) v4 v5 v6 s0 M := by
  obtain ⟨hE, hR, hI, h20⟩ := h.m1
  obtain ⟨⟨h1, h2, -, -⟩, ⟨hle, h20', h80, hac, hgin⟩, hv4, hvn, hv5, hv6, hmk, hs0⟩ := h
  have hla := h1.la
  have hq := hI.2.1
  have e4 : ¬ isMk i := fun z => by have := z.1; omega
  have e1 : wlist W c (gmt (gc W c) k) i = [wNum, wNum] := by simp [wlist, ho]
  have e2 : loS W c i lo st = lo := by unfold loS; rw [if_neg (by omega), if_neg (by omega), if_neg e4]
  have e3 : stT W c (gmt (gc W c) k) i a lo st = st.take (st.length - ([wNum, wNum] : List Wt).length) ++ [] := by unfold stT; rw [if_neg e4, e1, show pushS i a lo st = [] by simp [pushS, ho]]
  rw [e2, e3] at hQ
  rw [e1] at hR h20 hle
  unfold w_Model_act_j100 w_Model_act_j364
  (repeat (first | refine itp (by decide) ?_ | refine itn (by decide) ?_))
  generalize sI M 11 0 72 (mI M 11 0 72 - mI M 11 0 79) = M1 at hE hR hI ⊢
  exact hQ _ (by rw [List.append_nil]; exact hR)
theorem t_ac34 {v4 v5 v6 s0 : Int32} (h : TAc G US A S W w c k br nq nl nf nk q n a i lo st v4 v5 v6 s0 M) (ho : i.1 = 34) (hQ : ∀ M', TSr A (gmt (gc W c) k) (loS W c i lo st) (stT W c (gmt (gc W c) k) i a lo st) M' → Q M') : w_Model_act_j100 0 Q (Int32.ofNat 34) (Int32.ofNat q) (Int32.ofNat a) v4 v5 v6 s0 M := by
  obtain ⟨hE, hR, hI, h20⟩ := h.m1
  obtain ⟨⟨h1, h2, -, -⟩, ⟨hle, h20', h80, hac, hgin⟩, hv4, hvn, hv5, hv6, hmk, hs0⟩ := h
  have hla := h1.la
  have hq := hI.2.1
  have e4 : ¬ isMk i := fun z => by have := z.1; omega
  have e1 : wlist W c (gmt (gc W c) k) i = [wNum, wNum] := by simp [wlist, ho]
  have e2 : loS W c i lo st = lo := by unfold loS; rw [if_neg (by omega), if_neg (by omega), if_neg e4]
  have e3 : stT W c (gmt (gc W c) k) i a lo st = st.take (st.length - ([wNum, wNum] : List Wt).length) ++ [] := by unfold stT; rw [if_neg e4, e1, show pushS i a lo st = [] by simp [pushS, ho]]
  rw [e2, e3] at hQ
  rw [e1] at hR h20 hle
  unfold w_Model_act_j100 w_Model_act_j364
  (repeat (first | refine itp (by decide) ?_ | refine itn (by decide) ?_))
  generalize sI M 11 0 72 (mI M 11 0 72 - mI M 11 0 79) = M1 at hE hR hI ⊢
  exact hQ _ (by rw [List.append_nil]; exact hR)
theorem t_ac35 {v4 v5 v6 s0 : Int32} (h : TAc G US A S W w c k br nq nl nf nk q n a i lo st v4 v5 v6 s0 M) (ho : i.1 = 35) (hQ : ∀ M', TSr A (gmt (gc W c) k) (loS W c i lo st) (stT W c (gmt (gc W c) k) i a lo st) M' → Q M') : w_Model_act_j100 0 Q (Int32.ofNat 35) (Int32.ofNat q) (Int32.ofNat a) v4 v5 v6 s0 M := by
  obtain ⟨hE, hR, hI, h20⟩ := h.m1
  obtain ⟨⟨h1, h2, -, -⟩, ⟨hle, h20', h80, hac, hgin⟩, hv4, hvn, hv5, hv6, hmk, hs0⟩ := h
  have hla := h1.la
  have hq := hI.2.1
  have e4 : ¬ isMk i := fun z => by have := z.1; omega
  have e1 : wlist W c (gmt (gc W c) k) i = [wNum, wNum] := by simp [wlist, ho]
  have e2 : loS W c i lo st = lo := by unfold loS; rw [if_neg (by omega), if_neg (by omega), if_neg e4]
  have e3 : stT W c (gmt (gc W c) k) i a lo st = st.take (st.length - ([wNum, wNum] : List Wt).length) ++ [] := by unfold stT; rw [if_neg e4, e1, show pushS i a lo st = [] by simp [pushS, ho]]
  rw [e2, e3] at hQ
  rw [e1] at hR h20 hle
  unfold w_Model_act_j100 w_Model_act_j364
  (repeat (first | refine itp (by decide) ?_ | refine itn (by decide) ?_))
  generalize sI M 11 0 72 (mI M 11 0 72 - mI M 11 0 79) = M1 at hE hR hI ⊢
  exact hQ _ (by rw [List.append_nil]; exact hR)
theorem t_ac36 {v4 v5 v6 s0 : Int32} (h : TAc G US A S W w c k br nq nl nf nk q n a i lo st v4 v5 v6 s0 M) (ho : i.1 = 36) (hQ : ∀ M', TSr A (gmt (gc W c) k) (loS W c i lo st) (stT W c (gmt (gc W c) k) i a lo st) M' → Q M') : w_Model_act_j100 0 Q (Int32.ofNat 36) (Int32.ofNat q) (Int32.ofNat a) v4 v5 v6 s0 M := by
  obtain ⟨hE, hR, hI, h20⟩ := h.m1
  obtain ⟨⟨h1, h2, -, -⟩, ⟨hle, h20', h80, hac, hgin⟩, hv4, hvn, hv5, hv6, hmk, hs0⟩ := h
  have hla := h1.la
  have hq := hI.2.1
  have e4 : ¬ isMk i := fun z => by have := z.1; omega
  have e1 : wlist W c (gmt (gc W c) k) i = [wRef] := by simp [wlist, ho]
  have e2 : loS W c i lo st = lo := by unfold loS; rw [if_neg (by omega), if_neg (by omega), if_neg e4]
  have e3 : stT W c (gmt (gc W c) k) i a lo st = st.take (st.length - ([wRef] : List Wt).length) ++ [] := by unfold stT; rw [if_neg e4, e1, show pushS i a lo st = [] by simp [pushS, ho]]
  rw [e2, e3] at hQ
  rw [e1] at hR h20 hle
  unfold w_Model_act_j100 w_Model_act_j364
  (repeat (first | refine itp (by decide) ?_ | refine itn (by decide) ?_))
  generalize sI M 11 0 72 (mI M 11 0 72 - mI M 11 0 79) = M1 at hE hR hI ⊢
  exact hQ _ (by rw [List.append_nil]; exact hR)
theorem t_ac37 {v4 v5 v6 s0 : Int32} (h : TAc G US A S W w c k br nq nl nf nk q n a i lo st v4 v5 v6 s0 M) (ho : i.1 = 37) (hQ : ∀ M', TSr A (gmt (gc W c) k) (loS W c i lo st) (stT W c (gmt (gc W c) k) i a lo st) M' → Q M') : w_Model_act_j100 0 Q (Int32.ofNat 37) (Int32.ofNat q) (Int32.ofNat a) v4 v5 v6 s0 M := by
  obtain ⟨hE, hR, hI, h20⟩ := h.m1
  obtain ⟨⟨h1, h2, -, -⟩, ⟨hle, h20', h80, hac, hgin⟩, hv4, hvn, hv5, hv6, hmk, hs0⟩ := h
  have hla := h1.la
  have hq := hI.2.1
  have e4 : ¬ isMk i := fun z => by have := z.1; omega
  have e1 : wlist W c (gmt (gc W c) k) i = [wRef] := by simp [wlist, ho]
  have e2 : loS W c i lo st = lo := by unfold loS; rw [if_neg (by omega), if_neg (by omega), if_neg e4]
  have e3 : stT W c (gmt (gc W c) k) i a lo st = st.take (st.length - ([wRef] : List Wt).length) ++ [] := by unfold stT; rw [if_neg e4, e1, show pushS i a lo st = [] by simp [pushS, ho]]
  rw [e2, e3] at hQ
  rw [e1] at hR h20 hle
  unfold w_Model_act_j100 w_Model_act_j364
  (repeat (first | refine itp (by decide) ?_ | refine itn (by decide) ?_))
  generalize sI M 11 0 72 (mI M 11 0 72 - mI M 11 0 79) = M1 at hE hR hI ⊢
  exact hQ _ (by rw [List.append_nil]; exact hR)
theorem t_ac38 {v4 v5 v6 s0 : Int32} (h : TAc G US A S W w c k br nq nl nf nk q n a i lo st v4 v5 v6 s0 M) (ho : i.1 = 38) (hQ : ∀ M', TSr A (gmt (gc W c) k) (loS W c i lo st) (stT W c (gmt (gc W c) k) i a lo st) M' → Q M') : w_Model_act_j100 0 Q (Int32.ofNat 38) (Int32.ofNat q) (Int32.ofNat a) v4 v5 v6 s0 M := by
  obtain ⟨hE, hR, hI, h20⟩ := h.m1
  obtain ⟨⟨h1, h2, -, -⟩, ⟨hle, h20', h80, hac, hgin⟩, hv4, hvn, hv5, hv6, hmk, hs0⟩ := h
  have hla := h1.la
  have hq := hI.2.1
  have e4 : ¬ isMk i := fun z => by have := z.1; omega
  have e1 : wlist W c (gmt (gc W c) k) i = [wRef, wRef] := by simp [wlist, ho]
  have e2 : loS W c i lo st = lo := by unfold loS; rw [if_neg (by omega), if_neg (by omega), if_neg e4]
  have e3 : stT W c (gmt (gc W c) k) i a lo st = st.take (st.length - ([wRef, wRef] : List Wt).length) ++ [] := by unfold stT; rw [if_neg e4, e1, show pushS i a lo st = [] by simp [pushS, ho]]
  rw [e2, e3] at hQ
  rw [e1] at hR h20 hle
  unfold w_Model_act_j100 w_Model_act_j364
  (repeat (first | refine itp (by decide) ?_ | refine itn (by decide) ?_))
  generalize sI M 11 0 72 (mI M 11 0 72 - mI M 11 0 79) = M1 at hE hR hI ⊢
  exact hQ _ (by rw [List.append_nil]; exact hR)
theorem t_ac39 {v4 v5 v6 s0 : Int32} (h : TAc G US A S W w c k br nq nl nf nk q n a i lo st v4 v5 v6 s0 M) (ho : i.1 = 39) (hQ : ∀ M', TSr A (gmt (gc W c) k) (loS W c i lo st) (stT W c (gmt (gc W c) k) i a lo st) M' → Q M') : w_Model_act_j100 0 Q (Int32.ofNat 39) (Int32.ofNat q) (Int32.ofNat a) v4 v5 v6 s0 M := by
  obtain ⟨hE, hR, hI, h20⟩ := h.m1
  obtain ⟨⟨h1, h2, -, -⟩, ⟨hle, h20', h80, hac, hgin⟩, hv4, hvn, hv5, hv6, hmk, hs0⟩ := h
  have hla := h1.la
  have hq := hI.2.1
  have e4 : ¬ isMk i := fun z => by have := z.1; omega
  have e1 : wlist W c (gmt (gc W c) k) i = [wRef, wRef] := by simp [wlist, ho]
  have e2 : loS W c i lo st = lo := by unfold loS; rw [if_neg (by omega), if_neg (by omega), if_neg e4]
  have e3 : stT W c (gmt (gc W c) k) i a lo st = st.take (st.length - ([wRef, wRef] : List Wt).length) ++ [] := by unfold stT; rw [if_neg e4, e1, show pushS i a lo st = [] by simp [pushS, ho]]
  rw [e2, e3] at hQ
  rw [e1] at hR h20 hle
  unfold w_Model_act_j100 w_Model_act_j364
  (repeat (first | refine itp (by decide) ?_ | refine itn (by decide) ?_))
  generalize sI M 11 0 72 (mI M 11 0 72 - mI M 11 0 79) = M1 at hE hR hI ⊢
  exact hQ _ (by rw [List.append_nil]; exact hR)
theorem t_ac40 {v4 v5 v6 s0 : Int32} (h : TAc G US A S W w c k br nq nl nf nk q n a i lo st v4 v5 v6 s0 M) (ho : i.1 = 40) (hQ : ∀ M', TSr A (gmt (gc W c) k) (loS W c i lo st) (stT W c (gmt (gc W c) k) i a lo st) M' → Q M') : w_Model_act_j100 0 Q (Int32.ofNat 40) (Int32.ofNat q) (Int32.ofNat a) v4 v5 v6 s0 M := by
  obtain ⟨hE, hR, hI, h20⟩ := h.m1
  obtain ⟨⟨h1, h2, -, -⟩, ⟨hle, h20', h80, hac, hgin⟩, hv4, hvn, hv5, hv6, hmk, hs0⟩ := h
  have hla := h1.la
  have hq := hI.2.1
  have e4 : ¬ isMk i := fun z => by have := z.1; omega
  have e1 : wlist W c (gmt (gc W c) k) i = [wNum] := by simp [wlist, ho]
  have e2 : loS W c i lo st = lo := by unfold loS; rw [if_neg (by omega), if_neg (by omega), if_neg e4]
  have e3 : stT W c (gmt (gc W c) k) i a lo st = st.take (st.length - ([wNum] : List Wt).length) ++ [] := by unfold stT; rw [if_neg e4, e1, show pushS i a lo st = [] by simp [pushS, ho]]
  rw [e2, e3] at hQ
  rw [e1] at hR h20 hle
  unfold w_Model_act_j100 w_Model_act_j364
  (repeat (first | refine itp (by decide) ?_ | refine itn (by decide) ?_))
  generalize sI M 11 0 72 (mI M 11 0 72 - mI M 11 0 79) = M1 at hE hR hI ⊢
  exact hQ _ (by rw [List.append_nil]; exact hR)
theorem t_ac41 {v4 v5 v6 s0 : Int32} (h : TAc G US A S W w c k br nq nl nf nk q n a i lo st v4 v5 v6 s0 M) (ho : i.1 = 41) (hQ : ∀ M', TSr A (gmt (gc W c) k) (loS W c i lo st) (stT W c (gmt (gc W c) k) i a lo st) M' → Q M') : w_Model_act_j100 0 Q (Int32.ofNat 41) (Int32.ofNat q) (Int32.ofNat a) v4 v5 v6 s0 M := by
  obtain ⟨hE, hR, hI, h20⟩ := h.m1
  obtain ⟨⟨h1, h2, -, -⟩, ⟨hle, h20', h80, hac, hgin⟩, hv4, hvn, hv5, hv6, hmk, hs0⟩ := h
  have hla := h1.la
  have hq := hI.2.1
  have e4 : ¬ isMk i := fun z => by have := z.1; omega
  have e1 : wlist W c (gmt (gc W c) k) i = [] := by simp [wlist, ho]
  have e2 : loS W c i lo st = lo := by unfold loS; rw [if_neg (by omega), if_neg (by omega), if_neg e4]
  have e3 : stT W c (gmt (gc W c) k) i a lo st = st.take (st.length - ([] : List Wt).length) ++ [(-10 - (a : Int), [])] := by unfold stT; rw [if_neg e4, e1, show pushS i a lo st = [(-10 - (a : Int), [])] by simp [pushS, ho]]
  rw [e2, e3] at hQ
  rw [e1] at hR h20 hle
  have hk : kwf A (co (gmt (gc W c) k)) (-10 - (a : Int), []) := Or.inr ⟨rfl, Or.inr ⟨a, rfl, hac, h80, by rw [hgin]; exact ho⟩⟩
  have ek : (-1 : Int32) - Int32.ofNat a = kt A (-10 - (a : Int), []) := by
    unfold kt
    have e : ∀ m : Int, -4 ≤ m → ¬ (-10 - (a : Int), ([] : Nm)).1 = m := fun m hm z => by
      have z : -10 - (a : Int) = m := z
      omega
    rw [if_neg (e 2 (by omega)), if_neg (e 0 (by omega)), if_neg (e 1 (by omega)), if_neg (e (-1) (by omega)), if_neg (e (-2) (by omega)), if_neg (e (-3) (by omega)), if_neg (e (-4) (by omega))]
    show _ = Int32.ofInt (-10 - (a : Int) + 9)
    rw [show -10 - (a : Int) + 9 = -1 - (a : Int) by omega, Int32.ofInt_sub]; rfl
  unfold w_Model_act_j100 w_Model_act_j364
  (repeat (first | refine itp (by decide) ?_ | refine itn (by decide) ?_))
  generalize sI M 11 0 72 (mI M 11 0 72 - mI M 11 0 79) = M1 at hE hR hI ⊢
  rw [ek]
  exact ct_lay (κ := (-10 - (a : Int), [])) hR (by omega) hk (fun _ r1 => hQ _ r1)
theorem t_ac42 {v4 v5 v6 s0 : Int32} (h : TAc G US A S W w c k br nq nl nf nk q n a i lo st v4 v5 v6 s0 M) (ho : i.1 = 42) (hQ : ∀ M', TSr A (gmt (gc W c) k) (loS W c i lo st) (stT W c (gmt (gc W c) k) i a lo st) M' → Q M') : w_Model_act_j100 0 Q (Int32.ofNat 42) (Int32.ofNat q) (Int32.ofNat a) v4 v5 v6 s0 M := by
  obtain ⟨hE, hR, hI, h20⟩ := h.m1
  obtain ⟨⟨h1, h2, -, -⟩, ⟨hle, h20', h80, hac, hgin⟩, hv4, hvn, hv5, hv6, hmk, hs0⟩ := h
  have hla := h1.la
  have hq := hI.2.1
  have e4 : ¬ isMk i := fun z => by have := z.1; omega
  have e1 : wlist W c (gmt (gc W c) k) i = [wNum] := by simp [wlist, ho]
  have e2 : loS W c i lo st = lo := by unfold loS; rw [if_neg (by omega), if_neg (by omega), if_neg e4]
  have e3 : stT W c (gmt (gc W c) k) i a lo st = st.take (st.length - ([wNum] : List Wt).length) ++ [(1, [])] := by unfold stT; rw [if_neg e4, e1, show pushS i a lo st = [(1, [])] by simp [pushS, ho]]
  rw [e2, e3] at hQ
  rw [e1] at hR h20 hle
  unfold w_Model_act_j100 w_Model_act_j364
  (repeat (first | refine itp (by decide) ?_ | refine itn (by decide) ?_))
  generalize sI M 11 0 72 (mI M 11 0 72 - mI M 11 0 79) = M1 at hE hR hI ⊢
  exact ct_lay (κ := (1, [])) hR (by omega) kwf1 (fun _ r1 => hQ _ r1)
theorem t_ac43 {v4 v5 v6 s0 : Int32} (h : TAc G US A S W w c k br nq nl nf nk q n a i lo st v4 v5 v6 s0 M) (ho : i.1 = 43) (hQ : ∀ M', TSr A (gmt (gc W c) k) (loS W c i lo st) (stT W c (gmt (gc W c) k) i a lo st) M' → Q M') : w_Model_act_j100 0 Q (Int32.ofNat 43) (Int32.ofNat q) (Int32.ofNat a) v4 v5 v6 s0 M := by
  obtain ⟨hE, hR, hI, h20⟩ := h.m1
  obtain ⟨⟨h1, h2, -, -⟩, ⟨hle, h20', h80, hac, hgin⟩, hv4, hvn, hv5, hv6, hmk, hs0⟩ := h
  have hla := h1.la
  have hq := hI.2.1
  have e4 : ¬ isMk i := fun z => by have := z.1; omega
  have e1 : wlist W c (gmt (gc W c) k) i = [wNum, wRow] := by simp [wlist, ho]
  have e2 : loS W c i lo st = lo := by unfold loS; rw [if_neg (by omega), if_neg (by omega), if_neg e4]
  have e3 : stT W c (gmt (gc W c) k) i a lo st = st.take (st.length - ([wNum, wRow] : List Wt).length) ++ [(0, [])] := by unfold stT; rw [if_neg e4, e1, show pushS i a lo st = [(0, [])] by simp [pushS, ho]]
  rw [e2, e3] at hQ
  rw [e1] at hR h20 hle
  unfold w_Model_act_j100 w_Model_act_j364
  (repeat (first | refine itp (by decide) ?_ | refine itn (by decide) ?_))
  generalize sI M 11 0 72 (mI M 11 0 72 - mI M 11 0 79) = M1 at hE hR hI ⊢
  exact ct_lay (κ := (0, [])) hR (by omega) kwf0 (fun _ r1 => hQ _ r1)
theorem t_ac44 {v4 v5 v6 s0 : Int32} (h : TAc G US A S W w c k br nq nl nf nk q n a i lo st v4 v5 v6 s0 M) (ho : i.1 = 44) (hQ : ∀ M', TSr A (gmt (gc W c) k) (loS W c i lo st) (stT W c (gmt (gc W c) k) i a lo st) M' → Q M') : w_Model_act_j100 0 Q (Int32.ofNat 44) (Int32.ofNat q) (Int32.ofNat a) v4 v5 v6 s0 M := by
  obtain ⟨hE, hR, hI, h20⟩ := h.m1
  obtain ⟨⟨h1, h2, -, -⟩, ⟨hle, h20', h80, hac, hgin⟩, hv4, hvn, hv5, hv6, hmk, hs0⟩ := h
  have hla := h1.la
  have hq := hI.2.1
  have e4 : ¬ isMk i := fun z => by have := z.1; omega
  have e1 : wlist W c (gmt (gc W c) k) i = [wNum, wNum, wRow] := by simp [wlist, ho]
  have e2 : loS W c i lo st = lo := by unfold loS; rw [if_neg (by omega), if_neg (by omega), if_neg e4]
  have e3 : stT W c (gmt (gc W c) k) i a lo st = st.take (st.length - ([wNum, wNum, wRow] : List Wt).length) ++ [] := by unfold stT; rw [if_neg e4, e1, show pushS i a lo st = [] by simp [pushS, ho]]
  rw [e2, e3] at hQ
  rw [e1] at hR h20 hle
  unfold w_Model_act_j100 w_Model_act_j364
  (repeat (first | refine itp (by decide) ?_ | refine itn (by decide) ?_))
  generalize sI M 11 0 72 (mI M 11 0 72 - mI M 11 0 79) = M1 at hE hR hI ⊢
  exact hQ _ (by rw [List.append_nil]; exact hR)
theorem t_ac45 {v4 v5 v6 s0 : Int32} (h : TAc G US A S W w c k br nq nl nf nk q n a i lo st v4 v5 v6 s0 M) (ho : i.1 = 45) (hQ : ∀ M', TSr A (gmt (gc W c) k) (loS W c i lo st) (stT W c (gmt (gc W c) k) i a lo st) M' → Q M') : w_Model_act_j100 0 Q (Int32.ofNat 45) (Int32.ofNat q) (Int32.ofNat a) v4 v5 v6 s0 M := by
  obtain ⟨hE, hR, hI, h20⟩ := h.m1
  obtain ⟨⟨h1, h2, -, -⟩, ⟨hle, h20', h80, hac, hgin⟩, hv4, hvn, hv5, hv6, hmk, hs0⟩ := h
  have hla := h1.la
  have hq := hI.2.1
  have e4 : ¬ isMk i := fun z => by have := z.1; omega
  have e1 : wlist W c (gmt (gc W c) k) i = [wRow] := by simp [wlist, ho]
  have e2 : loS W c i lo st = lo := by unfold loS; rw [if_neg (by omega), if_neg (by omega), if_neg e4]
  have e3 : stT W c (gmt (gc W c) k) i a lo st = st.take (st.length - ([wRow] : List Wt).length) ++ [(0, [])] := by unfold stT; rw [if_neg e4, e1, show pushS i a lo st = [(0, [])] by simp [pushS, ho]]
  rw [e2, e3] at hQ
  rw [e1] at hR h20 hle
  unfold w_Model_act_j100 w_Model_act_j364
  (repeat (first | refine itp (by decide) ?_ | refine itn (by decide) ?_))
  generalize sI M 11 0 72 (mI M 11 0 72 - mI M 11 0 79) = M1 at hE hR hI ⊢
  exact ct_lay (κ := (0, [])) hR (by omega) kwf0 (fun _ r1 => hQ _ r1)
theorem t_ac46 {v4 v5 v6 s0 : Int32} (h : TAc G US A S W w c k br nq nl nf nk q n a i lo st v4 v5 v6 s0 M) (ho : i.1 = 46) (hQ : ∀ M', TSr A (gmt (gc W c) k) (loS W c i lo st) (stT W c (gmt (gc W c) k) i a lo st) M' → Q M') : w_Model_act_j100 0 Q (Int32.ofNat 46) (Int32.ofNat q) (Int32.ofNat a) v4 v5 v6 s0 M := by
  obtain ⟨hE, hR, hI, h20⟩ := h.m1
  obtain ⟨⟨h1, h2, -, -⟩, ⟨hle, h20', h80, hac, hgin⟩, hv4, hvn, hv5, hv6, hmk, hs0⟩ := h
  have hla := h1.la
  have hq := hI.2.1
  have e4 : ¬ isMk i := fun z => by have := z.1; omega
  have e1 : wlist W c (gmt (gc W c) k) i = [(0, (2, iK i))] := by simp [wlist, ho]
  have e2 : loS W c i lo st = lo := by unfold loS; rw [if_neg (by omega), if_neg (by omega), if_neg e4]
  have e3 : stT W c (gmt (gc W c) k) i a lo st = st.take (st.length - ([(0, (2, iK i))] : List Wt).length) ++ [iR i] := by unfold stT; rw [if_neg e4, e1, show pushS i a lo st = [iR i] by simp [pushS, ho]]
  rw [e2, e3] at hQ
  rw [e1] at hR h20 hle
  obtain ⟨-, ⟨-, -, -, -, -, t6, -⟩, -⟩ := hI.1
  have hk : kwf A (co (gmt (gc W c) k)) (iR i) := kwf_kd (t6 (by omega)).2 (t6 (by omega)).1
  unfold w_Model_act_j100 w_Model_act_j364
  (repeat (first | refine itp (by decide) ?_ | refine itn (by decide) ?_))
  generalize sI M 11 0 72 (mI M 11 0 72 - mI M 11 0 79) = M1 at hE hR hI ⊢
  obtain ⟨-, -, r1', r2', r3'⟩ := rdA hE hI (by omega)
  rw [if_pos (by omega)] at r3'
  refine ⟨w, hE.r45, _, r1', (vp_oN (by omega)).mpr r2', ?_⟩
  rw [oN_tnc (k := q) (by omega), r3']
  exact ct_lay (κ := iR i) hR (by omega) hk (fun _ r1 => hQ _ r1)
theorem t_ac47 {v4 v5 v6 s0 : Int32} (h : TAc G US A S W w c k br nq nl nf nk q n a i lo st v4 v5 v6 s0 M) (ho : i.1 = 47) (hQ : ∀ M', TSr A (gmt (gc W c) k) (loS W c i lo st) (stT W c (gmt (gc W c) k) i a lo st) M' → Q M') : w_Model_act_j100 0 Q (Int32.ofNat 47) (Int32.ofNat q) (Int32.ofNat a) v4 v5 v6 s0 M := by
  obtain ⟨hE, hR, hI, h20⟩ := h.m1
  obtain ⟨⟨h1, h2, -, -⟩, ⟨hle, h20', h80, hac, hgin⟩, hv4, hvn, hv5, hv6, hmk, hs0⟩ := h
  have hla := h1.la
  have hq := hI.2.1
  have e4 : ¬ isMk i := fun z => by have := z.1; omega
  have e1 : wlist W c (gmt (gc W c) k) i = [(0, iR i), (0, (2, iK i))] := by simp [wlist, ho]
  have e2 : loS W c i lo st = lo := by unfold loS; rw [if_neg (by omega), if_neg (by omega), if_neg e4]
  have e3 : stT W c (gmt (gc W c) k) i a lo st = st.take (st.length - ([(0, iR i), (0, (2, iK i))] : List Wt).length) ++ [] := by unfold stT; rw [if_neg e4, e1, show pushS i a lo st = [] by simp [pushS, ho]]
  rw [e2, e3] at hQ
  rw [e1] at hR h20 hle
  unfold w_Model_act_j100 w_Model_act_j364
  (repeat (first | refine itp (by decide) ?_ | refine itn (by decide) ?_))
  generalize sI M 11 0 72 (mI M 11 0 72 - mI M 11 0 79) = M1 at hE hR hI ⊢
  exact hQ _ (by rw [List.append_nil]; exact hR)
theorem t_ac48 {v4 v5 v6 s0 : Int32} (h : TAc G US A S W w c k br nq nl nf nk q n a i lo st v4 v5 v6 s0 M) (ho : i.1 = 48) (hQ : ∀ M', TSr A (gmt (gc W c) k) (loS W c i lo st) (stT W c (gmt (gc W c) k) i a lo st) M' → Q M') : w_Model_act_j100 0 Q (Int32.ofNat 48) (Int32.ofNat q) (Int32.ofNat a) v4 v5 v6 s0 M := by
  obtain ⟨hE, hR, hI, h20⟩ := h.m1
  obtain ⟨⟨h1, h2, -, -⟩, ⟨hle, h20', h80, hac, hgin⟩, hv4, hvn, hv5, hv6, hmk, hs0⟩ := h
  have hla := h1.la
  have hq := hI.2.1
  have e4 : ¬ isMk i := fun z => by have := z.1; omega
  have e1 : wlist W c (gmt (gc W c) k) i = [] := by simp [wlist, ho]
  have e2 : loS W c i lo st = lo := by unfold loS; rw [if_neg (by omega), if_neg (by omega), if_neg e4]
  have e3 : stT W c (gmt (gc W c) k) i a lo st = st.take (st.length - ([] : List Wt).length) ++ [iR i] := by unfold stT; rw [if_neg e4, e1, show pushS i a lo st = [iR i] by simp [pushS, ho]]
  rw [e2, e3] at hQ
  rw [e1] at hR h20 hle
  obtain ⟨-, ⟨-, -, -, -, -, t6, -⟩, -⟩ := hI.1
  have hk : kwf A (co (gmt (gc W c) k)) (iR i) := kwf_kd (t6 (by omega)).2 (t6 (by omega)).1
  unfold w_Model_act_j100 w_Model_act_j364
  (repeat (first | refine itp (by decide) ?_ | refine itn (by decide) ?_))
  generalize sI M 11 0 72 (mI M 11 0 72 - mI M 11 0 79) = M1 at hE hR hI ⊢
  obtain ⟨-, -, r1', r2', r3'⟩ := rdA hE hI (by omega)
  rw [if_pos (by omega)] at r3'
  refine ⟨w, hE.r45, _, r1', (vp_oN (by omega)).mpr r2', ?_⟩
  rw [oN_tnc (k := q) (by omega), r3']
  exact ct_lay (κ := iR i) hR (by omega) hk (fun _ r1 => hQ _ r1)
theorem t_ac49 {v4 v5 v6 s0 : Int32} (h : TAc G US A S W w c k br nq nl nf nk q n a i lo st v4 v5 v6 s0 M) (ho : i.1 = 49) (hQ : ∀ M', TSr A (gmt (gc W c) k) (loS W c i lo st) (stT W c (gmt (gc W c) k) i a lo st) M' → Q M') : w_Model_act_j100 0 Q (Int32.ofNat 49) (Int32.ofNat q) (Int32.ofNat a) v4 v5 v6 s0 M := by
  obtain ⟨hE, hR, hI, h20⟩ := h.m1
  obtain ⟨⟨h1, h2, -, -⟩, ⟨hle, h20', h80, hac, hgin⟩, hv4, hvn, hv5, hv6, hmk, hs0⟩ := h
  have hla := h1.la
  have hq := hI.2.1
  have e4 : ¬ isMk i := fun z => by have := z.1; omega
  have e1 : wlist W c (gmt (gc W c) k) i = [(0, iR i)] := by simp [wlist, ho]
  have e2 : loS W c i lo st = lo := by unfold loS; rw [if_neg (by omega), if_neg (by omega), if_neg e4]
  have e3 : stT W c (gmt (gc W c) k) i a lo st = st.take (st.length - ([(0, iR i)] : List Wt).length) ++ [] := by unfold stT; rw [if_neg e4, e1, show pushS i a lo st = [] by simp [pushS, ho]]
  rw [e2, e3] at hQ
  rw [e1] at hR h20 hle
  unfold w_Model_act_j100 w_Model_act_j364
  (repeat (first | refine itp (by decide) ?_ | refine itn (by decide) ?_))
  generalize sI M 11 0 72 (mI M 11 0 72 - mI M 11 0 79) = M1 at hE hR hI ⊢
  exact hQ _ (by rw [List.append_nil]; exact hR)
theorem t_ac50 {v4 v5 v6 s0 : Int32} (h : TAc G US A S W w c k br nq nl nf nk q n a i lo st v4 v5 v6 s0 M) (ho : i.1 = 50) (hQ : ∀ M', TSr A (gmt (gc W c) k) (loS W c i lo st) (stT W c (gmt (gc W c) k) i a lo st) M' → Q M') : w_Model_act_j100 0 Q (Int32.ofNat 50) (Int32.ofNat q) (Int32.ofNat a) v4 v5 v6 s0 M := by
  obtain ⟨hE, hR, hI, h20⟩ := h.m1
  obtain ⟨⟨h1, h2, -, -⟩, ⟨hle, h20', h80, hac, hgin⟩, hv4, hvn, hv5, hv6, hmk, hs0⟩ := h
  have hla := h1.la
  have hq := hI.2.1
  have hmo : isMo i.1 := by omega
  have e4 : ¬ isMk i := fun z => by have := z.1; omega
  have e2 : loS W c i lo st = lo := by unfold loS; rw [if_neg (by omega), if_neg (by omega), if_neg e4]
  have e3 : stT W c (gmt (gc W c) k) i a lo st = st.take (st.length - (wlist W c (gmt (gc W c) k) i).length) ++ (if (iR i).1 = -4 then [] else [iR i]) := by unfold stT; rw [if_neg e4, pushS_call hmo]
  rw [e2, e3] at hQ
  rw [hs0 e4]
  unfold w_Model_act_j100 w_Model_act_j364
  (repeat (first | refine itp (by decide) ?_ | refine itn (by decide) ?_))
  generalize sI M 11 0 72 (mI M 11 0 72 - mI M 11 0 79) = M1 at hE hR hI ⊢
  exact ct_res hE hR (by omega) hI hmo hQ
theorem t_ac51 {v4 v5 v6 s0 : Int32} (h : TAc G US A S W w c k br nq nl nf nk q n a i lo st v4 v5 v6 s0 M) (ho : i.1 = 51) (hQ : ∀ M', TSr A (gmt (gc W c) k) (loS W c i lo st) (stT W c (gmt (gc W c) k) i a lo st) M' → Q M') : w_Model_act_j100 0 Q (Int32.ofNat 51) (Int32.ofNat q) (Int32.ofNat a) v4 v5 v6 s0 M := by
  obtain ⟨hE, hR, hI, h20⟩ := h.m1
  obtain ⟨⟨h1, h2, -, -⟩, ⟨hle, h20', h80, hac, hgin⟩, hv4, hvn, hv5, hv6, hmk, hs0⟩ := h
  have hla := h1.la
  have hq := hI.2.1
  have hmo : isMo i.1 := by omega
  obtain ⟨ev4, hkA⟩ := hvn (by omega)
  by_cases e4 : isMk i
  · have e2 : loS W c i lo st = lo.map (made W c i (tp st (iA i).length)) := by unfold loS; rw [if_neg (by omega), if_neg (by omega), if_pos e4]
    have e3 : stT W c (gmt (gc W c) k) i a lo st = (st.take (st.length - (wlist W c (gmt (gc W c) k) i).length)).map (made W c i (tp st (iA i).length)) ++ (if (iR i).1 = -4 then [] else [iR i]) := by unfold stT; rw [if_pos e4, pushS_call hmo]
    rw [e2, e3] at hQ
    obtain ⟨es, hum⟩ := hmk e4
    have lw : (iA i).length < (wlist W c (gmt (gc W c) k) i).length := by
      rw [wlist_call hmo, List.length_append, List.length_map, List.length_reverse]
      unfold callT
      rw [if_neg (by omega), if_pos ho]
      simp
    obtain ⟨x1, x2⟩ := h2.2.2.1 (st.length - 1 - (iA i).length) (by omega)
    have x2 : kwf A (co (gmt (gc W c) k)) (tp st (iA i).length) := x2
    rw [es]
    generalize tp st (iA i).length = κ0 at hQ hum x2
    unfold w_Model_act_j100
    (repeat (first | refine itp (by decide) ?_ | refine itn (by decide) ?_))
    generalize sI M 11 0 72 (mI M 11 0 72 - mI M 11 0 79) = M1 at hE hR hI ⊢
    refine itn (fun z => ?_) ?_
    · have := (kt_e (n := 0) (m := -4) x2 hla (by omega)).mp z
      omega
    unfold w_Model_act_j534
    by_cases c3 : κ0.1 = -3
    · refine itp ((kt_e (n := 5) x2 hla (by omega)).mpr c3) ⟨w, hE.r45, ?_⟩
      have hlc := hE.lc
      have hcn := hE.cl.1.2 c hlc.1
      rw [hE.c76, oN_tnc (k := c) (by omega), hE.cl.1.1.2.1, hcn.1]
      refine ⟨(vp_oN (by omega)).mpr (by omega), ct_changeT hE hR h20 hI hmo x2 (kwf_cls hcn.2) (κ1 := (2, (gc W c).1)) kt_cls.symm ?_⟩
      have ef : made W c i κ0 = (fun κ => if κ = κ0 then (2, (gc W c).1) else κ) := by funext κ; unfold made; rw [if_pos c3]
      rw [ef] at hQ; exact hQ
    · refine itn (fun z => c3 ((kt_e (n := 5) (m := -3) x2 hla (by omega)).mp z)) ?_
      rw [ev4]
      refine ct_changeT hE hR h20 hI hmo x2 (kwf_cls hkA) (κ1 := (2, iK i)) kt_cls.symm ?_
      have ef : made W c i κ0 = (fun κ => if κ = κ0 then (2, iK i) else κ) := by funext κ; unfold made; rw [if_neg c3]
      rw [ef] at hQ; exact hQ
  · have e2 : loS W c i lo st = lo := by unfold loS; rw [if_neg (by omega), if_neg (by omega), if_neg e4]
    have e3 : stT W c (gmt (gc W c) k) i a lo st = st.take (st.length - (wlist W c (gmt (gc W c) k) i).length) ++ (if (iR i).1 = -4 then [] else [iR i]) := by unfold stT; rw [if_neg e4, pushS_call hmo]
    rw [e2, e3] at hQ
    rw [hs0 e4]
    unfold w_Model_act_j100
    (repeat (first | refine itp (by decide) ?_ | refine itn (by decide) ?_))
    generalize sI M 11 0 72 (mI M 11 0 72 - mI M 11 0 79) = M1 at hE hR hI ⊢
    exact ct_res hE hR (by omega) hI hmo hQ
theorem t_ac52 {v4 v5 v6 s0 : Int32} (h : TAc G US A S W w c k br nq nl nf nk q n a i lo st v4 v5 v6 s0 M) (ho : i.1 = 52) (hQ : ∀ M', TSr A (gmt (gc W c) k) (loS W c i lo st) (stT W c (gmt (gc W c) k) i a lo st) M' → Q M') : w_Model_act_j100 0 Q (Int32.ofNat 52) (Int32.ofNat q) (Int32.ofNat a) v4 v5 v6 s0 M := by
  obtain ⟨hE, hR, hI, h20⟩ := h.m1
  obtain ⟨⟨h1, h2, -, -⟩, ⟨hle, h20', h80, hac, hgin⟩, hv4, hvn, hv5, hv6, hmk, hs0⟩ := h
  have hla := h1.la
  have hq := hI.2.1
  have hmo : isMo i.1 := by omega
  have e4 : ¬ isMk i := fun z => by have := z.1; omega
  have e2 : loS W c i lo st = lo := by unfold loS; rw [if_neg (by omega), if_neg (by omega), if_neg e4]
  have e3 : stT W c (gmt (gc W c) k) i a lo st = st.take (st.length - (wlist W c (gmt (gc W c) k) i).length) ++ (if (iR i).1 = -4 then [] else [iR i]) := by unfold stT; rw [if_neg e4, pushS_call hmo]
  rw [e2, e3] at hQ
  rw [hs0 e4]
  unfold w_Model_act_j100 w_Model_act_j364
  (repeat (first | refine itp (by decide) ?_ | refine itn (by decide) ?_))
  generalize sI M 11 0 72 (mI M 11 0 72 - mI M 11 0 79) = M1 at hE hR hI ⊢
  exact ct_res hE hR (by omega) hI hmo hQ
theorem t_ac53 {v4 v5 v6 s0 : Int32} (h : TAc G US A S W w c k br nq nl nf nk q n a i lo st v4 v5 v6 s0 M) (ho : i.1 = 53) (hQ : ∀ M', TSr A (gmt (gc W c) k) (loS W c i lo st) (stT W c (gmt (gc W c) k) i a lo st) M' → Q M') : w_Model_act_j100 0 Q (Int32.ofNat 53) (Int32.ofNat q) (Int32.ofNat a) v4 v5 v6 s0 M := by
  obtain ⟨hE, hR, hI, h20⟩ := h.m1
  obtain ⟨⟨h1, h2, -, -⟩, ⟨hle, h20', h80, hac, hgin⟩, hv4, hvn, hv5, hv6, hmk, hs0⟩ := h
  have hla := h1.la
  have hq := hI.2.1
  have hmo : isMo i.1 := by omega
  have e4 : ¬ isMk i := fun z => by have := z.1; omega
  have e2 : loS W c i lo st = lo := by unfold loS; rw [if_neg (by omega), if_neg (by omega), if_neg e4]
  have e3 : stT W c (gmt (gc W c) k) i a lo st = st.take (st.length - (wlist W c (gmt (gc W c) k) i).length) ++ (if (iR i).1 = -4 then [] else [iR i]) := by unfold stT; rw [if_neg e4, pushS_call hmo]
  rw [e2, e3] at hQ
  rw [hs0 e4]
  unfold w_Model_act_j100 w_Model_act_j364
  (repeat (first | refine itp (by decide) ?_ | refine itn (by decide) ?_))
  generalize sI M 11 0 72 (mI M 11 0 72 - mI M 11 0 79) = M1 at hE hR hI ⊢
  exact ct_res hE hR (by omega) hI hmo hQ
theorem t_ac54 {v4 v5 v6 s0 : Int32} (h : TAc G US A S W w c k br nq nl nf nk q n a i lo st v4 v5 v6 s0 M) (ho : i.1 = 54) (hQ : ∀ M', TSr A (gmt (gc W c) k) (loS W c i lo st) (stT W c (gmt (gc W c) k) i a lo st) M' → Q M') : w_Model_act_j100 0 Q (Int32.ofNat 54) (Int32.ofNat q) (Int32.ofNat a) v4 v5 v6 s0 M := by
  obtain ⟨hE, hR, hI, h20⟩ := h.m1
  obtain ⟨⟨h1, h2, -, -⟩, ⟨hle, h20', h80, hac, hgin⟩, hv4, hvn, hv5, hv6, hmk, hs0⟩ := h
  have hla := h1.la
  have hq := hI.2.1
  have e4 : ¬ isMk i := fun z => by have := z.1; omega
  have e1 : wlist W c (gmt (gc W c) k) i = [wRef] := by simp [wlist, ho]
  have e2 : loS W c i lo st = lo := by unfold loS; rw [if_neg (by omega), if_neg (by omega), if_neg e4]
  have e3 : stT W c (gmt (gc W c) k) i a lo st = st.take (st.length - ([wRef] : List Wt).length) ++ [(2, iK i)] := by unfold stT; rw [if_neg e4, e1, show pushS i a lo st = [(2, iK i)] by simp [pushS, ho]]
  rw [e2, e3] at hQ
  rw [e1] at hR h20 hle
  obtain ⟨ev, hm⟩ := hvn (by omega)
  rw [ev]
  unfold w_Model_act_j100 w_Model_act_j364
  (repeat (first | refine itp (by decide) ?_ | refine itn (by decide) ?_))
  generalize sI M 11 0 72 (mI M 11 0 72 - mI M 11 0 79) = M1 at hE hR hI ⊢
  rw [← kt_cls]
  exact ct_lay (κ := (2, iK i)) hR (by omega) (kwf_cls hm) (fun _ r1 => hQ _ r1)
theorem t_ac55 {v4 v5 v6 s0 : Int32} (h : TAc G US A S W w c k br nq nl nf nk q n a i lo st v4 v5 v6 s0 M) (ho : i.1 = 55) (hQ : ∀ M', TSr A (gmt (gc W c) k) (loS W c i lo st) (stT W c (gmt (gc W c) k) i a lo st) M' → Q M') : w_Model_act_j100 0 Q (Int32.ofNat 55) (Int32.ofNat q) (Int32.ofNat a) v4 v5 v6 s0 M := by
  obtain ⟨hE, hR, hI, h20⟩ := h.m1
  obtain ⟨⟨h1, h2, -, -⟩, ⟨hle, h20', h80, hac, hgin⟩, hv4, hvn, hv5, hv6, hmk, hs0⟩ := h
  have hla := h1.la
  have hq := hI.2.1
  have e4 : ¬ isMk i := fun z => by have := z.1; omega
  have e1 : wlist W c (gmt (gc W c) k) i = [wRef] := by simp [wlist, ho]
  have e2 : loS W c i lo st = lo := by unfold loS; rw [if_neg (by omega), if_neg (by omega), if_neg e4]
  have e3 : stT W c (gmt (gc W c) k) i a lo st = st.take (st.length - ([wRef] : List Wt).length) ++ [(0, [])] := by unfold stT; rw [if_neg e4, e1, show pushS i a lo st = [(0, [])] by simp [pushS, ho]]
  rw [e2, e3] at hQ
  rw [e1] at hR h20 hle
  unfold w_Model_act_j100 w_Model_act_j364
  (repeat (first | refine itp (by decide) ?_ | refine itn (by decide) ?_))
  generalize sI M 11 0 72 (mI M 11 0 72 - mI M 11 0 79) = M1 at hE hR hI ⊢
  exact ct_lay (κ := (0, [])) hR (by omega) kwf0 (fun _ r1 => hQ _ r1)
theorem t_ac56 {v4 v5 v6 s0 : Int32} (h : TAc G US A S W w c k br nq nl nf nk q n a i lo st v4 v5 v6 s0 M) (ho : i.1 = 56) (hQ : ∀ M', TSr A (gmt (gc W c) k) (loS W c i lo st) (stT W c (gmt (gc W c) k) i a lo st) M' → Q M') : w_Model_act_j100 0 Q (Int32.ofNat 56) (Int32.ofNat q) (Int32.ofNat a) v4 v5 v6 s0 M := by
  obtain ⟨hE, hR, hI, h20⟩ := h.m1
  obtain ⟨⟨h1, h2, -, -⟩, ⟨hle, h20', h80, hac, hgin⟩, hv4, hvn, hv5, hv6, hmk, hs0⟩ := h
  have hla := h1.la
  have hq := hI.2.1
  have e4 : ¬ isMk i := fun z => by have := z.1; omega
  have e1 : wlist W c (gmt (gc W c) k) i = [(0, (2, nFault))] := by simp [wlist, ho]
  have e2 : loS W c i lo st = lo := by unfold loS; rw [if_neg (by omega), if_neg (by omega), if_neg e4]
  have e3 : stT W c (gmt (gc W c) k) i a lo st = st.take (st.length - ([(0, (2, nFault))] : List Wt).length) ++ [] := by unfold stT; rw [if_neg e4, e1, show pushS i a lo st = [] by simp [pushS, ho]]
  rw [e2, e3] at hQ
  rw [e1] at hR h20 hle
  unfold w_Model_act_j100 w_Model_act_j364
  (repeat (first | refine itp (by decide) ?_ | refine itn (by decide) ?_))
  generalize sI M 11 0 72 (mI M 11 0 72 - mI M 11 0 79) = M1 at hE hR hI ⊢
  exact hQ _ (by rw [List.append_nil]; exact hR)
theorem t_ac57 {v4 v5 v6 s0 : Int32} (h : TAc G US A S W w c k br nq nl nf nk q n a i lo st v4 v5 v6 s0 M) (ho : i.1 = 57) (hQ : ∀ M', TSr A (gmt (gc W c) k) (loS W c i lo st) (stT W c (gmt (gc W c) k) i a lo st) M' → Q M') : w_Model_act_j100 0 Q (Int32.ofNat 57) (Int32.ofNat q) (Int32.ofNat a) v4 v5 v6 s0 M := by
  obtain ⟨hE, hR, hI, h20⟩ := h.m1
  obtain ⟨⟨h1, h2, -, -⟩, ⟨hle, h20', h80, hac, hgin⟩, hv4, hvn, hv5, hv6, hmk, hs0⟩ := h
  have hla := h1.la
  have hq := hI.2.1
  have e4 : ¬ isMk i := fun z => by have := z.1; omega
  have e1 : wlist W c (gmt (gc W c) k) i = [] := by simp [wlist, ho]
  have e2 : loS W c i lo st = lo := by unfold loS; rw [if_neg (by omega), if_neg (by omega), if_neg e4]
  have e3 : stT W c (gmt (gc W c) k) i a lo st = st.take (st.length - ([] : List Wt).length) ++ [] := by unfold stT; rw [if_neg e4, e1, show pushS i a lo st = [] by simp [pushS, ho]]
  rw [e2, e3] at hQ
  rw [e1] at hR h20 hle
  unfold w_Model_act_j100 w_Model_act_j364
  (repeat (first | refine itp (by decide) ?_ | refine itn (by decide) ?_))
  generalize sI M 11 0 72 (mI M 11 0 72 - mI M 11 0 79) = M1 at hE hR hI ⊢
  exact hQ _ (by rw [List.append_nil]; exact hR)
theorem t_ac58 {v4 v5 v6 s0 : Int32} (h : TAc G US A S W w c k br nq nl nf nk q n a i lo st v4 v5 v6 s0 M) (ho : i.1 = 58) (hQ : ∀ M', TSr A (gmt (gc W c) k) (loS W c i lo st) (stT W c (gmt (gc W c) k) i a lo st) M' → Q M') : w_Model_act_j100 0 Q (Int32.ofNat 58) (Int32.ofNat q) (Int32.ofNat a) v4 v5 v6 s0 M := by
  obtain ⟨hE, hR, hI, h20⟩ := h.m1
  obtain ⟨⟨h1, h2, -, -⟩, ⟨hle, h20', h80, hac, hgin⟩, hv4, hvn, hv5, hv6, hmk, hs0⟩ := h
  have hla := h1.la
  have hq := hI.2.1
  have e4 : ¬ isMk i := fun z => by have := z.1; omega
  have e1 : wlist W c (gmt (gc W c) k) i = [wNum] := by simp [wlist, ho]
  have e2 : loS W c i lo st = lo := by unfold loS; rw [if_neg (by omega), if_neg (by omega), if_neg e4]
  have e3 : stT W c (gmt (gc W c) k) i a lo st = st.take (st.length - ([wNum] : List Wt).length) ++ [] := by unfold stT; rw [if_neg e4, e1, show pushS i a lo st = [] by simp [pushS, ho]]
  rw [e2, e3] at hQ
  rw [e1] at hR h20 hle
  unfold w_Model_act_j100 w_Model_act_j364
  (repeat (first | refine itp (by decide) ?_ | refine itn (by decide) ?_))
  generalize sI M 11 0 72 (mI M 11 0 72 - mI M 11 0 79) = M1 at hE hR hI ⊢
  exact hQ _ (by rw [List.append_nil]; exact hR)
theorem t_ac59 {v4 v5 v6 s0 : Int32} (h : TAc G US A S W w c k br nq nl nf nk q n a i lo st v4 v5 v6 s0 M) (ho : i.1 = 59) (hQ : ∀ M', TSr A (gmt (gc W c) k) (loS W c i lo st) (stT W c (gmt (gc W c) k) i a lo st) M' → Q M') : w_Model_act_j100 0 Q (Int32.ofNat 59) (Int32.ofNat q) (Int32.ofNat a) v4 v5 v6 s0 M := by
  obtain ⟨hE, hR, hI, h20⟩ := h.m1
  obtain ⟨⟨h1, h2, -, -⟩, ⟨hle, h20', h80, hac, hgin⟩, hv4, hvn, hv5, hv6, hmk, hs0⟩ := h
  have hla := h1.la
  have hq := hI.2.1
  have e4 : ¬ isMk i := fun z => by have := z.1; omega
  have e1 : wlist W c (gmt (gc W c) k) i = [if (gmt (gc W c) k).2.2.1.1 = 1 ∨ (gmt (gc W c) k).2.2.1.1 = 2 then (0, (gmt (gc W c) k).2.2.1) else wRef] := by simp [wlist, ho]
  have e2 : loS W c i lo st = lo := by unfold loS; rw [if_neg (by omega), if_neg (by omega), if_neg e4]
  have e3 : stT W c (gmt (gc W c) k) i a lo st = st.take (st.length - ([if (gmt (gc W c) k).2.2.1.1 = 1 ∨ (gmt (gc W c) k).2.2.1.1 = 2 then (0, (gmt (gc W c) k).2.2.1) else wRef] : List Wt).length) ++ [] := by unfold stT; rw [if_neg e4, e1, show pushS i a lo st = [] by simp [pushS, ho]]
  rw [e2, e3] at hQ
  rw [e1] at hR h20 hle
  unfold w_Model_act_j100 w_Model_act_j364
  (repeat (first | refine itp (by decide) ?_ | refine itn (by decide) ?_))
  generalize sI M 11 0 72 (mI M 11 0 72 - mI M 11 0 79) = M1 at hE hR hI ⊢
  exact hQ _ (by rw [List.append_nil]; exact hR)
theorem t_ac60 {v4 v5 v6 s0 : Int32} (h : TAc G US A S W w c k br nq nl nf nk q n a i lo st v4 v5 v6 s0 M) (ho : i.1 = 60) (hQ : ∀ M', TSr A (gmt (gc W c) k) (loS W c i lo st) (stT W c (gmt (gc W c) k) i a lo st) M' → Q M') : w_Model_act_j100 0 Q (Int32.ofNat 60) (Int32.ofNat q) (Int32.ofNat a) v4 v5 v6 s0 M := by
  obtain ⟨hE, hR, hI, h20⟩ := h.m1
  obtain ⟨⟨h1, h2, -, -⟩, ⟨hle, h20', h80, hac, hgin⟩, hv4, hvn, hv5, hv6, hmk, hs0⟩ := h
  have hla := h1.la
  have hq := hI.2.1
  have e4 : ¬ isMk i := fun z => by have := z.1; omega
  have e1 : wlist W c (gmt (gc W c) k) i = [wRef] := by simp [wlist, ho]
  have e2 : loS W c i lo st = lo := by unfold loS; rw [if_neg (by omega), if_neg (by omega), if_neg e4]
  have e3 : stT W c (gmt (gc W c) k) i a lo st = st.take (st.length - ([wRef] : List Wt).length) ++ [] := by unfold stT; rw [if_neg e4, e1, show pushS i a lo st = [] by simp [pushS, ho]]
  rw [e2, e3] at hQ
  rw [e1] at hR h20 hle
  unfold w_Model_act_j100 w_Model_act_j364
  (repeat (first | refine itp (by decide) ?_ | refine itn (by decide) ?_))
  generalize sI M 11 0 72 (mI M 11 0 72 - mI M 11 0 79) = M1 at hE hR hI ⊢
  exact hQ _ (by rw [List.append_nil]; exact hR)
theorem t_ac61 {v4 v5 v6 s0 : Int32} (h : TAc G US A S W w c k br nq nl nf nk q n a i lo st v4 v5 v6 s0 M) (ho : i.1 = 61) (hQ : ∀ M', TSr A (gmt (gc W c) k) (loS W c i lo st) (stT W c (gmt (gc W c) k) i a lo st) M' → Q M') : w_Model_act_j100 0 Q (Int32.ofNat 61) (Int32.ofNat q) (Int32.ofNat a) v4 v5 v6 s0 M := by
  obtain ⟨hE, hR, hI, h20⟩ := h.m1
  obtain ⟨⟨h1, h2, -, -⟩, ⟨hle, h20', h80, hac, hgin⟩, hv4, hvn, hv5, hv6, hmk, hs0⟩ := h
  have hla := h1.la
  have hq := hI.2.1
  have e4 : ¬ isMk i := fun z => by have := z.1; omega
  have e1 : wlist W c (gmt (gc W c) k) i = [wRef] := by simp [wlist, ho]
  have e2 : loS W c i lo st = lo := by unfold loS; rw [if_neg (by omega), if_neg (by omega), if_neg e4]
  have e3 : stT W c (gmt (gc W c) k) i a lo st = st.take (st.length - ([wRef] : List Wt).length) ++ [] := by unfold stT; rw [if_neg e4, e1, show pushS i a lo st = [] by simp [pushS, ho]]
  rw [e2, e3] at hQ
  rw [e1] at hR h20 hle
  unfold w_Model_act_j100 w_Model_act_j364
  (repeat (first | refine itp (by decide) ?_ | refine itn (by decide) ?_))
  generalize sI M 11 0 72 (mI M 11 0 72 - mI M 11 0 79) = M1 at hE hR hI ⊢
  exact hQ _ (by rw [List.append_nil]; exact hR)
theorem ct_act100 {v4 v5 v6 s0 : Int32} (h : TAc G US A S W w c k br nq nl nf nk q n a i lo st v4 v5 v6 s0 M) (hQ : ∀ M', TSr A (gmt (gc W c) k) (loS W c i lo st) (stT W c (gmt (gc W c) k) i a lo st) M' → Q M') : w_Model_act_j100 0 Q (Int32.ofNat i.1) (Int32.ofNat q) (Int32.ofNat a) v4 v5 v6 s0 M := by
  have o62 := h.1.2.2.1.2.2.1
  obtain ⟨o, ho⟩ : ∃ o, i.1 = o := ⟨_, rfl⟩
  rw [ho]
  match o, ho with
  | 0, ho => exact t_ac0 h ho hQ
  | 1, ho => exact t_ac1 h ho hQ
  | 2, ho => exact t_ac2 h ho hQ
  | 3, ho => exact t_ac3 h ho hQ
  | 4, ho => exact t_ac4 h ho hQ
  | 5, ho => exact t_ac5 h ho hQ
  | 6, ho => exact t_ac6 h ho hQ
  | 7, ho => exact t_ac7 h ho hQ
  | 8, ho => exact t_ac8 h ho hQ
  | 9, ho => exact t_ac9 h ho hQ
  | 10, ho => exact t_ac10 h ho hQ
  | 11, ho => exact t_ac11 h ho hQ
  | 12, ho => exact t_ac12 h ho hQ
  | 13, ho => exact t_ac13 h ho hQ
  | 14, ho => exact t_ac14 h ho hQ
  | 15, ho => exact t_ac15 h ho hQ
  | 16, ho => exact t_ac16 h ho hQ
  | 17, ho => exact t_ac17 h ho hQ
  | 18, ho => exact t_ac18 h ho hQ
  | 19, ho => exact t_ac19 h ho hQ
  | 20, ho => exact t_ac20 h ho hQ
  | 21, ho => exact t_ac21 h ho hQ
  | 22, ho => exact t_ac22 h ho hQ
  | 23, ho => exact t_ac23 h ho hQ
  | 24, ho => exact t_ac24 h ho hQ
  | 25, ho => exact t_ac25 h ho hQ
  | 26, ho => exact t_ac26 h ho hQ
  | 27, ho => exact t_ac27 h ho hQ
  | 28, ho => exact t_ac28 h ho hQ
  | 29, ho => exact t_ac29 h ho hQ
  | 30, ho => exact t_ac30 h ho hQ
  | 31, ho => exact t_ac31 h ho hQ
  | 32, ho => exact t_ac32 h ho hQ
  | 33, ho => exact t_ac33 h ho hQ
  | 34, ho => exact t_ac34 h ho hQ
  | 35, ho => exact t_ac35 h ho hQ
  | 36, ho => exact t_ac36 h ho hQ
  | 37, ho => exact t_ac37 h ho hQ
  | 38, ho => exact t_ac38 h ho hQ
  | 39, ho => exact t_ac39 h ho hQ
  | 40, ho => exact t_ac40 h ho hQ
  | 41, ho => exact t_ac41 h ho hQ
  | 42, ho => exact t_ac42 h ho hQ
  | 43, ho => exact t_ac43 h ho hQ
  | 44, ho => exact t_ac44 h ho hQ
  | 45, ho => exact t_ac45 h ho hQ
  | 46, ho => exact t_ac46 h ho hQ
  | 47, ho => exact t_ac47 h ho hQ
  | 48, ho => exact t_ac48 h ho hQ
  | 49, ho => exact t_ac49 h ho hQ
  | 50, ho => exact t_ac50 h ho hQ
  | 51, ho => exact t_ac51 h ho hQ
  | 52, ho => exact t_ac52 h ho hQ
  | 53, ho => exact t_ac53 h ho hQ
  | 54, ho => exact t_ac54 h ho hQ
  | 55, ho => exact t_ac55 h ho hQ
  | 56, ho => exact t_ac56 h ho hQ
  | 57, ho => exact t_ac57 h ho hQ
  | 58, ho => exact t_ac58 h ho hQ
  | 59, ho => exact t_ac59 h ho hQ
  | 60, ho => exact t_ac60 h ho hQ
  | 61, ho => exact t_ac61 h ho hQ
  | o + 62, ho => omega
end
