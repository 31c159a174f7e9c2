/-! B: the works' checker: locals, the stack's order, fields, leaving -/
theorem takeS_any {W : List Cls} {st : List Kd} {ws : List Wt} (h : ∀ t ∈ ws, t.1 = 3) (hl : ws.length ≤ st.length) : takeS W st ws = 0 := by
  have h1 : ∀ (l : List Wt) k, (∀ t ∈ l, t.1 = 3) → wFst W st k l = 0 ∧ wUn W st k l = false := by
    intro l
    induction l with
    | nil => intro k _; exact ⟨rfl, rfl⟩
    | cons t l ih =>
      intro k ht
      have e : wOne W t (tp st k) = 0 := by unfold wOne; rw [if_pos (ht t List.mem_cons_self)]
      rw [wFst_cons, wUn_cons, e, if_pos (Or.inl rfl)]
      have := ih (k + 1) (fun t q => ht t (List.mem_cons_of_mem _ q))
      exact ⟨this.1, by rw [this.2]; rfl⟩
  rw [takeS_un hl (h1 ws 0 h).1, (h1 ws 0 h).2]; rfl
section
variable {A : List Nm} {W : List Cls} {w c k this : Nat} {br : Int32} {nq nk np nh nr a : Nat} {lo st : List Kd} {kn : Bool} {M M' : Mem} {Q : Int32 → Mem → Prop}
theorem KA.re {st' : List Kd} (h : KA A W w c k br nq nk np nh nr this a lo st kn M) (hf : Fr (4294967296) M M') (hl : st'.length = st.length) (hk : KL A (co (gmt (gc W c) k)) 32 st' this M') : KA A W w c k br nq nk np nh nr this a lo st' kn M' := by
  obtain ⟨h1, ⟨⟨s1, s2⟩, ⟨s3, s4⟩, ⟨s5, s6, s7⟩, s8, s9⟩, h3, h4, h5⟩ := h
  exact ⟨h1.fr hf, ⟨⟨(hf.L (f := 31) rfl this).trans s1, (hf.L (f := 32) rfl this).trans s2⟩, ⟨fun i hi => ⟨(hf.Ia (f := 31) rfl rfl this i).trans (s3 i hi).1, (s3 i hi).2⟩, s4⟩, ⟨hk, by rw [hl]; exact (hf.I (f := 4) (k := 2) rfl this).trans s6, by omega⟩, (hf.I (f := 4) (k := 3) rfl this).trans s8, (hf.I (f := 4) (k := 8) rfl this).trans s9⟩, (hf.I (f := 4) (k := 10) rfl this).trans h3, (hf.I (f := 4) (k := 7) rfl this).trans h4, h5⟩
theorem KA.reL {lo' : List Kd} (h : KA A W w c k br nq nk np nh nr this a lo st kn M) (hf : Fr (2147483648) M M') (hl : lo'.length = lo.length) (hk : KL A (co (gmt (gc W c) k)) 31 lo' this M') : KA A W w c k br nq nk np nh nr this a lo' st kn M' := by
  obtain ⟨h1, ⟨⟨s1, s2⟩, ⟨s3, s4⟩, ⟨s5, s6, s7⟩, s8, s9⟩, h3, h4, h5⟩ := h
  exact ⟨h1.fr hf, ⟨⟨(hf.L (f := 31) rfl this).trans s1, (hf.L (f := 32) rfl this).trans s2⟩, ⟨hk, by omega⟩, ⟨fun i hi => ⟨(hf.Ia (f := 32) rfl rfl this i).trans (s5 i hi).1, (s5 i hi).2⟩, (hf.I (f := 4) (k := 2) rfl this).trans s6, by omega⟩, (hf.I (f := 4) (k := 3) rfl this).trans s8, (hf.I (f := 4) (k := 8) rfl this).trans s9⟩, (hf.I (f := 4) (k := 10) rfl this).trans h3, (hf.I (f := 4) (k := 7) rfl this).trans h4, h5⟩
theorem KA.lv (h : KA A W w c k br nq nk np nh nr this a lo st kn M) {j : Nat} (hj : j < lr (gmt (gc W c) k)) : mI M 31 this j = kC A (gk lo j) ∧ kwf A (co (gmt (gc W c) k)) (gk lo j) := h.2.1.2.1.1 j (by rw [h.2.1.2.1.2]; exact hj)
theorem c_classKind (h : KE A W w c k br nq nk np nh nr this M) (hQ : kwf A (co (gmt (gc W c) k)) (2, (gc W c).1) → Q (kC A (2, (gc W c).1)) M) : w_Checker_classKind this Q M := by
  unfold w_Checker_classKind w_Works_kindOf
  have hl := h.lc
  have hc := h.cl.1.2 c hl.1
  refine ⟨w, h.r, ?_⟩
  rw [h.c5, oN_tnc (by omega), h.cl.1.1.2.1, hc.1]
  refine ⟨(vp_oN (by omega)).mpr (by omega), ?_⟩
  rw [show nc A (gc W c).1 + 2 = kC A (2, (gc W c).1) from oN_add _ 2]
  exact hQ (kwf_cls hc.2)
theorem c_isThere {j : Nat} (h : KA A W w c k br nq nk np nh nr this a lo st kn M) (hj : j < 1000) (hX : lr (gmt (gc W c) k) ≤ j → ∀ M', KZ A W w c k br nq nk np nh nr this a 33 M' → Q 0 M') (hQ : j < lr (gmt (gc W c) k) → Q 1 M) : w_Checker_isThere this (Int32.ofNat j) Q M := by
  unfold w_Checker_isThere
  have hm := h.1.mlt
  have hl := h.1.lr
  refine ⟨w, h.1.r, ?_⟩
  rw [h.1.m6, oN_tnc (k := moff W c + k) (by omega), hl.1, h.1.ml (by omega) (by omega)]
  refine ⟨(vp_oN (by omega)).mpr hm, ?_⟩
  by_cases e : j < lr (gmt (gc W c) k)
  · exact itp (lt_oN e (by omega)) (hQ e)
  · exact itn (nlt_oN (by omega) (by omega)) (h.brk (r := 33) (fun M' q => itp rfl (hX (by omega) M' q)))
theorem c_store {j : Nat} (h : KA A W w c k br nq nk np nh nr this a lo st kn M) (hj : j < lr (gmt (gc W c) k)) (hs1 : 1 ≤ st.length) (hX : handS W (gmt (gc W c) k) (lo.set j (tp st 0)) a (hs (gmt (gc W c) k)) ≠ 0 → ∀ M', KZ A W w c k br nq nk np nh nr this a (handS W (gmt (gc W c) k) (lo.set j (tp st 0)) a (hs (gmt (gc W c) k))) M' → Q 0 M') (hQ : handS W (gmt (gc W c) k) (lo.set j (tp st 0)) a (hs (gmt (gc W c) k)) = 0 → ∀ M', KA A W w c k br nq nk np nh nr this a (lo.set j (tp st 0)) (st.take (st.length - 1)) kn M' → Q 1 M') : w_Checker_store this (Int32.ofNat j) Q M := by
  unfold w_Checker_store
  have hh := h.ht
  have hlr := h.1.lr.2
  obtain ⟨g1, g2⟩ := h.sv (d := 0) hs1
  have hp := h.pop hs1
  have e2 : mI (sI M 4 this 2 (mI M 4 this 2 - 1)) 4 this 2 = Int32.ofNat (st.length - 1) := by
    simp only [mI_sI, mI_sR, mI_sJ, mR_sI, mL_sI, mL_sR, mR_sR, Nat.reduceEqDiff, and_false, false_and, if_false, and_self, true_and, and_true, if_true]
    rw [hh.1]; exact oN_sub (b := 1) hs1
  have e3 : mI (sI M 4 this 2 (mI M 4 this 2 - 1)) 32 this (st.length - 1) = kC A (tp st 0) := by
    simp only [mI_sI, mI_sR, mI_sJ, mR_sI, mL_sI, mL_sR, mR_sR, Nat.reduceEqDiff, and_false, false_and, if_false, and_self, true_and, and_true, if_true]; exact g1
  rw [show (Int32.ofNat 1) = (1 : Int32) from rfl] at hp
  generalize hM1 : sI M 4 this 2 (mI M 4 this 2 - 1) = M1 at e2 e3 hp ⊢
  rw [e2, oN_tnc (k := j) (by omega), oN_tnc (k := st.length - 1) (by omega), e3]
  refine ⟨by rw [hp.2.1.1.2]; exact (vp_oN (by omega)).mpr (by omega), by rw [hp.2.1.1.1]; exact (vp_oN (by omega)).mpr (by omega), _, rfl, ?_⟩
  have hll : lo.length = lr (gmt (gc W c) k) := h.2.1.2.1.2
  have hA2 : KA A W w c k br nq nk np nh nr this a (lo.set j (tp st 0)) (st.take (st.length - 1)) kn (sI M1 31 this j (kC A (tp st 0))) := by
    refine hp.reL (Fr.wIa rfl rfl (Fr.rf _ _)) (by rw [List.length_set]) (fun i hi => ?_)
    rw [List.length_set] at hi
    rw [gk_set (by omega)]
    by_cases e : i = j
    · rw [if_pos e, e]
      exact ⟨by simp only [mI_sI, mI_sR, mI_sJ, mR_sI, mL_sI, mL_sR, mR_sR, Nat.reduceEqDiff, and_false, false_and, if_false, and_self, true_and, and_true, if_true], g2⟩
    · rw [if_neg e, mI_sI, if_neg (fun q => e q.2.2)]
      exact hp.2.1.2.1.1 i hi
  exact c_handlers hA2.1 hA2.2.1.1.1 hA2.2.1.2.1.1 hA2.2.1.2.1.2 hA2.2.2.1 hA2.2.2.2.1 (by have := hA2.2.2.2.2; have := h.1.wf.2.2.1.1; omega) hA2.n8 (fun z => ⟨Or.inr rfl, hQ z _ hA2⟩) (fun z => ⟨Or.inl rfl, hX z _ hA2.z⟩)
theorem gk_take2 {l : List Kd} {n : Nat} {κ1 κ2 : Kd} {i : Nat} (hn : n ≤ l.length) : gk (l.take n ++ [κ1, κ2]) i = if i < n then gk l i else if i = n then κ1 else if i = n + 1 then κ2 else (0, []) := by
  have hl : (l.take n).length = n := by rw [List.length_take]; omega
  rw [gk_ap, hl]
  by_cases c1 : i < n
  · rw [if_pos c1, if_pos c1, gk_take c1]
  · rw [if_neg c1, if_neg c1]
    by_cases c2 : i = n
    · rw [if_pos c2, c2, Nat.sub_self]; rfl
    · rw [if_neg c2]
      by_cases c3 : i = n + 1
      · rw [if_pos c3, c3, show n + 1 - n = 1 by omega]; rfl
      · rw [if_neg c3]
        show [κ1, κ2].getD (i - n) _ = _
        rw [List.getD_eq_getElem?_getD, List.getElem?_eq_none (by simp; omega)]; rfl
theorem gk_take3 {l : List Kd} {n : Nat} {κ1 κ2 κ3 : Kd} {i : Nat} (hn : n ≤ l.length) (hi : i < n + 3) : gk (l.take n ++ [κ1, κ2, κ3]) i = if i < n then gk l i else if i = n then κ1 else if i = n + 1 then κ2 else κ3 := by
  have hl : (l.take n).length = n := by rw [List.length_take]; omega
  rw [gk_ap, hl]
  by_cases c1 : i < n
  · rw [if_pos c1, if_pos c1, gk_take c1]
  · rw [if_neg c1, if_neg c1]
    by_cases c2 : i = n
    · rw [if_pos c2, c2, Nat.sub_self]; rfl
    · rw [if_neg c2]
      by_cases c3 : i = n + 1
      · rw [if_pos c3, c3, show n + 1 - n = 1 by omega]; rfl
      · rw [if_neg c3, show i - n = 2 by omega]; rfl
theorem c_swap (h : KA A W w c k br nq nk np nh nr this a lo st kn M) (h2 : 2 ≤ st.length) (hQ : ∀ M', KA A W w c k br nq nk np nh nr this a lo (st.take (st.length - 2) ++ [tp st 0, tp st 1]) kn M' → Q 1 M') : w_Checker_swap this Q M := by
  unfold w_Checker_swap
  have hh := h.ht
  obtain ⟨g1, g2⟩ := h.sv (d := 0) (by omega)
  obtain ⟨p1, p2⟩ := h.sv (d := 1) (by omega)
  rw [show st.length - 1 - 0 = st.length - 1 by omega] at g1
  rw [show st.length - 1 - 1 = st.length - 2 by omega] at p1
  have e1 : mI M 4 this 2 - 1 = Int32.ofNat (st.length - 1) := by rw [hh.1]; exact oN_sub (b := 1) (by omega)
  have e2 : mI M 4 this 2 - 2 = Int32.ofNat (st.length - 2) := by rw [hh.1]; exact oN_sub (b := 2) (by omega)
  rw [e1, e2, oN_tnc (by omega), oN_tnc (by omega), g1, p1, h.2.1.1.2]
  refine ⟨(vp_oN (by omega)).mpr (by omega), (vp_oN (by omega)).mpr (by omega), (vp_oN (by omega)).mpr (by omega), _, rfl, ?_⟩
  have e3 : mI (sI M 32 this (st.length - 1) (kC A (tp st 1))) 4 this 2 - 2 = Int32.ofNat (st.length - 2) := by
    simp only [mI_sI, mI_sR, mI_sJ, mR_sI, mL_sI, mL_sR, mR_sR, Nat.reduceEqDiff, and_false, false_and, if_false, and_self, true_and, and_true, if_true]; exact e2
  rw [e3, oN_tnc (by omega)]
  refine ⟨by show vp_in _ (mL M 32 this); rw [h.2.1.1.2]; exact (vp_oN (by omega)).mpr (by omega), _, rfl, hQ _ (h.re (Fr.wIa rfl rfl (Fr.wIa rfl rfl (Fr.rf _ _))) (by rw [len_take h2]; simp; omega) (fun i hi => ?_))⟩
  rw [len_take h2] at hi
  simp only [List.length_cons, List.length_nil] at hi
  rw [gk_take2 (by omega)]
  by_cases c1 : i < st.length - 2
  · rw [if_pos c1, mI_sI, if_neg (by omega), mI_sI, if_neg (by omega)]
    exact h.2.1.2.2.1.1 i (by omega)
  rw [if_neg c1]
  by_cases c2 : i = st.length - 2
  · rw [if_pos c2, c2]
    exact ⟨by simp only [mI_sI, mI_sR, mI_sJ, mR_sI, mL_sI, mL_sR, mR_sR, Nat.reduceEqDiff, and_false, false_and, if_false, and_self, true_and, and_true, if_true], g2⟩
  rw [if_neg c2, if_pos (by omega), mI_sI, if_neg (by omega), mI_sI, if_pos ⟨rfl, rfl, by omega⟩]
  exact ⟨rfl, p2⟩
theorem c_under (h : KA A W w c k br nq nk np nh nr this a lo st kn M) (h2 : 2 ≤ st.length) (hX : st.length = sr (gmt (gc W c) k) → ∀ M', KZ A W w c k br nq nk np nh nr this a 30 M' → Q 0 M') (hQ : st.length < sr (gmt (gc W c) k) → ∀ M', KA A W w c k br nq nk np nh nr this a lo (st.take (st.length - 2) ++ [tp st 0, tp st 1, tp st 0]) kn M' → Q 1 M') : w_Checker_under this Q M := by
  unfold w_Checker_under
  have hh := h.ht
  obtain ⟨g1, g2⟩ := h.sv (d := 0) (by omega)
  obtain ⟨p1, p2⟩ := h.sv (d := 1) (by omega)
  rw [show st.length - 1 - 0 = st.length - 1 by omega] at g1
  rw [show st.length - 1 - 1 = st.length - 2 by omega] at p1
  have e1 : mI M 4 this 2 - 1 = Int32.ofNat (st.length - 1) := by rw [hh.1]; exact oN_sub (b := 1) (by omega)
  rw [e1, oN_tnc (by omega), g1, h.2.1.1.2]
  refine ⟨(vp_oN (by omega)).mpr (by omega), c_push h g2 (fun z M' q => itp rfl (hX z M' q)) (fun z M' q => itn (by decide) ?_)⟩
  have hh' := q.ht
  have hl1 : (st ++ [tp st 0]).length = st.length + 1 := by rw [List.length_append, List.length_singleton]
  rw [hl1] at hh'
  have x2 : mI M' 4 this 2 - 2 = Int32.ofNat (st.length - 1) := by rw [hh'.1]; exact oN_sub (b := 2) (by omega)
  have x3 : mI M' 4 this 2 - 3 = Int32.ofNat (st.length - 2) := by rw [hh'.1]; exact oN_sub (b := 3) (by omega)
  have v2 := q.2.1.2.2.1.1 (st.length - 2) (by omega)
  rw [gk_ap, if_pos (by omega)] at v2
  rw [x2, x3, oN_tnc (by omega), oN_tnc (by omega), v2.1, q.2.1.1.2]
  refine ⟨(vp_oN (by omega)).mpr (by omega), (vp_oN (by omega)).mpr (by omega), _, rfl, ?_⟩
  have x4 : mI (sI M' 32 this (st.length - 1) (kC A (gk st (st.length - 2)))) 4 this 2 - 3 = Int32.ofNat (st.length - 2) := by
    simp only [mI_sI, mI_sR, mI_sJ, mR_sI, mL_sI, mL_sR, mR_sR, Nat.reduceEqDiff, and_false, false_and, if_false, and_self, true_and, and_true, if_true]; exact x3
  rw [x4, oN_tnc (by omega)]
  refine ⟨by show vp_in _ (mL M' 32 this); rw [q.2.1.1.2]; exact (vp_oN (by omega)).mpr (by omega), _, rfl, hQ z _ (q.re (Fr.wIa rfl rfl (Fr.wIa rfl rfl (Fr.rf _ _))) (by rw [len_take h2, hl1]; simp; omega) (fun i hi => ?_))⟩
  rw [len_take h2] at hi
  simp only [List.length_cons, List.length_nil] at hi
  rw [gk_take3 (by omega) (by omega)]
  by_cases c1 : i < st.length - 2
  · rw [if_pos c1, mI_sI, if_neg (by omega), mI_sI, if_neg (by omega)]
    have := q.2.1.2.2.1.1 i (by omega)
    rw [gk_ap, if_pos (by omega)] at this; exact this
  rw [if_neg c1]
  by_cases c2 : i = st.length - 2
  · rw [if_pos c2, c2]
    exact ⟨by simp only [mI_sI, mI_sR, mI_sJ, mR_sI, mL_sI, mL_sR, mR_sR, Nat.reduceEqDiff, and_false, false_and, if_false, and_self, true_and, and_true, if_true], g2⟩
  rw [if_neg c2]
  by_cases c3 : i = st.length - 2 + 1
  · rw [if_pos c3, mI_sI, if_neg (by omega), mI_sI, if_pos ⟨rfl, rfl, by omega⟩]
    refine ⟨?_, p2⟩
    show kC A (gk st (st.length - 2)) = kC A (gk st (st.length - 1 - 1))
    rw [show st.length - 1 - 1 = st.length - 2 by omega]
  · rw [if_neg c3, mI_sI, if_neg (by omega), mI_sI, if_neg (by omega)]
    have := q.2.1.2.2.1.1 i (by omega)
    have ei : i = st.length := by omega
    rw [ei, gk_snoc] at this
    rw [ei]; exact this
theorem unM_drop {l : List Kd} {j : Nat} (h : j < l.length) : unM (l.drop j) = (decide ((gk l j).1 = -3) || unM (l.drop (j + 1))) := by
  have e : l.drop j = gk l j :: l.drop (j + 1) := by
    rw [List.drop_eq_getElem_cons h]
    congr 1
    show l[j] = l.getD j _
    rw [List.getD_eq_getElem?_getD, List.getElem?_eq_getElem h]; rfl
  rw [e]
  rfl
theorem b2_or (x y : Bool) : b2 x ||| b2 y = b2 (x || y) := by cases x <;> cases y <;> rfl
theorem c_hasUnmade (h : KA A W w c k br nq nk np nh nr this a lo st kn M) (hQ : Q (b2 (unM lo || unM st)) M) : w_Checker_hasUnmade this Q M := by
  have hh := h.ht
  have hla := h.1.la
  have hm := h.1.mlt
  have hlr := h.1.lr
  have hll : lo.length = lr (gmt (gc W c) k) := h.2.1.2.1.2
  have loop2 : ∀ n j (b : Bool), st.length - j < n → j ≤ st.length → (b || unM (st.drop j)) = (unM lo || unM st) → w_Checker_hasUnmade_L47 this Q n (b2 b) (Int32.ofNat j) M := by
    intro n
    induction n with
    | zero => intro j b hn; exact absurd hn (by omega)
    | succ n ih =>
      intro j b hn hj he
      unfold w_Checker_hasUnmade_L47 w_Checker_hasUnmade_j72
      rw [hh.1]
      by_cases cj : st.length ≤ j
      · refine itp (le_oN cj (by omega)) ⟨by cases b <;> simp [b2], ?_⟩
        rw [List.drop_eq_nil_of_le cj] at he
        rw [← he] at hQ
        simpa [unM] using hQ
      obtain ⟨s1, s2⟩ := h.2.1.2.2.1.1 j (by omega)
      rw [oN_tnc (by omega), s1, h.2.1.1.2]
      refine itn (nle_oN (by omega) (by omega)) ⟨(vp_oN (by omega)).mpr (by omega), ?_⟩
      rw [unM_drop (by omega), ← Bool.or_assoc] at he
      rw [show Int32.ofNat j + (1 : Int32) = Int32.ofNat (j + 1) from oN_add j 1]
      by_cases c1 : (gk st j).1 = -3
      · rw [decide_eq_true c1] at he
        refine itp ((kC_eq (n := -3) s2 hla (by omega)).mpr c1) ?_
        rw [show b2 b ||| (1 : Int32) = b2 (b || true) from b2_or b true]
        exact ih _ _ (by omega) (by omega) he
      · rw [decide_eq_false c1] at he
        refine itn (fun q => c1 ((kC_eq (n := -3) s2 hla (by omega)).mp q)) ?_
        rw [show b2 b ||| (0 : Int32) = b2 (b || false) from b2_or b false]
        exact ih _ _ (by omega) (by omega) he
  have loop1 : ∀ n j (b : Bool), lo.length - j < n → j ≤ lo.length → (b || unM (lo.drop j)) = unM lo → w_Checker_hasUnmade_L4 this Q n (b2 b) (Int32.ofNat j) M := by
    intro n
    induction n with
    | zero => intro j b hn; exact absurd hn (by omega)
    | succ n ih =>
      intro j b hn hj he
      unfold w_Checker_hasUnmade_L4 w_Checker_hasUnmade_j37
      refine ⟨w, h.1.r, ?_⟩
      rw [h.1.m6, oN_tnc (k := moff W c + k) (by omega), hlr.1, h.1.ml (by omega) (by omega)]
      refine ⟨(vp_oN (by omega)).mpr hm, ?_⟩
      by_cases cj : lo.length ≤ j
      · refine itp (le_oN (by omega) (by omega)) ⟨st.length + 1, ?_⟩
        rw [List.drop_eq_nil_of_le cj] at he
        refine loop2 _ 0 b (by omega) (by omega) ?_
        rw [List.drop_zero, ← he]
        simp [unM]
      obtain ⟨s1, s2⟩ := h.lv (j := j) (by omega)
      rw [oN_tnc (by omega), s1, h.2.1.1.1]
      refine itn (nle_oN (by omega) (by omega)) ⟨(vp_oN (by omega)).mpr (by omega), ?_⟩
      rw [unM_drop (by omega), ← Bool.or_assoc] at he
      rw [show Int32.ofNat j + (1 : Int32) = Int32.ofNat (j + 1) from oN_add j 1]
      by_cases c1 : (gk lo j).1 = -3
      · rw [decide_eq_true c1] at he
        refine itp ((kC_eq (n := -3) s2 hla (by omega)).mpr c1) ?_
        rw [show b2 b ||| (1 : Int32) = b2 (b || true) from b2_or b true]
        exact ih _ _ (by omega) (by omega) he
      · rw [decide_eq_false c1] at he
        refine itn (fun q => c1 ((kC_eq (n := -3) s2 hla (by omega)).mp q)) ?_
        rw [show b2 b ||| (0 : Int32) = b2 (b || false) from b2_or b false]
        exact ih _ _ (by omega) (by omega) he
  unfold w_Checker_hasUnmade
  exact ⟨lo.length + 1, loop1 _ 0 false (by omega) (by omega) (by simp)⟩
/-- the kinds of references in a world -/
theorem c_refType {r : Nat} {cls mem : Nm} {ks : List Kd} {κ : Kd} (h : cRf A w r cls mem ks κ M) (hL : cRm w M) (hr : 4 * r + 3 < L76 w) (hQ : Q (kC A κ) M) : w_World_refType w (Int32.ofNat r) Q M := by
  have := L_le w
  unfold w_World_refType
  rw [show (4 : Int32) * Int32.ofNat r + 2 = Int32.ofNat (4 * r + 2) by rw [show (4 : Int32) * Int32.ofNat r = Int32.ofNat (4 * r) from oN_mul 4 r]; exact oN_add _ 2, oN_tnc (by omega), h.2.2.1.1, hL.2.2.2.2.1]
  exact ⟨(vp_oN (by omega)).mpr (by omega), hQ⟩
theorem c_refClass {r : Nat} {cls mem : Nm} {ks : List Kd} {κ : Kd} (h : cRf A w r cls mem ks κ M) (hL : cRm w M) (hr : 4 * r + 3 < L76 w) (hQ : Q (nc A cls) M) : w_World_refClass w (Int32.ofNat r) Q M := by
  have := L_le w
  unfold w_World_refClass
  rw [show (4 : Int32) * Int32.ofNat r = Int32.ofNat (4 * r) from oN_mul 4 r, oN_tnc (by omega), h.1.1, hL.2.2.2.2.1]
  exact ⟨(vp_oN (by omega)).mpr (by omega), hQ⟩
theorem c_refName {r : Nat} {cls mem : Nm} {ks : List Kd} {κ : Kd} (h : cRf A w r cls mem ks κ M) (hL : cRm w M) (hr : 4 * r + 3 < L76 w) (hQ : Q (nc A mem) M) : w_World_refName w (Int32.ofNat r) Q M := by
  have := L_le w
  unfold w_World_refName
  rw [show (4 : Int32) * Int32.ofNat r + 1 = Int32.ofNat (4 * r + 1) by rw [show (4 : Int32) * Int32.ofNat r = Int32.ofNat (4 * r) from oN_mul 4 r]; exact oN_add _ 1, oN_tnc (by omega), h.2.1.1, hL.2.2.2.2.1]
  exact ⟨(vp_oN (by omega)).mpr (by omega), hQ⟩
theorem c_refArguments {r : Nat} {cls mem : Nm} {ks : List Kd} {κ : Kd} (h : cRf A w r cls mem ks κ M) (hL : cRm w M) (hr : 4 * r + 3 < L76 w) (hQ : Q (Int32.ofNat ks.length) M) : w_World_refArguments w (Int32.ofNat r) Q M := by
  have := L_le w
  unfold w_World_refArguments
  rw [show (4 : Int32) * Int32.ofNat r + 3 = Int32.ofNat (4 * r + 3) by rw [show (4 : Int32) * Int32.ofNat r = Int32.ofNat (4 * r) from oN_mul 4 r]; exact oN_add _ 3, oN_tnc (by omega), h.2.2.2.1, hL.2.2.2.2.1]
  exact ⟨(vp_oN (by omega)).mpr (by omega), hQ⟩
/-- a field's instruction -/
theorem c_fieldK {r o : Nat} {cls mem : Nm} {ks : List Kd} {κ : Kd} (h : KA A W w c k br nq nk np nh nr this a lo st kn M) (hR : cRf A w r cls mem ks κ M) (hr : r < nr) (hκ : kwf A (co (gmt (gc W c) k)) κ) (h0 : 0 ≤ κ.1) (ho : isFo o) (hP : KP A W w c k br nq nk np nh nr this a kn (wcS W (gmt (gc W c) k) lo st (if o = 46 then [(0, (2, cls))] else if o = 47 then [(0, κ), (0, (2, cls))] else if o = 48 then [] else [(0, κ)]) 0 (if o = 46 ∨ o = 48 then [κ] else [])) Q) : w_Checker_field this (Int32.ofNat o) (Int32.ofNat r) Q M := by
  have hb := h.1.kb
  unfold KB at hb
  unfold w_Checker_field
  have hcls : kwf A (co (gmt (gc W c) k)) (2, cls) := kwf_cls hR.1.2
  have w1 : wok A (co (gmt (gc W c) k)) (0, (2, cls)) := Or.inl ⟨rfl, hcls, by show (0 : Int) ≤ 2; decide⟩
  have w2 : wok A (co (gmt (gc W c) k)) (0, κ) := Or.inl ⟨rfl, hκ, h0⟩
  refine ⟨w, h.1.r, c_refType hR h.1.rm (by omega) ⟨w, h.1.r, c_refClass hR h.1.rm (by omega) ?_⟩⟩
  unfold w_Works_kindOf
  rw [show nc A cls + 2 = kC A (2, cls) from oN_add _ 2]
  have h4 : o = 46 ∨ o = 47 ∨ o = 48 ∨ o = 49 := by omega
  rcases h4 with e | e | e | e <;> subst e
  · exact itp rfl (k_w1c1 (t := (0, (2, cls))) h w1 hP hκ (by omega))
  · exact itn (by decide) (itp rfl (k_w2c0 (t := (0, κ)) (u := (0, (2, cls))) h w2 w1 hP))
  · refine itn (by decide) (itn (by decide) (itp rfl ?_))
    have hh := h.ht
    have e : st.take (st.length - ([] : List Wt).length) = st := List.take_of_length_le (by simp)
    have hP : KP A W w c k br nq nk np nh nr this a kn (wcS W (gmt (gc W c) k) lo st [] 0 [κ]) Q := hP
    refine c_push h hκ (fun z M' q => ⟨Or.inl rfl, KP.full hP takeS_nil (by rw [e, List.length_append, List.length_singleton]; omega) M' q⟩) (fun z M' q => ⟨Or.inr rfl, KP.good hP takeS_nil (by rw [e, List.length_append, List.length_singleton]; omega) M' (by rw [e]; exact q)⟩)
  · exact itn (by decide) (itn (by decide) (itn (by decide) (k_w1c0 (t := (0, κ)) h w2 hP)))
/-- leaving a method -/
theorem c_leaves {o own : Nat} {ws : List Wt} (h : KA A W w c k br nq nk np nh nr this a lo st kn M) (ho : 57 ≤ o ∧ o ≤ 59) (hws : ws = if o = 57 then [] else if o = 58 then [wNum] else [if (gmt (gc W c) k).2.2.1.1 = 1 ∨ (gmt (gc W c) k).2.2.1.1 = 2 then (0, (gmt (gc W c) k).2.2.1) else wRef])
    (how : own = if o = 57 then (if (gmt (gc W c) k).1 = nMake ∧ (unM lo || unM st) = true then 40 else if (gmt (gc W c) k).2.2.1.1 = -4 then 0 else 41) else if o = 58 then (if (gmt (gc W c) k).2.2.1.1 = 0 then 0 else 41) else (if (gmt (gc W c) k).2.2.1.1 = 1 ∨ (gmt (gc W c) k).2.2.1.1 = 2 then 0 else 41))
    (hP : KP A W w c k br nq nk np nh nr this a kn (if takeS W st ws ≠ 0 then .inl (takeS W st ws) else if own ≠ 0 then .inl own else .inr (lo, st)) Q) : w_Checker_leaves this (Int32.ofNat o) Q M := by
  have hR : takeS W st ws ≠ 0 → ∀ M', KZ A W w c k br nq nk np nh nr this a (takeS W st ws) M' → Q 0 M' := fun z => by rw [if_pos z] at hP; exact hP
  have hX : takeS W st ws = 0 → own ≠ 0 → ∀ M', KZ A W w c k br nq nk np nh nr this a own M' → Q 0 M' := fun z y => by rw [if_neg (by omega), if_pos y] at hP; exact hP
  have hG : takeS W st ws = 0 → own = 0 → Q 1 M := fun z y => by rw [if_neg (by omega), if_neg (by omega)] at hP; exact hP M h
  clear hP
  have hm := h.1.mlt
  have hla := h.1.la
  obtain ⟨e59, hko, hkd⟩ := h.1.hd.2.2.2.2.1
  generalize (gmt (gc W c) k).2.2.1 = κ at e59 hko hkd hws how
  have hκ : kwf A (co (gmt (gc W c) k)) κ := kwf_kd hkd hko
  have hκ2 : κ.1 = 0 ∨ κ.1 = 1 ∨ κ.1 = 2 ∨ κ.1 = -4 := by
    rcases hkd with q | q | q | q
    · rw [q]; exact Or.inl rfl
    · rw [q]; exact Or.inr (Or.inl rfl)
    · rw [q]; exact Or.inr (Or.inr (Or.inr rfl))
    · exact Or.inr (Or.inr (Or.inl q))
  unfold w_Checker_leaves
  refine ⟨w, h.1.r, ?_⟩
  rw [h.1.m6, oN_tnc (k := moff W c + k) (by omega), e59, h.1.ml (by omega) (by omega)]
  refine ⟨(vp_oN (by omega)).mpr hm, ?_⟩
  have br41 : (∀ M', KZ A W w c k br nq nk np nh nr this a 41 M' → Q 0 M') → w_Checker_leaves_j124 this Q M := fun hX => by
    unfold w_Checker_leaves_j124
    exact h.brk (r := 41) (fun M' q => itp rfl (hX M' q))
  have key : ∀ b : Bool, b = decide (1 ≤ κ.1) → w_Checker_leaves_j23 this Q (Int32.ofNat o) (kC A κ) (b2 b) M := by
    intro b hb
    have h3 : o = 57 ∨ o = 58 ∨ o = 59 := by omega
    rcases h3 with e | e | e <;> subst e
    · rw [if_pos rfl] at hws how
      subst hws
      have hX := hX takeS_nil
      have hG := hG takeS_nil
      unfold w_Checker_leaves_j23 w_Checker_leaves_j40 w_Checker_leaves_j65
      refine itn (by decide) (itn (by decide) (itp rfl ?_))
      have fin : ¬ ((gmt (gc W c) k).1 = nMake ∧ (unM lo || unM st) = true) → w_Checker_leaves_j92 this Q (Int32.ofNat 57) (kC A κ) (b2 b) M := fun e => by
        rw [if_neg e] at how
        unfold w_Checker_leaves_j92
        refine itp rfl ?_
        by_cases c1 : κ.1 = -4
        · rw [if_pos c1] at how
          exact itp ((kC_eq (n := -4) hκ hla (by omega)).mpr c1) (hG how)
        · rw [if_neg c1] at how
          rw [how] at hX
          exact itn (fun q => c1 ((kC_eq (n := -4) hκ hla (by omega)).mp q)) (br41 (hX (by decide)))
      refine c_isMaker h.1 ?_
      by_cases c2 : (gmt (gc W c) k).1 = nMake
      · rw [decide_eq_true c2]
        refine itn (by decide) (c_hasUnmade h ?_)
        cases c3 : (unM lo || unM st) with
        | true =>
          rw [if_pos ⟨c2, c3⟩] at how
          rw [how] at hX
          exact itn (by decide) (h.brk (r := 40) (fun M' q => ⟨Or.inl rfl, hX (by decide) M' q⟩))
        | false => exact itp rfl (fin (fun q => by rw [c3] at q; exact absurd q.2 (by decide)))
      · rw [decide_eq_false c2]
        exact itp rfl (fin (fun q => c2 q.1))
    · rw [if_neg (by decide), if_pos rfl] at hws how
      subst hws
      unfold w_Checker_leaves_j23 w_Checker_leaves_j40 w_Checker_leaves_j65 w_Checker_leaves_j92
      refine itp rfl (c_wants1 (t := wNum) h (Or.inl ⟨rfl, Or.inr ⟨rfl, Or.inl ⟨by decide, by decide⟩⟩, by decide⟩) (fun z M' q => itp rfl (hR z M' q)) (fun z y => ?_))
      have hX := hX z
      have hG := hG z
      refine itn (by decide) (itn (by decide) (itn (by decide) (itn (by decide) (itp rfl ?_))))
      by_cases c1 : κ.1 = 0
      · rw [if_pos c1] at how
        exact itp ((kC_eq (n := 0) hκ hla (by omega)).mpr c1) (hG how)
      · rw [if_neg c1] at how
        rw [how] at hX
        exact itn (fun q => c1 ((kC_eq (n := 0) hκ hla (by omega)).mp q)) (br41 (hX (by decide)))
    · rw [if_neg (by decide), if_neg (by decide)] at hws how
      unfold w_Checker_leaves_j23 w_Checker_leaves_j40
      refine itn (by decide) (itp rfl ?_)
      have step : ∀ t, (if κ.1 = 1 ∨ κ.1 = 2 then (0, κ) else wRef) = t → wok A (co (gmt (gc W c) k)) t → w_Checker_leaves_j57 this Q (Int32.ofNat 59) (kC A κ) (b2 b) (wvN A t) M := fun t et ht => by
        rw [et] at hws
        subst hws
        unfold w_Checker_leaves_j57 w_Checker_leaves_j65 w_Checker_leaves_j92
        refine c_wants1 h ht (fun z M' q => itp rfl (hR z M' q)) (fun z y => ?_)
        have hX := hX z
        have hG := hG z
        refine itn (by decide) (itn (by decide) (itn (by decide) (itn (by decide) ?_)))
        by_cases c1 : κ.1 = 1 ∨ κ.1 = 2
        · rw [if_pos c1] at how
          rw [decide_eq_true (by omega)] at hb
          rw [hb]
          exact itn (by decide) (hG how)
        · rw [if_neg c1] at how
          rw [decide_eq_false (by omega)] at hb
          rw [how] at hX
          rw [hb]
          exact itp rfl (br41 (hX (by decide)))
      by_cases c1 : 1 ≤ κ.1
      · have c2 : κ.1 = 1 ∨ κ.1 = 2 := by omega
        have eb : b = true := by rw [hb]; exact decide_eq_true c1
        have := step (0, κ) (by rw [if_pos c2]) (Or.inl ⟨rfl, hκ, by show 0 ≤ κ.1; omega⟩)
        rw [eb] at this ⊢
        exact itn (by decide) this
      · have eb : b = false := by rw [hb]; exact decide_eq_false c1
        have := step wRef (by rw [if_neg (by omega)]) (Or.inr (Or.inl rfl))
        rw [eb] at this ⊢
        exact itp rfl this
  by_cases c1 : 1 ≤ κ.1
  · exact itn (fun q => by
      have := (kC_ge (n := 1) hκ hla (by omega)).mpr c1
      rw [Int32.lt_iff_toInt_lt] at q
      rw [Int32.le_iff_toInt_le] at this
      have e1 : (Int32.ofInt 1) = (1 : Int32) := rfl
      rw [e1] at this
      omega) (key true (by rw [decide_eq_true c1]))
  · exact itp (by
      have : ¬ Int32.ofInt 1 ≤ kC A κ := fun q => c1 ((kC_ge (n := 1) hκ hla (by omega)).mp q)
      rw [Int32.lt_iff_toInt_lt]
      rw [Int32.le_iff_toInt_le] at this
      have e1 : (Int32.ofInt 1) = (1 : Int32) := rfl
      rw [e1] at this
      omega) (key false (by rw [decide_eq_false c1]))
end
