/-! (printed by gen/kx.py) the works' checker at an instruction, for kinds -/
section
variable {A : List Nm} {W : List Cls} {w c k this : Nat} {br : Int32} {nq nk np nh nr a : Nat} {lo st : List Kd} {kn : Bool} {M M' : Mem} {Q : Int32 → Mem → Prop} {Ex : Mem → Prop}
theorem KAx.re {st' : List Kd} (h : KAx A W w c k br nq nk np nh nr this Ex a lo st kn M) (hf : Fr (4294967296) M M') (hl : st'.length = st.length) (hk : KL A (co (gmt (gc W c) k)) 32 st' this M') : KAx A W w c k br nq nk np nh nr this Ex a lo st' kn M' := by
  obtain ⟨h1, ⟨⟨s1, s2⟩, ⟨s3, s4⟩, ⟨s5, s6, s7⟩, s8, s9⟩, h3, h4, h5⟩ := h
  exact ⟨h1.fr hf, ⟨⟨(hf.L (f := 31) rfl this).trans s1, (hf.L (f := 32) rfl this).trans s2⟩, ⟨fun i hi => ⟨(hf.Ia (f := 31) rfl rfl this i).trans (s3 i hi).1, (s3 i hi).2⟩, s4⟩, ⟨hk, by rw [hl]; exact (hf.I (f := 4) (k := 2) rfl this).trans s6, by omega⟩, (hf.I (f := 4) (k := 3) rfl this).trans s8, (hf.I (f := 4) (k := 8) rfl this).trans s9⟩, h3.fr hf, (hf.I (f := 4) (k := 7) rfl this).trans h4, h5⟩
theorem KAx.reL {lo' : List Kd} (h : KAx A W w c k br nq nk np nh nr this Ex a lo st kn M) (hf : Fr (2147483648) M M') (hl : lo'.length = lo.length) (hk : KL A (co (gmt (gc W c) k)) 31 lo' this M') : KAx A W w c k br nq nk np nh nr this Ex a lo' st kn M' := by
  obtain ⟨h1, ⟨⟨s1, s2⟩, ⟨s3, s4⟩, ⟨s5, s6, s7⟩, s8, s9⟩, h3, h4, h5⟩ := h
  exact ⟨h1.fr hf, ⟨⟨(hf.L (f := 31) rfl this).trans s1, (hf.L (f := 32) rfl this).trans s2⟩, ⟨hk, by omega⟩, ⟨fun i hi => ⟨(hf.Ia (f := 32) rfl rfl this i).trans (s5 i hi).1, (s5 i hi).2⟩, (hf.I (f := 4) (k := 2) rfl this).trans s6, by omega⟩, (hf.I (f := 4) (k := 3) rfl this).trans s8, (hf.I (f := 4) (k := 8) rfl this).trans s9⟩, h3.fr hf, (hf.I (f := 4) (k := 7) rfl this).trans h4, h5⟩
theorem KAx.lv (h : KAx A W w c k br nq nk np nh nr this Ex a lo st kn M) {j : Nat} (hj : j < lr (gmt (gc W c) k)) : mI M 31 this j = kC A (gk lo j) ∧ kwf A (co (gmt (gc W c) k)) (gk lo j) := h.2.1.2.1.1 j (by rw [h.2.1.2.1.2]; exact hj)
theorem c_isTherex {j : Nat} (h : KAx A W w c k br nq nk np nh nr this Ex a lo st kn M) (hj : j < 1000) (hX : lr (gmt (gc W c) k) ≤ j → ∀ M', KZx A W w c k br nq nk np nh nr this Ex a 33 M' → Q 0 M') (hQ : j < lr (gmt (gc W c) k) → Q 1 M) : w_Checker_isThere this (Int32.ofNat j) Q M := by
  unfold w_Checker_isThere
  have hm := h.1.mlt
  have hl := h.1.lr
  refine ⟨w, h.1.r, ?_⟩
  rw [h.1.m6, oN_tnc (k := moff W c + k) (by omega), hl.1, h.1.ml (by omega) (by omega)]
  refine ⟨(vp_oN (by omega)).mpr hm, ?_⟩
  by_cases e : j < lr (gmt (gc W c) k)
  · exact itp (lt_oN e (by omega)) (hQ e)
  · exact itn (nlt_oN (by omega) (by omega)) (h.brk (r := 33) (fun M' q => itp rfl (hX (by omega) M' q)))
theorem c_swapx (h : KAx A W w c k br nq nk np nh nr this Ex a lo st kn M) (h2 : 2 ≤ st.length) (hQ : ∀ M', KAx A W w c k br nq nk np nh nr this Ex a lo (st.take (st.length - 2) ++ [tp st 0, tp st 1]) kn M' → Q 1 M') : w_Checker_swap this Q M := by
  unfold w_Checker_swap
  have hh := h.ht
  obtain ⟨g1, g2⟩ := h.sv (d := 0) (by omega)
  obtain ⟨p1, p2⟩ := h.sv (d := 1) (by omega)
  rw [show st.length - 1 - 0 = st.length - 1 by omega] at g1
  rw [show st.length - 1 - 1 = st.length - 2 by omega] at p1
  have e1 : mI M 4 this 2 - 1 = Int32.ofNat (st.length - 1) := by rw [hh.1]; exact oN_sub (b := 1) (by omega)
  have e2 : mI M 4 this 2 - 2 = Int32.ofNat (st.length - 2) := by rw [hh.1]; exact oN_sub (b := 2) (by omega)
  rw [e1, e2, oN_tnc (by omega), oN_tnc (by omega), g1, p1, h.2.1.1.2]
  refine ⟨(vp_oN (by omega)).mpr (by omega), (vp_oN (by omega)).mpr (by omega), (vp_oN (by omega)).mpr (by omega), _, rfl, ?_⟩
  have e3 : mI (sI M 32 this (st.length - 1) (kC A (tp st 1))) 4 this 2 - 2 = Int32.ofNat (st.length - 2) := by
    simp only [mI_sI, mI_sR, mI_sJ, mR_sI, mL_sI, mL_sR, mR_sR, Nat.reduceEqDiff, and_false, false_and, if_false, and_self, true_and, and_true, if_true]; exact e2
  rw [e3, oN_tnc (by omega)]
  refine ⟨by show vp_in _ (mL M 32 this); rw [h.2.1.1.2]; exact (vp_oN (by omega)).mpr (by omega), _, rfl, hQ _ (h.re (Fr.wIa rfl rfl (Fr.wIa rfl rfl (Fr.rf _ _))) (by rw [len_take h2]; simp; omega) (fun i hi => ?_))⟩
  rw [len_take h2] at hi
  simp only [List.length_cons, List.length_nil] at hi
  rw [gk_take2 (by omega)]
  by_cases c1 : i < st.length - 2
  · rw [if_pos c1, mI_sI, if_neg (by omega), mI_sI, if_neg (by omega)]
    exact h.2.1.2.2.1.1 i (by omega)
  rw [if_neg c1]
  by_cases c2 : i = st.length - 2
  · rw [if_pos c2, c2]
    exact ⟨by simp only [mI_sI, mI_sR, mI_sJ, mR_sI, mL_sI, mL_sR, mR_sR, Nat.reduceEqDiff, and_false, false_and, if_false, and_self, true_and, and_true, if_true], g2⟩
  rw [if_neg c2, if_pos (by omega), mI_sI, if_neg (by omega), mI_sI, if_pos ⟨rfl, rfl, by omega⟩]
  exact ⟨rfl, p2⟩
theorem c_underx (h : KAx A W w c k br nq nk np nh nr this Ex a lo st kn M) (h2 : 2 ≤ st.length) (hX : st.length = sr (gmt (gc W c) k) → ∀ M', KZx A W w c k br nq nk np nh nr this Ex a 30 M' → Q 0 M') (hQ : st.length < sr (gmt (gc W c) k) → ∀ M', KAx A W w c k br nq nk np nh nr this Ex a lo (st.take (st.length - 2) ++ [tp st 0, tp st 1, tp st 0]) kn M' → Q 1 M') : w_Checker_under this Q M := by
  unfold w_Checker_under
  have hh := h.ht
  obtain ⟨g1, g2⟩ := h.sv (d := 0) (by omega)
  obtain ⟨p1, p2⟩ := h.sv (d := 1) (by omega)
  rw [show st.length - 1 - 0 = st.length - 1 by omega] at g1
  rw [show st.length - 1 - 1 = st.length - 2 by omega] at p1
  have e1 : mI M 4 this 2 - 1 = Int32.ofNat (st.length - 1) := by rw [hh.1]; exact oN_sub (b := 1) (by omega)
  rw [e1, oN_tnc (by omega), g1, h.2.1.1.2]
  refine ⟨(vp_oN (by omega)).mpr (by omega), c_pushx h g2 (fun z M' q => itp rfl (hX z M' q)) (fun z M' q => itn (by decide) ?_)⟩
  have hh' := q.ht
  have hl1 : (st ++ [tp st 0]).length = st.length + 1 := by rw [List.length_append, List.length_singleton]
  rw [hl1] at hh'
  have x2 : mI M' 4 this 2 - 2 = Int32.ofNat (st.length - 1) := by rw [hh'.1]; exact oN_sub (b := 2) (by omega)
  have x3 : mI M' 4 this 2 - 3 = Int32.ofNat (st.length - 2) := by rw [hh'.1]; exact oN_sub (b := 3) (by omega)
  have v2 := q.2.1.2.2.1.1 (st.length - 2) (by omega)
  rw [gk_ap, if_pos (by omega)] at v2
  rw [x2, x3, oN_tnc (by omega), oN_tnc (by omega), v2.1, q.2.1.1.2]
  refine ⟨(vp_oN (by omega)).mpr (by omega), (vp_oN (by omega)).mpr (by omega), _, rfl, ?_⟩
  have x4 : mI (sI M' 32 this (st.length - 1) (kC A (gk st (st.length - 2)))) 4 this 2 - 3 = Int32.ofNat (st.length - 2) := by
    simp only [mI_sI, mI_sR, mI_sJ, mR_sI, mL_sI, mL_sR, mR_sR, Nat.reduceEqDiff, and_false, false_and, if_false, and_self, true_and, and_true, if_true]; exact x3
  rw [x4, oN_tnc (by omega)]
  refine ⟨by show vp_in _ (mL M' 32 this); rw [q.2.1.1.2]; exact (vp_oN (by omega)).mpr (by omega), _, rfl, hQ z _ (q.re (Fr.wIa rfl rfl (Fr.wIa rfl rfl (Fr.rf _ _))) (by rw [len_take h2, hl1]; simp; omega) (fun i hi => ?_))⟩
  rw [len_take h2] at hi
  simp only [List.length_cons, List.length_nil] at hi
  rw [gk_take3 (by omega) (by omega)]
  by_cases c1 : i < st.length - 2
  · rw [if_pos c1, mI_sI, if_neg (by omega), mI_sI, if_neg (by omega)]
    have := q.2.1.2.2.1.1 i (by omega)
    rw [gk_ap, if_pos (by omega)] at this; exact this
  rw [if_neg c1]
  by_cases c2 : i = st.length - 2
  · rw [if_pos c2, c2]
    exact ⟨by simp only [mI_sI, mI_sR, mI_sJ, mR_sI, mL_sI, mL_sR, mR_sR, Nat.reduceEqDiff, and_false, false_and, if_false, and_self, true_and, and_true, if_true], g2⟩
  rw [if_neg c2]
  by_cases c3 : i = st.length - 2 + 1
  · rw [if_pos c3, mI_sI, if_neg (by omega), mI_sI, if_pos ⟨rfl, rfl, by omega⟩]
    refine ⟨?_, p2⟩
    show kC A (gk st (st.length - 2)) = kC A (gk st (st.length - 1 - 1))
    rw [show st.length - 1 - 1 = st.length - 2 by omega]
  · rw [if_neg c3, mI_sI, if_neg (by omega), mI_sI, if_neg (by omega)]
    have := q.2.1.2.2.1.1 i (by omega)
    have ei : i = st.length := by omega
    rw [ei, gk_snoc] at this
    rw [ei]; exact this
theorem c_hasUnmadex (h : KAx A W w c k br nq nk np nh nr this Ex a lo st kn M) (hQ : Q (b2 (unM lo || unM st)) M) : w_Checker_hasUnmade this Q M := by
  have hh := h.ht
  have hla := h.1.la
  have hm := h.1.mlt
  have hlr := h.1.lr
  have hll : lo.length = lr (gmt (gc W c) k) := h.2.1.2.1.2
  have loop2 : ∀ n j (b : Bool), st.length - j < n → j ≤ st.length → (b || unM (st.drop j)) = (unM lo || unM st) → w_Checker_hasUnmade_L47 this Q n (b2 b) (Int32.ofNat j) M := by
    intro n
    induction n with
    | zero => intro j b hn; exact absurd hn (by omega)
    | succ n ih =>
      intro j b hn hj he
      unfold w_Checker_hasUnmade_L47 w_Checker_hasUnmade_j72
      rw [hh.1]
      by_cases cj : st.length ≤ j
      · refine itp (le_oN cj (by omega)) ⟨by cases b <;> simp [b2], ?_⟩
        rw [List.drop_eq_nil_of_le cj] at he
        rw [← he] at hQ
        simpa [unM] using hQ
      obtain ⟨s1, s2⟩ := h.2.1.2.2.1.1 j (by omega)
      rw [oN_tnc (by omega), s1, h.2.1.1.2]
      refine itn (nle_oN (by omega) (by omega)) ⟨(vp_oN (by omega)).mpr (by omega), ?_⟩
      rw [unM_drop (by omega), ← Bool.or_assoc] at he
      rw [show Int32.ofNat j + (1 : Int32) = Int32.ofNat (j + 1) from oN_add j 1]
      by_cases c1 : (gk st j).1 = -3
      · rw [decide_eq_true c1] at he
        refine itp ((kC_eq (n := -3) s2 hla (by omega)).mpr c1) ?_
        rw [show b2 b ||| (1 : Int32) = b2 (b || true) from b2_or b true]
        exact ih _ _ (by omega) (by omega) he
      · rw [decide_eq_false c1] at he
        refine itn (fun q => c1 ((kC_eq (n := -3) s2 hla (by omega)).mp q)) ?_
        rw [show b2 b ||| (0 : Int32) = b2 (b || false) from b2_or b false]
        exact ih _ _ (by omega) (by omega) he
  have loop1 : ∀ n j (b : Bool), lo.length - j < n → j ≤ lo.length → (b || unM (lo.drop j)) = unM lo → w_Checker_hasUnmade_L4 this Q n (b2 b) (Int32.ofNat j) M := by
    intro n
    induction n with
    | zero => intro j b hn; exact absurd hn (by omega)
    | succ n ih =>
      intro j b hn hj he
      unfold w_Checker_hasUnmade_L4 w_Checker_hasUnmade_j37
      refine ⟨w, h.1.r, ?_⟩
      rw [h.1.m6, oN_tnc (k := moff W c + k) (by omega), hlr.1, h.1.ml (by omega) (by omega)]
      refine ⟨(vp_oN (by omega)).mpr hm, ?_⟩
      by_cases cj : lo.length ≤ j
      · refine itp (le_oN (by omega) (by omega)) ⟨st.length + 1, ?_⟩
        rw [List.drop_eq_nil_of_le cj] at he
        refine loop2 _ 0 b (by omega) (by omega) ?_
        rw [List.drop_zero, ← he]
        simp [unM]
      obtain ⟨s1, s2⟩ := h.lv (j := j) (by omega)
      rw [oN_tnc (by omega), s1, h.2.1.1.1]
      refine itn (nle_oN (by omega) (by omega)) ⟨(vp_oN (by omega)).mpr (by omega), ?_⟩
      rw [unM_drop (by omega), ← Bool.or_assoc] at he
      rw [show Int32.ofNat j + (1 : Int32) = Int32.ofNat (j + 1) from oN_add j 1]
      by_cases c1 : (gk lo j).1 = -3
      · rw [decide_eq_true c1] at he
        refine itp ((kC_eq (n := -3) s2 hla (by omega)).mpr c1) ?_
        rw [show b2 b ||| (1 : Int32) = b2 (b || true) from b2_or b true]
        exact ih _ _ (by omega) (by omega) he
      · rw [decide_eq_false c1] at he
        refine itn (fun q => c1 ((kC_eq (n := -3) s2 hla (by omega)).mp q)) ?_
        rw [show b2 b ||| (0 : Int32) = b2 (b || false) from b2_or b false]
        exact ih _ _ (by omega) (by omega) he
  unfold w_Checker_hasUnmade
  exact ⟨lo.length + 1, loop1 _ 0 false (by omega) (by omega) (by simp)⟩
theorem c_fieldKx {r o : Nat} {cls mem : Nm} {ks : List Kd} {κ : Kd} (h : KAx A W w c k br nq nk np nh nr this Ex a lo st kn M) (hR : cRf A w r cls mem ks κ M) (hr : r < nr) (hκ : kwf A (co (gmt (gc W c) k)) κ) (h0 : 0 ≤ κ.1) (ho : isFo o) (hP : KPx A W w c k br nq nk np nh nr this Ex a kn (wcS W (gmt (gc W c) k) lo st (if o = 46 then [(0, (2, cls))] else if o = 47 then [(0, κ), (0, (2, cls))] else if o = 48 then [] else [(0, κ)]) 0 (if o = 46 ∨ o = 48 then [κ] else [])) Q) : w_Checker_field this (Int32.ofNat o) (Int32.ofNat r) Q M := by
  have hb := h.1.kb
  unfold KB at hb
  unfold w_Checker_field
  have hcls : kwf A (co (gmt (gc W c) k)) (2, cls) := kwf_cls hR.1.2
  have w1 : wok A (co (gmt (gc W c) k)) (0, (2, cls)) := Or.inl ⟨rfl, hcls, by show (0 : Int) ≤ 2; decide⟩
  have w2 : wok A (co (gmt (gc W c) k)) (0, κ) := Or.inl ⟨rfl, hκ, h0⟩
  refine ⟨w, h.1.r, c_refType hR h.1.rm (by omega) ⟨w, h.1.r, c_refClass hR h.1.rm (by omega) ?_⟩⟩
  unfold w_Works_kindOf
  rw [show nc A cls + 2 = kC A (2, cls) from oN_add _ 2]
  have h4 : o = 46 ∨ o = 47 ∨ o = 48 ∨ o = 49 := by omega
  rcases h4 with e | e | e | e <;> subst e
  · exact itp rfl (k_w1c1x (t := (0, (2, cls))) h w1 hP hκ (by omega))
  · exact itn (by decide) (itp rfl (k_w2c0x (t := (0, κ)) (u := (0, (2, cls))) h w2 w1 hP))
  · refine itn (by decide) (itn (by decide) (itp rfl ?_))
    have hh := h.ht
    have e : st.take (st.length - ([] : List Wt).length) = st := List.take_of_length_le (by simp)
    have hP : KPx A W w c k br nq nk np nh nr this Ex a kn (wcS W (gmt (gc W c) k) lo st [] 0 [κ]) Q := hP
    refine c_pushx h hκ (fun z M' q => ⟨Or.inl rfl, KPx.full hP takeS_nil (by rw [e, List.length_append, List.length_singleton]; omega) M' q⟩) (fun z M' q => ⟨Or.inr rfl, KPx.good hP takeS_nil (by rw [e, List.length_append, List.length_singleton]; omega) M' (by rw [e]; exact q)⟩)
  · exact itn (by decide) (itn (by decide) (itn (by decide) (k_w1c0x (t := (0, κ)) h w2 hP)))
theorem c_leavesx {o own : Nat} {ws : List Wt} (h : KAx A W w c k br nq nk np nh nr this Ex a lo st kn M) (ho : 57 ≤ o ∧ o ≤ 59) (hws : ws = if o = 57 then [] else if o = 58 then [wNum] else [if (gmt (gc W c) k).2.2.1.1 = 1 ∨ (gmt (gc W c) k).2.2.1.1 = 2 then (0, (gmt (gc W c) k).2.2.1) else wRef])
    (how : own = if o = 57 then (if (gmt (gc W c) k).1 = nMake ∧ (unM lo || unM st) = true then 40 else if (gmt (gc W c) k).2.2.1.1 = -4 then 0 else 41) else if o = 58 then (if (gmt (gc W c) k).2.2.1.1 = 0 then 0 else 41) else (if (gmt (gc W c) k).2.2.1.1 = 1 ∨ (gmt (gc W c) k).2.2.1.1 = 2 then 0 else 41))
    (hP : KPx A W w c k br nq nk np nh nr this Ex a kn (if takeS W st ws ≠ 0 then .inl (takeS W st ws) else if own ≠ 0 then .inl own else .inr (lo, st)) Q) : w_Checker_leaves this (Int32.ofNat o) Q M := by
  have hR : takeS W st ws ≠ 0 → ∀ M', KZx A W w c k br nq nk np nh nr this Ex a (takeS W st ws) M' → Q 0 M' := fun z => by rw [if_pos z] at hP; exact hP
  have hX : takeS W st ws = 0 → own ≠ 0 → ∀ M', KZx A W w c k br nq nk np nh nr this Ex a own M' → Q 0 M' := fun z y => by rw [if_neg (by omega), if_pos y] at hP; exact hP
  have hG : takeS W st ws = 0 → own = 0 → Q 1 M := fun z y => by rw [if_neg (by omega), if_neg (by omega)] at hP; exact hP M h
  clear hP
  have hm := h.1.mlt
  have hla := h.1.la
  obtain ⟨e59, hko, hkd⟩ := h.1.hd.2.2.2.2.1
  generalize (gmt (gc W c) k).2.2.1 = κ at e59 hko hkd hws how
  have hκ : kwf A (co (gmt (gc W c) k)) κ := kwf_kd hkd hko
  have hκ2 : κ.1 = 0 ∨ κ.1 = 1 ∨ κ.1 = 2 ∨ κ.1 = -4 := by
    rcases hkd with q | q | q | q
    · rw [q]; exact Or.inl rfl
    · rw [q]; exact Or.inr (Or.inl rfl)
    · rw [q]; exact Or.inr (Or.inr (Or.inr rfl))
    · exact Or.inr (Or.inr (Or.inl q))
  unfold w_Checker_leaves
  refine ⟨w, h.1.r, ?_⟩
  rw [h.1.m6, oN_tnc (k := moff W c + k) (by omega), e59, h.1.ml (by omega) (by omega)]
  refine ⟨(vp_oN (by omega)).mpr hm, ?_⟩
  have br41 : (∀ M', KZx A W w c k br nq nk np nh nr this Ex a 41 M' → Q 0 M') → w_Checker_leaves_j124 this Q M := fun hX => by
    unfold w_Checker_leaves_j124
    exact h.brk (r := 41) (fun M' q => itp rfl (hX M' q))
  have key : ∀ b : Bool, b = decide (1 ≤ κ.1) → w_Checker_leaves_j23 this Q (Int32.ofNat o) (kC A κ) (b2 b) M := by
    intro b hb
    have h3 : o = 57 ∨ o = 58 ∨ o = 59 := by omega
    rcases h3 with e | e | e <;> subst e
    · rw [if_pos rfl] at hws how
      subst hws
      have hX := hX takeS_nil
      have hG := hG takeS_nil
      unfold w_Checker_leaves_j23 w_Checker_leaves_j40 w_Checker_leaves_j65
      refine itn (by decide) (itn (by decide) (itp rfl ?_))
      have fin : ¬ ((gmt (gc W c) k).1 = nMake ∧ (unM lo || unM st) = true) → w_Checker_leaves_j92 this Q (Int32.ofNat 57) (kC A κ) (b2 b) M := fun e => by
        rw [if_neg e] at how
        unfold w_Checker_leaves_j92
        refine itp rfl ?_
        by_cases c1 : κ.1 = -4
        · rw [if_pos c1] at how
          exact itp ((kC_eq (n := -4) hκ hla (by omega)).mpr c1) (hG how)
        · rw [if_neg c1] at how
          rw [how] at hX
          exact itn (fun q => c1 ((kC_eq (n := -4) hκ hla (by omega)).mp q)) (br41 (hX (by decide)))
      refine c_isMaker h.1 ?_
      by_cases c2 : (gmt (gc W c) k).1 = nMake
      · rw [decide_eq_true c2]
        refine itn (by decide) (c_hasUnmadex h ?_)
        cases c3 : (unM lo || unM st) with
        | true =>
          rw [if_pos ⟨c2, c3⟩] at how
          rw [how] at hX
          exact itn (by decide) (h.brk (r := 40) (fun M' q => ⟨Or.inl rfl, hX (by decide) M' q⟩))
        | false => exact itp rfl (fin (fun q => by rw [c3] at q; exact absurd q.2 (by decide)))
      · rw [decide_eq_false c2]
        exact itp rfl (fin (fun q => c2 q.1))
    · rw [if_neg (by decide), if_pos rfl] at hws how
      subst hws
      unfold w_Checker_leaves_j23 w_Checker_leaves_j40 w_Checker_leaves_j65 w_Checker_leaves_j92
      refine itp rfl (c_wants1x (t := wNum) h (Or.inl ⟨rfl, Or.inr ⟨rfl, Or.inl ⟨by decide, by decide⟩⟩, by decide⟩) (fun z M' q => itp rfl (hR z M' q)) (fun z y => ?_))
      have hX := hX z
      have hG := hG z
      refine itn (by decide) (itn (by decide) (itn (by decide) (itn (by decide) (itp rfl ?_))))
      by_cases c1 : κ.1 = 0
      · rw [if_pos c1] at how
        exact itp ((kC_eq (n := 0) hκ hla (by omega)).mpr c1) (hG how)
      · rw [if_neg c1] at how
        rw [how] at hX
        exact itn (fun q => c1 ((kC_eq (n := 0) hκ hla (by omega)).mp q)) (br41 (hX (by decide)))
    · rw [if_neg (by decide), if_neg (by decide)] at hws how
      unfold w_Checker_leaves_j23 w_Checker_leaves_j40
      refine itn (by decide) (itp rfl ?_)
      have step : ∀ t, (if κ.1 = 1 ∨ κ.1 = 2 then (0, κ) else wRef) = t → wok A (co (gmt (gc W c) k)) t → w_Checker_leaves_j57 this Q (Int32.ofNat 59) (kC A κ) (b2 b) (wvN A t) M := fun t et ht => by
        rw [et] at hws
        subst hws
        unfold w_Checker_leaves_j57 w_Checker_leaves_j65 w_Checker_leaves_j92
        refine c_wants1x h ht (fun z M' q => itp rfl (hR z M' q)) (fun z y => ?_)
        have hX := hX z
        have hG := hG z
        refine itn (by decide) (itn (by decide) (itn (by decide) (itn (by decide) ?_)))
        by_cases c1 : κ.1 = 1 ∨ κ.1 = 2
        · rw [if_pos c1] at how
          rw [decide_eq_true (by omega)] at hb
          rw [hb]
          exact itn (by decide) (hG how)
        · rw [if_neg c1] at how
          rw [decide_eq_false (by omega)] at hb
          rw [how] at hX
          rw [hb]
          exact itp rfl (br41 (hX (by decide)))
      by_cases c1 : 1 ≤ κ.1
      · have c2 : κ.1 = 1 ∨ κ.1 = 2 := by omega
        have eb : b = true := by rw [hb]; exact decide_eq_true c1
        have := step (0, κ) (by rw [if_pos c2]) (Or.inl ⟨rfl, hκ, by show 0 ≤ κ.1; omega⟩)
        rw [eb] at this ⊢
        exact itn (by decide) this
      · have eb : b = false := by rw [hb]; exact decide_eq_false c1
        have := step wRef (by rw [if_neg (by omega)]) (Or.inr (Or.inl rfl))
        rw [eb] at this ⊢
        exact itp rfl this
  by_cases c1 : 1 ≤ κ.1
  · exact itn (fun q => by
      have := (kC_ge (n := 1) hκ hla (by omega)).mpr c1
      rw [Int32.lt_iff_toInt_lt] at q
      rw [Int32.le_iff_toInt_le] at this
      have e1 : (Int32.ofInt 1) = (1 : Int32) := rfl
      rw [e1] at this
      omega) (key true (by rw [decide_eq_true c1]))
  · exact itp (by
      have : ¬ Int32.ofInt 1 ≤ kC A κ := fun q => c1 ((kC_ge (n := 1) hκ hla (by omega)).mp q)
      rw [Int32.lt_iff_toInt_lt]
      rw [Int32.le_iff_toInt_le] at this
      have e1 : (Int32.ofInt 1) = (1 : Int32) := rfl
      rw [e1] at this
      omega) (key false (by rw [decide_eq_false c1]))
theorem c_changex {κ0 κ1 : Kd} {Q : Mem → Prop} (h : KAx A W w c k br nq nk np nh nr this Ex a lo st kn M) (h0 : kwf A (co (gmt (gc W c) k)) κ0) (h1 : kwf A (co (gmt (gc W c) k)) κ1) (hQ : ∀ M', KAx A W w c k br nq nk np nh nr this Ex a (lo.map (fun κ => if κ = κ0 then κ1 else κ)) (st.map (fun κ => if κ = κ0 then κ1 else κ)) kn M' → Q M') : w_Checker_change this (kC A κ0) (kC A κ1) Q M := by
  have hA := h.1.la
  have hsr := h.1.sr.2
  have hlr := h.1.lr.2
  have hm := h.1.mlt
  have loop2 : ∀ n j (s : List Kd) M, KAx A W w c k br nq nk np nh nr this Ex a (lo.map (fun κ => if κ = κ0 then κ1 else κ)) s kn M → st.length - j < n → j ≤ st.length → s.length = st.length → (∀ i, i < st.length → gk s i = if i < j then (if gk st i = κ0 then κ1 else gk st i) else gk st i) → w_Checker_change_L52 this Q n (kC A κ0) (kC A κ1) (Int32.ofNat j) M := by
    intro n
    induction n with
    | zero => intro j s M _ hn; exact absurd hn (by omega)
    | succ n ih =>
      intro j s M hS hn hj hl hs
      have hh := hS.ht
      unfold w_Checker_change_L52 w_Checker_change_j85
      rw [hh.1]
      by_cases cj : st.length ≤ j
      · refine itp (le_oN (by omega) (by omega)) (hQ _ ?_)
        rw [← map_ext (l := st) (l' := s) hl (fun i hi => by rw [hs i hi, if_pos (by omega)])]
        exact hS
      obtain ⟨s1, s2⟩ := hS.2.1.2.2.1.1 j (by omega)
      have ej := hs j (by omega)
      rw [if_neg (by omega)] at ej
      rw [ej] at s1 s2
      rw [oN_tnc (by omega), s1, hS.2.1.1.2]
      refine itn (nle_oN (by omega) (by omega)) ⟨(vp_oN (by omega)).mpr (by omega), ?_⟩
      have step : ∀ κ, kwf A (co (gmt (gc W c) k)) κ → κ = (if gk st j = κ0 then κ1 else gk st j) → w_Checker_change_L52 this Q n (kC A κ0) (kC A κ1) (Int32.ofNat j + 1) (sI M 32 this j (kC A κ)) := fun κ hκ eκ => by
        rw [show Int32.ofNat j + (1 : Int32) = Int32.ofNat (j + 1) from oN_add j 1]
        refine ih (j + 1) (s.set j κ) _ (hS.re (Fr.wIa rfl rfl (Fr.rf _ _)) (by rw [List.length_set]) (fun i hi => ?_)) (by omega) (by omega) (by rw [List.length_set]; exact hl) (fun i hi => ?_)
        · rw [List.length_set] at hi
          rw [gk_set (by omega)]
          by_cases e : i = j
          · rw [if_pos e, e]
            exact ⟨by simp only [mI_sI, mI_sR, mI_sJ, mR_sI, mL_sI, mL_sR, mR_sR, Nat.reduceEqDiff, and_false, false_and, if_false, and_self, true_and, and_true, if_true], hκ⟩
          · rw [if_neg e, mI_sI, if_neg (fun q => e q.2.2)]
            exact hS.2.1.2.2.1.1 i hi
        · rw [gk_set (by omega)]
          by_cases e : i = j
          · rw [if_pos e, if_pos (by omega), e]; exact eκ
          · rw [if_neg e, hs i hi]
            by_cases e2 : i < j
            · rw [if_pos e2, if_pos (c := i < j + 1) (by omega)]
            · rw [if_neg e2, if_neg (c := i < j + 1) (by omega)]
      by_cases c1 : gk st j = κ0
      · refine itp (by rw [c1]) ⟨(vp_oN (by omega)).mpr (by omega), step κ1 h1 (by rw [if_pos c1])⟩
      · refine itn (fun q => c1 ((kC_inw s2 h0 hA).mp q)) ⟨(vp_oN (by omega)).mpr (by omega), (vp_oN (by omega)).mpr (by omega), step (gk st j) s2 (by rw [if_neg c1])⟩
  have hll : lo.length = lr (gmt (gc W c) k) := h.2.1.2.1.2
  have loop1 : ∀ n j (s : List Kd) M, KAx A W w c k br nq nk np nh nr this Ex a s st kn M → lo.length - j < n → j ≤ lo.length → s.length = lo.length → (∀ i, i < lo.length → gk s i = if i < j then (if gk lo i = κ0 then κ1 else gk lo i) else gk lo i) → w_Checker_change_L2 this Q n (kC A κ0) (kC A κ1) (Int32.ofNat j) M := by
    intro n
    induction n with
    | zero => intro j s M _ hn; exact absurd hn (by omega)
    | succ n ih =>
      intro j s M hS hn hj hl hs
      unfold w_Checker_change_L2 w_Checker_change_j43
      refine ⟨w, hS.1.r, ?_⟩
      rw [hS.1.m6, oN_tnc (k := moff W c + k) (by omega), hS.1.lr.1, hS.1.ml (by omega) (by omega)]
      refine ⟨(vp_oN (by omega)).mpr hm, ?_⟩
      by_cases cj : lo.length ≤ j
      · refine itp (le_oN (by omega) (by omega)) ⟨st.length + 1, loop2 _ 0 st M ?_ (by omega) (by omega) rfl (fun i hi => by rw [if_neg (by omega)])⟩
        rw [← map_ext (l := lo) (l' := s) hl (fun i hi => by rw [hs i hi, if_pos (by omega)])]
        exact hS
      obtain ⟨s1, s2⟩ := hS.2.1.2.1.1 j (by omega)
      have ej := hs j (by omega)
      rw [if_neg (by omega)] at ej
      rw [ej] at s1 s2
      rw [oN_tnc (by omega), s1, hS.2.1.1.1]
      refine itn (nle_oN (by omega) (by omega)) ⟨(vp_oN (by omega)).mpr (by omega), ?_⟩
      have step : ∀ κ, kwf A (co (gmt (gc W c) k)) κ → κ = (if gk lo j = κ0 then κ1 else gk lo j) → w_Checker_change_L2 this Q n (kC A κ0) (kC A κ1) (Int32.ofNat j + 1) (sI M 31 this j (kC A κ)) := fun κ hκ eκ => by
        rw [show Int32.ofNat j + (1 : Int32) = Int32.ofNat (j + 1) from oN_add j 1]
        refine ih (j + 1) (s.set j κ) _ (hS.reL (Fr.wIa rfl rfl (Fr.rf _ _)) (by rw [List.length_set]) (fun i hi => ?_)) (by omega) (by omega) (by rw [List.length_set]; exact hl) (fun i hi => ?_)
        · rw [List.length_set] at hi
          rw [gk_set (by omega)]
          by_cases e : i = j
          · rw [if_pos e, e]
            exact ⟨by simp only [mI_sI, mI_sR, mI_sJ, mR_sI, mL_sI, mL_sR, mR_sR, Nat.reduceEqDiff, and_false, false_and, if_false, and_self, true_and, and_true, if_true], hκ⟩
          · rw [if_neg e, mI_sI, if_neg (fun q => e q.2.2)]
            exact hS.2.1.2.1.1 i hi
        · rw [gk_set (by omega)]
          by_cases e : i = j
          · rw [if_pos e, if_pos (by omega), e]; exact eκ
          · rw [if_neg e, hs i hi]
            by_cases e2 : i < j
            · rw [if_pos e2, if_pos (c := i < j + 1) (by omega)]
            · rw [if_neg e2, if_neg (c := i < j + 1) (by omega)]
      by_cases c1 : gk lo j = κ0
      · refine itp (by rw [c1]) ⟨(vp_oN (by omega)).mpr (by omega), step κ1 h1 (by rw [if_pos c1])⟩
      · refine itn (fun q => c1 ((kC_inw s2 h0 hA).mp q)) ⟨(vp_oN (by omega)).mpr (by omega), (vp_oN (by omega)).mpr (by omega), step (gk lo j) s2 (by rw [if_neg c1])⟩
  unfold w_Checker_change
  exact ⟨lo.length + 1, loop1 _ 0 lo M h (by omega) (by omega) rfl (fun i hi => by rw [if_neg (by omega)])⟩
end
