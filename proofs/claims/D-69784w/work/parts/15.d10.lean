/-! B: the works' checker: calls -/
/-- an instruction's work: the rule it breaks, or locals and stack behind it -/
def actS (W : List Cls) (c : Nat) (x : Mth) (i : Ins) (a : Nat) (lo st : List Kd) : Nat ⊕ (List Kd × List Kd) :=
  if takenS W c x i lo st ≠ 0 then .inl (takenS W c x i lo st) else if ownS W c x i lo st ≠ 0 then .inl (ownS W c x i lo st)
  else if sr x < (stS W c x i a lo st).length then .inl 30
  else if (i.1 = 5 ∨ i.1 = 6 ∨ isMk i) ∧ handS W x (loS W c i lo st) a (hs x) ≠ 0 then .inl (handS W x (loS W c i lo st) a (hs x))
  else .inr (loS W c i lo st, stS W c x i a lo st)
theorem takenS_w {W : List Cls} {c : Nat} {x : Mth} {i : Ins} {lo st : List Kd} (h : ¬ (3 ≤ i.1 ∧ i.1 ≤ 7)) : takenS W c x i lo st = takeS W st (wlist W c x i) := by
  unfold takenS
  rw [if_neg (fun q => h q.1)]
  by_cases e : takeS W st (wlist W c x i) = 0
  · rw [if_neg (by omega), if_neg (by
      rintro (q | q)
      · omega
      · omega), e]
  · rw [if_pos e]
theorem actS_wc {W : List Cls} {c : Nat} {x : Mth} {i : Ins} {a : Nat} {lo st : List Kd} (h : ¬ (3 ≤ i.1 ∧ i.1 ≤ 7)) (hlv : ¬ (57 ≤ i.1 ∧ i.1 ≤ 59)) (hm : ¬ isMk i) : actS W c x i a lo st = wcS W x lo st (wlist W c x i) (ownS W c x i lo st) (pushS i a lo st) := by
  unfold actS wcS
  rw [takenS_w h]
  have e1 : loS W c i lo st = lo := by unfold loS; rw [if_neg (by omega), if_neg (by omega), if_neg hm]
  have e2 : stS W c x i a lo st = st.take (st.length - (wlist W c x i).length) ++ pushS i a lo st := by unfold stS restS; rw [if_neg hlv, if_neg hm]
  rw [e1, e2, if_neg (c := (i.1 = 5 ∨ i.1 = 6 ∨ isMk i) ∧ _) (fun q => by
    rcases q.1 with q | q | q
    · omega
    · omega
    · exact hm q)]
section
variable {A : List Nm} {W : List Cls} {w c k this : Nat} {br : Int32} {nq nk np nh nr a : Nat} {lo st : List Kd} {kn : Bool} {M M' : Mem} {Q : Int32 → Mem → Prop}
theorem KE.up (h : KE A W w c k br nq nk np nh nr this M) : upN W c ≠ [] := by
  unfold upN
  split
  · decide
  · exact h.2.2.2.2.2
theorem c_isNear {nm : Nm} (h : KE A W w c k br nq nk np nh nr this M) (hn : nm ∈ A) (hQ : Q (b2 (near W c nm)) M) : w_Checker_isNear this (nc A nm) Q M := by
  have hl := h.lc
  have hA := h.la
  have hc := h.cl.1.2 c hl.1
  have hf := (h.cl.2.2 c hl.1).2.1
  have inj : ∀ {x y : Nm}, x ∈ A → y ∈ A → (nc A x = nc A y ↔ x = y) := fun hx hy => nc_inj (by omega) hx hy
  have loop : ∀ n j (b : Bool), (gc W c).2.2.1.length - j < n → j ≤ (gc W c).2.2.1.length → (b || ((gc W c).2.2.1.drop j).any (fun f => decide (f = nm))) = near W c nm → w_Checker_isNear_L39 this Q n (nc A nm) (b2 b) (Int32.ofNat j) M := by
    intro n
    induction n with
    | zero => intro j b hn; exact absurd hn (by omega)
    | succ n ih =>
      intro j b hn' hj he
      unfold w_Checker_isNear_L39 w_Checker_isNear_j81
      refine ⟨w, h.r, ?_⟩
      rw [h.c5, oN_tnc (k := c) (by omega), hf.1, h.cl.2.1.2.2.1]
      refine ⟨(vp_oN (by omega)).mpr (by omega), ?_⟩
      by_cases cj : (gc W c).2.2.1.length ≤ j
      · refine itp (le_oN cj (by omega)) ⟨by cases b <;> simp [b2], ?_⟩
        rw [List.drop_eq_nil_of_le cj] at he
        rw [← he] at hQ
        simpa using hQ
      obtain ⟨f1, f2⟩ := hf.2.2 j (by omega)
      refine itn (nle_oN (by omega) (by omega)) ⟨w, h.r, ?_⟩
      rw [show (4 : Int32) * Int32.ofNat c = Int32.ofNat (4 * c) from oN_mul 4 c, oN_add, oN_tnc (by omega), f1, h.cl.2.1.2.1]
      refine ⟨(vp_oN (by omega)).mpr (by omega), ?_⟩
      have ed : (gc W c).2.2.1.drop j = gf (gc W c) j :: (gc W c).2.2.1.drop (j + 1) := by
        rw [List.drop_eq_getElem_cons (by omega)]
        congr 1
        show _ = (gc W c).2.2.1.getD j _
        rw [List.getD_eq_getElem?_getD, List.getElem?_eq_getElem (by omega)]; rfl
      rw [ed, List.any_cons, ← Bool.or_assoc] at he
      rw [show Int32.ofNat j + (1 : Int32) = Int32.ofNat (j + 1) from oN_add j 1]
      by_cases c1 : gf (gc W c) j = nm
      · rw [decide_eq_true c1] at he
        refine itp (by rw [c1]) ?_
        rw [show b2 b ||| (1 : Int32) = b2 (b || true) from b2_or b true]
        exact ih _ _ (by omega) (by omega) he
      · rw [decide_eq_false c1] at he
        refine itn (fun q => c1 ((inj f2 hn).mp q)) ?_
        rw [show b2 b ||| (0 : Int32) = b2 (b || false) from b2_or b false]
        exact ih _ _ (by omega) (by omega) he
  have anyf : ((gc W c).2.2.1.any (fun f => decide (f = nm))) = decide (nm ∈ (gc W c).2.2.1) := by
    by_cases q : nm ∈ (gc W c).2.2.1
    · rw [decide_eq_true q]; exact List.any_eq_true.mpr ⟨nm, q, decide_eq_true rfl⟩
    · rw [decide_eq_false q]
      cases z : (gc W c).2.2.1.any (fun f => decide (f = nm)) with
      | false => rfl
      | true =>
        obtain ⟨f, hf', e⟩ := List.any_eq_true.mp z
        exact absurd (of_decide_eq_true e ▸ hf') q
  have start : ∀ b : Bool, b = decide (nm = (gc W c).1 ∨ nm = upN W c) → w_Checker_isNear_j36 this Q (nc A nm) (b2 b) M := fun b hb => by
    unfold w_Checker_isNear_j36
    refine ⟨(gc W c).2.2.1.length + 1, loop _ 0 b (by omega) (by omega) ?_⟩
    rw [List.drop_zero, anyf, hb]
    unfold near
    by_cases q1 : nm = (gc W c).1 ∨ nm = upN W c
    · rw [decide_eq_true q1, decide_eq_true (Or.inl q1)]; rfl
    · rw [decide_eq_false q1]
      by_cases q2 : nm ∈ (gc W c).2.2.1
      · rw [decide_eq_true q2, decide_eq_true (Or.inr q2)]; rfl
      · rw [decide_eq_false q2, decide_eq_false (fun z => z.elim q1 q2)]; rfl
  unfold w_Checker_isNear w_Checker_isNear_j31
  refine ⟨w, h.r, ?_⟩
  rw [h.c5, oN_tnc (k := c) (by omega), h.cl.1.1.2.1, hc.1]
  refine ⟨(vp_oN (by omega)).mpr (by omega), ?_⟩
  by_cases c1 : nm = (gc W c).1
  · exact itp (by rw [c1]) (start true (by rw [decide_eq_true (Or.inl c1)]))
  · refine itn (fun q => c1 ((inj hn hc.2).mp q)) ⟨w, h.r, c_upName h.cl h.na hl.1 (fun v _ hv => ?_)⟩
    obtain ⟨ev, hm⟩ := hv h.up
    rw [ev]
    by_cases c2 : nm = upN W c
    · exact itp (by rw [c2]) (start true (by rw [decide_eq_true (Or.inr c2)]))
    · exact itn (fun q => c2 ((inj hn hm).mp q)) (start false (by rw [decide_eq_false (fun z => z.elim c1 c2)]))
theorem c_makesRight {nm : Nm} {κ : Kd} (h : KE A W w c k br nq nk np nh nr this M) (hn : nm ∈ A) (hκ : kwf A (co (gmt (gc W c) k)) κ) (hQ : Q (b2 (mkRight W c (gmt (gc W c) k) κ nm)) M) : w_Checker_makesRight this (kC A κ) (nc A nm) Q M := by
  have hl := h.lc
  have hA := h.la
  have hc := h.cl.1.2 c hl.1
  have inj : ∀ {x y : Nm}, x ∈ A → y ∈ A → (nc A x = nc A y ↔ x = y) := fun hx hy => nc_inj (by omega) hx hy
  unfold w_Checker_makesRight
  unfold mkRight at hQ
  by_cases c1 : κ.1 = -3
  · rw [if_pos c1] at hQ
    refine itp ((kC_eq (n := -3) hκ hA (by omega)).mpr c1) ?_
    refine ⟨w, h.r, ?_⟩
    rw [h.c5, oN_tnc (k := c) (by omega), h.cl.1.1.2.1, hc.1]
    refine ⟨(vp_oN (by omega)).mpr (by omega), ?_⟩
    by_cases c2 : nm = (gc W c).1
    · rw [decide_eq_true (Or.inl c2)] at hQ
      exact itp (by rw [c2]) hQ
    · refine itn (fun q => c2 ((inj hn hc.2).mp q)) ⟨w, h.r, c_upName h.cl h.na hl.1 (fun v _ hv => ?_)⟩
      obtain ⟨ev, hm⟩ := hv h.up
      rw [ev]
      by_cases c3 : nm = upN W c
      · rw [decide_eq_true (Or.inr c3)] at hQ
        exact itp (by rw [c3]) hQ
      · rw [decide_eq_false (fun z => z.elim c2 c3)] at hQ
        exact itn (fun q => c3 ((inj hn hm).mp q)) hQ
  · rw [if_neg c1] at hQ
    refine itn (fun q => c1 ((kC_eq (n := -3) hκ hA (by omega)).mp q)) ?_
    by_cases c2 : κ.1 ≤ -10
    · rw [if_pos c2] at hQ
      refine itn (fun q => absurd ((kC_g10 hκ hA trivial).mp q) (by omega)) ?_
      rcases hκ with ⟨e, -⟩ | ⟨e2, hκ⟩
      · omega
      rcases hκ with q | ⟨j, ej, hj, hj80, h41⟩
      · omega
      obtain ⟨q0, h0, ⟨a1, a2, a3, a4, a5, a6, a7, a8⟩, hI, hH⟩ := h.mc
      have hb := h.kb
      have hL := L_le w
      unfold KB at hb
      obtain ⟨hi, hq, -⟩ := h.ins a1 (by omega) hj
      have hm := h.mlt
      have ek : Int32.ofNat q0 + (-10 : Int32) - kC A κ = Int32.ofNat (q0 + j) := by
        unfold kC
        rw [if_neg (by omega), ej]
        have e1 : Int32.ofInt (-10 - (j : Int)) = (-10 : Int32) - Int32.ofNat j := by
          rw [Int32.ofInt_sub]; rfl
        rw [e1, ← oN_add]
        generalize Int32.ofNat q0 = x
        generalize Int32.ofNat j = y
        generalize (-10 : Int32) = z
        rw [Int32.sub_eq_add_neg, Int32.sub_eq_add_neg, Int32.neg_add, Int32.sub_eq_add_neg, Int32.neg_neg, Int32.add_assoc, ← Int32.add_assoc z, ← Int32.sub_eq_add_neg z, Int32.sub_self, Int32.zero_add]
      have ej2 : (-10 - κ.1).toNat = j := by rw [ej]; omega
      refine ⟨w, h.r, w, h.r, ?_⟩
      rw [h.m6, oN_tnc (by omega), a1, ek, oN_tnc (by omega)]
      obtain ⟨pf, hop, -⟩ := hi.2.1
      have hop := hop.1
      unfold cOp0 at hop
      rw [h41, if_pos (Or.inl rfl)] at hop
      rw [hop.1]
      refine ⟨by rw [h.ml (by omega) (by omega)]; exact (vp_oN (by omega)).mpr hm, by rw [h.rm.1 67 (by omega) (by omega)]; exact (vp_oN (by omega)).mpr hq, ?_⟩
      rw [ej2] at hQ
      by_cases c3 : iK (gin (co (gmt (gc W c) k)) j) = nm
      · rw [decide_eq_true c3] at hQ
        exact itp (by rw [← c3]; rfl) hQ
      · rw [decide_eq_false c3] at hQ
        exact itn (fun q => c3 ((inj hop.2 hn).mp q)) hQ
    · rw [if_neg c2] at hQ
      exact itp ((kC_g10 hκ hA trivial).mpr (by omega)) hQ
theorem map_ext {l l' : List Kd} {f : Kd → Kd} (hl : l'.length = l.length) (h : ∀ i, i < l.length → gk l' i = f (gk l i)) : l' = l.map f := by
  refine List.ext_getElem (by rw [List.length_map, hl]) (fun i h1 h2 => ?_)
  rw [List.getElem_map]
  have := h i (by omega)
  simp only [List.getD_eq_getElem?_getD] at this
  rw [List.getElem?_eq_getElem h1, List.getElem?_eq_getElem (by omega)] at this
  exact this
theorem c_change {κ0 κ1 : Kd} {Q : Mem → Prop} (h : KA A W w c k br nq nk np nh nr this a lo st kn M) (h0 : kwf A (co (gmt (gc W c) k)) κ0) (h1 : kwf A (co (gmt (gc W c) k)) κ1) (hQ : ∀ M', KA A W w c k br nq nk np nh nr this a (lo.map (fun κ => if κ = κ0 then κ1 else κ)) (st.map (fun κ => if κ = κ0 then κ1 else κ)) kn M' → Q M') : w_Checker_change this (kC A κ0) (kC A κ1) Q M := by
  have hA := h.1.la
  have hsr := h.1.sr.2
  have hlr := h.1.lr.2
  have hm := h.1.mlt
  have loop2 : ∀ n j (s : List Kd) M, KA A W w c k br nq nk np nh nr this a (lo.map (fun κ => if κ = κ0 then κ1 else κ)) s kn M → st.length - j < n → j ≤ st.length → s.length = st.length → (∀ i, i < st.length → gk s i = if i < j then (if gk st i = κ0 then κ1 else gk st i) else gk st i) → w_Checker_change_L52 this Q n (kC A κ0) (kC A κ1) (Int32.ofNat j) M := by
    intro n
    induction n with
    | zero => intro j s M _ hn; exact absurd hn (by omega)
    | succ n ih =>
      intro j s M hS hn hj hl hs
      have hh := hS.ht
      unfold w_Checker_change_L52 w_Checker_change_j85
      rw [hh.1]
      by_cases cj : st.length ≤ j
      · refine itp (le_oN (by omega) (by omega)) (hQ _ ?_)
        rw [← map_ext (l := st) (l' := s) hl (fun i hi => by rw [hs i hi, if_pos (by omega)])]
        exact hS
      obtain ⟨s1, s2⟩ := hS.2.1.2.2.1.1 j (by omega)
      have ej := hs j (by omega)
      rw [if_neg (by omega)] at ej
      rw [ej] at s1 s2
      rw [oN_tnc (by omega), s1, hS.2.1.1.2]
      refine itn (nle_oN (by omega) (by omega)) ⟨(vp_oN (by omega)).mpr (by omega), ?_⟩
      have step : ∀ κ, kwf A (co (gmt (gc W c) k)) κ → κ = (if gk st j = κ0 then κ1 else gk st j) → w_Checker_change_L52 this Q n (kC A κ0) (kC A κ1) (Int32.ofNat j + 1) (sI M 32 this j (kC A κ)) := fun κ hκ eκ => by
        rw [show Int32.ofNat j + (1 : Int32) = Int32.ofNat (j + 1) from oN_add j 1]
        refine ih (j + 1) (s.set j κ) _ (hS.re (Fr.wIa rfl rfl (Fr.rf _ _)) (by rw [List.length_set]) (fun i hi => ?_)) (by omega) (by omega) (by rw [List.length_set]; exact hl) (fun i hi => ?_)
        · rw [List.length_set] at hi
          rw [gk_set (by omega)]
          by_cases e : i = j
          · rw [if_pos e, e]
            exact ⟨by simp only [mI_sI, mI_sR, mI_sJ, mR_sI, mL_sI, mL_sR, mR_sR, Nat.reduceEqDiff, and_false, false_and, if_false, and_self, true_and, and_true, if_true], hκ⟩
          · rw [if_neg e, mI_sI, if_neg (fun q => e q.2.2)]
            exact hS.2.1.2.2.1.1 i hi
        · rw [gk_set (by omega)]
          by_cases e : i = j
          · rw [if_pos e, if_pos (by omega), e]; exact eκ
          · rw [if_neg e, hs i hi]
            by_cases e2 : i < j
            · rw [if_pos e2, if_pos (c := i < j + 1) (by omega)]
            · rw [if_neg e2, if_neg (c := i < j + 1) (by omega)]
      by_cases c1 : gk st j = κ0
      · refine itp (by rw [c1]) ⟨(vp_oN (by omega)).mpr (by omega), step κ1 h1 (by rw [if_pos c1])⟩
      · refine itn (fun q => c1 ((kC_inw s2 h0 hA).mp q)) ⟨(vp_oN (by omega)).mpr (by omega), (vp_oN (by omega)).mpr (by omega), step (gk st j) s2 (by rw [if_neg c1])⟩
  have hll : lo.length = lr (gmt (gc W c) k) := h.2.1.2.1.2
  have loop1 : ∀ n j (s : List Kd) M, KA A W w c k br nq nk np nh nr this a s st kn M → lo.length - j < n → j ≤ lo.length → s.length = lo.length → (∀ i, i < lo.length → gk s i = if i < j then (if gk lo i = κ0 then κ1 else gk lo i) else gk lo i) → w_Checker_change_L2 this Q n (kC A κ0) (kC A κ1) (Int32.ofNat j) M := by
    intro n
    induction n with
    | zero => intro j s M _ hn; exact absurd hn (by omega)
    | succ n ih =>
      intro j s M hS hn hj hl hs
      unfold w_Checker_change_L2 w_Checker_change_j43
      refine ⟨w, hS.1.r, ?_⟩
      rw [hS.1.m6, oN_tnc (k := moff W c + k) (by omega), hS.1.lr.1, hS.1.ml (by omega) (by omega)]
      refine ⟨(vp_oN (by omega)).mpr hm, ?_⟩
      by_cases cj : lo.length ≤ j
      · refine itp (le_oN (by omega) (by omega)) ⟨st.length + 1, loop2 _ 0 st M ?_ (by omega) (by omega) rfl (fun i hi => by rw [if_neg (by omega)])⟩
        rw [← map_ext (l := lo) (l' := s) hl (fun i hi => by rw [hs i hi, if_pos (by omega)])]
        exact hS
      obtain ⟨s1, s2⟩ := hS.2.1.2.1.1 j (by omega)
      have ej := hs j (by omega)
      rw [if_neg (by omega)] at ej
      rw [ej] at s1 s2
      rw [oN_tnc (by omega), s1, hS.2.1.1.1]
      refine itn (nle_oN (by omega) (by omega)) ⟨(vp_oN (by omega)).mpr (by omega), ?_⟩
      have step : ∀ κ, kwf A (co (gmt (gc W c) k)) κ → κ = (if gk lo j = κ0 then κ1 else gk lo j) → w_Checker_change_L2 this Q n (kC A κ0) (kC A κ1) (Int32.ofNat j + 1) (sI M 31 this j (kC A κ)) := fun κ hκ eκ => by
        rw [show Int32.ofNat j + (1 : Int32) = Int32.ofNat (j + 1) from oN_add j 1]
        refine ih (j + 1) (s.set j κ) _ (hS.reL (Fr.wIa rfl rfl (Fr.rf _ _)) (by rw [List.length_set]) (fun i hi => ?_)) (by omega) (by omega) (by rw [List.length_set]; exact hl) (fun i hi => ?_)
        · rw [List.length_set] at hi
          rw [gk_set (by omega)]
          by_cases e : i = j
          · rw [if_pos e, e]
            exact ⟨by simp only [mI_sI, mI_sR, mI_sJ, mR_sI, mL_sI, mL_sR, mR_sR, Nat.reduceEqDiff, and_false, false_and, if_false, and_self, true_and, and_true, if_true], hκ⟩
          · rw [if_neg e, mI_sI, if_neg (fun q => e q.2.2)]
            exact hS.2.1.2.1.1 i hi
        · rw [gk_set (by omega)]
          by_cases e : i = j
          · rw [if_pos e, if_pos (by omega), e]; exact eκ
          · rw [if_neg e, hs i hi]
            by_cases e2 : i < j
            · rw [if_pos e2, if_pos (c := i < j + 1) (by omega)]
            · rw [if_neg e2, if_neg (c := i < j + 1) (by omega)]
      by_cases c1 : gk lo j = κ0
      · refine itp (by rw [c1]) ⟨(vp_oN (by omega)).mpr (by omega), step κ1 h1 (by rw [if_pos c1])⟩
      · refine itn (fun q => c1 ((kC_inw s2 h0 hA).mp q)) ⟨(vp_oN (by omega)).mpr (by omega), (vp_oN (by omega)).mpr (by omega), step (gk lo j) s2 (by rw [if_neg c1])⟩
  unfold w_Checker_change
  exact ⟨lo.length + 1, loop1 _ 0 lo M h (by omega) (by omega) rfl (fun i hi => by rw [if_neg (by omega)])⟩
end
