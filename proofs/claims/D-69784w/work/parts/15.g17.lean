/-! THE MACHINE IN THE WORKS: choosing; simple instructions (printed by gen/sm.py) -/
theorem lg_lt {x y : Int64} : lg_cmp x y < 0 ↔ x.toInt < y.toInt := by
  unfold lg_cmp
  by_cases h1 : x > y
  · rw [if_pos h1]; rw [gt_iff_lt, Int64.lt_iff_toInt_lt] at h1
    exact ⟨fun h => absurd h (by decide), fun h => absurd h (by omega)⟩
  · rw [if_neg h1]; rw [gt_iff_lt, Int64.lt_iff_toInt_lt] at h1
    by_cases h2 : x = y
    · rw [if_pos h2, h2]; exact ⟨fun h => absurd h (by decide), fun h => absurd h (by omega)⟩
    · rw [if_neg h2]
      have : x.toInt ≠ y.toInt := fun q => h2 (Int64.toInt_inj.mp q)
      exact ⟨fun _ => by omega, fun _ => by decide⟩
theorem lg_ge {x y : Int64} : 0 ≤ lg_cmp x y ↔ y.toInt ≤ x.toInt := by
  unfold lg_cmp
  by_cases h1 : x > y
  · rw [if_pos h1]; rw [gt_iff_lt, Int64.lt_iff_toInt_lt] at h1
    exact ⟨fun _ => by omega, fun _ => by decide⟩
  · rw [if_neg h1]; rw [gt_iff_lt, Int64.lt_iff_toInt_lt] at h1
    by_cases h2 : x = y
    · rw [if_pos h2, h2]; exact ⟨fun _ => Int.le_refl _, fun _ => by decide⟩
    · rw [if_neg h2]
      have : x.toInt ≠ y.toInt := fun q => h2 (Int64.toInt_inj.mp q)
      exact ⟨fun h => absurd h (by decide), fun h => absurd h (by omega)⟩
theorem sub64 {y a : Int32} : (y.toInt64 - a.toInt64).toInt = y.toInt - a.toInt := by
  rw [Int64.toInt_sub, Int32.toInt_toInt64, Int32.toInt_toInt64]
  have h1 := y.toInt_lt
  have h2 := y.le_toInt
  have h3 := a.toInt_lt
  have h4 := a.le_toInt
  exact Int.bmod_eq_of_le (by omega) (by omega)
theorem sub32 {y a : Int32} {n : Nat} (h : y.toInt - a.toInt = n) (hn : n < 1000000) : (y.toInt64 - a.toInt64).toInt32 = Int32.ofNat n := by
  rw [← Int32.toInt_inj, Int64.toInt_toInt32, sub64, h, oN_toInt (by omega)]
  exact Int.bmod_eq_of_le (by omega) (by omega)
section
variable {A : List Nm} {W : List Cls} {w C B F t : Nat} {br : Int32} {nq nk np nh nr : Nat} {s : Ms} {M M2 : Mem} {U : List Un} {c j a qi : Nat} {lo st lo' st' : List Vl} {q : Nat × Nat} {i : Ins} {Q : Mem → Prop}
theorem j_40 (hK : KB w nq nk np nh nr) (h : RI A W w br nq nk np nh nr C B F t s c j a lo st U M) (hA : At W s t c j a lo st U i) (ho : i.1 = 40) (hI : cFi A w nk np nr qi i M) (hqi : qi < L6 w) (hQ : ∀ M', RM A W w br nq nk np nh nr C B F t (doS W t s c j a lo st U i q) (gU (doS W t s c j a lo st U i q) t) M' → Q M') : w_Machine_jump w (Int32.ofNat U.length) (Int32.ofNat qi) (Int32.ofNat 40) (Int32.ofNat (a + 1)) Q M := by
  have hLb := L_le w
  obtain ⟨tl, -⟩ := hA.tk (ws := [wNum]) (by obtain ⟨o, r⟩ := i; have ho : o = 40 := ho; subst ho; rfl)
  have hs : 1 ≤ st.length := by
    have := hA.in.1.2.1
    have tl : 1 ≤ (k2 W c j a).length := tl
    omega
  have e : doS W t s c j a lo st U i q = sU s t (.inl (c, j, gtn (iT i) (pickN (iV i) (tv st 0).1 (iT i).length), lo, drp st 1) :: U) := (by obtain ⟨o, r⟩ := i; have ho : o = 40 := ho; subst ho; rfl)
  rw [e, gU_in] at hQ
  have hn : (iT i).length ≠ 0 := hA.in.2.2.2.2.2.1.2.1 ho
  obtain ⟨pf, hop, hpk⟩ := hI.2.1
  obtain ⟨hp1, hp2⟩ := hpk ho
  have hp1 : pf + (iT i).length ≤ np := hp1
  have hop : mI M 67 w qi = iV i ∧ mI M 68 w qi = Int32.ofNat pf ∧ mI M 69 w qi = Int32.ofNat (iT i).length := by
    have hop := hop.1
    unfold cOp0 at hop
    rw [ho, if_neg (by decide), if_neg (by decide), if_pos rfl] at hop
    refine ⟨hop.1, hop.2.1, hop.2.2.trans ?_⟩
    show Int32.ofNat ((iT i).map _).length = _
    rw [List.length_map]
  obtain ⟨o1, o2, o3⟩ := hop
  have hnp : np ≤ L73 w := hK.2.2.1
  have hL73 : L73 w ≤ 41001 := by unfold L73; split <;> omega
  have ln := h.1.1.1.1.1.2.2.2.1
  have l67 : ∀ f, 66 ≤ f → f ≤ 72 → mL M f w = L6 w := fun f a b => ln.1 f a b
  have l74 : mL M 74 w = L73 w := by exact ln.2.2.1
  have rd : ∀ f k v, f ≠ 6 → mI (sI M 6 w 34 v) f w k = mI M f w k := fun f k v hf => by rw [mI_sI, if_neg (fun z => hf z.1)]
  have fin : ∀ n, n = pickN (iV i) (tv st 0).1 (iT i).length → w_Machine_jump_j115 w Q (Int32.ofNat n) (Int32.ofNat pf) (Int32.ofNat U.length) (sI M 6 w 34 (Int32.ofNat (st.length - 1))) := fun n en => by
    have hlt : n < (iT i).length := by
      rw [en]; unfold pickN; split <;> omega
    unfold w_Machine_jump_j115
    rw [oN_add, oN_tnc (by omega), rd 74 _ _ (by omega), hp2 n hlt, en]
    exact ⟨by show vp_in _ (mL M 74 w); rw [l74]; exact (vp_oN (by omega)).mpr (by omega), c_go h (by omega) hQ⟩
  unfold w_Machine_jump
  refine itn (by decide) (c_num (d := 0) h (by omega) (itp rfl ?_))
  rw [h.2.1.2, lit32 1, sub_n hs, oN_tnc (k := qi) (by omega), rd 67 _ _ (by omega), rd 68 _ _ (by omega), rd 69 _ _ (by omega), o1, o2, o3, sub_n (by omega)]
  have vp : ∀ f, 66 ≤ f → f ≤ 72 → vp_in (Int32.ofNat qi) (mL (sI M 6 w 34 (Int32.ofNat (st.length - 1))) f w) := fun f a b => by
    show vp_in _ (mL M f w); rw [l67 f a b]; exact (vp_oN (by omega)).mpr hqi
  refine ⟨vp 67 (by omega) (by omega), _, rfl, vp 69 (by omega) (by omega), _, rfl, vp 68 (by omega) (by omega), ?_⟩
  unfold w_Machine_jump_j113
  have e0 : (0 : Int64).toInt = 0 := rfl
  have e1 : (Int32.ofNat ((iT i).length - 1)).toInt64.toInt = (((iT i).length - 1 : Nat) : Int) := by rw [Int32.toInt_toInt64, oN_toInt (by omega)]
  by_cases c1 : (tv st 0).1.toInt - (iV i).toInt < 0
  · refine itp (lg_lt.mpr (by rw [sub64, e0]; exact c1)) (fin _ ?_)
    unfold pickN; rw [if_neg (by omega)]
  · refine itn (fun z => by have := lg_lt.mp z; rw [sub64, e0] at this; omega) ?_
    by_cases c2 : (((iT i).length - 1 : Nat) : Int) ≤ (tv st 0).1.toInt - (iV i).toInt
    · refine itp (lg_ge.mpr (by rw [sub64, e1]; exact c2)) (fin _ ?_)
      unfold pickN; rw [if_neg (by omega)]
    · refine itn (fun z => by have := lg_ge.mp z; rw [sub64, e1] at this; omega) ?_
      rw [sub32 (n := ((tv st 0).1.toInt - (iV i).toInt).toNat) (by omega) (by omega)]
      refine fin _ ?_
      unfold pickN; rw [if_pos (by omega)]
/-- the top frame has changed, the instruction is done -/
theorem c_goT {a' : Nat} (h : RI A W w br nq nk np nh nr C B F t s c j a lo st U M) (ag : AgT w t M M2) (hm : ∀ g i k, g ≠ 6 → (g = 94 ∨ g = 514 → k < 40 * U.length) → mI M2 g i k = mI M g i k) (hL : ∀ f i, mL M2 f i = mL M f i) (e34 : mI M2 6 w 34 = Int32.ofNat st'.length)
    (hlo : ∀ k, k < 20 → mI M2 94 (3 * w + t) (40 * U.length + k) = (lv lo' k).1 ∧ mI M2 514 (3 * w + t) (40 * U.length + k) = b2 (lv lo' k).2) (hss : ∀ k, k < st'.length → mI M2 94 (3 * w + t) (40 * U.length + 20 + k) = (lv st' k).1 ∧ mI M2 514 (3 * w + t) (40 * U.length + 20 + k) = b2 (lv st' k).2)
    (hQ : ∀ M', RM A W w br nq nk np nh nr C B F t (sU s t (.inl (c, j, a', lo', st') :: U)) (.inl (c, j, a', lo', st') :: U) M' → Q M') : w_Machine_goesTo w (Int32.ofNat U.length) (Int32.ofNat a') Q M2 := by
  obtain ⟨hR, ⟨h33, h34⟩, ⟨hU, hs, hl⟩, hst⟩ := h
  have R2 : mR M2 6 w 2 = some (7, 3 * w + t) := (ag.1.1.R (f := 6) (k := 2) rfl w).trans hR.1.2.2.2.2.1.1
  unfold w_Machine_goesTo
  rw [oN_tnc (k := U.length) (by omega), e34]
  refine ⟨3 * w + t, R2, by rw [hL, hR.2.1.1.1 91 (by omega) (by omega)]; exact (vp_oN (by omega)).mpr (by omega), 3 * w + t, R2, by show vp_in _ (mL M2 90 (3 * w + t)); rw [hL, hR.2.1.1.1 90 (by omega) (by omega)]; exact (vp_oN (by omega)).mpr (by omega), _, rfl, hQ _ ?_⟩
  refine hR.top hst (ag.wa.wa) (fun g k x y z => ?_) (fun k hk => ⟨?_, ?_⟩) (fun k => ?_) (fun k => ?_) (fun f => hL f _) ?_ ?_ ?_ ?_ (fun k hk => ?_) (fun k hk => ?_)
  · rw [mI_sI, if_neg (by omega), mI_sI, if_neg (by omega)]; exact hm g _ k (by omega) (fun z => by omega)
  · simp only [mI_sI, Nat.reduceEqDiff, false_and, if_false]; exact hm 94 _ k (by omega) (fun _ => hk)
  · simp only [mI_sI, Nat.reduceEqDiff, false_and, if_false]; exact hm 514 _ k (by omega) (fun _ => hk)
  · simp only [mI_sI, Nat.reduceEqDiff, false_and, if_false]; exact hm 7 _ k (by omega) (fun z => by omega)
  · simp only [mI_sI, Nat.reduceEqDiff, false_and, if_false]; exact hm 95 _ k (by omega) (fun z => by omega)
  · simp only [mI_sI, Nat.reduceEqDiff, false_and, if_false]; exact hm 89 _ _ (by omega) (fun z => by omega)
  · simp only [mI_sI, Nat.reduceEqDiff, false_and, if_false]; exact hm 92 _ _ (by omega) (fun z => by omega)
  · simp only [mI_sI, and_self, if_true]
  · simp only [mI_sI, Nat.reduceEqDiff, false_and, if_false, and_self, if_true]
  · simp only [mI_sI, Nat.reduceEqDiff, false_and, if_false]; exact hlo k hk
  · simp only [mI_sI, Nat.reduceEqDiff, false_and, if_false]; exact hss k hk
theorem MK.l20 {f : Fm} (h : MK W (sU s t (.inl f :: U)) t) (hW : WO W) : f.2.2.2.2.length ≤ 20 := by
  have h1 := h.1
  rw [gU_sU] at h1
  exact (UO.stk hW h1.1.1 h1.2.2.2.1.1).1
/-- operands that are numbers -/
theorem cFi.num (hI : cFi A w nk np nr qi i M) (h1 : ¬ isN i.1) (h2 : ¬ (isFo i.1 ∨ isMo i.1)) (h3 : i.1 ≠ 40) (h4 : ¬ isJ i.1) : mI M 67 w qi = iV i ∧ mI M 68 w qi = i.2.2.1 := by
  obtain ⟨pf, hop, -⟩ := hI.2.1
  have hop := hop.1
  unfold cOp0 at hop
  rw [if_neg h1, if_neg h2, if_neg h3, if_neg h4] at hop
  exact hop
theorem s_0 (h : RI A W w br nq nk np nh nr C B F t s c j a lo st U M) (hA : At W s t c j a lo st U i) (ho : i.1 = 0) (hI : cFi A w nk np nr qi i M) (hqi : qi < L6 w) (hQ : ∀ M', RM A W w br nq nk np nh nr C B F t (doS W t s c j a lo st U i q) (gU (doS W t s c j a lo st U i q) t) M' → Q M') : w_Machine_act_j53 w Q (Int32.ofNat U.length) (Int32.ofNat (moff W c + j)) (Int32.ofNat qi) (Int32.ofNat 0) (mI M 67 w qi) (Int32.ofNat (a + 1)) M := by
  have hLb := L_le w
  have e : doS W t s c j a lo st U i q = sU s t (.inl (c, j, a + 1, lo, st) :: U) := (by obtain ⟨o, r⟩ := i; have ho : o = 0 := ho; subst ho; rfl)
  have h20 := a_0 (q := q) hA ho
  rw [e] at h20
  have h20 := h20.l20 hA.1.1
  rw [e, gU_in] at hQ
  unfold w_Machine_act_j53
  refine c_isInN (o := 0) (lo := 23) (hi := 40) (by omega) (by omega) (by omega) (itp (by decide) (c_isInN (o := 0) (lo := 41) (hi := 49) (by omega) (by omega) (by omega) (itp (by decide) (c_isInN (o := 0) (lo := 60) (hi := 61) (by omega) (by omega) (by omega) (itp (by decide) (c_isInN (o := 0) (lo := 50) (hi := 53) (by omega) (by omega) (by omega) (itp (by decide) ?_)))))))
  refine itn (by decide) (itn (by decide) (itn (by decide) (itn (by decide) (itn (by decide) (itn (by decide) (itn (by decide) (itn (by decide) (itn (by decide) (itn (by decide) (itn (by decide) (itn (by decide) (itn (by decide) (itn (by decide) (itn (by decide) (itn (by decide) (itn (by decide) (itn (by decide) (itn (by decide) (itn (by decide) (itn (by decide) (itn (by decide) (itn (by decide) (itn (by decide) (itn (by decide) (itn (by decide) (itn (by decide) (itn (by decide) (itn (by decide) (itn (by decide) (itn (by decide) (itn (by decide) (itn (by decide) (itn (by decide) (itn (by decide) (itn (by decide) (itn (by decide) (itn (by decide) (itn (by decide) (itn (by decide) (itn (by decide) (itn (by decide) (itn (by decide) (itn (by decide) (itn (by decide) (itn (by decide) (itn (by decide) (itn (by decide) (itn (by decide) (itn (by decide) (itn (by decide) (itn (by decide) (itn (by decide) (itn (by decide) (itn (by decide) (itn (by decide) (itn (by decide) (itn (by decide) (itn (by decide) (?_)))))))))))))))))))))))))))))))))))))))))))))))))))))))))))
  exact c_go0 h hQ
theorem s_1 (h : RI A W w br nq nk np nh nr C B F t s c j a lo st U M) (hA : At W s t c j a lo st U i) (ho : i.1 = 1) (hI : cFi A w nk np nr qi i M) (hqi : qi < L6 w) (hQ : ∀ M', RM A W w br nq nk np nh nr C B F t (doS W t s c j a lo st U i q) (gU (doS W t s c j a lo st U i q) t) M' → Q M') : w_Machine_act_j53 w Q (Int32.ofNat U.length) (Int32.ofNat (moff W c + j)) (Int32.ofNat qi) (Int32.ofNat 1) (mI M 67 w qi) (Int32.ofNat (a + 1)) M := by
  have hLb := L_le w
  have e : doS W t s c j a lo st U i q = sU s t (.inl (c, j, a + 1, lo, st ++ [(iV i, false)]) :: U) := (by obtain ⟨o, r⟩ := i; have ho : o = 1 := ho; subst ho; rfl)
  have h20 := a_1 (q := q) hA ho
  rw [e] at h20
  have h20 := h20.l20 hA.1.1
  rw [e, gU_in] at hQ
  have hp : st.length < 20 := by
    have h20 : (st ++ [_]).length ≤ 20 := h20
    rw [List.length_append] at h20
    have : st.length + 1 ≤ 20 := h20
    omega
  obtain ⟨ev, -⟩ := hI.num (by rw [ho]; decide) (by rw [ho]; decide) (by rw [ho]; decide) (by rw [ho]; decide)
  unfold w_Machine_act_j53
  refine c_isInN (o := 1) (lo := 23) (hi := 40) (by omega) (by omega) (by omega) (itp (by decide) (c_isInN (o := 1) (lo := 41) (hi := 49) (by omega) (by omega) (by omega) (itp (by decide) (c_isInN (o := 1) (lo := 60) (hi := 61) (by omega) (by omega) (by omega) (itp (by decide) (c_isInN (o := 1) (lo := 50) (hi := 53) (by omega) (by omega) (by omega) (itp (by decide) ?_)))))))
  refine itp rfl ?_
  rw [ev]
  exact c_push0 (b := false) h hp hQ
theorem s_2 (h : RI A W w br nq nk np nh nr C B F t s c j a lo st U M) (hA : At W s t c j a lo st U i) (ho : i.1 = 2) (hI : cFi A w nk np nr qi i M) (hqi : qi < L6 w) (hQ : ∀ M', RM A W w br nq nk np nh nr C B F t (doS W t s c j a lo st U i q) (gU (doS W t s c j a lo st U i q) t) M' → Q M') : w_Machine_act_j53 w Q (Int32.ofNat U.length) (Int32.ofNat (moff W c + j)) (Int32.ofNat qi) (Int32.ofNat 2) (mI M 67 w qi) (Int32.ofNat (a + 1)) M := by
  have hLb := L_le w
  have e : doS W t s c j a lo st U i q = sU s t (.inl (c, j, a + 1, lo, st ++ [(0, true)]) :: U) := (by obtain ⟨o, r⟩ := i; have ho : o = 2 := ho; subst ho; rfl)
  have h20 := a_2 (q := q) hA ho
  rw [e] at h20
  have h20 := h20.l20 hA.1.1
  rw [e, gU_in] at hQ
  have hp : st.length < 20 := by
    have h20 : (st ++ [_]).length ≤ 20 := h20
    rw [List.length_append] at h20
    have : st.length + 1 ≤ 20 := h20
    omega
  unfold w_Machine_act_j53
  refine c_isInN (o := 2) (lo := 23) (hi := 40) (by omega) (by omega) (by omega) (itp (by decide) (c_isInN (o := 2) (lo := 41) (hi := 49) (by omega) (by omega) (by omega) (itp (by decide) (c_isInN (o := 2) (lo := 60) (hi := 61) (by omega) (by omega) (by omega) (itp (by decide) (c_isInN (o := 2) (lo := 50) (hi := 53) (by omega) (by omega) (by omega) (itp (by decide) ?_)))))))
  refine itn (by decide) (itp rfl ?_)
  exact c_push0 (b := true) h hp hQ
theorem RI.gl {k : Nat} (h : RI A W w br nq nk np nh nr C B F t s c j a lo st U M) (hk : k < 20) : mI M 94 (3 * w + t) (40 * U.length + k) = (lv lo k).1 ∧ mI M 514 (3 * w + t) (40 * U.length + k) = b2 (lv lo k).2 := h.1.2.2.1.2.2.1.2.1 k hk
theorem RI.gs {k : Nat} (h : RI A W w br nq nk np nh nr C B F t s c j a lo st U M) (hk : k < st.length) : mI M 94 (3 * w + t) (40 * U.length + 20 + k) = (lv st k).1 ∧ mI M 514 (3 * w + t) (40 * U.length + 20 + k) = b2 (lv st k).2 := h.1.2.2.1.2.2.1.2.2 k hk
theorem lvSet {l k : Nat} {v : Vl} (hl : l < lo.length) : lv (lo.set l v) k = if k = l then v else lv lo k := by
  show (lo.set l v).getD k _ = _
  rw [List.getD_eq_getElem?_getD, List.getElem?_set]
  by_cases e : l = k
  · rw [if_pos e, if_pos (e ▸ hl), if_pos e.symm]; rfl
  · rw [if_neg e, if_neg (fun z => e z.symm), ← List.getD_eq_getElem?_getD]
theorem lvTake {n k : Nat} (hk : k < n) : lv (st.take n) k = lv st k := by
  show (st.take n).getD k _ = st.getD k _
  rw [List.getD_eq_getElem?_getD, List.getElem?_take, if_pos hk, List.getD_eq_getElem?_getD]
theorem s_3 (h : RI A W w br nq nk np nh nr C B F t s c j a lo st U M) (hA : At W s t c j a lo st U i) (ho : i.1 = 3) (hI : cFi A w nk np nr qi i M) (hqi : qi < L6 w) (hQ : ∀ M', RM A W w br nq nk np nh nr C B F t (doS W t s c j a lo st U i q) (gU (doS W t s c j a lo st U i q) t) M' → Q M') : w_Machine_act_j53 w Q (Int32.ofNat U.length) (Int32.ofNat (moff W c + j)) (Int32.ofNat qi) (Int32.ofNat 3) (mI M 67 w qi) (Int32.ofNat (a + 1)) M := by
  have hLb := L_le w
  have e : doS W t s c j a lo st U i q = sU s t (.inl (c, j, a + 1, lo, st ++ [((lv lo (iL i)).1, false)]) :: U) := (by obtain ⟨o, r⟩ := i; have ho : o = 3 := ho; subst ho; rfl)
  have h20 := a_3 (q := q) hA ho
  rw [e] at h20
  have h20 := h20.l20 hA.1.1
  rw [e, gU_in] at hQ
  have hp : st.length < 20 := by
    have h20 : (st ++ [_]).length ≤ 20 := h20
    rw [List.length_append] at h20
    have : st.length + 1 ≤ 20 := h20
    omega
  obtain ⟨ev, -⟩ := hI.num (by rw [ho]; decide) (by rw [ho]; decide) (by rw [ho]; decide) (by rw [ho]; decide)
  obtain ⟨l, el, hl19⟩ := hA.in.2.2.2.2.2.1.1 (by rw [ho]; decide)
  have eL : iL i = l := by show (iV i).toNatClampNeg = l; rw [el, oN_tnc (by omega)]
  unfold w_Machine_act_j53
  refine c_isInN (o := 3) (lo := 23) (hi := 40) (by omega) (by omega) (by omega) (itp (by decide) (c_isInN (o := 3) (lo := 41) (hi := 49) (by omega) (by omega) (by omega) (itp (by decide) (c_isInN (o := 3) (lo := 60) (hi := 61) (by omega) (by omega) (by omega) (itp (by decide) (c_isInN (o := 3) (lo := 50) (hi := 53) (by omega) (by omega) (by omega) (itp (by decide) ?_)))))))
  refine itn (by decide) (itn (by decide) (itp rfl ?_))
  rw [ev, el, h.2.1.1, oN_add, oN_tnc (by have := h.2.2.1.1; omega)]
  refine ⟨3 * w + t, h.1.1.2.2.2.2.1.1, by rw [h.1.2.1.1.2.1]; exact (vp_oN (by have := h.2.2.1.1; omega)).mpr (by have := h.2.2.1.1; omega), itn (by decide) ?_⟩
  rw [(h.gl (k := l) (by omega)).1]
  rw [eL] at hQ
  exact c_push0 (b := false) h hp hQ
theorem s_4 (h : RI A W w br nq nk np nh nr C B F t s c j a lo st U M) (hA : At W s t c j a lo st U i) (ho : i.1 = 4) (hI : cFi A w nk np nr qi i M) (hqi : qi < L6 w) (hQ : ∀ M', RM A W w br nq nk np nh nr C B F t (doS W t s c j a lo st U i q) (gU (doS W t s c j a lo st U i q) t) M' → Q M') : w_Machine_act_j53 w Q (Int32.ofNat U.length) (Int32.ofNat (moff W c + j)) (Int32.ofNat qi) (Int32.ofNat 4) (mI M 67 w qi) (Int32.ofNat (a + 1)) M := by
  have hLb := L_le w
  have e : doS W t s c j a lo st U i q = sU s t (.inl (c, j, a + 1, lo, st ++ [((lv lo (iL i)).1, true)]) :: U) := (by obtain ⟨o, r⟩ := i; have ho : o = 4 := ho; subst ho; rfl)
  have h20 := a_4 (q := q) hA ho
  rw [e] at h20
  have h20 := h20.l20 hA.1.1
  rw [e, gU_in] at hQ
  have hp : st.length < 20 := by
    have h20 : (st ++ [_]).length ≤ 20 := h20
    rw [List.length_append] at h20
    have : st.length + 1 ≤ 20 := h20
    omega
  obtain ⟨ev, -⟩ := hI.num (by rw [ho]; decide) (by rw [ho]; decide) (by rw [ho]; decide) (by rw [ho]; decide)
  obtain ⟨l, el, hl19⟩ := hA.in.2.2.2.2.2.1.1 (by rw [ho]; decide)
  have eL : iL i = l := by show (iV i).toNatClampNeg = l; rw [el, oN_tnc (by omega)]
  unfold w_Machine_act_j53
  refine c_isInN (o := 4) (lo := 23) (hi := 40) (by omega) (by omega) (by omega) (itp (by decide) (c_isInN (o := 4) (lo := 41) (hi := 49) (by omega) (by omega) (by omega) (itp (by decide) (c_isInN (o := 4) (lo := 60) (hi := 61) (by omega) (by omega) (by omega) (itp (by decide) (c_isInN (o := 4) (lo := 50) (hi := 53) (by omega) (by omega) (by omega) (itp (by decide) ?_)))))))
  refine itn (by decide) (itn (by decide) (itn (by decide) (itp rfl ?_)))
  rw [ev, el, h.2.1.1, oN_add, oN_tnc (by have := h.2.2.1.1; omega)]
  refine ⟨3 * w + t, h.1.1.2.2.2.2.1.1, by rw [h.1.2.1.1.2.1]; exact (vp_oN (by have := h.2.2.1.1; omega)).mpr (by have := h.2.2.1.1; omega), itp rfl ?_⟩
  rw [(h.gl (k := l) (by omega)).1]
  rw [eL] at hQ
  exact c_push0 (b := true) h hp hQ
theorem s_5 (h : RI A W w br nq nk np nh nr C B F t s c j a lo st U M) (hA : At W s t c j a lo st U i) (ho : i.1 = 5) (hI : cFi A w nk np nr qi i M) (hqi : qi < L6 w) (hQ : ∀ M', RM A W w br nq nk np nh nr C B F t (doS W t s c j a lo st U i q) (gU (doS W t s c j a lo st U i q) t) M' → Q M') : w_Machine_act_j53 w Q (Int32.ofNat U.length) (Int32.ofNat (moff W c + j)) (Int32.ofNat qi) (Int32.ofNat 5) (mI M 67 w qi) (Int32.ofNat (a + 1)) M := by
  have hLb := L_le w
  have e : doS W t s c j a lo st U i q = sU s t (.inl (c, j, a + 1, lo.set (iL i) ((tv st 0).1, false), drp st 1) :: U) := (by obtain ⟨o, r⟩ := i; have ho : o = 5 := ho; subst ho; rfl)
  have h20 := a_5 (q := q) hA ho
  rw [e] at h20
  have h20 := h20.l20 hA.1.1
  rw [e, gU_in] at hQ
  obtain ⟨tl, -⟩ := hA.tk (ws := [wNum]) (by obtain ⟨o, r⟩ := i; have ho : o = 5 := ho; subst ho; rfl)
  have hs : 1 ≤ st.length := by
    have := hA.in.1.2.1
    have tl : 1 ≤ (k2 W c j a).length := tl
    omega
  obtain ⟨ev, -⟩ := hI.num (by rw [ho]; decide) (by rw [ho]; decide) (by rw [ho]; decide) (by rw [ho]; decide)
  obtain ⟨l, el, hl19⟩ := hA.in.2.2.2.2.2.1.1 (by rw [ho]; decide)
  have eL : iL i = l := by show (iV i).toNatClampNeg = l; rw [el, oN_tnc (by omega)]
  unfold w_Machine_act_j53
  refine c_isInN (o := 5) (lo := 23) (hi := 40) (by omega) (by omega) (by omega) (itp (by decide) (c_isInN (o := 5) (lo := 41) (hi := 49) (by omega) (by omega) (by omega) (itp (by decide) (c_isInN (o := 5) (lo := 60) (hi := 61) (by omega) (by omega) (by omega) (itp (by decide) (c_isInN (o := 5) (lo := 50) (hi := 53) (by omega) (by omega) (by omega) (itp (by decide) ?_)))))))
  refine itn (by decide) (itn (by decide) (itn (by decide) (itn (by decide) (itp rfl ?_))))
  obtain ⟨hU, hs20, hlo⟩ := h.2.2.1
  have R2 := h.1.1.2.2.2.2.1.1
  rw [ev, el, h.2.1.2, lit32 1, sub_n hs]
  have e33 : mI (sI M 6 w 34 (Int32.ofNat (st.length - 1))) 6 w 33 = Int32.ofNat (40 * U.length) := by rw [mI_sI, if_neg (fun z => absurd z.2.2 (by decide))]; exact h.2.1.1
  have e34 : mI (sI M 6 w 34 (Int32.ofNat (st.length - 1))) 6 w 34 = Int32.ofNat (st.length - 1) := by rw [mI_sI, if_pos ⟨rfl, rfl, rfl⟩]
  rw [e33, e34, lit32 20, oN_add, oN_add, oN_add, oN_tnc (by omega)]
  refine ⟨3 * w + t, R2, by show vp_in _ (mL M 94 (3 * w + t)); rw [h.1.2.1.1.2.1]; exact (vp_oN (by omega)).mpr (by omega), itn (by decide) ?_⟩
  rw [mI_sI, if_neg (fun z => absurd z.1 (by decide)), (h.gs (k := st.length - 1) (by omega)).1]
  unfold w_Machine_act_j486
  refine c_set (b := false) (L := 3 * w + t) R2 h.1.2.1.1.2.1 h.1.2.1.1.2.2.1 (by omega) ?_
  rw [eL] at hQ
  have hdl : (drp st 1).length = st.length - 1 := by unfold drp; rw [List.length_take]; omega
  refine c_goT h (AgT.rf.w6.wa.wa) (fun g x y n1 n2 => ?_) (fun _ _ => rfl) ?_ (fun y hy => ?_) (fun y hy => ?_) hQ
  · rw [mI_sI, if_neg (fun z => by have := n2 (Or.inr z.1); omega), mI_sI, if_neg (fun z => by have := n2 (Or.inl z.1); omega), mI_sI, if_neg (fun z => n1 z.1)]
  · simp only [mI_sI, Nat.reduceEqDiff, false_and, if_false, and_self, if_true, hdl]
  · rw [lvSet (by omega)]
    simp only [mI_sI, Nat.reduceEqDiff, false_and, if_false, true_and]
    by_cases c1 : y = l
    · rw [if_pos c1, if_pos (by omega), if_pos (by omega)]; exact ⟨rfl, rfl⟩
    · rw [if_neg c1, if_neg (by omega), if_neg (by omega)]; exact h.gl hy
  · rw [hdl] at hy
    simp only [mI_sI, Nat.reduceEqDiff, false_and, if_false, true_and]
    rw [if_neg (by omega), if_neg (by omega)]
    unfold drp
    rw [lvTake hy]; exact h.gs (by omega)
theorem s_6 (h : RI A W w br nq nk np nh nr C B F t s c j a lo st U M) (hA : At W s t c j a lo st U i) (ho : i.1 = 6) (hI : cFi A w nk np nr qi i M) (hqi : qi < L6 w) (hQ : ∀ M', RM A W w br nq nk np nh nr C B F t (doS W t s c j a lo st U i q) (gU (doS W t s c j a lo st U i q) t) M' → Q M') : w_Machine_act_j53 w Q (Int32.ofNat U.length) (Int32.ofNat (moff W c + j)) (Int32.ofNat qi) (Int32.ofNat 6) (mI M 67 w qi) (Int32.ofNat (a + 1)) M := by
  have hLb := L_le w
  have e : doS W t s c j a lo st U i q = sU s t (.inl (c, j, a + 1, lo.set (iL i) ((tv st 0).1, true), drp st 1) :: U) := (by obtain ⟨o, r⟩ := i; have ho : o = 6 := ho; subst ho; rfl)
  have h20 := a_6 (q := q) hA ho
  rw [e] at h20
  have h20 := h20.l20 hA.1.1
  rw [e, gU_in] at hQ
  obtain ⟨tl, -⟩ := hA.tk (ws := [wSto]) (by obtain ⟨o, r⟩ := i; have ho : o = 6 := ho; subst ho; rfl)
  have hs : 1 ≤ st.length := by
    have := hA.in.1.2.1
    have tl : 1 ≤ (k2 W c j a).length := tl
    omega
  obtain ⟨ev, -⟩ := hI.num (by rw [ho]; decide) (by rw [ho]; decide) (by rw [ho]; decide) (by rw [ho]; decide)
  obtain ⟨l, el, hl19⟩ := hA.in.2.2.2.2.2.1.1 (by rw [ho]; decide)
  have eL : iL i = l := by show (iV i).toNatClampNeg = l; rw [el, oN_tnc (by omega)]
  unfold w_Machine_act_j53
  refine c_isInN (o := 6) (lo := 23) (hi := 40) (by omega) (by omega) (by omega) (itp (by decide) (c_isInN (o := 6) (lo := 41) (hi := 49) (by omega) (by omega) (by omega) (itp (by decide) (c_isInN (o := 6) (lo := 60) (hi := 61) (by omega) (by omega) (by omega) (itp (by decide) (c_isInN (o := 6) (lo := 50) (hi := 53) (by omega) (by omega) (by omega) (itp (by decide) ?_)))))))
  refine itn (by decide) (itn (by decide) (itn (by decide) (itn (by decide) (itn (by decide) (itp rfl ?_)))))
  obtain ⟨hU, hs20, hlo⟩ := h.2.2.1
  have R2 := h.1.1.2.2.2.2.1.1
  rw [ev, el, h.2.1.2, lit32 1, sub_n hs]
  have e33 : mI (sI M 6 w 34 (Int32.ofNat (st.length - 1))) 6 w 33 = Int32.ofNat (40 * U.length) := by rw [mI_sI, if_neg (fun z => absurd z.2.2 (by decide))]; exact h.2.1.1
  have e34 : mI (sI M 6 w 34 (Int32.ofNat (st.length - 1))) 6 w 34 = Int32.ofNat (st.length - 1) := by rw [mI_sI, if_pos ⟨rfl, rfl, rfl⟩]
  rw [e33, e34, lit32 20, oN_add, oN_add, oN_add, oN_tnc (by omega)]
  refine ⟨3 * w + t, R2, by show vp_in _ (mL M 94 (3 * w + t)); rw [h.1.2.1.1.2.1]; exact (vp_oN (by omega)).mpr (by omega), itp rfl ?_⟩
  rw [mI_sI, if_neg (fun z => absurd z.1 (by decide)), (h.gs (k := st.length - 1) (by omega)).1]
  unfold w_Machine_act_j486
  refine c_set (b := true) (L := 3 * w + t) R2 h.1.2.1.1.2.1 h.1.2.1.1.2.2.1 (by omega) ?_
  rw [eL] at hQ
  have hdl : (drp st 1).length = st.length - 1 := by unfold drp; rw [List.length_take]; omega
  refine c_goT h (AgT.rf.w6.wa.wa) (fun g x y n1 n2 => ?_) (fun _ _ => rfl) ?_ (fun y hy => ?_) (fun y hy => ?_) hQ
  · rw [mI_sI, if_neg (fun z => by have := n2 (Or.inr z.1); omega), mI_sI, if_neg (fun z => by have := n2 (Or.inl z.1); omega), mI_sI, if_neg (fun z => n1 z.1)]
  · simp only [mI_sI, Nat.reduceEqDiff, false_and, if_false, and_self, if_true, hdl]
  · rw [lvSet (by omega)]
    simp only [mI_sI, Nat.reduceEqDiff, false_and, if_false, true_and]
    by_cases c1 : y = l
    · rw [if_pos c1, if_pos (by omega), if_pos (by omega)]; exact ⟨rfl, rfl⟩
    · rw [if_neg c1, if_neg (by omega), if_neg (by omega)]; exact h.gl hy
  · rw [hdl] at hy
    simp only [mI_sI, Nat.reduceEqDiff, false_and, if_false, true_and]
    rw [if_neg (by omega), if_neg (by omega)]
    unfold drp
    rw [lvTake hy]; exact h.gs (by omega)
theorem s_7 (h : RI A W w br nq nk np nh nr C B F t s c j a lo st U M) (hA : At W s t c j a lo st U i) (ho : i.1 = 7) (hI : cFi A w nk np nr qi i M) (hqi : qi < L6 w) (hQ : ∀ M', RM A W w br nq nk np nh nr C B F t (doS W t s c j a lo st U i q) (gU (doS W t s c j a lo st U i q) t) M' → Q M') : w_Machine_act_j53 w Q (Int32.ofNat U.length) (Int32.ofNat (moff W c + j)) (Int32.ofNat qi) (Int32.ofNat 7) (mI M 67 w qi) (Int32.ofNat (a + 1)) M := by
  have hLb := L_le w
  have e : doS W t s c j a lo st U i q = sU s t (.inl (c, j, a + 1, lo.set (iL i) ((lv lo (iL i)).1 + i.2.2.1, (lv lo (iL i)).2), st) :: U) := (by obtain ⟨o, r⟩ := i; have ho : o = 7 := ho; subst ho; rfl)
  have h20 := a_7 (q := q) hA ho
  rw [e] at h20
  have h20 := h20.l20 hA.1.1
  rw [e, gU_in] at hQ
  obtain ⟨ev, -⟩ := hI.num (by rw [ho]; decide) (by rw [ho]; decide) (by rw [ho]; decide) (by rw [ho]; decide)
  obtain ⟨l, el, hl19⟩ := hA.in.2.2.2.2.2.1.1 (by rw [ho]; decide)
  have eL : iL i = l := by show (iV i).toNatClampNeg = l; rw [el, oN_tnc (by omega)]
  obtain ⟨-, ev8⟩ := hI.num (by rw [ho]; decide) (by rw [ho]; decide) (by rw [ho]; decide) (by rw [ho]; decide)
  unfold w_Machine_act_j53
  refine c_isInN (o := 7) (lo := 23) (hi := 40) (by omega) (by omega) (by omega) (itp (by decide) (c_isInN (o := 7) (lo := 41) (hi := 49) (by omega) (by omega) (by omega) (itp (by decide) (c_isInN (o := 7) (lo := 60) (hi := 61) (by omega) (by omega) (by omega) (itp (by decide) (c_isInN (o := 7) (lo := 50) (hi := 53) (by omega) (by omega) (by omega) (itp (by decide) ?_)))))))
  refine itn (by decide) (itn (by decide) (itn (by decide) (itn (by decide) (itn (by decide) (itn (by decide) (itp rfl ?_))))))
  obtain ⟨hU, hs20, hlo⟩ := h.2.2.1
  have R2 := h.1.1.2.2.2.2.1.1
  have l68 : mL M 68 w = L6 w := h.1.1.1.1.1.2.2.2.1.1 68 (by omega) (by omega)
  rw [ev, el, h.2.1.1, oN_add, oN_tnc (k := 40 * U.length + l) (by omega), oN_tnc (k := qi) (by omega), ev8]
  have vp : vp_in (Int32.ofNat (40 * U.length + l)) (mL M 94 (3 * w + t)) := by rw [h.1.2.1.1.2.1]; exact (vp_oN (by omega)).mpr (by omega)
  refine ⟨3 * w + t, R2, vp, by rw [l68]; exact (vp_oN (by omega)).mpr hqi, vp, _, rfl, ?_⟩
  rw [(h.gl (k := l) (by omega)).1]
  rw [eL] at hQ
  refine c_goT h (AgT.rf.wa) (fun g x y n1 n2 => ?_) (fun _ _ => rfl) ?_ (fun y hy => ?_) (fun y hy => ?_) hQ
  · rw [mI_sI, if_neg (fun z => by have := n2 (Or.inl z.1); omega)]
  · simp only [mI_sI, Nat.reduceEqDiff, false_and, if_false]; exact h.2.1.2
  · rw [lvSet (by omega)]
    simp only [mI_sI, Nat.reduceEqDiff, false_and, if_false, true_and]
    by_cases c1 : y = l
    · rw [if_pos c1, if_pos (by omega), c1]; exact ⟨rfl, (h.gl (by omega)).2⟩
    · rw [if_neg c1, if_neg (by omega)]; exact h.gl hy
  · simp only [mI_sI, Nat.reduceEqDiff, false_and, if_false, true_and]
    rw [if_neg (by omega)]; exact h.gs hy
theorem s_13 (h : RI A W w br nq nk np nh nr C B F t s c j a lo st U M) (hA : At W s t c j a lo st U i) (ho : i.1 = 13) (hI : cFi A w nk np nr qi i M) (hqi : qi < L6 w) (hQ : ∀ M', RM A W w br nq nk np nh nr C B F t (doS W t s c j a lo st U i q) (gU (doS W t s c j a lo st U i q) t) M' → Q M') : w_Machine_act_j53 w Q (Int32.ofNat U.length) (Int32.ofNat (moff W c + j)) (Int32.ofNat qi) (Int32.ofNat 13) (mI M 67 w qi) (Int32.ofNat (a + 1)) M := by
  have hLb := L_le w
  have e : doS W t s c j a lo st U i q = sU s t (.inl (c, j, a + 1, lo, drp st 1 ++ [(-(tv st 0).1, false)]) :: U) := (by obtain ⟨o, r⟩ := i; have ho : o = 13 := ho; subst ho; rfl)
  have h20 := a_13 (q := q) hA ho
  rw [e] at h20
  have h20 := h20.l20 hA.1.1
  rw [e, gU_in] at hQ
  obtain ⟨tl, -⟩ := hA.tk (ws := [wNum]) (by obtain ⟨o, r⟩ := i; have ho : o = 13 := ho; subst ho; rfl)
  have hs : 1 ≤ st.length := by
    have := hA.in.1.2.1
    have tl : 1 ≤ (k2 W c j a).length := tl
    omega
  unfold w_Machine_act_j53
  refine c_isInN (o := 13) (lo := 23) (hi := 40) (by omega) (by omega) (by omega) (itp (by decide) (c_isInN (o := 13) (lo := 41) (hi := 49) (by omega) (by omega) (by omega) (itp (by decide) (c_isInN (o := 13) (lo := 60) (hi := 61) (by omega) (by omega) (by omega) (itp (by decide) (c_isInN (o := 13) (lo := 50) (hi := 53) (by omega) (by omega) (by omega) (itp (by decide) ?_)))))))
  refine itn (by decide) (itn (by decide) (itn (by decide) (itn (by decide) (itn (by decide) (itn (by decide) (itn (by decide) (itn (by decide) (itn (by decide) (itn (by decide) (itn (by decide) (itn (by decide) (itp rfl ?_))))))))))))
  refine c_num (d := 0) h (by omega) ?_
  unfold w_Machine_comes
  rw [h.2.1.2, lit32 1, sub_n hs]
  exact c_comesGo (b := false) h hs (by have := h.2.2.1.2.1; omega) hQ
theorem s_19 (h : RI A W w br nq nk np nh nr C B F t s c j a lo st U M) (hA : At W s t c j a lo st U i) (ho : i.1 = 19) (hI : cFi A w nk np nr qi i M) (hqi : qi < L6 w) (hQ : ∀ M', RM A W w br nq nk np nh nr C B F t (doS W t s c j a lo st U i q) (gU (doS W t s c j a lo st U i q) t) M' → Q M') : w_Machine_act_j53 w Q (Int32.ofNat U.length) (Int32.ofNat (moff W c + j)) (Int32.ofNat qi) (Int32.ofNat 19) (mI M 67 w qi) (Int32.ofNat (a + 1)) M := by
  have hLb := L_le w
  have e : doS W t s c j a lo st U i q = sU s t (.inl (c, j, a + 1, lo, drp st 1) :: U) := (by obtain ⟨o, r⟩ := i; have ho : o = 19 := ho; subst ho; rfl)
  have h20 := a_19 (q := q) hA ho
  rw [e] at h20
  have h20 := h20.l20 hA.1.1
  rw [e, gU_in] at hQ
  obtain ⟨tl, -⟩ := hA.tk (ws := [wAny]) (by obtain ⟨o, r⟩ := i; have ho : o = 19 := ho; subst ho; rfl)
  have hs : 1 ≤ st.length := by
    have := hA.in.1.2.1
    have tl : 1 ≤ (k2 W c j a).length := tl
    omega
  unfold w_Machine_act_j53
  refine c_isInN (o := 19) (lo := 23) (hi := 40) (by omega) (by omega) (by omega) (itp (by decide) (c_isInN (o := 19) (lo := 41) (hi := 49) (by omega) (by omega) (by omega) (itp (by decide) (c_isInN (o := 19) (lo := 60) (hi := 61) (by omega) (by omega) (by omega) (itp (by decide) (c_isInN (o := 19) (lo := 50) (hi := 53) (by omega) (by omega) (by omega) (itp (by decide) ?_)))))))
  refine itn (by decide) (itn (by decide) (itn (by decide) (itn (by decide) (itn (by decide) (itn (by decide) (itn (by decide) (itn (by decide) (itn (by decide) (itn (by decide) (itn (by decide) (itn (by decide) (itn (by decide) (itn (by decide) (itn (by decide) (itn (by decide) (itn (by decide) (itn (by decide) (itp rfl ?_))))))))))))))))))
  rw [h.2.1.2, lit32 1, sub_n hs]
  exact c_go h (by omega) hQ
theorem s_20 (h : RI A W w br nq nk np nh nr C B F t s c j a lo st U M) (hA : At W s t c j a lo st U i) (ho : i.1 = 20) (hI : cFi A w nk np nr qi i M) (hqi : qi < L6 w) (hQ : ∀ M', RM A W w br nq nk np nh nr C B F t (doS W t s c j a lo st U i q) (gU (doS W t s c j a lo st U i q) t) M' → Q M') : w_Machine_act_j53 w Q (Int32.ofNat U.length) (Int32.ofNat (moff W c + j)) (Int32.ofNat qi) (Int32.ofNat 20) (mI M 67 w qi) (Int32.ofNat (a + 1)) M := by
  have hLb := L_le w
  have e : doS W t s c j a lo st U i q = sU s t (.inl (c, j, a + 1, lo, st ++ [tv st 0]) :: U) := (by obtain ⟨o, r⟩ := i; have ho : o = 20 := ho; subst ho; rfl)
  have h20 := a_20 (q := q) hA ho
  rw [e] at h20
  have h20 := h20.l20 hA.1.1
  rw [e, gU_in] at hQ
  have hp : st.length < 20 := by
    have h20 : (st ++ [_]).length ≤ 20 := h20
    rw [List.length_append] at h20
    have : st.length + 1 ≤ 20 := h20
    omega
  obtain ⟨tl, -⟩ := hA.tk (ws := [wAny]) (by obtain ⟨o, r⟩ := i; have ho : o = 20 := ho; subst ho; rfl)
  have hs : 1 ≤ st.length := by
    have := hA.in.1.2.1
    have tl : 1 ≤ (k2 W c j a).length := tl
    omega
  unfold w_Machine_act_j53
  refine c_isInN (o := 20) (lo := 23) (hi := 40) (by omega) (by omega) (by omega) (itp (by decide) (c_isInN (o := 20) (lo := 41) (hi := 49) (by omega) (by omega) (by omega) (itp (by decide) (c_isInN (o := 20) (lo := 60) (hi := 61) (by omega) (by omega) (by omega) (itp (by decide) (c_isInN (o := 20) (lo := 50) (hi := 53) (by omega) (by omega) (by omega) (itp (by decide) ?_)))))))
  refine itn (by decide) (itn (by decide) (itn (by decide) (itn (by decide) (itn (by decide) (itn (by decide) (itn (by decide) (itn (by decide) (itn (by decide) (itn (by decide) (itn (by decide) (itn (by decide) (itn (by decide) (itn (by decide) (itn (by decide) (itn (by decide) (itn (by decide) (itn (by decide) (itn (by decide) (itp rfl ?_)))))))))))))))))))
  have ix : ∀ d, d < st.length → Int32.ofNat (40 * U.length) + (20 : Int32) + Int32.ofNat st.length - Int32.ofNat (d + 1) = Int32.ofNat (40 * U.length + 20 + (st.length - 1 - d)) := fun d hd => by
    rw [lit32 20, oN_add, oN_add, oN_sub (by omega)]; congr 1; omega
  obtain ⟨hU, hs20, hlo⟩ := h.2.2.1
  refine c_num (d := 0) h (by omega) ?_
  rw [h.2.1.1, h.2.1.2, show (1 : Int32) = Int32.ofNat (0 + 1) from rfl, ix 0 (by omega), oN_tnc (by omega)]
  refine ⟨3 * w + t, h.1.1.2.2.2.2.1.1, by rw [h.1.2.1.1.2.2.1]; exact (vp_oN (by omega)).mpr (by omega), ?_⟩
  rw [(h.gs (k := st.length - 1 - 0) (by omega)).2]
  exact c_push0 (b := (tv st 0).2) h hp hQ
theorem s_21 (h : RI A W w br nq nk np nh nr C B F t s c j a lo st U M) (hA : At W s t c j a lo st U i) (ho : i.1 = 21) (hI : cFi A w nk np nr qi i M) (hqi : qi < L6 w) (hQ : ∀ M', RM A W w br nq nk np nh nr C B F t (doS W t s c j a lo st U i q) (gU (doS W t s c j a lo st U i q) t) M' → Q M') : w_Machine_act_j53 w Q (Int32.ofNat U.length) (Int32.ofNat (moff W c + j)) (Int32.ofNat qi) (Int32.ofNat 21) (mI M 67 w qi) (Int32.ofNat (a + 1)) M := by
  have hLb := L_le w
  have e : doS W t s c j a lo st U i q = sU s t (.inl (c, j, a + 1, lo, drp st 2 ++ [tv st 0, tv st 1, tv st 0]) :: U) := (by obtain ⟨o, r⟩ := i; have ho : o = 21 := ho; subst ho; rfl)
  have h20 := a_21 (q := q) hA ho
  rw [e] at h20
  have h20 := h20.l20 hA.1.1
  rw [e, gU_in] at hQ
  obtain ⟨tl, -⟩ := hA.tk (ws := [wAny, wAny]) (by obtain ⟨o, r⟩ := i; have ho : o = 21 := ho; subst ho; rfl)
  have hs : 2 ≤ st.length := by
    have := hA.in.1.2.1
    have tl : 2 ≤ (k2 W c j a).length := tl
    omega
  unfold w_Machine_act_j53
  refine c_isInN (o := 21) (lo := 23) (hi := 40) (by omega) (by omega) (by omega) (itp (by decide) (c_isInN (o := 21) (lo := 41) (hi := 49) (by omega) (by omega) (by omega) (itp (by decide) (c_isInN (o := 21) (lo := 60) (hi := 61) (by omega) (by omega) (by omega) (itp (by decide) (c_isInN (o := 21) (lo := 50) (hi := 53) (by omega) (by omega) (by omega) (itp (by decide) ?_)))))))
  refine itn (by decide) (itn (by decide) (itn (by decide) (itn (by decide) (itn (by decide) (itn (by decide) (itn (by decide) (itn (by decide) (itn (by decide) (itn (by decide) (itn (by decide) (itn (by decide) (itn (by decide) (itn (by decide) (itn (by decide) (itn (by decide) (itn (by decide) (itn (by decide) (itn (by decide) (itn (by decide) (itp rfl ?_))))))))))))))))))))
  have ix : ∀ d, d < st.length → Int32.ofNat (40 * U.length) + (20 : Int32) + Int32.ofNat st.length - Int32.ofNat (d + 1) = Int32.ofNat (40 * U.length + 20 + (st.length - 1 - d)) := fun d hd => by
    rw [lit32 20, oN_add, oN_add, oN_sub (by omega)]; congr 1; omega
  obtain ⟨hU, hs20, hlo⟩ := h.2.2.1
  have R2 := h.1.1.2.2.2.2.1.1
  have hdl : (drp st 2).length = st.length - 2 := by unfold drp; rw [List.length_take]; omega
  have hln : (drp st 2 ++ [tv st 0, tv st 1, tv st 0]).length = st.length - 2 + 3 := by rw [List.length_append, hdl]; rfl
  have h20 : (drp st 2 ++ [tv st 0, tv st 1, tv st 0]).length ≤ 20 := h20
  rw [hln] at h20
  unfold w_Machine_turn
  rw [h.2.1.1, h.2.1.2, show (1 : Int32) = Int32.ofNat (0 + 1) from rfl, show (2 : Int32) = Int32.ofNat (1 + 1) from rfl, ix 0 (by omega), ix 1 (by omega), oN_tnc (k := 40 * U.length + 20 + (st.length - 1 - 0)) (by omega), oN_tnc (k := 40 * U.length + 20 + (st.length - 1 - 1)) (by omega)]
  have vp : ∀ d f, (f = 94 ∨ f = 514) → d < st.length → vp_in (Int32.ofNat (40 * U.length + 20 + (st.length - 1 - d))) (mL M f (3 * w + t)) := fun d f hf hd => by
    rcases hf with z | z <;> rw [z]
    · rw [h.1.2.1.1.2.1]; exact (vp_oN (by omega)).mpr (by omega)
    · rw [h.1.2.1.1.2.2.1]; exact (vp_oN (by omega)).mpr (by omega)
  refine ⟨3 * w + t, R2, vp 0 94 (Or.inl rfl) (by omega), _, rfl, 3 * w + t, R2, vp 0 514 (Or.inr rfl) (by omega), _, rfl, 3 * w + t, R2, vp 1 94 (Or.inl rfl) (by omega), _, rfl, 3 * w + t, R2, vp 1 514 (Or.inr rfl) (by omega), _, rfl, ?_⟩
  rw [(h.gs (k := st.length - 1 - 0) (by omega)).1, (h.gs (k := st.length - 1 - 0) (by omega)).2, (h.gs (k := st.length - 1 - 1) (by omega)).1, (h.gs (k := st.length - 1 - 1) (by omega)).2]
  refine c_set (b := (tv st 0).2) (L := 3 * w + t) R2 h.1.2.1.1.2.1 h.1.2.1.1.2.2.1 (by omega) (c_set (b := (tv st 1).2) (L := 3 * w + t) R2 h.1.2.1.1.2.1 h.1.2.1.1.2.2.1 (by omega) ?_)
  refine itp rfl ?_
  unfold w_Machine_push
  have e33 : ∀ x y z u : Int32, ∀ p r : Nat, mI (sI (sI (sI (sI M 94 (3 * w + t) p x) 514 (3 * w + t) p y) 94 (3 * w + t) r z) 514 (3 * w + t) r u) 6 w 33 = Int32.ofNat (40 * U.length) := fun x y z u p r => by simp only [mI_sI, Nat.reduceEqDiff, false_and, if_false]; exact h.2.1.1
  have e34 : ∀ x y z u : Int32, ∀ p r : Nat, mI (sI (sI (sI (sI M 94 (3 * w + t) p x) 514 (3 * w + t) p y) 94 (3 * w + t) r z) 514 (3 * w + t) r u) 6 w 34 = Int32.ofNat st.length := fun x y z u p r => by simp only [mI_sI, Nat.reduceEqDiff, false_and, if_false]; exact h.2.1.2
  rw [e33, e34, lit32 20, oN_add, oN_add]
  refine c_set (b := (tv st 0).2) (L := 3 * w + t) R2 h.1.2.1.1.2.1 h.1.2.1.1.2.2.1 (by omega) ?_
  refine c_goT h (AgT.rf.wa.wa.wa.wa.wa.wa.w6) (fun g x y n1 n2 => ?_) (fun _ _ => rfl) ?_ (fun y hy => ?_) (fun y hy => ?_) hQ
  · rw [mI_sI, if_neg (fun z => n1 z.1), mI_sI, if_neg (fun z => by have := n2 (Or.inr z.1); omega), mI_sI, if_neg (fun z => by have := n2 (Or.inl z.1); omega), mI_sI, if_neg (fun z => by have := n2 (Or.inr z.1); omega), mI_sI, if_neg (fun z => by have := n2 (Or.inl z.1); omega), mI_sI, if_neg (fun z => by have := n2 (Or.inr z.1); omega), mI_sI, if_neg (fun z => by have := n2 (Or.inl z.1); omega)]
  · rw [mI_sI, if_pos ⟨rfl, rfl, rfl⟩, hln, mI_sI, if_neg (fun z => absurd z.1 (by decide)), mI_sI, if_neg (fun z => absurd z.1 (by decide)), e34, show Int32.ofNat st.length + (1 : Int32) = Int32.ofNat (st.length + 1) from oN_add _ 1]
    congr 1; omega
  · simp only [mI_sI, Nat.reduceEqDiff, false_and, if_false, true_and]
    rw [if_neg (by omega), if_neg (by omega), if_neg (by omega), if_neg (by omega), if_neg (by omega), if_neg (by omega)]; exact h.gl hy
  · rw [hln] at hy
    simp only [mI_sI, Nat.reduceEqDiff, false_and, if_false, true_and]
    by_cases c1 : y < st.length - 2
    · rw [lv_app1 (by omega)]
      unfold drp
      rw [lvTake c1, if_neg (by omega), if_neg (by omega), if_neg (by omega), if_neg (by omega), if_neg (by omega), if_neg (by omega)]; exact h.gs (by omega)
    rw [lv_app2 (by omega), hdl]
    by_cases c2 : y = st.length
    · rw [if_pos (by omega), if_pos (by omega), show y - (st.length - 2) = 2 by omega]; exact ⟨rfl, rfl⟩
    by_cases c3 : y = st.length - 1
    · rw [if_neg (by omega), if_pos (by omega), if_neg (by omega), if_pos (by omega), show y - (st.length - 2) = 1 by omega]; exact ⟨rfl, rfl⟩
    · rw [if_neg (by omega), if_neg (by omega), if_pos (by omega), if_neg (by omega), if_neg (by omega), if_pos (by omega), show y - (st.length - 2) = 0 by omega]; exact ⟨rfl, rfl⟩
theorem s_22 (h : RI A W w br nq nk np nh nr C B F t s c j a lo st U M) (hA : At W s t c j a lo st U i) (ho : i.1 = 22) (hI : cFi A w nk np nr qi i M) (hqi : qi < L6 w) (hQ : ∀ M', RM A W w br nq nk np nh nr C B F t (doS W t s c j a lo st U i q) (gU (doS W t s c j a lo st U i q) t) M' → Q M') : w_Machine_act_j53 w Q (Int32.ofNat U.length) (Int32.ofNat (moff W c + j)) (Int32.ofNat qi) (Int32.ofNat 22) (mI M 67 w qi) (Int32.ofNat (a + 1)) M := by
  have hLb := L_le w
  have e : doS W t s c j a lo st U i q = sU s t (.inl (c, j, a + 1, lo, drp st 2 ++ [tv st 0, tv st 1]) :: U) := (by obtain ⟨o, r⟩ := i; have ho : o = 22 := ho; subst ho; rfl)
  have h20 := a_22 (q := q) hA ho
  rw [e] at h20
  have h20 := h20.l20 hA.1.1
  rw [e, gU_in] at hQ
  obtain ⟨tl, -⟩ := hA.tk (ws := [wAny, wAny]) (by obtain ⟨o, r⟩ := i; have ho : o = 22 := ho; subst ho; rfl)
  have hs : 2 ≤ st.length := by
    have := hA.in.1.2.1
    have tl : 2 ≤ (k2 W c j a).length := tl
    omega
  unfold w_Machine_act_j53
  refine c_isInN (o := 22) (lo := 23) (hi := 40) (by omega) (by omega) (by omega) (itp (by decide) (c_isInN (o := 22) (lo := 41) (hi := 49) (by omega) (by omega) (by omega) (itp (by decide) (c_isInN (o := 22) (lo := 60) (hi := 61) (by omega) (by omega) (by omega) (itp (by decide) (c_isInN (o := 22) (lo := 50) (hi := 53) (by omega) (by omega) (by omega) (itp (by decide) ?_)))))))
  refine itn (by decide) (itn (by decide) (itn (by decide) (itn (by decide) (itn (by decide) (itn (by decide) (itn (by decide) (itn (by decide) (itn (by decide) (itn (by decide) (itn (by decide) (itn (by decide) (itn (by decide) (itn (by decide) (itn (by decide) (itn (by decide) (itn (by decide) (itn (by decide) (itn (by decide) (itn (by decide) (itn (by decide) (itp rfl ?_)))))))))))))))))))))
  have ix : ∀ d, d < st.length → Int32.ofNat (40 * U.length) + (20 : Int32) + Int32.ofNat st.length - Int32.ofNat (d + 1) = Int32.ofNat (40 * U.length + 20 + (st.length - 1 - d)) := fun d hd => by
    rw [lit32 20, oN_add, oN_add, oN_sub (by omega)]; congr 1; omega
  obtain ⟨hU, hs20, hlo⟩ := h.2.2.1
  have R2 := h.1.1.2.2.2.2.1.1
  have hdl : (drp st 2).length = st.length - 2 := by unfold drp; rw [List.length_take]; omega
  have hln : (drp st 2 ++ [tv st 0, tv st 1]).length = st.length - 2 + 2 := by rw [List.length_append, hdl]; rfl
  have h20 : (drp st 2 ++ [tv st 0, tv st 1]).length ≤ 20 := h20
  rw [hln] at h20
  unfold w_Machine_turn
  rw [h.2.1.1, h.2.1.2, show (1 : Int32) = Int32.ofNat (0 + 1) from rfl, show (2 : Int32) = Int32.ofNat (1 + 1) from rfl, ix 0 (by omega), ix 1 (by omega), oN_tnc (k := 40 * U.length + 20 + (st.length - 1 - 0)) (by omega), oN_tnc (k := 40 * U.length + 20 + (st.length - 1 - 1)) (by omega)]
  have vp : ∀ d f, (f = 94 ∨ f = 514) → d < st.length → vp_in (Int32.ofNat (40 * U.length + 20 + (st.length - 1 - d))) (mL M f (3 * w + t)) := fun d f hf hd => by
    rcases hf with z | z <;> rw [z]
    · rw [h.1.2.1.1.2.1]; exact (vp_oN (by omega)).mpr (by omega)
    · rw [h.1.2.1.1.2.2.1]; exact (vp_oN (by omega)).mpr (by omega)
  refine ⟨3 * w + t, R2, vp 0 94 (Or.inl rfl) (by omega), _, rfl, 3 * w + t, R2, vp 0 514 (Or.inr rfl) (by omega), _, rfl, 3 * w + t, R2, vp 1 94 (Or.inl rfl) (by omega), _, rfl, 3 * w + t, R2, vp 1 514 (Or.inr rfl) (by omega), _, rfl, ?_⟩
  rw [(h.gs (k := st.length - 1 - 0) (by omega)).1, (h.gs (k := st.length - 1 - 0) (by omega)).2, (h.gs (k := st.length - 1 - 1) (by omega)).1, (h.gs (k := st.length - 1 - 1) (by omega)).2]
  refine c_set (b := (tv st 0).2) (L := 3 * w + t) R2 h.1.2.1.1.2.1 h.1.2.1.1.2.2.1 (by omega) (c_set (b := (tv st 1).2) (L := 3 * w + t) R2 h.1.2.1.1.2.1 h.1.2.1.1.2.2.1 (by omega) ?_)
  refine itn (by decide) ?_
  refine c_goT h (AgT.rf.wa.wa.wa.wa) (fun g x y n1 n2 => ?_) (fun _ _ => rfl) ?_ (fun y hy => ?_) (fun y hy => ?_) hQ
  · rw [mI_sI, if_neg (fun z => by have := n2 (Or.inr z.1); omega), mI_sI, if_neg (fun z => by have := n2 (Or.inl z.1); omega), mI_sI, if_neg (fun z => by have := n2 (Or.inr z.1); omega), mI_sI, if_neg (fun z => by have := n2 (Or.inl z.1); omega)]
  · simp only [mI_sI, Nat.reduceEqDiff, false_and, if_false]
    rw [hln, h.2.1.2]; congr 1; omega
  · simp only [mI_sI, Nat.reduceEqDiff, false_and, if_false, true_and]
    rw [if_neg (by omega), if_neg (by omega), if_neg (by omega), if_neg (by omega)]; exact h.gl hy
  · rw [hln] at hy
    simp only [mI_sI, Nat.reduceEqDiff, false_and, if_false, true_and]
    by_cases c1 : y < st.length - 2
    · rw [lv_app1 (by omega)]
      unfold drp
      rw [lvTake c1, if_neg (by omega), if_neg (by omega), if_neg (by omega), if_neg (by omega)]; exact h.gs (by omega)
    rw [lv_app2 (by omega), hdl]
    by_cases c3 : y = st.length - 1
    · rw [if_pos (by omega), if_pos (by omega), show y - (st.length - 2) = 1 by omega]; exact ⟨rfl, rfl⟩
    · rw [if_neg (by omega), if_pos (by omega), if_neg (by omega), if_pos (by omega), show y - (st.length - 2) = 0 by omega]; exact ⟨rfl, rfl⟩
end
