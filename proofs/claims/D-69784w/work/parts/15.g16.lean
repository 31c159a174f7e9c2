/-! THE MACHINE IN THE WORKS: jumps (printed by gen/jm.py) -/
theorem sI_id {M : Mem} {f i k : Nat} {v : Int32} (h : mI M f i k = v) : sI M f i k v = M := by
  unfold sI
  refine Prod.ext ?_ rfl
  funext f' i' k'
  show (if f' = f ∧ i' = i ∧ k' = k then v else M.1 f' i' k') = M.1 f' i' k'
  by_cases e : f' = f ∧ i' = i ∧ k' = k
  · rw [if_pos e, e.1, e.2.1, e.2.2]; exact h.symm
  · rw [if_neg e]
section
variable {A : List Nm} {W : List Cls} {w C B F t : Nat} {br : Int32} {nq nk np nh nr : Nat} {s : Ms} {M : Mem} {U : List Un} {c j a qi : Nat} {lo st : List Vl} {q : Nat × Nat} {i : Ins} {Q : Mem → Prop}
theorem c_go0 {a' : Nat} (h : RI A W w br nq nk np nh nr C B F t s c j a lo st U M) (hQ : ∀ M', RM A W w br nq nk np nh nr C B F t (sU s t (.inl (c, j, a', lo, st) :: U)) (.inl (c, j, a', lo, st) :: U) M' → Q M') : w_Machine_goesTo w (Int32.ofNat U.length) (Int32.ofNat a') Q M := by
  have := c_go (n := st.length) (a' := a') (Q := Q) h (Nat.le_refl _) (by rw [List.take_length]; exact hQ)
  rw [sI_id h.2.1.2] at this; exact this
theorem c_push0 {a' : Nat} {v : Int32} {b : Bool} (h : RI A W w br nq nk np nh nr C B F t s c j a lo st U M) (hn : st.length < 20) (hQ : ∀ M', RM A W w br nq nk np nh nr C B F t (sU s t (.inl (c, j, a', lo, st ++ [(v, b)]) :: U)) (.inl (c, j, a', lo, st ++ [(v, b)]) :: U) M' → Q M') : w_Machine_push w v (b2 b) (fun M' => w_Machine_goesTo w (Int32.ofNat U.length) (Int32.ofNat a') Q M') M := by
  have := c_comesGo (p := 0) (a' := a') (v := v) (b := b) (Q := Q) h (Nat.zero_le _) (by omega) (by rw [drp0]; exact hQ)
  rw [Nat.sub_zero, sI_id h.2.1.2] at this; exact this
theorem h_24 {x y : Int32} {Q : Int32 → Mem → Prop} (hQ : Q (b2 (cmpS 24 x y)) M) : w_Machine_holds w (Int32.ofNat 24) x y Q M := by
  have e : cmpS 24 x y = decide (x = y) := rfl
  rw [e] at hQ
  unfold w_Machine_holds
  by_cases z : x = y
  · rw [decide_eq_true z] at hQ; exact itp rfl (itp z hQ)
  · rw [decide_eq_false z] at hQ; exact itp rfl (itn z hQ)
theorem h_25 {x y : Int32} {Q : Int32 → Mem → Prop} (hQ : Q (b2 (cmpS 25 x y)) M) : w_Machine_holds w (Int32.ofNat 25) x y Q M := by
  have e : cmpS 25 x y = decide (x ≠ y) := rfl
  rw [e] at hQ
  unfold w_Machine_holds
  by_cases z : x = y
  · rw [decide_eq_false (fun y => y z)] at hQ; exact itn (by decide) (itp rfl (itp z hQ))
  · rw [decide_eq_true z] at hQ; exact itn (by decide) (itp rfl (itn z hQ))
theorem h_26 {x y : Int32} {Q : Int32 → Mem → Prop} (hQ : Q (b2 (cmpS 26 x y)) M) : w_Machine_holds w (Int32.ofNat 26) x y Q M := by
  have e : cmpS 26 x y = decide (x < y) := rfl
  rw [e] at hQ
  unfold w_Machine_holds
  by_cases z : y ≤ x
  · rw [decide_eq_false (fun y => Int32.not_le.mpr y z)] at hQ; exact itn (by decide) (itn (by decide) (itp rfl (itp z hQ)))
  · rw [decide_eq_true (Int32.not_le.mp z)] at hQ; exact itn (by decide) (itn (by decide) (itp rfl (itn z hQ)))
theorem h_27 {x y : Int32} {Q : Int32 → Mem → Prop} (hQ : Q (b2 (cmpS 27 x y)) M) : w_Machine_holds w (Int32.ofNat 27) x y Q M := by
  have e : cmpS 27 x y = decide (y ≤ x) := rfl
  rw [e] at hQ
  unfold w_Machine_holds
  by_cases z : x < y
  · rw [decide_eq_false (fun y => Int32.not_lt.mpr y z)] at hQ; exact itn (by decide) (itn (by decide) (itn (by decide) (itp rfl (itp z hQ))))
  · rw [decide_eq_true (Int32.not_lt.mp z)] at hQ; exact itn (by decide) (itn (by decide) (itn (by decide) (itp rfl (itn z hQ))))
theorem h_28 {x y : Int32} {Q : Int32 → Mem → Prop} (hQ : Q (b2 (cmpS 28 x y)) M) : w_Machine_holds w (Int32.ofNat 28) x y Q M := by
  have e : cmpS 28 x y = decide (y < x) := rfl
  rw [e] at hQ
  unfold w_Machine_holds
  by_cases z : x ≤ y
  · rw [decide_eq_false (fun y => Int32.not_le.mpr y z)] at hQ; exact itn (by decide) (itn (by decide) (itn (by decide) (itn (by decide) (itp rfl (itp z hQ)))))
  · rw [decide_eq_true (Int32.not_le.mp z)] at hQ; exact itn (by decide) (itn (by decide) (itn (by decide) (itn (by decide) (itp rfl (itn z hQ)))))
theorem h_29 {x y : Int32} {Q : Int32 → Mem → Prop} (hQ : Q (b2 (cmpS 29 x y)) M) : w_Machine_holds w (Int32.ofNat 29) x y Q M := by
  have e : cmpS 29 x y = decide (x ≤ y) := rfl
  rw [e] at hQ
  unfold w_Machine_holds
  by_cases z : y < x
  · rw [decide_eq_false (fun y => Int32.not_lt.mpr y z)] at hQ; exact itn (by decide) (itn (by decide) (itn (by decide) (itn (by decide) (itn (by decide) (itp rfl (itp z hQ))))))
  · rw [decide_eq_true (Int32.not_lt.mp z)] at hQ; exact itn (by decide) (itn (by decide) (itn (by decide) (itn (by decide) (itn (by decide) (itp rfl (itn z hQ))))))
theorem h_30 {x y : Int32} {Q : Int32 → Mem → Prop} (hQ : Q (b2 (cmpS 30 x y)) M) : w_Machine_holds w (Int32.ofNat 30) x y Q M := by
  have e : cmpS 30 x y = decide (x = y) := rfl
  rw [e] at hQ
  unfold w_Machine_holds
  by_cases z : x = y
  · rw [decide_eq_true z] at hQ; exact itn (by decide) (itn (by decide) (itn (by decide) (itn (by decide) (itn (by decide) (itn (by decide) (itp rfl (itp z hQ)))))))
  · rw [decide_eq_false z] at hQ; exact itn (by decide) (itn (by decide) (itn (by decide) (itn (by decide) (itn (by decide) (itn (by decide) (itp rfl (itn z hQ)))))))
theorem h_31 {x y : Int32} {Q : Int32 → Mem → Prop} (hQ : Q (b2 (cmpS 31 x y)) M) : w_Machine_holds w (Int32.ofNat 31) x y Q M := by
  have e : cmpS 31 x y = decide (x ≠ y) := rfl
  rw [e] at hQ
  unfold w_Machine_holds
  by_cases z : x = y
  · rw [decide_eq_false (fun y => y z)] at hQ; exact itn (by decide) (itn (by decide) (itn (by decide) (itn (by decide) (itn (by decide) (itn (by decide) (itn (by decide) (itp rfl (itp z hQ))))))))
  · rw [decide_eq_true z] at hQ; exact itn (by decide) (itn (by decide) (itn (by decide) (itn (by decide) (itn (by decide) (itn (by decide) (itn (by decide) (itp rfl (itn z hQ))))))))
theorem h_32 {x y : Int32} {Q : Int32 → Mem → Prop} (hQ : Q (b2 (cmpS 32 x y)) M) : w_Machine_holds w (Int32.ofNat 32) x y Q M := by
  have e : cmpS 32 x y = decide (x < y) := rfl
  rw [e] at hQ
  unfold w_Machine_holds
  by_cases z : y ≤ x
  · rw [decide_eq_false (fun y => Int32.not_le.mpr y z)] at hQ; exact itn (by decide) (itn (by decide) (itn (by decide) (itn (by decide) (itn (by decide) (itn (by decide) (itn (by decide) (itn (by decide) (itp rfl (itp z hQ)))))))))
  · rw [decide_eq_true (Int32.not_le.mp z)] at hQ; exact itn (by decide) (itn (by decide) (itn (by decide) (itn (by decide) (itn (by decide) (itn (by decide) (itn (by decide) (itn (by decide) (itp rfl (itn z hQ)))))))))
theorem h_33 {x y : Int32} {Q : Int32 → Mem → Prop} (hQ : Q (b2 (cmpS 33 x y)) M) : w_Machine_holds w (Int32.ofNat 33) x y Q M := by
  have e : cmpS 33 x y = decide (y ≤ x) := rfl
  rw [e] at hQ
  unfold w_Machine_holds
  by_cases z : x < y
  · rw [decide_eq_false (fun y => Int32.not_lt.mpr y z)] at hQ; exact itn (by decide) (itn (by decide) (itn (by decide) (itn (by decide) (itn (by decide) (itn (by decide) (itn (by decide) (itn (by decide) (itn (by decide) (itp rfl (itp z hQ))))))))))
  · rw [decide_eq_true (Int32.not_lt.mp z)] at hQ; exact itn (by decide) (itn (by decide) (itn (by decide) (itn (by decide) (itn (by decide) (itn (by decide) (itn (by decide) (itn (by decide) (itn (by decide) (itp rfl (itn z hQ))))))))))
theorem h_34 {x y : Int32} {Q : Int32 → Mem → Prop} (hQ : Q (b2 (cmpS 34 x y)) M) : w_Machine_holds w (Int32.ofNat 34) x y Q M := by
  have e : cmpS 34 x y = decide (y < x) := rfl
  rw [e] at hQ
  unfold w_Machine_holds
  by_cases z : x ≤ y
  · rw [decide_eq_false (fun y => Int32.not_le.mpr y z)] at hQ; exact itn (by decide) (itn (by decide) (itn (by decide) (itn (by decide) (itn (by decide) (itn (by decide) (itn (by decide) (itn (by decide) (itn (by decide) (itn (by decide) (itp rfl (itp z hQ)))))))))))
  · rw [decide_eq_true (Int32.not_le.mp z)] at hQ; exact itn (by decide) (itn (by decide) (itn (by decide) (itn (by decide) (itn (by decide) (itn (by decide) (itn (by decide) (itn (by decide) (itn (by decide) (itn (by decide) (itp rfl (itn z hQ)))))))))))
theorem h_35 {x y : Int32} {Q : Int32 → Mem → Prop} (hQ : Q (b2 (cmpS 35 x y)) M) : w_Machine_holds w (Int32.ofNat 35) x y Q M := by
  have e : cmpS 35 x y = decide (x ≤ y) := rfl
  rw [e] at hQ
  unfold w_Machine_holds
  by_cases z : y < x
  · rw [decide_eq_false (fun y => Int32.not_lt.mpr y z)] at hQ; exact itn (by decide) (itn (by decide) (itn (by decide) (itn (by decide) (itn (by decide) (itn (by decide) (itn (by decide) (itn (by decide) (itn (by decide) (itn (by decide) (itn (by decide) (itp rfl (itp z hQ))))))))))))
  · rw [decide_eq_true (Int32.not_lt.mp z)] at hQ; exact itn (by decide) (itn (by decide) (itn (by decide) (itn (by decide) (itn (by decide) (itn (by decide) (itn (by decide) (itn (by decide) (itn (by decide) (itn (by decide) (itn (by decide) (itp rfl (itn z hQ))))))))))))
theorem h_36 {x y : Int32} {Q : Int32 → Mem → Prop} (hQ : Q (b2 (cmpS 36 x y)) M) : w_Machine_holds w (Int32.ofNat 36) x y Q M := by
  have e : cmpS 36 x y = decide (x = y) := rfl
  rw [e] at hQ
  unfold w_Machine_holds
  by_cases z : x = y
  · rw [decide_eq_true z] at hQ; exact itn (by decide) (itn (by decide) (itn (by decide) (itn (by decide) (itn (by decide) (itn (by decide) (itn (by decide) (itn (by decide) (itn (by decide) (itn (by decide) (itn (by decide) (itn (by decide) (itp rfl (itp z hQ)))))))))))))
  · rw [decide_eq_false z] at hQ; exact itn (by decide) (itn (by decide) (itn (by decide) (itn (by decide) (itn (by decide) (itn (by decide) (itn (by decide) (itn (by decide) (itn (by decide) (itn (by decide) (itn (by decide) (itn (by decide) (itp rfl (itn z hQ)))))))))))))
theorem h_37 {x y : Int32} {Q : Int32 → Mem → Prop} (hQ : Q (b2 (cmpS 37 x y)) M) : w_Machine_holds w (Int32.ofNat 37) x y Q M := by
  have e : cmpS 37 x y = decide (x ≠ y) := rfl
  rw [e] at hQ
  unfold w_Machine_holds
  by_cases z : x = y
  · rw [decide_eq_false (fun y => y z)] at hQ; exact itn (by decide) (itn (by decide) (itn (by decide) (itn (by decide) (itn (by decide) (itn (by decide) (itn (by decide) (itn (by decide) (itn (by decide) (itn (by decide) (itn (by decide) (itn (by decide) (itn (by decide) (itp rfl (itp z hQ))))))))))))))
  · rw [decide_eq_true z] at hQ; exact itn (by decide) (itn (by decide) (itn (by decide) (itn (by decide) (itn (by decide) (itn (by decide) (itn (by decide) (itn (by decide) (itn (by decide) (itn (by decide) (itn (by decide) (itn (by decide) (itn (by decide) (itp rfl (itn z hQ))))))))))))))
theorem h_38 {x y : Int32} {Q : Int32 → Mem → Prop} (hQ : Q (b2 (cmpS 38 x y)) M) : w_Machine_holds w (Int32.ofNat 38) x y Q M := by
  have e : cmpS 38 x y = decide (x = y) := rfl
  rw [e] at hQ
  unfold w_Machine_holds
  by_cases z : x = y
  · rw [decide_eq_true z] at hQ; exact itn (by decide) (itn (by decide) (itn (by decide) (itn (by decide) (itn (by decide) (itn (by decide) (itn (by decide) (itn (by decide) (itn (by decide) (itn (by decide) (itn (by decide) (itn (by decide) (itn (by decide) (itn (by decide) (itp rfl (itp z hQ)))))))))))))))
  · rw [decide_eq_false z] at hQ; exact itn (by decide) (itn (by decide) (itn (by decide) (itn (by decide) (itn (by decide) (itn (by decide) (itn (by decide) (itn (by decide) (itn (by decide) (itn (by decide) (itn (by decide) (itn (by decide) (itn (by decide) (itn (by decide) (itp rfl (itn z hQ)))))))))))))))
theorem h_39 {x y : Int32} {Q : Int32 → Mem → Prop} (hQ : Q (b2 (cmpS 39 x y)) M) : w_Machine_holds w (Int32.ofNat 39) x y Q M := by
  have e : cmpS 39 x y = decide (x ≠ y) := rfl
  rw [e] at hQ
  unfold w_Machine_holds
  by_cases z : x = y
  · rw [decide_eq_false (fun y => y z)] at hQ; exact itn (by decide) (itn (by decide) (itn (by decide) (itn (by decide) (itn (by decide) (itn (by decide) (itn (by decide) (itn (by decide) (itn (by decide) (itn (by decide) (itn (by decide) (itn (by decide) (itn (by decide) (itn (by decide) (itn (by decide) (itp rfl (itp z hQ))))))))))))))))
  · rw [decide_eq_true z] at hQ; exact itn (by decide) (itn (by decide) (itn (by decide) (itn (by decide) (itn (by decide) (itn (by decide) (itn (by decide) (itn (by decide) (itn (by decide) (itn (by decide) (itn (by decide) (itn (by decide) (itn (by decide) (itn (by decide) (itn (by decide) (itp rfl (itn z hQ))))))))))))))))
theorem j_23 (h : RI A W w br nq nk np nh nr C B F t s c j a lo st U M) (ho : i.1 = 23) (hI : cFi A w nk np nr qi i M) (hqi : qi < L6 w) (hQ : ∀ M', RM A W w br nq nk np nh nr C B F t (doS W t s c j a lo st U i q) (gU (doS W t s c j a lo st U i q) t) M' → Q M') : w_Machine_jump w (Int32.ofNat U.length) (Int32.ofNat qi) (Int32.ofNat 23) (Int32.ofNat (a + 1)) Q M := by
  have hLb := L_le w
  have e : doS W t s c j a lo st U i q = sU s t (.inl (c, j, gtn (iT i) 0, lo, st) :: U) := (by obtain ⟨o, r⟩ := i; have ho : o = 23 := ho; subst ho; rfl)
  rw [e, gU_in] at hQ
  have l67 : mL M 67 w = L6 w := h.1.1.1.1.1.2.2.2.1.1 67 (by omega) (by omega)
  unfold w_Machine_jump
  refine itp rfl ⟨by rw [l67]; exact (vp_oN (by omega)).mpr hqi, ?_⟩
  rw [oN_tnc (k := qi) (by omega), hI.2.2.1 (by rw [ho]; decide)]
  exact c_go0 h hQ
theorem j_24 (h : RI A W w br nq nk np nh nr C B F t s c j a lo st U M) (hA : At W s t c j a lo st U i) (ho : i.1 = 24) (hI : cFi A w nk np nr qi i M) (hqi : qi < L6 w) (hQ : ∀ M', RM A W w br nq nk np nh nr C B F t (doS W t s c j a lo st U i q) (gU (doS W t s c j a lo st U i q) t) M' → Q M') : w_Machine_jump w (Int32.ofNat U.length) (Int32.ofNat qi) (Int32.ofNat 24) (Int32.ofNat (a + 1)) Q M := by
  have hLb := L_le w
  obtain ⟨tl, -⟩ := hA.tk (ws := [wNum]) (by obtain ⟨o, r⟩ := i; have ho : o = 24 := ho; subst ho; rfl)
  have hs : 1 ≤ st.length := by
    have := hA.in.1.2.1
    have tl : 1 ≤ (k2 W c j a).length := tl
    omega
  have e : doS W t s c j a lo st U i q = sU s t (.inl (c, j, if cmpS 24 (tv st 0).1 0 then gtn (iT i) 0 else a + 1, lo, drp st 1) :: U) := (by obtain ⟨o, r⟩ := i; have ho : o = 24 := ho; subst ho; rfl)
  rw [e, gU_in] at hQ
  have l67 : mL M 67 w = L6 w := h.1.1.1.1.1.2.2.2.1.1 67 (by omega) (by omega)
  have fin : w_Machine_holds w (Int32.ofNat 24) (tv st 0).1 0 (fun r24 M23 => if r24 = 0 then (w_Machine_jump_j228 w Q (Int32.ofNat (a + 1)) (Int32.ofNat U.length) M23) else (vp_in (Int32.ofNat qi) (mL M23 67 w) ∧ w_Machine_jump_j228 w Q (mI M23 67 w (Int32.ofNat qi).toNatClampNeg) (Int32.ofNat U.length) M23)) (sI M 6 w 34 ((mI M 6 w 34) - (1 : Int32))) := by
    rw [h.2.1.2, lit32 1, sub_n hs]
    refine h_24 ?_
    unfold w_Machine_jump_j228
    cases hc : cmpS 24 (tv st 0).1 0 with
    | true =>
      rw [hc, if_pos rfl] at hQ
      refine itn (by decide) ⟨by show vp_in _ (mL M 67 w); rw [l67]; exact (vp_oN (by omega)).mpr hqi, ?_⟩
      rw [oN_tnc (k := qi) (by omega), mI_sI, if_neg (fun z => absurd z.1 (by decide)), hI.2.2.1 (by rw [ho]; decide)]
      exact c_go h (by omega) hQ
    | false =>
      rw [hc, if_neg (by decide)] at hQ
      exact itp rfl (c_go h (by omega) hQ)
  unfold w_Machine_jump
  refine itn (by decide) (c_num (d := 0) h (by omega) (itn (by decide) ?_))
  refine c_isInN (o := 24) (lo := 30) (hi := 35) (by omega) (by omega) (by omega) ?_
  refine itp (by decide) (itn (by decide) (itn (by decide) ?_))
  unfold w_Machine_jump_j149
  refine itp rfl ?_
  unfold w_Machine_jump_j166
  refine itp rfl ?_
  unfold w_Machine_jump_j179
  refine itp rfl ?_
  unfold w_Machine_jump_j196
  exact fin
theorem j_25 (h : RI A W w br nq nk np nh nr C B F t s c j a lo st U M) (hA : At W s t c j a lo st U i) (ho : i.1 = 25) (hI : cFi A w nk np nr qi i M) (hqi : qi < L6 w) (hQ : ∀ M', RM A W w br nq nk np nh nr C B F t (doS W t s c j a lo st U i q) (gU (doS W t s c j a lo st U i q) t) M' → Q M') : w_Machine_jump w (Int32.ofNat U.length) (Int32.ofNat qi) (Int32.ofNat 25) (Int32.ofNat (a + 1)) Q M := by
  have hLb := L_le w
  obtain ⟨tl, -⟩ := hA.tk (ws := [wNum]) (by obtain ⟨o, r⟩ := i; have ho : o = 25 := ho; subst ho; rfl)
  have hs : 1 ≤ st.length := by
    have := hA.in.1.2.1
    have tl : 1 ≤ (k2 W c j a).length := tl
    omega
  have e : doS W t s c j a lo st U i q = sU s t (.inl (c, j, if cmpS 25 (tv st 0).1 0 then gtn (iT i) 0 else a + 1, lo, drp st 1) :: U) := (by obtain ⟨o, r⟩ := i; have ho : o = 25 := ho; subst ho; rfl)
  rw [e, gU_in] at hQ
  have l67 : mL M 67 w = L6 w := h.1.1.1.1.1.2.2.2.1.1 67 (by omega) (by omega)
  have fin : w_Machine_holds w (Int32.ofNat 25) (tv st 0).1 0 (fun r24 M23 => if r24 = 0 then (w_Machine_jump_j228 w Q (Int32.ofNat (a + 1)) (Int32.ofNat U.length) M23) else (vp_in (Int32.ofNat qi) (mL M23 67 w) ∧ w_Machine_jump_j228 w Q (mI M23 67 w (Int32.ofNat qi).toNatClampNeg) (Int32.ofNat U.length) M23)) (sI M 6 w 34 ((mI M 6 w 34) - (1 : Int32))) := by
    rw [h.2.1.2, lit32 1, sub_n hs]
    refine h_25 ?_
    unfold w_Machine_jump_j228
    cases hc : cmpS 25 (tv st 0).1 0 with
    | true =>
      rw [hc, if_pos rfl] at hQ
      refine itn (by decide) ⟨by show vp_in _ (mL M 67 w); rw [l67]; exact (vp_oN (by omega)).mpr hqi, ?_⟩
      rw [oN_tnc (k := qi) (by omega), mI_sI, if_neg (fun z => absurd z.1 (by decide)), hI.2.2.1 (by rw [ho]; decide)]
      exact c_go h (by omega) hQ
    | false =>
      rw [hc, if_neg (by decide)] at hQ
      exact itp rfl (c_go h (by omega) hQ)
  unfold w_Machine_jump
  refine itn (by decide) (c_num (d := 0) h (by omega) (itn (by decide) ?_))
  refine c_isInN (o := 25) (lo := 30) (hi := 35) (by omega) (by omega) (by omega) ?_
  refine itp (by decide) (itn (by decide) (itn (by decide) ?_))
  unfold w_Machine_jump_j149
  refine itp rfl ?_
  unfold w_Machine_jump_j166
  refine itp rfl ?_
  unfold w_Machine_jump_j179
  refine itp rfl ?_
  unfold w_Machine_jump_j196
  exact fin
theorem j_26 (h : RI A W w br nq nk np nh nr C B F t s c j a lo st U M) (hA : At W s t c j a lo st U i) (ho : i.1 = 26) (hI : cFi A w nk np nr qi i M) (hqi : qi < L6 w) (hQ : ∀ M', RM A W w br nq nk np nh nr C B F t (doS W t s c j a lo st U i q) (gU (doS W t s c j a lo st U i q) t) M' → Q M') : w_Machine_jump w (Int32.ofNat U.length) (Int32.ofNat qi) (Int32.ofNat 26) (Int32.ofNat (a + 1)) Q M := by
  have hLb := L_le w
  obtain ⟨tl, -⟩ := hA.tk (ws := [wNum]) (by obtain ⟨o, r⟩ := i; have ho : o = 26 := ho; subst ho; rfl)
  have hs : 1 ≤ st.length := by
    have := hA.in.1.2.1
    have tl : 1 ≤ (k2 W c j a).length := tl
    omega
  have e : doS W t s c j a lo st U i q = sU s t (.inl (c, j, if cmpS 26 (tv st 0).1 0 then gtn (iT i) 0 else a + 1, lo, drp st 1) :: U) := (by obtain ⟨o, r⟩ := i; have ho : o = 26 := ho; subst ho; rfl)
  rw [e, gU_in] at hQ
  have l67 : mL M 67 w = L6 w := h.1.1.1.1.1.2.2.2.1.1 67 (by omega) (by omega)
  have fin : w_Machine_holds w (Int32.ofNat 26) (tv st 0).1 0 (fun r24 M23 => if r24 = 0 then (w_Machine_jump_j228 w Q (Int32.ofNat (a + 1)) (Int32.ofNat U.length) M23) else (vp_in (Int32.ofNat qi) (mL M23 67 w) ∧ w_Machine_jump_j228 w Q (mI M23 67 w (Int32.ofNat qi).toNatClampNeg) (Int32.ofNat U.length) M23)) (sI M 6 w 34 ((mI M 6 w 34) - (1 : Int32))) := by
    rw [h.2.1.2, lit32 1, sub_n hs]
    refine h_26 ?_
    unfold w_Machine_jump_j228
    cases hc : cmpS 26 (tv st 0).1 0 with
    | true =>
      rw [hc, if_pos rfl] at hQ
      refine itn (by decide) ⟨by show vp_in _ (mL M 67 w); rw [l67]; exact (vp_oN (by omega)).mpr hqi, ?_⟩
      rw [oN_tnc (k := qi) (by omega), mI_sI, if_neg (fun z => absurd z.1 (by decide)), hI.2.2.1 (by rw [ho]; decide)]
      exact c_go h (by omega) hQ
    | false =>
      rw [hc, if_neg (by decide)] at hQ
      exact itp rfl (c_go h (by omega) hQ)
  unfold w_Machine_jump
  refine itn (by decide) (c_num (d := 0) h (by omega) (itn (by decide) ?_))
  refine c_isInN (o := 26) (lo := 30) (hi := 35) (by omega) (by omega) (by omega) ?_
  refine itp (by decide) (itn (by decide) (itn (by decide) ?_))
  unfold w_Machine_jump_j149
  refine itp rfl ?_
  unfold w_Machine_jump_j166
  refine itp rfl ?_
  unfold w_Machine_jump_j179
  refine itp rfl ?_
  unfold w_Machine_jump_j196
  exact fin
theorem j_27 (h : RI A W w br nq nk np nh nr C B F t s c j a lo st U M) (hA : At W s t c j a lo st U i) (ho : i.1 = 27) (hI : cFi A w nk np nr qi i M) (hqi : qi < L6 w) (hQ : ∀ M', RM A W w br nq nk np nh nr C B F t (doS W t s c j a lo st U i q) (gU (doS W t s c j a lo st U i q) t) M' → Q M') : w_Machine_jump w (Int32.ofNat U.length) (Int32.ofNat qi) (Int32.ofNat 27) (Int32.ofNat (a + 1)) Q M := by
  have hLb := L_le w
  obtain ⟨tl, -⟩ := hA.tk (ws := [wNum]) (by obtain ⟨o, r⟩ := i; have ho : o = 27 := ho; subst ho; rfl)
  have hs : 1 ≤ st.length := by
    have := hA.in.1.2.1
    have tl : 1 ≤ (k2 W c j a).length := tl
    omega
  have e : doS W t s c j a lo st U i q = sU s t (.inl (c, j, if cmpS 27 (tv st 0).1 0 then gtn (iT i) 0 else a + 1, lo, drp st 1) :: U) := (by obtain ⟨o, r⟩ := i; have ho : o = 27 := ho; subst ho; rfl)
  rw [e, gU_in] at hQ
  have l67 : mL M 67 w = L6 w := h.1.1.1.1.1.2.2.2.1.1 67 (by omega) (by omega)
  have fin : w_Machine_holds w (Int32.ofNat 27) (tv st 0).1 0 (fun r24 M23 => if r24 = 0 then (w_Machine_jump_j228 w Q (Int32.ofNat (a + 1)) (Int32.ofNat U.length) M23) else (vp_in (Int32.ofNat qi) (mL M23 67 w) ∧ w_Machine_jump_j228 w Q (mI M23 67 w (Int32.ofNat qi).toNatClampNeg) (Int32.ofNat U.length) M23)) (sI M 6 w 34 ((mI M 6 w 34) - (1 : Int32))) := by
    rw [h.2.1.2, lit32 1, sub_n hs]
    refine h_27 ?_
    unfold w_Machine_jump_j228
    cases hc : cmpS 27 (tv st 0).1 0 with
    | true =>
      rw [hc, if_pos rfl] at hQ
      refine itn (by decide) ⟨by show vp_in _ (mL M 67 w); rw [l67]; exact (vp_oN (by omega)).mpr hqi, ?_⟩
      rw [oN_tnc (k := qi) (by omega), mI_sI, if_neg (fun z => absurd z.1 (by decide)), hI.2.2.1 (by rw [ho]; decide)]
      exact c_go h (by omega) hQ
    | false =>
      rw [hc, if_neg (by decide)] at hQ
      exact itp rfl (c_go h (by omega) hQ)
  unfold w_Machine_jump
  refine itn (by decide) (c_num (d := 0) h (by omega) (itn (by decide) ?_))
  refine c_isInN (o := 27) (lo := 30) (hi := 35) (by omega) (by omega) (by omega) ?_
  refine itp (by decide) (itn (by decide) (itn (by decide) ?_))
  unfold w_Machine_jump_j149
  refine itp rfl ?_
  unfold w_Machine_jump_j166
  refine itp rfl ?_
  unfold w_Machine_jump_j179
  refine itp rfl ?_
  unfold w_Machine_jump_j196
  exact fin
theorem j_28 (h : RI A W w br nq nk np nh nr C B F t s c j a lo st U M) (hA : At W s t c j a lo st U i) (ho : i.1 = 28) (hI : cFi A w nk np nr qi i M) (hqi : qi < L6 w) (hQ : ∀ M', RM A W w br nq nk np nh nr C B F t (doS W t s c j a lo st U i q) (gU (doS W t s c j a lo st U i q) t) M' → Q M') : w_Machine_jump w (Int32.ofNat U.length) (Int32.ofNat qi) (Int32.ofNat 28) (Int32.ofNat (a + 1)) Q M := by
  have hLb := L_le w
  obtain ⟨tl, -⟩ := hA.tk (ws := [wNum]) (by obtain ⟨o, r⟩ := i; have ho : o = 28 := ho; subst ho; rfl)
  have hs : 1 ≤ st.length := by
    have := hA.in.1.2.1
    have tl : 1 ≤ (k2 W c j a).length := tl
    omega
  have e : doS W t s c j a lo st U i q = sU s t (.inl (c, j, if cmpS 28 (tv st 0).1 0 then gtn (iT i) 0 else a + 1, lo, drp st 1) :: U) := (by obtain ⟨o, r⟩ := i; have ho : o = 28 := ho; subst ho; rfl)
  rw [e, gU_in] at hQ
  have l67 : mL M 67 w = L6 w := h.1.1.1.1.1.2.2.2.1.1 67 (by omega) (by omega)
  have fin : w_Machine_holds w (Int32.ofNat 28) (tv st 0).1 0 (fun r24 M23 => if r24 = 0 then (w_Machine_jump_j228 w Q (Int32.ofNat (a + 1)) (Int32.ofNat U.length) M23) else (vp_in (Int32.ofNat qi) (mL M23 67 w) ∧ w_Machine_jump_j228 w Q (mI M23 67 w (Int32.ofNat qi).toNatClampNeg) (Int32.ofNat U.length) M23)) (sI M 6 w 34 ((mI M 6 w 34) - (1 : Int32))) := by
    rw [h.2.1.2, lit32 1, sub_n hs]
    refine h_28 ?_
    unfold w_Machine_jump_j228
    cases hc : cmpS 28 (tv st 0).1 0 with
    | true =>
      rw [hc, if_pos rfl] at hQ
      refine itn (by decide) ⟨by show vp_in _ (mL M 67 w); rw [l67]; exact (vp_oN (by omega)).mpr hqi, ?_⟩
      rw [oN_tnc (k := qi) (by omega), mI_sI, if_neg (fun z => absurd z.1 (by decide)), hI.2.2.1 (by rw [ho]; decide)]
      exact c_go h (by omega) hQ
    | false =>
      rw [hc, if_neg (by decide)] at hQ
      exact itp rfl (c_go h (by omega) hQ)
  unfold w_Machine_jump
  refine itn (by decide) (c_num (d := 0) h (by omega) (itn (by decide) ?_))
  refine c_isInN (o := 28) (lo := 30) (hi := 35) (by omega) (by omega) (by omega) ?_
  refine itp (by decide) (itn (by decide) (itn (by decide) ?_))
  unfold w_Machine_jump_j149
  refine itp rfl ?_
  unfold w_Machine_jump_j166
  refine itp rfl ?_
  unfold w_Machine_jump_j179
  refine itp rfl ?_
  unfold w_Machine_jump_j196
  exact fin
theorem j_29 (h : RI A W w br nq nk np nh nr C B F t s c j a lo st U M) (hA : At W s t c j a lo st U i) (ho : i.1 = 29) (hI : cFi A w nk np nr qi i M) (hqi : qi < L6 w) (hQ : ∀ M', RM A W w br nq nk np nh nr C B F t (doS W t s c j a lo st U i q) (gU (doS W t s c j a lo st U i q) t) M' → Q M') : w_Machine_jump w (Int32.ofNat U.length) (Int32.ofNat qi) (Int32.ofNat 29) (Int32.ofNat (a + 1)) Q M := by
  have hLb := L_le w
  obtain ⟨tl, -⟩ := hA.tk (ws := [wNum]) (by obtain ⟨o, r⟩ := i; have ho : o = 29 := ho; subst ho; rfl)
  have hs : 1 ≤ st.length := by
    have := hA.in.1.2.1
    have tl : 1 ≤ (k2 W c j a).length := tl
    omega
  have e : doS W t s c j a lo st U i q = sU s t (.inl (c, j, if cmpS 29 (tv st 0).1 0 then gtn (iT i) 0 else a + 1, lo, drp st 1) :: U) := (by obtain ⟨o, r⟩ := i; have ho : o = 29 := ho; subst ho; rfl)
  rw [e, gU_in] at hQ
  have l67 : mL M 67 w = L6 w := h.1.1.1.1.1.2.2.2.1.1 67 (by omega) (by omega)
  have fin : w_Machine_holds w (Int32.ofNat 29) (tv st 0).1 0 (fun r24 M23 => if r24 = 0 then (w_Machine_jump_j228 w Q (Int32.ofNat (a + 1)) (Int32.ofNat U.length) M23) else (vp_in (Int32.ofNat qi) (mL M23 67 w) ∧ w_Machine_jump_j228 w Q (mI M23 67 w (Int32.ofNat qi).toNatClampNeg) (Int32.ofNat U.length) M23)) (sI M 6 w 34 ((mI M 6 w 34) - (1 : Int32))) := by
    rw [h.2.1.2, lit32 1, sub_n hs]
    refine h_29 ?_
    unfold w_Machine_jump_j228
    cases hc : cmpS 29 (tv st 0).1 0 with
    | true =>
      rw [hc, if_pos rfl] at hQ
      refine itn (by decide) ⟨by show vp_in _ (mL M 67 w); rw [l67]; exact (vp_oN (by omega)).mpr hqi, ?_⟩
      rw [oN_tnc (k := qi) (by omega), mI_sI, if_neg (fun z => absurd z.1 (by decide)), hI.2.2.1 (by rw [ho]; decide)]
      exact c_go h (by omega) hQ
    | false =>
      rw [hc, if_neg (by decide)] at hQ
      exact itp rfl (c_go h (by omega) hQ)
  unfold w_Machine_jump
  refine itn (by decide) (c_num (d := 0) h (by omega) (itn (by decide) ?_))
  refine c_isInN (o := 29) (lo := 30) (hi := 35) (by omega) (by omega) (by omega) ?_
  refine itp (by decide) (itn (by decide) (itn (by decide) ?_))
  unfold w_Machine_jump_j149
  refine itp rfl ?_
  unfold w_Machine_jump_j166
  refine itp rfl ?_
  unfold w_Machine_jump_j179
  refine itp rfl ?_
  unfold w_Machine_jump_j196
  exact fin
theorem j_30 (h : RI A W w br nq nk np nh nr C B F t s c j a lo st U M) (hA : At W s t c j a lo st U i) (ho : i.1 = 30) (hI : cFi A w nk np nr qi i M) (hqi : qi < L6 w) (hQ : ∀ M', RM A W w br nq nk np nh nr C B F t (doS W t s c j a lo st U i q) (gU (doS W t s c j a lo st U i q) t) M' → Q M') : w_Machine_jump w (Int32.ofNat U.length) (Int32.ofNat qi) (Int32.ofNat 30) (Int32.ofNat (a + 1)) Q M := by
  have hLb := L_le w
  obtain ⟨tl, -⟩ := hA.tk (ws := [wNum, wNum]) (by obtain ⟨o, r⟩ := i; have ho : o = 30 := ho; subst ho; rfl)
  have hs : 2 ≤ st.length := by
    have := hA.in.1.2.1
    have tl : 2 ≤ (k2 W c j a).length := tl
    omega
  have e : doS W t s c j a lo st U i q = sU s t (.inl (c, j, if cmpS 30 (tv st 1).1 (tv st 0).1 then gtn (iT i) 0 else a + 1, lo, drp st 2) :: U) := (by obtain ⟨o, r⟩ := i; have ho : o = 30 := ho; subst ho; rfl)
  rw [e, gU_in] at hQ
  have l67 : mL M 67 w = L6 w := h.1.1.1.1.1.2.2.2.1.1 67 (by omega) (by omega)
  have fin : w_Machine_holds w (Int32.ofNat 30) (tv st 1).1 (tv st 0).1 (fun r24 M23 => if r24 = 0 then (w_Machine_jump_j228 w Q (Int32.ofNat (a + 1)) (Int32.ofNat U.length) M23) else (vp_in (Int32.ofNat qi) (mL M23 67 w) ∧ w_Machine_jump_j228 w Q (mI M23 67 w (Int32.ofNat qi).toNatClampNeg) (Int32.ofNat U.length) M23)) (sI M 6 w 34 ((mI M 6 w 34) - (2 : Int32))) := by
    rw [h.2.1.2, lit32 2, sub_n hs]
    refine h_30 ?_
    unfold w_Machine_jump_j228
    cases hc : cmpS 30 (tv st 1).1 (tv st 0).1 with
    | true =>
      rw [hc, if_pos rfl] at hQ
      refine itn (by decide) ⟨by show vp_in _ (mL M 67 w); rw [l67]; exact (vp_oN (by omega)).mpr hqi, ?_⟩
      rw [oN_tnc (k := qi) (by omega), mI_sI, if_neg (fun z => absurd z.1 (by decide)), hI.2.2.1 (by rw [ho]; decide)]
      exact c_go h (by omega) hQ
    | false =>
      rw [hc, if_neg (by decide)] at hQ
      exact itp rfl (c_go h (by omega) hQ)
  unfold w_Machine_jump
  refine itn (by decide) (c_num (d := 0) h (by omega) (itn (by decide) ?_))
  refine c_isInN (o := 30) (lo := 30) (hi := 35) (by omega) (by omega) (by omega) ?_
  refine itn (by decide) ?_
  unfold w_Machine_jump_j144 w_Machine_jump_j149
  refine itn (by decide) (c_num (d := 1) h (by omega) ?_)
  unfold w_Machine_jump_j166
  refine itn (by decide) ?_
  unfold w_Machine_jump_j179
  refine itn (by decide) ?_
  unfold w_Machine_jump_j196
  exact fin
theorem j_31 (h : RI A W w br nq nk np nh nr C B F t s c j a lo st U M) (hA : At W s t c j a lo st U i) (ho : i.1 = 31) (hI : cFi A w nk np nr qi i M) (hqi : qi < L6 w) (hQ : ∀ M', RM A W w br nq nk np nh nr C B F t (doS W t s c j a lo st U i q) (gU (doS W t s c j a lo st U i q) t) M' → Q M') : w_Machine_jump w (Int32.ofNat U.length) (Int32.ofNat qi) (Int32.ofNat 31) (Int32.ofNat (a + 1)) Q M := by
  have hLb := L_le w
  obtain ⟨tl, -⟩ := hA.tk (ws := [wNum, wNum]) (by obtain ⟨o, r⟩ := i; have ho : o = 31 := ho; subst ho; rfl)
  have hs : 2 ≤ st.length := by
    have := hA.in.1.2.1
    have tl : 2 ≤ (k2 W c j a).length := tl
    omega
  have e : doS W t s c j a lo st U i q = sU s t (.inl (c, j, if cmpS 31 (tv st 1).1 (tv st 0).1 then gtn (iT i) 0 else a + 1, lo, drp st 2) :: U) := (by obtain ⟨o, r⟩ := i; have ho : o = 31 := ho; subst ho; rfl)
  rw [e, gU_in] at hQ
  have l67 : mL M 67 w = L6 w := h.1.1.1.1.1.2.2.2.1.1 67 (by omega) (by omega)
  have fin : w_Machine_holds w (Int32.ofNat 31) (tv st 1).1 (tv st 0).1 (fun r24 M23 => if r24 = 0 then (w_Machine_jump_j228 w Q (Int32.ofNat (a + 1)) (Int32.ofNat U.length) M23) else (vp_in (Int32.ofNat qi) (mL M23 67 w) ∧ w_Machine_jump_j228 w Q (mI M23 67 w (Int32.ofNat qi).toNatClampNeg) (Int32.ofNat U.length) M23)) (sI M 6 w 34 ((mI M 6 w 34) - (2 : Int32))) := by
    rw [h.2.1.2, lit32 2, sub_n hs]
    refine h_31 ?_
    unfold w_Machine_jump_j228
    cases hc : cmpS 31 (tv st 1).1 (tv st 0).1 with
    | true =>
      rw [hc, if_pos rfl] at hQ
      refine itn (by decide) ⟨by show vp_in _ (mL M 67 w); rw [l67]; exact (vp_oN (by omega)).mpr hqi, ?_⟩
      rw [oN_tnc (k := qi) (by omega), mI_sI, if_neg (fun z => absurd z.1 (by decide)), hI.2.2.1 (by rw [ho]; decide)]
      exact c_go h (by omega) hQ
    | false =>
      rw [hc, if_neg (by decide)] at hQ
      exact itp rfl (c_go h (by omega) hQ)
  unfold w_Machine_jump
  refine itn (by decide) (c_num (d := 0) h (by omega) (itn (by decide) ?_))
  refine c_isInN (o := 31) (lo := 30) (hi := 35) (by omega) (by omega) (by omega) ?_
  refine itn (by decide) ?_
  unfold w_Machine_jump_j144 w_Machine_jump_j149
  refine itn (by decide) (c_num (d := 1) h (by omega) ?_)
  unfold w_Machine_jump_j166
  refine itn (by decide) ?_
  unfold w_Machine_jump_j179
  refine itn (by decide) ?_
  unfold w_Machine_jump_j196
  exact fin
theorem j_32 (h : RI A W w br nq nk np nh nr C B F t s c j a lo st U M) (hA : At W s t c j a lo st U i) (ho : i.1 = 32) (hI : cFi A w nk np nr qi i M) (hqi : qi < L6 w) (hQ : ∀ M', RM A W w br nq nk np nh nr C B F t (doS W t s c j a lo st U i q) (gU (doS W t s c j a lo st U i q) t) M' → Q M') : w_Machine_jump w (Int32.ofNat U.length) (Int32.ofNat qi) (Int32.ofNat 32) (Int32.ofNat (a + 1)) Q M := by
  have hLb := L_le w
  obtain ⟨tl, -⟩ := hA.tk (ws := [wNum, wNum]) (by obtain ⟨o, r⟩ := i; have ho : o = 32 := ho; subst ho; rfl)
  have hs : 2 ≤ st.length := by
    have := hA.in.1.2.1
    have tl : 2 ≤ (k2 W c j a).length := tl
    omega
  have e : doS W t s c j a lo st U i q = sU s t (.inl (c, j, if cmpS 32 (tv st 1).1 (tv st 0).1 then gtn (iT i) 0 else a + 1, lo, drp st 2) :: U) := (by obtain ⟨o, r⟩ := i; have ho : o = 32 := ho; subst ho; rfl)
  rw [e, gU_in] at hQ
  have l67 : mL M 67 w = L6 w := h.1.1.1.1.1.2.2.2.1.1 67 (by omega) (by omega)
  have fin : w_Machine_holds w (Int32.ofNat 32) (tv st 1).1 (tv st 0).1 (fun r24 M23 => if r24 = 0 then (w_Machine_jump_j228 w Q (Int32.ofNat (a + 1)) (Int32.ofNat U.length) M23) else (vp_in (Int32.ofNat qi) (mL M23 67 w) ∧ w_Machine_jump_j228 w Q (mI M23 67 w (Int32.ofNat qi).toNatClampNeg) (Int32.ofNat U.length) M23)) (sI M 6 w 34 ((mI M 6 w 34) - (2 : Int32))) := by
    rw [h.2.1.2, lit32 2, sub_n hs]
    refine h_32 ?_
    unfold w_Machine_jump_j228
    cases hc : cmpS 32 (tv st 1).1 (tv st 0).1 with
    | true =>
      rw [hc, if_pos rfl] at hQ
      refine itn (by decide) ⟨by show vp_in _ (mL M 67 w); rw [l67]; exact (vp_oN (by omega)).mpr hqi, ?_⟩
      rw [oN_tnc (k := qi) (by omega), mI_sI, if_neg (fun z => absurd z.1 (by decide)), hI.2.2.1 (by rw [ho]; decide)]
      exact c_go h (by omega) hQ
    | false =>
      rw [hc, if_neg (by decide)] at hQ
      exact itp rfl (c_go h (by omega) hQ)
  unfold w_Machine_jump
  refine itn (by decide) (c_num (d := 0) h (by omega) (itn (by decide) ?_))
  refine c_isInN (o := 32) (lo := 30) (hi := 35) (by omega) (by omega) (by omega) ?_
  refine itn (by decide) ?_
  unfold w_Machine_jump_j144 w_Machine_jump_j149
  refine itn (by decide) (c_num (d := 1) h (by omega) ?_)
  unfold w_Machine_jump_j166
  refine itn (by decide) ?_
  unfold w_Machine_jump_j179
  refine itn (by decide) ?_
  unfold w_Machine_jump_j196
  exact fin
theorem j_33 (h : RI A W w br nq nk np nh nr C B F t s c j a lo st U M) (hA : At W s t c j a lo st U i) (ho : i.1 = 33) (hI : cFi A w nk np nr qi i M) (hqi : qi < L6 w) (hQ : ∀ M', RM A W w br nq nk np nh nr C B F t (doS W t s c j a lo st U i q) (gU (doS W t s c j a lo st U i q) t) M' → Q M') : w_Machine_jump w (Int32.ofNat U.length) (Int32.ofNat qi) (Int32.ofNat 33) (Int32.ofNat (a + 1)) Q M := by
  have hLb := L_le w
  obtain ⟨tl, -⟩ := hA.tk (ws := [wNum, wNum]) (by obtain ⟨o, r⟩ := i; have ho : o = 33 := ho; subst ho; rfl)
  have hs : 2 ≤ st.length := by
    have := hA.in.1.2.1
    have tl : 2 ≤ (k2 W c j a).length := tl
    omega
  have e : doS W t s c j a lo st U i q = sU s t (.inl (c, j, if cmpS 33 (tv st 1).1 (tv st 0).1 then gtn (iT i) 0 else a + 1, lo, drp st 2) :: U) := (by obtain ⟨o, r⟩ := i; have ho : o = 33 := ho; subst ho; rfl)
  rw [e, gU_in] at hQ
  have l67 : mL M 67 w = L6 w := h.1.1.1.1.1.2.2.2.1.1 67 (by omega) (by omega)
  have fin : w_Machine_holds w (Int32.ofNat 33) (tv st 1).1 (tv st 0).1 (fun r24 M23 => if r24 = 0 then (w_Machine_jump_j228 w Q (Int32.ofNat (a + 1)) (Int32.ofNat U.length) M23) else (vp_in (Int32.ofNat qi) (mL M23 67 w) ∧ w_Machine_jump_j228 w Q (mI M23 67 w (Int32.ofNat qi).toNatClampNeg) (Int32.ofNat U.length) M23)) (sI M 6 w 34 ((mI M 6 w 34) - (2 : Int32))) := by
    rw [h.2.1.2, lit32 2, sub_n hs]
    refine h_33 ?_
    unfold w_Machine_jump_j228
    cases hc : cmpS 33 (tv st 1).1 (tv st 0).1 with
    | true =>
      rw [hc, if_pos rfl] at hQ
      refine itn (by decide) ⟨by show vp_in _ (mL M 67 w); rw [l67]; exact (vp_oN (by omega)).mpr hqi, ?_⟩
      rw [oN_tnc (k := qi) (by omega), mI_sI, if_neg (fun z => absurd z.1 (by decide)), hI.2.2.1 (by rw [ho]; decide)]
      exact c_go h (by omega) hQ
    | false =>
      rw [hc, if_neg (by decide)] at hQ
      exact itp rfl (c_go h (by omega) hQ)
  unfold w_Machine_jump
  refine itn (by decide) (c_num (d := 0) h (by omega) (itn (by decide) ?_))
  refine c_isInN (o := 33) (lo := 30) (hi := 35) (by omega) (by omega) (by omega) ?_
  refine itn (by decide) ?_
  unfold w_Machine_jump_j144 w_Machine_jump_j149
  refine itn (by decide) (c_num (d := 1) h (by omega) ?_)
  unfold w_Machine_jump_j166
  refine itn (by decide) ?_
  unfold w_Machine_jump_j179
  refine itn (by decide) ?_
  unfold w_Machine_jump_j196
  exact fin
theorem j_34 (h : RI A W w br nq nk np nh nr C B F t s c j a lo st U M) (hA : At W s t c j a lo st U i) (ho : i.1 = 34) (hI : cFi A w nk np nr qi i M) (hqi : qi < L6 w) (hQ : ∀ M', RM A W w br nq nk np nh nr C B F t (doS W t s c j a lo st U i q) (gU (doS W t s c j a lo st U i q) t) M' → Q M') : w_Machine_jump w (Int32.ofNat U.length) (Int32.ofNat qi) (Int32.ofNat 34) (Int32.ofNat (a + 1)) Q M := by
  have hLb := L_le w
  obtain ⟨tl, -⟩ := hA.tk (ws := [wNum, wNum]) (by obtain ⟨o, r⟩ := i; have ho : o = 34 := ho; subst ho; rfl)
  have hs : 2 ≤ st.length := by
    have := hA.in.1.2.1
    have tl : 2 ≤ (k2 W c j a).length := tl
    omega
  have e : doS W t s c j a lo st U i q = sU s t (.inl (c, j, if cmpS 34 (tv st 1).1 (tv st 0).1 then gtn (iT i) 0 else a + 1, lo, drp st 2) :: U) := (by obtain ⟨o, r⟩ := i; have ho : o = 34 := ho; subst ho; rfl)
  rw [e, gU_in] at hQ
  have l67 : mL M 67 w = L6 w := h.1.1.1.1.1.2.2.2.1.1 67 (by omega) (by omega)
  have fin : w_Machine_holds w (Int32.ofNat 34) (tv st 1).1 (tv st 0).1 (fun r24 M23 => if r24 = 0 then (w_Machine_jump_j228 w Q (Int32.ofNat (a + 1)) (Int32.ofNat U.length) M23) else (vp_in (Int32.ofNat qi) (mL M23 67 w) ∧ w_Machine_jump_j228 w Q (mI M23 67 w (Int32.ofNat qi).toNatClampNeg) (Int32.ofNat U.length) M23)) (sI M 6 w 34 ((mI M 6 w 34) - (2 : Int32))) := by
    rw [h.2.1.2, lit32 2, sub_n hs]
    refine h_34 ?_
    unfold w_Machine_jump_j228
    cases hc : cmpS 34 (tv st 1).1 (tv st 0).1 with
    | true =>
      rw [hc, if_pos rfl] at hQ
      refine itn (by decide) ⟨by show vp_in _ (mL M 67 w); rw [l67]; exact (vp_oN (by omega)).mpr hqi, ?_⟩
      rw [oN_tnc (k := qi) (by omega), mI_sI, if_neg (fun z => absurd z.1 (by decide)), hI.2.2.1 (by rw [ho]; decide)]
      exact c_go h (by omega) hQ
    | false =>
      rw [hc, if_neg (by decide)] at hQ
      exact itp rfl (c_go h (by omega) hQ)
  unfold w_Machine_jump
  refine itn (by decide) (c_num (d := 0) h (by omega) (itn (by decide) ?_))
  refine c_isInN (o := 34) (lo := 30) (hi := 35) (by omega) (by omega) (by omega) ?_
  refine itn (by decide) ?_
  unfold w_Machine_jump_j144 w_Machine_jump_j149
  refine itn (by decide) (c_num (d := 1) h (by omega) ?_)
  unfold w_Machine_jump_j166
  refine itn (by decide) ?_
  unfold w_Machine_jump_j179
  refine itn (by decide) ?_
  unfold w_Machine_jump_j196
  exact fin
theorem j_35 (h : RI A W w br nq nk np nh nr C B F t s c j a lo st U M) (hA : At W s t c j a lo st U i) (ho : i.1 = 35) (hI : cFi A w nk np nr qi i M) (hqi : qi < L6 w) (hQ : ∀ M', RM A W w br nq nk np nh nr C B F t (doS W t s c j a lo st U i q) (gU (doS W t s c j a lo st U i q) t) M' → Q M') : w_Machine_jump w (Int32.ofNat U.length) (Int32.ofNat qi) (Int32.ofNat 35) (Int32.ofNat (a + 1)) Q M := by
  have hLb := L_le w
  obtain ⟨tl, -⟩ := hA.tk (ws := [wNum, wNum]) (by obtain ⟨o, r⟩ := i; have ho : o = 35 := ho; subst ho; rfl)
  have hs : 2 ≤ st.length := by
    have := hA.in.1.2.1
    have tl : 2 ≤ (k2 W c j a).length := tl
    omega
  have e : doS W t s c j a lo st U i q = sU s t (.inl (c, j, if cmpS 35 (tv st 1).1 (tv st 0).1 then gtn (iT i) 0 else a + 1, lo, drp st 2) :: U) := (by obtain ⟨o, r⟩ := i; have ho : o = 35 := ho; subst ho; rfl)
  rw [e, gU_in] at hQ
  have l67 : mL M 67 w = L6 w := h.1.1.1.1.1.2.2.2.1.1 67 (by omega) (by omega)
  have fin : w_Machine_holds w (Int32.ofNat 35) (tv st 1).1 (tv st 0).1 (fun r24 M23 => if r24 = 0 then (w_Machine_jump_j228 w Q (Int32.ofNat (a + 1)) (Int32.ofNat U.length) M23) else (vp_in (Int32.ofNat qi) (mL M23 67 w) ∧ w_Machine_jump_j228 w Q (mI M23 67 w (Int32.ofNat qi).toNatClampNeg) (Int32.ofNat U.length) M23)) (sI M 6 w 34 ((mI M 6 w 34) - (2 : Int32))) := by
    rw [h.2.1.2, lit32 2, sub_n hs]
    refine h_35 ?_
    unfold w_Machine_jump_j228
    cases hc : cmpS 35 (tv st 1).1 (tv st 0).1 with
    | true =>
      rw [hc, if_pos rfl] at hQ
      refine itn (by decide) ⟨by show vp_in _ (mL M 67 w); rw [l67]; exact (vp_oN (by omega)).mpr hqi, ?_⟩
      rw [oN_tnc (k := qi) (by omega), mI_sI, if_neg (fun z => absurd z.1 (by decide)), hI.2.2.1 (by rw [ho]; decide)]
      exact c_go h (by omega) hQ
    | false =>
      rw [hc, if_neg (by decide)] at hQ
      exact itp rfl (c_go h (by omega) hQ)
  unfold w_Machine_jump
  refine itn (by decide) (c_num (d := 0) h (by omega) (itn (by decide) ?_))
  refine c_isInN (o := 35) (lo := 30) (hi := 35) (by omega) (by omega) (by omega) ?_
  refine itn (by decide) ?_
  unfold w_Machine_jump_j144 w_Machine_jump_j149
  refine itn (by decide) (c_num (d := 1) h (by omega) ?_)
  unfold w_Machine_jump_j166
  refine itn (by decide) ?_
  unfold w_Machine_jump_j179
  refine itn (by decide) ?_
  unfold w_Machine_jump_j196
  exact fin
theorem j_36 (h : RI A W w br nq nk np nh nr C B F t s c j a lo st U M) (hA : At W s t c j a lo st U i) (ho : i.1 = 36) (hI : cFi A w nk np nr qi i M) (hqi : qi < L6 w) (hQ : ∀ M', RM A W w br nq nk np nh nr C B F t (doS W t s c j a lo st U i q) (gU (doS W t s c j a lo st U i q) t) M' → Q M') : w_Machine_jump w (Int32.ofNat U.length) (Int32.ofNat qi) (Int32.ofNat 36) (Int32.ofNat (a + 1)) Q M := by
  have hLb := L_le w
  obtain ⟨tl, -⟩ := hA.tk (ws := [wRef]) (by obtain ⟨o, r⟩ := i; have ho : o = 36 := ho; subst ho; rfl)
  have hs : 1 ≤ st.length := by
    have := hA.in.1.2.1
    have tl : 1 ≤ (k2 W c j a).length := tl
    omega
  have e : doS W t s c j a lo st U i q = sU s t (.inl (c, j, if cmpS 36 (tv st 0).1 0 then gtn (iT i) 0 else a + 1, lo, drp st 1) :: U) := (by obtain ⟨o, r⟩ := i; have ho : o = 36 := ho; subst ho; rfl)
  rw [e, gU_in] at hQ
  have l67 : mL M 67 w = L6 w := h.1.1.1.1.1.2.2.2.1.1 67 (by omega) (by omega)
  have fin : w_Machine_holds w (Int32.ofNat 36) (tv st 0).1 0 (fun r24 M23 => if r24 = 0 then (w_Machine_jump_j228 w Q (Int32.ofNat (a + 1)) (Int32.ofNat U.length) M23) else (vp_in (Int32.ofNat qi) (mL M23 67 w) ∧ w_Machine_jump_j228 w Q (mI M23 67 w (Int32.ofNat qi).toNatClampNeg) (Int32.ofNat U.length) M23)) (sI M 6 w 34 ((mI M 6 w 34) - (1 : Int32))) := by
    rw [h.2.1.2, lit32 1, sub_n hs]
    refine h_36 ?_
    unfold w_Machine_jump_j228
    cases hc : cmpS 36 (tv st 0).1 0 with
    | true =>
      rw [hc, if_pos rfl] at hQ
      refine itn (by decide) ⟨by show vp_in _ (mL M 67 w); rw [l67]; exact (vp_oN (by omega)).mpr hqi, ?_⟩
      rw [oN_tnc (k := qi) (by omega), mI_sI, if_neg (fun z => absurd z.1 (by decide)), hI.2.2.1 (by rw [ho]; decide)]
      exact c_go h (by omega) hQ
    | false =>
      rw [hc, if_neg (by decide)] at hQ
      exact itp rfl (c_go h (by omega) hQ)
  unfold w_Machine_jump
  refine itn (by decide) (c_num (d := 0) h (by omega) (itn (by decide) ?_))
  refine c_isInN (o := 36) (lo := 30) (hi := 35) (by omega) (by omega) (by omega) ?_
  refine itp (by decide) (itn (by decide) (itn (by decide) ?_))
  unfold w_Machine_jump_j149
  refine itp rfl ?_
  unfold w_Machine_jump_j166
  refine itp rfl ?_
  unfold w_Machine_jump_j179
  refine itp rfl ?_
  unfold w_Machine_jump_j196
  exact fin
theorem j_37 (h : RI A W w br nq nk np nh nr C B F t s c j a lo st U M) (hA : At W s t c j a lo st U i) (ho : i.1 = 37) (hI : cFi A w nk np nr qi i M) (hqi : qi < L6 w) (hQ : ∀ M', RM A W w br nq nk np nh nr C B F t (doS W t s c j a lo st U i q) (gU (doS W t s c j a lo st U i q) t) M' → Q M') : w_Machine_jump w (Int32.ofNat U.length) (Int32.ofNat qi) (Int32.ofNat 37) (Int32.ofNat (a + 1)) Q M := by
  have hLb := L_le w
  obtain ⟨tl, -⟩ := hA.tk (ws := [wRef]) (by obtain ⟨o, r⟩ := i; have ho : o = 37 := ho; subst ho; rfl)
  have hs : 1 ≤ st.length := by
    have := hA.in.1.2.1
    have tl : 1 ≤ (k2 W c j a).length := tl
    omega
  have e : doS W t s c j a lo st U i q = sU s t (.inl (c, j, if cmpS 37 (tv st 0).1 0 then gtn (iT i) 0 else a + 1, lo, drp st 1) :: U) := (by obtain ⟨o, r⟩ := i; have ho : o = 37 := ho; subst ho; rfl)
  rw [e, gU_in] at hQ
  have l67 : mL M 67 w = L6 w := h.1.1.1.1.1.2.2.2.1.1 67 (by omega) (by omega)
  have fin : w_Machine_holds w (Int32.ofNat 37) (tv st 0).1 0 (fun r24 M23 => if r24 = 0 then (w_Machine_jump_j228 w Q (Int32.ofNat (a + 1)) (Int32.ofNat U.length) M23) else (vp_in (Int32.ofNat qi) (mL M23 67 w) ∧ w_Machine_jump_j228 w Q (mI M23 67 w (Int32.ofNat qi).toNatClampNeg) (Int32.ofNat U.length) M23)) (sI M 6 w 34 ((mI M 6 w 34) - (1 : Int32))) := by
    rw [h.2.1.2, lit32 1, sub_n hs]
    refine h_37 ?_
    unfold w_Machine_jump_j228
    cases hc : cmpS 37 (tv st 0).1 0 with
    | true =>
      rw [hc, if_pos rfl] at hQ
      refine itn (by decide) ⟨by show vp_in _ (mL M 67 w); rw [l67]; exact (vp_oN (by omega)).mpr hqi, ?_⟩
      rw [oN_tnc (k := qi) (by omega), mI_sI, if_neg (fun z => absurd z.1 (by decide)), hI.2.2.1 (by rw [ho]; decide)]
      exact c_go h (by omega) hQ
    | false =>
      rw [hc, if_neg (by decide)] at hQ
      exact itp rfl (c_go h (by omega) hQ)
  unfold w_Machine_jump
  refine itn (by decide) (c_num (d := 0) h (by omega) (itn (by decide) ?_))
  refine c_isInN (o := 37) (lo := 30) (hi := 35) (by omega) (by omega) (by omega) ?_
  refine itp (by decide) (itn (by decide) (itn (by decide) ?_))
  unfold w_Machine_jump_j149
  refine itp rfl ?_
  unfold w_Machine_jump_j166
  refine itp rfl ?_
  unfold w_Machine_jump_j179
  refine itp rfl ?_
  unfold w_Machine_jump_j196
  exact fin
theorem j_38 (h : RI A W w br nq nk np nh nr C B F t s c j a lo st U M) (hA : At W s t c j a lo st U i) (ho : i.1 = 38) (hI : cFi A w nk np nr qi i M) (hqi : qi < L6 w) (hQ : ∀ M', RM A W w br nq nk np nh nr C B F t (doS W t s c j a lo st U i q) (gU (doS W t s c j a lo st U i q) t) M' → Q M') : w_Machine_jump w (Int32.ofNat U.length) (Int32.ofNat qi) (Int32.ofNat 38) (Int32.ofNat (a + 1)) Q M := by
  have hLb := L_le w
  obtain ⟨tl, -⟩ := hA.tk (ws := [wRef, wRef]) (by obtain ⟨o, r⟩ := i; have ho : o = 38 := ho; subst ho; rfl)
  have hs : 2 ≤ st.length := by
    have := hA.in.1.2.1
    have tl : 2 ≤ (k2 W c j a).length := tl
    omega
  have e : doS W t s c j a lo st U i q = sU s t (.inl (c, j, if cmpS 38 (tv st 1).1 (tv st 0).1 then gtn (iT i) 0 else a + 1, lo, drp st 2) :: U) := (by obtain ⟨o, r⟩ := i; have ho : o = 38 := ho; subst ho; rfl)
  rw [e, gU_in] at hQ
  have l67 : mL M 67 w = L6 w := h.1.1.1.1.1.2.2.2.1.1 67 (by omega) (by omega)
  have fin : w_Machine_holds w (Int32.ofNat 38) (tv st 1).1 (tv st 0).1 (fun r24 M23 => if r24 = 0 then (w_Machine_jump_j228 w Q (Int32.ofNat (a + 1)) (Int32.ofNat U.length) M23) else (vp_in (Int32.ofNat qi) (mL M23 67 w) ∧ w_Machine_jump_j228 w Q (mI M23 67 w (Int32.ofNat qi).toNatClampNeg) (Int32.ofNat U.length) M23)) (sI M 6 w 34 ((mI M 6 w 34) - (2 : Int32))) := by
    rw [h.2.1.2, lit32 2, sub_n hs]
    refine h_38 ?_
    unfold w_Machine_jump_j228
    cases hc : cmpS 38 (tv st 1).1 (tv st 0).1 with
    | true =>
      rw [hc, if_pos rfl] at hQ
      refine itn (by decide) ⟨by show vp_in _ (mL M 67 w); rw [l67]; exact (vp_oN (by omega)).mpr hqi, ?_⟩
      rw [oN_tnc (k := qi) (by omega), mI_sI, if_neg (fun z => absurd z.1 (by decide)), hI.2.2.1 (by rw [ho]; decide)]
      exact c_go h (by omega) hQ
    | false =>
      rw [hc, if_neg (by decide)] at hQ
      exact itp rfl (c_go h (by omega) hQ)
  unfold w_Machine_jump
  refine itn (by decide) (c_num (d := 0) h (by omega) (itn (by decide) ?_))
  refine c_isInN (o := 38) (lo := 30) (hi := 35) (by omega) (by omega) (by omega) ?_
  refine itp (by decide) (itp rfl ?_)
  unfold w_Machine_jump_j144 w_Machine_jump_j149
  refine itn (by decide) (c_num (d := 1) h (by omega) ?_)
  unfold w_Machine_jump_j166
  refine itn (by decide) ?_
  unfold w_Machine_jump_j179
  refine itn (by decide) ?_
  unfold w_Machine_jump_j196
  exact fin
theorem j_39 (h : RI A W w br nq nk np nh nr C B F t s c j a lo st U M) (hA : At W s t c j a lo st U i) (ho : i.1 = 39) (hI : cFi A w nk np nr qi i M) (hqi : qi < L6 w) (hQ : ∀ M', RM A W w br nq nk np nh nr C B F t (doS W t s c j a lo st U i q) (gU (doS W t s c j a lo st U i q) t) M' → Q M') : w_Machine_jump w (Int32.ofNat U.length) (Int32.ofNat qi) (Int32.ofNat 39) (Int32.ofNat (a + 1)) Q M := by
  have hLb := L_le w
  obtain ⟨tl, -⟩ := hA.tk (ws := [wRef, wRef]) (by obtain ⟨o, r⟩ := i; have ho : o = 39 := ho; subst ho; rfl)
  have hs : 2 ≤ st.length := by
    have := hA.in.1.2.1
    have tl : 2 ≤ (k2 W c j a).length := tl
    omega
  have e : doS W t s c j a lo st U i q = sU s t (.inl (c, j, if cmpS 39 (tv st 1).1 (tv st 0).1 then gtn (iT i) 0 else a + 1, lo, drp st 2) :: U) := (by obtain ⟨o, r⟩ := i; have ho : o = 39 := ho; subst ho; rfl)
  rw [e, gU_in] at hQ
  have l67 : mL M 67 w = L6 w := h.1.1.1.1.1.2.2.2.1.1 67 (by omega) (by omega)
  have fin : w_Machine_holds w (Int32.ofNat 39) (tv st 1).1 (tv st 0).1 (fun r24 M23 => if r24 = 0 then (w_Machine_jump_j228 w Q (Int32.ofNat (a + 1)) (Int32.ofNat U.length) M23) else (vp_in (Int32.ofNat qi) (mL M23 67 w) ∧ w_Machine_jump_j228 w Q (mI M23 67 w (Int32.ofNat qi).toNatClampNeg) (Int32.ofNat U.length) M23)) (sI M 6 w 34 ((mI M 6 w 34) - (2 : Int32))) := by
    rw [h.2.1.2, lit32 2, sub_n hs]
    refine h_39 ?_
    unfold w_Machine_jump_j228
    cases hc : cmpS 39 (tv st 1).1 (tv st 0).1 with
    | true =>
      rw [hc, if_pos rfl] at hQ
      refine itn (by decide) ⟨by show vp_in _ (mL M 67 w); rw [l67]; exact (vp_oN (by omega)).mpr hqi, ?_⟩
      rw [oN_tnc (k := qi) (by omega), mI_sI, if_neg (fun z => absurd z.1 (by decide)), hI.2.2.1 (by rw [ho]; decide)]
      exact c_go h (by omega) hQ
    | false =>
      rw [hc, if_neg (by decide)] at hQ
      exact itp rfl (c_go h (by omega) hQ)
  unfold w_Machine_jump
  refine itn (by decide) (c_num (d := 0) h (by omega) (itn (by decide) ?_))
  refine c_isInN (o := 39) (lo := 30) (hi := 35) (by omega) (by omega) (by omega) ?_
  refine itp (by decide) (itn (by decide) (itp rfl ?_))
  unfold w_Machine_jump_j144 w_Machine_jump_j149
  refine itn (by decide) (c_num (d := 1) h (by omega) ?_)
  unfold w_Machine_jump_j166
  refine itn (by decide) ?_
  unfold w_Machine_jump_j179
  refine itn (by decide) ?_
  unfold w_Machine_jump_j196
  exact fin
end
