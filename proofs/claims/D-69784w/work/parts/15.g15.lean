/-! THE MACHINE IN THE WORKS: reckoning (printed by gen/rk.py) -/
section
variable {A : List Nm} {W : List Cls} {w C B F t : Nat} {br : Int32} {nq nk np nh nr : Nat} {s : Ms} {M : Mem} {U : List Un} {c j a : Nat} {lo st : List Vl} {q : Nat × Nat} {i : Ins} {Q : Mem → Prop}
theorem sub_n {x n : Nat} (h : n ≤ x) : Int32.ofNat x - Int32.ofNat n = Int32.ofNat (x - n) := oN_sub h
theorem c_rkGo {v : Int32} (h : RI A W w br nq nk np nh nr C B F t s c j a lo st U M) (hs : 2 ≤ st.length) (hQ : ∀ M', RM A W w br nq nk np nh nr C B F t (sU s t (.inl (c, j, a + 1, lo, drp st 2 ++ [(v, false)]) :: U)) (.inl (c, j, a + 1, lo, drp st 2 ++ [(v, false)]) :: U) M' → Q M') : w_Machine_reckon_j191 w Q (Int32.ofNat U.length) (Int32.ofNat (a + 1)) v M := by
  unfold w_Machine_reckon_j191 w_Machine_comes
  rw [h.2.1.2, lit32 2, sub_n hs]
  exact c_comesGo (b := false) h hs (by have := h.2.2.1.2.1; omega) hQ
/-- what a frame at its instruction needs to fail -/
theorem c_failA {f : Nat} {ru : Int32} (hq : RQ A W w nq nk np nh nr F s) (h : RI A W w br nq nk np nh nr C B F t s c j a lo st U M) (hA : At W s t c j a lo st U i) (h1 : 1 ≤ f) (h2 : f < 21) (hQ : ∀ M', RM A W w br nq nk np nh nr C B F t (failS W t s f ru) (gU (failS W t s f ru) t) M' → Q M') : w_Machine_fail w (Int32.ofNat f) ru Q M := by
  have hg := hA.2.1
  exact c_fail (o := none) hq (by rw [hg]; exact h.1) (by rw [hg]; exact hA.1.2.1) hA.1.2.2 h1 h2 hQ
theorem gU_in {f : Un} {V : List Un} : gU (sU s t (f :: V)) t = f :: V := gU_sU

theorem r_8 (hq : RQ A W w nq nk np nh nr F s) (h : RI A W w br nq nk np nh nr C B F t s c j a lo st U M) (hA : At W s t c j a lo st U i) (ho : i.1 = 8) (hQ : ∀ M', RM A W w br nq nk np nh nr C B F t (doS W t s c j a lo st U i q) (gU (doS W t s c j a lo st U i q) t) M' → Q M') : w_Machine_reckon w (Int32.ofNat U.length) (Int32.ofNat 8) (Int32.ofNat (a + 1)) Q M := by
  obtain ⟨tl, -⟩ := hA.tk (ws := [wNum, wNum]) (by obtain ⟨o, r⟩ := i; have ho : o = 8 := ho; subst ho; rfl)
  have hs : 2 ≤ st.length := by
    have := hA.in.1.2.1
    have tl : 2 ≤ (k2 W c j a).length := tl
    omega
  have e : doS W t s c j a lo st U i q = sU s t (.inl (c, j, a + 1, lo, drp st 2 ++ [(aluS 8 (tv st 1).1 (tv st 0).1, false)]) :: U) := (by obtain ⟨o, r⟩ := i; have ho : o = 8 := ho; subst ho; rfl)
  rw [e] at hQ
  unfold w_Machine_reckon
  refine c_num (d := 1) h (by omega) (c_num (d := 0) h (by omega) ?_)
  rw [gU_in] at hQ
  exact itp rfl (c_rkGo h hs hQ)
theorem r_9 (hq : RQ A W w nq nk np nh nr F s) (h : RI A W w br nq nk np nh nr C B F t s c j a lo st U M) (hA : At W s t c j a lo st U i) (ho : i.1 = 9) (hQ : ∀ M', RM A W w br nq nk np nh nr C B F t (doS W t s c j a lo st U i q) (gU (doS W t s c j a lo st U i q) t) M' → Q M') : w_Machine_reckon w (Int32.ofNat U.length) (Int32.ofNat 9) (Int32.ofNat (a + 1)) Q M := by
  obtain ⟨tl, -⟩ := hA.tk (ws := [wNum, wNum]) (by obtain ⟨o, r⟩ := i; have ho : o = 9 := ho; subst ho; rfl)
  have hs : 2 ≤ st.length := by
    have := hA.in.1.2.1
    have tl : 2 ≤ (k2 W c j a).length := tl
    omega
  have e : doS W t s c j a lo st U i q = sU s t (.inl (c, j, a + 1, lo, drp st 2 ++ [(aluS 9 (tv st 1).1 (tv st 0).1, false)]) :: U) := (by obtain ⟨o, r⟩ := i; have ho : o = 9 := ho; subst ho; rfl)
  rw [e] at hQ
  unfold w_Machine_reckon
  refine c_num (d := 1) h (by omega) (c_num (d := 0) h (by omega) ?_)
  rw [gU_in] at hQ
  exact itn (by decide) (itp rfl (c_rkGo h hs hQ))
theorem r_10 (hq : RQ A W w nq nk np nh nr F s) (h : RI A W w br nq nk np nh nr C B F t s c j a lo st U M) (hA : At W s t c j a lo st U i) (ho : i.1 = 10) (hQ : ∀ M', RM A W w br nq nk np nh nr C B F t (doS W t s c j a lo st U i q) (gU (doS W t s c j a lo st U i q) t) M' → Q M') : w_Machine_reckon w (Int32.ofNat U.length) (Int32.ofNat 10) (Int32.ofNat (a + 1)) Q M := by
  obtain ⟨tl, -⟩ := hA.tk (ws := [wNum, wNum]) (by obtain ⟨o, r⟩ := i; have ho : o = 10 := ho; subst ho; rfl)
  have hs : 2 ≤ st.length := by
    have := hA.in.1.2.1
    have tl : 2 ≤ (k2 W c j a).length := tl
    omega
  have e : doS W t s c j a lo st U i q = sU s t (.inl (c, j, a + 1, lo, drp st 2 ++ [(aluS 10 (tv st 1).1 (tv st 0).1, false)]) :: U) := (by obtain ⟨o, r⟩ := i; have ho : o = 10 := ho; subst ho; rfl)
  rw [e] at hQ
  unfold w_Machine_reckon
  refine c_num (d := 1) h (by omega) (c_num (d := 0) h (by omega) ?_)
  rw [gU_in] at hQ
  exact itn (by decide) (itn (by decide) (itp rfl (c_rkGo h hs hQ)))
theorem r_11 (hq : RQ A W w nq nk np nh nr F s) (h : RI A W w br nq nk np nh nr C B F t s c j a lo st U M) (hA : At W s t c j a lo st U i) (ho : i.1 = 11) (hQ : ∀ M', RM A W w br nq nk np nh nr C B F t (doS W t s c j a lo st U i q) (gU (doS W t s c j a lo st U i q) t) M' → Q M') : w_Machine_reckon w (Int32.ofNat U.length) (Int32.ofNat 11) (Int32.ofNat (a + 1)) Q M := by
  obtain ⟨tl, -⟩ := hA.tk (ws := [wNum, wNum]) (by obtain ⟨o, r⟩ := i; have ho : o = 11 := ho; subst ho; rfl)
  have hs : 2 ≤ st.length := by
    have := hA.in.1.2.1
    have tl : 2 ≤ (k2 W c j a).length := tl
    omega
  have e : doS W t s c j a lo st U i q = if ((11 : Nat) = 11 ∨ (11 : Nat) = 12) ∧ (tv st 0).1 = 0 then failS W t s 3 0 else sU s t (.inl (c, j, a + 1, lo, drp st 2 ++ [(aluS 11 (tv st 1).1 (tv st 0).1, false)]) :: U) := (by obtain ⟨o, r⟩ := i; have ho : o = 11 := ho; subst ho; unfold doS; exact if_pos (show (8 ≤ 11 ∧ 11 ≤ 18) ∧ 11 ≠ 13 by decide))
  rw [e] at hQ
  unfold w_Machine_reckon
  refine c_num (d := 1) h (by omega) (c_num (d := 0) h (by omega) ?_)
  by_cases z : (tv st 0).1 = 0
  · rw [if_pos ⟨Or.inl rfl, z⟩] at hQ
    exact itn (by decide) (itn (by decide) (itn (by decide) (itp rfl (itp z (c_failA (f := 3) hq h hA (by omega) (by omega) hQ)))))
  · rw [if_neg (fun y => z y.2), gU_in] at hQ
    refine itn (by decide) (itn (by decide) (itn (by decide) (itp rfl (itn z (itp rfl ⟨z, ?_⟩)))))
    unfold w_Machine_reckon_j133
    exact c_rkGo h hs hQ
theorem r_12 (hq : RQ A W w nq nk np nh nr F s) (h : RI A W w br nq nk np nh nr C B F t s c j a lo st U M) (hA : At W s t c j a lo st U i) (ho : i.1 = 12) (hQ : ∀ M', RM A W w br nq nk np nh nr C B F t (doS W t s c j a lo st U i q) (gU (doS W t s c j a lo st U i q) t) M' → Q M') : w_Machine_reckon w (Int32.ofNat U.length) (Int32.ofNat 12) (Int32.ofNat (a + 1)) Q M := by
  obtain ⟨tl, -⟩ := hA.tk (ws := [wNum, wNum]) (by obtain ⟨o, r⟩ := i; have ho : o = 12 := ho; subst ho; rfl)
  have hs : 2 ≤ st.length := by
    have := hA.in.1.2.1
    have tl : 2 ≤ (k2 W c j a).length := tl
    omega
  have e : doS W t s c j a lo st U i q = if ((12 : Nat) = 11 ∨ (12 : Nat) = 12) ∧ (tv st 0).1 = 0 then failS W t s 3 0 else sU s t (.inl (c, j, a + 1, lo, drp st 2 ++ [(aluS 12 (tv st 1).1 (tv st 0).1, false)]) :: U) := (by obtain ⟨o, r⟩ := i; have ho : o = 12 := ho; subst ho; unfold doS; exact if_pos (show (8 ≤ 12 ∧ 12 ≤ 18) ∧ 12 ≠ 13 by decide))
  rw [e] at hQ
  unfold w_Machine_reckon
  refine c_num (d := 1) h (by omega) (c_num (d := 0) h (by omega) ?_)
  by_cases z : (tv st 0).1 = 0
  · rw [if_pos ⟨Or.inr rfl, z⟩] at hQ
    exact itn (by decide) (itn (by decide) (itn (by decide) (itn (by decide) (itp rfl (itp z (c_failA (f := 3) hq h hA (by omega) (by omega) hQ))))))
  · rw [if_neg (fun y => z y.2), gU_in] at hQ
    refine itn (by decide) (itn (by decide) (itn (by decide) (itn (by decide) (itp rfl (itn z (itn (by decide) ⟨z, ?_⟩))))))
    unfold w_Machine_reckon_j133
    exact c_rkGo h hs hQ
theorem r_14 (hq : RQ A W w nq nk np nh nr F s) (h : RI A W w br nq nk np nh nr C B F t s c j a lo st U M) (hA : At W s t c j a lo st U i) (ho : i.1 = 14) (hQ : ∀ M', RM A W w br nq nk np nh nr C B F t (doS W t s c j a lo st U i q) (gU (doS W t s c j a lo st U i q) t) M' → Q M') : w_Machine_reckon w (Int32.ofNat U.length) (Int32.ofNat 14) (Int32.ofNat (a + 1)) Q M := by
  obtain ⟨tl, -⟩ := hA.tk (ws := [wNum, wNum]) (by obtain ⟨o, r⟩ := i; have ho : o = 14 := ho; subst ho; rfl)
  have hs : 2 ≤ st.length := by
    have := hA.in.1.2.1
    have tl : 2 ≤ (k2 W c j a).length := tl
    omega
  have e : doS W t s c j a lo st U i q = sU s t (.inl (c, j, a + 1, lo, drp st 2 ++ [(aluS 14 (tv st 1).1 (tv st 0).1, false)]) :: U) := (by obtain ⟨o, r⟩ := i; have ho : o = 14 := ho; subst ho; rfl)
  rw [e] at hQ
  unfold w_Machine_reckon
  refine c_num (d := 1) h (by omega) (c_num (d := 0) h (by omega) ?_)
  rw [gU_in] at hQ
  exact itn (by decide) (itn (by decide) (itn (by decide) (itn (by decide) (itn (by decide) (itn (by decide) (itp rfl (c_rkGo h hs hQ)))))))
theorem r_15 (hq : RQ A W w nq nk np nh nr F s) (h : RI A W w br nq nk np nh nr C B F t s c j a lo st U M) (hA : At W s t c j a lo st U i) (ho : i.1 = 15) (hQ : ∀ M', RM A W w br nq nk np nh nr C B F t (doS W t s c j a lo st U i q) (gU (doS W t s c j a lo st U i q) t) M' → Q M') : w_Machine_reckon w (Int32.ofNat U.length) (Int32.ofNat 15) (Int32.ofNat (a + 1)) Q M := by
  obtain ⟨tl, -⟩ := hA.tk (ws := [wNum, wNum]) (by obtain ⟨o, r⟩ := i; have ho : o = 15 := ho; subst ho; rfl)
  have hs : 2 ≤ st.length := by
    have := hA.in.1.2.1
    have tl : 2 ≤ (k2 W c j a).length := tl
    omega
  have e : doS W t s c j a lo st U i q = sU s t (.inl (c, j, a + 1, lo, drp st 2 ++ [(aluS 15 (tv st 1).1 (tv st 0).1, false)]) :: U) := (by obtain ⟨o, r⟩ := i; have ho : o = 15 := ho; subst ho; rfl)
  rw [e] at hQ
  unfold w_Machine_reckon
  refine c_num (d := 1) h (by omega) (c_num (d := 0) h (by omega) ?_)
  rw [gU_in] at hQ
  exact itn (by decide) (itn (by decide) (itn (by decide) (itn (by decide) (itn (by decide) (itn (by decide) (itn (by decide) (itp rfl (c_rkGo h hs hQ))))))))
theorem r_16 (hq : RQ A W w nq nk np nh nr F s) (h : RI A W w br nq nk np nh nr C B F t s c j a lo st U M) (hA : At W s t c j a lo st U i) (ho : i.1 = 16) (hQ : ∀ M', RM A W w br nq nk np nh nr C B F t (doS W t s c j a lo st U i q) (gU (doS W t s c j a lo st U i q) t) M' → Q M') : w_Machine_reckon w (Int32.ofNat U.length) (Int32.ofNat 16) (Int32.ofNat (a + 1)) Q M := by
  obtain ⟨tl, -⟩ := hA.tk (ws := [wNum, wNum]) (by obtain ⟨o, r⟩ := i; have ho : o = 16 := ho; subst ho; rfl)
  have hs : 2 ≤ st.length := by
    have := hA.in.1.2.1
    have tl : 2 ≤ (k2 W c j a).length := tl
    omega
  have e : doS W t s c j a lo st U i q = sU s t (.inl (c, j, a + 1, lo, drp st 2 ++ [(aluS 16 (tv st 1).1 (tv st 0).1, false)]) :: U) := (by obtain ⟨o, r⟩ := i; have ho : o = 16 := ho; subst ho; rfl)
  rw [e] at hQ
  unfold w_Machine_reckon
  refine c_num (d := 1) h (by omega) (c_num (d := 0) h (by omega) ?_)
  rw [gU_in] at hQ
  exact itn (by decide) (itn (by decide) (itn (by decide) (itn (by decide) (itn (by decide) (itn (by decide) (itn (by decide) (itn (by decide) (itp rfl (c_rkGo h hs hQ)))))))))
theorem r_17 (hq : RQ A W w nq nk np nh nr F s) (h : RI A W w br nq nk np nh nr C B F t s c j a lo st U M) (hA : At W s t c j a lo st U i) (ho : i.1 = 17) (hQ : ∀ M', RM A W w br nq nk np nh nr C B F t (doS W t s c j a lo st U i q) (gU (doS W t s c j a lo st U i q) t) M' → Q M') : w_Machine_reckon w (Int32.ofNat U.length) (Int32.ofNat 17) (Int32.ofNat (a + 1)) Q M := by
  obtain ⟨tl, -⟩ := hA.tk (ws := [wNum, wNum]) (by obtain ⟨o, r⟩ := i; have ho : o = 17 := ho; subst ho; rfl)
  have hs : 2 ≤ st.length := by
    have := hA.in.1.2.1
    have tl : 2 ≤ (k2 W c j a).length := tl
    omega
  have e : doS W t s c j a lo st U i q = sU s t (.inl (c, j, a + 1, lo, drp st 2 ++ [(aluS 17 (tv st 1).1 (tv st 0).1, false)]) :: U) := (by obtain ⟨o, r⟩ := i; have ho : o = 17 := ho; subst ho; rfl)
  rw [e] at hQ
  unfold w_Machine_reckon
  refine c_num (d := 1) h (by omega) (c_num (d := 0) h (by omega) ?_)
  rw [gU_in] at hQ
  exact itn (by decide) (itn (by decide) (itn (by decide) (itn (by decide) (itn (by decide) (itn (by decide) (itn (by decide) (itn (by decide) (itn (by decide) (itp rfl (c_rkGo h hs hQ))))))))))
theorem r_18 (hq : RQ A W w nq nk np nh nr F s) (h : RI A W w br nq nk np nh nr C B F t s c j a lo st U M) (hA : At W s t c j a lo st U i) (ho : i.1 = 18) (hQ : ∀ M', RM A W w br nq nk np nh nr C B F t (doS W t s c j a lo st U i q) (gU (doS W t s c j a lo st U i q) t) M' → Q M') : w_Machine_reckon w (Int32.ofNat U.length) (Int32.ofNat 18) (Int32.ofNat (a + 1)) Q M := by
  obtain ⟨tl, -⟩ := hA.tk (ws := [wNum, wNum]) (by obtain ⟨o, r⟩ := i; have ho : o = 18 := ho; subst ho; rfl)
  have hs : 2 ≤ st.length := by
    have := hA.in.1.2.1
    have tl : 2 ≤ (k2 W c j a).length := tl
    omega
  have e : doS W t s c j a lo st U i q = sU s t (.inl (c, j, a + 1, lo, drp st 2 ++ [(aluS 18 (tv st 1).1 (tv st 0).1, false)]) :: U) := (by obtain ⟨o, r⟩ := i; have ho : o = 18 := ho; subst ho; rfl)
  rw [e] at hQ
  unfold w_Machine_reckon
  refine c_num (d := 1) h (by omega) (c_num (d := 0) h (by omega) ?_)
  rw [gU_in] at hQ
  exact itn (by decide) (itn (by decide) (itn (by decide) (itn (by decide) (itn (by decide) (itn (by decide) (itn (by decide) (itn (by decide) (itn (by decide) (itn (by decide) (c_rkGo h hs hQ))))))))))
end
