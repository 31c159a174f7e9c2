/-! THE MACHINE IN THE WORKS: rows, fields (printed by gen/th.py) -/
section
variable {A : List Nm} {W : List Cls} {w C B F t : Nat} {br : Int32} {nq nk np nh nr : Nat} {s s' : Ms} {M M' : Mem} {U : List Un} {c j a qi : Nat} {lo st lo' st' : List Vl} {q : Nat × Nat} {i : Ins} {Q : Mem → Prop} {r v : Int32}
theorem c_isInX {x : Int32} {n : Nat} {Q : Int32 → Mem → Prop} (hn : n ≤ 300) (hQ : Q (b2 (decide (¬ (x < 0 ∨ Int32.ofNat n ≤ x)))) M) : w_Works_isIn x 0 (Int32.ofNat n - 1) Q M := by
  have e1 : (Int32.ofNat n - 1).toInt = (n : Int) - 1 := by
    rw [Int32.toInt_sub, oN_toInt (by omega), show (1 : Int32).toInt = 1 from rfl]
    exact Int.bmod_eq_of_le (by omega) (by omega)
  unfold w_Works_isIn
  by_cases c1 : x < 0
  · rw [decide_eq_false (fun z => z (Or.inl c1))] at hQ
    exact itp c1 hQ
  refine itn c1 ?_
  by_cases c2 : Int32.ofNat n ≤ x
  · rw [decide_eq_false (fun z => z (Or.inr c2))] at hQ
    refine itp ?_ hQ
    rw [Int32.lt_iff_toInt_lt, e1]
    rw [Int32.le_iff_toInt_le, oN_toInt (by omega)] at c2
    omega
  · rw [decide_eq_true (not_or.mpr ⟨c1, c2⟩)] at hQ
    refine itn (fun z => ?_) hQ
    rw [Int32.lt_iff_toInt_lt, e1] at z
    rw [Int32.le_iff_toInt_le, oN_toInt (by omega)] at c2
    omega
theorem tnc_oN (h : ¬ r < 0) : Int32.ofNat r.toNatClampNeg = r := by
  rw [← Int32.toInt_inj, oN_toInt (by have := r.toInt_lt; show r.toInt.toNat < _; omega)]
  rw [Int32.lt_iff_toInt_lt, show (0 : Int32).toInt = 0 from rfl] at h
  show ((r.toInt.toNat : Nat) : Int) = _
  omega
theorem th_45 (hq : RQ A W w nq nk np nh nr F s) (h : RI A W w br nq nk np nh nr C B F t s c j a lo st U M) (hA : At W s t c j a lo st U i) (ho : i.1 = 45) (hQ : ∀ M', RM A W w br nq nk np nh nr C B F t (doS W t s c j a lo st U i q) (gU (doS W t s c j a lo st U i q) t) M' → Q M') : w_Machine_things w (Int32.ofNat U.length) (Int32.ofNat qi) (Int32.ofNat 45) (Int32.ofNat (a + 1)) Q M := by
  obtain ⟨hU, hs20, hlo⟩ := h.2.2.1
  obtain ⟨tl, tk⟩ := hA.tk (ws := [wRow]) (by obtain ⟨o, r⟩ := i; have ho : o = 45 := ho; subst ho; rfl)
  have hs : 1 ≤ st.length := by
    have := hA.in.1.2.1
    have tl : 1 ≤ (k2 W c j a).length := tl
    omega
  have e : doS W t s c j a lo st U i q = if (tv st 0).1 = 0 then failS W t s 2 0 else sU s t (.inl (c, j, a + 1, lo, drp st 1 ++ [(Int32.ofNat (gOb s (tv st 0).1.toNatClampNeg).2.2.1, false)]) :: U) := (by obtain ⟨o, r⟩ := i; have ho : o = 45 := ho; subst ho; rfl)
  rw [e] at hQ
  unfold w_Machine_things
  refine itn (by decide) (itn (by decide) (itn (by decide) (itn (by decide) (itn (by decide) (itn (by decide) (itn (by decide) (?_)))))))
  unfold w_Machine_things_j145
  refine c_num (d := 0) h (by omega) ?_
  by_cases c0 : (tv st 0).1 = 0
  · rw [if_pos c0] at hQ
    exact itp c0 (c_failA (f := 2) (ru := 0) hq h hA (by omega) (by omega) hQ)
  rw [if_neg c0] at hQ
  refine itn c0 ?_
  unfold w_Machine_inThing
  refine itp rfl ?_
  obtain ⟨n, en, ht, p1, p2, -⟩ := row_at hA.1.1 hA.1.2.1.1.1 (tk 0 (by simp)).2 (tk 0 (by simp)).1 c0
  have hv : vRf s (tv st 0).1 := (tk 0 (by simp)).2.2 ((tk 0 (by simp)).2.fit hA.1.1.1 (wOne_fit (tk 0 (by simp)).1 (by decide)) |>.1.2.2.1 rfl).1
  obtain ⟨ey, hn⟩ := ref_n hA.1.2.1.1.1.2.1 hv c0 (by rw [en]; exact ht)
  have hH := h.1.1.2.2.1.1
  rw [en] at ey hn hQ ⊢
  have hO := hH.2.2.2.1 n ht
  rw [gU_in] at hQ
  refine ⟨by rw [ey, hH.1.1.2.2.1]; exact (vp_oN (by omega)).mpr (by omega), ?_⟩
  unfold w_Machine_comes
  rw [hO.2.2.1, h.2.1.2, lit32 1, sub_n hs]
  exact mf_w_Machine_push (fun M' _ hp => itn (by decide) hp) (c_comesGo (b := false) h hs (by omega) hQ)
theorem th_43 (hq : RQ A W w nq nk np nh nr F s) (h : RI A W w br nq nk np nh nr C B F t s c j a lo st U M) (hA : At W s t c j a lo st U i) (ho : i.1 = 43) (hQ : ∀ M', RM A W w br nq nk np nh nr C B F t (doS W t s c j a lo st U i q) (gU (doS W t s c j a lo st U i q) t) M' → Q M') : w_Machine_things w (Int32.ofNat U.length) (Int32.ofNat qi) (Int32.ofNat 43) (Int32.ofNat (a + 1)) Q M := by
  obtain ⟨hU, hs20, hlo⟩ := h.2.2.1
  obtain ⟨tl, tk⟩ := hA.tk (ws := [wNum, wRow]) (by obtain ⟨o, r⟩ := i; have ho : o = 43 := ho; subst ho; rfl)
  have hs : 2 ≤ st.length := by
    have := hA.in.1.2.1
    have tl : 2 ≤ (k2 W c j a).length := tl
    omega
  have e : doS W t s c j a lo st U i q = if (tv st 1).1 = 0 then failS W t s 2 0 else if (tv st 0).1 < 0 ∨ Int32.ofNat (gOb s (tv st 1).1.toNatClampNeg).2.2.1 ≤ (tv st 0).1 then failS W t s 4 0 else sU s t (.inl (c, j, a + 1, lo, drp st 2 ++ [(gCell s ((gOb s (tv st 1).1.toNatClampNeg).2.1 + (tv st 0).1.toNatClampNeg), false)]) :: U) := (by obtain ⟨o, r⟩ := i; have ho : o = 43 := ho; subst ho; rfl)
  rw [e] at hQ
  unfold w_Machine_things
  refine itn (by decide) (itn (by decide) (itn (by decide) (itn (by decide) (itn (by decide) (itp rfl ?_)))))
  unfold w_Machine_things_j140 w_Machine_things_j145
  refine c_num (d := 1) h (by omega) ?_
  by_cases c0 : (tv st 1).1 = 0
  · rw [if_pos c0] at hQ
    exact itp c0 (c_failA (f := 2) (ru := 0) hq h hA (by omega) (by omega) hQ)
  rw [if_neg c0] at hQ
  refine itn c0 ?_
  unfold w_Machine_inThing
  refine itn (by decide) (itn (by decide) (itn (by decide) (itn (by decide) (itn (by decide) (itn (by decide) (?_))))))
  obtain ⟨n, en, ht, p1, p2, -⟩ := row_at hA.1.1 hA.1.2.1.1.1 (tk 1 (by simp)).2 (tk 1 (by simp)).1 c0
  have hv : vRf s (tv st 1).1 := (tk 1 (by simp)).2.2 ((tk 1 (by simp)).2.fit hA.1.1.1 (wOne_fit (tk 1 (by simp)).1 (by decide)) |>.1.2.2.1 rfl).1
  obtain ⟨ey, hn⟩ := ref_n hA.1.2.1.1.1.2.1 hv c0 (by rw [en]; exact ht)
  have hH := h.1.1.2.2.1.1
  have h4k := hA.1.2.1.1.1.2.1.1.2.2
  rw [en] at ey hn hQ
  have hO := hH.2.2.2.1 n ht
  unfold w_Machine_inThing_j177
  refine c_num (d := 0) h (by omega) ⟨by rw [ey, hH.1.1.2.2.1]; exact (vp_oN (by omega)).mpr (by omega), ?_⟩
  rw [en, hO.2.2.1]
  refine c_isInX p2 ?_
  by_cases c1 : (tv st 0).1 < 0 ∨ Int32.ofNat (gOb s n).2.2.1 ≤ (tv st 0).1
  · rw [decide_eq_false (fun z => z c1)]
    rw [if_pos c1] at hQ
    exact itp rfl (c_failA (f := 4) (ru := 0) hq h hA (by omega) (by omega) (fun M' h' => itp rfl (hQ M' h')))
  rw [decide_eq_true c1]
  rw [if_neg c1, gU_in] at hQ
  have c1' := not_or.mp c1
  have hix := ix_lt p2 c1'.1 c1'.2
  have eix := tnc_oN c1'.1
  have esum : mI M 80 w n + (tv st 0).1 = Int32.ofNat ((gOb s n).2.1 + (tv st 0).1.toNatClampNeg) := by
    rw [hO.2.1]; conv => lhs; rw [← eix]
    exact oN_add _ _
  have v80 : vp_in (tv st 1).1 (mL M 80 w) := by rw [ey, hH.1.1.2.1]; exact (vp_oN (by omega)).mpr (by omega)
  have v84 : vp_in (Int32.ofNat ((gOb s n).2.1 + (tv st 0).1.toNatClampNeg)) (mL M 84 w) := by rw [hH.1.1.2.2.2.2]; exact (vp_oN (by omega)).mpr (by omega)
  rw [esum, oN_tnc (k := (gOb s n).2.1 + (tv st 0).1.toNatClampNeg) (by omega)]
  refine itn (by decide) (itp rfl ⟨v80, v84, ?_⟩)
  unfold w_Machine_comes
  rw [hH.2.2.2.2.1 _ (by omega), h.2.1.2, lit32 2, sub_n hs]
  exact mf_w_Machine_push (fun M' _ hp => itn (by decide) hp) (c_comesGo (b := false) h hs (by omega) hQ)
theorem th_44 (hq : RQ A W w nq nk np nh nr F s) (h : RI A W w br nq nk np nh nr C B F t s c j a lo st U M) (hA : At W s t c j a lo st U i) (ho : i.1 = 44) (hQ : ∀ M', RM A W w br nq nk np nh nr C B F t (doS W t s c j a lo st U i q) (gU (doS W t s c j a lo st U i q) t) M' → Q M') : w_Machine_things w (Int32.ofNat U.length) (Int32.ofNat qi) (Int32.ofNat 44) (Int32.ofNat (a + 1)) Q M := by
  obtain ⟨hU, hs20, hlo⟩ := h.2.2.1
  obtain ⟨tl, tk⟩ := hA.tk (ws := [wNum, wNum, wRow]) (by obtain ⟨o, r⟩ := i; have ho : o = 44 := ho; subst ho; rfl)
  have hs : 3 ≤ st.length := by
    have := hA.in.1.2.1
    have tl : 3 ≤ (k2 W c j a).length := tl
    omega
  have e : doS W t s c j a lo st U i q = if (tv st 2).1 = 0 then failS W t s 2 0 else if (tv st 1).1 < 0 ∨ Int32.ofNat (gOb s (tv st 2).1.toNatClampNeg).2.2.1 ≤ (tv st 1).1 then failS W t s 4 0 else sU (wCell s ((gOb s (tv st 2).1.toNatClampNeg).2.1 + (tv st 1).1.toNatClampNeg) (tv st 0).1) t (.inl (c, j, a + 1, lo, drp st 3) :: U) := (by obtain ⟨o, r⟩ := i; have ho : o = 44 := ho; subst ho; rfl)
  rw [e] at hQ
  unfold w_Machine_things
  refine itn (by decide) (itn (by decide) (itn (by decide) (itn (by decide) (itp rfl ?_))))
  unfold w_Machine_things_j145
  refine c_num (d := 2) h (by omega) ?_
  by_cases c0 : (tv st 2).1 = 0
  · rw [if_pos c0] at hQ
    exact itp c0 (c_failA (f := 2) (ru := 0) hq h hA (by omega) (by omega) hQ)
  rw [if_neg c0] at hQ
  refine itn c0 ?_
  unfold w_Machine_inThing
  refine itn (by decide) (itn (by decide) (itn (by decide) (itn (by decide) (itn (by decide) (itp rfl ?_)))))
  obtain ⟨n, en, ht, p1, p2, -⟩ := row_at hA.1.1 hA.1.2.1.1.1 (tk 2 (by simp)).2 (tk 2 (by simp)).1 c0
  have hv : vRf s (tv st 2).1 := (tk 2 (by simp)).2.2 ((tk 2 (by simp)).2.fit hA.1.1.1 (wOne_fit (tk 2 (by simp)).1 (by decide)) |>.1.2.2.1 rfl).1
  obtain ⟨ey, hn⟩ := ref_n hA.1.2.1.1.1.2.1 hv c0 (by rw [en]; exact ht)
  have hH := h.1.1.2.2.1.1
  have h4k := hA.1.2.1.1.1.2.1.1.2.2
  rw [en] at ey hn hQ
  have hO := hH.2.2.2.1 n ht
  unfold w_Machine_inThing_j177
  refine c_num (d := 1) h (by omega) ⟨by rw [ey, hH.1.1.2.2.1]; exact (vp_oN (by omega)).mpr (by omega), ?_⟩
  rw [en, hO.2.2.1]
  refine c_isInX p2 ?_
  by_cases c1 : (tv st 1).1 < 0 ∨ Int32.ofNat (gOb s n).2.2.1 ≤ (tv st 1).1
  · rw [decide_eq_false (fun z => z c1)]
    rw [if_pos c1] at hQ
    exact itp rfl (c_failA (f := 4) (ru := 0) hq h hA (by omega) (by omega) (fun M' h' => itp rfl (hQ M' h')))
  rw [decide_eq_true c1]
  rw [if_neg c1, gU_in] at hQ
  have c1' := not_or.mp c1
  have hix := ix_lt p2 c1'.1 c1'.2
  have eix := tnc_oN c1'.1
  have esum : mI M 80 w n + (tv st 1).1 = Int32.ofNat ((gOb s n).2.1 + (tv st 1).1.toNatClampNeg) := by
    rw [hO.2.1]; conv => lhs; rw [← eix]
    exact oN_add _ _
  have v80 : vp_in (tv st 2).1 (mL M 80 w) := by rw [ey, hH.1.1.2.1]; exact (vp_oN (by omega)).mpr (by omega)
  have v84 : vp_in (Int32.ofNat ((gOb s n).2.1 + (tv st 1).1.toNatClampNeg)) (mL M 84 w) := by rw [hH.1.1.2.2.2.2]; exact (vp_oN (by omega)).mpr (by omega)
  rw [esum, oN_tnc (k := (gOb s n).2.1 + (tv st 1).1.toNatClampNeg) (by omega)]
  refine itn (by decide) (itn (by decide) ⟨v80, c_num (d := 0) h (by omega) ⟨v84, _, rfl, ?_⟩⟩)
  have h2 := h.cell (p := (gOb s n).2.1 + (tv st 1).1.toNatClampNeg) (v := (tv st 0).1)
  rw [h2.2.1.2, lit32 3, sub_n hs]
  exact itn (by decide) (c_go h2 (by omega) hQ)
theorem th_46 (hq : RQ A W w nq nk np nh nr F s) (h : RI A W w br nq nk np nh nr C B F t s c j a lo st U M) (hA : At W s t c j a lo st U i) (hFq : Fq W s i q) (h36 : mI M 6 w 36 = Int32.ofNat (foff W q.1 + q.2)) (ho : i.1 = 46) (hQ : ∀ M', RM A W w br nq nk np nh nr C B F t (doS W t s c j a lo st U i q) (gU (doS W t s c j a lo st U i q) t) M' → Q M') : w_Machine_things w (Int32.ofNat U.length) (Int32.ofNat qi) (Int32.ofNat 46) (Int32.ofNat (a + 1)) Q M := by
  obtain ⟨hU, hs20, hlo⟩ := h.2.2.1
  obtain ⟨tl, tk⟩ := hA.tk (ws := [(0, (2, iK i))]) (by obtain ⟨o, r⟩ := i; have ho : o = 46 := ho; subst ho; rfl)
  have hs : 1 ≤ st.length := by
    have := hA.in.1.2.1
    have tl : 1 ≤ (k2 W c j a).length := tl
    omega
  have e : doS W t s c j a lo st U i q = if (tv st 0).1 = 0 then failS W t s 2 0 else sU s t (.inl (c, j, a + 1, lo, drp st 1 ++ [(gCell s ((gOb s (tv st 0).1.toNatClampNeg).2.1 + sltF W q), decide ((gfl (gc W q.1) q.2).2.1.1 ≠ 0))]) :: U) := (by obtain ⟨o, r⟩ := i; have ho : o = 46 := ho; subst ho; rfl)
  rw [e] at hQ
  unfold w_Machine_things
  refine itn (by decide) (itn (by decide) (itn (by decide) (itn (by decide) (itn (by decide) (itn (by decide) (itn (by decide) (?_)))))))
  unfold w_Machine_things_j145
  refine c_num (d := 0) h (by omega) ?_
  by_cases c0 : (tv st 0).1 = 0
  · rw [if_pos c0] at hQ
    exact itp c0 (c_failA (f := 2) (ru := 0) hq h hA (by omega) (by omega) hQ)
  rw [if_neg c0] at hQ
  refine itn c0 ?_
  unfold w_Machine_inThing
  refine itn (by decide) (itp rfl ?_)
  have hA' := hA
  obtain ⟨b1, b2', b3⟩ := obj_at hA.1.1 hA.1.2.1.1.1 (tk 0 (by simp)).2 (tk 0 (by simp)).1 c0 hFq (by rw [ho]; decide) (by rw [ho]; decide)
  obtain ⟨ht, hv⟩ := obj_th hA.1.1 hA.1.2.1.1.1 (tk 0 (by simp)).2 (tk 0 (by simp)).1 c0 hFq (by rw [ho]; decide) (by rw [ho]; decide)
  obtain ⟨ey, hn⟩ := ref_n hA.1.2.1.1.1.2.1 hv c0 ht
  obtain ⟨f1, f2, hty, hlk⟩ := hFq.ty hA (by rw [ho]; decide)
  have hst := (hFq.2.1 (by rw [ho]; decide)).choose_spec.2.2.2.1 (by rw [ho]; decide)
  obtain ⟨⟨fo, l50, l53, l54⟩, k50⟩ := h.fld hq.2.2.1 f1 f2 hty
  have e53 : mI M 53 w (foff W q.1 + q.2) = Int32.ofNat (sltF W q) := (h.1.1.1.1.2.2.2.1 q.1 f1 hlk).2.2 q.2 f2 hst.1
  have hH := h.1.1.2.2.1.1
  have h4k := hA.1.2.1.1.1.2.1.1.2.2
  generalize hnn : (tv st 0).1.toNatClampNeg = n at *
  have hO := hH.2.2.2.1 n ht
  have v80 : vp_in (tv st 0).1 (mL M 80 w) := by rw [ey, hH.1.1.2.1]; exact (vp_oN (by omega)).mpr (by omega)
  have v53 : vp_in (Int32.ofNat (foff W q.1 + q.2)) (mL M 53 w) := by rw [l53]; exact (vp_oN (by omega)).mpr fo
  have v50 : vp_in (Int32.ofNat (foff W q.1 + q.2)) (mL M 50 w) := by rw [l50]; exact (vp_oN (by omega)).mpr fo
  have v84 : vp_in (Int32.ofNat ((gOb s n).2.1 + sltF W q)) (mL M 84 w) := by rw [hH.1.1.2.2.2.2]; exact (vp_oN (by omega)).mpr (by omega)
  rw [h36, oN_tnc (k := foff W q.1 + q.2) (by omega), e53, hO.2.1, oN_add, oN_tnc (k := (gOb s n).2.1 + sltF W q) (by omega)]
  rw [gU_in] at hQ
  refine ⟨v80, v53, v84, v50, ?_⟩
  unfold w_Machine_inThing_j98 w_Machine_comes
  rw [hH.2.2.2.2.1 _ b1, h.2.1.2, show (1 : Int32) = Int32.ofNat 1 from rfl, sub_n hs]
  by_cases k0 : (gfl (gc W q.1) q.2).2.1.1 = 0
  · rw [decide_eq_false (fun z => z k0)] at hQ
    exact itp (k50.mpr k0) (mf_w_Machine_push (fun M' _ hp => itn (by decide) hp) (c_comesGo (b := false) h hs (by omega) hQ))
  · rw [decide_eq_true k0] at hQ
    exact itn (fun z => k0 (k50.mp z)) (mf_w_Machine_push (fun M' _ hp => itn (by decide) hp) (c_comesGo (b := true) h hs (by omega) hQ))
theorem th_47 (hq : RQ A W w nq nk np nh nr F s) (h : RI A W w br nq nk np nh nr C B F t s c j a lo st U M) (hA : At W s t c j a lo st U i) (hFq : Fq W s i q) (h36 : mI M 6 w 36 = Int32.ofNat (foff W q.1 + q.2)) (ho : i.1 = 47) (hQ : ∀ M', RM A W w br nq nk np nh nr C B F t (doS W t s c j a lo st U i q) (gU (doS W t s c j a lo st U i q) t) M' → Q M') : w_Machine_things w (Int32.ofNat U.length) (Int32.ofNat qi) (Int32.ofNat 47) (Int32.ofNat (a + 1)) Q M := by
  obtain ⟨hU, hs20, hlo⟩ := h.2.2.1
  obtain ⟨tl, tk⟩ := hA.tk (ws := [(0, iR i), (0, (2, iK i))]) (by obtain ⟨o, r⟩ := i; have ho : o = 47 := ho; subst ho; rfl)
  have hs : 2 ≤ st.length := by
    have := hA.in.1.2.1
    have tl : 2 ≤ (k2 W c j a).length := tl
    omega
  have e : doS W t s c j a lo st U i q = if (tv st 1).1 = 0 then failS W t s 2 0 else sU (wCell s ((gOb s (tv st 1).1.toNatClampNeg).2.1 + sltF W q) (tv st 0).1) t (.inl (c, j, a + 1, lo, drp st 2) :: U) := (by obtain ⟨o, r⟩ := i; have ho : o = 47 := ho; subst ho; rfl)
  rw [e] at hQ
  unfold w_Machine_things
  refine itn (by decide) (itn (by decide) (itn (by decide) (itn (by decide) (itn (by decide) (itn (by decide) (itp rfl ?_))))))
  unfold w_Machine_things_j140 w_Machine_things_j145
  refine c_num (d := 1) h (by omega) ?_
  by_cases c0 : (tv st 1).1 = 0
  · rw [if_pos c0] at hQ
    exact itp c0 (c_failA (f := 2) (ru := 0) hq h hA (by omega) (by omega) hQ)
  rw [if_neg c0] at hQ
  refine itn c0 ?_
  unfold w_Machine_inThing
  refine itn (by decide) (itn (by decide) (itp rfl ?_))
  have hA' := hA
  obtain ⟨b1, b2', b3⟩ := obj_at hA.1.1 hA.1.2.1.1.1 (tk 1 (by simp)).2 (tk 1 (by simp)).1 c0 hFq (by rw [ho]; decide) (by rw [ho]; decide)
  obtain ⟨ht, hv⟩ := obj_th hA.1.1 hA.1.2.1.1.1 (tk 1 (by simp)).2 (tk 1 (by simp)).1 c0 hFq (by rw [ho]; decide) (by rw [ho]; decide)
  obtain ⟨ey, hn⟩ := ref_n hA.1.2.1.1.1.2.1 hv c0 ht
  obtain ⟨f1, f2, hty, hlk⟩ := hFq.ty hA (by rw [ho]; decide)
  have hst := (hFq.2.1 (by rw [ho]; decide)).choose_spec.2.2.2.1 (by rw [ho]; decide)
  obtain ⟨⟨fo, l50, l53, l54⟩, k50⟩ := h.fld hq.2.2.1 f1 f2 hty
  have e53 : mI M 53 w (foff W q.1 + q.2) = Int32.ofNat (sltF W q) := (h.1.1.1.1.2.2.2.1 q.1 f1 hlk).2.2 q.2 f2 hst.1
  have hH := h.1.1.2.2.1.1
  have h4k := hA.1.2.1.1.1.2.1.1.2.2
  generalize hnn : (tv st 1).1.toNatClampNeg = n at *
  have hO := hH.2.2.2.1 n ht
  have v80 : vp_in (tv st 1).1 (mL M 80 w) := by rw [ey, hH.1.1.2.1]; exact (vp_oN (by omega)).mpr (by omega)
  have v53 : vp_in (Int32.ofNat (foff W q.1 + q.2)) (mL M 53 w) := by rw [l53]; exact (vp_oN (by omega)).mpr fo
  have v50 : vp_in (Int32.ofNat (foff W q.1 + q.2)) (mL M 50 w) := by rw [l50]; exact (vp_oN (by omega)).mpr fo
  have v84 : vp_in (Int32.ofNat ((gOb s n).2.1 + sltF W q)) (mL M 84 w) := by rw [hH.1.1.2.2.2.2]; exact (vp_oN (by omega)).mpr (by omega)
  rw [h36, oN_tnc (k := foff W q.1 + q.2) (by omega), e53, hO.2.1, oN_add, oN_tnc (k := (gOb s n).2.1 + sltF W q) (by omega)]
  rw [gU_in] at hQ
  refine ⟨v80, v53, c_num (d := 0) h (by omega) ⟨v84, _, rfl, ?_⟩⟩
  have h2 := h.cell (p := (gOb s n).2.1 + sltF W q) (v := (tv st 0).1)
  rw [h2.2.1.2, lit32 2, sub_n hs]
  exact itn (by decide) (c_go h2 (by omega) hQ)
theorem th_48 (hq : RQ A W w nq nk np nh nr F s) (h : RI A W w br nq nk np nh nr C B F t s c j a lo st U M) (hA : At W s t c j a lo st U i) (hFq : Fq W s i q) (h36 : mI M 6 w 36 = Int32.ofNat (foff W q.1 + q.2)) (ho : i.1 = 48) (hQ : ∀ M', RM A W w br nq nk np nh nr C B F t (doS W t s c j a lo st U i q) (gU (doS W t s c j a lo st U i q) t) M' → Q M') : w_Machine_things w (Int32.ofNat U.length) (Int32.ofNat qi) (Int32.ofNat 48) (Int32.ofNat (a + 1)) Q M := by
  obtain ⟨hU, hs20, hlo⟩ := h.2.2.1
  have h20 := a_48 (q := q) hA hFq ho
  have e : doS W t s c j a lo st U i q = sU s t (.inl (c, j, a + 1, lo, st ++ [(zS s q.1 q.2, decide ((gfl (gc W q.1) q.2).2.1.1 ≠ 0))]) :: U) := (by obtain ⟨o, r⟩ := i; have ho : o = 48 := ho; subst ho; rfl)
  rw [e] at hQ
  rw [e] at h20
  have h20 : (st ++ [_]).length ≤ 20 := h20.l20 hA.1.1
  rw [List.length_append] at h20
  have h20 : st.length + 1 ≤ 20 := h20
  rw [gU_in] at hQ
  obtain ⟨f1, f2, hty, hlk⟩ := hFq.ty hA (by rw [ho]; decide)
  have hst := (hFq.2.1 (by rw [ho]; decide)).choose_spec.2.2.2.2 (by rw [ho]; decide)
  obtain ⟨⟨fo, l50, l53, l54⟩, k50⟩ := h.fld hq.2.2.1 f1 f2 hty
  have eS := h.1.1.2.1.2 q.1 q.2 f1 f2 hst.1
  unfold w_Machine_things
  refine itn (by decide) (itn (by decide) (itp rfl ?_))
  unfold w_Machine_things_j33 w_Machine_things_j72
  rw [h36, oN_tnc (k := foff W q.1 + q.2) (by omega), eS]
  have fin : ∀ b : Bool, b = decide ((gfl (gc W q.1) q.2).2.1.1 ≠ 0) → w_Machine_push w (zS s q.1 q.2) (b2 b) (fun M12 => w_Machine_things_j95 w Q (Int32.ofNat U.length) (Int32.ofNat 48) (Int32.ofNat (a + 1)) M12) M := fun b hb => by
    rw [← hb] at hQ
    refine mf_w_Machine_push (fun M' _ hp => ?_) (c_push0 (b := b) h (by omega) hQ)
    unfold w_Machine_things_j95 w_Machine_things_j111
    refine itn (by decide) ?_
    rw [Int32.sub_zero, sI_id rfl]
    exact hp
  refine itp rfl ⟨by rw [l54]; exact (vp_oN (by omega)).mpr fo, by rw [l50]; exact (vp_oN (by omega)).mpr fo, ?_⟩
  by_cases k0 : (gfl (gc W q.1) q.2).2.1.1 = 0
  · exact itp (k50.mpr k0) (fin false (decide_eq_false (fun z => z k0)).symm)
  · exact itn (fun z => k0 (k50.mp z)) (fin true (decide_eq_true k0).symm)
theorem th_49 (hq : RQ A W w nq nk np nh nr F s) (h : RI A W w br nq nk np nh nr C B F t s c j a lo st U M) (hA : At W s t c j a lo st U i) (hFq : Fq W s i q) (h36 : mI M 6 w 36 = Int32.ofNat (foff W q.1 + q.2)) (ho : i.1 = 49) (hQ : ∀ M', RM A W w br nq nk np nh nr C B F t (doS W t s c j a lo st U i q) (gU (doS W t s c j a lo st U i q) t) M' → Q M') : w_Machine_things w (Int32.ofNat U.length) (Int32.ofNat qi) (Int32.ofNat 49) (Int32.ofNat (a + 1)) Q M := by
  obtain ⟨hU, hs20, hlo⟩ := h.2.2.1
  obtain ⟨tl, tk⟩ := hA.tk (ws := [(0, iR i)]) (by obtain ⟨o, r⟩ := i; have ho : o = 49 := ho; subst ho; rfl)
  have hs : 1 ≤ st.length := by
    have := hA.in.1.2.1
    have tl : 1 ≤ (k2 W c j a).length := tl
    omega
  have e : doS W t s c j a lo st U i q = sU (yS s (up1 (zS s) q.1 (up1 (zS s q.1) q.2 (tv st 0).1))) t (.inl (c, j, a + 1, lo, drp st 1) :: U) := (by obtain ⟨o, r⟩ := i; have ho : o = 49 := ho; subst ho; rfl)
  rw [e] at hQ
  rw [gU_in] at hQ
  obtain ⟨f1, f2, hty, hlk⟩ := hFq.ty hA (by rw [ho]; decide)
  obtain ⟨⟨fo, l50, l53, l54⟩, k50⟩ := h.fld hq.2.2.1 f1 f2 hty
  unfold w_Machine_things
  refine itn (by decide) (itn (by decide) (itn (by decide) (itp rfl ?_)))
  unfold w_Machine_things_j33
  rw [h36, oN_tnc (k := foff W q.1 + q.2) (by omega)]
  refine itn (by decide) (c_num (d := 0) h (by omega) ⟨by rw [l54]; exact (vp_oN (by omega)).mpr fo, ?_⟩)
  have h2 := h.fix (v := (tv st 0).1) hq.2.1 f1 f2
  unfold w_Machine_things_j95 w_Machine_things_j111
  rw [h2.2.1.2, show (1 : Int32) = Int32.ofNat 1 from rfl, sub_n hs]
  exact itp rfl (c_go h2 (by omega) hQ)
end
