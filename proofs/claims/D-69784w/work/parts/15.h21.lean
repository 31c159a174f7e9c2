/-! THE MACHINE IN THE TWIN: rows (printed by gen/tr.py) -/
section
variable {G : List Sl} {US : UST} {A : List Nm} {S : List Sg} {W : List Cls} {w c j a k t L q n : Nat} {br x r v : Int32} {bb : Bool} {nq nl nf nk B F op : Nat} {M M' : Mem} {s s' : Ms} {U V : List Un} {lo st lo' st' : List Vl} {o : Option Kd} {Q : Mem → Prop} {i : Ins} {p : Nat × Nat}
theorem TM.cell {m : Nat} {b : Bool} (h : TM G US A S W w br nq nl nf nk B F x bb t s U M) (hk : decide ((gKd s m).1 ≠ 0) = b) : TM G US A S W w br nq nl nf nk B F x bb t (wCell s m v) U (sI M 161 w m (tr b v)) := by
  refine h.hp (Fr.wIa rfl rfl (Fr.rf _ _)) ?_
  obtain ⟨l, ⟨e50, e52⟩, hT, hOb, hC⟩ := h.uh
  have row : ∀ f i k, f ≠ 161 → mI (sI M 161 w m (tr b v)) f i k = mI M f i k := fun f i k hf => by rw [mI_sI, if_neg (fun z => hf z.1)]
  refine ⟨l, ⟨(row 12 w 50 (by omega)).trans e50, (row 12 w 52 (by omega)).trans e52⟩, fun r hr => (row 524 w r (by omega)).trans (hT r hr), fun r hr => ?_, fun i hi => ?_⟩
  · obtain ⟨a1, a2, a3, a4, a5⟩ := hOb r hr
    exact ⟨(row 157 w r (by omega)).trans a1, (row 158 w r (by omega)).trans a2, (row 159 w r (by omega)).trans a3, (row 160 w r (by omega)).trans a4, fun z => (row 162 w r (by omega)).trans (a5 z)⟩
  · show _ = tr (decide ((gKd s i).1 ≠ 0)) (up1 (zH s).2.2.2.2.1 m v i)
    rw [mI_sI]
    by_cases e : i = m
    · rw [if_pos ⟨rfl, rfl, e⟩, e, up1_s, hk]
    · rw [if_neg (fun z => e z.2.2), up1_o e]; exact hC i hi
theorem tr_lo {b : Bool} (h : n ≤ 800) : tr b (Int32.ofNat n) = Int32.ofNat n := by
  rw [tr_n (by omega), if_neg (fun z => by omega)]
theorem row_T (hW : WO W) (hG : GL W s) {C : List Ins} {κ : Kd} {u : Vl} (hv : cv W s c C κ u) (hf : wOne W wRow κ = 0) : u.2 = true ∧ vRf s u.1 ∧ (u.1 ≠ 0 → ∃ n, u.1.toNatClampNeg = n ∧ tr true u.1 = Int32.ofNat n ∧ n ≤ 800 ∧ thr s n = true ∧ (gOb s n).2.1 + (gOb s n).2.2.1 ≤ (zH s).2.1 ∧ (gOb s n).2.2.1 ≤ 300 ∧ ∀ k, k < (gOb s n).2.2.1 → gKd s ((gOb s n).2.1 + k) = (0, [])) := by
  have hb : u.2 = true := (hv.fit hW.1 (wOne_fit hf (by decide)) |>.1.2.2.1 rfl).1
  have hvr : vRf s u.1 := hv.2 hb
  refine ⟨hb, hvr, fun h0 => ?_⟩
  obtain ⟨n, en, ht, p1, p2, p3⟩ := row_at hW hG hv hf h0
  obtain ⟨ey, hn⟩ := ref_n hG.2.1 hvr h0 (by rw [en]; exact ht)
  rw [en] at ey hn
  exact ⟨n, en, by rw [ey]; exact tr_lo hn, hn, ht, p1, p2, p3⟩
theorem drp_p1 {m : Nat} : drp (drp st m) 1 = drp st (m + 1) := by
  unfold drp
  rw [List.length_take, List.take_take]
  congr 1; omega
theorem tv_p1 {m : Nat} (h : m < st.length) : tv (drp st m) 0 = tv st m := by
  show (st.take (st.length - m)).getD ((st.take (st.length - m)).length - 1 - 0) (0, false) = st.getD (st.length - 1 - m) (0, false)
  rw [List.length_take, Nat.min_eq_left (by omega), List.getD_eq_getElem?_getD, List.getElem?_take, if_pos (by omega), List.getD_eq_getElem?_getD, show st.length - m - 1 - 0 = st.length - 1 - m by omega]
theorem ct_j234 (h : TM G US A S W w br nq nl nf nk B F x bb t s (.inl (c, j, a, lo, st) :: U) M) (hf : frs U < 40) (hst : stk U) (hQ : ∀ M', TM G US A S W w br nq nl nf nk B F x bb t (sU s t (.inl (c, j, a + 1, lo, st) :: U)) (.inl (c, j, a + 1, lo, st) :: U) M' → Q M') : w_Model_rowStep_j234 0 Q (Int32.ofNat (frs U)) M := ct_j726 (Q := fun _ => Q) h hf hst hQ
theorem ct_j230 (h : TM G US A S W w br nq nl nf nk B F x bb t s (.inl (c, j, a, lo, st) :: U) M) (hf : frs U < 40) (hs : st.length < 24) (hst : stk U) (hQ : ∀ M', TM G US A S W w br nq nl nf nk B F x bb t (sU s t (.inl (c, j, a + 1, lo, st ++ [(v, false)]) :: U)) (.inl (c, j, a + 1, lo, st ++ [(v, false)]) :: U) M' → Q M') : w_Model_rowStep_j230 0 Q (Int32.ofNat (frs U)) v (Int32.ofNat (frs U)) M := by
  unfold w_Model_rowStep_j230
  have g := ct_pushT (Q := fun M35 => w_Model_rowStep_j234 0 Q (Int32.ofNat (frs U)) M35) (v := v) (b := false) h hf hs hst (fun M1 h1 => ct_j234 h1 hf hst hQ)
  rw [tr_f] at g; exact g
theorem x_42 (hq : TQc W F s) (h : TM G US A S W w br nq nl nf nk B F x bb t s (.inl (c, j, a, lo, st) :: U) M) (hA : At W s t c j a lo st U i) (ho : i.1 = 42) (hQ : ∀ M', TM G US A S W w br nq nl nf nk B F x bb t (doS W t s c j a lo st U i p) (gU (doS W t s c j a lo st U i p) t) M' → Q M') : w_Model_rowStep 0 (Int32.ofNat (frs U)) (Int32.ofNat 42) Q M := by
  obtain ⟨⟨hf, -⟩, ⟨hs20, hlo⟩, hst⟩ := hA.tj
  obtain ⟨hs, f0⟩ := hA.n1 (by obtain ⟨o, r⟩ := i; have ho : o = 42 := ho; subst ho; rfl)
  have e : doS W t s c j a lo st U i p = if (tv st 0).1 < 0 then failS W t s 5 0 else if 300 < (tv st 0).1 ∨ fulS s (tv st 0).1.toNatClampNeg then failS W t s 9 0 else sU (mkOb s none (tv st 0).1.toNatClampNeg []) t (.inl (c, j, a + 1, lo, drp st 1 ++ [(Int32.ofNat (lfree s), true)]) :: U) := (by obtain ⟨o, r⟩ := i; have ho : o = 42 := ho; subst ho; rfl)
  rw [e] at hQ
  have d1 : (drp st 1).length = st.length - 1 := drp_len
  unfold w_Model_rowStep
  refine itn (by decide) ?_
  unfold w_Model_rowStep_j15
  refine itn (by decide) (ct_popT h hf (by omega) (by omega) hst (fun M1 h1 => ?_))
  rw [f0, tr_f]
  unfold w_Model_rowStep_j31 w_Model_rowStep_j52
  refine itp rfl ?_
  by_cases c1 : (tv st 0).1 < 0
  · rw [if_pos c1] at hQ
    refine itp c1 ?_
    unfold w_Model_rowStep_j63 w_Model_rowStep_j83
    exact itn (by decide) (itn (Int32.not_le.mpr c1) (ct_throwD (f := 5) (ru := 0) hq h1 hA (by omega) (by omega) hQ))
  rw [if_neg c1] at hQ
  refine itn c1 ?_
  have ful9 : (∀ M', TM G US A S W w br nq nl nf nk B F x bb t (failS W t s 9 0) (gU (failS W t s 9 0) t) M' → Q M') → w_Model_rowStep_j63 0 Q (Int32.ofNat (frs U)) (tv st 0).1 (-1) M1 := fun hq9 => by
    unfold w_Model_rowStep_j63 w_Model_rowStep_j83
    exact itn (by decide) (itp (Int32.not_lt.mp c1) (ct_throwD (f := 9) (ru := 0) hq h1 hA (by omega) (by omega) hq9))
  by_cases c3 : 300 < (tv st 0).1
  · rw [if_pos (Or.inl c3)] at hQ
    exact itn (Int32.not_le.mpr c3) (ful9 hQ)
  refine itp (Int32.not_lt.mp c3) ?_
  have hle : (tv st 0).1.toNatClampNeg ≤ 300 := by
    have := c3
    rw [Int32.lt_iff_toInt_lt, show (300 : Int32).toInt = 300 from rfl] at this
    show ((tv st 0).1.toInt).toNat ≤ 300
    omega
  have ey := tnc_oN c1
  have hO : HO W s := hA.1.2.1.1.1.2.1
  have key := ct_newThing (n := (tv st 0).1.toNatClampNeg) (cl := none) (ks := []) (Q := fun r17 M16 => w_Model_rowStep_j63 0 Q (Int32.ofNat (frs U)) (tv st 0).1 r17 M16) h1 hO (by omega) (fun hfu => ?_) (fun hfu M' h' => ?_)
  · rw [ey] at key; exact key
  · rw [if_pos (Or.inr hfu)] at hQ
    exact ful9 hQ
  · rw [if_neg (fun z => z.elim c3 hfu), gU_in] at hQ
    obtain ⟨-, -, f3⟩ := lfree_ok hO (fun z => hfu (Or.inl z))
    unfold w_Model_rowStep_j63
    refine itp (Int32.not_lt.mp (oN_nonneg (show lfree s < 2147483648 by omega))) ?_
    have g := ct_pushT (Q := fun M8 => w_Model_instruction_j726 0 (fun _ => Q) (Int32.ofNat (frs U)) M8) (v := Int32.ofNat (lfree s)) (b := true) h' hf (by omega) hst (fun M2 h2 => ct_j726 (Q := fun _ => Q) h2 hf hst hQ)
    rw [tr_lo f3] at g
    exact g
theorem x_45 (hq : TQc W F s) (h : TM G US A S W w br nq nl nf nk B F x bb t s (.inl (c, j, a, lo, st) :: U) M) (hA : At W s t c j a lo st U i) (ho : i.1 = 45) (hQ : ∀ M', TM G US A S W w br nq nl nf nk B F x bb t (doS W t s c j a lo st U i p) (gU (doS W t s c j a lo st U i p) t) M' → Q M') : w_Model_rowStep 0 (Int32.ofNat (frs U)) (Int32.ofNat 45) Q M := by
  obtain ⟨⟨hf, -⟩, ⟨hs20, hlo⟩, hst⟩ := hA.tj
  obtain ⟨tl, tk⟩ := hA.tk (ws := [wRow]) (by obtain ⟨o, r⟩ := i; have ho : o = 45 := ho; subst ho; rfl)
  have hs : 1 ≤ st.length := by
    have := hA.in.1.2.1
    have tl : 1 ≤ (k2 W c j a).length := tl
    omega
  obtain ⟨f0, hv, hrow⟩ := row_T hA.1.1 hA.1.2.1.1.1 (tk 0 (by simp)).2 (tk 0 (by simp)).1
  have e : doS W t s c j a lo st U i p = if (tv st 0).1 = 0 then failS W t s 2 0 else sU s t (.inl (c, j, a + 1, lo, drp st 1 ++ [(Int32.ofNat (gOb s (tv st 0).1.toNatClampNeg).2.2.1, false)]) :: U) := (by obtain ⟨o, r⟩ := i; have ho : o = 45 := ho; subst ho; rfl)
  rw [e] at hQ
  have d1 : (drp st 1).length = st.length - 1 := drp_len
  unfold w_Model_rowStep
  refine itn (by decide) ?_
  unfold w_Model_rowStep_j15
  refine itp rfl ?_
  unfold w_Model_rowStep_j31
  refine itn (by decide) (ct_popT h hf (by omega) (by omega) hst (fun M1 h1 => ?_))
  rw [f0]
  by_cases c0 : (tv st 0).1 = 0
  · rw [if_pos c0] at hQ
    exact itp ((tr_ne0 hv).mpr c0) (ct_throwD (f := 2) (ru := 0) hq h1 hA (by omega) (by omega) hQ)
  rw [if_neg c0, gU_in] at hQ
  obtain ⟨n, en, et, hn, ht, p1, p2, p3⟩ := hrow c0
  obtain ⟨⟨l7, l8, l9, l0, l2, l4, l1⟩, -, -, hOb, hC⟩ := h1.uh
  refine itn (fun z => c0 ((tr_ne0 hv).mp z)) ⟨w, h1.r45, ?_⟩
  rw [et, oN_tnc (k := n) (by omega)]
  refine ⟨by rw [l9]; exact (vp_oN (by omega)).mpr (by omega), itp rfl ?_⟩
  unfold w_Model_rowStep_j165
  refine itn (by decide) (itp rfl ?_)
  rw [(hOb n ht).2.2.1]
  rw [en] at hQ
  exact ct_j230 h1 hf (by omega) hst hQ
theorem x_43 (hq : TQc W F s) (h : TM G US A S W w br nq nl nf nk B F x bb t s (.inl (c, j, a, lo, st) :: U) M) (hA : At W s t c j a lo st U i) (ho : i.1 = 43) (hQ : ∀ M', TM G US A S W w br nq nl nf nk B F x bb t (doS W t s c j a lo st U i p) (gU (doS W t s c j a lo st U i p) t) M' → Q M') : w_Model_rowStep 0 (Int32.ofNat (frs U)) (Int32.ofNat 43) Q M := by
  obtain ⟨⟨hf, -⟩, ⟨hs20, hlo⟩, hst⟩ := hA.tj
  obtain ⟨tl, tk⟩ := hA.tk (ws := [wNum, wRow]) (by obtain ⟨o, r⟩ := i; have ho : o = 43 := ho; subst ho; rfl)
  have hs : 2 ≤ st.length := by
    have := hA.in.1.2.1
    have tl : 2 ≤ (k2 W c j a).length := tl
    omega
  have f0 : (tv st 0).2 = false := (tk 0 (by simp)).2.nfl (wOne_num (tk 0 (by simp)).1)
  obtain ⟨f1, hv, hrow⟩ := row_T hA.1.1 hA.1.2.1.1.1 (tk 1 (by simp)).2 (tk 1 (by simp)).1
  have e : doS W t s c j a lo st U i p = if (tv st 1).1 = 0 then failS W t s 2 0 else if (tv st 0).1 < 0 ∨ Int32.ofNat (gOb s (tv st 1).1.toNatClampNeg).2.2.1 ≤ (tv st 0).1 then failS W t s 4 0 else sU s t (.inl (c, j, a + 1, lo, drp st 2 ++ [(gCell s ((gOb s (tv st 1).1.toNatClampNeg).2.1 + (tv st 0).1.toNatClampNeg), false)]) :: U) := (by obtain ⟨o, r⟩ := i; have ho : o = 43 := ho; subst ho; rfl)
  rw [e] at hQ
  have d1 : (drp st 1).length = st.length - 1 := drp_len
  have d2 : (drp st 2).length = st.length - 2 := drp_len
  unfold w_Model_rowStep
  refine itn (by decide) ?_
  unfold w_Model_rowStep_j15
  refine itn (by decide) (ct_popT h hf (by omega) (by omega) hst (fun M1 h1 => ?_))
  rw [f0, tr_f]
  unfold w_Model_rowStep_j31
  refine itn (by decide) (ct_popT h1 hf (by omega) (by omega) hst (fun M2 h2 => ?_))
  rw [drp_drp] at h2
  rw [tv_drp hs, f1]
  by_cases c0 : (tv st 1).1 = 0
  · rw [if_pos c0] at hQ
    exact itp ((tr_ne0 hv).mpr c0) (ct_throwD (f := 2) (ru := 0) hq h2 hA (by omega) (by omega) hQ)
  rw [if_neg c0] at hQ
  obtain ⟨n, en, et, hn, ht, p1, p2, p3⟩ := hrow c0
  obtain ⟨⟨l7, l8, l9, l0, l2, l4, l1⟩, -, -, hOb, hC⟩ := h2.uh
  have h4k : (zH s).2.1 ≤ 4000 := hA.1.2.1.1.1.2.1.1.2.2
  refine itn (fun z => c0 ((tr_ne0 hv).mp z)) ⟨w, h2.r45, ?_⟩
  rw [et, oN_tnc (k := n) (by omega), (hOb n ht).2.2.1]
  rw [en] at hQ
  refine ⟨by rw [l9]; exact (vp_oN (by omega)).mpr (by omega), itn (by decide) ?_⟩
  have bad : ((tv st 0).1 < 0 ∨ Int32.ofNat (gOb s n).2.2.1 ≤ (tv st 0).1) → w_Model_rowStep_j158 0 Q M2 := fun c1 => by
    rw [if_pos c1] at hQ
    unfold w_Model_rowStep_j158
    exact ct_throwD (f := 4) (ru := 0) hq h2 hA (by omega) (by omega) hQ
  by_cases c1 : (tv st 0).1 < 0
  · exact itp c1 (bad (Or.inl c1))
  refine itn c1 ?_
  by_cases c2 : Int32.ofNat (gOb s n).2.2.1 ≤ (tv st 0).1
  · exact itn (Int32.not_lt.mpr c2) (bad (Or.inr c2))
  refine itp (Int32.not_le.mp c2) ?_
  rw [if_neg (not_or.mpr ⟨c1, c2⟩), gU_in] at hQ
  have hix := ix_lt p2 c1 c2
  have eix := tnc_oN c1
  have esum : mI M2 158 w n + (tv st 0).1 = Int32.ofNat ((gOb s n).2.1 + (tv st 0).1.toNatClampNeg) := by
    rw [(hOb n ht).2.1]; conv => lhs; rw [← eix]
    exact oN_add _ _
  unfold w_Model_rowStep_j165
  refine itn (by decide) (itn (by decide) ⟨w, h2.r45, w, h2.r45, by rw [l8]; exact (vp_oN (by omega)).mpr (by omega), ?_⟩)
  rw [oN_tnc (k := n) (by omega), esum, oN_tnc (k := (gOb s n).2.1 + (tv st 0).1.toNatClampNeg) (by omega), hC _ (by omega), p3 _ hix]
  refine ⟨by rw [l1]; exact (vp_oN (by omega)).mpr (by omega), ?_⟩
  rw [show decide (((0, []) : Kd).1 ≠ 0) = false from rfl, tr_f]
  exact ct_j230 h2 hf (by omega) hst hQ
theorem x_44 (hq : TQc W F s) (h : TM G US A S W w br nq nl nf nk B F x bb t s (.inl (c, j, a, lo, st) :: U) M) (hA : At W s t c j a lo st U i) (ho : i.1 = 44) (hQ : ∀ M', TM G US A S W w br nq nl nf nk B F x bb t (doS W t s c j a lo st U i p) (gU (doS W t s c j a lo st U i p) t) M' → Q M') : w_Model_rowStep 0 (Int32.ofNat (frs U)) (Int32.ofNat 44) Q M := by
  obtain ⟨⟨hf, -⟩, ⟨hs20, hlo⟩, hst⟩ := hA.tj
  obtain ⟨tl, tk⟩ := hA.tk (ws := [wNum, wNum, wRow]) (by obtain ⟨o, r⟩ := i; have ho : o = 44 := ho; subst ho; rfl)
  have hs : 3 ≤ st.length := by
    have := hA.in.1.2.1
    have tl : 3 ≤ (k2 W c j a).length := tl
    omega
  have f0 : (tv st 0).2 = false := (tk 0 (by simp)).2.nfl (wOne_num (tk 0 (by simp)).1)
  have f1 : (tv st 1).2 = false := (tk 1 (by simp)).2.nfl (wOne_num (tk 1 (by simp)).1)
  obtain ⟨f2, hv, hrow⟩ := row_T hA.1.1 hA.1.2.1.1.1 (tk 2 (by simp)).2 (tk 2 (by simp)).1
  have e : doS W t s c j a lo st U i p = if (tv st 2).1 = 0 then failS W t s 2 0 else if (tv st 1).1 < 0 ∨ Int32.ofNat (gOb s (tv st 2).1.toNatClampNeg).2.2.1 ≤ (tv st 1).1 then failS W t s 4 0 else sU (wCell s ((gOb s (tv st 2).1.toNatClampNeg).2.1 + (tv st 1).1.toNatClampNeg) (tv st 0).1) t (.inl (c, j, a + 1, lo, drp st 3) :: U) := (by obtain ⟨o, r⟩ := i; have ho : o = 44 := ho; subst ho; rfl)
  rw [e] at hQ
  have d1 : (drp st 1).length = st.length - 1 := drp_len
  have d2 : (drp st 2).length = st.length - 2 := drp_len
  unfold w_Model_rowStep
  refine itp rfl (ct_popT h hf (by omega) (by omega) hst (fun M0 h0 => ?_))
  rw [f0, tr_f]
  unfold w_Model_rowStep_j15
  refine itn (by decide) (ct_popT h0 hf (by omega) (by omega) hst (fun M1 h1 => ?_))
  rw [drp_drp] at h1
  rw [tv_drp (by omega), f1, tr_f]
  unfold w_Model_rowStep_j31
  refine itn (by decide) (ct_popT h1 hf (by omega) (by omega) hst (fun M2 h2 => ?_))
  rw [show drp (drp st 2) 1 = drp st 3 from drp_p1] at h2
  rw [show tv (drp st 2) 0 = tv st 2 from tv_p1 hs, f2]
  by_cases c0 : (tv st 2).1 = 0
  · rw [if_pos c0] at hQ
    exact itp ((tr_ne0 hv).mpr c0) (ct_throwD (f := 2) (ru := 0) hq h2 hA (by omega) (by omega) hQ)
  rw [if_neg c0] at hQ
  obtain ⟨n, en, et, hn, ht, p1, p2, p3⟩ := hrow c0
  obtain ⟨⟨l7, l8, l9, l0, l2, l4, l1⟩, -, -, hOb, hC⟩ := h2.uh
  have h4k : (zH s).2.1 ≤ 4000 := hA.1.2.1.1.1.2.1.1.2.2
  refine itn (fun z => c0 ((tr_ne0 hv).mp z)) ⟨w, h2.r45, ?_⟩
  rw [et, oN_tnc (k := n) (by omega), (hOb n ht).2.2.1]
  rw [en] at hQ
  refine ⟨by rw [l9]; exact (vp_oN (by omega)).mpr (by omega), itn (by decide) ?_⟩
  have bad : ((tv st 1).1 < 0 ∨ Int32.ofNat (gOb s n).2.2.1 ≤ (tv st 1).1) → w_Model_rowStep_j158 0 Q M2 := fun c1 => by
    rw [if_pos c1] at hQ
    unfold w_Model_rowStep_j158
    exact ct_throwD (f := 4) (ru := 0) hq h2 hA (by omega) (by omega) hQ
  by_cases c1 : (tv st 1).1 < 0
  · exact itp c1 (bad (Or.inl c1))
  refine itn c1 ?_
  by_cases c2 : Int32.ofNat (gOb s n).2.2.1 ≤ (tv st 1).1
  · exact itn (Int32.not_lt.mpr c2) (bad (Or.inr c2))
  refine itp (Int32.not_le.mp c2) ?_
  rw [if_neg (not_or.mpr ⟨c1, c2⟩), gU_in] at hQ
  have hix := ix_lt p2 c1 c2
  have eix := tnc_oN c1
  have esum : mI M2 158 w n + (tv st 1).1 = Int32.ofNat ((gOb s n).2.1 + (tv st 1).1.toNatClampNeg) := by
    rw [(hOb n ht).2.1]; conv => lhs; rw [← eix]
    exact oN_add _ _
  unfold w_Model_rowStep_j165
  refine itp rfl ⟨w, h2.r45, w, h2.r45, by rw [l8]; exact (vp_oN (by omega)).mpr (by omega), ?_⟩
  rw [oN_tnc (k := n) (by omega), esum, oN_tnc (k := (gOb s n).2.1 + (tv st 1).1.toNatClampNeg) (by omega)]
  refine ⟨by rw [l1]; exact (vp_oN (by omega)).mpr (by omega), ?_⟩
  have hk : decide ((gKd s ((gOb s n).2.1 + (tv st 1).1.toNatClampNeg)).1 ≠ 0) = false := by rw [p3 _ hix]; rfl
  have h3 := h2.cell (v := (tv st 0).1) hk
  rw [tr_f] at h3
  exact ct_j234 h3 hf hst hQ
end
