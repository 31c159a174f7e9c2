/-! THE MACHINE IN THE TWIN: reckoning, jumps (printed by gen/tj.py) -/
section
variable {G : List Sl} {US : UST} {A : List Nm} {S : List Sg} {W : List Cls} {w c j a k t L q n : Nat} {br x r v : Int32} {bb : Bool} {nq nl nf nk B F op : Nat} {M M' : Mem} {s s' : Ms} {U V : List Un} {lo st lo' st' : List Vl} {o : Option Kd} {Q : Mem → Prop} {i : Ins} {p : Nat × Nat}
theorem TI1.ag (hI : TI1 A S w nl nf nk nq q n i M) (h : TM G US A S W w br nq nl nf nk B F x bb t s U M) (ag : AgU w t M M') : TI1 A S w nl nf nk nq q n i M' := hI.fr ag.1 h.1.ga h.1.1.1.2.1.2.2.2.1
theorem tr_inj {u v : Int32} (hu : vRf s u) (hv : vRf s v) : tr true u = tr true v ↔ u = v := by
  obtain ⟨m, ⟨e1, -, hm⟩, e2, -⟩ := tr_ref hu
  obtain ⟨k, ⟨f1, -, hk⟩, f2, -⟩ := tr_ref hv
  refine ⟨fun z => ?_, fun z => by rw [z]⟩
  rw [e2, f2] at z
  have hm' : (if 800 < m then m + 200 else m) < 2147483648 := by split <;> omega
  have hk' : (if 800 < k then k + 200 else k) < 2147483648 := by split <;> omega
  have z := (oN_inj hm' hk').mp z
  have : m = k := by
    by_cases c1 : 800 < m <;> by_cases c2 : 800 < k
    · rw [if_pos c1, if_pos c2] at z; omega
    · rw [if_pos c1, if_neg c2] at z; omega
    · rw [if_neg c1, if_pos c2] at z; omega
    · rw [if_neg c1, if_neg c2] at z; omega
  rw [e1, f1, this]
theorem At.n1 (hA : At W s t c j a lo st U i) (hw : wlist W c (gmt (gc W c) j) i = [wNum]) : 1 ≤ st.length ∧ (tv st 0).2 = false := by
  obtain ⟨tl, tk⟩ := hA.tk hw
  have := hA.in.1.2.1
  have tl : 1 ≤ (k2 W c j a).length := tl
  exact ⟨by omega, (tk 0 (by simp)).2.nfl (wOne_num (tk 0 (by simp)).1)⟩
theorem At.n2 (hA : At W s t c j a lo st U i) (hw : wlist W c (gmt (gc W c) j) i = [wNum, wNum]) : 2 ≤ st.length ∧ (tv st 0).2 = false ∧ (tv st 1).2 = false := by
  obtain ⟨tl, tk⟩ := hA.tk hw
  have := hA.in.1.2.1
  have tl : 2 ≤ (k2 W c j a).length := tl
  exact ⟨by omega, (tk 0 (by simp)).2.nfl (wOne_num (tk 0 (by simp)).1), (tk 1 (by simp)).2.nfl (wOne_num (tk 1 (by simp)).1)⟩
theorem At.r1 (hA : At W s t c j a lo st U i) (hw : wlist W c (gmt (gc W c) j) i = [wRef]) : 1 ≤ st.length ∧ (tv st 0).2 = true ∧ vRf s (tv st 0).1 := by
  obtain ⟨tl, tk⟩ := hA.tk hw
  have := hA.in.1.2.1
  have tl : 1 ≤ (k2 W c j a).length := tl
  have f := (tk 0 (by simp)).2.fl (Or.inl (wOne_ref (tk 0 (by simp)).1))
  exact ⟨by omega, f, (tk 0 (by simp)).2.2 f⟩
theorem At.r2 (hA : At W s t c j a lo st U i) (hw : wlist W c (gmt (gc W c) j) i = [wRef, wRef]) : 2 ≤ st.length ∧ ((tv st 0).2 = true ∧ vRf s (tv st 0).1) ∧ (tv st 1).2 = true ∧ vRf s (tv st 1).1 := by
  obtain ⟨tl, tk⟩ := hA.tk hw
  have := hA.in.1.2.1
  have tl : 2 ≤ (k2 W c j a).length := tl
  have f := (tk 0 (by simp)).2.fl (Or.inl (wOne_ref (tk 0 (by simp)).1))
  have f' := (tk 1 (by simp)).2.fl (Or.inl (wOne_ref (tk 1 (by simp)).1))
  exact ⟨by omega, ⟨f, (tk 0 (by simp)).2.2 f⟩, f', (tk 1 (by simp)).2.2 f'⟩
/-- a number comes, the next instruction -/
theorem ct_rk (h : TM G US A S W w br nq nl nf nk B F x bb t s (.inl (c, j, a, lo, st) :: U) M) (hf : frs U < 40) (hs : st.length < 24) (hst : stk U) (hQ : ∀ M', TM G US A S W w br nq nl nf nk B F x bb t (sU s t (.inl (c, j, a + 1, lo, st ++ [(v, false)]) :: U)) (.inl (c, j, a + 1, lo, st ++ [(v, false)]) :: U) M' → Q M') : w_Model_reckon_j213 0 Q (Int32.ofNat (frs U)) v M := by
  unfold w_Model_reckon_j213
  have g := ct_pushT (Q := fun M14 => w_Model_instruction_j726 0 (fun _ => Q) (Int32.ofNat (frs U)) M14) (v := v) (b := false) h hf hs hst (fun M1 h1 => ct_j726 (Q := fun _ => Q) h1 hf hst hQ)
  rw [tr_f] at g
  exact g
theorem u_8 (hq : TQc W F s) (h : TM G US A S W w br nq nl nf nk B F x bb t s (.inl (c, j, a, lo, st) :: U) M) (hA : At W s t c j a lo st U i) (hI : TI1 A S w nl nf nk nq q n i M) (ho : i.1 = 8) (hQ : ∀ M', TM G US A S W w br nq nl nf nk B F x bb t (doS W t s c j a lo st U i p) (gU (doS W t s c j a lo st U i p) t) M' → Q M') : w_Model_reckon 0 (Int32.ofNat (frs U)) (Int32.ofNat 8) Q M := by
  obtain ⟨⟨hf, -⟩, ⟨hs20, hlo⟩, hst⟩ := hA.tj
  obtain ⟨hs, f0, f1⟩ := hA.n2 (by obtain ⟨o, r⟩ := i; have ho : o = 8 := ho; subst ho; rfl)
  have e : doS W t s c j a lo st U i p = sU s t (.inl (c, j, a + 1, lo, drp st 2 ++ [(aluS 8 (tv st 1).1 (tv st 0).1, false)]) :: U) := (by obtain ⟨o, r⟩ := i; have ho : o = 8 := ho; subst ho; rfl)
  rw [e, gU_in] at hQ
  have d1 : (drp st 1).length = st.length - 1 := drp_len
  have d2 : (drp st 2).length = st.length - 2 := drp_len
  unfold w_Model_reckon
  refine ct_popT h hf (by omega) (by omega) hst (fun M1 h1 => ?_)
  rw [f0, tr_f]
  refine itn (by decide) (ct_popT h1 hf (by omega) (by omega) hst (fun M2 h2 => ?_))
  rw [drp_drp] at h2
  rw [tv_drp hs, f1, tr_f]
  refine itn (by decide) (itn (by decide) ?_)
  unfold w_Model_reckon_j64
  exact itp rfl (ct_rk h2 hf (by omega) hst hQ)
theorem u_9 (hq : TQc W F s) (h : TM G US A S W w br nq nl nf nk B F x bb t s (.inl (c, j, a, lo, st) :: U) M) (hA : At W s t c j a lo st U i) (hI : TI1 A S w nl nf nk nq q n i M) (ho : i.1 = 9) (hQ : ∀ M', TM G US A S W w br nq nl nf nk B F x bb t (doS W t s c j a lo st U i p) (gU (doS W t s c j a lo st U i p) t) M' → Q M') : w_Model_reckon 0 (Int32.ofNat (frs U)) (Int32.ofNat 9) Q M := by
  obtain ⟨⟨hf, -⟩, ⟨hs20, hlo⟩, hst⟩ := hA.tj
  obtain ⟨hs, f0, f1⟩ := hA.n2 (by obtain ⟨o, r⟩ := i; have ho : o = 9 := ho; subst ho; rfl)
  have e : doS W t s c j a lo st U i p = sU s t (.inl (c, j, a + 1, lo, drp st 2 ++ [(aluS 9 (tv st 1).1 (tv st 0).1, false)]) :: U) := (by obtain ⟨o, r⟩ := i; have ho : o = 9 := ho; subst ho; rfl)
  rw [e, gU_in] at hQ
  have d1 : (drp st 1).length = st.length - 1 := drp_len
  have d2 : (drp st 2).length = st.length - 2 := drp_len
  unfold w_Model_reckon
  refine ct_popT h hf (by omega) (by omega) hst (fun M1 h1 => ?_)
  rw [f0, tr_f]
  refine itn (by decide) (ct_popT h1 hf (by omega) (by omega) hst (fun M2 h2 => ?_))
  rw [drp_drp] at h2
  rw [tv_drp hs, f1, tr_f]
  refine itn (by decide) (itn (by decide) ?_)
  unfold w_Model_reckon_j64
  exact itn (by decide) (itp rfl (ct_rk h2 hf (by omega) hst hQ))
theorem u_10 (hq : TQc W F s) (h : TM G US A S W w br nq nl nf nk B F x bb t s (.inl (c, j, a, lo, st) :: U) M) (hA : At W s t c j a lo st U i) (hI : TI1 A S w nl nf nk nq q n i M) (ho : i.1 = 10) (hQ : ∀ M', TM G US A S W w br nq nl nf nk B F x bb t (doS W t s c j a lo st U i p) (gU (doS W t s c j a lo st U i p) t) M' → Q M') : w_Model_reckon 0 (Int32.ofNat (frs U)) (Int32.ofNat 10) Q M := by
  obtain ⟨⟨hf, -⟩, ⟨hs20, hlo⟩, hst⟩ := hA.tj
  obtain ⟨hs, f0, f1⟩ := hA.n2 (by obtain ⟨o, r⟩ := i; have ho : o = 10 := ho; subst ho; rfl)
  have e : doS W t s c j a lo st U i p = sU s t (.inl (c, j, a + 1, lo, drp st 2 ++ [(aluS 10 (tv st 1).1 (tv st 0).1, false)]) :: U) := (by obtain ⟨o, r⟩ := i; have ho : o = 10 := ho; subst ho; rfl)
  rw [e, gU_in] at hQ
  have d1 : (drp st 1).length = st.length - 1 := drp_len
  have d2 : (drp st 2).length = st.length - 2 := drp_len
  unfold w_Model_reckon
  refine ct_popT h hf (by omega) (by omega) hst (fun M1 h1 => ?_)
  rw [f0, tr_f]
  refine itn (by decide) (ct_popT h1 hf (by omega) (by omega) hst (fun M2 h2 => ?_))
  rw [drp_drp] at h2
  rw [tv_drp hs, f1, tr_f]
  refine itn (by decide) (itn (by decide) ?_)
  unfold w_Model_reckon_j64
  exact itn (by decide) (itn (by decide) (itp rfl (ct_rk h2 hf (by omega) hst hQ)))
theorem u_11 (hq : TQc W F s) (h : TM G US A S W w br nq nl nf nk B F x bb t s (.inl (c, j, a, lo, st) :: U) M) (hA : At W s t c j a lo st U i) (hI : TI1 A S w nl nf nk nq q n i M) (ho : i.1 = 11) (hQ : ∀ M', TM G US A S W w br nq nl nf nk B F x bb t (doS W t s c j a lo st U i p) (gU (doS W t s c j a lo st U i p) t) M' → Q M') : w_Model_reckon 0 (Int32.ofNat (frs U)) (Int32.ofNat 11) Q M := by
  obtain ⟨⟨hf, -⟩, ⟨hs20, hlo⟩, hst⟩ := hA.tj
  obtain ⟨hs, f0, f1⟩ := hA.n2 (by obtain ⟨o, r⟩ := i; have ho : o = 11 := ho; subst ho; rfl)
  have e : doS W t s c j a lo st U i p = if ((11 : Nat) = 11 ∨ (11 : Nat) = 12) ∧ (tv st 0).1 = 0 then failS W t s 3 0 else sU s t (.inl (c, j, a + 1, lo, drp st 2 ++ [(aluS 11 (tv st 1).1 (tv st 0).1, false)]) :: U) := (by obtain ⟨o, r⟩ := i; have ho : o = 11 := ho; subst ho; unfold doS; exact if_pos (show (8 ≤ 11 ∧ 11 ≤ 18) ∧ 11 ≠ 13 by decide))
  rw [e] at hQ
  have d1 : (drp st 1).length = st.length - 1 := drp_len
  have d2 : (drp st 2).length = st.length - 2 := drp_len
  unfold w_Model_reckon
  refine ct_popT h hf (by omega) (by omega) hst (fun M1 h1 => ?_)
  rw [f0, tr_f]
  refine itn (by decide) (ct_popT h1 hf (by omega) (by omega) hst (fun M2 h2 => ?_))
  rw [drp_drp] at h2
  rw [tv_drp hs, f1, tr_f]
  refine itp rfl ?_
  unfold w_Model_reckon_j53
  by_cases z : (tv st 0).1 = 0
  · rw [if_pos ⟨Or.inl rfl, z⟩] at hQ
    exact itp z (ct_throwD (f := 3) (ru := 0) hq h2 hA (by omega) (by omega) hQ)
  · rw [if_neg (fun y => z y.2), gU_in] at hQ
    refine itn z ?_
    unfold w_Model_reckon_j64
    exact itn (by decide) (itn (by decide) (itn (by decide) (itp rfl ⟨z, ct_rk h2 hf (by omega) hst hQ⟩)))
theorem u_12 (hq : TQc W F s) (h : TM G US A S W w br nq nl nf nk B F x bb t s (.inl (c, j, a, lo, st) :: U) M) (hA : At W s t c j a lo st U i) (hI : TI1 A S w nl nf nk nq q n i M) (ho : i.1 = 12) (hQ : ∀ M', TM G US A S W w br nq nl nf nk B F x bb t (doS W t s c j a lo st U i p) (gU (doS W t s c j a lo st U i p) t) M' → Q M') : w_Model_reckon 0 (Int32.ofNat (frs U)) (Int32.ofNat 12) Q M := by
  obtain ⟨⟨hf, -⟩, ⟨hs20, hlo⟩, hst⟩ := hA.tj
  obtain ⟨hs, f0, f1⟩ := hA.n2 (by obtain ⟨o, r⟩ := i; have ho : o = 12 := ho; subst ho; rfl)
  have e : doS W t s c j a lo st U i p = if ((12 : Nat) = 11 ∨ (12 : Nat) = 12) ∧ (tv st 0).1 = 0 then failS W t s 3 0 else sU s t (.inl (c, j, a + 1, lo, drp st 2 ++ [(aluS 12 (tv st 1).1 (tv st 0).1, false)]) :: U) := (by obtain ⟨o, r⟩ := i; have ho : o = 12 := ho; subst ho; unfold doS; exact if_pos (show (8 ≤ 12 ∧ 12 ≤ 18) ∧ 12 ≠ 13 by decide))
  rw [e] at hQ
  have d1 : (drp st 1).length = st.length - 1 := drp_len
  have d2 : (drp st 2).length = st.length - 2 := drp_len
  unfold w_Model_reckon
  refine ct_popT h hf (by omega) (by omega) hst (fun M1 h1 => ?_)
  rw [f0, tr_f]
  refine itn (by decide) (ct_popT h1 hf (by omega) (by omega) hst (fun M2 h2 => ?_))
  rw [drp_drp] at h2
  rw [tv_drp hs, f1, tr_f]
  refine itn (by decide) (itp rfl ?_)
  unfold w_Model_reckon_j53
  by_cases z : (tv st 0).1 = 0
  · rw [if_pos ⟨Or.inr rfl, z⟩] at hQ
    exact itp z (ct_throwD (f := 3) (ru := 0) hq h2 hA (by omega) (by omega) hQ)
  · rw [if_neg (fun y => z y.2), gU_in] at hQ
    refine itn z ?_
    unfold w_Model_reckon_j64
    exact itn (by decide) (itn (by decide) (itn (by decide) (itn (by decide) (itp rfl ⟨z, ct_rk h2 hf (by omega) hst hQ⟩))))
theorem u_13 (hq : TQc W F s) (h : TM G US A S W w br nq nl nf nk B F x bb t s (.inl (c, j, a, lo, st) :: U) M) (hA : At W s t c j a lo st U i) (hI : TI1 A S w nl nf nk nq q n i M) (ho : i.1 = 13) (hQ : ∀ M', TM G US A S W w br nq nl nf nk B F x bb t (doS W t s c j a lo st U i p) (gU (doS W t s c j a lo st U i p) t) M' → Q M') : w_Model_reckon 0 (Int32.ofNat (frs U)) (Int32.ofNat 13) Q M := by
  obtain ⟨⟨hf, -⟩, ⟨hs20, hlo⟩, hst⟩ := hA.tj
  obtain ⟨hs, f0⟩ := hA.n1 (by obtain ⟨o, r⟩ := i; have ho : o = 13 := ho; subst ho; rfl)
  have e : doS W t s c j a lo st U i p = sU s t (.inl (c, j, a + 1, lo, drp st 1 ++ [(-(tv st 0).1, false)]) :: U) := (by obtain ⟨o, r⟩ := i; have ho : o = 13 := ho; subst ho; rfl)
  rw [e, gU_in] at hQ
  have d1 : (drp st 1).length = st.length - 1 := drp_len
  have d2 : (drp st 2).length = st.length - 2 := drp_len
  unfold w_Model_reckon
  refine ct_popT h hf (by omega) (by omega) hst (fun M1 h1 => ?_)
  rw [f0, tr_f]
  refine itp rfl ?_
  have g := ct_rk (v := -(tv st 0).1) h1 hf (by omega) hst hQ
  unfold w_Model_reckon_j213 at g
  exact g
theorem u_14 (hq : TQc W F s) (h : TM G US A S W w br nq nl nf nk B F x bb t s (.inl (c, j, a, lo, st) :: U) M) (hA : At W s t c j a lo st U i) (hI : TI1 A S w nl nf nk nq q n i M) (ho : i.1 = 14) (hQ : ∀ M', TM G US A S W w br nq nl nf nk B F x bb t (doS W t s c j a lo st U i p) (gU (doS W t s c j a lo st U i p) t) M' → Q M') : w_Model_reckon 0 (Int32.ofNat (frs U)) (Int32.ofNat 14) Q M := by
  obtain ⟨⟨hf, -⟩, ⟨hs20, hlo⟩, hst⟩ := hA.tj
  obtain ⟨hs, f0, f1⟩ := hA.n2 (by obtain ⟨o, r⟩ := i; have ho : o = 14 := ho; subst ho; rfl)
  have e : doS W t s c j a lo st U i p = sU s t (.inl (c, j, a + 1, lo, drp st 2 ++ [(aluS 14 (tv st 1).1 (tv st 0).1, false)]) :: U) := (by obtain ⟨o, r⟩ := i; have ho : o = 14 := ho; subst ho; rfl)
  rw [e, gU_in] at hQ
  have d1 : (drp st 1).length = st.length - 1 := drp_len
  have d2 : (drp st 2).length = st.length - 2 := drp_len
  unfold w_Model_reckon
  refine ct_popT h hf (by omega) (by omega) hst (fun M1 h1 => ?_)
  rw [f0, tr_f]
  refine itn (by decide) (ct_popT h1 hf (by omega) (by omega) hst (fun M2 h2 => ?_))
  rw [drp_drp] at h2
  rw [tv_drp hs, f1, tr_f]
  refine itn (by decide) (itn (by decide) ?_)
  unfold w_Model_reckon_j64
  exact itn (by decide) (itn (by decide) (itn (by decide) (itn (by decide) (itn (by decide) (itn (by decide) (itp rfl (ct_rk h2 hf (by omega) hst hQ)))))))
theorem u_15 (hq : TQc W F s) (h : TM G US A S W w br nq nl nf nk B F x bb t s (.inl (c, j, a, lo, st) :: U) M) (hA : At W s t c j a lo st U i) (hI : TI1 A S w nl nf nk nq q n i M) (ho : i.1 = 15) (hQ : ∀ M', TM G US A S W w br nq nl nf nk B F x bb t (doS W t s c j a lo st U i p) (gU (doS W t s c j a lo st U i p) t) M' → Q M') : w_Model_reckon 0 (Int32.ofNat (frs U)) (Int32.ofNat 15) Q M := by
  obtain ⟨⟨hf, -⟩, ⟨hs20, hlo⟩, hst⟩ := hA.tj
  obtain ⟨hs, f0, f1⟩ := hA.n2 (by obtain ⟨o, r⟩ := i; have ho : o = 15 := ho; subst ho; rfl)
  have e : doS W t s c j a lo st U i p = sU s t (.inl (c, j, a + 1, lo, drp st 2 ++ [(aluS 15 (tv st 1).1 (tv st 0).1, false)]) :: U) := (by obtain ⟨o, r⟩ := i; have ho : o = 15 := ho; subst ho; rfl)
  rw [e, gU_in] at hQ
  have d1 : (drp st 1).length = st.length - 1 := drp_len
  have d2 : (drp st 2).length = st.length - 2 := drp_len
  unfold w_Model_reckon
  refine ct_popT h hf (by omega) (by omega) hst (fun M1 h1 => ?_)
  rw [f0, tr_f]
  refine itn (by decide) (ct_popT h1 hf (by omega) (by omega) hst (fun M2 h2 => ?_))
  rw [drp_drp] at h2
  rw [tv_drp hs, f1, tr_f]
  refine itn (by decide) (itn (by decide) ?_)
  unfold w_Model_reckon_j64
  exact itn (by decide) (itn (by decide) (itn (by decide) (itn (by decide) (itn (by decide) (itn (by decide) (itn (by decide) (itp rfl (ct_rk h2 hf (by omega) hst hQ))))))))
theorem u_16 (hq : TQc W F s) (h : TM G US A S W w br nq nl nf nk B F x bb t s (.inl (c, j, a, lo, st) :: U) M) (hA : At W s t c j a lo st U i) (hI : TI1 A S w nl nf nk nq q n i M) (ho : i.1 = 16) (hQ : ∀ M', TM G US A S W w br nq nl nf nk B F x bb t (doS W t s c j a lo st U i p) (gU (doS W t s c j a lo st U i p) t) M' → Q M') : w_Model_reckon 0 (Int32.ofNat (frs U)) (Int32.ofNat 16) Q M := by
  obtain ⟨⟨hf, -⟩, ⟨hs20, hlo⟩, hst⟩ := hA.tj
  obtain ⟨hs, f0, f1⟩ := hA.n2 (by obtain ⟨o, r⟩ := i; have ho : o = 16 := ho; subst ho; rfl)
  have e : doS W t s c j a lo st U i p = sU s t (.inl (c, j, a + 1, lo, drp st 2 ++ [(aluS 16 (tv st 1).1 (tv st 0).1, false)]) :: U) := (by obtain ⟨o, r⟩ := i; have ho : o = 16 := ho; subst ho; rfl)
  rw [e, gU_in] at hQ
  have d1 : (drp st 1).length = st.length - 1 := drp_len
  have d2 : (drp st 2).length = st.length - 2 := drp_len
  unfold w_Model_reckon
  refine ct_popT h hf (by omega) (by omega) hst (fun M1 h1 => ?_)
  rw [f0, tr_f]
  refine itn (by decide) (ct_popT h1 hf (by omega) (by omega) hst (fun M2 h2 => ?_))
  rw [drp_drp] at h2
  rw [tv_drp hs, f1, tr_f]
  refine itn (by decide) (itn (by decide) ?_)
  unfold w_Model_reckon_j64
  exact itn (by decide) (itn (by decide) (itn (by decide) (itn (by decide) (itn (by decide) (itn (by decide) (itn (by decide) (itn (by decide) (itp rfl (ct_rk h2 hf (by omega) hst hQ)))))))))
theorem u_17 (hq : TQc W F s) (h : TM G US A S W w br nq nl nf nk B F x bb t s (.inl (c, j, a, lo, st) :: U) M) (hA : At W s t c j a lo st U i) (hI : TI1 A S w nl nf nk nq q n i M) (ho : i.1 = 17) (hQ : ∀ M', TM G US A S W w br nq nl nf nk B F x bb t (doS W t s c j a lo st U i p) (gU (doS W t s c j a lo st U i p) t) M' → Q M') : w_Model_reckon 0 (Int32.ofNat (frs U)) (Int32.ofNat 17) Q M := by
  obtain ⟨⟨hf, -⟩, ⟨hs20, hlo⟩, hst⟩ := hA.tj
  obtain ⟨hs, f0, f1⟩ := hA.n2 (by obtain ⟨o, r⟩ := i; have ho : o = 17 := ho; subst ho; rfl)
  have e : doS W t s c j a lo st U i p = sU s t (.inl (c, j, a + 1, lo, drp st 2 ++ [(aluS 17 (tv st 1).1 (tv st 0).1, false)]) :: U) := (by obtain ⟨o, r⟩ := i; have ho : o = 17 := ho; subst ho; rfl)
  rw [e, gU_in] at hQ
  have d1 : (drp st 1).length = st.length - 1 := drp_len
  have d2 : (drp st 2).length = st.length - 2 := drp_len
  unfold w_Model_reckon
  refine ct_popT h hf (by omega) (by omega) hst (fun M1 h1 => ?_)
  rw [f0, tr_f]
  refine itn (by decide) (ct_popT h1 hf (by omega) (by omega) hst (fun M2 h2 => ?_))
  rw [drp_drp] at h2
  rw [tv_drp hs, f1, tr_f]
  refine itn (by decide) (itn (by decide) ?_)
  unfold w_Model_reckon_j64
  exact itn (by decide) (itn (by decide) (itn (by decide) (itn (by decide) (itn (by decide) (itn (by decide) (itn (by decide) (itn (by decide) (itn (by decide) (itp rfl (ct_rk h2 hf (by omega) hst hQ))))))))))
theorem u_18 (hq : TQc W F s) (h : TM G US A S W w br nq nl nf nk B F x bb t s (.inl (c, j, a, lo, st) :: U) M) (hA : At W s t c j a lo st U i) (hI : TI1 A S w nl nf nk nq q n i M) (ho : i.1 = 18) (hQ : ∀ M', TM G US A S W w br nq nl nf nk B F x bb t (doS W t s c j a lo st U i p) (gU (doS W t s c j a lo st U i p) t) M' → Q M') : w_Model_reckon 0 (Int32.ofNat (frs U)) (Int32.ofNat 18) Q M := by
  obtain ⟨⟨hf, -⟩, ⟨hs20, hlo⟩, hst⟩ := hA.tj
  obtain ⟨hs, f0, f1⟩ := hA.n2 (by obtain ⟨o, r⟩ := i; have ho : o = 18 := ho; subst ho; rfl)
  have e : doS W t s c j a lo st U i p = sU s t (.inl (c, j, a + 1, lo, drp st 2 ++ [(aluS 18 (tv st 1).1 (tv st 0).1, false)]) :: U) := (by obtain ⟨o, r⟩ := i; have ho : o = 18 := ho; subst ho; rfl)
  rw [e, gU_in] at hQ
  have d1 : (drp st 1).length = st.length - 1 := drp_len
  have d2 : (drp st 2).length = st.length - 2 := drp_len
  unfold w_Model_reckon
  refine ct_popT h hf (by omega) (by omega) hst (fun M1 h1 => ?_)
  rw [f0, tr_f]
  refine itn (by decide) (ct_popT h1 hf (by omega) (by omega) hst (fun M2 h2 => ?_))
  rw [drp_drp] at h2
  rw [tv_drp hs, f1, tr_f]
  refine itn (by decide) (itn (by decide) ?_)
  unfold w_Model_reckon_j64
  exact itn (by decide) (itn (by decide) (itn (by decide) (itn (by decide) (itn (by decide) (itn (by decide) (itn (by decide) (itn (by decide) (itn (by decide) (itn (by decide) (ct_rk h2 hf (by omega) hst hQ))))))))))
theorem TI1.jl (hI : TI1 A S w nl nf nk nq q n i M) (h1 : isJ i.1) : mI M 300 (rdI M (sAs w)) q = Int32.ofNat (gtn (iT i) 0) := by
  obtain ⟨⟨-, ⟨t1, -⟩, -, h2, -⟩, -⟩ := hI
  rw [if_pos h1] at t1
  have h2 : (iT i).length = 1 := h2 h1
  refine t1.trans ?_
  show ((iT i).map Int32.ofNat).headD 0 = Int32.ofNat ((iT i).getD 0 0)
  cases e : iT i with
  | nil => rw [e] at h2; cases h2
  | cons y l => rfl
/-- a jump, or the next instruction -/
theorem ct_gj {b : Bool} (h : TM G US A S W w br nq nl nf nk B F x bb t s (.inl (c, j, a, lo, st) :: U) M) (hI : TI1 A S w nl nf nk nq q n i M) (hJ : isJ i.1) (hf : frs U < 40) (hst : stk U) (hQ : ∀ M', TM G US A S W w br nq nl nf nk B F x bb t (sU s t (.inl (c, j, if b = true then gtn (iT i) 0 else a + 1, lo, st) :: U)) (.inl (c, j, if b = true then gtn (iT i) 0 else a + 1, lo, st) :: U) M' → Q M') : w_Model_goStep_j409 0 Q (Int32.ofNat (frs U)) (Int32.ofNat q) (b2 b) M := by
  obtain ⟨l0, l1, l2, l3, l4, -⟩ := h.lens
  obtain ⟨⟨a1, a2⟩, -, -, hq39⟩ := hI.rw' h.1.1.1
  have e174 : mI M 174 (3 * w + t) (frs U) = Int32.ofNat a := h.2.2.1.2.2.1.2.2.1
  have v174 : vp_in (Int32.ofNat (frs U)) (mL M 174 (3 * w + t)) := by rw [l4]; exact (vp_oN (by omega)).mpr hf
  unfold w_Model_goStep_j409 w_Model_goStep_j445
  cases b with
  | false =>
    rw [if_neg (by decide)] at hQ
    refine ⟨3 * w + t, h.r46, itp rfl ⟨3 * w + t, h.r46, v174, v174, ?_⟩⟩
    rw [oN_tnc (k := frs U) (by omega), e174, show Int32.ofNat a + (1 : Int32) = Int32.ofNat (a + 1) from oN_add a 1]
    exact hQ _ (h.nxt hst).su
  | true =>
    rw [if_pos rfl] at hQ
    refine ⟨3 * w + t, h.r46, itn (by decide) ⟨w, h.r45, _, a1, (vp_oN (by omega)).mpr a2, v174, ?_⟩⟩
    rw [oN_tnc (k := frs U) (by omega), oN_tnc (k := q) (by omega), hI.jl hJ]
    exact hQ _ (h.nxt hst).su
theorem y_24 {y z v1 v2 : Int32} (hQ : w_Model_goStep_j409 0 Q v1 v2 (b2 (cmpS 24 y 0)) M) : w_Model_goStep_j139 0 Q v1 v2 (Int32.ofNat 24) y z M := by
  have e : cmpS 24 y 0 = decide (y = 0) := rfl
  rw [e] at hQ
  unfold w_Model_goStep_j139 w_Model_goStep_j230
  by_cases c0 : y = 0
  · rw [decide_eq_true c0] at hQ; exact itp rfl (itp c0 hQ)
  · rw [decide_eq_false c0] at hQ; exact itp rfl (itn c0 hQ)
theorem y_25 {y z v1 v2 : Int32} (hQ : w_Model_goStep_j409 0 Q v1 v2 (b2 (cmpS 25 y 0)) M) : w_Model_goStep_j139 0 Q v1 v2 (Int32.ofNat 25) y z M := by
  have e : cmpS 25 y 0 = decide (y ≠ 0) := rfl
  rw [e] at hQ
  unfold w_Model_goStep_j139 w_Model_goStep_j245
  by_cases c0 : y = 0
  · rw [decide_eq_false (fun u => u c0)] at hQ; exact itn (by decide) (itp rfl (itp c0 hQ))
  · rw [decide_eq_true c0] at hQ; exact itn (by decide) (itp rfl (itn c0 hQ))
theorem y_26 {y z v1 v2 : Int32} (hQ : w_Model_goStep_j409 0 Q v1 v2 (b2 (cmpS 26 y 0)) M) : w_Model_goStep_j139 0 Q v1 v2 (Int32.ofNat 26) y z M := by
  have e : cmpS 26 y 0 = decide (y < 0) := rfl
  rw [e] at hQ
  unfold w_Model_goStep_j139 w_Model_goStep_j260
  by_cases c0 : 0 ≤ y
  · rw [decide_eq_false (fun u => Int32.not_le.mpr u c0)] at hQ; exact itn (by decide) (itn (by decide) (itp rfl (itp c0 hQ)))
  · rw [decide_eq_true (Int32.not_le.mp c0)] at hQ; exact itn (by decide) (itn (by decide) (itp rfl (itn c0 hQ)))
theorem y_27 {y z v1 v2 : Int32} (hQ : w_Model_goStep_j409 0 Q v1 v2 (b2 (cmpS 27 y 0)) M) : w_Model_goStep_j139 0 Q v1 v2 (Int32.ofNat 27) y z M := by
  have e : cmpS 27 y 0 = decide (0 ≤ y) := rfl
  rw [e] at hQ
  unfold w_Model_goStep_j139 w_Model_goStep_j275
  by_cases c0 : y < 0
  · rw [decide_eq_false (fun u => Int32.not_lt.mpr u c0)] at hQ; exact itn (by decide) (itn (by decide) (itn (by decide) (itp rfl (itp c0 hQ))))
  · rw [decide_eq_true (Int32.not_lt.mp c0)] at hQ; exact itn (by decide) (itn (by decide) (itn (by decide) (itp rfl (itn c0 hQ))))
theorem y_28 {y z v1 v2 : Int32} (hQ : w_Model_goStep_j409 0 Q v1 v2 (b2 (cmpS 28 y 0)) M) : w_Model_goStep_j139 0 Q v1 v2 (Int32.ofNat 28) y z M := by
  have e : cmpS 28 y 0 = decide (0 < y) := rfl
  rw [e] at hQ
  unfold w_Model_goStep_j139 w_Model_goStep_j290
  by_cases c0 : y ≤ 0
  · rw [decide_eq_false (fun u => Int32.not_le.mpr u c0)] at hQ; exact itn (by decide) (itn (by decide) (itn (by decide) (itn (by decide) (itp rfl (itp c0 hQ)))))
  · rw [decide_eq_true (Int32.not_le.mp c0)] at hQ; exact itn (by decide) (itn (by decide) (itn (by decide) (itn (by decide) (itp rfl (itn c0 hQ)))))
theorem y_29 {y z v1 v2 : Int32} (hQ : w_Model_goStep_j409 0 Q v1 v2 (b2 (cmpS 29 y 0)) M) : w_Model_goStep_j139 0 Q v1 v2 (Int32.ofNat 29) y z M := by
  have e : cmpS 29 y 0 = decide (y ≤ 0) := rfl
  rw [e] at hQ
  unfold w_Model_goStep_j139 w_Model_goStep_j305
  by_cases c0 : 0 < y
  · rw [decide_eq_false (fun u => Int32.not_lt.mpr u c0)] at hQ; exact itn (by decide) (itn (by decide) (itn (by decide) (itn (by decide) (itn (by decide) (itp rfl (itp c0 hQ))))))
  · rw [decide_eq_true (Int32.not_lt.mp c0)] at hQ; exact itn (by decide) (itn (by decide) (itn (by decide) (itn (by decide) (itn (by decide) (itp rfl (itn c0 hQ))))))
theorem y_30 {y z v1 v2 : Int32} (hQ : w_Model_goStep_j409 0 Q v1 v2 (b2 (cmpS 30 z y)) M) : w_Model_goStep_j139 0 Q v1 v2 (Int32.ofNat 30) y z M := by
  have e : cmpS 30 z y = decide (z = y) := rfl
  rw [e] at hQ
  unfold w_Model_goStep_j139 w_Model_goStep_j322
  by_cases c0 : z = y
  · rw [decide_eq_true c0] at hQ; exact itn (by decide) (itn (by decide) (itn (by decide) (itn (by decide) (itn (by decide) (itn (by decide) (itp rfl (itp c0 hQ)))))))
  · rw [decide_eq_false c0] at hQ; exact itn (by decide) (itn (by decide) (itn (by decide) (itn (by decide) (itn (by decide) (itn (by decide) (itp rfl (itn c0 hQ)))))))
theorem y_31 {y z v1 v2 : Int32} (hQ : w_Model_goStep_j409 0 Q v1 v2 (b2 (cmpS 31 z y)) M) : w_Model_goStep_j139 0 Q v1 v2 (Int32.ofNat 31) y z M := by
  have e : cmpS 31 z y = decide (z ≠ y) := rfl
  rw [e] at hQ
  unfold w_Model_goStep_j139 w_Model_goStep_j339
  by_cases c0 : z = y
  · rw [decide_eq_false (fun u => u c0)] at hQ; exact itn (by decide) (itn (by decide) (itn (by decide) (itn (by decide) (itn (by decide) (itn (by decide) (itn (by decide) (itp rfl (itp c0 hQ))))))))
  · rw [decide_eq_true c0] at hQ; exact itn (by decide) (itn (by decide) (itn (by decide) (itn (by decide) (itn (by decide) (itn (by decide) (itn (by decide) (itp rfl (itn c0 hQ))))))))
theorem y_32 {y z v1 v2 : Int32} (hQ : w_Model_goStep_j409 0 Q v1 v2 (b2 (cmpS 32 z y)) M) : w_Model_goStep_j139 0 Q v1 v2 (Int32.ofNat 32) y z M := by
  have e : cmpS 32 z y = decide (z < y) := rfl
  rw [e] at hQ
  unfold w_Model_goStep_j139 w_Model_goStep_j356
  by_cases c0 : y ≤ z
  · rw [decide_eq_false (fun u => Int32.not_le.mpr u c0)] at hQ; exact itn (by decide) (itn (by decide) (itn (by decide) (itn (by decide) (itn (by decide) (itn (by decide) (itn (by decide) (itn (by decide) (itp rfl (itp c0 hQ)))))))))
  · rw [decide_eq_true (Int32.not_le.mp c0)] at hQ; exact itn (by decide) (itn (by decide) (itn (by decide) (itn (by decide) (itn (by decide) (itn (by decide) (itn (by decide) (itn (by decide) (itp rfl (itn c0 hQ)))))))))
theorem y_33 {y z v1 v2 : Int32} (hQ : w_Model_goStep_j409 0 Q v1 v2 (b2 (cmpS 33 z y)) M) : w_Model_goStep_j139 0 Q v1 v2 (Int32.ofNat 33) y z M := by
  have e : cmpS 33 z y = decide (y ≤ z) := rfl
  rw [e] at hQ
  unfold w_Model_goStep_j139 w_Model_goStep_j373
  by_cases c0 : z < y
  · rw [decide_eq_false (fun u => Int32.not_lt.mpr u c0)] at hQ; exact itn (by decide) (itn (by decide) (itn (by decide) (itn (by decide) (itn (by decide) (itn (by decide) (itn (by decide) (itn (by decide) (itn (by decide) (itp rfl (itp c0 hQ))))))))))
  · rw [decide_eq_true (Int32.not_lt.mp c0)] at hQ; exact itn (by decide) (itn (by decide) (itn (by decide) (itn (by decide) (itn (by decide) (itn (by decide) (itn (by decide) (itn (by decide) (itn (by decide) (itp rfl (itn c0 hQ))))))))))
theorem y_34 {y z v1 v2 : Int32} (hQ : w_Model_goStep_j409 0 Q v1 v2 (b2 (cmpS 34 z y)) M) : w_Model_goStep_j139 0 Q v1 v2 (Int32.ofNat 34) y z M := by
  have e : cmpS 34 z y = decide (y < z) := rfl
  rw [e] at hQ
  unfold w_Model_goStep_j139 w_Model_goStep_j390
  by_cases c0 : z ≤ y
  · rw [decide_eq_false (fun u => Int32.not_le.mpr u c0)] at hQ; exact itn (by decide) (itn (by decide) (itn (by decide) (itn (by decide) (itn (by decide) (itn (by decide) (itn (by decide) (itn (by decide) (itn (by decide) (itn (by decide) (itp rfl (itp c0 hQ)))))))))))
  · rw [decide_eq_true (Int32.not_le.mp c0)] at hQ; exact itn (by decide) (itn (by decide) (itn (by decide) (itn (by decide) (itn (by decide) (itn (by decide) (itn (by decide) (itn (by decide) (itn (by decide) (itn (by decide) (itp rfl (itn c0 hQ)))))))))))
theorem y_35 {y z v1 v2 : Int32} (hQ : w_Model_goStep_j409 0 Q v1 v2 (b2 (cmpS 35 z y)) M) : w_Model_goStep_j139 0 Q v1 v2 (Int32.ofNat 35) y z M := by
  have e : cmpS 35 z y = decide (z ≤ y) := rfl
  rw [e] at hQ
  unfold w_Model_goStep_j139 w_Model_goStep_j407
  by_cases c0 : y < z
  · rw [decide_eq_false (fun u => Int32.not_lt.mpr u c0)] at hQ; exact itn (by decide) (itn (by decide) (itn (by decide) (itn (by decide) (itn (by decide) (itn (by decide) (itn (by decide) (itn (by decide) (itn (by decide) (itn (by decide) (itn (by decide) (itp rfl (itp c0 hQ))))))))))))
  · rw [decide_eq_true (Int32.not_lt.mp c0)] at hQ; exact itn (by decide) (itn (by decide) (itn (by decide) (itn (by decide) (itn (by decide) (itn (by decide) (itn (by decide) (itn (by decide) (itn (by decide) (itn (by decide) (itn (by decide) (itp rfl (itn c0 hQ))))))))))))
theorem y_36 {y z v1 v2 : Int32} (hQ : w_Model_goStep_j409 0 Q v1 v2 (b2 (cmpS 36 y 0)) M) : w_Model_goStep_j139 0 Q v1 v2 (Int32.ofNat 36) y z M := by
  have e : cmpS 36 y 0 = decide (y = 0) := rfl
  rw [e] at hQ
  unfold w_Model_goStep_j139 w_Model_goStep_j230
  by_cases c0 : y = 0
  · rw [decide_eq_true c0] at hQ; exact itn (by decide) (itn (by decide) (itn (by decide) (itn (by decide) (itn (by decide) (itn (by decide) (itn (by decide) (itn (by decide) (itn (by decide) (itn (by decide) (itn (by decide) (itn (by decide) (itp rfl (itp c0 hQ)))))))))))))
  · rw [decide_eq_false c0] at hQ; exact itn (by decide) (itn (by decide) (itn (by decide) (itn (by decide) (itn (by decide) (itn (by decide) (itn (by decide) (itn (by decide) (itn (by decide) (itn (by decide) (itn (by decide) (itn (by decide) (itp rfl (itn c0 hQ)))))))))))))
theorem y_37 {y z v1 v2 : Int32} (hQ : w_Model_goStep_j409 0 Q v1 v2 (b2 (cmpS 37 y 0)) M) : w_Model_goStep_j139 0 Q v1 v2 (Int32.ofNat 37) y z M := by
  have e : cmpS 37 y 0 = decide (y ≠ 0) := rfl
  rw [e] at hQ
  unfold w_Model_goStep_j139 w_Model_goStep_j245
  by_cases c0 : y = 0
  · rw [decide_eq_false (fun u => u c0)] at hQ; exact itn (by decide) (itn (by decide) (itn (by decide) (itn (by decide) (itn (by decide) (itn (by decide) (itn (by decide) (itn (by decide) (itn (by decide) (itn (by decide) (itn (by decide) (itn (by decide) (itn (by decide) (itp rfl (itp c0 hQ))))))))))))))
  · rw [decide_eq_true c0] at hQ; exact itn (by decide) (itn (by decide) (itn (by decide) (itn (by decide) (itn (by decide) (itn (by decide) (itn (by decide) (itn (by decide) (itn (by decide) (itn (by decide) (itn (by decide) (itn (by decide) (itn (by decide) (itp rfl (itn c0 hQ))))))))))))))
theorem y_38 {y z v1 v2 : Int32} (hQ : w_Model_goStep_j409 0 Q v1 v2 (b2 (cmpS 38 z y)) M) : w_Model_goStep_j139 0 Q v1 v2 (Int32.ofNat 38) y z M := by
  have e : cmpS 38 z y = decide (z = y) := rfl
  rw [e] at hQ
  unfold w_Model_goStep_j139 w_Model_goStep_j322
  by_cases c0 : z = y
  · rw [decide_eq_true c0] at hQ; exact itn (by decide) (itn (by decide) (itn (by decide) (itn (by decide) (itn (by decide) (itn (by decide) (itn (by decide) (itn (by decide) (itn (by decide) (itn (by decide) (itn (by decide) (itn (by decide) (itn (by decide) (itn (by decide) (itp rfl (itp c0 hQ)))))))))))))))
  · rw [decide_eq_false c0] at hQ; exact itn (by decide) (itn (by decide) (itn (by decide) (itn (by decide) (itn (by decide) (itn (by decide) (itn (by decide) (itn (by decide) (itn (by decide) (itn (by decide) (itn (by decide) (itn (by decide) (itn (by decide) (itn (by decide) (itp rfl (itn c0 hQ)))))))))))))))
theorem y_39 {y z v1 v2 : Int32} (hQ : w_Model_goStep_j409 0 Q v1 v2 (b2 (cmpS 39 z y)) M) : w_Model_goStep_j139 0 Q v1 v2 (Int32.ofNat 39) y z M := by
  have e : cmpS 39 z y = decide (z ≠ y) := rfl
  rw [e] at hQ
  unfold w_Model_goStep_j139 w_Model_goStep_j339
  by_cases c0 : z = y
  · rw [decide_eq_false (fun u => u c0)] at hQ; exact itn (by decide) (itn (by decide) (itn (by decide) (itn (by decide) (itn (by decide) (itn (by decide) (itn (by decide) (itn (by decide) (itn (by decide) (itn (by decide) (itn (by decide) (itn (by decide) (itn (by decide) (itn (by decide) (itn (by decide) (itp rfl (itp c0 hQ))))))))))))))))
  · rw [decide_eq_true c0] at hQ; exact itn (by decide) (itn (by decide) (itn (by decide) (itn (by decide) (itn (by decide) (itn (by decide) (itn (by decide) (itn (by decide) (itn (by decide) (itn (by decide) (itn (by decide) (itn (by decide) (itn (by decide) (itn (by decide) (itn (by decide) (itp rfl (itn c0 hQ))))))))))))))))
theorem v_23 (hq : TQc W F s) (h : TM G US A S W w br nq nl nf nk B F x bb t s (.inl (c, j, a, lo, st) :: U) M) (hA : At W s t c j a lo st U i) (hI : TI1 A S w nl nf nk nq q n i M) (ho : i.1 = 23) (hQ : ∀ M', TM G US A S W w br nq nl nf nk B F x bb t (doS W t s c j a lo st U i p) (gU (doS W t s c j a lo st U i p) t) M' → Q M') : w_Model_goStep 0 (Int32.ofNat (frs U)) (Int32.ofNat q) (Int32.ofNat 23) Q M := by
  obtain ⟨⟨hf, -⟩, -, hst⟩ := hA.tj
  have e : doS W t s c j a lo st U i p = sU s t (.inl (c, j, gtn (iT i) 0, lo, st) :: U) := (by obtain ⟨o, r⟩ := i; have ho : o = 23 := ho; subst ho; rfl)
  rw [e, gU_in] at hQ
  unfold w_Model_goStep
  exact itn (by decide) (itp rfl (ct_gj (b := true) h hI (by rw [ho]; decide) hf hst (by rw [if_pos rfl]; exact hQ)))
theorem v_24 (hq : TQc W F s) (h : TM G US A S W w br nq nl nf nk B F x bb t s (.inl (c, j, a, lo, st) :: U) M) (hA : At W s t c j a lo st U i) (hI : TI1 A S w nl nf nk nq q n i M) (ho : i.1 = 24) (hQ : ∀ M', TM G US A S W w br nq nl nf nk B F x bb t (doS W t s c j a lo st U i p) (gU (doS W t s c j a lo st U i p) t) M' → Q M') : w_Model_goStep 0 (Int32.ofNat (frs U)) (Int32.ofNat q) (Int32.ofNat 24) Q M := by
  obtain ⟨⟨hf, -⟩, ⟨hs20, hlo⟩, hst⟩ := hA.tj
  obtain ⟨hs, f0⟩ := hA.n1 (by obtain ⟨o, r⟩ := i; have ho : o = 24 := ho; subst ho; rfl)
  have e : doS W t s c j a lo st U i p = sU s t (.inl (c, j, if cmpS 24 (tv st 0).1 0 then gtn (iT i) 0 else a + 1, lo, drp st 1) :: U) := (by obtain ⟨o, r⟩ := i; have ho : o = 24 := ho; subst ho; rfl)
  rw [e, gU_in] at hQ
  have d1 : (drp st 1).length = st.length - 1 := drp_len
  unfold w_Model_goStep
  refine itn (by decide) (itn (by decide) (ct_popA h hf (by omega) (by omega) hst (fun M1 h1 ag1 => ?_)))
  rw [f0, tr_f]
  have hI1 := hI.ag h ag1
  refine itp (by decide) ?_
  unfold w_Model_goStep_j118
  refine itn (by decide) (itn (by decide) ?_)
  exact y_24 (ct_gj h1 hI1 (by rw [ho]; decide) hf hst hQ)
theorem v_25 (hq : TQc W F s) (h : TM G US A S W w br nq nl nf nk B F x bb t s (.inl (c, j, a, lo, st) :: U) M) (hA : At W s t c j a lo st U i) (hI : TI1 A S w nl nf nk nq q n i M) (ho : i.1 = 25) (hQ : ∀ M', TM G US A S W w br nq nl nf nk B F x bb t (doS W t s c j a lo st U i p) (gU (doS W t s c j a lo st U i p) t) M' → Q M') : w_Model_goStep 0 (Int32.ofNat (frs U)) (Int32.ofNat q) (Int32.ofNat 25) Q M := by
  obtain ⟨⟨hf, -⟩, ⟨hs20, hlo⟩, hst⟩ := hA.tj
  obtain ⟨hs, f0⟩ := hA.n1 (by obtain ⟨o, r⟩ := i; have ho : o = 25 := ho; subst ho; rfl)
  have e : doS W t s c j a lo st U i p = sU s t (.inl (c, j, if cmpS 25 (tv st 0).1 0 then gtn (iT i) 0 else a + 1, lo, drp st 1) :: U) := (by obtain ⟨o, r⟩ := i; have ho : o = 25 := ho; subst ho; rfl)
  rw [e, gU_in] at hQ
  have d1 : (drp st 1).length = st.length - 1 := drp_len
  unfold w_Model_goStep
  refine itn (by decide) (itn (by decide) (ct_popA h hf (by omega) (by omega) hst (fun M1 h1 ag1 => ?_)))
  rw [f0, tr_f]
  have hI1 := hI.ag h ag1
  refine itp (by decide) ?_
  unfold w_Model_goStep_j118
  refine itn (by decide) (itn (by decide) ?_)
  exact y_25 (ct_gj h1 hI1 (by rw [ho]; decide) hf hst hQ)
theorem v_26 (hq : TQc W F s) (h : TM G US A S W w br nq nl nf nk B F x bb t s (.inl (c, j, a, lo, st) :: U) M) (hA : At W s t c j a lo st U i) (hI : TI1 A S w nl nf nk nq q n i M) (ho : i.1 = 26) (hQ : ∀ M', TM G US A S W w br nq nl nf nk B F x bb t (doS W t s c j a lo st U i p) (gU (doS W t s c j a lo st U i p) t) M' → Q M') : w_Model_goStep 0 (Int32.ofNat (frs U)) (Int32.ofNat q) (Int32.ofNat 26) Q M := by
  obtain ⟨⟨hf, -⟩, ⟨hs20, hlo⟩, hst⟩ := hA.tj
  obtain ⟨hs, f0⟩ := hA.n1 (by obtain ⟨o, r⟩ := i; have ho : o = 26 := ho; subst ho; rfl)
  have e : doS W t s c j a lo st U i p = sU s t (.inl (c, j, if cmpS 26 (tv st 0).1 0 then gtn (iT i) 0 else a + 1, lo, drp st 1) :: U) := (by obtain ⟨o, r⟩ := i; have ho : o = 26 := ho; subst ho; rfl)
  rw [e, gU_in] at hQ
  have d1 : (drp st 1).length = st.length - 1 := drp_len
  unfold w_Model_goStep
  refine itn (by decide) (itn (by decide) (ct_popA h hf (by omega) (by omega) hst (fun M1 h1 ag1 => ?_)))
  rw [f0, tr_f]
  have hI1 := hI.ag h ag1
  refine itp (by decide) ?_
  unfold w_Model_goStep_j118
  refine itn (by decide) (itn (by decide) ?_)
  exact y_26 (ct_gj h1 hI1 (by rw [ho]; decide) hf hst hQ)
theorem v_27 (hq : TQc W F s) (h : TM G US A S W w br nq nl nf nk B F x bb t s (.inl (c, j, a, lo, st) :: U) M) (hA : At W s t c j a lo st U i) (hI : TI1 A S w nl nf nk nq q n i M) (ho : i.1 = 27) (hQ : ∀ M', TM G US A S W w br nq nl nf nk B F x bb t (doS W t s c j a lo st U i p) (gU (doS W t s c j a lo st U i p) t) M' → Q M') : w_Model_goStep 0 (Int32.ofNat (frs U)) (Int32.ofNat q) (Int32.ofNat 27) Q M := by
  obtain ⟨⟨hf, -⟩, ⟨hs20, hlo⟩, hst⟩ := hA.tj
  obtain ⟨hs, f0⟩ := hA.n1 (by obtain ⟨o, r⟩ := i; have ho : o = 27 := ho; subst ho; rfl)
  have e : doS W t s c j a lo st U i p = sU s t (.inl (c, j, if cmpS 27 (tv st 0).1 0 then gtn (iT i) 0 else a + 1, lo, drp st 1) :: U) := (by obtain ⟨o, r⟩ := i; have ho : o = 27 := ho; subst ho; rfl)
  rw [e, gU_in] at hQ
  have d1 : (drp st 1).length = st.length - 1 := drp_len
  unfold w_Model_goStep
  refine itn (by decide) (itn (by decide) (ct_popA h hf (by omega) (by omega) hst (fun M1 h1 ag1 => ?_)))
  rw [f0, tr_f]
  have hI1 := hI.ag h ag1
  refine itp (by decide) ?_
  unfold w_Model_goStep_j118
  refine itn (by decide) (itn (by decide) ?_)
  exact y_27 (ct_gj h1 hI1 (by rw [ho]; decide) hf hst hQ)
theorem v_28 (hq : TQc W F s) (h : TM G US A S W w br nq nl nf nk B F x bb t s (.inl (c, j, a, lo, st) :: U) M) (hA : At W s t c j a lo st U i) (hI : TI1 A S w nl nf nk nq q n i M) (ho : i.1 = 28) (hQ : ∀ M', TM G US A S W w br nq nl nf nk B F x bb t (doS W t s c j a lo st U i p) (gU (doS W t s c j a lo st U i p) t) M' → Q M') : w_Model_goStep 0 (Int32.ofNat (frs U)) (Int32.ofNat q) (Int32.ofNat 28) Q M := by
  obtain ⟨⟨hf, -⟩, ⟨hs20, hlo⟩, hst⟩ := hA.tj
  obtain ⟨hs, f0⟩ := hA.n1 (by obtain ⟨o, r⟩ := i; have ho : o = 28 := ho; subst ho; rfl)
  have e : doS W t s c j a lo st U i p = sU s t (.inl (c, j, if cmpS 28 (tv st 0).1 0 then gtn (iT i) 0 else a + 1, lo, drp st 1) :: U) := (by obtain ⟨o, r⟩ := i; have ho : o = 28 := ho; subst ho; rfl)
  rw [e, gU_in] at hQ
  have d1 : (drp st 1).length = st.length - 1 := drp_len
  unfold w_Model_goStep
  refine itn (by decide) (itn (by decide) (ct_popA h hf (by omega) (by omega) hst (fun M1 h1 ag1 => ?_)))
  rw [f0, tr_f]
  have hI1 := hI.ag h ag1
  refine itp (by decide) ?_
  unfold w_Model_goStep_j118
  refine itn (by decide) (itn (by decide) ?_)
  exact y_28 (ct_gj h1 hI1 (by rw [ho]; decide) hf hst hQ)
theorem v_29 (hq : TQc W F s) (h : TM G US A S W w br nq nl nf nk B F x bb t s (.inl (c, j, a, lo, st) :: U) M) (hA : At W s t c j a lo st U i) (hI : TI1 A S w nl nf nk nq q n i M) (ho : i.1 = 29) (hQ : ∀ M', TM G US A S W w br nq nl nf nk B F x bb t (doS W t s c j a lo st U i p) (gU (doS W t s c j a lo st U i p) t) M' → Q M') : w_Model_goStep 0 (Int32.ofNat (frs U)) (Int32.ofNat q) (Int32.ofNat 29) Q M := by
  obtain ⟨⟨hf, -⟩, ⟨hs20, hlo⟩, hst⟩ := hA.tj
  obtain ⟨hs, f0⟩ := hA.n1 (by obtain ⟨o, r⟩ := i; have ho : o = 29 := ho; subst ho; rfl)
  have e : doS W t s c j a lo st U i p = sU s t (.inl (c, j, if cmpS 29 (tv st 0).1 0 then gtn (iT i) 0 else a + 1, lo, drp st 1) :: U) := (by obtain ⟨o, r⟩ := i; have ho : o = 29 := ho; subst ho; rfl)
  rw [e, gU_in] at hQ
  have d1 : (drp st 1).length = st.length - 1 := drp_len
  unfold w_Model_goStep
  refine itn (by decide) (itn (by decide) (ct_popA h hf (by omega) (by omega) hst (fun M1 h1 ag1 => ?_)))
  rw [f0, tr_f]
  have hI1 := hI.ag h ag1
  refine itp (by decide) ?_
  unfold w_Model_goStep_j118
  refine itn (by decide) (itn (by decide) ?_)
  exact y_29 (ct_gj h1 hI1 (by rw [ho]; decide) hf hst hQ)
theorem v_30 (hq : TQc W F s) (h : TM G US A S W w br nq nl nf nk B F x bb t s (.inl (c, j, a, lo, st) :: U) M) (hA : At W s t c j a lo st U i) (hI : TI1 A S w nl nf nk nq q n i M) (ho : i.1 = 30) (hQ : ∀ M', TM G US A S W w br nq nl nf nk B F x bb t (doS W t s c j a lo st U i p) (gU (doS W t s c j a lo st U i p) t) M' → Q M') : w_Model_goStep 0 (Int32.ofNat (frs U)) (Int32.ofNat q) (Int32.ofNat 30) Q M := by
  obtain ⟨⟨hf, -⟩, ⟨hs20, hlo⟩, hst⟩ := hA.tj
  obtain ⟨hs, f0, f1⟩ := hA.n2 (by obtain ⟨o, r⟩ := i; have ho : o = 30 := ho; subst ho; rfl)
  have e : doS W t s c j a lo st U i p = sU s t (.inl (c, j, if cmpS 30 (tv st 1).1 (tv st 0).1 then gtn (iT i) 0 else a + 1, lo, drp st 2) :: U) := (by obtain ⟨o, r⟩ := i; have ho : o = 30 := ho; subst ho; rfl)
  rw [e, gU_in] at hQ
  have d1 : (drp st 1).length = st.length - 1 := drp_len
  unfold w_Model_goStep
  refine itn (by decide) (itn (by decide) (ct_popA h hf (by omega) (by omega) hst (fun M1 h1 ag1 => ?_)))
  rw [f0, tr_f]
  have hI1 := hI.ag h ag1
  refine itn (by decide) (itp (by decide) ?_)
  unfold w_Model_goStep_j130
  refine ct_popA h1 hf (by omega) (by omega) hst (fun M2 h2 ag2 => ?_)
  rw [drp_drp] at h2
  rw [tv_drp hs, f1, tr_f]
  have hI2 := hI1.ag h1 ag2
  exact y_30 (ct_gj h2 hI2 (by rw [ho]; decide) hf hst hQ)
theorem v_31 (hq : TQc W F s) (h : TM G US A S W w br nq nl nf nk B F x bb t s (.inl (c, j, a, lo, st) :: U) M) (hA : At W s t c j a lo st U i) (hI : TI1 A S w nl nf nk nq q n i M) (ho : i.1 = 31) (hQ : ∀ M', TM G US A S W w br nq nl nf nk B F x bb t (doS W t s c j a lo st U i p) (gU (doS W t s c j a lo st U i p) t) M' → Q M') : w_Model_goStep 0 (Int32.ofNat (frs U)) (Int32.ofNat q) (Int32.ofNat 31) Q M := by
  obtain ⟨⟨hf, -⟩, ⟨hs20, hlo⟩, hst⟩ := hA.tj
  obtain ⟨hs, f0, f1⟩ := hA.n2 (by obtain ⟨o, r⟩ := i; have ho : o = 31 := ho; subst ho; rfl)
  have e : doS W t s c j a lo st U i p = sU s t (.inl (c, j, if cmpS 31 (tv st 1).1 (tv st 0).1 then gtn (iT i) 0 else a + 1, lo, drp st 2) :: U) := (by obtain ⟨o, r⟩ := i; have ho : o = 31 := ho; subst ho; rfl)
  rw [e, gU_in] at hQ
  have d1 : (drp st 1).length = st.length - 1 := drp_len
  unfold w_Model_goStep
  refine itn (by decide) (itn (by decide) (ct_popA h hf (by omega) (by omega) hst (fun M1 h1 ag1 => ?_)))
  rw [f0, tr_f]
  have hI1 := hI.ag h ag1
  refine itn (by decide) (itp (by decide) ?_)
  unfold w_Model_goStep_j130
  refine ct_popA h1 hf (by omega) (by omega) hst (fun M2 h2 ag2 => ?_)
  rw [drp_drp] at h2
  rw [tv_drp hs, f1, tr_f]
  have hI2 := hI1.ag h1 ag2
  exact y_31 (ct_gj h2 hI2 (by rw [ho]; decide) hf hst hQ)
theorem v_32 (hq : TQc W F s) (h : TM G US A S W w br nq nl nf nk B F x bb t s (.inl (c, j, a, lo, st) :: U) M) (hA : At W s t c j a lo st U i) (hI : TI1 A S w nl nf nk nq q n i M) (ho : i.1 = 32) (hQ : ∀ M', TM G US A S W w br nq nl nf nk B F x bb t (doS W t s c j a lo st U i p) (gU (doS W t s c j a lo st U i p) t) M' → Q M') : w_Model_goStep 0 (Int32.ofNat (frs U)) (Int32.ofNat q) (Int32.ofNat 32) Q M := by
  obtain ⟨⟨hf, -⟩, ⟨hs20, hlo⟩, hst⟩ := hA.tj
  obtain ⟨hs, f0, f1⟩ := hA.n2 (by obtain ⟨o, r⟩ := i; have ho : o = 32 := ho; subst ho; rfl)
  have e : doS W t s c j a lo st U i p = sU s t (.inl (c, j, if cmpS 32 (tv st 1).1 (tv st 0).1 then gtn (iT i) 0 else a + 1, lo, drp st 2) :: U) := (by obtain ⟨o, r⟩ := i; have ho : o = 32 := ho; subst ho; rfl)
  rw [e, gU_in] at hQ
  have d1 : (drp st 1).length = st.length - 1 := drp_len
  unfold w_Model_goStep
  refine itn (by decide) (itn (by decide) (ct_popA h hf (by omega) (by omega) hst (fun M1 h1 ag1 => ?_)))
  rw [f0, tr_f]
  have hI1 := hI.ag h ag1
  refine itn (by decide) (itp (by decide) ?_)
  unfold w_Model_goStep_j130
  refine ct_popA h1 hf (by omega) (by omega) hst (fun M2 h2 ag2 => ?_)
  rw [drp_drp] at h2
  rw [tv_drp hs, f1, tr_f]
  have hI2 := hI1.ag h1 ag2
  exact y_32 (ct_gj h2 hI2 (by rw [ho]; decide) hf hst hQ)
theorem v_33 (hq : TQc W F s) (h : TM G US A S W w br nq nl nf nk B F x bb t s (.inl (c, j, a, lo, st) :: U) M) (hA : At W s t c j a lo st U i) (hI : TI1 A S w nl nf nk nq q n i M) (ho : i.1 = 33) (hQ : ∀ M', TM G US A S W w br nq nl nf nk B F x bb t (doS W t s c j a lo st U i p) (gU (doS W t s c j a lo st U i p) t) M' → Q M') : w_Model_goStep 0 (Int32.ofNat (frs U)) (Int32.ofNat q) (Int32.ofNat 33) Q M := by
  obtain ⟨⟨hf, -⟩, ⟨hs20, hlo⟩, hst⟩ := hA.tj
  obtain ⟨hs, f0, f1⟩ := hA.n2 (by obtain ⟨o, r⟩ := i; have ho : o = 33 := ho; subst ho; rfl)
  have e : doS W t s c j a lo st U i p = sU s t (.inl (c, j, if cmpS 33 (tv st 1).1 (tv st 0).1 then gtn (iT i) 0 else a + 1, lo, drp st 2) :: U) := (by obtain ⟨o, r⟩ := i; have ho : o = 33 := ho; subst ho; rfl)
  rw [e, gU_in] at hQ
  have d1 : (drp st 1).length = st.length - 1 := drp_len
  unfold w_Model_goStep
  refine itn (by decide) (itn (by decide) (ct_popA h hf (by omega) (by omega) hst (fun M1 h1 ag1 => ?_)))
  rw [f0, tr_f]
  have hI1 := hI.ag h ag1
  refine itn (by decide) (itp (by decide) ?_)
  unfold w_Model_goStep_j130
  refine ct_popA h1 hf (by omega) (by omega) hst (fun M2 h2 ag2 => ?_)
  rw [drp_drp] at h2
  rw [tv_drp hs, f1, tr_f]
  have hI2 := hI1.ag h1 ag2
  exact y_33 (ct_gj h2 hI2 (by rw [ho]; decide) hf hst hQ)
theorem v_34 (hq : TQc W F s) (h : TM G US A S W w br nq nl nf nk B F x bb t s (.inl (c, j, a, lo, st) :: U) M) (hA : At W s t c j a lo st U i) (hI : TI1 A S w nl nf nk nq q n i M) (ho : i.1 = 34) (hQ : ∀ M', TM G US A S W w br nq nl nf nk B F x bb t (doS W t s c j a lo st U i p) (gU (doS W t s c j a lo st U i p) t) M' → Q M') : w_Model_goStep 0 (Int32.ofNat (frs U)) (Int32.ofNat q) (Int32.ofNat 34) Q M := by
  obtain ⟨⟨hf, -⟩, ⟨hs20, hlo⟩, hst⟩ := hA.tj
  obtain ⟨hs, f0, f1⟩ := hA.n2 (by obtain ⟨o, r⟩ := i; have ho : o = 34 := ho; subst ho; rfl)
  have e : doS W t s c j a lo st U i p = sU s t (.inl (c, j, if cmpS 34 (tv st 1).1 (tv st 0).1 then gtn (iT i) 0 else a + 1, lo, drp st 2) :: U) := (by obtain ⟨o, r⟩ := i; have ho : o = 34 := ho; subst ho; rfl)
  rw [e, gU_in] at hQ
  have d1 : (drp st 1).length = st.length - 1 := drp_len
  unfold w_Model_goStep
  refine itn (by decide) (itn (by decide) (ct_popA h hf (by omega) (by omega) hst (fun M1 h1 ag1 => ?_)))
  rw [f0, tr_f]
  have hI1 := hI.ag h ag1
  refine itn (by decide) (itp (by decide) ?_)
  unfold w_Model_goStep_j130
  refine ct_popA h1 hf (by omega) (by omega) hst (fun M2 h2 ag2 => ?_)
  rw [drp_drp] at h2
  rw [tv_drp hs, f1, tr_f]
  have hI2 := hI1.ag h1 ag2
  exact y_34 (ct_gj h2 hI2 (by rw [ho]; decide) hf hst hQ)
theorem v_35 (hq : TQc W F s) (h : TM G US A S W w br nq nl nf nk B F x bb t s (.inl (c, j, a, lo, st) :: U) M) (hA : At W s t c j a lo st U i) (hI : TI1 A S w nl nf nk nq q n i M) (ho : i.1 = 35) (hQ : ∀ M', TM G US A S W w br nq nl nf nk B F x bb t (doS W t s c j a lo st U i p) (gU (doS W t s c j a lo st U i p) t) M' → Q M') : w_Model_goStep 0 (Int32.ofNat (frs U)) (Int32.ofNat q) (Int32.ofNat 35) Q M := by
  obtain ⟨⟨hf, -⟩, ⟨hs20, hlo⟩, hst⟩ := hA.tj
  obtain ⟨hs, f0, f1⟩ := hA.n2 (by obtain ⟨o, r⟩ := i; have ho : o = 35 := ho; subst ho; rfl)
  have e : doS W t s c j a lo st U i p = sU s t (.inl (c, j, if cmpS 35 (tv st 1).1 (tv st 0).1 then gtn (iT i) 0 else a + 1, lo, drp st 2) :: U) := (by obtain ⟨o, r⟩ := i; have ho : o = 35 := ho; subst ho; rfl)
  rw [e, gU_in] at hQ
  have d1 : (drp st 1).length = st.length - 1 := drp_len
  unfold w_Model_goStep
  refine itn (by decide) (itn (by decide) (ct_popA h hf (by omega) (by omega) hst (fun M1 h1 ag1 => ?_)))
  rw [f0, tr_f]
  have hI1 := hI.ag h ag1
  refine itn (by decide) (itp (by decide) ?_)
  unfold w_Model_goStep_j130
  refine ct_popA h1 hf (by omega) (by omega) hst (fun M2 h2 ag2 => ?_)
  rw [drp_drp] at h2
  rw [tv_drp hs, f1, tr_f]
  have hI2 := hI1.ag h1 ag2
  exact y_35 (ct_gj h2 hI2 (by rw [ho]; decide) hf hst hQ)
theorem v_36 (hq : TQc W F s) (h : TM G US A S W w br nq nl nf nk B F x bb t s (.inl (c, j, a, lo, st) :: U) M) (hA : At W s t c j a lo st U i) (hI : TI1 A S w nl nf nk nq q n i M) (ho : i.1 = 36) (hQ : ∀ M', TM G US A S W w br nq nl nf nk B F x bb t (doS W t s c j a lo st U i p) (gU (doS W t s c j a lo st U i p) t) M' → Q M') : w_Model_goStep 0 (Int32.ofNat (frs U)) (Int32.ofNat q) (Int32.ofNat 36) Q M := by
  obtain ⟨⟨hf, -⟩, ⟨hs20, hlo⟩, hst⟩ := hA.tj
  obtain ⟨hs, f0, w0⟩ := hA.r1 (by obtain ⟨o, r⟩ := i; have ho : o = 36 := ho; subst ho; rfl)
  have e : doS W t s c j a lo st U i p = sU s t (.inl (c, j, if cmpS 36 (tv st 0).1 0 then gtn (iT i) 0 else a + 1, lo, drp st 1) :: U) := (by obtain ⟨o, r⟩ := i; have ho : o = 36 := ho; subst ho; rfl)
  rw [e, gU_in] at hQ
  have d1 : (drp st 1).length = st.length - 1 := drp_len
  unfold w_Model_goStep
  refine itn (by decide) (itn (by decide) (ct_popA h hf (by omega) (by omega) hst (fun M1 h1 ag1 => ?_)))
  rw [f0]
  have hI1 := hI.ag h ag1
  refine itn (by decide) (itn (by decide) ?_)
  unfold w_Model_goStep_j118
  refine itn (by decide) (itn (by decide) ?_)
  have ec : cmpS 36 (tr true (tv st 0).1) 0 = cmpS 36 (tv st 0).1 0 := by
    show decide (_ = _) = decide (_ = _)
    exact decide_eq_decide.mpr (tr_ne0 w0)
  refine y_36 ?_
  rw [ec]
  exact ct_gj h1 hI1 (by rw [ho]; decide) hf hst hQ
theorem v_37 (hq : TQc W F s) (h : TM G US A S W w br nq nl nf nk B F x bb t s (.inl (c, j, a, lo, st) :: U) M) (hA : At W s t c j a lo st U i) (hI : TI1 A S w nl nf nk nq q n i M) (ho : i.1 = 37) (hQ : ∀ M', TM G US A S W w br nq nl nf nk B F x bb t (doS W t s c j a lo st U i p) (gU (doS W t s c j a lo st U i p) t) M' → Q M') : w_Model_goStep 0 (Int32.ofNat (frs U)) (Int32.ofNat q) (Int32.ofNat 37) Q M := by
  obtain ⟨⟨hf, -⟩, ⟨hs20, hlo⟩, hst⟩ := hA.tj
  obtain ⟨hs, f0, w0⟩ := hA.r1 (by obtain ⟨o, r⟩ := i; have ho : o = 37 := ho; subst ho; rfl)
  have e : doS W t s c j a lo st U i p = sU s t (.inl (c, j, if cmpS 37 (tv st 0).1 0 then gtn (iT i) 0 else a + 1, lo, drp st 1) :: U) := (by obtain ⟨o, r⟩ := i; have ho : o = 37 := ho; subst ho; rfl)
  rw [e, gU_in] at hQ
  have d1 : (drp st 1).length = st.length - 1 := drp_len
  unfold w_Model_goStep
  refine itn (by decide) (itn (by decide) (ct_popA h hf (by omega) (by omega) hst (fun M1 h1 ag1 => ?_)))
  rw [f0]
  have hI1 := hI.ag h ag1
  refine itn (by decide) (itn (by decide) ?_)
  unfold w_Model_goStep_j118
  refine itn (by decide) (itn (by decide) ?_)
  have ec : cmpS 37 (tr true (tv st 0).1) 0 = cmpS 37 (tv st 0).1 0 := by
    show decide (_ ≠ _) = decide (_ ≠ _)
    exact decide_eq_decide.mpr (not_congr (tr_ne0 w0))
  refine y_37 ?_
  rw [ec]
  exact ct_gj h1 hI1 (by rw [ho]; decide) hf hst hQ
theorem v_38 (hq : TQc W F s) (h : TM G US A S W w br nq nl nf nk B F x bb t s (.inl (c, j, a, lo, st) :: U) M) (hA : At W s t c j a lo st U i) (hI : TI1 A S w nl nf nk nq q n i M) (ho : i.1 = 38) (hQ : ∀ M', TM G US A S W w br nq nl nf nk B F x bb t (doS W t s c j a lo st U i p) (gU (doS W t s c j a lo st U i p) t) M' → Q M') : w_Model_goStep 0 (Int32.ofNat (frs U)) (Int32.ofNat q) (Int32.ofNat 38) Q M := by
  obtain ⟨⟨hf, -⟩, ⟨hs20, hlo⟩, hst⟩ := hA.tj
  obtain ⟨hs, ⟨f0, w0⟩, f1, w1⟩ := hA.r2 (by obtain ⟨o, r⟩ := i; have ho : o = 38 := ho; subst ho; rfl)
  have e : doS W t s c j a lo st U i p = sU s t (.inl (c, j, if cmpS 38 (tv st 1).1 (tv st 0).1 then gtn (iT i) 0 else a + 1, lo, drp st 2) :: U) := (by obtain ⟨o, r⟩ := i; have ho : o = 38 := ho; subst ho; rfl)
  rw [e, gU_in] at hQ
  have d1 : (drp st 1).length = st.length - 1 := drp_len
  unfold w_Model_goStep
  refine itn (by decide) (itn (by decide) (ct_popA h hf (by omega) (by omega) hst (fun M1 h1 ag1 => ?_)))
  rw [f0]
  have hI1 := hI.ag h ag1
  refine itn (by decide) (itn (by decide) ?_)
  unfold w_Model_goStep_j118 w_Model_goStep_j130
  refine itp rfl ?_
  refine ct_popA h1 hf (by omega) (by omega) hst (fun M2 h2 ag2 => ?_)
  rw [drp_drp] at h2
  rw [tv_drp hs, f1]
  have hI2 := hI1.ag h1 ag2
  have ec : cmpS 38 (tr true (tv st 1).1) (tr true (tv st 0).1) = cmpS 38 (tv st 1).1 (tv st 0).1 := by
    show decide (_ = _) = decide (_ = _)
    exact decide_eq_decide.mpr (tr_inj w1 w0)
  refine y_38 ?_
  rw [ec]
  exact ct_gj h2 hI2 (by rw [ho]; decide) hf hst hQ
theorem v_39 (hq : TQc W F s) (h : TM G US A S W w br nq nl nf nk B F x bb t s (.inl (c, j, a, lo, st) :: U) M) (hA : At W s t c j a lo st U i) (hI : TI1 A S w nl nf nk nq q n i M) (ho : i.1 = 39) (hQ : ∀ M', TM G US A S W w br nq nl nf nk B F x bb t (doS W t s c j a lo st U i p) (gU (doS W t s c j a lo st U i p) t) M' → Q M') : w_Model_goStep 0 (Int32.ofNat (frs U)) (Int32.ofNat q) (Int32.ofNat 39) Q M := by
  obtain ⟨⟨hf, -⟩, ⟨hs20, hlo⟩, hst⟩ := hA.tj
  obtain ⟨hs, ⟨f0, w0⟩, f1, w1⟩ := hA.r2 (by obtain ⟨o, r⟩ := i; have ho : o = 39 := ho; subst ho; rfl)
  have e : doS W t s c j a lo st U i p = sU s t (.inl (c, j, if cmpS 39 (tv st 1).1 (tv st 0).1 then gtn (iT i) 0 else a + 1, lo, drp st 2) :: U) := (by obtain ⟨o, r⟩ := i; have ho : o = 39 := ho; subst ho; rfl)
  rw [e, gU_in] at hQ
  have d1 : (drp st 1).length = st.length - 1 := drp_len
  unfold w_Model_goStep
  refine itn (by decide) (itn (by decide) (ct_popA h hf (by omega) (by omega) hst (fun M1 h1 ag1 => ?_)))
  rw [f0]
  have hI1 := hI.ag h ag1
  refine itn (by decide) (itn (by decide) ?_)
  unfold w_Model_goStep_j118 w_Model_goStep_j130
  refine itn (by decide) (itp rfl ?_)
  refine ct_popA h1 hf (by omega) (by omega) hst (fun M2 h2 ag2 => ?_)
  rw [drp_drp] at h2
  rw [tv_drp hs, f1]
  have hI2 := hI1.ag h1 ag2
  have ec : cmpS 39 (tr true (tv st 1).1) (tr true (tv st 0).1) = cmpS 39 (tv st 1).1 (tv st 0).1 := by
    show decide (_ ≠ _) = decide (_ ≠ _)
    exact decide_eq_decide.mpr (not_congr (tr_inj w1 w0))
  refine y_39 ?_
  rw [ec]
  exact ct_gj h2 hI2 (by rw [ho]; decide) hf hst hQ
theorem v_40 (hq : TQc W F s) (h : TM G US A S W w br nq nl nf nk B F x bb t s (.inl (c, j, a, lo, st) :: U) M) (hA : At W s t c j a lo st U i) (hI : TI1 A S w nl nf nk nq q n i M) (ho : i.1 = 40) (hQ : ∀ M', TM G US A S W w br nq nl nf nk B F x bb t (doS W t s c j a lo st U i p) (gU (doS W t s c j a lo st U i p) t) M' → Q M') : w_Model_goStep 0 (Int32.ofNat (frs U)) (Int32.ofNat q) (Int32.ofNat 40) Q M := by
  obtain ⟨⟨hf, -⟩, ⟨hs20, hlo⟩, hst⟩ := hA.tj
  obtain ⟨hs, f0⟩ := hA.n1 (by obtain ⟨o, r⟩ := i; have ho : o = 40 := ho; subst ho; rfl)
  have e : doS W t s c j a lo st U i p = sU s t (.inl (c, j, gtn (iT i) (pickN (iV i) (tv st 0).1 (iT i).length), lo, drp st 1) :: U) := (by obtain ⟨o, r⟩ := i; have ho : o = 40 := ho; subst ho; rfl)
  rw [e, gU_in] at hQ
  have hn : (iT i).length ≠ 0 := hA.in.2.2.2.2.2.1.2.1 ho
  unfold w_Model_goStep
  refine itp rfl (ct_popA h hf (by omega) (by omega) hst (fun M1 h1 ag1 => ?_))
  rw [f0, tr_f]
  have hI1 := hI.ag h ag1
  obtain ⟨⟨a1, a2⟩, ⟨b1, b2'⟩, ⟨c1, c2⟩, hq39⟩ := hI1.rw' h1.1.1.1
  obtain ⟨⟨-, ⟨t1, -, t3, -⟩, -⟩, -⟩ := hI1
  have t1 : mI M1 300 (rdI M1 (sAs w)) q = iV i := by
    rw [if_neg (by rw [ho]; decide), if_neg (by rw [ho]; decide)] at t1; exact t1
  obtain ⟨lf, o2, o3, hl, hp2⟩ := t3 ho
  have o2 : mI M1 300 (rdI M1 (sBs w)) q = Int32.ofNat lf := o2
  have el : ((iT i).map Int32.ofNat).length = (iT i).length := List.length_map ..
  have o3 : mI M1 300 (rdI M1 (sCs w)) q = Int32.ofNat (iT i).length := o3.trans (congrArg Int32.ofNat el)
  have hl : lf + (iT i).length ≤ nl := by rw [← el]; exact hl
  have hR := h1.1.1.1.1.1.2.2.1
  have r5 : nl ≤ mL M1 300 (rdI M1 (sLi w)) := hR.2.1
  have r8 : mL M1 300 (rdI M1 (sLi w)) ≤ 8000 := hR.2.2.2.2 (sLi w) (by simp)
  have sl := h1.1.1.1.slt (s := sLi w) (by simp)
  have e174 : mL M1 174 (3 * w + t) = 40 := h1.lens.2.2.2.2.1
  refine ⟨w, h1.r45, _, a1, (vp_oN (by omega)).mpr a2, w, h1.r45, _, c1, (vp_oN (by omega)).mpr c2, 3 * w + t, h1.r46, w, h1.r45, _, sl, w, h1.r45, _, b1, (vp_oN (by omega)).mpr b2', ?_⟩
  rw [oN_tnc (k := q) (by omega), t1, o2, o3, lit32 1, sub_n (by omega)]
  have fin : ∀ m, m = pickN (iV i) (tv st 0).1 (iT i).length → w_Model_goStep_j86 0 Q (Int32.ofNat m) (Int32.ofNat lf) (rdI M1 (sLi w)) (Int32.ofNat (frs U)) (3 * w + t) M1 := fun m em => by
    have hlt : m < (iT i).length := by
      rw [em]; exact pickN_lt (Nat.pos_of_ne_zero hn)
    unfold w_Model_goStep_j86
    have e4 : mI M1 300 (rdI M1 (sLi w)) (lf + m) = Int32.ofNat (gtn (iT i) m) := (hp2 m (by rw [el]; exact hlt)).trans (by
      show ((iT i).map Int32.ofNat).getD m 0 = Int32.ofNat ((iT i).getD m 0)
      rw [List.getD_eq_getElem?_getD, List.getD_eq_getElem?_getD, List.getElem?_map, List.getElem?_eq_getElem hlt]; rfl)
    rw [oN_add, oN_tnc (k := lf + m) (by omega), oN_tnc (k := frs U) (by omega), e4, em]
    exact ⟨(vp_oN (by omega)).mpr (by omega), by rw [e174]; exact (vp_oN (by omega)).mpr hf, hQ _ (h1.nxt hst).su⟩
  unfold w_Model_goStep_j84
  have e0 : (0 : Int64).toInt = 0 := rfl
  have e1 : (Int32.ofNat ((iT i).length - 1)).toInt64.toInt = (((iT i).length - 1 : Nat) : Int) := by rw [Int32.toInt_toInt64, oN_toInt (by omega)]
  by_cases c1 : (tv st 0).1.toInt - (iV i).toInt < 0
  · refine itp (lg_lt.mpr (by rw [sub64, e0]; exact c1)) (fin _ ?_)
    unfold pickN; rw [if_neg (by omega)]
  · refine itn (fun z => by have := lg_lt.mp z; rw [sub64, e0] at this; omega) ?_
    by_cases c2 : (((iT i).length - 1 : Nat) : Int) ≤ (tv st 0).1.toInt - (iV i).toInt
    · refine itp (lg_ge.mpr (by rw [sub64, e1]; exact c2)) (fin _ ?_)
      unfold pickN; rw [if_neg (by omega)]
    · refine itn (fun z => by have := lg_ge.mp z; rw [sub64, e1] at this; omega) ?_
      rw [sub32 (n := ((tv st 0).1.toInt - (iV i).toInt).toNat) (by omega) (by omega)]
      refine fin _ ?_
      unfold pickN; rw [if_pos (by omega)]
end
