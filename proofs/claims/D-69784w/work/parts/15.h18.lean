/-! THE MACHINE IN THE TWIN: simple instructions (printed by gen/ti.py) -/
section
variable {G : List Sl} {US : UST} {A : List Nm} {S : List Sg} {W : List Cls} {w c j a k t L q n : Nat} {br x r v : Int32} {bb : Bool} {nq nl nf nk B F op : Nat} {M M' : Mem} {s s' : Ms} {U V : List Un} {lo st lo' st' : List Vl} {o : Option Kd} {Q : Int32 → Mem → Prop} {i : Ins} {p : Nat × Nat}
/-- what is thrown by an instruction that has changed its stack -/
theorem sI_same {f i k : Nat} {v : Int32} (h : mI M f i k = v) : sI M f i k v = M := by
  unfold sI
  refine Prod.ext ?_ rfl
  funext f' i' k'
  show (if f' = f ∧ i' = i ∧ k' = k then v else M.1 f' i' k') = M.1 f' i' k'
  by_cases e : f' = f ∧ i' = i ∧ k' = k
  · rw [if_pos e, e.1, e.2.1, e.2.2]; exact h.symm
  · rw [if_neg e]
theorem ct_unwD {Q : Mem → Prop} (hq : TQc W F s) (h : TM G US A S W w br nq nl nf nk B F x bb t s (.inl (c, j, a, lo, st') :: U) M) (hA : At W s t c j a lo st U i) (hr : thO W s r) (h0 : r ≠ 0) (hQ : ∀ M', TM G US A S W w br nq nl nf nk B F x bb t (unw W t (gU s t) r s) (gU (unw W t (gU s t) r s) t) M' → Q M') : w_Model_unwind 0 (tr true r) Q M := by
  obtain ⟨hW, hFb, hF⟩ := hq
  have hl := hA.1.2.1.2.2.2.1.len hW
  have hl : U.length + 1 ≤ 91 := hl
  rw [hA.2.1] at hQ
  unfold w_Model_unwind
  exact ⟨U.length + 2, ct_unwI hW hFb (ct_unw hW hFb U) h hA.1.2.1 hA.1.2.2 hr h0 (by omega) (by omega) hQ⟩
theorem ct_throwD {Q : Mem → Prop} {f : Nat} {ru : Int32} (hq : TQc W F s) (h : TM G US A S W w br nq nl nf nk B F x bb t s (.inl (c, j, a, lo, st') :: U) M) (hA : At W s t c j a lo st U i) (h1 : 1 ≤ f) (h2 : f < 21) (hQ : ∀ M', TM G US A S W w br nq nl nf nk B F x bb t (failS W t s f ru) (gU (failS W t s f ru) t) M' → Q M') : w_Model_throwNew 0 ru (Int32.ofNat f) Q M := by
  obtain ⟨hW, hFb, hF⟩ := hq
  have hM := hA.1.2.1
  have hl := hM.2.2.2.1.len hW
  have hl : U.length + 1 ≤ 91 := hl
  unfold failS at hQ
  rw [hA.2.1] at hQ
  unfold w_Model_throwNew
  refine ct_newFault h (by omega) hFb (fun M1 h1' => ?_)
  unfold w_Model_unwind
  rw [← lastT (s := s) (f := f) (ru := ru) (by omega)]
  refine ⟨U.length + 2, ct_unwI hW hFb (ct_unw hW hFb U) h1' (hM.addF h1 h2) hA.1.2.2 (thO.new hW.1 hM.1.1.1.1 h1 h2 (by omega)) (lastF_ne (by omega)) ?_ (by omega) hQ⟩
  show (zF s ++ _).length + (U.length + 1) < F
  rw [List.length_append, List.length_singleton]; omega
theorem fl_6 (hA : At W s t c j a lo st U i) (ho : i.1 = 6) : (tv st 0).2 = true := by
  obtain ⟨tl, tk⟩ := hA.tk (ws := [wSto]) (by obtain ⟨o, r⟩ := i; have ho : o = 6 := ho; subst ho; rfl)
  exact (tk 0 (by simp)).2.fl (wOne_sto (tk 0 (by simp)).1)
theorem fl_59 (hA : At W s t c j a lo st U i) (ho : i.1 = 59) : 1 ≤ (k2 W c j a).length ∧ (tv st 0).2 = true ∧ vRf s (tv st 0).1 := by
  obtain ⟨-, -, -, ⟨-, h6, -⟩, -⟩ := hA.in
  have hr : (gmt (gc W c) j).2.2.1.1 = 1 ∨ (gmt (gc W c) j).2.2.1.1 = 2 := by
    unfold ownS at h6
    rw [if_neg (by omega), if_neg (by omega), if_pos ho] at h6
    split at h6
    · assumption
    · exact absurd h6 (by decide)
  obtain ⟨⟨hF, -⟩, -⟩ := hA.1.2.1.2.2.2.1
  have hk := ((hA.1.1).m hF.1.1 hF.1.2.1 hF.2.1).1.2.1
  have hty : tyOk (gmt (gc W c) j).2.2.1 := by
    rcases hk with z | z | z | z
    · exact Or.inl z
    · exact Or.inr (Or.inl z)
    · have z : (gmt (gc W c) j).2.2.1 = (-4, []) := z
      rw [z] at hr; exact absurd hr (by decide)
    · exact Or.inr (Or.inr z)
  have hw : wlist W c (gmt (gc W c) j) i = [(0, (gmt (gc W c) j).2.2.1)] := by
    have e : wlist W c (gmt (gc W c) j) i = [if (gmt (gc W c) j).2.2.1.1 = 1 ∨ (gmt (gc W c) j).2.2.1.1 = 2 then (0, (gmt (gc W c) j).2.2.1) else wRef] := (by obtain ⟨o, r⟩ := i; have ho : o = 59 := ho; subst ho; rfl)
    rw [e, if_pos hr]
  obtain ⟨tl, tk⟩ := hA.tk hw
  have v0 := wOne_ty hA.1.1.1 hty (tk 0 (by simp)).1 (tk 0 (by simp)).2
  have hfl := v0.ty hty
  rw [decide_eq_true (show (gmt (gc W c) j).2.2.1.1 ≠ 0 by omega)] at hfl
  exact ⟨tl, hfl, v0.2 hfl⟩
theorem At.tj (h : At W s t c j a lo st U i) : (frs U < 40 ∧ U.length ≤ 90) ∧ (st.length ≤ 20 ∧ lo.length = 20) ∧ stk U := by
  have hM := h.1.2.1
  have hW := h.1.1
  have hl := hM.2.2.2.1.len hW
  have hl : U.length + 1 ≤ 91 := hl
  have hst : st.length ≤ 20 ∧ stk U := UO.stk hW hM.1.1 hM.2.2.2.1.1
  have hfr : frs U + 1 ≤ 40 := hM.2.2.2.1.2.2
  exact ⟨⟨by omega, by omega⟩, ⟨hst.1, h.in.2.1.1⟩, hst.2⟩
/-- operands of an instruction -/
theorem TI1.rw' (hb : TB G US A S W w br nq nl nf nk M) (hI : TI1 A S w nl nf nk nq q n i M) : (mR M 12 w 31 = some (300, rdI M (sAs w)) ∧ q < mL M 300 (rdI M (sAs w))) ∧ (mR M 12 w 32 = some (300, rdI M (sBs w)) ∧ q < mL M 300 (rdI M (sBs w))) ∧ (mR M 12 w 33 = some (300, rdI M (sCs w)) ∧ q < mL M 300 (rdI M (sCs w))) ∧ q < 3900 := by
  have hR := hb.1.1.2.2.1.1
  have r1 : nq ≤ mL M 300 (rdI M (sAs w)) := hR (sAs w) (by simp)
  have r2 : nq ≤ mL M 300 (rdI M (sBs w)) := hR (sBs w) (by simp)
  have r3 : nq ≤ mL M 300 (rdI M (sCs w)) := hR (sCs w) (by simp)
  have := hI.2.1
  exact ⟨⟨hb.slt (s := sAs w) (by simp), by omega⟩, ⟨hb.slt (s := sBs w) (by simp), by omega⟩, ⟨hb.slt (s := sCs w) (by simp), by omega⟩, by omega⟩
theorem TI1.pl (hI : TI1 A S w nl nf nk nq q n i M) (h1 : ¬ isJ i.1) (h2 : ¬ (isN i.1 ∨ isFo i.1 ∨ isMo i.1)) (h3 : i.1 ≠ 40) : mI M 300 (rdI M (sAs w)) q = iV i ∧ mI M 300 (rdI M (sBs w)) q = i.2.2.1 := by
  obtain ⟨⟨-, ⟨t1, t2, -⟩, -⟩, -⟩ := hI
  rw [if_neg h1, if_neg h2] at t1
  have u1 := (t2 h3).1
  rw [if_neg (fun z => h2 (Or.inr z))] at u1
  exact ⟨t1, u1⟩
theorem ct_j726 (h : TM G US A S W w br nq nl nf nk B F x bb t s (.inl (c, j, a, lo, st) :: U) M) (hf : frs U < 40) (hst : stk U) (hQ : ∀ M', TM G US A S W w br nq nl nf nk B F x bb t (sU s t (.inl (c, j, a + 1, lo, st) :: U)) (.inl (c, j, a + 1, lo, st) :: U) M' → Q 1 M') : w_Model_instruction_j726 0 Q (Int32.ofNat (frs U)) M := by
  obtain ⟨l0, l1, l2, l3, l4, -⟩ := h.lens
  have e174 : mI M 174 (3 * w + t) (frs U) = Int32.ofNat a := h.2.2.1.2.2.1.2.2.1
  unfold w_Model_instruction_j726
  refine ⟨3 * w + t, h.r46, by rw [l4]; exact (vp_oN (by omega)).mpr hf, by rw [l4]; exact (vp_oN (by omega)).mpr hf, _, rfl, ?_⟩
  rw [oN_tnc (k := frs U) (by omega), e174, show Int32.ofNat a + (1 : Int32) = Int32.ofNat (a + 1) from oN_add a 1]
  exact hQ _ (h.nxt hst).su
theorem ct_topRefers (h : TM G US A S W w br nq nl nf nk B F x bb t s (.inl (c, j, a, lo, st) :: U) M) (hf : frs U < 40) (hs : 1 ≤ st.length) (hs2 : st.length ≤ 24) (hQ : Q (b2 (tv st 0).2) M) : w_Model_topRefers 0 (Int32.ofNat (frs U)) Q M := by
  obtain ⟨l0, l1, l2, l3, l4, l5, l6, l7⟩ := h.lens
  have e175 : mI M 175 (3 * w + t) (frs U) = Int32.ofNat st.length := h.2.2.1.2.2.1.2.2.2
  have e525 : mI M 525 (3 * w + t) (44 * frs U + 20 + (st.length - 1)) = b2 (tv st 0).2 := (h.2.2.1.2.2.2.1.2 (st.length - 1) (show st.length - 1 < st.length by omega)).2
  unfold w_Model_topRefers
  refine ⟨3 * w + t, h.r46, 3 * w + t, h.r46, by rw [l5]; exact (vp_oN (by omega)).mpr hf, ?_⟩
  rw [oN_tnc (k := frs U) (by omega), e175, show (44 : Int32) * Int32.ofNat (frs U) = Int32.ofNat (44 * frs U) from oN_mul 44 _, show Int32.ofNat (44 * frs U) + (20 : Int32) = Int32.ofNat (44 * frs U + 20) from oN_add _ 20, oN_add, show Int32.ofNat (44 * frs U + 20 + st.length) - (1 : Int32) = Int32.ofNat (44 * frs U + 20 + (st.length - 1)) from by rw [lit32 1, oN_sub (by omega), Nat.add_sub_assoc hs], oN_tnc (k := 44 * frs U + 20 + (st.length - 1)) (by omega), e525]
  refine ⟨by rw [l7]; exact (vp_oN (by omega)).mpr (by omega), ?_, hQ⟩
  cases (tv st 0).2 <;> simp [b2]
theorem app_tv (h : 1 ≤ st.length) : drp st 1 ++ [tv st 0] = st := drp1 h
theorem drp_drp : drp (drp st 1) 1 = drp st 2 := by
  unfold drp
  rw [List.length_take, List.take_take]
  congr 1; omega
theorem tv_drp (h : 2 ≤ st.length) : tv (drp st 1) 0 = tv st 1 := by
  show (st.take (st.length - 1)).getD ((st.take (st.length - 1)).length - 1 - 0) (0, false) = st.getD (st.length - 1 - 1) (0, false)
  rw [List.length_take, Nat.min_eq_left (by omega), List.getD_eq_getElem?_getD, List.getElem?_take, if_pos (by omega), List.getD_eq_getElem?_getD]; rfl
theorem drp_len {m : Nat} : (drp st m).length = st.length - m := by unfold drp; rw [List.length_take]; omega
/-- a local changes -/
theorem TM.setl {l : Nat} {b : Bool} (h : TM G US A S W w br nq nl nf nk B F x bb t s (.inl (c, j, a, lo, st) :: U) M) (hst : stk U) (hl : l < 20) (hlo : lo.length = 20) : TM G US A S W w br nq nl nf nk B F x bb t s (.inl (c, j, a, lo.set l (v, b), st) :: U) (sI (sI M 176 (3 * w + t) (44 * frs U + l) (tr b v)) 525 (3 * w + t) (44 * frs U + l) (b2 b)) := by
  refine h.top0 hst AgU.rf.wa.wa
    (fun y i hy => by rcases hy with z | z <;> subst z <;> simp only [mI_sI, Nat.reduceEqDiff, false_and, if_false])
    (fun i => by simp only [mI_sI, Nat.reduceEqDiff, false_and, if_false])
    (fun y i hy hi => by rcases hy with z | z <;> subst z <;> simp only [mI_sI, Nat.reduceEqDiff, false_and, if_false])
    (fun i hi => by
      have hne : ¬ i = 44 * frs U + l := by omega
      simp only [mI_sI, Nat.reduceEqDiff, false_and, if_false, true_and, hne, and_self])
    (fun i => by simp only [mI_sI, Nat.reduceEqDiff, false_and, if_false])
    (fun i => by simp only [mI_sI, Nat.reduceEqDiff, false_and, if_false])
    (fun f => rfl) ?_ ?_ (fun k hk => ?_) (fun k hk => ?_)
  · simp only [mI_sI, Nat.reduceEqDiff, false_and, if_false]; exact h.2.2.1.2.2.1.2.2.1
  · simp only [mI_sI, Nat.reduceEqDiff, false_and, if_false]; exact h.2.2.1.2.2.1.2.2.2
  · rw [lvSet (by omega)]
    by_cases e : k = l
    · rw [if_pos e, e]
      simp only [mI_sI, Nat.reduceEqDiff, false_and, if_false, and_self, if_true]
    · have hne : ¬ 44 * frs U + k = 44 * frs U + l := by omega
      rw [if_neg e]
      simp only [mI_sI, Nat.reduceEqDiff, false_and, if_false, true_and, hne]
      exact h.2.2.1.2.2.2.1.1 k hk
  · have hne : ¬ 44 * frs U + 20 + k = 44 * frs U + l := by omega
    simp only [mI_sI, Nat.reduceEqDiff, false_and, if_false, true_and, hne]
    exact h.2.2.1.2.2.2.1.2 k hk
theorem t_0 (hq : TQc W F s) (h : TM G US A S W w br nq nl nf nk B F x bb t s (.inl (c, j, a, lo, st) :: U) M) (hA : At W s t c j a lo st U i) (hI : TI1 A S w nl nf nk nq q n i M) (ho : i.1 = 0) (hQ : ∀ M', TM G US A S W w br nq nl nf nk B F x bb t (doS W t s c j a lo st U i p) (gU (doS W t s c j a lo st U i p) t) M' → Q 1 M') : w_Model_instruction_j219 0 Q (Int32.ofNat (frs U)) (Int32.ofNat q) (Int32.ofNat 0) M := by
  obtain ⟨⟨hf, -⟩, ⟨hs20, hlo⟩, hst⟩ := hA.tj
  obtain ⟨⟨a1, a2⟩, ⟨b1, b2'⟩, -, hq39⟩ := hI.rw' h.1.1.1
  have e : doS W t s c j a lo st U i p = sU s t (.inl (c, j, a + 1, lo, st) :: U) := (by obtain ⟨o, r⟩ := i; have ho : o = 0 := ho; subst ho; rfl)
  rw [e, gU_in] at hQ
  unfold w_Model_instruction_j219
  refine ⟨w, h.r45, _, a1, (vp_oN (by omega)).mpr a2, ?_⟩
  rw [oN_tnc (k := q) (by omega)]
  refine itn (by decide) (itn (by decide) (itn (by decide) (itn (by decide) (itn (by decide) (itn (by decide) (itn (by decide) (itn (by decide) (itn (by decide) (itn (by decide) (itn (by decide) (itn (by decide) (itn (by decide) (itn (by decide) (itn (by decide) (itn (by decide) (itn (by decide) (itn (by decide) (itn (by decide) (itn (by decide) (itn (by decide) (itn (by decide) (itn (by decide) (itn (by decide) (itn (by decide) (itn (by decide) (itn (by decide) (itn (by decide) (itn (by decide) (itn (by decide) (itn (by decide) (itn (by decide) (itn (by decide) (itn (by decide) (itn (by decide) (itn (by decide) (itn (by decide) (itn (by decide) (itn (by decide) (itn (by decide) (itn (by decide) (itn (by decide) (itn (by decide) (itn (by decide) (itn (by decide) (itn (by decide) (itn (by decide) (itn (by decide) (itn (by decide) (itn (by decide) (itn (by decide) (itn (by decide) (itn (by decide) (itn (by decide) (itn (by decide) (itn (by decide) (itn (by decide) (itn (by decide) (itn (by decide) (?_)))))))))))))))))))))))))))))))))))))))))))))))))))))))))))
  exact ct_j726 h hf hst hQ
theorem t_1 (hq : TQc W F s) (h : TM G US A S W w br nq nl nf nk B F x bb t s (.inl (c, j, a, lo, st) :: U) M) (hA : At W s t c j a lo st U i) (hI : TI1 A S w nl nf nk nq q n i M) (ho : i.1 = 1) (hQ : ∀ M', TM G US A S W w br nq nl nf nk B F x bb t (doS W t s c j a lo st U i p) (gU (doS W t s c j a lo st U i p) t) M' → Q 1 M') : w_Model_instruction_j219 0 Q (Int32.ofNat (frs U)) (Int32.ofNat q) (Int32.ofNat 1) M := by
  obtain ⟨⟨hf, -⟩, ⟨hs20, hlo⟩, hst⟩ := hA.tj
  obtain ⟨⟨a1, a2⟩, ⟨b1, b2'⟩, -, hq39⟩ := hI.rw' h.1.1.1
  have e : doS W t s c j a lo st U i p = sU s t (.inl (c, j, a + 1, lo, st ++ [(iV i, false)]) :: U) := (by obtain ⟨o, r⟩ := i; have ho : o = 1 := ho; subst ho; rfl)
  rw [e, gU_in] at hQ
  unfold w_Model_instruction_j219
  refine ⟨w, h.r45, _, a1, (vp_oN (by omega)).mpr a2, ?_⟩
  rw [oN_tnc (k := q) (by omega)]
  refine itp rfl ?_
  rw [(hI.pl (by rw [ho]; decide) (by rw [ho]; decide) (by rw [ho]; decide)).1]
  have g := ct_pushT (Q := fun M148 => w_Model_instruction_j726 0 Q (Int32.ofNat (frs U)) M148) (v := iV i) (b := false) h hf (by omega) hst (fun M1 h1 => ct_j726 h1 hf hst hQ)
  rw [tr_f] at g; exact g
theorem t_2 (hq : TQc W F s) (h : TM G US A S W w br nq nl nf nk B F x bb t s (.inl (c, j, a, lo, st) :: U) M) (hA : At W s t c j a lo st U i) (hI : TI1 A S w nl nf nk nq q n i M) (ho : i.1 = 2) (hQ : ∀ M', TM G US A S W w br nq nl nf nk B F x bb t (doS W t s c j a lo st U i p) (gU (doS W t s c j a lo st U i p) t) M' → Q 1 M') : w_Model_instruction_j219 0 Q (Int32.ofNat (frs U)) (Int32.ofNat q) (Int32.ofNat 2) M := by
  obtain ⟨⟨hf, -⟩, ⟨hs20, hlo⟩, hst⟩ := hA.tj
  obtain ⟨⟨a1, a2⟩, ⟨b1, b2'⟩, -, hq39⟩ := hI.rw' h.1.1.1
  have e : doS W t s c j a lo st U i p = sU s t (.inl (c, j, a + 1, lo, st ++ [(0, true)]) :: U) := (by obtain ⟨o, r⟩ := i; have ho : o = 2 := ho; subst ho; rfl)
  rw [e, gU_in] at hQ
  unfold w_Model_instruction_j219
  refine ⟨w, h.r45, _, a1, (vp_oN (by omega)).mpr a2, ?_⟩
  rw [oN_tnc (k := q) (by omega)]
  refine itn (by decide) (itp rfl ?_)
  have g := ct_pushT (Q := fun M148 => w_Model_instruction_j726 0 Q (Int32.ofNat (frs U)) M148) (v := 0) (b := true) h hf (by omega) hst (fun M1 h1 => ct_j726 h1 hf hst hQ)
  rw [tr_0] at g; exact g
theorem t_3 (hq : TQc W F s) (h : TM G US A S W w br nq nl nf nk B F x bb t s (.inl (c, j, a, lo, st) :: U) M) (hA : At W s t c j a lo st U i) (hI : TI1 A S w nl nf nk nq q n i M) (ho : i.1 = 3) (hQ : ∀ M', TM G US A S W w br nq nl nf nk B F x bb t (doS W t s c j a lo st U i p) (gU (doS W t s c j a lo st U i p) t) M' → Q 1 M') : w_Model_instruction_j219 0 Q (Int32.ofNat (frs U)) (Int32.ofNat q) (Int32.ofNat 3) M := by
  obtain ⟨⟨hf, -⟩, ⟨hs20, hlo⟩, hst⟩ := hA.tj
  obtain ⟨⟨a1, a2⟩, ⟨b1, b2'⟩, -, hq39⟩ := hI.rw' h.1.1.1
  have e : doS W t s c j a lo st U i p = sU s t (.inl (c, j, a + 1, lo, st ++ [((lv lo (iL i)).1, false)]) :: U) := (by obtain ⟨o, r⟩ := i; have ho : o = 3 := ho; subst ho; rfl)
  rw [e, gU_in] at hQ
  have ev := (hI.pl (by rw [ho]; decide) (by rw [ho]; decide) (by rw [ho]; decide)).1
  obtain ⟨l, el, hl19⟩ := hA.in.2.2.2.2.2.1.1 (by rw [ho]; decide)
  have eL : iL i = l := by show (iV i).toNatClampNeg = l; rw [el, oN_tnc (by omega)]
  obtain ⟨⟨h1', -⟩, h3, -, ⟨h6, -⟩, -⟩ := hA.in
  have hl : iL i < (k1 W c j a).length := by
    rw [h3.2.2]
    exact Classical.byContradiction (fun z => (takenS_in h6).1 ⟨by rw [ho]; decide, by omega⟩)
  have hfl : (lv lo (iL i)).2 = false := (h1' (iL i) hl).nfl (Classical.byContradiction (fun z => (takenS_in h6).2.2 (Or.inl ⟨Or.inl ho, z⟩)))
  have e176 : mI M 176 (3 * w + t) (44 * frs U + iL i) = tr (lv lo (iL i)).2 (lv lo (iL i)).1 := (h.2.2.1.2.2.2.1.1 (iL i) (by omega)).1
  unfold w_Model_instruction_j219
  refine ⟨w, h.r45, _, a1, (vp_oN (by omega)).mpr a2, ?_⟩
  rw [oN_tnc (k := q) (by omega)]
  refine itn (by decide) (itn (by decide) (itp rfl ?_))
  rw [ev, el, show (44 : Int32) * Int32.ofNat (frs U) = Int32.ofNat (44 * frs U) from oN_mul 44 _, oN_add, ← eL, oN_tnc (k := 44 * frs U + iL i) (by omega)]
  refine ⟨3 * w + t, h.r46, by rw [h.lens.2.2.2.2.2.2.1]; exact (vp_oN (by omega)).mpr (by omega), ?_⟩
  rw [e176, hfl]
  exact ct_pushT (v := (lv lo (iL i)).1) (b := false) h hf (by omega) hst (fun M1 h1 => ct_j726 h1 hf hst hQ)
theorem t_4 (hq : TQc W F s) (h : TM G US A S W w br nq nl nf nk B F x bb t s (.inl (c, j, a, lo, st) :: U) M) (hA : At W s t c j a lo st U i) (hI : TI1 A S w nl nf nk nq q n i M) (ho : i.1 = 4) (hQ : ∀ M', TM G US A S W w br nq nl nf nk B F x bb t (doS W t s c j a lo st U i p) (gU (doS W t s c j a lo st U i p) t) M' → Q 1 M') : w_Model_instruction_j219 0 Q (Int32.ofNat (frs U)) (Int32.ofNat q) (Int32.ofNat 4) M := by
  obtain ⟨⟨hf, -⟩, ⟨hs20, hlo⟩, hst⟩ := hA.tj
  obtain ⟨⟨a1, a2⟩, ⟨b1, b2'⟩, -, hq39⟩ := hI.rw' h.1.1.1
  have e : doS W t s c j a lo st U i p = sU s t (.inl (c, j, a + 1, lo, st ++ [((lv lo (iL i)).1, true)]) :: U) := (by obtain ⟨o, r⟩ := i; have ho : o = 4 := ho; subst ho; rfl)
  rw [e, gU_in] at hQ
  have ev := (hI.pl (by rw [ho]; decide) (by rw [ho]; decide) (by rw [ho]; decide)).1
  obtain ⟨l, el, hl19⟩ := hA.in.2.2.2.2.2.1.1 (by rw [ho]; decide)
  have eL : iL i = l := by show (iV i).toNatClampNeg = l; rw [el, oN_tnc (by omega)]
  obtain ⟨⟨h1', -⟩, h3, -, ⟨h6, -⟩, -⟩ := hA.in
  have hl : iL i < (k1 W c j a).length := by
    rw [h3.2.2]
    exact Classical.byContradiction (fun z => (takenS_in h6).1 ⟨by rw [ho]; decide, by omega⟩)
  have hfl : (lv lo (iL i)).2 = true := by
    refine (h1' (iL i) hl).fl (Classical.byContradiction (fun z => (takenS_in h6).2.2 (Or.inr ⟨ho, ?_⟩)))
    rw [not_or] at z
    exact ⟨by simpa using z.1, by simpa using z.2⟩
  have e176 : mI M 176 (3 * w + t) (44 * frs U + iL i) = tr (lv lo (iL i)).2 (lv lo (iL i)).1 := (h.2.2.1.2.2.2.1.1 (iL i) (by omega)).1
  unfold w_Model_instruction_j219
  refine ⟨w, h.r45, _, a1, (vp_oN (by omega)).mpr a2, ?_⟩
  rw [oN_tnc (k := q) (by omega)]
  refine itn (by decide) (itn (by decide) (itn (by decide) (itp rfl ?_)))
  rw [ev, el, show (44 : Int32) * Int32.ofNat (frs U) = Int32.ofNat (44 * frs U) from oN_mul 44 _, oN_add, ← eL, oN_tnc (k := 44 * frs U + iL i) (by omega)]
  refine ⟨3 * w + t, h.r46, by rw [h.lens.2.2.2.2.2.2.1]; exact (vp_oN (by omega)).mpr (by omega), ?_⟩
  rw [e176, hfl]
  exact ct_pushT (v := (lv lo (iL i)).1) (b := true) h hf (by omega) hst (fun M1 h1 => ct_j726 h1 hf hst hQ)
theorem t_5 (hq : TQc W F s) (h : TM G US A S W w br nq nl nf nk B F x bb t s (.inl (c, j, a, lo, st) :: U) M) (hA : At W s t c j a lo st U i) (hI : TI1 A S w nl nf nk nq q n i M) (ho : i.1 = 5) (hQ : ∀ M', TM G US A S W w br nq nl nf nk B F x bb t (doS W t s c j a lo st U i p) (gU (doS W t s c j a lo st U i p) t) M' → Q 1 M') : w_Model_instruction_j219 0 Q (Int32.ofNat (frs U)) (Int32.ofNat q) (Int32.ofNat 5) M := by
  obtain ⟨⟨hf, -⟩, ⟨hs20, hlo⟩, hst⟩ := hA.tj
  obtain ⟨⟨a1, a2⟩, ⟨b1, b2'⟩, -, hq39⟩ := hI.rw' h.1.1.1
  have e : doS W t s c j a lo st U i p = sU s t (.inl (c, j, a + 1, lo.set (iL i) ((tv st 0).1, false), drp st 1) :: U) := (by obtain ⟨o, r⟩ := i; have ho : o = 5 := ho; subst ho; rfl)
  rw [e, gU_in] at hQ
  have ev := (hI.pl (by rw [ho]; decide) (by rw [ho]; decide) (by rw [ho]; decide)).1
  obtain ⟨l, el, hl19⟩ := hA.in.2.2.2.2.2.1.1 (by rw [ho]; decide)
  have eL : iL i = l := by show (iV i).toNatClampNeg = l; rw [el, oN_tnc (by omega)]
  obtain ⟨tl, tk⟩ := hA.tk (ws := [wNum]) (by obtain ⟨o, r⟩ := i; have ho : o = 5 := ho; subst ho; rfl)
  have hfl : (tv st 0).2 = false := (tk 0 (by simp)).2.nfl (wOne_num (tk 0 (by simp)).1)
  have hs : 1 ≤ st.length := by
    have := hA.in.1.2.1
    have tl : 1 ≤ (k2 W c j a).length := tl
    omega
  unfold w_Model_instruction_j219
  refine ⟨w, h.r45, _, a1, (vp_oN (by omega)).mpr a2, ?_⟩
  rw [oN_tnc (k := q) (by omega)]
  refine itn (by decide) (itn (by decide) (itn (by decide) (itn (by decide) (itp rfl ?_))))
  rw [ev, el, show (44 : Int32) * Int32.ofNat (frs U) = Int32.ofNat (44 * frs U) from oN_mul 44 _, oN_add, ← eL, oN_tnc (k := 44 * frs U + iL i) (by omega)]
  refine ⟨3 * w + t, h.r46, ct_popT h hf hs (by omega) hst (fun M1 h1 => ?_)⟩
  rw [hfl]
  refine ⟨by rw [h1.lens.2.2.2.2.2.2.1]; exact (vp_oN (by omega)).mpr (by omega), _, rfl, 3 * w + t, h1.r46, by show vp_in _ (mL M1 525 _); rw [h1.lens.2.2.2.2.2.2.2]; exact (vp_oN (by omega)).mpr (by omega), _, rfl, ?_⟩
  exact ct_j726 (h1.setl (v := (tv st 0).1) (b := false) hst (by omega) hlo) hf hst hQ
theorem t_6 (hq : TQc W F s) (h : TM G US A S W w br nq nl nf nk B F x bb t s (.inl (c, j, a, lo, st) :: U) M) (hA : At W s t c j a lo st U i) (hI : TI1 A S w nl nf nk nq q n i M) (ho : i.1 = 6) (hQ : ∀ M', TM G US A S W w br nq nl nf nk B F x bb t (doS W t s c j a lo st U i p) (gU (doS W t s c j a lo st U i p) t) M' → Q 1 M') : w_Model_instruction_j219 0 Q (Int32.ofNat (frs U)) (Int32.ofNat q) (Int32.ofNat 6) M := by
  obtain ⟨⟨hf, -⟩, ⟨hs20, hlo⟩, hst⟩ := hA.tj
  obtain ⟨⟨a1, a2⟩, ⟨b1, b2'⟩, -, hq39⟩ := hI.rw' h.1.1.1
  have e : doS W t s c j a lo st U i p = sU s t (.inl (c, j, a + 1, lo.set (iL i) ((tv st 0).1, true), drp st 1) :: U) := (by obtain ⟨o, r⟩ := i; have ho : o = 6 := ho; subst ho; rfl)
  rw [e, gU_in] at hQ
  have ev := (hI.pl (by rw [ho]; decide) (by rw [ho]; decide) (by rw [ho]; decide)).1
  obtain ⟨l, el, hl19⟩ := hA.in.2.2.2.2.2.1.1 (by rw [ho]; decide)
  have eL : iL i = l := by show (iV i).toNatClampNeg = l; rw [el, oN_tnc (by omega)]
  have hfl := fl_6 hA ho
  obtain ⟨tl, tk⟩ := hA.tk (ws := [wSto]) (by obtain ⟨o, r⟩ := i; have ho : o = 6 := ho; subst ho; rfl)
  have hs : 1 ≤ st.length := by
    have := hA.in.1.2.1
    have tl : 1 ≤ (k2 W c j a).length := tl
    omega
  unfold w_Model_instruction_j219
  refine ⟨w, h.r45, _, a1, (vp_oN (by omega)).mpr a2, ?_⟩
  rw [oN_tnc (k := q) (by omega)]
  refine itn (by decide) (itn (by decide) (itn (by decide) (itn (by decide) (itn (by decide) (itp rfl ?_)))))
  rw [ev, el, show (44 : Int32) * Int32.ofNat (frs U) = Int32.ofNat (44 * frs U) from oN_mul 44 _, oN_add, ← eL, oN_tnc (k := 44 * frs U + iL i) (by omega)]
  refine ⟨3 * w + t, h.r46, ct_popT h hf hs (by omega) hst (fun M1 h1 => ?_)⟩
  rw [hfl]
  refine ⟨by rw [h1.lens.2.2.2.2.2.2.1]; exact (vp_oN (by omega)).mpr (by omega), _, rfl, 3 * w + t, h1.r46, by show vp_in _ (mL M1 525 _); rw [h1.lens.2.2.2.2.2.2.2]; exact (vp_oN (by omega)).mpr (by omega), _, rfl, ?_⟩
  exact ct_j726 (h1.setl (v := (tv st 0).1) (b := true) hst (by omega) hlo) hf hst hQ
theorem t_7 (hq : TQc W F s) (h : TM G US A S W w br nq nl nf nk B F x bb t s (.inl (c, j, a, lo, st) :: U) M) (hA : At W s t c j a lo st U i) (hI : TI1 A S w nl nf nk nq q n i M) (ho : i.1 = 7) (hQ : ∀ M', TM G US A S W w br nq nl nf nk B F x bb t (doS W t s c j a lo st U i p) (gU (doS W t s c j a lo st U i p) t) M' → Q 1 M') : w_Model_instruction_j219 0 Q (Int32.ofNat (frs U)) (Int32.ofNat q) (Int32.ofNat 7) M := by
  obtain ⟨⟨hf, -⟩, ⟨hs20, hlo⟩, hst⟩ := hA.tj
  obtain ⟨⟨a1, a2⟩, ⟨b1, b2'⟩, -, hq39⟩ := hI.rw' h.1.1.1
  have e : doS W t s c j a lo st U i p = sU s t (.inl (c, j, a + 1, lo.set (iL i) ((lv lo (iL i)).1 + i.2.2.1, (lv lo (iL i)).2), st) :: U) := (by obtain ⟨o, r⟩ := i; have ho : o = 7 := ho; subst ho; rfl)
  rw [e, gU_in] at hQ
  obtain ⟨ev, ew⟩ := hI.pl (by rw [ho]; decide) (by rw [ho]; decide) (by rw [ho]; decide)
  obtain ⟨l, el, hl19⟩ := hA.in.2.2.2.2.2.1.1 (by rw [ho]; decide)
  have eL : iL i = l := by show (iV i).toNatClampNeg = l; rw [el, oN_tnc (by omega)]
  obtain ⟨⟨h1', -⟩, h3, -, ⟨h6, -⟩, -⟩ := hA.in
  have hl : iL i < (k1 W c j a).length := by
    rw [h3.2.2]
    exact Classical.byContradiction (fun z => (takenS_in h6).1 ⟨by rw [ho]; decide, by omega⟩)
  have hfl : (lv lo (iL i)).2 = false := (h1' (iL i) hl).nfl (Classical.byContradiction (fun z => (takenS_in h6).2.2 (Or.inl ⟨Or.inr ho, z⟩)))
  have e176 : mI M 176 (3 * w + t) (44 * frs U + iL i) = (lv lo (iL i)).1 := by have := (h.2.2.1.2.2.2.1.1 (iL i) (by omega)).1; rw [hfl, tr_f] at this; exact this
  have e525 : mI M 525 (3 * w + t) (44 * frs U + iL i) = b2 false := by have := (h.2.2.1.2.2.2.1.1 (iL i) (by omega)).2; rw [hfl] at this; exact this
  unfold w_Model_instruction_j219
  refine ⟨w, h.r45, _, a1, (vp_oN (by omega)).mpr a2, ?_⟩
  rw [oN_tnc (k := q) (by omega)]
  refine itn (by decide) (itn (by decide) (itn (by decide) (itn (by decide) (itn (by decide) (itn (by decide) (itp rfl ?_))))))
  rw [ev, el, show (44 : Int32) * Int32.ofNat (frs U) = Int32.ofNat (44 * frs U) from oN_mul 44 _, oN_add, ← eL, oN_tnc (k := 44 * frs U + iL i) (by omega)]
  have vl : vp_in (Int32.ofNat (44 * frs U + iL i)) (mL M 176 (3 * w + t)) := by rw [h.lens.2.2.2.2.2.2.1]; exact (vp_oN (by omega)).mpr (by omega)
  refine ⟨3 * w + t, h.r46, vl, w, h.r45, _, b1, (vp_oN (by omega)).mpr b2', vl, _, rfl, ?_⟩
  rw [e176, ew]
  have g := h.setl (v := (lv lo (iL i)).1 + i.2.2.1) (b := false) hst (show iL i < 20 by omega) hlo
  rw [tr_f] at g
  have e2 : sI (sI M 176 (3 * w + t) (44 * frs U + iL i) ((lv lo (iL i)).1 + i.2.2.1)) 525 (3 * w + t) (44 * frs U + iL i) (b2 false) = sI M 176 (3 * w + t) (44 * frs U + iL i) ((lv lo (iL i)).1 + i.2.2.1) := sI_same (by rw [mI_sI, if_neg (fun z => absurd z.1 (by decide))]; exact e525)
  rw [e2] at g
  rw [hfl] at hQ
  exact ct_j726 g hf hst hQ
theorem t_19 (hq : TQc W F s) (h : TM G US A S W w br nq nl nf nk B F x bb t s (.inl (c, j, a, lo, st) :: U) M) (hA : At W s t c j a lo st U i) (hI : TI1 A S w nl nf nk nq q n i M) (ho : i.1 = 19) (hQ : ∀ M', TM G US A S W w br nq nl nf nk B F x bb t (doS W t s c j a lo st U i p) (gU (doS W t s c j a lo st U i p) t) M' → Q 1 M') : w_Model_instruction_j219 0 Q (Int32.ofNat (frs U)) (Int32.ofNat q) (Int32.ofNat 19) M := by
  obtain ⟨⟨hf, -⟩, ⟨hs20, hlo⟩, hst⟩ := hA.tj
  obtain ⟨⟨a1, a2⟩, ⟨b1, b2'⟩, -, hq39⟩ := hI.rw' h.1.1.1
  have e : doS W t s c j a lo st U i p = sU s t (.inl (c, j, a + 1, lo, drp st 1) :: U) := (by obtain ⟨o, r⟩ := i; have ho : o = 19 := ho; subst ho; rfl)
  rw [e, gU_in] at hQ
  obtain ⟨tl, -⟩ := hA.tk (ws := [wAny]) (by obtain ⟨o, r⟩ := i; have ho : o = 19 := ho; subst ho; rfl)
  have hs : 1 ≤ st.length := by
    have := hA.in.1.2.1
    have tl : 1 ≤ (k2 W c j a).length := tl
    omega
  unfold w_Model_instruction_j219
  refine ⟨w, h.r45, _, a1, (vp_oN (by omega)).mpr a2, ?_⟩
  rw [oN_tnc (k := q) (by omega)]
  refine itn (by decide) (itn (by decide) (itn (by decide) (itn (by decide) (itn (by decide) (itn (by decide) (itn (by decide) (itn (by decide) (itn (by decide) (itn (by decide) (itn (by decide) (itn (by decide) (itn (by decide) (itn (by decide) (itn (by decide) (itn (by decide) (itn (by decide) (itn (by decide) (itp rfl ?_))))))))))))))))))
  exact ct_popT h hf hs (by omega) hst (fun M1 h1 => ct_j726 h1 hf hst hQ)
theorem t_20 (hq : TQc W F s) (h : TM G US A S W w br nq nl nf nk B F x bb t s (.inl (c, j, a, lo, st) :: U) M) (hA : At W s t c j a lo st U i) (hI : TI1 A S w nl nf nk nq q n i M) (ho : i.1 = 20) (hQ : ∀ M', TM G US A S W w br nq nl nf nk B F x bb t (doS W t s c j a lo st U i p) (gU (doS W t s c j a lo st U i p) t) M' → Q 1 M') : w_Model_instruction_j219 0 Q (Int32.ofNat (frs U)) (Int32.ofNat q) (Int32.ofNat 20) M := by
  obtain ⟨⟨hf, -⟩, ⟨hs20, hlo⟩, hst⟩ := hA.tj
  obtain ⟨⟨a1, a2⟩, ⟨b1, b2'⟩, -, hq39⟩ := hI.rw' h.1.1.1
  have e : doS W t s c j a lo st U i p = sU s t (.inl (c, j, a + 1, lo, st ++ [tv st 0]) :: U) := (by obtain ⟨o, r⟩ := i; have ho : o = 20 := ho; subst ho; rfl)
  rw [e, gU_in] at hQ
  obtain ⟨tl, -⟩ := hA.tk (ws := [wAny]) (by obtain ⟨o, r⟩ := i; have ho : o = 20 := ho; subst ho; rfl)
  have hs : 1 ≤ st.length := by
    have := hA.in.1.2.1
    have tl : 1 ≤ (k2 W c j a).length := tl
    omega
  unfold w_Model_instruction_j219
  refine ⟨w, h.r45, _, a1, (vp_oN (by omega)).mpr a2, ?_⟩
  rw [oN_tnc (k := q) (by omega)]
  refine itn (by decide) (itn (by decide) (itn (by decide) (itn (by decide) (itn (by decide) (itn (by decide) (itn (by decide) (itn (by decide) (itn (by decide) (itn (by decide) (itn (by decide) (itn (by decide) (itn (by decide) (itn (by decide) (itn (by decide) (itn (by decide) (itn (by decide) (itn (by decide) (itn (by decide) (itp rfl ?_)))))))))))))))))))
  unfold w_Model_turnStep
  refine ct_topRefers h hf (by omega) (by omega) (ct_popT h hf (by omega) (by omega) hst (fun M1 h1 => ?_))
  have d1 : (drp st 1).length = st.length - 1 := drp_len
  have d2 : (drp st 2).length = st.length - 2 := drp_len
  refine itp rfl (ct_pushT (v := (tv st 0).1) (b := (tv st 0).2) h1 hf (by omega) hst (fun M2 h2 => ?_))
  have h2 : TM G US A S W w br nq nl nf nk B F x bb t s (.inl (c, j, a, lo, drp st 1 ++ [tv st 0]) :: U) M2 := h2
  rw [app_tv (by omega)] at h2
  exact ct_pushT (v := (tv st 0).1) (b := (tv st 0).2) h2 hf (by omega) hst (fun M3 h3 => ct_j726 h3 hf hst hQ)
theorem t_21 (hq : TQc W F s) (h : TM G US A S W w br nq nl nf nk B F x bb t s (.inl (c, j, a, lo, st) :: U) M) (hA : At W s t c j a lo st U i) (hI : TI1 A S w nl nf nk nq q n i M) (ho : i.1 = 21) (hQ : ∀ M', TM G US A S W w br nq nl nf nk B F x bb t (doS W t s c j a lo st U i p) (gU (doS W t s c j a lo st U i p) t) M' → Q 1 M') : w_Model_instruction_j219 0 Q (Int32.ofNat (frs U)) (Int32.ofNat q) (Int32.ofNat 21) M := by
  obtain ⟨⟨hf, -⟩, ⟨hs20, hlo⟩, hst⟩ := hA.tj
  obtain ⟨⟨a1, a2⟩, ⟨b1, b2'⟩, -, hq39⟩ := hI.rw' h.1.1.1
  have e : doS W t s c j a lo st U i p = sU s t (.inl (c, j, a + 1, lo, drp st 2 ++ [tv st 0, tv st 1, tv st 0]) :: U) := (by obtain ⟨o, r⟩ := i; have ho : o = 21 := ho; subst ho; rfl)
  rw [e, gU_in] at hQ
  obtain ⟨tl, -⟩ := hA.tk (ws := [wAny, wAny]) (by obtain ⟨o, r⟩ := i; have ho : o = 21 := ho; subst ho; rfl)
  have hs : 2 ≤ st.length := by
    have := hA.in.1.2.1
    have tl : 2 ≤ (k2 W c j a).length := tl
    omega
  unfold w_Model_instruction_j219
  refine ⟨w, h.r45, _, a1, (vp_oN (by omega)).mpr a2, ?_⟩
  rw [oN_tnc (k := q) (by omega)]
  refine itn (by decide) (itn (by decide) (itn (by decide) (itn (by decide) (itn (by decide) (itn (by decide) (itn (by decide) (itn (by decide) (itn (by decide) (itn (by decide) (itn (by decide) (itn (by decide) (itn (by decide) (itn (by decide) (itn (by decide) (itn (by decide) (itn (by decide) (itn (by decide) (itn (by decide) (itn (by decide) (itp rfl ?_))))))))))))))))))))
  unfold w_Model_turnStep
  refine ct_topRefers h hf (by omega) (by omega) (ct_popT h hf (by omega) (by omega) hst (fun M1 h1 => ?_))
  have d1 : (drp st 1).length = st.length - 1 := drp_len
  have d2 : (drp st 2).length = st.length - 2 := drp_len
  refine itn (by decide) (ct_topRefers h1 hf (by omega) (by omega) (ct_popT h1 hf (by omega) (by omega) hst (fun M2 h2 => ?_)))
  rw [tv_drp hs]
  rw [drp_drp] at h2
  refine ct_pushT (v := (tv st 0).1) (b := (tv st 0).2) h2 hf (by omega) hst (fun M3 h3 => ?_)
  refine ct_pushT (v := (tv st 1).1) (b := (tv st 1).2) h3 hf (by rw [List.length_append, d2, List.length_singleton]; omega) hst (fun M4 h4 => ?_)
  rw [List.append_assoc] at h4
  refine itp rfl (ct_pushT (v := (tv st 0).1) (b := (tv st 0).2) h4 hf (by rw [List.length_append, d2]; show st.length - 2 + 2 < 24; omega) hst (fun M5 h5 => ?_))
  rw [List.append_assoc] at h5
  exact ct_j726 h5 hf hst hQ
theorem t_22 (hq : TQc W F s) (h : TM G US A S W w br nq nl nf nk B F x bb t s (.inl (c, j, a, lo, st) :: U) M) (hA : At W s t c j a lo st U i) (hI : TI1 A S w nl nf nk nq q n i M) (ho : i.1 = 22) (hQ : ∀ M', TM G US A S W w br nq nl nf nk B F x bb t (doS W t s c j a lo st U i p) (gU (doS W t s c j a lo st U i p) t) M' → Q 1 M') : w_Model_instruction_j219 0 Q (Int32.ofNat (frs U)) (Int32.ofNat q) (Int32.ofNat 22) M := by
  obtain ⟨⟨hf, -⟩, ⟨hs20, hlo⟩, hst⟩ := hA.tj
  obtain ⟨⟨a1, a2⟩, ⟨b1, b2'⟩, -, hq39⟩ := hI.rw' h.1.1.1
  have e : doS W t s c j a lo st U i p = sU s t (.inl (c, j, a + 1, lo, drp st 2 ++ [tv st 0, tv st 1]) :: U) := (by obtain ⟨o, r⟩ := i; have ho : o = 22 := ho; subst ho; rfl)
  rw [e, gU_in] at hQ
  obtain ⟨tl, -⟩ := hA.tk (ws := [wAny, wAny]) (by obtain ⟨o, r⟩ := i; have ho : o = 22 := ho; subst ho; rfl)
  have hs : 2 ≤ st.length := by
    have := hA.in.1.2.1
    have tl : 2 ≤ (k2 W c j a).length := tl
    omega
  unfold w_Model_instruction_j219
  refine ⟨w, h.r45, _, a1, (vp_oN (by omega)).mpr a2, ?_⟩
  rw [oN_tnc (k := q) (by omega)]
  refine itn (by decide) (itn (by decide) (itn (by decide) (itn (by decide) (itn (by decide) (itn (by decide) (itn (by decide) (itn (by decide) (itn (by decide) (itn (by decide) (itn (by decide) (itn (by decide) (itn (by decide) (itn (by decide) (itn (by decide) (itn (by decide) (itn (by decide) (itn (by decide) (itn (by decide) (itn (by decide) (itn (by decide) (itp rfl ?_)))))))))))))))))))))
  unfold w_Model_turnStep
  refine ct_topRefers h hf (by omega) (by omega) (ct_popT h hf (by omega) (by omega) hst (fun M1 h1 => ?_))
  have d1 : (drp st 1).length = st.length - 1 := drp_len
  have d2 : (drp st 2).length = st.length - 2 := drp_len
  refine itn (by decide) (ct_topRefers h1 hf (by omega) (by omega) (ct_popT h1 hf (by omega) (by omega) hst (fun M2 h2 => ?_)))
  rw [tv_drp hs]
  rw [drp_drp] at h2
  refine ct_pushT (v := (tv st 0).1) (b := (tv st 0).2) h2 hf (by omega) hst (fun M3 h3 => ?_)
  refine ct_pushT (v := (tv st 1).1) (b := (tv st 1).2) h3 hf (by rw [List.length_append, d2, List.length_singleton]; omega) hst (fun M4 h4 => ?_)
  rw [List.append_assoc] at h4
  exact itn (by decide) (ct_j726 h4 hf hst hQ)
theorem t_56 (hq : TQc W F s) (h : TM G US A S W w br nq nl nf nk B F x bb t s (.inl (c, j, a, lo, st) :: U) M) (hA : At W s t c j a lo st U i) (hI : TI1 A S w nl nf nk nq q n i M) (ho : i.1 = 56) (hQ : ∀ M', TM G US A S W w br nq nl nf nk B F x bb t (doS W t s c j a lo st U i p) (gU (doS W t s c j a lo st U i p) t) M' → Q 1 M') : w_Model_instruction_j219 0 Q (Int32.ofNat (frs U)) (Int32.ofNat q) (Int32.ofNat 56) M := by
  obtain ⟨⟨hf, -⟩, ⟨hs20, hlo⟩, hst⟩ := hA.tj
  obtain ⟨⟨a1, a2⟩, ⟨b1, b2'⟩, -, hq39⟩ := hI.rw' h.1.1.1
  have e : doS W t s c j a lo st U i p = if (tv st 0).1 = 0 then failS W t s 2 0 else unw W t (gU s t) (tv st 0).1 s := (by obtain ⟨o, r⟩ := i; have ho : o = 56 := ho; subst ho; rfl)
  rw [e] at hQ
  obtain ⟨tl, tk⟩ := hA.tk (ws := [(0, (2, nFault))]) (by obtain ⟨o, r⟩ := i; have ho : o = 56 := ho; subst ho; rfl)
  have hs : 1 ≤ st.length := by
    have := hA.in.1.2.1
    have tl : 1 ≤ (k2 W c j a).length := tl
    omega
  have hB := hA.1.1.1
  have v0 := (tk 0 (by simp)).2.fit hB (wOne_fit (tk 0 (by simp)).1 (show ¬ (2 : Int) = 0 by decide))
  obtain ⟨hb, hr⟩ := v0.1.2.2.2.1 rfl
  have hv := v0.2 hb
  have hg := hA.2.1
  unfold w_Model_instruction_j219
  refine ⟨w, h.r45, _, a1, (vp_oN (by omega)).mpr a2, ?_⟩
  rw [oN_tnc (k := q) (by omega)]
  refine itn (by decide) (itn (by decide) (itn (by decide) (itn (by decide) (itn (by decide) (itn (by decide) (itn (by decide) (itn (by decide) (itn (by decide) (itn (by decide) (itn (by decide) (itn (by decide) (itn (by decide) (itn (by decide) (itn (by decide) (itn (by decide) (itn (by decide) (itn (by decide) (itn (by decide) (itn (by decide) (itn (by decide) (itn (by decide) (itn (by decide) (itn (by decide) (itn (by decide) (itn (by decide) (itn (by decide) (itn (by decide) (itn (by decide) (itn (by decide) (itn (by decide) (itn (by decide) (itn (by decide) (itn (by decide) (itn (by decide) (itn (by decide) (itn (by decide) (itn (by decide) (itn (by decide) (itn (by decide) (itn (by decide) (itn (by decide) (itn (by decide) (itn (by decide) (itn (by decide) (itn (by decide) (itn (by decide) (itn (by decide) (itn (by decide) (itn (by decide) (itn (by decide) (itn (by decide) (itn (by decide) (itn (by decide) (itn (by decide) (itp rfl ?_)))))))))))))))))))))))))))))))))))))))))))))))))))))))
  refine ct_popT h hf hs (by omega) hst (fun M1 h1 => ?_)
  rw [hb]
  have hgs : gU (sU s t (.inl (c, j, a, lo, drp st 1) :: U)) t = .inl (c, j, a, lo, drp st 1) :: U := gU_sU
  by_cases c0 : (tv st 0).1 = 0
  · rw [if_pos c0] at hQ
    refine itp ((tr_ne0 hv).mpr c0) ?_
    exact ct_throwD (f := 2) (ru := 0) hq h1 hA (by omega) (by omega) hQ
  · rw [if_neg c0] at hQ
    refine itn (fun z => c0 ((tr_ne0 hv).mp z)) ?_
    obtain ⟨d, hd, hr⟩ := hr.resolve_left c0
    have hd : fnd W nFault = some d := hd
    rw [hB.fault] at hd; cases hd
    rcases hr with z | z | ⟨e', he, hp⟩
    · rw [hB.nface (by omega)] at z; cases z
    · cases z
    · have hl := (clR_lk hB hA.1.2.1.1.1 hv c0 he).1
      exact ct_unwD hq h1 hA ⟨hv, e', he, hl, hp⟩ c0 hQ
theorem t_57 (hq : TQc W F s) (h : TM G US A S W w br nq nl nf nk B F x bb t s (.inl (c, j, a, lo, st) :: U) M) (hA : At W s t c j a lo st U i) (hI : TI1 A S w nl nf nk nq q n i M) (ho : i.1 = 57) (hQ : ∀ M', TM G US A S W w br nq nl nf nk B F x bb t (doS W t s c j a lo st U i p) (gU (doS W t s c j a lo st U i p) t) M' → Q 1 M') : w_Model_instruction_j219 0 Q (Int32.ofNat (frs U)) (Int32.ofNat q) (Int32.ofNat 57) M := by
  obtain ⟨⟨hf, -⟩, ⟨hs20, hlo⟩, hst⟩ := hA.tj
  obtain ⟨⟨a1, a2⟩, ⟨b1, b2'⟩, -, hq39⟩ := hI.rw' h.1.1.1
  have hK := a_57 (q := p) hA ho
  have e : doS W t s c j a lo st U i p = leaveS s t c j 57 0 U := (by obtain ⟨o, r⟩ := i; have ho : o = 57 := ho; subst ho; rfl)
  rw [e] at hQ hK
  unfold w_Model_instruction_j219
  refine ⟨w, h.r45, _, a1, (vp_oN (by omega)).mpr a2, ?_⟩
  rw [oN_tnc (k := q) (by omega)]
  refine itn (by decide) (itn (by decide) (itn (by decide) (itn (by decide) (itn (by decide) (itn (by decide) (itn (by decide) (itn (by decide) (itn (by decide) (itn (by decide) (itn (by decide) (itn (by decide) (itn (by decide) (itn (by decide) (itn (by decide) (itn (by decide) (itn (by decide) (itn (by decide) (itn (by decide) (itn (by decide) (itn (by decide) (itn (by decide) (itn (by decide) (itn (by decide) (itn (by decide) (itn (by decide) (itn (by decide) (itn (by decide) (itn (by decide) (itn (by decide) (itn (by decide) (itn (by decide) (itn (by decide) (itn (by decide) (itn (by decide) (itn (by decide) (itn (by decide) (itn (by decide) (itn (by decide) (itn (by decide) (itn (by decide) (itn (by decide) (itn (by decide) (itn (by decide) (itn (by decide) (itn (by decide) (itn (by decide) (itn (by decide) (itn (by decide) (itn (by decide) (itn (by decide) (itn (by decide) (itn (by decide) (itn (by decide) (itn (by decide) (itn (by decide) (itp rfl ?_))))))))))))))))))))))))))))))))))))))))))))))))))))))))
  have g := ct_endFrame (op := 57) (v := 0) (Q := fun M103 => Q 1 M103) hA.1.1 hq.2.1 h hA (Or.inl rfl) (fun _ => rfl) (fun z => absurd z (by decide)) hK hQ
  rw [show decide ((57 : Nat) = 59) = false from rfl, tr_f] at g; exact g
theorem t_58 (hq : TQc W F s) (h : TM G US A S W w br nq nl nf nk B F x bb t s (.inl (c, j, a, lo, st) :: U) M) (hA : At W s t c j a lo st U i) (hI : TI1 A S w nl nf nk nq q n i M) (ho : i.1 = 58) (hQ : ∀ M', TM G US A S W w br nq nl nf nk B F x bb t (doS W t s c j a lo st U i p) (gU (doS W t s c j a lo st U i p) t) M' → Q 1 M') : w_Model_instruction_j219 0 Q (Int32.ofNat (frs U)) (Int32.ofNat q) (Int32.ofNat 58) M := by
  obtain ⟨⟨hf, -⟩, ⟨hs20, hlo⟩, hst⟩ := hA.tj
  obtain ⟨⟨a1, a2⟩, ⟨b1, b2'⟩, -, hq39⟩ := hI.rw' h.1.1.1
  have hK := a_58 (q := p) hA ho
  have e : doS W t s c j a lo st U i p = leaveS s t c j 58 (tv st 0).1 U := (by obtain ⟨o, r⟩ := i; have ho : o = 58 := ho; subst ho; rfl)
  rw [e] at hQ hK
  obtain ⟨tl, tk⟩ := hA.tk (ws := [wNum]) (by obtain ⟨o, r⟩ := i; have ho : o = 58 := ho; subst ho; rfl)
  have hfl : (tv st 0).2 = false := (tk 0 (by simp)).2.nfl (wOne_num (tk 0 (by simp)).1)
  have hs : 1 ≤ st.length := by
    have := hA.in.1.2.1
    have tl : 1 ≤ (k2 W c j a).length := tl
    omega
  unfold w_Model_instruction_j219
  refine ⟨w, h.r45, _, a1, (vp_oN (by omega)).mpr a2, ?_⟩
  rw [oN_tnc (k := q) (by omega)]
  refine itn (by decide) (itn (by decide) (itn (by decide) (itn (by decide) (itn (by decide) (itn (by decide) (itn (by decide) (itn (by decide) (itn (by decide) (itn (by decide) (itn (by decide) (itn (by decide) (itn (by decide) (itn (by decide) (itn (by decide) (itn (by decide) (itn (by decide) (itn (by decide) (itn (by decide) (itn (by decide) (itn (by decide) (itn (by decide) (itn (by decide) (itn (by decide) (itn (by decide) (itn (by decide) (itn (by decide) (itn (by decide) (itn (by decide) (itn (by decide) (itn (by decide) (itn (by decide) (itn (by decide) (itn (by decide) (itn (by decide) (itn (by decide) (itn (by decide) (itn (by decide) (itn (by decide) (itn (by decide) (itn (by decide) (itn (by decide) (itn (by decide) (itn (by decide) (itn (by decide) (itn (by decide) (itn (by decide) (itn (by decide) (itn (by decide) (itn (by decide) (itn (by decide) (itn (by decide) (itn (by decide) (itn (by decide) (itn (by decide) (itn (by decide) (itn (by decide) (itp rfl ?_)))))))))))))))))))))))))))))))))))))))))))))))))))))))))
  refine ct_popT h hf hs (by omega) hst (fun M1 h1 => ?_)
  rw [hfl]
  exact ct_endFrame (op := 58) (v := (tv st 0).1) (Q := fun M103 => Q 1 M103) hA.1.1 hq.2.1 h1 hA (Or.inr (Or.inl rfl)) (fun z => absurd z (by decide)) (fun z => absurd z (by decide)) hK hQ
theorem t_59 (hq : TQc W F s) (h : TM G US A S W w br nq nl nf nk B F x bb t s (.inl (c, j, a, lo, st) :: U) M) (hA : At W s t c j a lo st U i) (hI : TI1 A S w nl nf nk nq q n i M) (ho : i.1 = 59) (hQ : ∀ M', TM G US A S W w br nq nl nf nk B F x bb t (doS W t s c j a lo st U i p) (gU (doS W t s c j a lo st U i p) t) M' → Q 1 M') : w_Model_instruction_j219 0 Q (Int32.ofNat (frs U)) (Int32.ofNat q) (Int32.ofNat 59) M := by
  obtain ⟨⟨hf, -⟩, ⟨hs20, hlo⟩, hst⟩ := hA.tj
  obtain ⟨⟨a1, a2⟩, ⟨b1, b2'⟩, -, hq39⟩ := hI.rw' h.1.1.1
  have hK := a_59 (q := p) hA ho
  have e : doS W t s c j a lo st U i p = leaveS s t c j 59 (tv st 0).1 U := (by obtain ⟨o, r⟩ := i; have ho : o = 59 := ho; subst ho; rfl)
  rw [e] at hQ hK
  obtain ⟨tl, hfl, hvr⟩ := fl_59 hA ho
  have hs : 1 ≤ st.length := by
    have := hA.in.1.2.1
    have tl : 1 ≤ (k2 W c j a).length := tl
    omega
  unfold w_Model_instruction_j219
  refine ⟨w, h.r45, _, a1, (vp_oN (by omega)).mpr a2, ?_⟩
  rw [oN_tnc (k := q) (by omega)]
  refine itn (by decide) (itn (by decide) (itn (by decide) (itn (by decide) (itn (by decide) (itn (by decide) (itn (by decide) (itn (by decide) (itn (by decide) (itn (by decide) (itn (by decide) (itn (by decide) (itn (by decide) (itn (by decide) (itn (by decide) (itn (by decide) (itn (by decide) (itn (by decide) (itn (by decide) (itn (by decide) (itn (by decide) (itn (by decide) (itn (by decide) (itn (by decide) (itn (by decide) (itn (by decide) (itn (by decide) (itn (by decide) (itn (by decide) (itn (by decide) (itn (by decide) (itn (by decide) (itn (by decide) (itn (by decide) (itn (by decide) (itn (by decide) (itn (by decide) (itn (by decide) (itn (by decide) (itn (by decide) (itn (by decide) (itn (by decide) (itn (by decide) (itn (by decide) (itn (by decide) (itn (by decide) (itn (by decide) (itn (by decide) (itn (by decide) (itn (by decide) (itn (by decide) (itn (by decide) (itn (by decide) (itn (by decide) (itn (by decide) (itn (by decide) (itn (by decide) (itn (by decide) (itp rfl ?_))))))))))))))))))))))))))))))))))))))))))))))))))))))))))
  refine ct_popT h hf hs (by omega) hst (fun M1 h1 => ?_)
  rw [hfl]
  exact ct_endFrame (op := 59) (v := (tv st 0).1) (Q := fun M103 => Q 1 M103) hA.1.1 hq.2.1 h1 hA (Or.inr (Or.inr rfl)) (fun z => absurd z (by decide)) (fun _ => hvr) hK hQ
end
