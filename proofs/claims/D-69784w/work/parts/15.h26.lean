/-! THE MACHINE IN THE TWIN: fields (printed by gen/tg.py) -/
section
variable {G : List Sl} {US : UST} {A : List Nm} {S : List Sg} {W : List Cls} {w c j a k t L q n d : Nat} {br x r v e : Int32} {bb : Bool} {nq nl nf nk B F op : Nat} {M M' : Mem} {s s' : Ms} {U V : List Un} {lo st lo' st' : List Vl} {o : Option Kd} {Q : Int32 → Mem → Prop} {i : Ins} {p : Nat × Nat}
theorem At.cj (hA : At W s t c j a lo st U i) : c < W.length ∧ j < (gc W c).2.2.2.2.2.length := by
  obtain ⟨⟨hF, -, -⟩, -, -⟩ := hA.1.2.1.2.2.2.1
  exact ⟨hF.1.2.1, hF.2.1⟩
theorem TM.fldT (h : TM G US A S W w br nq nl nf nk B F x bb t s V M) (h1 : p.1 < W.length) (h2 : p.2 < (gc W p.1).2.2.2.2.1.length) (hty : tyOk (gfl (gc W p.1) p.2).2.1) : (8 * p.1 + p.2 < 408 ∧ mL M 140 w = 408 ∧ mL M 143 w = 408) ∧ (mI M 140 w (8 * p.1 + p.2) = 1 ↔ (gfl (gc W p.1) p.2).2.1.1 = 0) := by
  have h51 := h.1.1.1.l51
  have hLA := h.1.1.1.2.2.1
  obtain ⟨⟨-, l140, -, -, -, l143⟩, hf⟩ := h.1.1.1.1.1.1.2.1
  obtain ⟨⟨-, h8⟩, hf⟩ := hf p.1 h1
  obtain ⟨-, ⟨e1, e2⟩, -⟩ := hf p.2 h2
  refine ⟨⟨by omega, l140, l143⟩, ?_⟩
  rw [e1, kt_num hty e2 (by omega)]
  constructor
  · intro z; rw [z]
  · intro z
    rcases hty with y | y | y
    · exact y
    · rw [y] at z; exact absurd z (by decide)
    · rw [y] at z; exact absurd z (by decide)
theorem d_46 (hq : TQc W F s) (h : TM G US A S W w br nq nl nf nk B F x bb t s (.inl (c, j, a, lo, st) :: U) M) (hA : At W s t c j a lo st U i) (ho : i.1 = 46) (hFq : Fq W (tickS s t 46) i p) (hQ : ∀ M', TM G US A S W w br nq nl nf nk B F x bb t (doS W t (tickS s t 46) c j a lo st U i p) (gU (doS W t (tickS s t 46) c j a lo st U i p) t) M' → Q 1 M') : w_Model_fieldStep_j49 0 Q (Int32.ofNat (frs U)) (Int32.ofNat 46) (Int32.ofNat (8 * p.1 + p.2)) (b2 (decide ((gfl (gc W p.1) p.2).2.1.1 ≠ 0))) M := by
  unfold w_Model_fieldStep_j49
  refine itn (by decide) (itn (by decide) (ct_tally (op := 46) h (by omega) (fun M1 h1 _ _ => itn (by decide) ?_)))
  have hA := hA.tick (op := 46)
  have hq : TQc W F (tickS s t 46) := hq
  generalize tickS s t 46 = s' at *
  obtain ⟨⟨hf, -⟩, ⟨hs20, hlo⟩, hst⟩ := hA.tj
  have hG := hA.1.2.1.1.1
  have h4k := hG.2.1.1.2.2
  obtain ⟨tl, tk⟩ := hA.tk (ws := [(0, (2, iK i))]) (by obtain ⟨o, r⟩ := i; have ho : o = 46 := ho; subst ho; rfl)
  have hs : 1 ≤ st.length := by
    have := hA.in.1.2.1
    have tl : 1 ≤ (k2 W c j a).length := tl
    omega
  have e : doS W t s' c j a lo st U i p = if (tv st 0).1 = 0 then failS W t s' 2 0 else sU s' t (.inl (c, j, a + 1, lo, drp st 1 ++ [(gCell s' ((gOb s' (tv st 0).1.toNatClampNeg).2.1 + sltF W p), decide ((gfl (gc W p.1) p.2).2.1.1 ≠ 0))]) :: U) := (by obtain ⟨o, r⟩ := i; have ho : o = 46 := ho; subst ho; rfl)
  rw [e] at hQ
  have d1 : (drp st 1).length = st.length - 1 := drp_len
  have hb : (tv st 0).2 = true := ((tk 0 (by simp)).2.fit hA.1.1.1 (wOne_fit (tk 0 (by simp)).1 (show (2 : Int) ≠ 0 by decide)) |>.1.2.2.2.1 rfl).1
  have hv : vRf s' (tv st 0).1 := (tk 0 (by simp)).2.2 hb
  unfold w_Model_fieldStep_j201
  refine ct_popT h1 hf (by omega) (by omega) hst (fun M2 h2 => ?_)
  rw [hb]
  by_cases c0 : (tv st 0).1 = 0
  · rw [if_pos c0] at hQ
    exact itp ((tr_ne0 hv).mpr c0) (ct_throwD (f := 2) (ru := 0) hq h2 hA (by omega) (by omega) hQ)
  rw [if_neg c0, gU_in] at hQ
  obtain ⟨b1, b2', b3⟩ := obj_at hA.1.1 hG (tk 0 (by simp)).2 (tk 0 (by simp)).1 c0 hFq (by rw [ho]; decide) (by rw [ho]; decide)
  obtain ⟨ht, -⟩ := obj_th hA.1.1 hG (tk 0 (by simp)).2 (tk 0 (by simp)).1 c0 hFq (by rw [ho]; decide) (by rw [ho]; decide)
  obtain ⟨ey, hn⟩ := ref_n hG.2.1 hv c0 ht
  obtain ⟨f1, f2, hty, hlk⟩ := hFq.ty hA (by rw [ho]; decide)
  generalize hnn : (tv st 0).1.toNatClampNeg = m at *
  have et : tr true (tv st 0).1 = Int32.ofNat m := by rw [ey]; exact tr_lo hn
  obtain ⟨⟨l7, l8, l9, l0, l2, l4, l1⟩, -, -, hOb, hC⟩ := h2.uh
  refine itn (fun z => c0 ((tr_ne0 hv).mp z)) ⟨w, h2.r45, ?_⟩
  rw [et, oN_tnc (k := m) (by omega), (hOb m ht).2.1]
  refine ⟨by rw [l8]; exact (vp_oN (by omega)).mpr (by omega), ct_slotOf h2.1.1.1 hG.1.1 f1 hlk f2 ?_⟩
  rw [oN_add, oN_tnc (k := (gOb s' m).2.1 + sltF W p) (by omega)]
  refine itn (by decide) ⟨w, h2.r45, by rw [l1]; exact (vp_oN (by omega)).mpr (by omega), ?_⟩
  rw [hC _ b1, b2']
  exact ct_pushT (Q := fun M52 => w_Model_fieldStep_j281 0 Q (Int32.ofNat (frs U)) M52) h2 hf (by omega) hst (fun M3 h3 => ct_j726 h3 hf hst hQ)
theorem d_47 (hq : TQc W F s) (h : TM G US A S W w br nq nl nf nk B F x bb t s (.inl (c, j, a, lo, st) :: U) M) (hA : At W s t c j a lo st U i) (ho : i.1 = 47) (hFq : Fq W (tickS s t 47) i p) (hQ : ∀ M', TM G US A S W w br nq nl nf nk B F x bb t (doS W t (tickS s t 47) c j a lo st U i p) (gU (doS W t (tickS s t 47) c j a lo st U i p) t) M' → Q 1 M') : w_Model_fieldStep_j49 0 Q (Int32.ofNat (frs U)) (Int32.ofNat 47) (Int32.ofNat (8 * p.1 + p.2)) (b2 (decide ((gfl (gc W p.1) p.2).2.1.1 ≠ 0))) M := by
  unfold w_Model_fieldStep_j49
  refine itn (by decide) (itn (by decide) (ct_tally (op := 47) h (by omega) (fun M1 h1 _ _ => itp rfl ?_)))
  have hA := hA.tick (op := 47)
  have hq : TQc W F (tickS s t 47) := hq
  generalize tickS s t 47 = s' at *
  obtain ⟨⟨hf, -⟩, ⟨hs20, hlo⟩, hst⟩ := hA.tj
  have hG := hA.1.2.1.1.1
  have h4k := hG.2.1.1.2.2
  obtain ⟨tl, tk⟩ := hA.tk (ws := [(0, iR i), (0, (2, iK i))]) (by obtain ⟨o, r⟩ := i; have ho : o = 47 := ho; subst ho; rfl)
  have hs : 2 ≤ st.length := by
    have := hA.in.1.2.1
    have tl : 2 ≤ (k2 W c j a).length := tl
    omega
  have e : doS W t s' c j a lo st U i p = if (tv st 1).1 = 0 then failS W t s' 2 0 else sU (wCell s' ((gOb s' (tv st 1).1.toNatClampNeg).2.1 + sltF W p) (tv st 0).1) t (.inl (c, j, a + 1, lo, drp st 2) :: U) := (by obtain ⟨o, r⟩ := i; have ho : o = 47 := ho; subst ho; rfl)
  rw [e] at hQ
  have d1 : (drp st 1).length = st.length - 1 := drp_len
  have hb : (tv st 1).2 = true := ((tk 1 (by simp)).2.fit hA.1.1.1 (wOne_fit (tk 1 (by simp)).1 (show (2 : Int) ≠ 0 by decide)) |>.1.2.2.2.1 rfl).1
  have hv : vRf s' (tv st 1).1 := (tk 1 (by simp)).2.2 hb
  refine ct_popT h1 hf (by omega) (by omega) hst (fun M2 h2 => ?_)
  unfold w_Model_fieldStep_j201
  refine ct_popT h2 hf (by omega) (by omega) hst (fun M3 h3 => ?_)
  rw [tv_drp hs, hb]
  rw [drp_drp] at h3
  by_cases c0 : (tv st 1).1 = 0
  · rw [if_pos c0] at hQ
    exact itp ((tr_ne0 hv).mpr c0) (ct_throwD (f := 2) (ru := 0) hq h3 hA (by omega) (by omega) hQ)
  rw [if_neg c0, gU_in] at hQ
  obtain ⟨b1, b2', b3⟩ := obj_at hA.1.1 hG (tk 1 (by simp)).2 (tk 1 (by simp)).1 c0 hFq (by rw [ho]; decide) (by rw [ho]; decide)
  obtain ⟨ht, -⟩ := obj_th hA.1.1 hG (tk 1 (by simp)).2 (tk 1 (by simp)).1 c0 hFq (by rw [ho]; decide) (by rw [ho]; decide)
  obtain ⟨ey, hn⟩ := ref_n hG.2.1 hv c0 ht
  obtain ⟨f1, f2, hty, hlk⟩ := hFq.ty hA (by rw [ho]; decide)
  have fl : (tv st 0).2 = decide ((gfl (gc W p.1) p.2).2.1.1 ≠ 0) := by
    rw [b3] at hty ⊢
    exact (wOne_ty hA.1.1.1 hty (tk 0 (by simp)).1 (tk 0 (by simp)).2).ty hty
  generalize hnn : (tv st 1).1.toNatClampNeg = m at *
  have et : tr true (tv st 1).1 = Int32.ofNat m := by rw [ey]; exact tr_lo hn
  obtain ⟨⟨l7, l8, l9, l0, l2, l4, l1⟩, -, -, hOb, hC⟩ := h3.uh
  refine itn (fun z => c0 ((tr_ne0 hv).mp z)) ⟨w, h3.r45, ?_⟩
  rw [et, oN_tnc (k := m) (by omega), (hOb m ht).2.1]
  refine ⟨by rw [l8]; exact (vp_oN (by omega)).mpr (by omega), ct_slotOf h3.1.1.1 hG.1.1 f1 hlk f2 ?_⟩
  rw [oN_add, oN_tnc (k := (gOb s' m).2.1 + sltF W p) (by omega)]
  refine itp rfl ⟨w, h3.r45, by rw [l1]; exact (vp_oN (by omega)).mpr (by omega), _, rfl, ?_⟩
  exact ct_j726 (h3.cell (m := (gOb s' m).2.1 + sltF W p) (v := (tv st 0).1) (b := (tv st 0).2) (by rw [b2', fl])) hf hst hQ
theorem d_48 (hq : TQc W F s) (h : TM G US A S W w br nq nl nf nk B F x bb t s (.inl (c, j, a, lo, st) :: U) M) (hA : At W s t c j a lo st U i) (ho : i.1 = 48) (hFq : Fq W (tickS s t 48) i p) (hQ : ∀ M', TM G US A S W w br nq nl nf nk B F x bb t (doS W t (tickS s t 48) c j a lo st U i p) (gU (doS W t (tickS s t 48) c j a lo st U i p) t) M' → Q 1 M') : w_Model_tally 0 (Int32.ofNat 48) (fun M12 => if Int32.ofNat 48 = (48 : Int32) then (∃ i14, (mR M12 11 0 45) = some (12, i14) ∧ vp_in (Int32.ofNat (8 * p.1 + p.2)) (mL M12 143 i14) ∧ w_Model_push 0 (Int32.ofNat (frs U)) (mI M12 143 i14 (Int32.ofNat (8 * p.1 + p.2)).toNatClampNeg) (b2 (decide ((gfl (gc W p.1) p.2).2.1.1 ≠ 0))) (fun M16 => w_Model_fieldStep_j164 0 Q (Int32.ofNat (frs U)) M16) M12) else (∃ i21, (mR M12 11 0 45) = some (12, i21) ∧ w_Model_pop 0 (Int32.ofNat (frs U)) (fun r23 M22 => vp_in (Int32.ofNat (8 * p.1 + p.2)) (mL M22 143 i21) ∧ w_Model_fieldStep_j164 0 Q (Int32.ofNat (frs U)) (sI M22 143 i21 (Int32.ofNat (8 * p.1 + p.2)).toNatClampNeg r23)) M12)) M := by
  refine ct_tally (op := 48) h (by omega) (fun M1 h1 _ _ => itp rfl ?_)
  have hA := hA.tick (op := 48)
  have hq : TQc W F (tickS s t 48) := hq
  generalize tickS s t 48 = s' at *
  obtain ⟨⟨hf, -⟩, ⟨hs20, hlo⟩, hst⟩ := hA.tj
  have hG := hA.1.2.1.1.1
  have h4k := hG.2.1.1.2.2
  have h20 := a_48 (q := p) hA hFq ho
  have e : doS W t s' c j a lo st U i p = sU s' t (.inl (c, j, a + 1, lo, st ++ [(zS s' p.1 p.2, decide ((gfl (gc W p.1) p.2).2.1.1 ≠ 0))]) :: U) := (by obtain ⟨o, r⟩ := i; have ho : o = 48 := ho; subst ho; rfl)
  rw [e] at hQ h20
  have h20 : (st ++ [_]).length ≤ 20 := h20.l20 hA.1.1
  rw [List.length_append] at h20
  have h20 : st.length + 1 ≤ 20 := h20
  rw [gU_in] at hQ
  obtain ⟨f1, f2, hty, hlk⟩ := hFq.ty hA (by rw [ho]; decide)
  have hsf := (hFq.2.1 (by rw [ho]; decide)).choose_spec.2.2.2.2 (by rw [ho]; decide)
  obtain ⟨⟨fo, l140, l143⟩, -⟩ := h1.fldT f1 f2 hty
  refine ⟨w, h1.r45, by rw [l143]; exact (vp_oN (by omega)).mpr fo, ?_⟩
  rw [oN_tnc (k := 8 * p.1 + p.2) (by omega), h1.1.2.1.2 p.1 p.2 f1 f2 hsf.1]
  exact ct_pushT (Q := fun M52 => w_Model_fieldStep_j164 0 Q (Int32.ofNat (frs U)) M52) h1 hf (by omega) hst (fun M3 h3 => ct_j726 h3 hf hst hQ)
theorem d_49 (hq : TQc W F s) (h : TM G US A S W w br nq nl nf nk B F x bb t s (.inl (c, j, a, lo, st) :: U) M) (hA : At W s t c j a lo st U i) (ho : i.1 = 49) (hFq : Fq W (tickS s t 49) i p) (hQ : ∀ M', TM G US A S W w br nq nl nf nk B F x bb t (doS W t (tickS s t 49) c j a lo st U i p) (gU (doS W t (tickS s t 49) c j a lo st U i p) t) M' → Q 1 M') : w_Model_tally 0 (Int32.ofNat 49) (fun M12 => if Int32.ofNat 49 = (48 : Int32) then (∃ i14, (mR M12 11 0 45) = some (12, i14) ∧ vp_in (Int32.ofNat (8 * p.1 + p.2)) (mL M12 143 i14) ∧ w_Model_push 0 (Int32.ofNat (frs U)) (mI M12 143 i14 (Int32.ofNat (8 * p.1 + p.2)).toNatClampNeg) (b2 (decide ((gfl (gc W p.1) p.2).2.1.1 ≠ 0))) (fun M16 => w_Model_fieldStep_j164 0 Q (Int32.ofNat (frs U)) M16) M12) else (∃ i21, (mR M12 11 0 45) = some (12, i21) ∧ w_Model_pop 0 (Int32.ofNat (frs U)) (fun r23 M22 => vp_in (Int32.ofNat (8 * p.1 + p.2)) (mL M22 143 i21) ∧ w_Model_fieldStep_j164 0 Q (Int32.ofNat (frs U)) (sI M22 143 i21 (Int32.ofNat (8 * p.1 + p.2)).toNatClampNeg r23)) M12)) M := by
  refine ct_tally (op := 49) h (by omega) (fun M1 h1 _ _ => itn (by decide) ?_)
  have hA := hA.tick (op := 49)
  have hq : TQc W F (tickS s t 49) := hq
  generalize tickS s t 49 = s' at *
  obtain ⟨⟨hf, -⟩, ⟨hs20, hlo⟩, hst⟩ := hA.tj
  have hG := hA.1.2.1.1.1
  have h4k := hG.2.1.1.2.2
  obtain ⟨tl, tk⟩ := hA.tk (ws := [(0, iR i)]) (by obtain ⟨o, r⟩ := i; have ho : o = 49 := ho; subst ho; rfl)
  have hs : 1 ≤ st.length := by
    have := hA.in.1.2.1
    have tl : 1 ≤ (k2 W c j a).length := tl
    omega
  have e : doS W t s' c j a lo st U i p = sU (yS s' (up1 (zS s') p.1 (up1 (zS s' p.1) p.2 (tv st 0).1))) t (.inl (c, j, a + 1, lo, drp st 1) :: U) := (by obtain ⟨o, r⟩ := i; have ho : o = 49 := ho; subst ho; rfl)
  rw [e, gU_in] at hQ
  obtain ⟨f1, f2, hty, hlk⟩ := hFq.ty hA (by rw [ho]; decide)
  obtain ⟨dd, hd1, hd2, hd3, -, hsf⟩ := hFq.2.1 (by rw [ho]; decide)
  have hsf := hsf (by rw [ho]; decide)
  have b3 : (gfl (gc W p.1) p.2).2.1 = iR i := (fldW_ok (fnd_lt hd1) hd3).2.2.2
  have fl : (tv st 0).2 = decide ((gfl (gc W p.1) p.2).2.1.1 ≠ 0) := by
    rw [b3] at hty ⊢
    exact (wOne_ty hA.1.1.1 hty (tk 0 (by simp)).1 (tk 0 (by simp)).2).ty hty
  refine ⟨w, h1.r45, ct_popT h1 hf (by omega) (by omega) hst (fun M2 h2 => ?_)⟩
  obtain ⟨⟨fo, l140, l143⟩, -⟩ := h2.fldT f1 f2 hty
  refine ⟨by rw [l143]; exact (vp_oN (by omega)).mpr fo, ?_⟩
  rw [oN_tnc (k := 8 * p.1 + p.2) (by omega), fl]
  refine ct_j726 (h2.s143 (X := up1 (zS s') p.1 (up1 (zS s' p.1) p.2 (tv st 0).1)) (fun c' f' hc hf' hn => ?_)) hf hst hQ
  have h8 := fl_8 (c := c') h2
  have h8' := fl_8 (c := p.1) h2
  show _ = tr _ (up1 (zS s') p.1 (up1 (zS s' p.1) p.2 (tv st 0).1) c' f')
  rw [mI_sI]
  by_cases ec : c' = p.1 ∧ f' = p.2
  · rw [ec.1, ec.2, if_pos ⟨rfl, rfl, rfl⟩, up1_s, up1_s]
  · have hne : ¬ 8 * c' + f' = 8 * p.1 + p.2 := fun z => ec (by omega)
    rw [if_neg (fun z => hne z.2.2), h2.1.2.1.2 c' f' hc hf' hn]
    by_cases e1 : c' = p.1
    · rw [e1, up1_s, up1_o (fun z => ec ⟨e1, z⟩)]
    · rw [up1_o e1]
theorem ct_fldG (hq : TQc W F s) (h : TM G US A S W w br nq nl nf nk B F x bb t s (.inl (c, j, a, lo, st) :: U) M) (hA : At W s t c j a lo st U i) (hw0 : lWt (zN s t) = none) (ho : isFo op) (hi : i.1 = op) (hp : p.1 < W.length) (hp2 : p.2 < (gc W p.1).2.2.2.2.1.length) (hFq : ∀ s', zL s' = zL s → (strt i.1 → zC s' p.1 ≠ 0) → Fq W s' i p) (hQ : HQa G US A S W w br nq nl nf nk B F x bb t (zK s) (ins2 br W t (s) c j a lo st U i (.inr p)) Q) (hQ2 : HQw G US A S W w br nq nl nf nk B F x bb t (ins2 br W t (s) c j a lo st U i (.inr p)) (s) Q) : w_Model_fieldStep_j49 0 Q (Int32.ofNat (frs U)) (Int32.ofNat op) (Int32.ofNat (8 * p.1 + p.2)) (b2 (decide ((gfl (gc W p.1) p.2).2.1.1 ≠ 0))) M := by
  have h51 := h.1.1.1.l51
  have h8 := fl_8 (c := p.1) h
  have e8 : Int32.ofNat (8 * p.1 + p.2) / (8 : Int32) = Int32.ofNat p.1 := by rw [show (8 : Int32) = Int32.ofNat 8 from rfl, oN_div (by omega) (by omega)]; congr 1; omega
  have o4 : op = 46 ∨ op = 47 ∨ op = 48 ∨ op = 49 := by obtain ⟨_, _⟩ := ho; omega
  rcases o4 with z | z | z | z
  · subst z
    rw [ins2_do hi (by decide) (by decide)] at hQ
    exact d_46 hq h hA hi (hFq _ rfl (fun z => absurd z (by rw [hi]; decide))) (fun M' h' => hQ 1 M' (Or.inr ⟨rfl, do_K1⟩) h')
  · subst z
    rw [ins2_do hi (by decide) (by decide)] at hQ
    exact d_47 hq h hA hi (hFq _ rfl (fun z => absurd z (by rw [hi]; decide))) (fun M' h' => hQ 1 M' (Or.inr ⟨rfl, do_K1⟩) h')
  · subst z
    rw [ins2_must hi (by decide)] at hQ hQ2
    unfold w_Model_fieldStep_j49 w_Model_fieldStep_j65
    rw [e8]
    refine itp rfl ⟨by decide, ct_mustT (op := 48) (d := fun s' => doS W t s' c j a lo st U i p) hq (by rw [hA.2.1]; exact h) (by rw [hA.2.1]; exact hA.1.2.1) hA.1.2.2 hw0 hp (by omega) (fun es hz em => ?_) hQ (fun M' e1 h1 e2 => hQ2 (.inr p.1) M' e1 h1 e2)⟩
    rw [em] at hQ
    exact d_48 hq h hA hi (hFq _ rfl (fun _ => hz)) (fun M' h' => hQ 1 M' (Or.inr ⟨rfl, do_K1⟩) h')
  · subst z
    rw [ins2_must hi (by decide)] at hQ hQ2
    unfold w_Model_fieldStep_j49 w_Model_fieldStep_j65
    rw [e8]
    refine itn (by decide) (itp rfl ⟨by decide, ct_mustT (op := 49) (d := fun s' => doS W t s' c j a lo st U i p) hq (by rw [hA.2.1]; exact h) (by rw [hA.2.1]; exact hA.1.2.1) hA.1.2.2 hw0 hp (by omega) (fun es hz em => ?_) hQ (fun M' e1 h1 e2 => hQ2 (.inr p.1) M' e1 h1 e2)⟩)
    rw [em] at hQ
    exact d_49 hq h hA hi (hFq _ rfl (fun _ => hz)) (fun M' h' => hQ 1 M' (Or.inr ⟨rfl, do_K1⟩) h')
theorem ct_fieldStep (hq : TQc W F s) (h : TM G US A S W w br nq nl nf nk B F x bb t s (.inl (c, j, a, lo, st) :: U) M) (hA : At W s t c j a lo st U i) (hI : TI1 A S w nl nf nk nq q n i M) (hw0 : lWt (zN s t) = none) (ho : isFo op) (hi : i.1 = op) (hQ : ∀ y L, ins1 br W s c j i = (y, L) → HQa G US A S W w br nq nl nf nk B F x bb t (zK s) (ins2 br W t (yL s L) c j a lo st U i (y)) Q) (hQ2 : ∀ y L, ins1 br W s c j i = (y, L) → HQw G US A S W w br nq nl nf nk B F x bb t (ins2 br W t (yL s L) c j a lo st U i (y)) (yL s L) Q) : w_Model_fieldStep 0 (Int32.ofNat (frs U)) (Int32.ofNat (12 * c + j)) (Int32.ofNat q) (Int32.ofNat op) Q M := by
  obtain ⟨hB, hWF, hWC, h51⟩ := hA.1.1
  have hG := hA.1.2.1.1.1
  have o4 : 46 ≤ op ∧ op ≤ 49 := ho
  obtain ⟨hcl, hjl⟩ : c < W.length ∧ j < (gc W c).2.2.2.2.2.length := hA.cj
  have ef : fIns br W (zL s) c (gmt (gc W c) j) i = ins1 br W s c j i := by unfold ins1; rw [if_neg (by omega)]
  have hok := fIns_ok (br := br) (c := c) (x := gmt (gc W c) j) (i := i) h51 hG.1
  have eF : fIns br W (zL s) c (gmt (gc W c) j) i = fFld br W (zL s) (iK i) (iM i) (iR i) (decide (48 ≤ i.1)) (decide (i.1 = 47 ∨ i.1 = 49)) c (gmt (gc W c) j).1 := by
    unfold fIns
    rw [if_neg (by omega), if_neg (by omega), if_pos (by rw [hi]; exact ho)]
  have hFF : ∀ q' L', fIns br W (zL s) c (gmt (gc W c) j) i = (.inr q', L') → (q'.1 < W.length ∧ q'.2 < (gc W q'.1).2.2.2.2.1.length) := fun q' L' e => (fIns_lt e).2.1 (by rw [hi]; exact ho)
  unfold w_Model_fieldStep
  rw [← hi]
  refine mf_w_Model_findField (Q := fun r M' => LKt G US A S W w br nq nl nf nk (fIns br W (zL s) c (gmt (gc W c) j) i).2 M' ∧ (∀ e, (fIns br W (zL s) c (gmt (gc W c) j) i).1 = .inl e → tThr e M') ∧ r = rcT fT (fIns br W (zL s) c (gmt (gc W c) j) i).1) (fun r M1 hf ⟨k1, k2, er⟩ => ?_) (ct_findField hWF h.1.1 hG.1.1 hG.1.2.1 hWC hI (by rw [hi]; exact ho) hcl hjl (by rw [← eF]; exact fun M' a b => ⟨a, b, rfl⟩))
  rw [hi]
  cases eL : fIns br W (zL s) c (gmt (gc W c) j) i with
  | mk y L' =>
    rw [eL] at k1 k2 er hok
    have h1 : TM G US A S W w br nq nl nf nk B F x bb t (yL s L') (.inl (c, j, a, lo, st) :: U) M1 := h.lk hf k1
    have e1 : ins1 br W s c j i = (y, L') := ef.symm.trans eL
    have hA' := hA.yl hok.2
    cases y with
    | inl e =>
      have er : r = -1 := er
      subst er
      exact itn (by decide) (ct_failAt (s := yL s L') hq h1 hA' hok.1 (k2 e rfl) hi (by omega) (hQ _ _ e1))
    | inr p =>
      have er : r = Int32.ofNat (8 * p.1 + p.2) := er
      subst er
      obtain ⟨hp, hp2⟩ := hFF p L' eL
      have h8 := fl_8 (c := p.1) h1
      have hFq : ∀ s', zL s' = L' → (strt i.1 → zC s' p.1 ≠ 0) → Fq W s' i p := fun s' hs hz => Fq_of (s := s) eL hs hz
      have hty : tyOk (gfl (gc W p.1) p.2).2.1 := by
        obtain ⟨cc, y1, y2, -⟩ := fFld_in (eF.symm.trans eL)
        obtain ⟨-, -, -, -, hwf⟩ := hA.in
        rw [(fldW_ok (fnd_lt (lkd_in y1).1) y2).2.2.2]
        exact hwf.2.1.2.2.2.2.2.2 (by rw [hi]; exact ho)
      obtain ⟨⟨fo, l140, -⟩, hk⟩ := h1.fldT hp hp2 hty
      have g := ct_fldG (s := yL s L') (p := p) hq h1 hA' hw0 ho hi hp hp2 hFq (hQ _ _ e1) (hQ2 _ _ e1)
      refine itp (oN_zero_le (show 8 * p.1 + p.2 < 2147483648 by omega)) ⟨w, h1.r45, by rw [l140]; exact (vp_oN (by omega)).mpr fo, ?_⟩
      rw [oN_tnc (k := 8 * p.1 + p.2) (by omega)]
      by_cases k0 : (gfl (gc W p.1) p.2).2.1.1 = 0
      · rw [decide_eq_false (fun z => z k0)] at g
        exact itp (hk.mpr k0) g
      · rw [decide_eq_true k0] at g
        exact itn (fun z => k0 (hk.mp z)) g
end
