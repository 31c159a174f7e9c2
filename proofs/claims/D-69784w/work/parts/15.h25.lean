/-! THE MACHINE IN THE TWIN: making (printed by gen/tf.py) -/
/-- what is asked of an end -/
def HQa (G : List Sl) (US : UST) (A : List Nm) (S : List Sg) (W : List Cls) (w : Nat) (br : Int32) (nq nl nf nk B F : Nat) (x : Int32) (bb : Bool) (t κ : Nat) (X : Ms) (Q : Int32 → Mem → Prop) : Prop := ∀ r M', (r = 0 ∧ zK X = κ) ∨ (r = 1 ∧ zK X = κ + 1) → TM G US A S W w br nq nl nf nk B F x bb t X (gU X t) M' → Q r M'
/-- and where the thread waits -/
def HQw (G : List Sl) (US : UST) (A : List Nm) (S : List Sg) (W : List Cls) (w : Nat) (br : Int32) (nq nl nf nk B F : Nat) (x : Int32) (bb : Bool) (t : Nat) (X s : Ms) (Q : Int32 → Mem → Prop) : Prop := ∀ u M', X = sWt s t (some u) → TM G US A S W w br nq nl nf nk B F x bb t s (gU s t) M' → mI M' 13 (3 * w + t) 2 = wCd u → Q 2 M'
section
variable {G : List Sl} {US : UST} {A : List Nm} {S : List Sg} {W : List Cls} {w c j a k t L q n d : Nat} {br x r v e : Int32} {bb : Bool} {nq nl nf nk B F op : Nat} {M M' : Mem} {s s' : Ms} {U V : List Un} {lo st lo' st' : List Vl} {o : Option Kd} {Q : Int32 → Mem → Prop} {i : Ins} {p : Nat × Nat}
theorem At.yl {L : LkS} (h : At W s t c j a lo st U i) (hL : LkM W (zL s) L) : At W (yL s L) t c j a lo st U i := ⟨⟨h.1.1, h.1.2.1.lL hL, h.1.2.2⟩, h.2.1, h.2.2.1, h.2.2.2⟩
theorem ins2_must (hi : i.1 = op) (hs : strt op) : ins2 br W t s c j a lo st U i (.inr p) = mustR W t op (fun s' => doS W t s' c j a lo st U i p) (mustS br W t s p.1) := by
  subst hi
  show (if i.1 = 60 ∧ (tv st 0).1 ≠ 0 ∧ lckd s t (tv st 0).1 then _ else _) = _
  rw [if_neg (fun z => by have := z.1; unfold strt at hs; omega), if_pos hs]
  generalize mustS br W t s p.1 = mr
  obtain ⟨r0, e, s1⟩ := mr
  match r0 with
  | 0 => rfl
  | 1 => rfl
  | 2 => rfl
  | n + 3 => rfl
theorem ins2_do (hi : i.1 = op) (h60 : op ≠ 60) (hs : ¬ strt op) : ins2 br W t s c j a lo st U i (.inr p) = doS W t (tickS s t op) c j a lo st U i p := by
  subst hi
  show (if i.1 = 60 ∧ (tv st 0).1 ≠ 0 ∧ lckd s t (tv st 0).1 then _ else _) = _
  rw [if_neg (fun z => h60 z.1), if_neg hs]
theorem ct_failAt (hq : TQc W F s) (h : TM G US A S W w br nq nl nf nk B F x bb t s (.inl (c, j, a, lo, st) :: U) M) (hA : At W s t c j a lo st U i) (he : cdOk e ∧ e ≠ 0 ∧ e ≠ 1) (ht : tThr e M) (hi : i.1 = op) (ho : op < 62) (hQ : HQa G US A S W w br nq nl nf nk B F x bb t (zK s) (ins2 br W t (s) c j a lo st U i (.inl e)) Q) : w_Model_throwsAt 0 (Int32.ofNat op) (mI M 11 0 81) (mI M 11 0 80) Q M := by
  subst hi
  exact ct_throwsAt hq (by rw [hA.2.1]; exact h) (by rw [hA.2.1]; exact hA.1.2.1) hA.1.2.2 ho he ht (fun M' h' => hQ 1 M' (Or.inr ⟨rfl, fail_K1⟩) h')
theorem TM.fr8 (h : TM G US A S W w br nq nl nf nk B F x bb t s V M) (hf : Fr (7169799856216400581190076237349180822776283534133027313581751323956733871647359982572928347141943566075686373462755499102163842240654175440584502908487341181649970506187529658768635968152016228856864651844956412161994329594327728405145001937290352930858734580307136902114197858640787278910757347899810200336712919852675183446770709941581427930190205114571482441787967257977677143437374969415398280603393731497946103433826630439401297989333468938385365383288849478302577593936150445282312579481862096501160204641939256280269358719125391009337306959220036961084032532631840026589828453659773401309102351556789364352385157154149383967584317299277796431723061109685900092014886056333573758198934414549684890479975140322389258588273964416138262767613546204640232696216725822305054682318466916812082346911085672267390110090951397700054012771829870566876196031586254034979788137825297526073453230647308183667657655476249516504938791474968166604842988377659041142107112571379589118736840186134528) M M') : TM G US A S W w br nq nl nf nk B F x bb t s V M' := h.lk hf (h.1.1.fr hf).1
theorem fl_8 (h : TM G US A S W w br nq nl nf nk B F x bb t s V M) : (gc W c).2.2.2.2.1.length ≤ 8 := by
  by_cases hc : c < W.length
  · exact (h.1.1.1.1.1.1.2.1.2 c hc).1.2
  · have : gc W c = gc [] 0 := by
      show W.getD c _ = [].getD 0 _
      rw [List.getD_eq_getElem?_getD, List.getElem?_eq_none (by omega)]; rfl
    rw [this]; exact Nat.zero_le _
theorem d_41 (hq : TQc W F s) (h : TM G US A S W w br nq nl nf nk B F x bb t s (.inl (c, j, a, lo, st) :: U) M) (hA : At W s t c j a lo st U i) (ho : i.1 = 41) (hFq : Fq W (tickS s t 41) i p) (hQ : ∀ M', TM G US A S W w br nq nl nf nk B F x bb t (doS W t (tickS s t 41) c j a lo st U i p) (gU (doS W t (tickS s t 41) c j a lo st U i p) t) M' → Q 1 M') : w_Model_tally 0 (41 : Int32) (fun M11 => w_Model_fieldsOf 0 (Int32.ofNat p.1) (fun r13 M12 => w_Model_newThing 0 (Int32.ofNat p.1) r13 (fun r15 M14 => if 0 ≤ r15 then (w_Model_push 0 (Int32.ofNat (frs U)) r15 (1 : Int32) (fun M17 => w_Model_instruction_j726 0 Q (Int32.ofNat (frs U)) M17) M14) else (w_Model_throwNew 0 (0 : Int32) (9 : Int32) (fun M22 => Q (1 : Int32) M22) M14)) M12) M11) M := by
  refine ct_tally (op := 41) h (by omega) (fun M1 h1 _ _ => ?_)
  have hA := hA.tick (op := 41)
  have hq : TQc W F (tickS s t 41) := hq
  generalize tickS s t 41 = s' at *
  obtain ⟨⟨hf, -⟩, ⟨hs20, hlo⟩, hst⟩ := hA.tj
  have hmk := a_41 (q := p) hA hFq ho
  have e : doS W t s' c j a lo st U i p = if fulS s' (osz W p.1) then failS W t s' 9 0 else sU (mkOb s' (some p.1) (osz W p.1) (ofk W p.1)) t (.inl (c, j, a + 1, lo, st ++ [(Int32.ofNat (lfree s'), true)]) :: U) := (by obtain ⟨o, r⟩ := i; have ho : o = 41 := ho; subst ho; rfl)
  rw [e] at hQ hmk
  obtain ⟨hfn, hl⟩ := hFq.1 ho
  have hlt := fnd_lt hfn
  have h51 := h1.1.1.1.l51
  have hos : osz W p.1 ≤ 8 * 52 := oszN_le (fun c => fl_8 h1) 52 p.1
  have hO : HO W s' := hA.1.2.1.1.1.2.1
  unfold w_Model_fieldsOf
  refine ⟨53, ct_fieldsOf h1.1.1.1 hA.1.2.1.1.1.1.1 52 p.1 0 (mu_lt h51) hlt hl (fun y hy => ?_)⟩
  have hy : y = osz W p.1 := by omega
  subst hy
  refine ct_newThing (cl := some p.1) (ks := ofk W p.1) h1 hO (by omega) (fun hfu => ?_) (fun hfu M' h' => ?_)
  · rw [if_pos hfu] at hQ
    exact itn (by decide) (ct_throwD (f := 9) (ru := 0) hq h1 hA (by omega) (by omega) hQ)
  · rw [if_neg hfu] at hQ hmk
    have h20 : (st ++ [_]).length ≤ 20 := hmk.l20 hA.1.1
    rw [List.length_append] at h20
    have h20 : st.length + 1 ≤ 20 := h20
    rw [gU_in] at hQ
    obtain ⟨-, -, f3⟩ := lfree_ok hO (fun z => hfu (Or.inl z))
    refine itp (Int32.not_lt.mp (oN_nonneg (show lfree s' < 2147483648 by omega))) ?_
    have g := ct_pushT (Q := fun M8 => w_Model_instruction_j726 0 Q (Int32.ofNat (frs U)) M8) (v := Int32.ofNat (lfree s')) (b := true) h' hf (by omega) hst (fun M2 h2 => ct_j726 h2 hf hst hQ)
    rw [tr_lo f3] at g
    exact g
theorem ct_newF (hq : TQc W F s) (h : TM G US A S W w br nq nl nf nk B F x bb t s (.inl (c, j, a, lo, st) :: U) M) (hA : At W s t c j a lo st U i) (he : cdOk e ∧ e ≠ 0 ∧ e ≠ 1) (ht : tThr e M) (ho : i.1 = 41) (hv : v < 0) (hQ : HQa G US A S W w br nq nl nf nk B F x bb t (zK s) (ins2 br W t (s) c j a lo st U i (.inl e)) Q) : w_Model_newStep_j51 0 Q r v M := by
  unfold w_Model_newStep_j51
  exact itn (Int32.not_le.mpr hv) (ct_failAt (op := 41) hq h hA he ht ho (by omega) hQ)
theorem ct_newG (hq : TQc W F s) (h : TM G US A S W w br nq nl nf nk B F x bb t s (.inl (c, j, a, lo, st) :: U) M) (hA : At W s t c j a lo st U i) (hw0 : lWt (zN s t) = none) (ho : i.1 = 41) (hp : p.1 < W.length) (hFq : ∀ s', zL s' = zL s → (strt i.1 → zC s' p.1 ≠ 0) → Fq W s' i p) (hQ : HQa G US A S W w br nq nl nf nk B F x bb t (zK s) (ins2 br W t (s) c j a lo st U i (.inr p)) Q) (hQ2 : HQw G US A S W w br nq nl nf nk B F x bb t (ins2 br W t (s) c j a lo st U i (.inr p)) (s) Q) : w_Model_newStep_j51 0 Q (Int32.ofNat (frs U)) (Int32.ofNat p.1) M := by
  have h51 := h.1.1.1.l51
  rw [ins2_must ho (Or.inl rfl)] at hQ hQ2
  unfold w_Model_newStep_j51
  refine itp (Int32.not_lt.mp (oN_nonneg (show p.1 < 2147483648 by omega))) ?_
  refine ct_mustT (op := 41) (d := fun s' => doS W t s' c j a lo st U i p) hq (by rw [hA.2.1]; exact h) (by rw [hA.2.1]; exact hA.1.2.1) hA.1.2.2 hw0 hp (by omega) (fun es hz em => ?_) hQ (fun M' e1 h1 e2 => hQ2 (.inr p.1) M' e1 h1 e2)
  rw [em] at hQ
  exact d_41 hq h hA ho (hFq _ rfl (fun _ => hz)) (fun M' h' => hQ 1 M' (Or.inr ⟨rfl, do_K1⟩) h')
theorem ct_newStep (hq : TQc W F s) (h : TM G US A S W w br nq nl nf nk B F x bb t s (.inl (c, j, a, lo, st) :: U) M) (hA : At W s t c j a lo st U i) (hI : TI1 A S w nl nf nk nq q n i M) (hw0 : lWt (zN s t) = none) (ho : i.1 = 41) (hQ : ∀ y L, ins1 br W s c j i = (y, L) → HQa G US A S W w br nq nl nf nk B F x bb t (zK s) (ins2 br W t (yL s L) c j a lo st U i (y)) Q) (hQ2 : ∀ y L, ins1 br W s c j i = (y, L) → HQw G US A S W w br nq nl nf nk B F x bb t (ins2 br W t (yL s L) c j a lo st U i (y)) (yL s L) Q) : w_Model_newStep 0 (Int32.ofNat (frs U)) (Int32.ofNat q) Q M := by
  obtain ⟨hB, hWF, hWC, h51⟩ := hA.1.1
  have hG := hA.1.2.1.1.1
  obtain ⟨⟨a1, a2⟩, -, -, hq39⟩ := hI.rw' h.1.1.1
  obtain ⟨en, hkA⟩ := hI.nm (Or.inl ho)
  have ef : fIns br W (zL s) c (gmt (gc W c) j) i = ins1 br W s c j i := by unfold ins1; rw [if_neg (by omega)]
  have hok := fIns_ok (br := br) (c := c) (x := gmt (gc W c) j) (i := i) h51 hG.1
  have e1 : ∀ y L', lkd br W (zL s) (iK i) = (y, L') → ins1 br W s c j i = (match y with | .inl e => (.inl e, L') | .inr d => if ¬ (gc W d).2.2.2.1 &&& 6 = 0 ∧ brk br 7 = true then (.inl 5719, L') else (.inr (d, 0), L')) := fun y L' eL => by
    unfold ins1 fIns
    rw [if_neg (by omega), if_neg (by omega), if_pos ho, eL]
    cases y <;> rfl
  unfold w_Model_newStep
  refine ⟨w, h.r45, _, a1, (vp_oN (by omega)).mpr a2, ?_⟩
  rw [oN_tnc (k := q) (by omega), en]
  refine mf_w_Model_findLinked (Q := fun r M' => LKt G US A S W w br nq nl nf nk (lkd br W (zL s) (iK i)).2 M' ∧ (∀ e, (lkd br W (zL s) (iK i)).1 = .inl e → tThr e M') ∧ r = (match (lkd br W (zL s) (iK i)).1 with | .inl _ => -1 | .inr d => Int32.ofNat d)) (fun r M1 hf ⟨k1, k2, er⟩ => ?_) (ct_findLinked hWF h.1.1 hG.1.1 hG.1.2.1 hkA (fun M' a b c => ⟨a, c, rfl⟩))
  cases eL : lkd br W (zL s) (iK i) with
  | mk y L' =>
    have e1 := e1 y L' eL
    rw [eL] at k1 k2 er
    have h1 : TM G US A S W w br nq nl nf nk B F x bb t (yL s L') (.inl (c, j, a, lo, st) :: U) M1 := h.lk hf k1
    cases y with
    | inl e =>
      have e1 : ins1 br W s c j i = (.inl e, L') := e1
      have er : r = -1 := er
      subst er
      rw [ef, e1] at hok
      exact itp (by decide) (ct_newF (s := yL s L') hq h1 (hA.yl hok.2) hok.1 (k2 e rfl) ho (by decide) (hQ _ _ e1))
    | inr d =>
      have e1 : ins1 br W s c j i = (if ¬ (gc W d).2.2.2.1 &&& 6 = 0 ∧ brk br 7 = true then (.inl 5719, L') else (.inr (d, 0), L')) := e1
      have er : r = Int32.ofNat d := er
      subst er
      obtain ⟨hfn, -, hl⟩ := lkd_in eL
      have hd := fnd_lt hfn
      have go : ins1 br W s c j i = (.inr (d, 0), L') → w_Model_newStep_j51 0 Q (Int32.ofNat (frs U)) (Int32.ofNat d) M1 := fun e1 => by
        rw [ef, e1] at hok
        exact ct_newG (s := yL s L') (p := (d, 0)) hq h1 (hA.yl hok.2) hw0 ho hd (fun s' hs hz => Fq_of (s := s) (ef.trans e1) hs hz) (hQ _ _ e1) (hQ2 _ _ e1)
      refine itn (oN_nonneg (show d < 2147483648 by omega)) (ct_isOff (bit := 7) h1.1.1.1.1.1.1.1 ?_)
      cases eb : brk br 7 with
      | false =>
        rw [if_neg (fun z => by rw [eb] at z; cases z.2)] at e1
        exact itn (by decide) (go e1)
      | true =>
        refine itp rfl ⟨w, h1.r45, by rw [h1.1.1.1.cl.2.1.2.2.2]; exact (vp_oN (by omega)).mpr (by omega), ?_⟩
        rw [oN_tnc (k := d) (by omega), (h1.1.1.1.cl.2.2 d hd).2.2]
        by_cases c6 : (gc W d).2.2.2.1 &&& 6 = 0
        · rw [if_neg (fun z => z.1 c6)] at e1
          exact itp c6 (go e1)
        · rw [if_pos ⟨c6, eb⟩] at e1
          rw [ef, e1] at hok
          refine itn c6 (ct_fails (ru := 57) (f := 19) (by omega) (by omega) (fun M2 f2 th => ?_))
          exact ct_newF (s := yL s L') (e := 5719) hq (h1.fr8 f2) (hA.yl hok.2) hok.1 th ho (by decide) (hQ _ _ e1)
end
