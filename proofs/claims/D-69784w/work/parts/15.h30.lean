/-! THE MACHINE IN THE TWIN: an act of a thread (printed by gen/te.py) -/
section
variable {G : List Sl} {US : UST} {A : List Nm} {S : List Sg} {W : List Cls} {w c j a k t L q n d : Nat} {br x r v e : Int32} {bb : Bool} {nq nl nf nk B F op : Nat} {M M' : Mem} {s s' : Ms} {U V : List Un} {lo st lo' st' : List Vl} {o : Option Kd} {Q : Int32 → Mem → Prop} {i : Ins} {p : Nat × Nat} {own : Bool}
theorem ins_bot (hg : gU s t = .inl (c, j, a, lo, st) :: U) (h : lSt (zN (insS br W t s c j a lo st U) t) = 1) : botF (gU (insS br W t s c j a lo st U) t) = botF (gU s t) := by
  rw [ins2_eq rfl] at h ⊢
  generalize gin (co (gmt (gc W c) j)) a = i at h ⊢
  generalize ins1 br W s c j i = f at h ⊢
  obtain ⟨y, L⟩ := f
  dsimp only at h ⊢
  have fl : ∀ (s1 : Ms) (op : Nat) (e : Int32), gU s1 t = gU s t → lSt (zN (failC W t (tickS s1 t op) e) t) = 1 → botF (gU (failC W t (tickS s1 t op) e) t) = botF (gU s t) := fun s1 op e e1 h => by
    refine (fail_bot (s := tickS s1 t op) h).trans ?_
    rw [tick_U, e1]
  have dl : ∀ (s1 : Ms) (op : Nat) (q : Nat × Nat), gU s1 t = gU s t → lSt (zN (doS W t (tickS s1 t op) c j a lo st U i q) t) = 1 → botF (gU (doS W t (tickS s1 t op) c j a lo st U i q) t) = botF (gU s t) := fun s1 op q e1 h => by
    refine (act_bot (s := tickS s1 t op) (by rw [tick_U, e1]; exact hg) h).trans ?_
    rw [tick_U, e1]
  cases y with
  | inl e => exact fl (yL s L) i.1 e rfl h
  | inr q =>
    by_cases c60 : i.1 = 60
    · by_cases hl : (tv st 0).1 ≠ 0 ∧ lckd (yL s L) t (tv st 0).1
      · rw [ins2_w c60 hl.1 hl.2]
        show botF (lU (up1 (zN s) t (qW (zN s t) _) t)) = _
        rw [up1_s]
      · rw [ins2_60 c60 (fun z => hl z.2)] at h ⊢
        exact dl (yL s L) 60 q rfl h
    by_cases cs : strt i.1
    · rw [ins2_must rfl cs] at h ⊢
      have mb := must_bot (br := br) (W := W) (t := t) (s := yL s L) (k := q.1) trivial
      have m2 := must_2 (br := br) (W := W) (t := t) (s := yL s L) (k := q.1)
      generalize mustS br W t (yL s L) q.1 = mr at h mb m2 ⊢
      obtain ⟨r0, e, s1⟩ := mr
      match r0, h, mb, m2 with
      | 0, h, mb, m2 =>
        obtain ⟨L', e2⟩ := m2 (Or.inl rfl)
        have e2 : s1 = yL (yL s L) L' := e2
        subst e2
        exact dl _ i.1 q rfl h
      | 1, h, mb, m2 => exact mb
      | 2, h, mb, m2 =>
        obtain ⟨L', e2⟩ := m2 (Or.inr rfl)
        have e2 : s1 = yL (yL s L) L' := e2
        subst e2
        exact fl _ i.1 e rfl h
      | n + 3, h, mb, m2 => exact mb
    · rw [ins2_do rfl c60 cs] at h ⊢
      exact dl (yL s L) i.1 q rfl h
theorem start_bot (hg : gU s t = .inr (k, own) :: U) (h : lSt (zN (startS br W t s k own U) t) = 1) : botF (gU (startS br W t s k own U) t) = botF (gU s t) := by
  unfold startS at h ⊢
  by_cases c1 : own = false ∧ isFc W k = false
  · rw [if_pos c1] at h ⊢
    cases eu : upW W k with
    | none => rfl
    | some p =>
      rw [eu] at h
      dsimp only at h ⊢
      have mb := must_bot (br := br) (W := W) (t := t) (s := s) (k := p) trivial
      have m2 := must_2 (br := br) (W := W) (t := t) (s := s) (k := p)
      generalize mustS br W t s p = mr at h mb m2 ⊢
      obtain ⟨r0, e, s1⟩ := mr
      match r0, h, mb, m2 with
      | 0, h, mb, m2 =>
        obtain ⟨L', e2⟩ := m2 (Or.inl rfl)
        have e2 : s1 = yL s L' := e2
        subst e2
        exact startg_bot (s := yL s L') hg h
      | 1, h, mb, m2 => exact mb
      | 2, h, mb, m2 =>
        obtain ⟨L', e2⟩ := m2 (Or.inr rfl)
        have e2 : s1 = yL s L' := e2
        subst e2
        exact fail_bot (s := yL s L') h
      | n + 3, h, mb, m2 => exact mb
  · rw [if_neg c1] at h ⊢
    exact startg_bot hg h
theorem TM.bot {b' : Bool} (h : TM G US A S W w br nq nl nf nk B F x bb t s V M) (hb : lSt (zN s t) = 1 → bb = true → b' = true) : TM G US A S W w br nq nl nf nk B F x b' t s V M := ⟨h.1, h.2.1, h.2.2.1, fun z => (h.2.2.2 z).imp id (hb z)⟩
theorem TM.w4 (h : TM G US A S W w br nq nl nf nk B F x bb t s V M) : TM G US A S W w br nq nl nf nk B F x true t s V (sI M 13 (3 * w + t) 4 v) := by
  have ag : AgU w t M (sI M 13 (3 * w + t) 4 v) := AgU.rf.w13
  have rd : ∀ i, i ≠ 4 → mI (sI M 13 (3 * w + t) 4 v) 13 (3 * w + t) i = mI M 13 (3 * w + t) i := fun i hi => by rw [mI_sI, if_neg (fun z => hi z.2.2)]
  have ra : ∀ g i, g ≠ 13 → mI (sI M 13 (3 * w + t) 4 v) g (3 * w + t) i = mI M g (3 * w + t) i := fun g i hg => by rw [mI_sI, if_neg (fun z => hg z.1)]
  obtain ⟨hln, ⟨b1, b2'⟩, ⟨c1, c2, c3, c4⟩, d, e⟩ := h.2.1
  refine ⟨h.1.ag ag, ⟨hln, ⟨(rd 0 (by omega)).trans b1, (rd 3 (by omega)).trans b2'⟩, ⟨(rd 10 (by omega)).trans c1, (rd 11 (by omega)).trans c2, (rd 12 (by omega)).trans c3, (rd 13 (by omega)).trans c4⟩, ?_, fun z => ?_⟩, ⟨(rd 16 (by omega)).trans h.2.2.1.1, (rd 22 (by omega)).trans h.2.2.1.2.1, unT.eq' (fun g i hg => ra g i (by omega)) h.2.2.1.2.2⟩, fun z => Or.inr rfl⟩
  · have d' : uW (zN s t) (3 * w + t) M := d
    unfold uW at d' ⊢
    rw [rd 1 (by omega), rd 2 (by omega)]
    exact d'
  · obtain ⟨e1, e2, e3, e4, e5, e6⟩ := e z
    rw [rd 5 (by omega), rd 6 (by omega), rd 7 (by omega)]
    exact ⟨e1, e2, e3, e4, e5, fun k hk => (ra 170 k (by omega)).trans (e6 k hk)⟩
/-- a thread's first act -/
theorem ct_firstT (hq : TQc W F s) (h : TM G US A S W w br nq nl nf nk B F x bb t s (gU s t) M) (hg : gU s t = []) (hM : MO W s t none (gU s t)) (hon : lSt (zN s t) = 1) (hw0 : lWt (zN s t) = none) (hb0 : bb = false)
    (hQ : ∀ M', TM G US A S W w br nq nl nf nk B F x (botF (gU (firstS br W t s) t)) t (firstS br W t s) (gU (firstS br W t s) t) M' → Q 0 M')
    (hQ2 : ∀ L u M', firstS br W t s = sWt (yL s L) t (some u) → TM G US A S W w br nq nl nf nk B F x bb t (yL s L) (gU s t) M' → mI M' 13 (3 * w + t) 2 = wCd u → Q 2 M') : w_Model_findMethod 0 (52 : Int32) (mI M 13 (3 * w + t) 5) (mI M 13 (3 * w + t) 6) (mI M 13 (3 * w + t) 7) (-2 : Int32) (fun r9 M8 => if 0 ≤ r9 then (¬ (12 : Int32) = 0 ∧ w_Model_startOf 0 (r9 / (12 : Int32)) (fun r13 M12 => w_Model_advance_j66 0 Q r9 r13 M12) M8) else (w_Model_advance_j66 0 Q r9 (3 : Int32) M8)) M := by
  obtain ⟨hW, hFb, hF⟩ := id hq
  obtain ⟨hB, hWF, hWC, h51⟩ := id hW
  have hG := hM.1.1
  have hX := hM.2.1.2 t hM.2.1.1
  obtain ⟨-, ⟨hl6, hnum⟩, -, hg6, -, hns⟩ := hX.1 hon
  obtain ⟨e1, ⟨e5, hkA⟩, e6, e7, hx, e170⟩ := h.2.1.2.2.2.2 hon
  have hok := fMth_ok (br := br) (W := W) (a := zL s) (kn := (lCa (zN s t)).1) (x := (lCa (zN s t)).2.1) (o := 52) (acc := fun _ => false) hG.1.2.1 h51
  have hm : LkM W (zL s) (fMth br W (zL s) (lCa (zN s t)).1 (lCa (zN s t)).2.1 52 (fun _ => false)).2 := by rw [hok.2]; exact lkd_M h51 hG.1
  rw [e5, e6, e7]
  refine mf_w_Model_findMethod (Q := fun r M' => LKt G US A S W w br nq nl nf nk (fMth br W (zL s) (lCa (zN s t)).1 (lCa (zN s t)).2.1 52 (fun _ => false)).2 M' ∧ (∀ e, (fMth br W (zL s) (lCa (zN s t)).1 (lCa (zN s t)).2.1 52 (fun _ => false)).1 = .inl e → tThr e M') ∧ r = rcT mT (fMth br W (zL s) (lCa (zN s t)).1 (lCa (zN s t)).2.1 52 (fun _ => false)).1) (fun r M1 hf ⟨k1, k2, er⟩ => ?_) (ct_findMethod (o := 52) (acc := fun _ => false) (v5 := -2) hWF h.1.1 hG.1.1 hG.1.2.1 hx hkA hns (by omega) (Or.inr (Or.inl ⟨rfl, fun d => rfl⟩)) h.1.2.2.2.2.2.1.2 (fun M' a b => ⟨a, b, rfl⟩))
  unfold firstS at hQ hQ2
  cases ef : fMth br W (zL s) (lCa (zN s t)).1 (lCa (zN s t)).2.1 52 (fun _ => false) with
  | mk y L0 =>
    rw [ef] at hok hm hQ hQ2 k1 k2 er
    have hM1 : MO W (yL s L0) t none (gU (yL s L0) t) := hM.lL hm
    have h1 : TM G US A S W w br nq nl nf nk B F x bb t (yL s L0) (gU (yL s L0) t) M1 := h.lk hf k1
    have hg1 : gU (yL s L0) t = [] := hg
    cases y with
    | inl e =>
      have er : r = -1 := er
      subst er
      dsimp only at hQ hQ2
      refine itn (by decide) ?_
      unfold w_Model_advance_j66
      refine itp rfl (ct_throwC (o := none) (s := yL s L0) hq h1 hM1 hon hok.1 (k2 e rfl) (fun M2 h2 => ?_))
      unfold w_Model_advance_j84
      refine itn (by decide) (itn (by decide) (hQ M2 (h2.bot (fun z => ?_))))
      have : lSt (zN (failC W t (yL s L0) e) t) = 2 := fail_nil hg1
      omega
    | inr q =>
      have er : r = Int32.ofNat (12 * q.1 + q.2) := er
      subst er
      dsimp only at hQ hQ2
      obtain ⟨c0, hlk, -, hf1, hst, hab⟩ := fMth_in ef
      obtain ⟨hfc, -, hlc⟩ := lkd_in hlk
      have hqm := fMth1_ok (fnd_lt hfc) hf1
      have h12 := (h1.1.1.1.mcn hqm.1).2
      have hq1 := hqm.1
      have hq2 := hqm.2.1
      have e12 : Int32.ofNat (12 * q.1 + q.2) / (12 : Int32) = Int32.ofNat q.1 := by rw [show (12 : Int32) = Int32.ofNat 12 from rfl, oN_div (by omega) (by omega)]; congr 1; omega
      refine itp (oN_zero_le (show 12 * q.1 + q.2 < 2147483648 by have := hqm.1; have := hqm.2.1; omega)) ⟨by decide, ?_⟩
      rw [e12]
      obtain ⟨m0, m2, m1, m3⟩ := mustS_ok (br := br) (k := q.1) hW hM1 hon hqm.1
      have mbt := must_bot (br := br) (W := W) (t := t) (s := yL s L0) (k := q.1) trivial
      refine ct_startOf (k := q.1) (s := yL s L0) hq h1 hM1 hon hw0 hqm.1 (fun e => ?_) (fun M2 e h2 => ?_) (fun M2 e es h2 e13 => ?_) (fun M2 e h2 th => ?_)
      · have es := (m0 e).1
        have hQ' : ∀ y, enterS W t (yL s L0) [] q.1 q.2 (((lCa (zN s t)).2.2.take (lCa (zN s t)).2.1.2.1.length).map (fun v => (v, false))) = y → ∀ M', TM G US A S W w br nq nl nf nk B F x (botF (gU y t)) t y (gU y t) M' → Q 0 M' := fun y hy M' h' => hQ M' (by
          generalize mustS br W t (yL s L0) q.1 = mr at e es
          obtain ⟨r0, e', s1'⟩ := mr
          have e : r0 = 0 := e
          subst e
          have es : s1' = yL s L0 := es
          subst es
          show TM G US A S W w br nq nl nf nk B F x (botF (gU (enterS W t (yL s L0) [] q.1 q.2 (((lCa (zN s t)).2.2.take (lCa (zN s t)).2.1.2.1.length).map (fun v => (v, false)))) t)) t (enterS W t (yL s L0) [] q.1 q.2 (((lCa (zN s t)).2.2.take (lCa (zN s t)).2.1.2.1.length).map (fun v => (v, false)))) (gU (enterS W t (yL s L0) [] q.1 q.2 (((lCa (zN s t)).2.2.take (lCa (zN s t)).2.1.2.1.length).map (fun v => (v, false)))) t) M'
          rw [hy]; exact h')
        unfold enterS at hQ'
        have hQ' := hQ' _ (if_neg (by rw [hg1]; decide))
        unfold w_Model_advance_j66
        refine itn (by decide) ?_
        unfold w_Model_advance_j84
        refine itp rfl ⟨3 * w + t, h1.r46, ?_⟩
        have hw4 := h1.w4 (v := 2)
        rw [hg1] at hw4
        refine ct_newFrameK (U := []) hw4 (by trivial) (by decide) (by decide) hM.1.2.1 (fun M3 h3 _ => ⟨(lCa (zN s t)).2.1.2.1.length + 1, ?_⟩)
        have hks : (gmt (gc W q.1) q.2).2.1 = (lCa (zN s t)).2.1.2.1 := hqm.2.2.1.2.1
        generalize hargs : ((lCa (zN s t)).2.2.take (lCa (zN s t)).2.1.2.1.length).map (fun v => ((v, false) : Vl)) = args at hQ'
        have hal : args.length = (lCa (zN s t)).2.1.2.1.length := by rw [← hargs, List.length_map, List.length_take]; omega
        have hav : ∀ i, i < args.length → lv args i = ((lCa (zN s t)).2.2.getD i 0, false) := fun i hi => by
          rw [← hargs]
          show (((lCa (zN s t)).2.2.take (lCa (zN s t)).2.1.2.1.length).map (fun v => ((v, false) : Vl))).getD i (0, false) = _
          rw [List.getD_eq_getElem?_getD, List.getElem?_map, List.getElem?_take, if_pos (by omega), List.getElem?_eq_getElem (show i < (lCa (zN s t)).2.2.length by omega), List.getD_eq_getElem?_getD, List.getElem?_eq_getElem (show i < (lCa (zN s t)).2.2.length by omega)]; rfl
        generalize hs3 : evS (sU (yL s L0) t (.inl (q.1, q.2, 0, z20, []) :: [])) t 1 q.1 (some q.2) = s3 at h3
        have eN3 : zN s3 t = qU (zN s t) (.inl (q.1, q.2, 0, z20, []) :: []) := by
          rw [← hs3, ev_N]; exact up1_s
        have loop : ∀ n i M4, args.length - i < n → i ≤ args.length → TM G US A S W w br nq nl nf nk B F x true t s3 [.inl (q.1, q.2, 0, fstL args i, [])] M4 → w_Model_advance_L114 0 Q n (Int32.ofNat i) M4 := by
          intro n
          induction n with
          | zero => intro i M4 hn; exact absurd hn (by omega)
          | succ n ih =>
            intro i M4 hn hi h4
            obtain ⟨z1, z2, z3, z4⟩ := h4.1.1.1.sgT (ks := (lCa (zN s t)).2.1.2.1) (κ := (lCa (zN s t)).2.1.2.2.1) hx.2.1
            have u4 := h4.2.1
            rw [eN3] at u4
            obtain ⟨-, -, -, f7, -, f170⟩ := u4.2.2.2.2 hon
            have f7 : mI M4 13 (3 * w + t) 7 = Int32.ofNat (S.idxOf (sg A (lCa (zN s t)).2.1.2.1 (lCa (zN s t)).2.1.2.2.1)) := f7
            have R4 := h4.r46
            obtain ⟨l0, l1, l2, l3, l4, l5, l6, l7⟩ := h4.lens
            unfold w_Model_advance_L114
            refine ⟨_, z1, 3 * w + t, R4, ?_⟩
            rw [f7, oN_tnc (k := S.idxOf (sg A (lCa (zN s t)).2.1.2.1 (lCa (zN s t)).2.1.2.2.1)) (by omega), z4]
            refine ⟨(vp_oN (by omega)).mpr z2, ?_⟩
            by_cases ci : args.length ≤ i
            · have ei : i = args.length := by omega
              subst ei
              refine itp (le_oN (by omega) (by omega)) (hQ' M4 ?_)
              rw [fstL_all] at h4
              have h5 := h4.su (V := [.inl (q.1, q.2, 0, args ++ List.replicate (20 - args.length) (0, false), [])])
              rw [← hs3, ev_su2] at h5
              rw [ev_U, gU_sU]
              exact h5
            · have hii : i < args.length := by omega
              refine itn (nle_oN (by omega) (by omega)) ⟨3 * w + t, R4, 3 * w + t, R4, by rw [l0]; exact (vp_oN (by omega)).mpr (by omega), by rw [l6]; exact (vp_oN (by omega)).mpr (by omega), ?_⟩
              rw [oN_tnc (k := i) (by omega), show Int32.ofNat i + (1 : Int32) = Int32.ofNat (i + 1) from oN_add _ 1, show mI M4 170 (3 * w + t) i = (lCa (zN s t)).2.2.getD i 0 from f170 i (show i < (lCa (zN s t)).2.1.2.1.length by omega)]
              have h5 := h4.setl (l := i) (v := (lCa (zN s t)).2.2.getD i 0) (b := false) (by trivial) (by omega) (fstL_len (by omega) (by omega))
              rw [← hav i hii, fstL_set hii (by omega), tr_f] at h5
              have e525 : mI (sI M4 176 (3 * w + t) (44 * frs [] + i) ((lCa (zN s t)).2.2.getD i 0)) 525 (3 * w + t) (44 * frs [] + i) = b2 false := by
                rw [mI_sI, if_neg (fun z => absurd z.1 (by decide))]
                have := (h4.2.2.1.2.2.2.1.1 i (by omega)).2
                rw [this]
                congr 1
                show ((fstL args i).getD i (0, false)).2 = false
                unfold fstL
                rw [List.getD_eq_getElem?_getD, List.getElem?_append_right (by rw [List.length_take]; omega), List.getElem?_replicate]
                split <;> rfl
              rw [sI_same e525] at h5
              rw [show 44 * frs ([] : List Un) + i = i from by show 44 * 0 + i = i; omega] at h5
              exact ih (i + 1) _ (by omega) (by omega) h5
        rw [← hal]
        exact loop (args.length + 1) 0 M3 (by omega) (by omega) h3
      · unfold w_Model_advance_j66
        refine itn (by decide) ?_
        unfold w_Model_advance_j84
        refine itn (by decide) (itn (by decide) (hQ M2 ?_))
        generalize mustS br W t (yL s L0) q.1 = mr at e h2 mbt ⊢
        obtain ⟨r0, e', s1'⟩ := mr
        have e : r0 = 1 := e
        subst e
        exact h2.bot (fun _ z => by rw [hb0] at z; cases z)
      · unfold w_Model_advance_j66
        refine itn (by decide) ?_
        unfold w_Model_advance_j84
        refine itn (by decide) (itp rfl (hQ2 L0 (.inr q.1) M2 ?_ h2 e13))
        generalize mustS br W t (yL s L0) q.1 = mr at e es ⊢
        obtain ⟨r0, e', s1'⟩ := mr
        have e : r0 = 3 := e
        subst e
        exact es
      · obtain ⟨he, hM2, hN, hF2⟩ := m2 e
        have eg : gU (mustS br W t (yL s L0) q.1).2.2 t = gU (yL s L0) t := by show lU (zN _ t) = _; rw [hN]
        have hq2 : TQc W F (mustS br W t (yL s L0) q.1).2.2 := ⟨hq.1, hq.2.1, by rw [hF2]; exact hq.2.2⟩
        unfold w_Model_advance_j66
        refine itp rfl (ct_throwC (o := none) hq2 h2 (by rw [eg]; exact hM2) (by rw [hN]; exact hon) he th (fun M3 h3 => ?_))
        unfold w_Model_advance_j84
        refine itn (by decide) (itn (by decide) (hQ M3 ?_))
        have e2 : lSt (zN (failC W t (mustS br W t (yL s L0) q.1).2.2 (mustS br W t (yL s L0) q.1).2.1) t) = 2 := fail_nil (by rw [eg]; exact hg1)
        generalize mustS br W t (yL s L0) q.1 = mr at e h3 e2 ⊢
        obtain ⟨r0, e', s1'⟩ := mr
        have e : r0 = 2 := e
        subst e
        exact h3.bot (fun z => by have e2 : lSt (zN (failC W t s1' e') t) = 2 := e2; have z : lSt (zN (failC W t s1' e') t) = 1 := z; omega)
/-- an act of a thread -/
theorem ct_advT (hq : TQc W F s) (h : TM G US A S W w br nq nl nf nk B F x (botF (gU s t)) t s (gU s t) M) (hM : MO W s t none (gU s t)) (hon : lSt (zN s t) = 1) (hw0 : lWt (zN s t) = none) (hk : ∀ y, 0 ≤ (lkR s y).1) (hns : ∀ c j a, c < W.length → iM (gin (co (gmt (gc W c) j)) a) ≠ nStart)
    (hQ : ∀ r M', (r = 0 ∧ zK (advS br W t s) = zK s) ∨ (r = 1 ∧ zK (advS br W t s) = zK s + 1) → TM G US A S W w br nq nl nf nk B F x (botF (gU (advS br W t s) t)) t (advS br W t s) (gU (advS br W t s) t) M' → Q r M')
    (hQ2 : ∀ L u M', advS br W t s = sWt (yL s L) t (some u) → TM G US A S W w br nq nl nf nk B F x (botF (gU s t)) t (yL s L) (gU s t) M' → mI M' 13 (3 * w + t) 2 = wCd u → Q 2 M') : w_Model_advance 0 Q M := by
  obtain ⟨hW, hFb, hF⟩ := id hq
  have h51 := hW.2.2.2
  obtain ⟨l0, l1, l2, l3, l4, l5, l6, l7⟩ := h.lens
  have e16 : mI M 13 (3 * w + t) 16 = Int32.ofNat (gU s t).length := h.2.2.1.1
  have hl := hM.2.2.2.1.len hW
  unfold w_Model_advance
  refine ⟨3 * w + t, h.r46, ?_⟩
  cases hg : gU s t with
  | nil =>
    have e4 : mI M 13 (3 * w + t) 4 = 0 := (h.2.2.2 hon).resolve_right (by rw [hg]; decide)
    rw [hg] at e16
    have ea : advS br W t s = firstS br W t s := by unfold advS; rw [hg]
    rw [ea] at hQ hQ2
    have hb : botF (gU s t) = false := by rw [hg]; rfl
    rw [hb] at h hQ2
    refine itp e4 ⟨3 * w + t, h.r46, itp e16 ⟨3 * w + t, h.r46, 3 * w + t, h.r46, 3 * w + t, h.r46, ct_firstT hq h hg hM hon hw0 rfl (fun M' h' => hQ 0 M' (Or.inl ⟨rfl, KpM.first.1.2⟩) h') hQ2⟩⟩
  | cons u V =>
    rw [hg] at e16 hl
    have hl : V.length + 1 ≤ 91 := hl
    have e16 : mI M 13 (3 * w + t) 16 = Int32.ofNat (V.length + 1) := e16
    have j156 : w_Model_advance_j156 0 Q M := by
      unfold w_Model_advance_j156
      refine ⟨3 * w + t, h.r46, 3 * w + t, h.r46, ?_⟩
      rw [e16, show Int32.ofNat (V.length + 1) - (1 : Int32) = Int32.ofNat V.length from sub_n (x := V.length + 1) (n := 1) (by omega), oN_tnc (k := V.length) (by omega)]
      refine ⟨by rw [l1]; exact (vp_oN (by omega)).mpr (by omega), ?_⟩
      cases u with
      | inl fm =>
        obtain ⟨c, j, a, lo, st⟩ := fm
        have ea : advS br W t s = insS br W t s c j a lo st V := by unfold advS; rw [hg]
        rw [ea] at hQ hQ2
        have h' := h
        rw [hg] at h'
        have hMg := hM
        rw [hg] at hMg
        have hA : At W s t c j a lo st V (gin (co (gmt (gc W c) j)) a) := ⟨⟨hW, hMg, hon⟩, hg, rfl, by omega⟩
        have hfr := hA.tj.1.1
        rw [show mI M 171 (3 * w + t) V.length = Int32.ofNat (frs V) from h'.2.2.1.2.2.1.1.1]
        refine itp (oN_zero_le (show frs V < 2147483648 by omega)) ?_
        have ib := ins_bot (br := br) (W := W) hg
        refine ct_insT hq h' hA (hns c j a hA.cj.1) hw0 hk (fun r M' hr h2 => hQ r M' hr (h2.bot (fun z1 z2 => by rw [ib z1, hg]; exact z2))) (fun L u M' e1 h2 e2 => hQ2 L u M' e1 (by rw [hg]; have h2 : TM G US A S W w br nq nl nf nk B F x (botF (.inl (c, j, a, lo, st) :: V)) t (yL s L) (gU s t) M' := h2; rw [hg] at h2; exact h2) e2)
      | inr ko =>
        obtain ⟨k, own⟩ := ko
        have ea : advS br W t s = startS br W t s k own V := by unfold advS; rw [hg]
        rw [ea] at hQ hQ2
        have h' := h
        rw [hg] at h'
        have hMg := hM
        rw [hg] at hMg
        have hk' : k < W.length := hMg.2.2.2.1.1.2.1.1.2
        obtain ⟨ng1, -⟩ := neg1 (k := k) (by omega)
        rw [show mI M 171 (3 * w + t) V.length = (-1 : Int32) - Int32.ofNat k from h'.2.2.1.2.2.1.1]
        generalize (-1 : Int32) - Int32.ofNat k = zz at ng1 ⊢
        refine itn (Int32.not_le.mpr ng1) ?_
        have sb := start_bot (br := br) (W := W) hg
        refine ct_startOn hq h hg hM hon hw0 (fun M' h2 => hQ 0 M' (Or.inl ⟨rfl, KpM.start.1.2⟩) (h2.bot (fun z1 z2 => by rw [sb z1]; exact z2))) (fun M' y e1 h2 e2 => hQ2 (zL s) y M' e1 h2 e2)
    by_cases c4 : mI M 13 (3 * w + t) 4 = 0
    · refine itp c4 ⟨3 * w + t, h.r46, itn ?_ j156⟩
      rw [e16]
      exact fun z => by have := (oN_inj (a := V.length + 1) (b := 0) (by omega) (by omega)).mp z; omega
    · exact itn c4 j156
end
