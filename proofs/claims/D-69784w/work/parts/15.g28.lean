/-! THE MACHINE IN THE WORKS: an instruction -/
section
variable {A : List Nm} {W : List Cls} {w C B F t : Nat} {br : Int32} {nq nk np nh nr : Nat} {s : Ms} {M M2 : Mem} {U : List Un} {c j a q0 : Nat} {lo st lo' st' : List Vl} {q : Nat × Nat} {i : Ins} {Q : Mem → Prop} {L : LkS} {e r : Int32} {y : Int32 ⊕ (Nat × Nat)}
/-- a thread waits for a lock -/
theorem RM.wtR (h : RM A W w br nq nk np nh nr C B F t s (gU s t) M) (h0 : lWt (zN s t) = none) : RM A W w br nq nk np nh nr C B F t (sWt s t (some (.inl r))) (gU s t) (sI M 7 (3 * w + t) 18 r) := by
  have ag : AgT w t M (sI M 7 (3 * w + t) 18 r) := AgT.rf.w7
  have eN : zN (sWt s t (some (.inl r))) t = qW (zN s t) (some (.inl r)) := up1_s
  refine ⟨(h.1.ag ag).yn, ?_, ⟨?_, ?_, LU.w7 h.2.2.1.2.2⟩, ?_⟩
  · rw [eN]
    obtain ⟨⟨a1, a2, a3, a4⟩, ⟨b1, b2', b3, b4⟩, ⟨c1, c2, c3, c4⟩, d, e⟩ := h.2.1
    have rd : ∀ i, i ≠ 18 → mI (sI M 7 (3 * w + t) 18 r) 7 (3 * w + t) i = mI M 7 (3 * w + t) i := fun i hi => by rw [mI_sI, if_neg (fun z => hi z.2.2)]
    refine ⟨⟨a1, a2, a3, a4⟩, ⟨(rd 0 (by omega)).trans b1, (rd 10 (by omega)).trans b2', (rd 11 (by omega)).trans b3, (rd 12 (by omega)).trans b4⟩, ⟨(rd 13 (by omega)).trans c1, (rd 14 (by omega)).trans c2, (rd 15 (by omega)).trans c3, (rd 16 (by omega)).trans c4⟩, ?_, fun z i hi => ?_⟩
    · have d' : rW (zN s t) (3 * w + t) M := d
      unfold rW at d'
      rw [h0] at d'
      exact ⟨by rw [mI_sI, if_pos ⟨rfl, rfl, rfl⟩], (rd 19 (by omega)).trans d'.2⟩
    · rw [mI_sI, if_neg (fun z => absurd z.1 (by decide))]; exact e z i hi
  · rw [mI_sI, if_neg (fun z => absurd z.2.2 (by decide))]; exact h.2.2.1.1
  · rw [mI_sI, if_neg (fun z => absurd z.2.2 (by decide))]; exact h.2.2.1.2.1
  · rw [eN]; exact fun z => (h.2.2.2 z).fr ag.1.1
theorem At.tick {op : Nat} (h : At W s t c j a lo st U i) : At W (tickS s t op) t c j a lo st U i := ⟨⟨h.1.1, h.1.2.1.tick, by rw [tick_N]; exact h.1.2.2⟩, by rw [tick_U]; exact h.2.1, h.2.2.1, h.2.2.2⟩
/-- it acts -/
theorem c_ja (hq : RQ A W w nq nk np nh nr F s) (h : RI A W w br nq nk np nh nr C B F t s c j a lo st U M) (hA : At W s t c j a lo st U i) (hC : zK s < C) (hCb : C < 1000000) (hFq : Fq W (tickS s t i.1) i q) (h36 : mI M 6 w 36 = i36 W i q) (hok : qOk W i q) (e62 : mI M 62 w (moff W c + j) = Int32.ofNat q0) (hq0 : q0 + a < L6 w) (hQ : ∀ M', RM A W w br nq nk np nh nr C B F t (doS W t (tickS s t i.1) c j a lo st U i q) (gU (doS W t (tickS s t i.1) c j a lo st U i q) t) M' → Q M') : w_Machine_instruction_j252 w Q (Int32.ofNat U.length) (Int32.ofNat (moff W c + j)) (Int32.ofNat (q0 + a)) (Int32.ofNat i.1) 0 M := by
  have h62 : i.1 < 62 := hA.in.2.2.2.2.1
  have hLb := L_le w
  obtain ⟨n, hn, en⟩ := i36_lt h.1.1.1.1.1 hok
  unfold w_Machine_instruction_j252
  refine itn (by decide) (itn (by decide) (mf_w_Machine_step (Q := fun M' => RM A W w br nq nk np nh nr C B F t (tickS s t i.1) (.inl (c, j, a, lo, st) :: U) M' ∧ (∀ i, i = 32 ∨ i = 33 ∨ i = 34 ∨ i = 36 → mI M' 6 w i = mI M 6 w i)) (fun M1 hf ⟨h1, k1⟩ => ?_) (c_tick h.1 h62 hC hCb (fun M' a b => ⟨a, b⟩))))
  have e36 := (k1 36 (by omega)).trans h36
  have hr : RI A W w br nq nk np nh nr C B F t (tickS s t i.1) c j a lo st U M1 := ⟨h1, ⟨(k1 33 (by omega)).trans h.2.1.1, (k1 34 (by omega)).trans h.2.1.2⟩, h.2.2⟩
  obtain ⟨q1, ⟨e1, hq1⟩, hI⟩ := hr.ci hq.2.1 hA.tick
  have e2 : mI M1 62 w (moff W c + j) = mI M 62 w (moff W c + j) := hf.Ia (f := 62) rfl rfl _ _
  have eq : q1 = q0 := (oN_inj (by omega) (by omega)).mp (e1.symm.trans (e2.trans e62))
  subst eq
  refine itn (by rw [e36, en]; exact fun z => by have := (oN_lt (a := n) (b := 0) (by omega) (by omega)).mp z; omega) (itn (by decide) ?_)
  exact c_actM (s := tickS s t i.1) hq hr hA.tick hFq e36 hI hq0 hQ
/-- it fails -/
theorem c_jf {v1 v2 v3 v5 : Int32} (hq : RQ A W w nq nk np nh nr F s) (h : RM A W w br nq nk np nh nr C B F t s (gU s t) M) (hM : MO W s t none (gU s t)) (hon : lSt (zN s t) = 1) (h62 : i.1 < 62) (hC : zK s < C) (hCb : C < 1000000) (he : cdOk e ∧ e ≠ 0 ∧ e ≠ 1) (hc : (v5 = 0 ∧ mI M 6 w 36 = -e) ∨ (v5 = 2 ∧ 0 ≤ mI M 6 w 36 ∧ mI M 6 w 32 = e)) (hQ : ∀ M', RM A W w br nq nk np nh nr C B F t (failC W t (tickS s t i.1) e) (gU (failC W t (tickS s t i.1) e) t) M' → Q M') : w_Machine_instruction_j252 w Q v1 v2 v3 (Int32.ofNat i.1) v5 M := by
  unfold w_Machine_instruction_j252
  have v15 : v5 ≠ 1 ∧ v5 ≠ 3 := by rcases hc with ⟨z, -⟩ | ⟨z, -⟩ <;> rw [z] <;> decide
  refine itn v15.1 (itn v15.2 (c_tick h h62 hC hCb (fun M1 h1 k1 => ?_)))
  have e36 := k1 36 (by omega)
  have e32 := k1 32 (by omega)
  have hMt : MO W (tickS s t i.1) t none (gU (tickS s t i.1) t) := by rw [tick_U]; exact hM.tick
  have hf := c_fails (s := tickS s t i.1) (o := none) (Q := Q) hq (by rw [tick_U]; exact h1) hMt (by rw [tick_N]; exact hon) he hQ
  unfold w_Machine_instruction_j284 w_Machine_instruction_j304
  rcases hc with ⟨z1, z2⟩ | ⟨z1, z2, z3⟩
  · have hn := he.1.neg he.2.1
    rw [e36, z2]
    exact itp hn.1 (itn hn.2 hf)
  · rw [e36, e32, z3]
    refine itn (Int32.not_lt.mpr z2) (itp z1 (itp z2 hf))
/-- what is done when something was found, or not -/
noncomputable def ins2 (br : Int32) (W : List Cls) (t : Nat) (s : Ms) (c j a : Nat) (lo st : List Vl) (U : List Un) (i : Ins) : Int32 ⊕ (Nat × Nat) → Ms
  | .inl e => failC W t (tickS s t i.1) e
  | .inr q => if i.1 = 60 ∧ (tv st 0).1 ≠ 0 ∧ lckd s t (tv st 0).1 then sWt s t (some (.inl (tv st 0).1))
    else if strt i.1 then (match mustS br W t s q.1 with
        | (0, _, s') => doS W t (tickS s' t i.1) c j a lo st U i q
        | (2, e, s') => failC W t (tickS s' t i.1) e
        | (_, _, s') => s')
      else doS W t (tickS s t i.1) c j a lo st U i q
noncomputable def ins1 (br : Int32) (W : List Cls) (s : Ms) (c j : Nat) (i : Ins) : FR := if i.1 = 54 ∨ i.1 = 55 then (.inr (0, 0), zL s) else fIns br W (zL s) c (gmt (gc W c) j) i
theorem ins1_60 (h : i.1 = 60) : ins1 br W s c j i = (.inr (0, 0), zL s) := by
  unfold ins1 fIns
  rw [if_neg (by omega), if_neg (by omega), if_neg (by omega), if_neg (by omega), if_neg (by omega)]
theorem ins2_eq (hi : i = gin (co (gmt (gc W c) j)) a) : insS br W t s c j a lo st U = ins2 br W t (yL s (ins1 br W s c j i).2) c j a lo st U i (ins1 br W s c j i).1 := by
  unfold insS
  dsimp only
  rw [← hi]
  by_cases c0 : i.1 = 60
  · have e1 := ins1_60 (br := br) (W := W) (s := s) (c := c) (j := j) c0
    have e2 : (if i.1 = 54 ∨ i.1 = 55 then ((.inr (0, 0), zL s) : FR) else fIns br W (zL s) c (gmt (gc W c) j) i) = (.inr (0, 0), zL s) := e1
    rw [e1, e2]
    rfl
  · rw [if_neg (fun z => c0 z.1)]
    show (match ins1 br W s c j i with | (.inl e, L) => _ | (.inr q, L) => _) = _
    cases e1 : ins1 br W s c j i with
    | mk y L =>
      cases y with
      | inl e => rfl
      | inr q =>
        show _ = (if i.1 = 60 ∧ (tv st 0).1 ≠ 0 ∧ lckd (yL s L) t (tv st 0).1 then _ else _)
        rw [if_neg (fun z => c0 z.1)]
        rfl
theorem must_K {k : Nat} : zK (mustS br W t s k).2.2 = zK s := by
  have hev : ∀ (x : Ms) (w' k' : Nat) (m : Option Nat), zK (evS x t w' k' m) = zK x := fun x w' k' m => by unfold evS; split <;> rfl
  unfold mustS
  split
  · rfl
  split
  · split <;> rfl
  split
  · rfl
  split
  · show zK (evS (yB (yO (yC (yL s _) _) _) _) t 4 k none) = _
    rw [hev]
  · rfl
/-- it goes on when what it names was found -/
theorem c_j97 (hq : RQ A W w nq nk np nh nr F s) (h : RI A W w br nq nk np nh nr C B F t s c j a lo st U M) (hA : At W s t c j a lo st U i) (hw0 : lWt (zN s t) = none) (hC : zK s < C) (hCb : C < 1000000) (e62 : mI M 62 w (moff W c + j) = Int32.ofNat q0) (hq0 : q0 + a < L6 w) (hy : thOk y) (h60 : i.1 = 60 → y = .inr (0, 0)) (hok : ∀ q, y = .inr q → qOk W i q) (hFq : ∀ q s', y = .inr q → zL s' = zL s → (strt i.1 → zC s' q.1 ≠ 0) → Fq W s' i q)
    (hQ : ∀ M', RM A W w br nq nk np nh nr C B F t (ins2 br W t s c j a lo st U i y) (gU (ins2 br W t s c j a lo st U i y) t) M' → Q M') : w_Machine_instruction_j97 w Q (Int32.ofNat U.length) (Int32.ofNat (moff W c + j)) (Int32.ofNat (q0 + a)) (Int32.ofNat i.1) (rcI W i y) M := by
  obtain ⟨hW, hK, hnA, ⟨hw, hFb⟩, hF⟩ := id hq
  have h62 : i.1 < 62 := hA.in.2.2.2.2.1
  have hM := hA.1.2.1
  have hg := hA.2.1
  have hon := hA.1.2.2
  have h51 := hW.2.2.2
  have hLb := L_le w
  have e36 : mI (sI M 6 w 36 (rcI W i y)) 6 w 36 = rcI W i y := by rw [mI_sI, if_pos ⟨rfl, rfl, rfl⟩]
  have e62' : mI (sI M 6 w 36 (rcI W i y)) 62 w (moff W c + j) = Int32.ofNat q0 := by rw [mI_sI, if_neg (fun z => absurd z.1 (by decide))]; exact e62
  have h' : RI A W w br nq nk np nh nr C B F t s c j a lo st U (sI M 6 w 36 (rcI W i y)) := by
    refine ⟨h.1.w6 (by omega), ⟨?_, ?_⟩, h.2.2⟩
    · rw [mI_sI, if_neg (fun z => absurd z.2.2 (by decide))]; exact h.2.1.1
    · rw [mI_sI, if_neg (fun z => absurd z.2.2 (by decide))]; exact h.2.1.2
  unfold w_Machine_instruction_j97
  generalize sI M 6 w 36 (rcI W i y) = M1 at e36 e62' h' ⊢
  unfold w_Machine_instruction_j130 w_Machine_instruction_j171
  rw [e36]
  have hM' : MO W s t none (gU s t) := by rw [hg]; exact hM
  cases y with
  | inl e =>
    have hn := hy.1.neg hy.2.1
    have h60' : i.1 ≠ 60 := fun z => by cases h60 z
    refine itp hn.1 (itp hn.1 (itp hn.1 ?_))
    unfold w_Machine_instruction_j206
    exact itn (ne_oN (b := 60) h60' (by omega) (by omega)) (c_jf hq (by rw [hg]; exact h'.1) hM' hon h62 hC hCb hy (Or.inl ⟨rfl, e36⟩) hQ)
  | inr q =>
    have hqk := hok q rfl
    obtain ⟨n, hn, en⟩ := i36_lt h'.1.1.1.1.1 hqk
    have e36 : mI M1 6 w 36 = i36 W i q := e36
    have hneg : ¬ rcI W i (.inr q) < 0 := by
      show ¬ i36 W i q < 0
      rw [en]; exact fun z => by have := (oN_lt (a := n) (b := 0) (by omega) (by omega)).mp z; omega
    refine itn hneg ?_
    have plain : ¬ strt i.1 → ¬ (i.1 = 60 ∧ (tv st 0).1 ≠ 0 ∧ lckd s t (tv st 0).1) → w_Machine_instruction_j252 w Q (Int32.ofNat U.length) (Int32.ofNat (moff W c + j)) (Int32.ofNat (q0 + a)) (Int32.ofNat i.1) 0 M1 := fun ns nw => by
      have hQ' : ∀ x, ins2 br W t s c j a lo st U i (.inr q) = x → ∀ M', RM A W w br nq nk np nh nr C B F t x (gU x t) M' → Q M' := fun x hx => by rw [← hx]; exact hQ
      exact c_ja hq h' hA hC hCb (hFq q _ rfl rfl (fun z => absurd z ns)) e36 hqk e62' hq0 (hQ' _ (by
        show (if i.1 = 60 ∧ (tv st 0).1 ≠ 0 ∧ lckd s t (tv st 0).1 then _ else _) = _
        rw [if_neg nw, if_neg ns]))
    have must : strt i.1 → q.1 < W.length → w_Machine_mustStart w (Int32.ofNat q.1) (fun r49 M48 => w_Machine_instruction_j252 w Q (Int32.ofNat U.length) (Int32.ofNat (moff W c + j)) (Int32.ofNat (q0 + a)) (Int32.ofNat i.1) r49 M48) M1 := fun cs hql => by
      have nw : ¬ (i.1 = 60 ∧ (tv st 0).1 ≠ 0 ∧ lckd s t (tv st 0).1) := fun z => by have := z.1; unfold strt at cs; omega
      have hQ' : ∀ x, (match mustS br W t s q.1 with
        | (0, _, s') => doS W t (tickS s' t i.1) c j a lo st U i q
        | (2, e, s') => failC W t (tickS s' t i.1) e
        | (_, _, s') => s') = x → ∀ M', RM A W w br nq nk np nh nr C B F t x (gU x t) M' → Q M' := fun x hx => by
        have : ins2 br W t s c j a lo st U i (.inr q) = x := by
          show (if i.1 = 60 ∧ (tv st 0).1 ≠ 0 ∧ lckd s t (tv st 0).1 then _ else _) = _
          rw [if_neg nw, if_pos cs]; exact hx
        rw [← this]; exact hQ
      obtain ⟨m0, m2, m1, m3⟩ := mustS_ok (br := br) (k := q.1) hW hM' hon hql
      have mK := must_K (br := br) (W := W) (t := t) (s := s) (k := q.1)
      refine mf_w_Machine_mustStart (Q := fun v M' => v = Int32.ofNat (mustS br W t s q.1).1 ∧ RM A W w br nq nk np nh nr C B F t (mustS br W t s q.1).2.2 (gU (mustS br W t s q.1).2.2 t) M' ∧ ((mustS br W t s q.1).1 = 2 → mI M' 6 w 32 = (mustS br W t s q.1).2.1) ∧ ((mustS br W t s q.1).1 = 0 ∨ (mustS br W t s q.1).1 = 2 → ∀ i, i = 33 ∨ i = 34 ∨ i = 36 → mI M' 6 w i = mI M1 6 w i)) (fun v M2 hf ⟨ev, h2, k2, k3⟩ => ?_) (c_must hq (by rw [hg]; exact h'.1) hM' hw0 hql (fun M' a b c => ⟨rfl, a, b, c⟩))
      have f62 : mI M2 62 w (moff W c + j) = Int32.ofNat q0 := (hf.Ia (f := 62) rfl rfl _ _).trans e62'
      rw [ev]
      generalize mustS br W t s q.1 = mr at m0 m1 m2 m3 h2 k2 k3 hQ' mK
      obtain ⟨r0, e, s1⟩ := mr
      dsimp only at m0 m1 m2 m3 h2 k2 k3 hQ' mK ⊢
      match r0, m0, m1, m2, m3, h2, k2, k3, hQ' with
      | 0, m0, _, _, _, h2, _, k3, hQ' =>
        obtain ⟨es, -, hz⟩ := m0 rfl
        subst es
        rw [hg] at h2
        have kk := k3 (Or.inl rfl)
        exact c_ja hq ⟨h2, ⟨(kk 33 (by omega)).trans h'.2.1.1, (kk 34 (by omega)).trans h'.2.1.2⟩, h'.2.2⟩ hA hC hCb (hFq q _ rfl rfl (fun _ => hz)) ((kk 36 (by omega)).trans e36) hqk f62 hq0 (hQ' _ rfl)
      | 1, _, _, _, _, h2, _, _, hQ' =>
        unfold w_Machine_instruction_j252
        exact itp rfl (hQ' _ rfl M2 h2)
      | 2, _, _, m2, _, h2, k2, k3, hQ' =>
        obtain ⟨he, hM2, hN, hF2⟩ := m2 rfl
        have eg : gU s1 t = gU s t := by show lU (zN s1 t) = _; rw [hN]
        have kk := k3 (Or.inr rfl)
        have hq2 : RQ A W w nq nk np nh nr F s1 := ⟨hW, hK, hnA, ⟨hw, hFb⟩, by rw [hF2]; exact hF⟩
        exact c_jf hq2 h2 (by rw [eg]; exact hM2) (by rw [hN]; exact hon) h62 (by rw [mK]; exact hC) hCb he (Or.inr ⟨rfl, by rw [(kk 36 (by omega)).trans e36, en]; exact oN_zero_le (by omega), k2 rfl⟩) (hQ' _ rfl)
      | 3, _, _, _, _, h2, _, _, hQ' =>
        unfold w_Machine_instruction_j252
        exact itn (by decide) (itp rfl (hQ' _ rfl M2 h2))
      | n + 4, _, _, _, m3, _, _, _, _ => exact absurd m3 (by omega)
    have R2 : mR M1 6 w 2 = some (7, 3 * w + t) := h'.1.1.2.2.2.2.1.1
    by_cases c41 : i.1 = 41
    · have er : rcI W i (.inr q) = Int32.ofNat q.1 := by
        show i36 W i q = _
        unfold i36; rw [if_pos c41]
      refine itp (by rw [c41]; rfl) ?_
      rw [er]; exact must (Or.inl c41) (hqk.1 c41)
    refine itn (ne_oN (b := 41) c41 (by omega) (by omega)) (itn hneg ?_)
    have fo : i.1 = 48 ∨ i.1 = 49 → w_Machine_instruction_j151 w Q (Int32.ofNat U.length) (Int32.ofNat (moff W c + j)) (Int32.ofNat (q0 + a)) (Int32.ofNat i.1) M1 := fun z => by
      unfold w_Machine_instruction_j151
      obtain ⟨p1, p2⟩ := hqk.2.1 (by omega)
      rw [e36, show i36 W i q = Int32.ofNat (foff W q.1 + q.2) from by unfold i36; rw [if_neg c41, if_pos (by omega)]]
      exact c_classOfField h'.1.1.1.1.1 p1 p2 (must (by unfold strt; omega) p1)
    by_cases c48 : i.1 = 48
    · exact itp (by rw [c48]; rfl) (fo (Or.inl c48))
    refine itn (ne_oN (b := 48) c48 (by omega) (by omega)) ?_
    by_cases c49 : i.1 = 49
    · exact itp (by rw [c49]; rfl) (fo (Or.inr c49))
    refine itn (ne_oN (b := 49) c49 (by omega) (by omega)) (itn hneg ?_)
    by_cases c52 : i.1 = 52
    · obtain ⟨p1, p2⟩ := hqk.2.2 (by omega)
      have er : rcI W i (.inr q) = Int32.ofNat (moff W q.1 + q.2) := by
        show i36 W i q = _
        unfold i36; rw [if_neg c41, if_neg (by omega), if_pos (by omega)]
      have hb := (h'.1.1.1.1.1.mo (e := 0) p1).2.2.1
      have f381 := h'.1.1.1.1.1.2.1.1.2.1
      have hH := (h'.1.1.1.1.1.2.1.2.2 q.1 p1 q.2 p2).1
      refine itp (by rw [c52]; rfl) ?_
      rw [er, oN_tnc (k := moff W q.1 + q.2) (by omega), hH.1, f381 55 (by omega) (by omega)]
      exact ⟨(vp_oN (by omega)).mpr (by omega), must (by unfold strt; omega) p1⟩
    refine itn (ne_oN (b := 52) c52 (by omega) (by omega)) ?_
    have ns : ¬ strt i.1 := by unfold strt; omega
    unfold w_Machine_instruction_j206
    by_cases c60 : i.1 = 60
    · obtain ⟨tl, tk⟩ := hA.tk (ws := [wRef]) (by obtain ⟨o, r⟩ := i; have ho : o = 60 := c60; subst ho; rfl)
      have hfl := (tk 0 (by simp)).2.fl (Or.inl (wOne_ref (tk 0 (by simp)).1))
      have hv := (tk 0 (by simp)).2.2 hfl
      have hs : 1 ≤ st.length := by
        have := hA.in.1.2.1
        have tl : 1 ≤ (k2 W c j a).length := tl
        omega
      refine itp (by rw [c60]; rfl) (c_num (d := 0) h' hs ?_)
      by_cases z0 : (tv st 0).1 = 0
      · exact itp z0 (plain ns (fun z => z.2.1 z0))
      refine itn z0 ⟨3 * w + t, R2, c_num (d := 0) h' hs (c_isLocked h'.1.1.2.2.1.1 h'.1.1.2.2.1.2 hv z0 h'.1.2.1.2.1.1 ?_)⟩
      by_cases cl : lckd s t (tv st 0).1
      · rw [decide_eq_true cl]
        refine itn (by decide) ⟨3 * w + t, R2, c_num (d := 0) h' hs ?_⟩
        unfold w_Machine_instruction_j252
        refine itn (by decide) (itp rfl (hQ _ ?_))
        have e : ins2 br W t s c j a lo st U i (.inr q) = sWt s t (some (.inl (tv st 0).1)) := by
          show (if i.1 = 60 ∧ (tv st 0).1 ≠ 0 ∧ lckd s t (tv st 0).1 then _ else _) = _
          rw [if_pos ⟨c60, z0, cl⟩]
        have eg : gU (sWt s t (some (.inl (tv st 0).1))) t = gU s t := by
          show lU (zN (sWt s t (some (.inl (tv st 0).1))) t) = _
          rw [show zN (sWt s t (some (.inl (tv st 0).1))) t = qW (zN s t) (some (.inl (tv st 0).1)) from up1_s]
        rw [e, eg]
        exact RM.wtR (by rw [hg]; exact h'.1) hw0
      · rw [decide_eq_false cl]
        exact itp rfl (plain ns (fun z => cl z.2.2))
    · exact itn (ne_oN (b := 60) c60 (by omega) (by omega)) (plain ns (fun z => c60 z.1))
/-- an instruction -/
theorem c_insM (hq : RQ A W w nq nk np nh nr F s) (h : RM A W w br nq nk np nh nr C B F t s (gU s t) M) (hg : gU s t = .inl (c, j, a, lo, st) :: U) (hM : MO W s t none (gU s t)) (hon : lSt (zN s t) = 1) (hw0 : lWt (zN s t) = none) (hC : zK s < C) (hCb : C < 1000000) (hQ : ∀ M', RM A W w br nq nk np nh nr C B F t (insS br W t s c j a lo st U) (gU (insS br W t s c j a lo st U) t) M' → Q M') : w_Machine_instruction w Q M := by
  obtain ⟨hW, hK, hnA, ⟨hw, hFb⟩, hF⟩ := id hq
  rw [hg] at h hM
  have hl : U.length + 1 ≤ 91 := hM.2.2.2.1.len hW
  have hLb := L_le w
  generalize hi : gin (co (gmt (gc W c) j)) a = i
  have hA : At W s t c j a lo st U i := ⟨⟨hW, hM, hon⟩, hg, hi.symm, by omega⟩
  rw [ins2_eq hi.symm] at hQ
  have hst : st.length ≤ 20 ∧ stk U := UO.stk hW hM.1.1 hM.2.2.2.1.1
  obtain ⟨⟨hF1, -⟩, -⟩ := hM.2.2.2.1
  have hlo : lo.length = 20 := hF1.2.2.2.1
  have hj : j < (gc W c).2.2.2.2.2.length := hF1.2.1
  have R2 : mR M 6 w 2 = some (7, 3 * w + t) := h.1.2.2.2.2.1.1
  have e1 : mI M 7 (3 * w + t) 1 = Int32.ofNat (U.length + 1) := h.2.2.1.1
  obtain ⟨e89, e90, e91, -⟩ := h.2.2.1.2.2.1.1
  have l9 := h.2.1.1.1
  have l6 := h.1.1.1.1.2.2.2.1.1
  have f381 := h.1.1.1.1.2.1.1.2.1
  have hcl : c < W.length := hF1.1.2.1
  have m381 := (h.1.1.1.1.mo (e := 0) hcl).2.2.1
  have h11 : RI A W w br nq nk np nh nr C B F t s c j a lo st U (sI (sI M 6 w 33 (Int32.ofNat (40 * U.length))) 6 w 34 (Int32.ofNat st.length)) := by
    refine ⟨(h.w6 (by omega)).w6 (by omega), ⟨?_, ?_⟩, ⟨by omega, hst.1, hlo⟩, hst.2⟩
    · rw [mI_sI, if_neg (fun z => absurd z.2.2 (by decide)), mI_sI, if_pos ⟨rfl, rfl, rfl⟩]
    · rw [mI_sI, if_pos ⟨rfl, rfl, rfl⟩]
  have rd : ∀ f i k, f ≠ 6 → mI (sI (sI M 6 w 33 (Int32.ofNat (40 * U.length))) 6 w 34 (Int32.ofNat st.length)) f i k = mI M f i k := fun f i k hf => by
    rw [mI_sI, if_neg (fun z => hf z.1), mI_sI, if_neg (fun z => hf z.1)]
  obtain ⟨q0, ⟨e62, hq0⟩, hI⟩ := h11.ci hK hA
  have e62M : mI M 62 w (moff W c + j) = Int32.ofNat q0 := (rd 62 _ _ (by omega)).symm.trans e62
  have e66 : mI M 66 w (q0 + a) = Int32.ofNat i.1 := (rd 66 _ _ (by omega)).symm.trans hI.1.1
  have h62 : i.1 < 62 := hI.1.2
  unfold w_Machine_instruction
  refine ⟨3 * w + t, R2, 3 * w + t, R2, ?_⟩
  rw [e1, pred, oN_tnc (k := U.length) (by omega), e89]
  refine ⟨by rw [l9 89 (by omega) (by omega)]; exact (vp_oN (by omega)).mpr (by omega), by rw [f381 62 (by omega) (by omega)]; exact (vp_oN (by omega)).mpr (by omega), 3 * w + t, R2, by rw [l9 90 (by omega) (by omega)]; exact (vp_oN (by omega)).mpr (by omega), Int32.ofNat (q0 + a), ?_, ?_⟩
  · rw [oN_tnc (k := moff W c + j) (by omega), e62M, e90, oN_add]
  rw [oN_tnc (k := q0 + a) (by omega), e66]
  refine ⟨by rw [l6 66 (by omega) (by omega)]; exact (vp_oN (by omega)).mpr hq0, 3 * w + t, R2, by show vp_in _ (mL M 91 _); rw [l9 91 (by omega) (by omega)]; exact (vp_oN (by omega)).mpr (by omega), _, rfl, ?_⟩
  rw [show (40 : Int32) * Int32.ofNat U.length = Int32.ofNat (40 * U.length) from oN_mul 40 _, show ∀ x : Int32, mI (sI M 6 w 33 x) 91 (3 * w + t) U.length = Int32.ofNat st.length from fun x => by rw [mI_sI, if_neg (fun z => absurd z.1 (by decide))]; exact e91]
  generalize sI (sI M 6 w 33 (Int32.ofNat (40 * U.length))) 6 w 34 (Int32.ofNat st.length) = M1 at h11 e62 hI rd ⊢
  by_cases c54 : i.1 = 54 ∨ i.1 = 55
  · have ei : ins1 br W s c j i = (.inr (0, 0), zL s) := if_pos c54
    rw [ei] at hQ
    have n41 : i.1 ≠ 41 := by omega
    have nfo : ¬ isFo i.1 := by omega
    have nmo : ¬ isMo i.1 := by omega
    have key := c_j97 (s := s) (y := .inr (0, 0)) (i := i) (Q := Q) hq h11 hA hw0 hC hCb e62 hq0 trivial (fun z => by omega) (fun q e => ⟨fun z => absurd z n41, fun z => absurd z nfo, fun z => absurd z nmo⟩) (fun q s' e _ _ => ⟨fun z => absurd z n41, fun z => absurd z nfo, fun z => absurd z nmo⟩) hQ
    have e0 : rcI W i (.inr (0, 0)) = 0 := by
      show i36 W i (0, 0) = 0
      unfold i36; rw [if_neg n41, if_neg nfo, if_neg nmo]
    rw [e0] at key
    unfold w_Machine_instruction_j87
    rcases c54 with z | z
    · exact itp (by rw [z]; rfl) key
    · exact itn (by rw [z]; decide) (itp (by rw [z]; rfl) key)
  · refine itn (ne_oN (b := 54) (fun z => c54 (Or.inl z)) (by omega) (by omega)) (itn (ne_oN (b := 55) (fun z => c54 (Or.inr z)) (by omega) (by omega)) ?_)
    have ei : ins1 br W s c j i = fIns br W (zL s) c (gmt (gc W c) j) i := if_neg c54
    refine mf_w_Machine_finds (Q := fun v M' => v = rcI W i (fIns br W (zL s) c (gmt (gc W c) j) i).1 ∧ LKw A W w br nq nk np nh nr (fIns br W (zL s) c (gmt (gc W c) j) i).2 M' ∧ cSt w M') (fun v M2 hf ⟨ev, a1, s1⟩ => ?_) (c_finds hq h11 hA hI hq0 c54 (fun M' a b => ⟨rfl, a, b⟩))
    rw [ev]
    have hok := fIns_ok (br := br) (c := c) (x := gmt (gc W c) j) (i := i) hW.2.2.2 hM.1.1.1
    have h60 : i.1 = 60 → fIns br W (zL s) c (gmt (gc W c) j) i = (.inr (0, 0), zL s) := fun z => ei.symm.trans (ins1_60 z)
    rw [ei] at hQ
    cases ef : fIns br W (zL s) c (gmt (gc W c) j) i with
    | mk y L =>
      rw [ef] at hok hQ a1 h60
      have h2 : RI A W w br nq nk np nh nr C B F t (yL s L) c j a lo st U M2 := ⟨h11.1.lk hf rfl a1 s1, ⟨(hf.I (f := 6) (k := 33) rfl w).trans h11.2.1.1, (hf.I (f := 6) (k := 34) rfl w).trans h11.2.1.2⟩, h11.2.2⟩
      have hA2 : At W (yL s L) t c j a lo st U i := ⟨⟨hW, hM.lL hok.2, hon⟩, hg, hi.symm, hA.2.2.2⟩
      exact c_j97 (s := yL s L) (y := y) hq h2 hA2 hw0 hC hCb ((hf.Ia (f := 62) rfl rfl _ _).trans e62) hq0 hok.1 (fun z => congrArg Prod.fst (h60 z)) (fun q e => fIns_lt (by rw [ef, e])) (fun q s' e hL hz => Fq_of (s := s) (by rw [ef, e]) hL hz) hQ
end
