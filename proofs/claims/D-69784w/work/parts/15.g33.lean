/-! THE MACHINE: turns -/
section
variable {br : Int32} {W : List Cls} {s s' s1 s2 : Ms} {t K : Nat} {x : Nat × Nat × Nat}
theorem turnS_ok (h : turnS s = some (t, s1)) (hT : (zT s).1 < 3) (hq : 1 ≤ (zT s).2.2) : t < 3 ∧ canG s t ∧ ∃ x : Nat × Nat × Nat, s1 = yT s x ∧ x.1 = t ∧ 1 ≤ x.2.1 ∧ x.2.2 = (zT s).2.2 ∧ (x.2.1 = (zT s).2.1 ∨ x.2.1 = (zT s).2.2) := by
  unfold turnS at h
  by_cases c1 : 0 < (zT s).2.1 ∧ canG s (zT s).1
  · rw [if_pos c1] at h
    have h := Prod.mk.inj (Option.some.inj h)
    rw [← h.1, ← h.2]
    exact ⟨hT, c1.2, zT s, rfl, rfl, c1.1, rfl, Or.inl rfl⟩
  rw [if_neg c1] at h
  by_cases c2 : canG s (((zT s).1 + 1) % 3)
  · rw [if_pos c2] at h
    have h := Prod.mk.inj (Option.some.inj h)
    rw [← h.1, ← h.2]
    exact ⟨Nat.mod_lt _ (by omega), c2, _, rfl, rfl, hq, rfl, Or.inr rfl⟩
  rw [if_neg c2] at h
  by_cases c3 : canG s (((zT s).1 + 2) % 3)
  · rw [if_pos c3] at h
    have h := Prod.mk.inj (Option.some.inj h)
    rw [← h.1, ← h.2]
    exact ⟨Nat.mod_lt _ (by omega), c3, _, rfl, rfl, hq, rfl, Or.inr rfl⟩
  rw [if_neg c3] at h
  by_cases c4 : canG s (((zT s).1 + 3) % 3)
  · rw [if_pos c4] at h
    have h := Prod.mk.inj (Option.some.inj h)
    rw [← h.1, ← h.2]
    exact ⟨Nat.mod_lt _ (by omega), c4, _, rfl, rfl, hq, rfl, Or.inr rfl⟩
  rw [if_neg c4] at h
  cases h
theorem MA.yt (h : MA W s) (hx : x.1 < 3) : MA W (yT s x) := by
  have h0 := h.at (t := 0) (by omega)
  have hs : sle s (yT s x) := sle_of rfl rfl
  have hX : LX W (yT s x) 0 := by
    obtain ⟨x1, x2, x3⟩ := h0.1.2.1.2 0 (by omega)
    refine ⟨x1, x2, fun y hy => ?_⟩
    have := x3 y hy
    cases y with
    | inl r => exact ⟨(hs r this.1).1, this.2⟩
    | inr k => exact this
  have hm : MO W (yT s x) 0 none (gU (yT s x) 0) := h0.1.mv (h0.1.1.1.same rfl rfl rfl rfl rfl rfl) h0.1.1.2.1 hx hs (fun _ z => z) (fun _ _ _ => rfl) hX (Nat.le_refl _) (fun _ _ _ _ _ => ⟨rfl, rfl⟩) (h0.1.2.2.2.1.mv hs (fun _ z => z) (fun _ _ => ⟨rfl, rfl⟩)) h0.1.2.2.2.2
  exact MK.all (t := 0) ⟨hm, h0.2⟩
/-- what holds between turns; K pays for faults at calls -/
def GI (W : List Cls) (K : Nat) (s : Ms) : Prop := MA W s ∧ ((zT s).2.1 < 1000000 ∧ 1 ≤ (zT s).2.2 ∧ (zT s).2.2 < 1000000) ∧ (zF s).length + rnT s ≤ zK s + K + 2 * nC3 (zC s)
theorem GI.ft (h : GI W K s) : (zF s).length ≤ zK s + K + 102 := by
  have := h.2.2
  have := nC3_le (f := zC s)
  omega
/-- the state in which a turn's act begins -/
theorem GI.beg (hG : GI W K s) (hs : turnS s = some (t, s1)) : (t < 3 ∧ lSt (zN (sWt s1 t none) t) = 1 ∧ lWt (zN (sWt s1 t none) t) = none) ∧ MO W (sWt s1 t none) t none (gU (sWt s1 t none) t) ∧ (zF (sWt s1 t none) = zF s ∧ zK (sWt s1 t none) = zK s ∧ zK s1 = zK s) ∧ (rnT (sWt s1 t none) ≤ rnT s ∧ zC (sWt s1 t none) = zC s ∧ muS (sWt s1 t none) ≤ muS s) ∧ ((zT s1).1 < 3 ∧ 1 ≤ (zT s1).2.1 ∧ (zT s1).2.1 < 1000000 ∧ 1 ≤ (zT s1).2.2 ∧ (zT s1).2.2 < 1000000) ∧ MA W s1 := by
  obtain ⟨hA, ⟨t1, t2, t3⟩, hf⟩ := hG
  obtain ⟨ht, hc, x, e, x1, x2, x3, x4⟩ := turnS_ok hs hA.1.2.2 t2
  subst e
  have hA1 := hA.yt (x := x) (by omega)
  have hM := (hA1.at ht).1
  have eN : zN (sWt (yT s x) t none) t = qW (zN s t) none := up1_s
  refine ⟨⟨ht, by rw [eN]; exact hc.1, by rw [eN]⟩, wt_none hM, ⟨rfl, rfl, rfl⟩, ⟨?_, rfl, wt_mu hM hc⟩, ⟨by show x.1 < 3; omega, x2, ?_, ?_, ?_⟩, hA1⟩
  · exact rnT_le (t := t) (fun t' hn => up1_o hn) hc.1
  · show x.2.1 < _; rcases x4 with z | z <;> omega
  · show 1 ≤ x.2.2; omega
  · show x.2.2 < _; omega
theorem turn_ok (hW : WO W) (hG : GI W K s) (hb : zK s + K + 300 < 1000000) (hs : turnS s = some (t, s1)) : MK W (advS br W t (sWt s1 t none)) t ∧ GI W K (turnA br W t s1) ∧ ((zK (turnA br W t s1) = zK s ∧ muS (turnA br W t s1) < muS s) ∨ zK (turnA br W t s1) = zK s + 1) := by
  obtain ⟨⟨ht, hon, hw0⟩, hM, ⟨eF, eK, eK1⟩, ⟨hr, eC, hmu⟩, ⟨z1, z2, z3, z4, z5⟩, hA1⟩ := hG.beg hs
  have hft := hG.ft
  have hok := advS_ok (br := br) hW hM hon (by rw [eF]; omega)
  have hfb := adv_fb (br := br) hW hM hon (by rw [eF]; omega)
  have hmv := adv_mu (br := br) hW hM hon hw0
  have hkq := Kq.adv (br := br) (W := W) (t := t) (s := sWt s1 t none)
  have eT : zT (advS br W t (sWt s1 t none)) = zT s1 := hkq.1
  rw [eK] at hmv
  rw [eF, eK, eC] at hfb
  have hkk := hkq.2.2
  rw [eK] at hkk
  refine ⟨hok, ⟨hok.all.yt ?_, ⟨?_, ?_, ?_⟩, ?_⟩, ?_⟩
  · show (zT (advS br W t (sWt s1 t none))).1 < 3
    rw [eT]; exact z1
  · show (if lSt (zN (advS br W t (sWt s1 t none)) t) ≠ 1 ∨ waitS (advS br W t (sWt s1 t none)) t = true then 0 else (if zK s1 < zK (advS br W t (sWt s1 t none)) then (zT (advS br W t (sWt s1 t none))).2.1 - 1 else (zT (advS br W t (sWt s1 t none))).2.1)) < 1000000
    rw [eT]
    split
    · omega
    split <;> omega
  · show 1 ≤ (zT (advS br W t (sWt s1 t none))).2.2
    rw [eT]; exact z4
  · show (zT (advS br W t (sWt s1 t none))).2.2 < _
    rw [eT]; exact z5
  · have h3 := hG.2.2
    show (zF (advS br W t (sWt s1 t none))).length + rnT (advS br W t (sWt s1 t none)) ≤ zK (advS br W t (sWt s1 t none)) + K + 2 * nC3 (zC (advS br W t (sWt s1 t none)))
    omega
  · show (zK (advS br W t (sWt s1 t none)) = zK s ∧ muS (advS br W t (sWt s1 t none)) < muS s) ∨ zK (advS br W t (sWt s1 t none)) = zK s + 1
    rcases hkk with z | z
    · have := hmv z.1
      exact Or.inl ⟨z.1, by omega⟩
    · exact Or.inr z.1
end
/-! THE MACHINE IN THE WORKS: turns -/
section
variable {A : List Nm} {W : List Cls} {w C B F t K : Nat} {br : Int32} {nq nk np nh nr : Nat} {s s' : Ms} {M M' : Mem}
theorem RM.wn (h : RM A W w br nq nk np nh nr C B F t s (gU s t) M) : RM A W w br nq nk np nh nr C B F t (sWt s t none) (gU (sWt s t none) t) (sI (sI M 7 (3 * w + t) 18 0) 7 (3 * w + t) 19 (-1)) := by
  have ag : AgT w t M (sI (sI M 7 (3 * w + t) 18 0) 7 (3 * w + t) 19 (-1)) := AgT.rf.w7.w7
  have eN : zN (sWt s t none) t = qW (zN s t) none := up1_s
  have eg : gU (sWt s t none) t = gU s t := by show lU (zN (sWt s t none) t) = _; rw [eN]
  have rd : ∀ i, i ≠ 18 → i ≠ 19 → mI (sI (sI M 7 (3 * w + t) 18 0) 7 (3 * w + t) 19 (-1)) 7 (3 * w + t) i = mI M 7 (3 * w + t) i := fun i h1 h2 => by rw [mI_sI, if_neg (fun z => h2 z.2.2), mI_sI, if_neg (fun z => h1 z.2.2)]
  rw [eg]
  refine ⟨(h.1.ag ag).yn, ?_, ⟨?_, ?_, LU.w7 (LU.w7 h.2.2.1.2.2)⟩, ?_⟩
  · rw [eN]
    obtain ⟨⟨a1, a2, a3, a4⟩, ⟨b1, b2', b3, b4⟩, ⟨c1, c2, c3, c4⟩, d, e⟩ := h.2.1
    refine ⟨⟨a1, a2, a3, a4⟩, ⟨(rd 0 (by omega) (by omega)).trans b1, (rd 10 (by omega) (by omega)).trans b2', (rd 11 (by omega) (by omega)).trans b3, (rd 12 (by omega) (by omega)).trans b4⟩, ⟨(rd 13 (by omega) (by omega)).trans c1, (rd 14 (by omega) (by omega)).trans c2, (rd 15 (by omega) (by omega)).trans c3, (rd 16 (by omega) (by omega)).trans c4⟩, ⟨?_, ?_⟩, fun z i hi => ?_⟩
    · rw [mI_sI, if_neg (fun z => absurd z.2.2 (by decide)), mI_sI, if_pos ⟨rfl, rfl, rfl⟩]
    · rw [mI_sI, if_pos ⟨rfl, rfl, rfl⟩]
    · rw [mI_sI, if_neg (fun z => absurd z.1 (by decide)), mI_sI, if_neg (fun z => absurd z.1 (by decide))]; exact e z i hi
  · exact (rd 1 (by omega) (by omega)).trans h.2.2.1.1
  · exact (rd 2 (by omega) (by omega)).trans h.2.2.1.2.1
  · rw [eN]; exact fun z => (h.2.2.2 z).fr ag.1.1
/-- one act -/
theorem c_adv {Q : Mem → Prop} (hq : RQ A W w nq nk np nh nr F s) (h : RM A W w br nq nk np nh nr C B F t s (gU s t) M) (hM : MO W s t none (gU s t)) (hon : lSt (zN s t) = 1) (hw0 : lWt (zN s t) = none) (hC : zK s < C) (hCb : C < 1000000) (hQ : ∀ M', RM A W w br nq nk np nh nr C B F t (advS br W t s) (gU (advS br W t s) t) M' → Q M') :
    if mI M 7 (3 * w + t) 1 = 0 then w_Machine_first w Q M else (∃ i19, mR M 6 w 2 = some (7, i19) ∧ ∃ i20, mR M 6 w 2 = some (7, i20) ∧ vp_in (mI M 7 i20 1 - (1 : Int32)) (mL M 92 i19) ∧ if mI M 92 i19 (mI M 7 i20 1 - (1 : Int32)).toNatClampNeg < 0 then w_Machine_instruction w Q M else (∃ i24, mR M 6 w 2 = some (7, i24) ∧ w_Machine_start w (mI M 7 i24 1 - (1 : Int32)) Q M)) := by
  have hW := hq.1
  have R2 : mR M 6 w 2 = some (7, 3 * w + t) := h.1.2.2.2.2.1.1
  have e1 : mI M 7 (3 * w + t) 1 = Int32.ofNat (gU s t).length := h.2.2.1.1
  have hl := hM.2.2.2.1.len hW
  have l92 := h.2.1.1.1 92 (by omega) (by omega)
  have hU := h.2.2.1.2.2
  unfold advS at hQ
  cases eg : gU s t with
  | nil =>
    rw [eg] at hQ e1
    exact itp e1 (c_first hq h eg hM hon hw0 hQ)
  | cons u U =>
    rw [eg] at hQ e1 hl hU
    have hl : U.length + 1 ≤ 91 := hl
    have e1 : mI M 7 (3 * w + t) 1 = Int32.ofNat (U.length + 1) := e1
    refine itn (by rw [e1]; exact ne_oN (b := 0) (by omega) (by omega) (by omega)) ⟨3 * w + t, R2, 3 * w + t, R2, ?_⟩
    rw [e1, pred, oN_tnc (k := U.length) (by omega), l92]
    refine ⟨(vp_oN (by omega)).mpr (by omega), ?_⟩
    cases u with
    | inl f =>
      obtain ⟨c, j, a, lo, st⟩ := f
      have e92 : mI M 92 (3 * w + t) U.length = -1 := hU.1.1.2.2.2
      rw [e92]
      exact itp (by decide) (c_insM hq h eg hM hon hw0 hC hCb hQ)
    | inr ko =>
      obtain ⟨k, own⟩ := ko
      have e92 : mI M 92 (3 * w + t) U.length = Int32.ofNat k := hU.1.1
      have hk : k < W.length := by
        have := hM.2.2.2.1.1
        rw [eg] at this
        exact this.2.1.1.2
      have h51 := hW.2.2.2
      rw [e92]
      refine itn (fun z => by have := (oN_lt (a := k) (b := 0) (by omega) (by omega)).mp z; omega) ⟨3 * w + t, R2, ?_⟩
      rw [show mI M 7 (3 * w + t) 1 = Int32.ofNat (U.length + 1) from e1, pred]
      exact c_start hq h eg hM hon hw0 hQ
theorem RA.w4 {x y : Nat} (h : RA A W w br nq nk np nh nr C B F s M) (e3 : mI M 6 w 5 = Int32.ofNat y) (hy : y = (zT s).2.2) : RA A W w br nq nk np nh nr C B F (yT s ((zT s).1, x, (zT s).2.2)) (sI M 6 w 4 (Int32.ofNat x)) := by
  have hf : Fr STn M (sI M 6 w 4 (Int32.ofNat x)) := Fr.wI rfl (Fr.rf _ _)
  refine h.tn hf ⟨?_, ?_, ?_⟩
  · rw [mI_sI, if_neg (fun z => absurd z.2.2 (by decide))]; exact h.2.2.2.1.2.2.1
  · rw [mI_sI, if_pos ⟨rfl, rfl, rfl⟩]
  · rw [mI_sI, if_neg (fun z => absurd z.2.2 (by decide))]; exact h.2.2.2.1.2.2.2.2
theorem go_a1 {n p q f : Nat} (h : (n + 1) * 900 + q < f + 1) (h1 : p < q) : (n + 1) * 900 + p < f := by omega
theorem go_a2 {n p q f : Nat} (h : (n + 1) * 900 + q < f + 1) (h1 : p < 900) : n * 900 + p < f := by
  rw [Nat.succ_mul] at h
  exact Nat.lt_of_lt_of_le (Nat.add_lt_add_left h1 _) (Nat.le_of_lt_succ (Nat.lt_of_le_of_lt (Nat.le_add_right _ q) h))
/-- turns -/
theorem c_goM {Q : Int32 → Mem → Prop} (hW : WO W) (hKB : KB w nq nk np nh nr) (hnA : nA A) (hw : w < 4) (hF : F < 1000000) (hCF : C + K + 300 < F) : ∀ f n s M, RA A W w br nq nk np nh nr C B F s M → GI W K s → zK s + n ≤ C → n * 900 + muS s < f → (∀ M', RA A W w br nq nk np nh nr C B F (gowS br W f n s).2 M' → GI W K (gowS br W f n s).2 → Q (b2 (gowS br W f n s).1) M') → w_Machine_go_L2 w Q f (Int32.ofNat n) M := by
  intro f
  induction f with
  | zero => intro n s M _ _ _ hf; exact absurd hf (by omega)
  | succ f ih =>
    intro n s M h hG hn hf hQ
    unfold w_Machine_go_L2
    cases n with
    | zero => exact itp (by decide) (hQ M h hG)
    | succ n =>
      refine itn (fun z => by have := (oN_le (a := n + 1) (b := 0) (by omega) (by omega)).mp z; omega) (c_hasTurn h hG.1 hG.2.1.1 (fun e => ?_) (fun t s1 M2 e h2 R2 ht _ => ?_))
      · refine itp rfl ?_
        have eg : gowS br W (f + 1) (n + 1) s = (false, s) := by
          show (match turnS s with | none => (false, s) | some (t, s1) => _) = _
          rw [e]
        rw [eg] at hQ
        exact hQ M h hG
      have eg : gowS br W (f + 1) (n + 1) s = gowS br W f (if zK s1 < zK (turnA br W t s1) then n else n + 1) (turnA br W t s1) := by
        show (match turnS s with | none => (false, s) | some (t, s1) => _) = _
        rw [e]
      rw [eg] at hQ
      have hft := hG.ft
      obtain ⟨hok, hG2, hstep⟩ := turn_ok (br := br) hW hG (by omega) e
      obtain ⟨⟨-, hon, hw0⟩, hM, ⟨eF, eK, eK1⟩, -, ⟨z1, z2, z3, z4, z5⟩, hA1⟩ := hG.beg e
      have r2 := h2.at R2 ht
      have e12 : mI M2 7 (3 * w + t) 12 = Int32.ofNat (lSp (zN s1 t)) := r2.2.1.2.1.2.2.2
      have r3 := r2.wn
      refine itn (by decide) ⟨3 * w + t, R2, 3 * w + t, R2, 3 * w + t, R2, 3 * w + t, R2, ?_⟩
      rw [e12]
      generalize sI (sI M2 7 (3 * w + t) 18 0) 7 (3 * w + t) 19 (-1) = M3 at r3 ⊢
      have hq : RQ A W w nq nk np nh nr F (sWt s1 t none) := ⟨hW, hKB, hnA, ⟨hw, hF⟩, by rw [eF]; omega⟩
      refine c_adv hq r3 hM hon hw0 (by rw [eK]; omega) (by omega) (fun M10 h10 => ?_)
      have hkq := Kq.adv (br := br) (W := W) (t := t) (s := sWt s1 t none)
      have hsp : lSp (zN (sWt s1 t none) t) = lSp (zN s1 t) := by rw [show zN (sWt s1 t none) t = qW (zN s1 t) none from up1_s]
      have hXs := hA1.2.1 t ht
      have hspb := hXs.2.1.2
      have eta : turnA br W t s1 = yT (advS br W t (sWt s1 t none)) ((zT (advS br W t (sWt s1 t none))).1, if lSt (zN (advS br W t (sWt s1 t none)) t) ≠ 1 ∨ waitS (advS br W t (sWt s1 t none)) t = true then 0 else (if zK s1 < zK (advS br W t (sWt s1 t none)) then (zT (advS br W t (sWt s1 t none))).2.1 - 1 else (zT (advS br W t (sWt s1 t none))).2.1), (zT (advS br W t (sWt s1 t none))).2.2) := rfl
      have eKt : zK (turnA br W t s1) = zK (advS br W t (sWt s1 t none)) := rfl
      rw [eKt] at hQ hstep
      have eT : zT (advS br W t (sWt s1 t none)) = zT s1 := hkq.1
      have hkk := hkq.2.2
      rw [eK, hsp] at hkk
      generalize hs2 : advS br W t (sWt s1 t none) = s2 at *
      have hX2 := hok.all.2.1 t ht
      have R10 : mR M10 6 w 2 = some (7, 3 * w + t) := h10.1.2.2.2.2.1.1
      have f12 : mI M10 7 (3 * w + t) 12 = Int32.ofNat (lSp (zN s2 t)) := h10.2.1.2.1.2.2.2
      have f4 : mI M10 6 w 4 = Int32.ofNat (zT s2).2.1 := h10.1.2.2.2.1.2.2.2.1
      have f5 : mI M10 6 w 5 = Int32.ofNat (zT s2).2.2 := h10.1.2.2.2.1.2.2.2.2
      -- the end of a turn
      have fin : ∀ (left n' : Nat) (M11 : Mem), RA A W w br nq nk np nh nr C B F (yT s2 ((zT s2).1, left, (zT s2).2.2)) M11 → mR M11 6 w 2 = some (7, 3 * w + t) → left = (if zK s1 < zK s2 then (zT s2).2.1 - 1 else (zT s2).2.1) → n' = (if zK s1 < zK s2 then n else n + 1) → w_Machine_go_j120 w Q (w_Machine_go_L2 w Q f) (Int32.ofNat n') M11 := fun left n' M11 h11 R11 el en => by
        rw [← en] at hQ
        have hn' : zK s2 + n' ≤ C := by
          rcases hkk with z | z
          · rw [if_neg (by omega)] at en; omega
          · rw [if_pos (by omega)] at en; omega
        have hf' : n' * 900 + muS (turnA br W t s1) < f := by
          have hmx := mu_max hW hG2.1
          rcases hstep with z | z
          · rw [if_neg (by omega)] at en
            rw [en]
            exact go_a1 hf z.2
          · rw [if_pos (by omega)] at en
            rw [en]
            exact go_a2 hf hmx
        have go : ∀ M12, RA A W w br nq nk np nh nr C B F (turnA br W t s1) M12 → w_Machine_go_L2 w Q f (Int32.ofNat n') M12 := fun M12 h12 => ih n' _ M12 h12 hG2 (by rw [eKt]; exact hn') hf' hQ
        have e11 : mI M11 7 (3 * w + t) 11 = Int32.ofNat (lSt (zN s2 t)) := (h11.2.2.2.2.2 t ht).1.2.1.2.2.1
        have hle := hX2.2.1.1
        have stop : lSt (zN s2 t) ≠ 1 ∨ waitS s2 t = true → w_Machine_go_j142 w Q (w_Machine_go_L2 w Q f) (Int32.ofNat n') M11 := fun z => by
          unfold w_Machine_go_j142 w_Machine_go_j147
          refine go _ ?_
          rw [eta, if_pos z]
          have h4 := RA.w4 (s := yT s2 ((zT s2).1, left, (zT s2).2.2)) (x := 0) (y := (zT s2).2.2) h11 h11.2.2.2.1.2.2.2.2 rfl
          exact h4
        unfold w_Machine_go_j120
        refine ⟨3 * w + t, R11, ?_⟩
        rw [e11]
        by_cases c1 : lSt (zN s2 t) = 1
        · have l46 : mL M11 46 w = 51 := h11.1.1.1.2.2.2.1.2.2.2.2.2.2 46 (by omega) (by omega)
          refine itp (by rw [c1]; rfl) ⟨3 * w + t, R11, c_waits (s := yT s2 ((zT s2).1, left, (zT s2).2.2)) h11.2.2.1.1 h11.2.2.1.2 h11.2.1.1 l46 hW.2.2.2 (h11.2.2.2.2.2 t ht).1 ((hok.all.yt (x := ((zT s2).1, left, (zT s2).2.2)) hok.1.1.2.2).2.1 t ht) ?_⟩
          have ew : waitS (yT s2 ((zT s2).1, left, (zT s2).2.2)) t = waitS s2 t := rfl
          rw [ew]
          cases e2 : waitS s2 t with
          | true => exact itn (by decide) (stop (Or.inr e2))
          | false =>
            refine itp rfl ?_
            unfold w_Machine_go_j147
            refine go _ ?_
            rw [eta, if_neg (fun z => z.elim (fun y => y c1) (fun y => by rw [e2] at y; cases y)), ← el]
            exact h11
        · exact itn (ne_oN (b := 1) c1 (by omega) (by omega)) (stop (Or.inl c1))
      unfold w_Machine_go_j96
      refine ⟨3 * w + t, R10, ?_⟩
      rw [f12]
      have hal := h10.al
      rcases hkk with z | z
      · refine itp (by rw [z.2]; exact Int32.le_refl _) ?_
        exact fin (zT s2).2.1 (n + 1) M10 hal R10 (by rw [if_neg (by omega)]) (by rw [if_neg (by omega)])
      · refine itn (fun y => by have := (oN_le (a := lSp (zN s2 t)) (b := lSp (zN s1 t)) (by omega) (by omega)).mp y; omega) ?_
        rw [f4, show Int32.ofNat (n + 1) + (-1 : Int32) = Int32.ofNat n from by rw [← Int32.sub_eq_add_neg]; exact pred]
        obtain ⟨l', hl'⟩ : ∃ l', (zT s2).2.1 = l' + 1 := ⟨(zT s2).2.1 - 1, by rw [eT]; omega⟩
        rw [hl', pred]
        exact fin l' n _ (hal.w4 (x := l') (y := (zT s2).2.2) f5 rfl) R10 (by rw [if_pos (by omega), hl']; omega) (by rw [if_pos (by omega)])
end
