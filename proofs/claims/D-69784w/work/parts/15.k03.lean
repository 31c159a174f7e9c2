/-! A RUN, with room for the steps of the run alone (printed from g33, h33, h35 by gen/go2.py) -/
section
variable {A : List Nm} {W : List Cls} {w C B F t K : Nat} {br : Int32} {nq nk np nh nr : Nat} {s s' : Ms} {M M' : Mem}
theorem c_goM2 {Q : Int32 → Mem → Prop} (hW : WO W) (hKB : KB w nq nk np nh nr) (hnA : nA A) (hw : w < 4) (hF : F < 1000000) (hCm : C < 1000000) {C1 : Nat} (hC1 : C1 ≤ C) (hCF : C1 + K + 300 < F) : ∀ f n s M, RA A W w br nq nk np nh nr C B F s M → GI W K s → zK s + n ≤ C1 → n * 900 + muS s < f → (∀ M', RA A W w br nq nk np nh nr C B F (gowS br W f n s).2 M' → GI W K (gowS br W f n s).2 → Q (b2 (gowS br W f n s).1) M') → w_Machine_go_L2 w Q f (Int32.ofNat n) M := by
  intro f
  induction f with
  | zero => intro n s M _ _ _ hf; exact absurd hf (by omega)
  | succ f ih =>
    intro n s M h hG hn hf hQ
    unfold w_Machine_go_L2
    cases n with
    | zero => exact itp (by decide) (hQ M h hG)
    | succ n =>
      refine itn (fun z => by have := (oN_le (a := n + 1) (b := 0) (by omega) (by omega)).mp z; omega) (c_hasTurn h hG.1 hG.2.1.1 (fun e => ?_) (fun t s1 M2 e h2 R2 ht _ => ?_))
      · refine itp rfl ?_
        have eg : gowS br W (f + 1) (n + 1) s = (false, s) := by
          show (match turnS s with | none => (false, s) | some (t, s1) => _) = _
          rw [e]
        rw [eg] at hQ
        exact hQ M h hG
      have eg : gowS br W (f + 1) (n + 1) s = gowS br W f (if zK s1 < zK (turnA br W t s1) then n else n + 1) (turnA br W t s1) := by
        show (match turnS s with | none => (false, s) | some (t, s1) => _) = _
        rw [e]
      rw [eg] at hQ
      have hft := hG.ft
      obtain ⟨hok, hG2, hstep⟩ := turn_ok (br := br) hW hG (by omega) e
      obtain ⟨⟨-, hon, hw0⟩, hM, ⟨eF, eK, eK1⟩, -, ⟨z1, z2, z3, z4, z5⟩, hA1⟩ := hG.beg e
      have r2 := h2.at R2 ht
      have e12 : mI M2 7 (3 * w + t) 12 = Int32.ofNat (lSp (zN s1 t)) := r2.2.1.2.1.2.2.2
      have r3 := r2.wn
      refine itn (by decide) ⟨3 * w + t, R2, 3 * w + t, R2, 3 * w + t, R2, 3 * w + t, R2, ?_⟩
      rw [e12]
      generalize sI (sI M2 7 (3 * w + t) 18 0) 7 (3 * w + t) 19 (-1) = M3 at r3 ⊢
      have hq : RQ A W w nq nk np nh nr F (sWt s1 t none) := ⟨hW, hKB, hnA, ⟨hw, hF⟩, by rw [eF]; omega⟩
      refine c_adv hq r3 hM hon hw0 (by rw [eK]; omega) (by omega) (fun M10 h10 => ?_)
      have hkq := Kq.adv (br := br) (W := W) (t := t) (s := sWt s1 t none)
      have hsp : lSp (zN (sWt s1 t none) t) = lSp (zN s1 t) := by rw [show zN (sWt s1 t none) t = qW (zN s1 t) none from up1_s]
      have hXs := hA1.2.1 t ht
      have hspb := hXs.2.1.2
      have eta : turnA br W t s1 = yT (advS br W t (sWt s1 t none)) ((zT (advS br W t (sWt s1 t none))).1, if lSt (zN (advS br W t (sWt s1 t none)) t) ≠ 1 ∨ waitS (advS br W t (sWt s1 t none)) t = true then 0 else (if zK s1 < zK (advS br W t (sWt s1 t none)) then (zT (advS br W t (sWt s1 t none))).2.1 - 1 else (zT (advS br W t (sWt s1 t none))).2.1), (zT (advS br W t (sWt s1 t none))).2.2) := rfl
      have eKt : zK (turnA br W t s1) = zK (advS br W t (sWt s1 t none)) := rfl
      rw [eKt] at hQ hstep
      have eT : zT (advS br W t (sWt s1 t none)) = zT s1 := hkq.1
      have hkk := hkq.2.2
      rw [eK, hsp] at hkk
      generalize hs2 : advS br W t (sWt s1 t none) = s2 at *
      have hX2 := hok.all.2.1 t ht
      have R10 : mR M10 6 w 2 = some (7, 3 * w + t) := h10.1.2.2.2.2.1.1
      have f12 : mI M10 7 (3 * w + t) 12 = Int32.ofNat (lSp (zN s2 t)) := h10.2.1.2.1.2.2.2
      have f4 : mI M10 6 w 4 = Int32.ofNat (zT s2).2.1 := h10.1.2.2.2.1.2.2.2.1
      have f5 : mI M10 6 w 5 = Int32.ofNat (zT s2).2.2 := h10.1.2.2.2.1.2.2.2.2
      -- the end of a turn
      have fin : ∀ (left n' : Nat) (M11 : Mem), RA A W w br nq nk np nh nr C B F (yT s2 ((zT s2).1, left, (zT s2).2.2)) M11 → mR M11 6 w 2 = some (7, 3 * w + t) → left = (if zK s1 < zK s2 then (zT s2).2.1 - 1 else (zT s2).2.1) → n' = (if zK s1 < zK s2 then n else n + 1) → w_Machine_go_j120 w Q (w_Machine_go_L2 w Q f) (Int32.ofNat n') M11 := fun left n' M11 h11 R11 el en => by
        rw [← en] at hQ
        have hn' : zK s2 + n' ≤ C1 := by
          rcases hkk with z | z
          · rw [if_neg (by omega)] at en; omega
          · rw [if_pos (by omega)] at en; omega
        have hf' : n' * 900 + muS (turnA br W t s1) < f := by
          have hmx := mu_max hW hG2.1
          rcases hstep with z | z
          · rw [if_neg (by omega)] at en
            rw [en]
            exact go_a1 hf z.2
          · rw [if_pos (by omega)] at en
            rw [en]
            exact go_a2 hf hmx
        have go : ∀ M12, RA A W w br nq nk np nh nr C B F (turnA br W t s1) M12 → w_Machine_go_L2 w Q f (Int32.ofNat n') M12 := fun M12 h12 => ih n' _ M12 h12 hG2 (by rw [eKt]; exact hn') hf' hQ
        have e11 : mI M11 7 (3 * w + t) 11 = Int32.ofNat (lSt (zN s2 t)) := (h11.2.2.2.2.2 t ht).1.2.1.2.2.1
        have hle := hX2.2.1.1
        have stop : lSt (zN s2 t) ≠ 1 ∨ waitS s2 t = true → w_Machine_go_j142 w Q (w_Machine_go_L2 w Q f) (Int32.ofNat n') M11 := fun z => by
          unfold w_Machine_go_j142 w_Machine_go_j147
          refine go _ ?_
          rw [eta, if_pos z]
          have h4 := RA.w4 (s := yT s2 ((zT s2).1, left, (zT s2).2.2)) (x := 0) (y := (zT s2).2.2) h11 h11.2.2.2.1.2.2.2.2 rfl
          exact h4
        unfold w_Machine_go_j120
        refine ⟨3 * w + t, R11, ?_⟩
        rw [e11]
        by_cases c1 : lSt (zN s2 t) = 1
        · have l46 : mL M11 46 w = 51 := h11.1.1.1.2.2.2.1.2.2.2.2.2.2 46 (by omega) (by omega)
          refine itp (by rw [c1]; rfl) ⟨3 * w + t, R11, c_waits (s := yT s2 ((zT s2).1, left, (zT s2).2.2)) h11.2.2.1.1 h11.2.2.1.2 h11.2.1.1 l46 hW.2.2.2 (h11.2.2.2.2.2 t ht).1 ((hok.all.yt (x := ((zT s2).1, left, (zT s2).2.2)) hok.1.1.2.2).2.1 t ht) ?_⟩
          have ew : waitS (yT s2 ((zT s2).1, left, (zT s2).2.2)) t = waitS s2 t := rfl
          rw [ew]
          cases e2 : waitS s2 t with
          | true => exact itn (by decide) (stop (Or.inr e2))
          | false =>
            refine itp rfl ?_
            unfold w_Machine_go_j147
            refine go _ ?_
            rw [eta, if_neg (fun z => z.elim (fun y => y c1) (fun y => by rw [e2] at y; cases y)), ← el]
            exact h11
        · exact itn (ne_oN (b := 1) c1 (by omega) (by omega)) (stop (Or.inl c1))
      unfold w_Machine_go_j96
      refine ⟨3 * w + t, R10, ?_⟩
      rw [f12]
      have hal := h10.al
      rcases hkk with z | z
      · refine itp (by rw [z.2]; exact Int32.le_refl _) ?_
        exact fin (zT s2).2.1 (n + 1) M10 hal R10 (by rw [if_neg (by omega)]) (by rw [if_neg (by omega)])
      · refine itn (fun y => by have := (oN_le (a := lSp (zN s2 t)) (b := lSp (zN s1 t)) (by omega) (by omega)).mp y; omega) ?_
        rw [f4, show Int32.ofNat (n + 1) + (-1 : Int32) = Int32.ofNat n from by rw [← Int32.sub_eq_add_neg]; exact pred]
        obtain ⟨l', hl'⟩ : ∃ l', (zT s2).2.1 = l' + 1 := ⟨(zT s2).2.1 - 1, by rw [eT]; omega⟩
        rw [hl', pred]
        exact fin l' n _ (hal.w4 (x := l') (y := (zT s2).2.2) f5 rfl) R10 (by rw [if_pos (by omega), hl']; omega) (by rw [if_pos (by omega)])
end
section
variable {G : List Sl} {US : UST} {A : List Nm} {S : List Sg} {W : List Cls} {w c j a k t L q n d : Nat} {br x r v e v1 y : Int32} {bb : Bool} {nq nl nf nk B F op K C m0 : Nat} {M M' : Mem} {s s' s1 X : Ms} {U V : List Un} {lo st lo' st' : List Vl} {o : Option Kd} {Q k5 : Int32 → Mem → Prop} {i : Ins} {p : Nat × Nat}
theorem ct_goT2 (hW : WO W) (hns : NSi W) (hF : F < 1000000) {C1 : Nat} (hCF : C1 + K + 300 < F) : ∀ f n m0 x s M, TA G US A S W w br nq nl nf nk B F x s M → GI W K s → TI2 x s → zK s + n ≤ C1 → n * 900 + muS s < f → mI M 11 0 83 = Int32.ofNat m0 → m0 + n < 1000000 → (∀ x' m' M', TA G US A S W w br nq nl nf nk B F x' (gowS br W f n s).2 M' → GI W K (gowS br W f n s).2 → TI2 x' (gowS br W f n s).2 → mI M' 11 0 83 = Int32.ofNat m' → m' + zK s = m0 + zK (gowS br W f n s).2 → Q (goR (gowS br W f n s)) M') → w_Model_goOn_L5 0 Q f (Int32.ofNat (m0 + n)) M := by
  intro f
  induction f with
  | zero => intro n m0 x s M _ _ _ _ hf; exact absurd hf (by omega)
  | succ f ih =>
    intro n m0 x s M h hG hI hn hf h83 hmn hQ
    have h51 := hW.2.2.2
    have hX := hG.1.2.1
    have hT3 := hG.1.1.2.2
    unfold w_Model_goOn_L5
    refine ⟨w, h.r45, ct_isAnyOn h hX ?_⟩
    by_cases ca : anyOn s
    · rw [decide_eq_true ca]
      refine itn (by decide) ?_
      cases n with
      | zero =>
        have eg : gowS br W (f + 1) 0 s = (true, s) := rfl
        rw [eg] at hQ
        have := hQ x m0 M h hG hI h83 rfl
        unfold goR at this
        rw [if_pos ca, if_pos rfl] at this
        exact itp h83 this
      | succ n =>
        refine itn (fun z => by have := (oN_inj (a := m0) (b := m0 + (n + 1)) (by omega) (by omega)).mp (h83.symm.trans z); omega) ?_
        have act : ∀ t s1 M', turnS s = some (t, s1) → TA G US A S W w br nq nl nf nk B F (Int32.ofNat (zT s1).2.1) (sWt s1 t none) M' → mI M' 11 0 83 = Int32.ofNat m0 → w_Model_goOn_j167 0 Q (w_Model_goOn_L5 0 Q f) (Int32.ofNat (m0 + (n + 1))) M' := fun t s1 M1 e h1 k83 => by
          have eg : gowS br W (f + 1) (n + 1) s = gowS br W f (if zK s1 < zK (turnA br W t s1) then n else n + 1) (turnA br W t s1) := by
            show (match turnS s with | none => (false, s) | some (t, s1) => _) = _
            rw [e]
          rw [eg] at hQ
          have hft := hG.ft
          obtain ⟨hok, hG2, hstep⟩ := turn_ok (br := br) hW hG (by omega) e
          obtain ⟨⟨ht, hon, hw0⟩, hM, ⟨eF, eK, eK1⟩, -, ⟨z1, z2, z3, z4, z5⟩, hA1⟩ := hG.beg e
          obtain ⟨-, -, y, ey, y1, -, -, -⟩ := turnS_ok e hT3 hG.2.1.2.1
          have hT1 : (zT s1).1 = t := by rw [ey]; exact y1
          have hk1 : LkN (sWt s1 t none) := by
            rw [ey]
            exact LkP.eq rfl rfl rfl hI.1
          refine ct_act167 hW hns hF h1 ht hT1 z2 z3 hon hw0 hM (by rw [eF]; omega) hk1 (by omega) k83 (fun x' m' M2 h2 hI2 j83 em => ?_)
          by_cases cs : zK s1 < zK (turnA br W t s1)
          · rw [if_pos cs] at em hQ
            subst em
            rw [show m0 + (n + 1) = m0 + 1 + n by omega]
            have hK2 : zK (turnA br W t s1) = zK s + 1 := by rcases hstep with z | z; exact absurd cs (by omega); exact z
            have hmm := mu_max hW hG2.1
            exact ih n (m0 + 1) x' (turnA br W t s1) M2 h2 hG2 hI2 (by omega) (go_a2 hf hmm) j83 (by omega) (fun x2 m2 M3 a1 a2 a3 a4 a5 => hQ x2 m2 M3 a1 a2 a3 a4 (by omega))
          · rw [if_neg cs] at em hQ
            subst em
            have hK2 : zK (turnA br W t s1) = zK s ∧ muS (turnA br W t s1) < muS s := by rcases hstep with z | z; exact z; exact absurd cs (by omega)
            exact ih (n + 1) m' x' (turnA br W t s1) M2 h2 hG2 hI2 (by omega) (go_a1 hf hK2.2) j83 (by omega) (fun x2 m2 M3 a1 a2 a3 a4 a5 => hQ x2 m2 M3 a1 a2 a3 a4 (by omega))
        have ch : ¬ (0 < (zT s).2.1 ∧ canG s (zT s).1) → w_Model_goOn_j67 0 Q (w_Model_goOn_L5 0 Q f) (Int32.ofNat (m0 + (n + 1))) M := fun nc => by
          refine ct_choose h hG.1 hI.1 (by omega) h51 hG.2.1.2.2 nc (fun e => ?_) (fun t s1 M' e h' k83 => act t s1 M' e h' (k83.trans h83))
          have eg : gowS br W (f + 1) (n + 1) s = (false, s) := by
            show (match turnS s with | none => (false, s) | some (t, s1) => _) = _
            rw [e]
          rw [eg] at hQ
          have := hQ x m0 M h hG hI h83 rfl
          unfold goR at this
          rw [if_pos ca, if_neg (by dsimp only; decide)] at this
          exact this
        obtain ⟨e3, e5, e4⟩ := h.2.2.2.1.2.2
        have hN := h.2.2.2.2.2.2 (zT s).1 hT3
        have on := hN.1.on (hX _ hT3).2.1.1
        have hw := hN.1.2.2.1
        refine ⟨w, h.r45, w, h.r45, ?_⟩
        rw [e3, oN_tnc (k := (zT s).1) (by omega)]
        refine ⟨by rw [h.2.2.2.2.1.1]; exact (vp_oN (by omega)).mpr hT3, 3 * w + (zT s).1, h.2.2.2.2.1.2 _ hT3, w, h.r45, ?_⟩
        rw [e4]
        by_cases x0 : x = 0
        · refine itp x0 (ch (fun z => ?_))
          by_cases cw : lWt (zN s (zT s).1) = none
          · have := hI.2.1 cw
            rw [x0] at this
            have := (oN_inj (a := 0) (b := (zT s).2.1) (by omega) (by have := hG.2.1.1; omega)).mp this
            omega
          · have := hI.2.2 cw; omega
        refine itn x0 ?_
        by_cases c1 : lSt (zN s (zT s).1) = 1
        · refine itp (on.mpr c1) ?_
          unfold uW at hw
          cases ew : lWt (zN s (zT s).1) with
          | none =>
            rw [ew] at hw
            have ex := hI.2.1 ew
            have hl : 0 < (zT s).2.1 := by
              rcases Nat.eq_zero_or_pos (zT s).2.1 with z | z
              · rw [z] at ex; exact absurd ex x0
              · exact z
            have hc : canG s (zT s).1 := ⟨c1, by unfold waitS; rw [ew]⟩
            refine itp hw (act (zT s).1 s M ?_ ?_ h83)
            · unfold turnS; rw [if_pos ⟨hl, hc⟩]
            · rw [sWt_same ew, ← ex]; exact h
          | some u =>
            rw [ew] at hw
            have hl := hI.2.2 (by rw [ew]; exact fun z => by cases z)
            refine itn (fun z => ?_) (ch (fun z => by omega))
            cases u with
            | inl r => exact absurd (hw.1.symm.trans z) (by decide)
            | inr k => exact absurd (hw.1.symm.trans z) (by decide)
        · exact itn (fun z => c1 (on.mp z)) (ch (fun z => c1 z.2.1))
    · rw [decide_eq_false ca]
      refine itp rfl ?_
      have eg : (gowS br W (f + 1) n s).2 = s := by
        cases n with
        | zero => rfl
        | succ n =>
          have et : turnS s = none := by
            unfold turnS
            have nc : ∀ t, t < 3 → ¬ canG s t := fun t ht z => ca (anyOn_of ht z.1)
            rw [if_neg (fun z => nc _ hT3 z.2), if_neg (nc _ (Nat.mod_lt _ (by omega))), if_neg (nc _ (Nat.mod_lt _ (by omega))), if_neg (nc _ (Nat.mod_lt _ (by omega)))]
          show (match turnS s with | none => (false, s) | some (t, s1) => _).2 = _
          rw [et]
      unfold goR at hQ
      rw [eg, if_neg ca] at hQ
      exact hQ x m0 M h hG hI h83 rfl
end
section
variable {A : List Nm} {W : List Cls} {k C B F K : Nat} {br a : Int32} {nq nk np nh nr : Nat} {s : Ms} {M M' : Mem} {Q : Int32 → Mem → Prop} {on : Nat → Bool}
theorem c_wstep2 (hk : k < 3) (hOn : cOn on M) (hon : on k = true) (hW : WO W) (hKB : KB (k + 1) nq nk np nh nr) (hnA : nA A) (hF : F < 1000000) (hCm : C < 1000000) (hCF : zK s + 4000 + K + 300 < F) (h : RA A W (k + 1) br nq nk np nh nr C B F s M) (hG : GI W K s) (h35 : mI M 6 (k + 1) 35 = 0)
    (hQ : ∀ M', RA A W (k + 1) br nq nk np nh nr C B F (stepO br W (C - zK s) a s).2 M' → GI W K (stepO br W (C - zK s) a s).2 → Q (stepO br W (C - zK s) a s).1 M') : w_Works_step 0 (Int32.ofNat k) a Q M := by
  have hX := hG.1.2.1
  have R := h.2.2.2.2.1.2
  have v : ∀ t, t < 3 → vp_in (Int32.ofNat t) (mL M 700 (k + 1)) := fun t ht => by rw [h.2.2.2.2.1.1]; exact (vp_oN (by omega)).mpr ht
  obtain ⟨hzK, e8⟩ : zK s ≤ C ∧ mI M 10 0 8 = Int32.ofNat (C - zK s) := by
    rcases h.2.2.2.1.2.1.2.2 with z | z
    · rw [h35] at z; exact absurd z (by decide)
    · exact z.2
  have hQ' : ∀ y, stepO br W (C - zK s) a s = y → ∀ M', RA A W (k + 1) br nq nk np nh nr C B F y.2 M' → GI W K y.2 → Q y.1 M' := fun y hy => by rw [← hy]; exact hQ
  unfold w_Works_step
  refine c_isWorld hOn (fun j hj e _ _ => ?_) (fun q => by rw [wOf_k hk, hon] at q; cases q)
  refine itn (by decide) ?_
  unfold stepO at hQ'
  unfold w_Works_isIn
  by_cases c1 : a < 1
  · exact itp c1 (itp rfl (hQ' _ (if_pos (Or.inl c1)) M h hG))
  refine itn c1 ?_
  by_cases c2 : 4000 < a
  · exact itp c2 (itp rfl (hQ' _ (if_pos (Or.inr c2)) M h hG))
  refine itn c2 (itn (by decide) ⟨by rw [hOn.1]; exact (vp_oN (by omega)).mpr hk, k + 1, ?_, v 0 (by omega), 3 * (k + 1) + 0, R 0 (by omega), ?_⟩)
  · rw [oN_tnc (k := k) (by omega), hOn.2 k hk, hon]; rfl
  have e1 : ∀ y, (if ¬ thereS s then (-2, s) else if ¬ anyOn s then (0, s) else if a.toNatClampNeg ≤ C - zK s then (goR (gowS br W (a.toNatClampNeg * 900 + 900) a.toNatClampNeg s), (gowS br W (a.toNatClampNeg * 900 + 900) a.toNatClampNeg s).2) else (-3, s)) = y → ∀ M', RA A W (k + 1) br nq nk np nh nr C B F y.2 M' → GI W K y.2 → Q y.1 M' := fun y hy => hQ' y ((if_neg (fun z => z.elim c1 c2)).trans hy)
  obtain ⟨n, n1, n4, en, en2⟩ := i4000 c1 c2
  have j70 : thereS s → w_Works_step_j70 0 Q a (k + 1) M := fun ht => by
    have e2 := fun y (hy : _ = y) => e1 y ((if_neg (fun z => z ht)).trans hy)
    unfold w_Works_step_j70
    refine c_isOn h hX ?_
    by_cases ca : anyOn s
    · rw [decide_eq_true ca]
      refine itn (by decide) ?_
      have e3 := fun y (hy : _ = y) => e2 y ((if_neg (fun z => z ca)).trans hy)
      rw [e8]
      rw [en2] at e3
      by_cases cl : n ≤ C - zK s
      · have e4 := e3 _ (if_pos cl)
        have hm := mu_max hW hG.1
        refine itp (by rw [en]; exact (oN_le (by omega) (by omega)).mpr cl) ?_
        unfold w_Machine_go
        refine ⟨n * 900 + 900, ?_⟩
        rw [en]
        refine c_goM2 (C1 := zK s + n) hW hKB hnA (by omega) hF hCm (by omega) (by omega) (n * 900 + 900) n s M h hG (by omega) (by omega) (fun M2 h2 hG2 => ?_)
        have e5 := e4 M2 h2 hG2
        refine c_isOn h2 hG2.1.2.1 ?_
        dsimp only at e5
        unfold goR at e5
        by_cases cb : anyOn (gowS br W (n * 900 + 900) n s).2
        · rw [decide_eq_true cb]
          rw [if_pos cb] at e5
          refine itn (by decide) ?_
          cases eg : (gowS br W (n * 900 + 900) n s).1 with
          | false => rw [eg, if_neg (by decide)] at e5; exact itp rfl e5
          | true => rw [eg, if_pos rfl] at e5; exact itn (by decide) e5
        · rw [decide_eq_false cb]
          rw [if_neg cb] at e5
          exact itp rfl e5
      · exact itn (by rw [en]; exact fun z => cl ((oN_le (by omega) (by omega)).mp z)) (e3 _ (if_neg cl) M h hG)
    · rw [decide_eq_false ca]
      exact itp rfl (e2 _ (if_pos ca) M h hG)
  have e10 : ∀ t, t < 3 → mI M 7 (3 * (k + 1) + t) 10 = b2 (zN s t).1 := fun t ht => (h.2.2.2.2.2 t ht).1.2.1.2.1
  have o10 : ∀ t, t < 3 → (mI M 7 (3 * (k + 1) + t) 10 = 0 ↔ ¬ (zN s t).1 = true) := fun t ht => by rw [e10 t ht, b2_0]; simp
  by_cases t0 : (zN s 0).1 = true
  · exact itn (fun z => (o10 0 (by omega)).mp z t0) (j70 (Or.inl t0))
  refine itp ((o10 0 (by omega)).mpr t0) ⟨v 1 (by omega), 3 * (k + 1) + 1, R 1 (by omega), ?_⟩
  by_cases t1 : (zN s 1).1 = true
  · exact itn (fun z => (o10 1 (by omega)).mp z t1) (j70 (Or.inr (Or.inl t1)))
  refine itp ((o10 1 (by omega)).mpr t1) ⟨v 2 (by omega), 3 * (k + 1) + 2, R 2 (by omega), ?_⟩
  by_cases t2 : (zN s 2).1 = true
  · exact itn (fun z => (o10 2 (by omega)).mp z t2) (j70 (Or.inr (Or.inr t2)))
  · exact itp ((o10 2 (by omega)).mpr t2) (e1 _ (if_pos (fun z => by rcases z with z | z | z <;> contradiction)) M h hG)
end
section
variable {G : List Sl} {US : UST} {A : List Nm} {S : List Sg} {W : List Cls} {k C B F K ud : Nat} {br a x : Int32} {nq nl nf nk : Nat} {s : Ms} {M M' : Mem} {Q : Int32 → Mem → Prop} {on : Nat → Bool}
theorem ct_wstep2 (hk : k < 3) (hOn : tOn on M) (hon : on k = true) (hW : WO W) (hns : NSi W) (hF : F < 1000000) (hCF : zK s + 4000 + K + 300 < F) (h : TAx G US A S W k br nq nl nf nk B F x s M) (hG : GI W K s) (hI : TI2 x s) (hC : zK s ≤ C) (h93 : mI M 11 0 93 = Int32.ofNat ud) (hud : ud + (C - zK s) = 60000)
    (hQ : ∀ x' M', TAx G US A S W k br nq nl nf nk B F x' (stepO br W (C - zK s) a s).2 M' → GI W K (stepO br W (C - zK s) a s).2 → TI2 x' (stepO br W (C - zK s) a s).2 → mI M' 11 0 93 = Int32.ofNat (ud + (zK (stepO br W (C - zK s) a s).2 - zK s)) → Q (stepO br W (C - zK s) a s).1 M') : w_Model_step 0 (Int32.ofNat k) a Q M := by
  have hX := hG.1.2.1
  have hQ' : ∀ y, stepO br W (C - zK s) a s = y → ∀ x' M', TAx G US A S W k br nq nl nf nk B F x' y.2 M' → GI W K y.2 → TI2 x' y.2 → mI M' 11 0 93 = Int32.ofNat (ud + (zK y.2 - zK s)) → Q y.1 M' := fun y hy => by rw [← hy]; exact hQ
  have hs0 : ud + (zK s - zK s) = ud := by omega
  unfold w_Model_step
  refine ct_isWorld hOn (fun j hj e _ _ => ?_) (fun q => by rw [wOf_k hk, hon] at q; cases q)
  refine itn (by decide) ?_
  unfold stepO at hQ'
  by_cases c1 : a < 1
  · exact itp c1 (hQ' _ (if_pos (Or.inl c1)) x M h hG hI (by rw [hs0]; exact h93))
  refine itn c1 ?_
  by_cases c2 : 4000 < a
  · exact itn (Int32.not_le.mpr c2) (hQ' _ (if_pos (Or.inr c2)) x M h hG hI (by rw [hs0]; exact h93))
  refine itp (Int32.not_lt.mp c2) ⟨by rw [hOn.1]; exact (vp_oN (by omega)).mpr (by omega), k, ?_, ?_⟩
  · rw [oN_tnc (k := k) (by omega)]; exact (hOn.2 k hk).1
  have e1 : ∀ y, (if ¬ thereS s then (-2, s) else if ¬ anyOn s then (0, s) else if a.toNatClampNeg ≤ C - zK s then (goR (gowS br W (a.toNatClampNeg * 900 + 900) a.toNatClampNeg s), (gowS br W (a.toNatClampNeg * 900 + 900) a.toNatClampNeg s).2) else (-3, s)) = y → ∀ x' M', TAx G US A S W k br nq nl nf nk B F x' y.2 M' → GI W K y.2 → TI2 x' y.2 → mI M' 11 0 93 = Int32.ofNat (ud + (zK y.2 - zK s)) → Q y.1 M' := fun y hy => hQ' y ((if_neg (fun z => z.elim c1 c2)).trans hy)
  obtain ⟨n, n1, n4, en, en2⟩ := i4000 c1 c2
  have h : TA G US A S W k br nq nl nf nk B F x s (sR M 11 0 45 (some (12, k))) := h
  have h93 : mI (sR M 11 0 45 (some (12, k))) 11 0 93 = Int32.ofNat ud := h93
  generalize sR M 11 0 45 (some (12, k)) = M1 at h h93 ⊢
  have v : ∀ t, t < 3 → vp_in (Int32.ofNat t) (mL M1 704 k) := fun t ht => by rw [h.2.2.2.2.1.1]; exact (vp_oN (by omega)).mpr ht
  have R := h.2.2.2.2.1.2
  have hz : (60000 : Int32) - mI M1 11 0 93 = Int32.ofNat (C - zK s) := by
    have e : 60000 - ud = C - zK s := by omega
    rw [h93, ← e]
    exact sub_n (x := 60000) (by omega)
  refine ⟨k, h.r45, v 0 (by omega), 3 * k + 0, R 0 (by omega), ?_⟩
  have j86 : thereS s → w_Model_step_j86 0 Q a M1 := fun ht => by
    have e2 := fun y (hy : _ = y) => e1 y ((if_neg (fun z => z ht)).trans hy)
    unfold w_Model_step_j86
    refine ⟨k, h.r45, ct_isAnyOn h hX ?_⟩
    rw [hz]
    by_cases ca : anyOn s
    · rw [decide_eq_true ca]
      refine itn (by decide) ?_
      have e3 := fun y (hy : _ = y) => e2 y ((if_neg (fun z => z ca)).trans hy)
      rw [en2] at e3
      by_cases cl : n ≤ C - zK s
      · have e4 := e3 _ (if_pos cl)
        have hm := mu_max hW hG.1
        refine itp (by rw [en]; exact (oN_le (by omega) (by omega)).mpr (by omega)) ?_
        unfold w_Model_goOn
        refine ⟨n * 900 + 900, ?_⟩
        rw [en]
        have h0 := h.fr (M' := sI M1 11 0 83 0) (Fr.wI rfl (Fr.rf _ _))
        have z83 : mI (sI M1 11 0 83 0) 11 0 83 = Int32.ofNat 0 := by rw [mI_sI, if_pos ⟨rfl, rfl, rfl⟩]; rfl
        have z93 : mI (sI M1 11 0 83 0) 11 0 93 = Int32.ofNat ud := by rw [mI_sI, if_neg (fun z => absurd z.2.2 (by decide))]; exact h93
        generalize sI M1 11 0 83 0 = M2 at h0 z83 z93 ⊢
        have g := ct_goT2 (C1 := zK s + n) (Q := fun r M' => ∃ x' m', TA G US A S W k br nq nl nf nk B F x' (gowS br W (n * 900 + 900) n s).2 M' ∧ GI W K (gowS br W (n * 900 + 900) n s).2 ∧ TI2 x' (gowS br W (n * 900 + 900) n s).2 ∧ mI M' 11 0 83 = Int32.ofNat m' ∧ m' + zK s = 0 + zK (gowS br W (n * 900 + 900) n s).2 ∧ r = goR (gowS br W (n * 900 + 900) n s)) hW hns hF (by omega) (n * 900 + 900) n 0 x s M2 h0 hG hI (by omega) (by omega) z83 (by omega) (fun x' m' M' a1 a2 a3 a4 a5 => ⟨x', m', a1, a2, a3, a4, a5, rfl⟩)
        rw [show 0 + n = n from Nat.zero_add n] at g
        refine mf_w_Model_goOn_L5 (M0 := M2) (fun r M3 hf hp => ?_) _ _ _ (Fr.rf _ _) g
        obtain ⟨x', m', a1, a2, a3, a4, a5, er⟩ := hp
        have f93 : mI M3 11 0 93 = Int32.ofNat ud := (hf.I (f := 11) (k := 93) rfl 0).trans z93
        rw [f93, a4, oN_add, er]
        refine e4 x' _ (TA.xx a1.fr93) a2 a3 ?_
        rw [mI_sI, if_pos ⟨rfl, rfl, rfl⟩]
        congr 2
        dsimp only
        omega
      · exact itn (by rw [en]; exact fun z => cl (by have := (oN_le (by omega) (by omega)).mp z; omega)) (e3 _ (if_neg cl) x M1 h.xx hG hI (by rw [hs0]; exact h93))
    · rw [decide_eq_false ca]
      exact itp rfl (e2 _ (if_pos ca) x M1 h.xx hG hI (by rw [hs0]; exact h93))
  have e13 : ∀ t, t < 3 → (mI M1 13 (3 * k + t) 0 = -2 ↔ ¬ (zN s t).1 = true) := fun t ht => by
    obtain ⟨-, e0, -, e1⟩ := (h.2.2.2.2.2.2 t ht).1
    rw [e0]
    cases hb : (zN s t).1 with
    | true =>
      rw [if_pos rfl]
      constructor
      · intro z
        have := oN_nonneg (show lSt (zN s t) < 2147483648 by have := (hX t ht).2.1.1; omega)
        rw [z] at this
        exact absurd (by decide) this
      · intro z; exact absurd rfl z
    | false =>
      rw [if_neg (by decide)]
      exact ⟨fun _ => by decide, fun _ => rfl⟩
  by_cases t0 : (zN s 0).1 = true
  · exact itn (fun z => (e13 0 (by omega)).mp z t0) (j86 (Or.inl t0))
  refine itp ((e13 0 (by omega)).mpr t0) ⟨k, h.r45, v 1 (by omega), 3 * k + 1, R 1 (by omega), ?_⟩
  by_cases t1 : (zN s 1).1 = true
  · exact itn (fun z => (e13 1 (by omega)).mp z t1) (j86 (Or.inr (Or.inl t1)))
  refine itp ((e13 1 (by omega)).mpr t1) ⟨k, h.r45, v 2 (by omega), 3 * k + 2, R 2 (by omega), ?_⟩
  by_cases t2 : (zN s 2).1 = true
  · exact itn (fun z => (e13 2 (by omega)).mp z t2) (j86 (Or.inr (Or.inr t2)))
  · exact itp ((e13 2 (by omega)).mpr t2) (e1 _ (if_pos (fun z => by rcases z with z | z | z <;> contradiction)) x M1 h.xx hG hI (by rw [hs0]; exact h93))
end
