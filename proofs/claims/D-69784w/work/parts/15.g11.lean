/-! THE MACHINE IN THE WORKS: starts -/
section
variable {A : List Nm} {W : List Cls} {w C B F t L : Nat} {br : Int32} {nq nk np nh nr : Nat} {s s' : Ms} {M M' M1 : Mem} {S : Nat} {l : Ln} {U V : List Un} {r : Int32} {c j a k : Nat} {lo : List Vl} {o : Option Kd} {L' : LkS}
theorem RX.lk (h : RX A W w br nq nk np nh nr C B F t s M) (hf : Fr S M M') (hS : rmO S = true) (hL : LKw A W w br nq nk np nh nr L' M') (hc : cSt w M') : RX A W w br nq nk np nh nr C B F t (yL s L') M' := by
  obtain ⟨-, ⟨b1, b2'⟩, ⟨c1, c2⟩, ⟨d1, d2, d3⟩, ⟨e1, e2, e3⟩, g⟩ := h
  have o := fun {b : Nat} (hb : ([b].all (fun b => rmL.contains b)) = true) => okF_in (rmO_in hS hb) (List.mem_singleton.mpr rfl)
  exact ⟨⟨hL, hc⟩, ⟨b1.fr hf (rmO_in hS rfl), b2'.fr hf (o rfl)⟩, ⟨c1.fr hf (rmO_in hS rfl), c2.fr hf (hf.ms (o rfl)) (rmO_in hS rfl)⟩, ⟨d1.fr hf (rmO_in hS rfl), d2.fr hf (rmO_in hS rfl), d3.fr hf (rmO_in hS rfl)⟩, ⟨(hf.R (f := 6) (k := 2) (o rfl) w).trans e1, (hf.L (f := 700) (o rfl) w).trans e2, fun t' ht => (hf.Ra (f := 700) rfl (o rfl) w t').trans (e3 t' ht)⟩, fun t' ht hne => (g t' ht hne).fr hf (rmO_in hS rfl)⟩
theorem RM.lk (h : RM A W w br nq nk np nh nr C B F t s U M) (hf : Fr S M M') (hS : rmO S = true) (hL : LKw A W w br nq nk np nh nr L' M') (hc : cSt w M') : RM A W w br nq nk np nh nr C B F t (yL s L') U M' := ⟨h.1.lk hf hS hL hc, h.2.1.fr hf (rmO_in hS rfl), h.2.2.1.fr hf (rmO_in hS rfl), fun z => (h.2.2.2 z).fr hf (rmO_in hS rfl)⟩
/-- what a step keeps for itself -/
theorem RM.w6 {i : Nat} {v : Int32} (h : RM A W w br nq nk np nh nr C B F t s U M) (hi : i = 32 ∨ i = 33 ∨ i = 34 ∨ i = 36) : RM A W w br nq nk np nh nr C B F t s U (sI M 6 w i v) := by
  have ag : AgT w t M (sI M 6 w i v) := by rcases hi with z | z | z | z <;> subst z <;> exact AgT.rf.w6
  have row : ∀ f i' k, f ≠ 6 → mI (sI M 6 w i v) f i' k = mI M f i' k := fun f i' k hf => by rw [mI_sI, if_neg (fun z => hf z.1)]
  exact ⟨h.1.ag ag, h.2.1.g (fun k => row 7 _ k (by omega)) (fun k => row 95 _ k (by omega)) (fun _ => rfl), h.2.2.1.eq (fun g k hl => row g _ k (fun z => by rw [z] at hl; cases hl)), fun z => (h.2.2.2 z).fr ag.1.1⟩
/-- a thread waits for a class -/
theorem RM.wt (h : RM A W w br nq nk np nh nr C B F t s (gU s t) M) (h0 : lWt (zN s t) = none) : RM A W w br nq nk np nh nr C B F t (sWt s t (some (.inr k))) (gU s t) (sI M 7 (3 * w + t) 19 (Int32.ofNat k)) := by
  have ag : AgT w t M (sI M 7 (3 * w + t) 19 (Int32.ofNat k)) := AgT.rf.w7
  have eN : zN (sWt s t (some (.inr k))) t = qW (zN s t) (some (.inr k)) := up1_s
  refine ⟨(h.1.ag ag).yn, ?_, ⟨?_, ?_, LU.w7 h.2.2.1.2.2⟩, ?_⟩
  · rw [eN]
    obtain ⟨⟨a1, a2, a3, a4⟩, ⟨b1, b2', b3, b4⟩, ⟨c1, c2, c3, c4⟩, d, e⟩ := h.2.1
    have rd : ∀ i, i ≠ 19 → mI (sI M 7 (3 * w + t) 19 (Int32.ofNat k)) 7 (3 * w + t) i = mI M 7 (3 * w + t) i := fun i hi => by rw [mI_sI, if_neg (fun z => hi z.2.2)]
    refine ⟨⟨a1, a2, a3, a4⟩, ⟨(rd 0 (by omega)).trans b1, (rd 10 (by omega)).trans b2', (rd 11 (by omega)).trans b3, (rd 12 (by omega)).trans b4⟩, ⟨(rd 13 (by omega)).trans c1, (rd 14 (by omega)).trans c2, (rd 15 (by omega)).trans c3, (rd 16 (by omega)).trans c4⟩, ?_, fun z i hi => ?_⟩
    · have d' : rW (zN s t) (3 * w + t) M := d
      unfold rW at d'
      rw [h0] at d'
      exact ⟨(rd 18 (by omega)).trans d'.1, by rw [mI_sI, if_pos ⟨rfl, rfl, rfl⟩]⟩
    · rw [mI_sI, if_neg (fun z => absurd z.1 (by decide))]; exact e z i hi
  · rw [mI_sI, if_neg (fun z => absurd z.2.2 (by decide))]; exact h.2.2.1.1
  · rw [mI_sI, if_neg (fun z => absurd z.2.2 (by decide))]; exact h.2.2.1.2.1
  · rw [eN]; exact fun z => (h.2.2.2 z).fr ag.1.1
theorem c_must {Q : Int32 → Mem → Prop} (hq : RQ A W w nq nk np nh nr F s) (h : RM A W w br nq nk np nh nr C B F t s (gU s t) M) (hM : MO W s t none (gU s t)) (hw0 : lWt (zN s t) = none) (hk : k < W.length)
    (hQ : ∀ M', RM A W w br nq nk np nh nr C B F t (mustS br W t s k).2.2 (gU (mustS br W t s k).2.2 t) M' → ((mustS br W t s k).1 = 2 → mI M' 6 w 32 = (mustS br W t s k).2.1) → ((mustS br W t s k).1 = 0 ∨ (mustS br W t s k).1 = 2 → ∀ i, i = 33 ∨ i = 34 ∨ i = 36 → mI M' 6 w i = mI M 6 w i) → Q (Int32.ofNat (mustS br W t s k).1) M') : w_Machine_mustStart w (Int32.ofNat k) Q M := by
  obtain ⟨hW, hK, hA, ⟨hw, hFb⟩, hF⟩ := id hq
  have h51 := h.1.l5
  obtain ⟨c1, c2⟩ := h.1.2.1.1.2.1 k hk
  have l46 : mL M 46 w = 51 := h.1.1.1.1.2.2.2.1.2.2.2.2.2.2 46 (by omega) (by omega)
  have l86 : mL M 86 w = 51 := h.1.2.1.1.1.1
  have R2 : mR M 6 w 2 = some (7, 3 * w + t) := h.1.2.2.2.2.1.1
  have v46 : vp_in (Int32.ofNat k) (mL M 46 w) := by rw [l46]; exact (vp_oN (by omega)).mpr (by omega)
  unfold w_Machine_mustStart
  rw [oN_tnc (by omega), c1]
  refine ⟨v46, ?_⟩
  unfold mustS at hQ
  by_cases e2 : zC s k = 2
  · rw [if_pos e2] at hQ
    exact itp e2 (hQ M h (fun z => absurd z (show ¬ (0 : Nat) = 2 by decide)) (fun _ _ _ => rfl))
  rw [if_neg e2] at hQ
  refine itn e2 ⟨v46, ?_⟩
  by_cases e1 : zC s k = 1
  · rw [if_pos e1] at hQ
    refine itp e1 ⟨by rw [l86]; exact (vp_oN (by omega)).mpr (by omega), 3 * w + t, R2, ?_⟩
    rw [c2 e1, h.2.1.2.1.1]
    by_cases eo : zO s k = Int32.ofNat t
    · rw [if_pos eo] at hQ
      exact itp eo (hQ M h (fun z => absurd z (show ¬ (0 : Nat) = 2 by decide)) (fun _ _ _ => rfl))
    · rw [if_neg eo] at hQ
      refine itn eo ⟨3 * w + t, R2, hQ _ ?_ (fun z => absurd z (show ¬ (3 : Nat) = 2 by decide)) (fun z => z.elim (fun z => absurd z (show ¬ (3 : Nat) = 0 by decide)) (fun z => absurd z (show ¬ (3 : Nat) = 2 by decide)))⟩
      have eg : gU (sWt s t (some (.inr k))) t = gU s t := by show lU (up1 (zN s) t _ t) = _; rw [up1_s]
      show RM A W w br nq nk np nh nr C B F t (sWt s t (some (.inr k))) (gU (sWt s t (some (.inr k))) t) _
      rw [eg]; exact h.wt hw0
  rw [if_neg e1] at hQ
  refine itn e1 ⟨v46, ?_⟩
  by_cases e3 : zC s k = 3
  · rw [if_pos e3] at hQ
    refine itp e3 ?_
    unfold w_Machine_mustStart_j82
    refine itn (by decide) (hQ _ (h.w6 (Or.inl rfl)) (fun _ => by rw [mI_sI, if_pos ⟨rfl, rfl, rfl⟩]) (fun _ i hi => ?_))
    rw [mI_sI, if_neg (fun z => by omega)]
  rw [if_neg e3] at hQ
  have e0 : zC s k = 0 := by
    rcases (hM.1.1.2.2.2.2.2.1 k).1 with z | z | z | z
    · exact z
    · exact absurd z e1
    · exact absurd z e2
    · exact absurd z e3
  refine itn e3 (c_link hA hK hW.2.1 h.1.1.1 hM.1.1.1.1 hk (fun M1 a1 i1 lo1 fr1 => ?_))
  have hM1 := hM.lL (lkN_M (br := br) hW.2.2.2 hM.1.1.1 hk)
  have r1 : RM A W w br nq nk np nh nr C B F t (yL s (lkN br W 60 (zL s) k).2) (gU s t) M1 := h.lk fr1 rfl a1 (h.1.1.2.fr fr1)
  have sc : ∀ i, i = 33 ∨ i = 34 ∨ i = 36 → mI M1 6 w i = mI M 6 w i := fun i hi => by
    rcases hi with z | z | z <;> subst z
    · exact fr1.I (f := 6) (k := 33) rfl w
    · exact fr1.I (f := 6) (k := 34) rfl w
    · exact fr1.I (f := 6) (k := 36) rfl w
  unfold w_Machine_mustStart_j82
  by_cases el : (lkN br W 60 (zL s) k).1 = 1
  · rw [if_pos el] at hQ
    have h21 : 21 ≤ k := Classical.byContradiction (fun z => e2 (hM.1.1.2.2.2.2.1 k (by omega)))
    refine itp el (c_begins (s := yL s (lkN br W 60 (zL s) k).2) hq r1 hM1 ⟨h21, hk⟩ e0 (fun M2 h2 => ?_))
    exact hQ M2 h2 (fun z => absurd z (show ¬ (1 : Nat) = 2 by decide)) (fun z => z.elim (fun z => absurd z (show ¬ (1 : Nat) = 0 by decide)) (fun z => absurd z (show ¬ (1 : Nat) = 2 by decide)))
  · rw [if_neg el] at hQ
    refine itn el (hQ _ (r1.w6 (Or.inl rfl)) (fun _ => by rw [mI_sI, if_pos ⟨rfl, rfl, rfl⟩]) (fun _ i hi => ?_))
    rw [mI_sI, if_neg (fun z => by omega)]
    exact sc i hi
/-- whether a class is ready: what is thrown is thrown -/
theorem c_isReady {Q : Int32 → Mem → Prop} (hq : RQ A W w nq nk np nh nr F s) (h : RM A W w br nq nk np nh nr C B F t s (gU s t) M) (hM : MO W s t none (gU s t)) (hon : lSt (zN s t) = 1) (hw0 : lWt (zN s t) = none) (hk : k < W.length)
    (hQ0 : (mustS br W t s k).1 = 0 → ∀ M', RM A W w br nq nk np nh nr C B F t s (gU s t) M' → Q 1 M')
    (hQ2 : (mustS br W t s k).1 = 2 → ∀ M', RM A W w br nq nk np nh nr C B F t (failC W t (mustS br W t s k).2.2 (mustS br W t s k).2.1) (gU (failC W t (mustS br W t s k).2.2 (mustS br W t s k).2.1) t) M' → Q 0 M')
    (hQ1 : (mustS br W t s k).1 = 1 ∨ (mustS br W t s k).1 = 3 → ∀ M', RM A W w br nq nk np nh nr C B F t (mustS br W t s k).2.2 (gU (mustS br W t s k).2.2 t) M' → Q 0 M') : w_Machine_isReady w (Int32.ofNat k) Q M := by
  obtain ⟨m0, m2, m1, m3⟩ := mustS_ok (br := br) (k := k) hq.1 hM hon hk
  unfold w_Machine_isReady
  refine c_must hq h hM hw0 hk (fun M1 h1 h32 hsc => ?_)
  unfold w_Machine_isReady_j20
  generalize em : mustS br W t s k = mr at m0 m1 m2 m3 h1 h32 hsc hQ0 hQ1 hQ2
  obtain ⟨r0, e, s1⟩ := mr
  dsimp only at m0 m1 m2 m3 h1 h32 hQ0 hQ1 hQ2
  match r0, m0, m1, m2, m3, h32, hQ0, hQ1, hQ2 with
  | 0, m0, _, _, _, _, hQ0, _, _ =>
    obtain ⟨es, -, -⟩ := m0 rfl
    rw [es] at h1
    exact itn (show ¬ Int32.ofNat 0 = 2 by decide) (itp rfl (hQ0 rfl M1 h1))
  | 1, _, _, _, _, _, _, hQ1, _ => exact itn (show ¬ Int32.ofNat 1 = 2 by decide) (itn (show ¬ Int32.ofNat 1 = 0 by decide) (hQ1 (Or.inl rfl) M1 h1))
  | 2, _, _, m2, _, h32, _, _, hQ2 =>
    obtain ⟨he, hM2, hN, hF2⟩ := m2 rfl
    have eg : gU s1 t = gU s t := by show lU (zN s1 t) = _; rw [hN]
    rw [h32 rfl]
    have hq1 : RQ A W w nq nk np nh nr F s1 := ⟨hq.1, hq.2.1, hq.2.2.1, hq.2.2.2.1, by rw [hF2]; exact hq.2.2.2.2⟩
    exact itp rfl (c_fails hq1 h1 (o := none) (by rw [eg]; exact hM2) (by rw [hN]; exact hon) he (fun M2 h2 => itn (show ¬ Int32.ofNat 2 = 0 by decide) (hQ2 rfl M2 h2)))
  | 3, _, _, _, _, _, _, hQ1, _ => exact itn (show ¬ Int32.ofNat 3 = 2 by decide) (itn (show ¬ Int32.ofNat 3 = 0 by decide) (hQ1 (Or.inr rfl) M1 h1))
  | n + 4, _, _, _, m3, _, _, _, _ => exact absurd m3 (by omega)
end
