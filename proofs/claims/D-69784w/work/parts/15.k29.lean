/-! OPERATION OF THE WORKS world, in the whole -/
section
variable {BB A : List Nm} {on : Nat → Bool} {ws : Nat → Wld} {lf k v : Nat} {M : Mem} {T : List Trl} {tp P : List Int32} {pl a : Int32} {L : Tl} {V : RV} {Q : Int32 → Mem → Prop}
theorem frW_off (e : frW on = some k) : on k = false := by
  unfold frW at e
  cases h0 : on 0 with
  | false => simp [h0] at e; subst e; exact h0
  | true =>
    cases h1 : on 1 with
    | false => simp [h0, h1] at e; subst e; exact h1
    | true =>
      cases h2 : on 2 with
      | false => simp [h0, h1, h2] at e; subst e; exact h2
      | true => simp [h0, h1, h2] at e
theorem W_world {B0 : Nat → Nat} (hB0 : ∀ k, k < 3 → mS M ≤ B0 k + 8 * capC (k + 1) M) (h : WWC A on ws lf M) (hg : GWC BB A T tp pl L V P M) (q0 : (a < 0 ∨ 255 < a) → Q (-1) M) (q1 : ¬ (a < 0 ∨ 255 < a) → frW on = none → Q (-3) M)
    (hQ : ∀ k M', frW on = some k → k < 3 → ¬ (a < 0 ∨ 255 < a) → WWC A (up1 on k true) (up1 ws k (W21, a, ms0 0, 50, 0, dF (ws k), 0)) lf M' ∧ GWC BB A T tp pl L V P M' ∧ Fr WKF M M' ∧ Ty M' ∧ CpE (k + 1) M M' → mS M' ≤ B0 k + 8 * capC (k + 1) M' → Q (Int32.ofNat k) M') : w_Works_world 0 a Q M := by
  refine c_wworld h.1.2 hg.2.2.2.2.2.2.2.1.1 hg.2.2.2.2.2.2.2.1.2 q0 q1 (fun k e hk nb => ?_)
  have hoff := frW_off e
  have hg1 := hg.s7 (o := some (5, k + 1)) hk
  have hc7 : CpE (k + 1) M (sR M 702 0 k (some (5, k + 1))) := CpE.of h hg (fun _ _ _ => SmC.s7)
  have hr7 : ∀ v, v < 4 → v ≠ k + 1 → ∃ j, mR (sR M 702 0 k (some (5, k + 1))) 6 v 22 = some (301, j) := fun v hv hne => by
    rw [mR_702 (by decide)]
    exact WWC.r22 h hg hv
  obtain ⟨⟨hG, hO⟩, ⟨h8, h35⟩, hw⟩ := h
  have ho5 : ∀ g j, (some (5, k + 1) : Option (Nat × Nat)) = some (g, j) → g = 5 := fun g j e => by cases e; rfl
  have hf7 : Fr (21040543606193494028963959531520514662201359211292695437993123612274928617188323288454666145110353804907931875424712870852077729000735215452511259082607523399820894684513778392766655031537290869085173006943125504) M (sR M 702 0 k (some (5, k + 1))) := Fr.wRa rfl rfl (Fr.rf _ _)
  have hG1 := hG.s7 (k := k) ho5
  obtain ⟨B1, hr0⟩ := (hw k hk).2 hoff
  have hr := hr0.bb (hB0 k hk)
  have hr1 : rmC (k + 1) (B0 k) (dF (ws k)) (sR M 702 0 k (some (5, k + 1))) := hr.sm SmC.s7 (fun n z => z)
  have hO1 : cOn (up1 on k true) (sR M 702 0 k (some (5, k + 1))) := by
    refine ⟨hO.1, fun j hj => ?_⟩
    rw [mR_sR]
    by_cases e : j = k
    · rw [if_pos ⟨rfl, rfl, e⟩, e, up1_s]; rfl
    · rw [if_neg (fun z => e z.2.2), up1_o e]; exact hO.2 j hj
  have hw1 : ∀ v, v < 3 → v ≠ k → (on v = true → WdC A lf v (ws v) (sR M 702 0 k (some (5, k + 1)))) ∧ (on v = false → ∃ B, rmC (v + 1) B (dF (ws v)) (sR M 702 0 k (some (5, k + 1)))) := fun v hv hne => ⟨fun z => (by
    have hd := (hw v hv).1 z
    exact hd.sm SmC.s7 List.prefix_rfl hg.na.2 hd.lk (h35 v hv) h8), fun z => (by
    obtain ⟨B', hr⟩ := (hw v hv).2 z
    exact ⟨B', hr.sm SmC.s7 (fun n z => z)⟩)⟩
  have h35' : ∀ k', k' < 3 → mI (sR M 702 0 k (some (5, k + 1))) 6 (k' + 1) 35 = 0 := h35
  have h8' : mI (sR M 702 0 k (some (5, k + 1))) 10 0 8 = Int32.ofNat lf := h8
  generalize sR M 702 0 k (some (5, k + 1)) = M1 at hc7 hr7 hg1 hf7 hG1 hr1 hO1 hw1 h35' h8' ⊢
  have hLk : cLk M1 := by
    obtain ⟨⟨B, h, -⟩, -⟩ := hg1
    exact h.2.1.2.1
  have hD := Dok_C hG1 (w := k + 1) (by omega)
  have hS : St (k + 1) (DC (k + 1) M1) (fun _ => False) (fun _ => false) M1 := StC hG1 (by omega) (fun f i q g j _ z => by cases z) (fun f q g j _ z => z.elim)
  refine mo_w_World_begin hD (ow1 rfl rfl) (Q := fun M' => Fr F_World_begin M1 M' ∧ RA A W21 (k + 1) a 0 0 0 0 4 lf (B0 k) (dF (ws k)) (ms0 0) M') (fun M' ho hx => ?_) hS (mf_w_World_begin (fun _ hf h => ⟨hf, h⟩) (c_wbegin (k := 0) (C := lf) hr1 hg.na.1 hLk (Or.inr ⟨h35' k hk, Nat.zero_le _, h8'⟩) (fun M' hR _ _ _ => hR)))
  obtain ⟨hf, hR⟩ := hx
  have hd : WdC A lf k (W21, a, ms0 0, 50, 0, dF (ws k), 0) M' := ⟨0, 0, 0, 0, 4, B0 k, by rw [show zK (dS (W21, a, ms0 0, 50, 0, dF (ws k), 0)) + lf = lf from Nat.zero_add lf]; exact hR, by unfold BdC; omega⟩
  obtain ⟨hG', hsm⟩ := hG1.next (by omega) ho hf hd.rows
  have h8'' : mI M' 10 0 8 = Int32.ofNat lf := (hf.I (f := 10) (k := 8) rfl 0).trans h8'
  have h35'' : ∀ k', k' < 3 → mI M' 6 (k' + 1) 35 = 0 := fun k' hk' => (hf.I (f := 6) (k := 35) rfl _).trans (h35' k' hk')
  have sm0 : SmC 0 M1 M' := hsm 0 (by omega) (by omega)
  refine hQ k M' e hk nb ⟨⟨⟨hG', hO1.fr hf⟩, ⟨h8'', h35''⟩, fun v hv => ?_⟩, ?_, (hf7.sub rfl).trans (hf.sub rfl), hG'.1, fun v hv hne => (capC.sm (hsm v hv hne) (hr7 v hv hne)).trans (hc7 v hv hne)⟩ hR.cap.1.2.2
  · by_cases e : v = k
    · subst e
      rw [up1_s, up1_s]
      exact ⟨fun _ => hd, fun z => (by cases z)⟩
    · rw [up1_o e, up1_o e]
      have sm : SmC (v + 1) M1 M' := hsm (v + 1) (by omega) (by omega)
      refine ⟨fun z => ((hw1 v hv e).1 z).sm sm List.prefix_rfl hg.na.2 hd.lk (h35' v hv) h8'', fun z => ?_⟩
      obtain ⟨B', hr⟩ := (hw1 v hv e).2 z
      exact ⟨B' + (mS M' - mS M1), hr.sm sm (fun n z => by omega)⟩
  · have hg0 := hg1
    obtain ⟨⟨B0, hwk, -⟩, ⟨h2, h3⟩, -, ⟨h5, h6⟩, h7, -⟩ := hg1
    exact GWC.nx hg0 hf (K1.fr hf rfl) (hwk.1.1.fr hf) (fun B F hr => ⟨B + (mS M' - mS M1), hr.sm sm0 (fun n z => by omega)⟩) (((sm0.1 6 rfl).1 35).1) h8'' (hwk.2.1.1.fr hf) hd.lk (h2.fr hf) ((hf.I (f := 10) (k := 21) rfl 0).trans h3) ⟨h5.fr hf, (hf.L (f := 517) rfl 0).trans h6⟩ (h7.fr hf)
end
