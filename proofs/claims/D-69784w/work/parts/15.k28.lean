/-! OPERATION OF THE WORKS drop, in the whole -/
section
variable {BB A : List Nm} {on : Nat → Bool} {ws : Nat → Wld} {lf k v : Nat} {M : Mem} {T : List Trl} {tp P : List Int32} {pl : Int32} {L : Tl} {V : RV} {Q : Int32 → Mem → Prop} {o : Option (Nat × Nat)}
theorem mR_702 {f i q : Nat} (h : f ≠ 702) : mR (sR M 702 0 k o) f i q = mR M f i q := by rw [mR_sR, if_neg (fun z => h z.1)]
theorem SmC.s7 : SmC v M (sR M 702 0 k o) := ⟨fun f hg => ⟨fun q => ⟨rfl, mR_702 (fun z => by rw [z] at hg; exact absurd hg (by decide))⟩, rfl⟩, fun f t hg _ => ⟨fun _ => rfl, rfl⟩, fun _ _ _ => rfl, fun _ => rfl, fun j _ => ⟨⟨fun _ => rfl, rfl⟩, id⟩⟩
theorem Ty.s7 (h : Ty M) (ho : ∀ g j, o = some (g, j) → g = 5) : Ty (sR M 702 0 k o) := fun f i q g j e => by
  rw [mR_sR] at e
  by_cases z : f = 702 ∧ i = 0 ∧ q = k
  · rw [if_pos z] at e
    rw [z.1, ho g j e]; rfl
  · rw [if_neg z] at e; exact h f i q g j e
theorem GM.s7 (h : GM M) (ho : ∀ g j, o = some (g, j) → g = 5) : GM (sR M 702 0 k o) := by
  refine ⟨h.1.s7 ho, h.2.1, ⟨fun v q g j e => h.2.2.1.1 v q g j (by rw [mR_702 (by decide)] at e; exact e), fun v q g j e => h.2.2.1.2.1 v q g j (by rw [mR_702 (by decide)] at e; exact e), fun v g j hv e => h.2.2.1.2.2 v g j hv (by rw [mR_702 (by decide)] at e; exact e)⟩, fun v q g j hv hq e => h.2.2.2.1 v q g j hv hq (by rw [mR_702 (by decide)] at e; exact e), fun v v' q q' g g' j hv hv' hq hq' e e' => h.2.2.2.2 v v' q q' g g' j hv hv' hq hq' (by rw [mR_702 (by decide)] at e; exact e) (by rw [mR_702 (by decide)] at e'; exact e')⟩
theorem GWC.s7 (h : GWC BB A T tp pl L V P M) (hk : k < 3) : GWC BB A T tp pl L V P (sR M 702 0 k o) := by
  have hf : Fr (21040543606193494028963959531520514662201359211292695437993123612274928617188323288454666145110353804907931875424712870852077729000735215452511259082607523399820894684513778392766655031537290869085173006943125504) M (sR M 702 0 k o) := Fr.wRa rfl rfl (Fr.rf _ _)
  obtain ⟨⟨B, ⟨⟨hN, hR⟩, ⟨hRd, hLk, h30⟩, h35⟩, ⟨hx, hkn⟩, hT⟩, ⟨h2, h3⟩, hTd, ⟨h5, h6⟩, h7, hcl, h9, ⟨h12, h13⟩, h14⟩ := h
  refine ⟨⟨B, ⟨⟨hN.fr hf, hR.sm SmC.s7 (fun n z => z)⟩, ⟨hRd, hLk, h30⟩, h35⟩, ⟨hx.fr hf, hkn⟩, hT⟩, ⟨h2, h3⟩, hTd, ⟨h5, h6⟩, h7, hcl, h9, ⟨h12, fun q hq => ?_⟩, fun q hq => ?_⟩
  · rw [mR_sR, if_neg (fun z => absurd z.2.1 (by decide))]; exact h13 q hq
  · rw [mR_sR, if_neg (fun z => by have := z.2.2; omega)]; exact h14 q hq
theorem W_drop {B0 : Nat} (hB0 : mS M ≤ B0 + 8 * capC (k + 1) M) (h : WWC A on ws lf M) (hg : GWC BB A T tp pl L V P M) (hk : k < 3) (hon : on k = true)
    (hQ : ∀ M', WWC A (up1 on k false) ws lf M' ∧ GWC BB A T tp pl L V P M' ∧ Fr WKF M M' ∧ Ty M' ∧ CpE (k + 1) M M' → mS M' ≤ B0 + 8 * capC (k + 1) M' → Q (Int32.ofNat (dW (ws k)).length - 21) M') : w_Works_drop 0 (Int32.ofNat k) Q M := by
  obtain ⟨nq, nk, np, nh, nr, B, hR, hb⟩ := (h.2.2 k hk).1 hon
  have h0 := h
  obtain ⟨⟨hG, hO⟩, ⟨h8, h35⟩, hw⟩ := h
  have hf : Fr (21040543606193494028963959531520514662201359211292695437993123612274928617188323288454666145110353804907931875424712870852077729000735215452511259082607523399820894684513778392766655031537290869085173006943125504) M (sR M 702 0 k none) := Fr.wRa rfl rfl (Fr.rf _ _)
  have ho : ∀ g j, (none : Option (Nat × Nat)) = some (g, j) → g = 5 := fun g j e => by cases e
  unfold w_Works_drop
  refine c_isWorld hO (fun j hj e _ _ => ?_) (fun q => by rw [wOf_k hk, hon] at q; cases q)
  refine itn (by decide) ?_
  obtain ⟨a1, a2⟩ := hO.at hk hon
  refine ⟨a1, k + 1, a2, a1, _, rfl, ?_⟩
  rw [hR.1.1.1.1.1.1.1.1, oN_tnc (k := k) (by omega)]
  refine hQ _ ⟨⟨⟨hG.s7 ho, hO.1, fun j hj => ?_⟩, ⟨h8, h35⟩, fun v hv => ?_⟩, hg.s7 hk, hf.sub rfl, hG.1.s7 ho, CpE.of h0 hg (fun _ _ _ => SmC.s7)⟩ (by rw [capC.sm SmC.s7 hR.cap.2]; exact hB0)
  · rw [mR_sR]
    by_cases e : j = k
    · rw [if_pos ⟨rfl, rfl, e⟩, e, up1_s]; rfl
    · rw [if_neg (fun z => e z.2.2), up1_o e]; exact hO.2 j hj
  · by_cases e : v = k
    · subst e
      rw [up1_s]
      exact ⟨fun z => (by cases z), fun _ => ⟨B, hR.room.sm SmC.s7 (fun n z => z)⟩⟩
    · rw [up1_o e]
      refine ⟨fun z => ?_, fun z => ?_⟩
      · have hd := (hw v hv).1 z
        exact hd.sm SmC.s7 List.prefix_rfl hg.na.2 hd.lk (h35 v hv) h8
      · obtain ⟨B', hr⟩ := (hw v hv).2 z
        exact ⟨B', hr.sm SmC.s7 (fun n z => z)⟩
end
