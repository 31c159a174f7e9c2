/-! OPERATIONS OF THE WORKS feed, cut and those on trials, in the whole (printed by gen/wq.py) -/
abbrev gwT : List Nat := [5031, 5032, 5510, 5033, 5034, 5035, cd 10 27, 101, 102, 5101, 5102, 5517, 5096, 5410, cd 8 1, 410, cd 8 2, cd 8 3, 5513, 5082, 5083, 5103, 5104, 5400, 702, 5702]
section
variable {BB A A' : List Nm} {on : Nat → Bool} {ws : Nat → Wld} {lf B B' F R : Nat} {M M' : Mem} {T T' : List Trl} {tp tp' P : List Int32} {pl pl' a b c d e : Int32} {L : Tl} {V : RV} {T0 : Nat → Prop} {h0 : Hot} {Q : Int32 → Mem → Prop} {X : Mem → Prop}
theorem WWC.s0 (h : WWC A on ws lf M) : Dok 0 (DC 0 M) ∧ St 0 (DC 0 M) (fun _ => False) (fun _ => false) M := by
  obtain ⟨⟨hG, hO⟩, -⟩ := h
  exact ⟨Dok_C hG (by omega), StC hG (by omega) (fun f i q g j _ z => by cases z) (fun f q g j hf hT e => hT.elim)⟩
theorem rmC.rows {w : Nat} (h : rmC w B F M) : ∀ i, i < 4 → ∃ j, mR M 6 w (22 + i) = some (301, j) ∧ 24 ≤ j ∧ (301, j) ∈ mN M := by
  obtain ⟨-, -, -, x, n, -, z4, -⟩ := h
  exact fun i hi => ⟨x i, (z4 i hi).1, (z4 i hi).2.2.1, (z4 i hi).2.2.2⟩
theorem cTd.k1 (h : cTd L 1 M) (hf : Fr R M M') (hk1 : K1 M M') (hS : okF R [5031, 5032, 5510, 5033, 5034, 5035] = true := by rfl) : cTd L 1 M' := by
  have o := fun {b : Nat} (hb : b ∈ [5031, 5032, 5510, 5033, 5034, 5035]) => okF_in hS hb
  obtain ⟨⟨p1, p2⟩, ⟨a1, a2, a3, a4⟩, ⟨q1, q2⟩, ⟨b1, b2⟩, rm, c1, c2, c3⟩ := h
  refine ⟨⟨(hf.L (f := 31) (o (by simp)) 1).trans p1, (hf.L (f := 32) (o (by simp)) 1).trans p2⟩, ⟨(hf.L (f := 510) (o (by simp)) 1).trans a1, (hf.L (f := 33) (o (by simp)) 1).trans a2, (hf.L (f := 34) (o (by simp)) 1).trans a3, (hf.L (f := 35) (o (by simp)) 1).trans a4⟩, ⟨(hk1 4 9 rfl).trans q1, (hk1 4 10 rfl).trans q2⟩, ⟨b1, (hk1 4 15 rfl).trans b2⟩, rm, c1, (hk1 4 16 rfl).trans c2, fun i hi => ?_⟩
  obtain ⟨d1, d2⟩ := c3 i hi
  refine ⟨(hk1 510 i rfl).trans d1, fun l t e => ?_⟩
  obtain ⟨⟨y1, y2, y3⟩, y4, y5⟩ := d2 l t e
  exact ⟨⟨(hk1 33 i rfl).trans y1, y2, y3⟩, fun k hk => (hk1 35 _ rfl).trans (y4 k hk), fun k hk => (hk1 35 _ rfl).trans (y5 k hk)⟩
/-- after an operation of the works that touches no world but the scratch one -/
theorem RW.tr (h : WWC A on ws lf M) (hg : GWC BB A T tp pl L V P M) (ho : Ow 0 (DC 0 M) T0 h0 M M') (hf : Fr R M M') (hk1 : K1 M M') (hk8 : K8 M M') (hp : A <+: A') (hT : WkT BB A' B' 900 T' M') (htp : tpC tp' M') (hpl : mI M' 10 0 21 = pl') (hS1 : gmOk R = true := by rfl) (hS : okF R gwT = true := by rfl) (hW : R &&& WKF = R := by rfl) : WWC A' on ws lf M' ∧ GWC BB A' T' tp' pl' L V P M' ∧ Fr WKF M M' ∧ Ty M' ∧ CpE 0 M M' := by
  have o := fun {b : Nat} (hb : b ∈ gwT) => okF_in hS hb
  have h1 := h
  obtain ⟨⟨hG, hO⟩, ⟨h8, h35⟩, hw⟩ := h
  obtain ⟨hG', hsm⟩ := hG.next (by omega) ho hf hT.1.1.2.rows hS1
  have sm : ∀ v, v < 3 → SmC (v + 1) M M' := fun v hv => hsm (v + 1) (by omega) (by omega)
  have hl : A'.length ≤ 200000 := by
    have := hT.1.1.1.len
    omega
  have h8' : mI M' 10 0 8 = Int32.ofNat lf := Eq.trans hk8 h8
  refine ⟨⟨⟨hG', hO.fr hf (o (by simp)) (o (by simp))⟩, ⟨h8', fun v hv => ((((sm v hv).1 6 rfl).1 35).1).trans (h35 v hv)⟩, fun v hv => ⟨fun z => ((hw v hv).1 z).sm (sm v hv) hp hl hT.1.2.1.2.1 (h35 v hv) h8', fun z => ?_⟩⟩, ?_, hf.sub hW, ho.2.2 hG.1, CpE.of h1 hg hsm⟩
  · obtain ⟨B, hr⟩ := (hw v hv).2 z
    exact ⟨B + (mS M' - mS M), hr.sm (sm v hv) (fun n z => by omega)⟩
  · obtain ⟨-, -, hTd, ⟨h5, h6⟩, h7, hcl, ⟨h9, h10, h11⟩, ⟨h12, h13⟩, h14⟩ := hg
    exact ⟨⟨B', hT⟩, ⟨htp, hpl⟩, hTd.k1 hf hk1 (okF_sub hS (by rfl)), ⟨h5.fr hf (okF_sub hS (by rfl)), (hf.L (f := 517) (o (by simp)) 0).trans h6⟩, h7.fr hf (okF_sub hS (by rfl)), fun k hk => ⟨(hf.L (f := 513) (o (by simp)) _).trans (hcl k hk).1, (hf.L (f := 82) (o (by simp)) _).trans (hcl k hk).2.1, (hf.L (f := 83) (o (by simp)) _).trans (hcl k hk).2.2⟩, ⟨(hf.L (f := 103) (o (by simp)) 0).trans h9, (hf.L (f := 104) (o (by simp)) 0).trans h10, (hf.L (f := 400) (o (by simp)) 41).trans h11⟩, ⟨(hf.L (f := 702) (o (by simp)) 1).trans h12, fun k hk => (hf.Ra (f := 702) rfl (o (by simp)) 1 k).trans (h13 k hk)⟩, fun q hq => (hf.Ra (f := 702) rfl (o (by simp)) 0 q).trans (h14 q hq)⟩
theorem WkT.bb {B0 : Nat} (h : WkT BB A B F T M) (hB : mS M ≤ B0 + 8 * capC 0 M) : WkT BB A B0 F T M := ⟨⟨⟨h.1.1.1, h.1.1.2.bb hB⟩, h.1.2⟩, h.2⟩
theorem WkT.cap (h : WkT BB A B F T M) : mS M ≤ B + 8 * capC 0 M := h.1.1.2.cap.1.2.2
theorem cTx.r0 {Y : List (List Int32)} (h : cTx Y M) : R0 M := by
  obtain ⟨-, ⟨h1, -⟩, π, h2, -⟩ := h
  refine ⟨h1, fun q hq z => ?_⟩
  rw [(h2 q hq).1] at z
  injection z with z
  injection z with _ z
  exact (h2 q hq).2.2.1 z
theorem tpC.k0 (h : tpC tp M) (hr : R0 M) (hf : Fr R M M') (hk : K0 M M') (hS : okF R [cd 10 1, 5400] = true := by rfl) : tpC tp M' := ⟨(hf.I (f := 10) (k := 1) (okF_in hS (by simp)) 0).trans h.1, (hf.L (f := 400) (okF_in hS (by simp)) 0).trans h.2.1, h.2.2.1, fun k hk' => ((hk hr).2 k).trans (h.2.2.2 k hk')⟩
theorem cTx.k5 {Y : List (List Int32)} (h : cTx Y M) (hf : Fr R M M') (hk : K5 M M') (hS : okF R [cd 10 10, 98, 701, 5701, 5098, 5400] = true := by rfl) : cTx Y M' := by
  have o := fun {b : Nat} (hb : b ∈ [cd 10 10, 98, 701, 5701, 5098, 5400]) => okF_in hS hb
  obtain ⟨⟨h1, h2⟩, ⟨h3, h4⟩, π, h5, h6, h7⟩ := h
  refine ⟨⟨(hf.I (f := 10) (k := 10) (o (by simp)) 0).trans h1, h2⟩, ⟨(hf.L (f := 701) (o (by simp)) 0).trans h3, (hf.L (f := 98) (o (by simp)) 0).trans h4⟩, π, fun t ht => ⟨(hf.Ra (f := 701) rfl (o (by simp)) 0 t).trans (h5 t ht).1, (hf.L (f := 400) (o (by simp)) _).trans (h5 t ht).2.1, (h5 t ht).2.2⟩, h6, fun t ht => ⟨⟨(hf.Ia (f := 98) rfl (o (by simp)) 0 t).trans (h7 t ht).1.1, (h7 t ht).1.2⟩, fun i hi => (hk.1 (π t) i (h5 t (by omega)).2.2.1).trans ((h7 t ht).2 i hi)⟩⟩
theorem W_feed {B0 : Nat} (hB0 : mS M ≤ B0 + 8 * capC 0 M) (h : WWC A on ws lf M) (hg : GWC BB A T tp pl L V P M) (hQ : ∀ M', WWC A on ws lf M' ∧ GWC BB A T (sFeed tp a b c d e).2 pl L V P M' ∧ Fr WKF M M' ∧ Ty M' ∧ CpE 0 M M' → mS M' ≤ B0 + 8 * capC 0 M' → Q (sFeed tp a b c d e).1 M') : w_Works_feed 0 a b c d e Q M := by
  obtain ⟨hD, hS⟩ := h.s0
  obtain ⟨⟨B1, hT1⟩, ⟨htp, hpl⟩, -⟩ := id hg
  obtain ⟨hWB, ⟨hx, hkn⟩, hT⟩ := hT1.bb hB0
  refine mo_w_Works_feed hD (Q := fun r M' => Fr F_Works_feed M M' ∧ K5 M M' ∧ r = (sFeed tp a b c d e).1 ∧ tpC (sFeed tp a b c d e).2 M') (fun r M' ho hx => ?_) hS (mf_w_Works_feed (fun _ _ hf h => ⟨hf, h⟩) (m5_w_Works_feed (fun _ _ h1 h => ⟨h1, h⟩) (c_feed htp (fun M' z => ⟨rfl, z⟩))))
  obtain ⟨hf, hk, e, z⟩ := hx
  subst e
  have hT' : WkT BB A B0 900 T M' := ⟨hWB.fr hf, ⟨hx.k5 hf hk, hkn.fr hf⟩, hT⟩
  exact hQ M' (RW.tr h hg ho hf (K1.fr hf rfl) (K8.fr hf rfl) List.prefix_rfl hT' z ((hf.I (f := 10) (k := 21) rfl 0).trans hpl)) hT'.cap
theorem W_cut {B0 : Nat} (hB0 : mS M ≤ B0 + 8 * capC 0 M) (h : WWC A on ws lf M) (hg : GWC BB A T tp pl L V P M) (hQ : ∀ M', WWC A on ws lf M' ∧ GWC BB A T (sCut tp a).2 pl L V P M' ∧ Fr WKF M M' ∧ Ty M' ∧ CpE 0 M M' → mS M' ≤ B0 + 8 * capC 0 M' → Q (sCut tp a).1 M') : w_Works_cut 0 a Q M := by
  obtain ⟨hD, hS⟩ := h.s0
  obtain ⟨⟨B1, hT1⟩, ⟨htp, hpl⟩, -⟩ := id hg
  obtain ⟨hWB, ⟨hx, hkn⟩, hT⟩ := hT1.bb hB0
  refine mo_w_Works_cut hD (Q := fun r M' => Fr F_Works_cut M M' ∧ r = (sCut tp a).1 ∧ tpC (sCut tp a).2 M') (fun r M' ho hx => ?_) hS (mf_w_Works_cut (fun _ _ hf h => ⟨hf, h⟩) (c_cut htp (fun M' z => ⟨rfl, z⟩)))
  obtain ⟨hf, e, z⟩ := hx
  subst e
  have hT' : WkT BB A B0 900 T M' := ⟨hWB.fr hf, ⟨hx.fr hf, hkn.fr hf⟩, hT⟩
  exact hQ M' (RW.tr h hg ho hf (K1.fr hf rfl) (K8.fr hf rfl) List.prefix_rfl hT' z ((hf.I (f := 10) (k := 21) rfl 0).trans hpl)) hT'.cap
theorem W_outcome {B0 : Nat} (hB0 : mS M ≤ B0 + 8 * capC 0 M) (h : WWC A on ws lf M) (hg : GWC BB A T tp pl L V P M) (hQ : ∀ A' M', A <+: A' → WWC A' on ws lf M' ∧ GWC BB A' T tp pl L V P M' ∧ Fr WKF M M' ∧ Ty M' ∧ CpE 0 M M' → mS M' ≤ B0 + 8 * capC 0 M' → Q (outO T a c d) M') : w_Works_outcome 0 a c d Q X M := by
  obtain ⟨hD, hS⟩ := h.s0
  obtain ⟨⟨B1, hT1⟩, ⟨htp, hpl⟩, -⟩ := id hg
  have hT := hT1.bb hB0
  refine mo_w_Works_outcome hD rfl (Q := fun r M' => Fr F_Works_outcome M M' ∧ K1 M M' ∧ K8 M M' ∧ r = (outO T a c d) ∧ ∃ A', A <+: A' ∧ WkT BB A' B0 900 T M') (X := X) (fun r M' ho hx => ?_) (fun z _ hx => hx) hS (mf_w_Works_outcome (fun _ _ hf h => ⟨hf, h⟩) (fun _ _ hx => hx) (mc_w_Works_outcome (fun _ _ h1 h => ⟨h1, h⟩) (fun _ _ hx => hx) (m8_w_Works_outcome (fun _ _ h1 h => ⟨h1, h⟩) (fun _ _ hx => hx) (c_woutcome hT (by decide) (by decide) (fun A' M' z1 z2 => ⟨rfl, A', z1, z2⟩)))))
  obtain ⟨hf, hk1, hk8, e, A', z1, z2⟩ := hx
  subst e
  exact hQ A' M' z1 (RW.tr h hg ho hf hk1 hk8 z1 z2 (htp.fr hf) ((hf.I (f := 10) (k := 21) rfl 0).trans hpl)) z2.cap
theorem W_meets {B0 : Nat} (hB0 : mS M ≤ B0 + 8 * capC 0 M) (h : WWC A on ws lf M) (hg : GWC BB A T tp pl L V P M) (hQ : ∀ A' M', A <+: A' → WWC A' on ws lf M' ∧ GWC BB A' T tp pl L V P M' ∧ Fr WKF M M' ∧ Ty M' ∧ CpE 0 M M' → mS M' ≤ B0 + 8 * capC 0 M' → Q (metO T a) M') : w_Works_meets 0 a Q X M := by
  obtain ⟨hD, hS⟩ := h.s0
  obtain ⟨⟨B1, hT1⟩, ⟨htp, hpl⟩, -⟩ := id hg
  have hT := hT1.bb hB0
  refine mo_w_Works_meets hD rfl (Q := fun r M' => Fr F_Works_meets M M' ∧ K1 M M' ∧ K8 M M' ∧ r = (metO T a) ∧ ∃ A', A <+: A' ∧ WkT BB A' B0 900 T M') (X := X) (fun r M' ho hx => ?_) (fun z _ hx => hx) hS (mf_w_Works_meets (fun _ _ hf h => ⟨hf, h⟩) (fun _ _ hx => hx) (mc_w_Works_meets (fun _ _ h1 h => ⟨h1, h⟩) (fun _ _ hx => hx) (m8_w_Works_meets (fun _ _ h1 h => ⟨h1, h⟩) (fun _ _ hx => hx) (c_wmeets hT (by decide) (by decide) (fun A' M' z1 z2 => ⟨rfl, A', z1, z2⟩)))))
  obtain ⟨hf, hk1, hk8, e, A', z1, z2⟩ := hx
  subst e
  exact hQ A' M' z1 (RW.tr h hg ho hf hk1 hk8 z1 z2 (htp.fr hf) ((hf.I (f := 10) (k := 21) rfl 0).trans hpl)) z2.cap
theorem W_finds {B0 : Nat} (hB0 : mS M ≤ B0 + 8 * capC 0 M) (h : WWC A on ws lf M) (hg : GWC BB A T tp pl L V P M) (hQ : ∀ A' M', A <+: A' → WWC A' on ws lf M' ∧ GWC BB A' T tp pl L V P M' ∧ Fr WKF M M' ∧ Ty M' ∧ CpE 0 M M' → mS M' ≤ B0 + 8 * capC 0 M' → Q (finO T a c) M') : w_Works_finds 0 a c Q X M := by
  obtain ⟨hD, hS⟩ := h.s0
  obtain ⟨⟨B1, hT1⟩, ⟨htp, hpl⟩, -⟩ := id hg
  have hT := hT1.bb hB0
  refine mo_w_Works_finds hD rfl (Q := fun r M' => Fr F_Works_finds M M' ∧ K1 M M' ∧ K8 M M' ∧ r = (finO T a c) ∧ ∃ A', A <+: A' ∧ WkT BB A' B0 900 T M') (X := X) (fun r M' ho hx => ?_) (fun z _ hx => hx) hS (mf_w_Works_finds (fun _ _ hf h => ⟨hf, h⟩) (fun _ _ hx => hx) (mc_w_Works_finds (fun _ _ h1 h => ⟨h1, h⟩) (fun _ _ hx => hx) (m8_w_Works_finds (fun _ _ h1 h => ⟨h1, h⟩) (fun _ _ hx => hx) (c_wfinds hT (by decide) (by decide) (fun A' M' z1 z2 => ⟨rfl, A', z1, z2⟩)))))
  obtain ⟨hf, hk1, hk8, e, A', z1, z2⟩ := hx
  subst e
  exact hQ A' M' z1 (RW.tr h hg ho hf hk1 hk8 z1 z2 (htp.fr hf) ((hf.I (f := 10) (k := 21) rfl 0).trans hpl)) z2.cap
theorem W_hole {B0 : Nat} (hB0 : mS M ≤ B0 + 8 * capC 0 M) (h : WWC A on ws lf M) (hg : GWC BB A T tp pl L V P M) (hQ : ∀ A' M', A <+: A' → WWC A' on ws lf M' ∧ GWC BB A' T tp pl L V P M' ∧ Fr WKF M M' ∧ Ty M' ∧ CpE 0 M M' → mS M' ≤ B0 + 8 * capC 0 M' → Q (holO T a) M') : w_Works_hole 0 a Q X M := by
  obtain ⟨hD, hS⟩ := h.s0
  obtain ⟨⟨B1, hT1⟩, ⟨htp, hpl⟩, -⟩ := id hg
  have hT := hT1.bb hB0
  refine mo_w_Works_hole hD rfl (Q := fun r M' => Fr F_Works_hole M M' ∧ K1 M M' ∧ K8 M M' ∧ r = (holO T a) ∧ ∃ A', A <+: A' ∧ WkT BB A' B0 900 T M') (X := X) (fun r M' ho hx => ?_) (fun z _ hx => hx) hS (mf_w_Works_hole (fun _ _ hf h => ⟨hf, h⟩) (fun _ _ hx => hx) (mc_w_Works_hole (fun _ _ h1 h => ⟨h1, h⟩) (fun _ _ hx => hx) (m8_w_Works_hole (fun _ _ h1 h => ⟨h1, h⟩) (fun _ _ hx => hx) (c_whole hT (by decide) (by decide) (fun A' M' z1 z2 => ⟨rfl, A', z1, z2⟩)))))
  obtain ⟨hf, hk1, hk8, e, A', z1, z2⟩ := hx
  subst e
  exact hQ A' M' z1 (RW.tr h hg ho hf hk1 hk8 z1 z2 (htp.fr hf) ((hf.I (f := 10) (k := 21) rfl 0).trans hpl)) z2.cap
theorem W_least {B0 : Nat} (hB0 : mS M ≤ B0 + 8 * capC 0 M) (h : WWC A on ws lf M) (hg : GWC BB A T tp pl L V P M) (hQ : ∀ A' M', A <+: A' → WWC A' on ws lf M' ∧ GWC BB A' (leaF T.length T) tp pl L V P M' ∧ Fr WKF M M' ∧ Ty M' ∧ CpE 0 M M' → mS M' ≤ B0 + 8 * capC 0 M' → Q (Int32.ofNat (leaF T.length T).length) M') : w_Works_least 0  Q X M := by
  obtain ⟨hD, hS⟩ := h.s0
  obtain ⟨⟨B1, hT1⟩, ⟨htp, hpl⟩, -⟩ := id hg
  have hT := hT1.bb hB0
  refine mo_w_Works_least hD rfl (Q := fun r M' => Fr F_Works_least M M' ∧ K1 M M' ∧ K8 M M' ∧ r = (Int32.ofNat (leaF T.length T).length) ∧ ∃ A', A <+: A' ∧ WkT BB A' B0 900 (leaF T.length T) M') (X := X) (fun r M' ho hx => ?_) (fun z _ hx => hx) hS (mf_w_Works_least (fun _ _ hf h => ⟨hf, h⟩) (fun _ _ hx => hx) (mc_w_Works_least (fun _ _ h1 h => ⟨h1, h⟩) (fun _ _ hx => hx) (m8_w_Works_least (fun _ _ h1 h => ⟨h1, h⟩) (fun _ _ hx => hx) (c_wleast hT (by decide) (by decide) (fun A' M' z1 z2 => ⟨rfl, A', z1, z2⟩)))))
  obtain ⟨hf, hk1, hk8, e, A', z1, z2⟩ := hx
  subst e
  exact hQ A' M' z1 (RW.tr h hg ho hf hk1 hk8 z1 z2 (htp.fr hf) ((hf.I (f := 10) (k := 21) rfl 0).trans hpl)) z2.cap
theorem W_shrink {B0 : Nat} (hB0 : mS M ≤ B0 + 8 * capC 0 M) (h : WWC A on ws lf M) (hg : GWC BB A T tp pl L V P M) (hQ : ∀ A' M', A <+: A' → WWC A' on ws lf M' ∧ GWC BB A' (shkO T a b).2 tp pl L V P M' ∧ Fr WKF M M' ∧ Ty M' ∧ CpE 0 M M' → mS M' ≤ B0 + 8 * capC 0 M' → Q (shkO T a b).1 M') : w_Works_shrink 0 a b Q X M := by
  obtain ⟨hD, hS⟩ := h.s0
  obtain ⟨⟨B1, hT1⟩, ⟨htp, hpl⟩, -⟩ := id hg
  have hT := hT1.bb hB0
  refine mo_w_Works_shrink hD rfl (Q := fun r M' => Fr F_Works_shrink M M' ∧ K1 M M' ∧ K8 M M' ∧ K0 M M' ∧ r = (shkO T a b).1 ∧ ∃ A', A <+: A' ∧ WkT BB A' B0 900 (shkO T a b).2 M') (X := X) (fun r M' ho hx => ?_) (fun z _ hx => hx) hS (mf_w_Works_shrink (fun _ _ hf h => ⟨hf, h⟩) (fun _ _ hx => hx) (mc_w_Works_shrink (fun _ _ h1 h => ⟨h1, h⟩) (fun _ _ hx => hx) (m8_w_Works_shrink (fun _ _ h1 h => ⟨h1, h⟩) (fun _ _ hx => hx) (m0_w_Works_shrink (fun _ _ h1 h => ⟨h1, h⟩) (fun _ _ hx => hx) (c_wshrink hT hg.2.2.2.2.2.2.1.2.2 (by decide) (by decide) (fun A' M' z1 z2 _ => ⟨rfl, A', z1, z2⟩))))))
  obtain ⟨hf, hk1, hk8, hk0, e, A', z1, z2⟩ := hx
  subst e
  exact hQ A' M' z1 (RW.tr h hg ho hf hk1 hk8 z1 z2 (htp.k0 hT.2.1.1.r0 hf hk0) ((hf.I (f := 10) (k := 21) rfl 0).trans hpl)) z2.cap
theorem W_fewest {B0 : Nat} (hB0 : mS M ≤ B0 + 8 * capC 0 M) (h : WWC A on ws lf M) (hg : GWC BB A T tp pl L V P M) (hQ : ∀ v A' M', IsF (mNt T) (fNt T) T.length v → A <+: A' → WWC A' on ws lf M' ∧ GWC BB A' T tp pl L V P M' ∧ Fr WKF M M' ∧ Ty M' ∧ CpE 0 M M' → mS M' ≤ B0 + 8 * capC 0 M' → Q (Int32.ofNat v) M') : w_Works_fewest 0 Q X M := by
  obtain ⟨hD, hS⟩ := h.s0
  obtain ⟨⟨B1, hT1⟩, ⟨htp, hpl⟩, -⟩ := id hg
  have hT := hT1.bb hB0
  refine mo_w_Works_fewest hD rfl (Q := fun r M' => Fr F_Works_fewest M M' ∧ K1 M M' ∧ K8 M M' ∧ ∃ v A', r = Int32.ofNat v ∧ IsF (mNt T) (fNt T) T.length v ∧ A <+: A' ∧ WkT BB A' B0 900 T M') (X := X) (fun r M' ho hx => ?_) (fun z _ hx => hx) hS (mf_w_Works_fewest (fun _ _ hf h => ⟨hf, h⟩) (fun _ _ hx => hx) (mc_w_Works_fewest (fun _ _ h1 h => ⟨h1, h⟩) (fun _ _ hx => hx) (m8_w_Works_fewest (fun _ _ h1 h => ⟨h1, h⟩) (fun _ _ hx => hx) (c_wfewest hT hg.2.2.2.2.2.2.1.1 hg.2.2.2.2.2.2.1.2.1 (by decide) (by decide) (fun v A' M' z0 z1 z2 _ _ => ⟨v, A', rfl, z0, z1, z2⟩)))))
  obtain ⟨hf, hk1, hk8, v, A', e, z0, z1, z2⟩ := hx
  subst e
  exact hQ v A' M' z0 z1 (RW.tr h hg ho hf hk1 hk8 z1 z2 (htp.fr hf) ((hf.I (f := 10) (k := 21) rfl 0).trans hpl)) z2.cap
theorem W_change {B0 : Nat} (hB0 : mS M ≤ B0 + 8 * capC 0 M) (h : WWC A on ws lf M) (hg : GWC BB A T tp pl L V P M) (hQ : ∀ M', WWC A on ws lf M' ∧ GWC BB A (chgO T a b c d).2 tp pl L V P M' ∧ Fr WKF M M' ∧ Ty M' ∧ CpE 0 M M' → mS M' ≤ B0 + 8 * capC 0 M' → Q (chgO T a b c d).1 M') : w_Works_change 0 a b c d Q M := by
  obtain ⟨hD, hS⟩ := h.s0
  obtain ⟨⟨B1, hT1⟩, ⟨htp, hpl⟩, -⟩ := id hg
  have hT := hT1.bb hB0
  refine mo_w_Works_change hD (Q := fun r M' => Fr F_Works_change M M' ∧ K0 M M' ∧ r = (chgO T a b c d).1 ∧ WkT BB A B0 900 (chgO T a b c d).2 M') (fun r M' ho hx => ?_) hS (mf_w_Works_change (fun _ _ hf h => ⟨hf, h⟩) (m0_w_Works_change (fun _ _ h1 h => ⟨h1, h⟩) (c_wchange hT hg.2.2.2.2.2.2.1.2.2 (fun M' z => ⟨rfl, z⟩))))
  obtain ⟨hf, hk0, e, z⟩ := hx
  subst e
  exact hQ M' (RW.tr h hg ho hf (K1.fr hf rfl) (K8.fr hf rfl) List.prefix_rfl z (htp.k0 hT.2.1.1.r0 hf hk0) ((hf.I (f := 10) (k := 21) rfl 0).trans hpl)) z.cap
theorem W_trial {B0 : Nat} (hB0 : mS M ≤ B0 + 8 * capC 0 M) (h : WWC A on ws lf M) (hg : GWC BB A T tp pl L V P M) (hb : ∀ k, k < tp.length → (gi tp k).toInt8.toInt32 = gi tp k) (hB : ∀ l ∈ lns (pT tp) tp.length 0, NB BB l) (hQ : ∀ A' M', A <+: A' → WWC A' on ws lf M' ∧ GWC BB A' (triO T tp).2.2.2 (triO T tp).2.2.1 (((triO T tp).2.1).getD pl) L V P M' ∧ Fr WKF M M' ∧ Ty M' ∧ CpE 0 M M' → mS M' ≤ B0 + 8 * capC 0 M' → Q (triO T tp).1 M') : w_Works_trial 0 Q M := by
  obtain ⟨hD, hS⟩ := h.s0
  obtain ⟨⟨B1, hT1⟩, ⟨htp, hpl⟩, -⟩ := id hg
  have hT := hT1.bb hB0
  refine mo_w_Works_trial hD rfl (Q := fun r M' => Fr F_Works_trial M M' ∧ r = (triO T tp).1 ∧ ∃ A', A <+: A' ∧ WkT BB A' B0 900 (triO T tp).2.2.2 M' ∧ tpC (triO T tp).2.2.1 M' ∧ mI M' 10 0 21 = ((triO T tp).2.1).getD (mI M 10 0 21)) (fun r M' ho hx => ?_) hS (mf_w_Works_trial (fun _ _ hf h => ⟨hf, h⟩) (c_wtrial hT htp hb hB (fun A' M' z1 z2 z3 z4 => ⟨rfl, A', z1, z2, z3, z4⟩)))
  obtain ⟨hf, e, A', z1, z2, z3, z4⟩ := hx
  subst e
  rw [hpl] at z4
  exact hQ A' M' z1 (RW.tr h hg ho hf (K1.fr hf rfl) (K8.fr hf rfl) z1 z2 z3 z4) z2.cap
end
