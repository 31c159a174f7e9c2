/-! OPERATIONS OF THE TWIN feed, cut, drop, world and those on trials, in the whole (printed by gen/wq2.py) -/
abbrev gtT : List Nat := [cd 11 93, cd 11 94, cd 11 95, 5518, cd 11 114, cd 11 115, cd 11 109, 119, 5119, 5520, 5521, 5120, 5121, 5125, 5126, 5127, 5128, 5129, 5519, 5114, 5115, 5116, 5111, 5212, 5112, 5117, 5118, 703, 5703]
section
variable {G : List Sl} {U1 : List (List Kd × Kd)} {BB A A' : List Nm} {S S' : List Sg} {on : Nat → Bool} {ws : Nat → Wld} {lf k w v B B' F F' R : Nat} {M M' : Mem} {T T' : List Trl} {tp tp' P : List Int32} {pl pl' a b c d e : Int32} {L : Tl} {V : RV} {Q : Int32 → Mem → Prop} {X : Mem → Prop} {T0 : Nat → Prop} {h0 : Hot}
theorem MdT.bb {B0 : Nat} (h : MdT G U1 BB A S B F T M) (hB : mS M ≤ B0 + 2 * rs G M) : MdT G U1 BB A S B0 F T M := by
  obtain ⟨⟨a, b, ⟨c1, c2, c3⟩, d⟩, e⟩ := h
  exact ⟨⟨a, b, ⟨c1, ⟨hB, c2.2⟩, c3⟩, d⟩, e⟩
theorem MdT.cap (h : MdT G U1 BB A S B F T M) : mS M ≤ B + 2 * rs G M := h.1.2.2.1.2.1.1
theorem MdB.al (h : MdB G U1 BB A S B F M) : A.length ≤ 200000 := by
  have h1 := nd_le h.1.2.2.2.1.1.2.1.1 h.2.1.2.2.1
  have h2 := h.2.1.2.2.2
  omega
/-- a world of the twin beside the one that changes (what is common is told by MdB) -/
theorem TAx.om {W : List Cls} {nq nl nf nk : Nat} {br x : Int32} {US : UST} {s : Ms} (hx : TAx G US A S W v br nq nl nf nk B F x s M) (hm : MdB G U1 BB A' S' B' F' M') (hne : v ≠ w) (hu : Uch w (DT G w M) M M') (hA : A <+: A') (hS : S <+: S') : TAx G (U1, S') A' S' W v br nq nl nf nk B' F x s M' := by
  have hT : TA G US A S W v br nq nl nf nk B F x s (sR M 11 0 45 (some (12, v))) := hx
  have hin : ∀ y, y ∈ XW v ∨ y ∈ XF v → y ∈ G ∧ y.1 = 12 ∧ y.2.1 = v := fun y hy => by
    refine ⟨hy.elim (fun z => hT.1.1.2.1.2.2.2.1 y z) (fun z => (hT.2.2.1.2.2.1 y z).1), ?_⟩
    rcases hy with z | z
    · have : ∀ y ∈ XW v, y.1 = 12 ∧ y.2.1 = v := by simp
      exact this y z
    · have : ∀ y ∈ XF v, y.1 = 12 ∧ y.2.1 = v := by simp
      exact this y z
  refine TAx.eq hx (EqT.ow hne hu) (fun y hy => ?_) hm.1.2.2.1 hm.1.2.2.2 hm.2.1.1 hA hm.al hS hm.2.2.1.1 hm.2.2.1.2.1
  obtain ⟨h1, h2, h3⟩ := hin y hy
  have er : mR M' y.1 y.2.1 y.2.2.1 = mR M y.1 y.2.1 y.2.2.1 := ((hu y.1 y.2.1 (fun o => hne (by
    have := o.1 (by rw [h2]; rfl)
    rw [h3] at this; exact this))).1 y.2.2.1).2.2
  have ei : rdI M' y = rdI M y := by unfold rdI; rw [er]
  have hd : DT G w M y.2.2.2 (rdI M y) := ⟨y, h1, h2, by rw [h3]; exact hne, rfl, rfl⟩
  have g3 : grp y.2.2.2 = 3 := by
    rcases (hT.1.1.2.1.1.2.2 y h1).2 with e | e | e <;> rw [e] <;> rfl
  have u := hu y.2.2.2 (rdI M y) (fun o => o.2.2.1 g3 hd)
  refine ⟨fun k => ?_, ?_⟩
  · unfold rd; rw [ei]; exact (u.1 k).1
  · unfold rl; rw [ei]; exact u.2
/-- the worlds of the twin but the one that changes -/
theorem WWT.om (h : WWT G U1 A S on ws lf M) (hm : MdB G U1 BB A' S' B' F' M') (hu : Uch w (DT G w M) M M') (hA : A <+: A') (hS : S <+: S') (hne : v ≠ w) (hv : v < 3) : (on v = true → WdT G U1 A' S' v (ws v) M') ∧ (on v = false → rmT G v (dF (ws v)) M') := by
  obtain ⟨-, ⟨⟨hGa, hx⟩, hTG⟩, -, hw⟩ := h
  refine ⟨fun z => ?_, fun z => ((hw v hv).2 z).oth (hx v (by omega)) hTG hne hu⟩
  obtain ⟨nq, nl, nf, nk, B, x, ⟨h1, h2⟩, hb⟩ := (hw v hv).1 z
  exact ⟨nq, nl, nf, nk, B', x, ⟨h1.om hm hne hu hA hS, h2⟩, hb⟩
theorem tOn.u (h : tOn on M) (hu : Uch 3 (DT G 3 M) M M') (hf : Fr R M M') (h1 : R.testBit 703 = false := by rfl) (h2 : R.testBit (5000 + 703) = false := by rfl) : tOn on M' := ⟨(hf.L h2 0).trans h.1, fun k hk => ⟨(hf.Ra rfl h1 0 k).trans (h.2 k hk).1, (((hu 12 k (fun o => by have : k = 3 := o.1 rfl; omega)).1 0).1).trans (h.2 k hk).2⟩⟩
theorem tKd.k2 (h : tKd L M) (h77 : mI M 11 0 77 = 0) (hf : Fr R M M') (hk2 : K2 0 M M') (hS : okF R [5519, 5114, 5115, 5116, 5111, 5212, 5112, 5117, 5118] = true := by rfl) : tKd L M' := by
  have o := fun {b : Nat} (hb : b ∈ [5519, 5114, 5115, 5116, 5111, 5212, 5112, 5117, 5118]) => okF_in hS hb
  obtain ⟨h1, ⟨a1, a2, a3, a4⟩, ⟨b1, b2⟩, rm, c1, c2, c3⟩ := h
  have kk := hk2 h77
  refine ⟨h1.fr hf (okF_sub hS (by rfl)), ⟨(hf.L (f := 519) (o (by simp)) 0).trans a1, (hf.L (f := 114) (o (by simp)) 0).trans a2, (hf.L (f := 115) (o (by simp)) 0).trans a3, (hf.L (f := 116) (o (by simp)) 0).trans a4⟩, ⟨b1, (kk 11 101 rfl).trans b2⟩, rm, c1, (kk 11 102 rfl).trans c2, fun i hi => ?_⟩
  obtain ⟨d1, d2⟩ := c3 i hi
  refine ⟨(kk 519 i rfl).trans d1, fun l t e => ?_⟩
  obtain ⟨⟨y1, y2, y3⟩, y4, y5⟩ := d2 l t e
  exact ⟨⟨(kk 114 i rfl).trans y1, y2, y3⟩, fun k hk => (kk 115 _ rfl).trans (y4 k hk), fun k hk => (kk 116 _ rfl).trans (y5 k hk)⟩
theorem N6.of {q : Nat} (hGa : GaA G) (hTG : TG G M) (hN : N12 M) (hq : (11, 0, q, 401) ∈ G) (h0 : q ≠ 0) (h1 : q ≠ 1) : N6 0 (rdI M (11, 0, q, 401)) M := by
  have key : ∀ y ∈ G, y ≠ (11, 0, q, 401) → y.2.2.2 = 401 → mR M y.1 y.2.1 y.2.2.1 ≠ some (401, rdI M (11, 0, q, 401)) := fun y hy hne hf z => by
    have e := (hTG y hy).1.1
    rw [z] at e
    injection e with e
    injection e with _ e
    exact (hTG _ hq).2 y hy hne hf e.symm
  refine ⟨(hTG _ hq).1.2, key (11, 0, 0, 401) (hGa.2.2 _ _ rfl rfl) (fun z => h0 (by injection z with _ z; injection z with _ z; injection z with z _; exact z.symm)) rfl, key (11, 0, 1, 401) (hGa.2.2 _ _ rfl rfl) (fun z => h1 (by injection z with _ z; injection z with _ z; injection z with z _; exact z.symm)) rfl, fun w => ?_⟩
  by_cases hw : w < 4
  · exact key (12, w, 30, 401) (hGa.2.1 w hw _ _ rfl rfl) (fun z => by injection z with z _; exact absurd z (by decide)) rfl
  · rw [hN w (by omega)]; intro z; cases z
theorem rd_k6 {q : Nat} (hGa : GaA G) (hTG : TG G M) (hN : N12 M) (hq : (11, 0, q, 401) ∈ G) (h0 : q ≠ 0) (h1 : q ≠ 1) (hf : Fr R M M') (hk : K6 0 M M') (hb : R.testBit (cd 11 q) = false) : rl M' (11, 0, q, 401) = rl M (11, 0, q, 401) ∧ ∀ i, rd M' (11, 0, q, 401) i = rd M (11, 0, q, 401) i := by
  obtain ⟨e1, e2⟩ := rd_kp hf hTG hq hb
  refine ⟨e2, fun i => ?_⟩
  unfold rd
  rw [e1]
  exact (hk _ (N6.of hGa hTG hN hq h0 h1)).2 i
/-- after an operation of the twin that touches no world but the scratch one -/
theorem RT.tr (h : WWT G U1 A S on ws lf M) (hg : GTC G U1 BB A S T tp pl L V P M) (ho : Ow 3 (DT G 3 M) T0 h0 M M') (hf : Fr R M M') (hk2 : K2 0 M M') (hk6 : K6 0 M M') (hA : A <+: A') (hSS : S <+: S') (hm : MdT G U1 BB A' S' B' 900 T' M') (htp : tpT tp' M') (hpl : mI M' 11 0 86 = pl') (hS : okF R gtT = true := by rfl) (hW : R &&& TWF = R := by rfl) : WWT G U1 A' S' on ws lf M' ∧ GTC G U1 BB A' S' T' tp' pl' L V P M' ∧ Fr TWF M M' ∧ Ty M' := by
  have o := fun {b : Nat} (hb : b ∈ gtT) => okF_in hS hb
  have hT := ho.2.2 h.1.1
  have hu := ho.2.1
  have hGa := h.2.1.1.1
  have hTG := h.2.1.2
  obtain ⟨p1, p2, p3⟩ := hGa.p
  refine ⟨⟨⟨hT, h.1.2.u hu hf (o (by simp)) (o (by simp))⟩, ⟨h.2.1.1, hm.1.1.2.2.1⟩, ⟨h.2.2.1.1, (hf.I (f := 11) (k := 93) (o (by simp)) 0).trans h.2.2.1.2⟩, fun v hv => h.om hm.1 hu hA hSS (by omega) hv⟩, ?_, hf.sub hW, hT⟩
  have h77 := hg.h77
  obtain ⟨-, -, hTd, ⟨h5, h6⟩, ⟨h7, h8⟩, h9, h10, h11, h12, h13, h14, h15⟩ := hg
  refine ⟨⟨B', hm⟩, ⟨htp, hpl⟩, hTd.k2 h77 hf hk2 (okF_sub hS (by rfl)), ⟨h5.fr hf (okF_sub hS (by rfl)), (hf.L (f := 520) (o (by simp)) 0).trans h6⟩, ⟨?_, ?_⟩, ⟨(hf.L (f := 521) (o (by simp)) 0).trans h9.1, (hf.L (f := 120) (o (by simp)) 0).trans h9.2.1, (hf.L (f := 121) (o (by simp)) 0).trans h9.2.2⟩, (hf.L (f := 125) (o (by simp)) 0).trans h10, (hf.L (f := 126) (o (by simp)) 0).trans h11, (hf.L (f := 127) (o (by simp)) 0).trans h12, (hf.L (f := 128) (o (by simp)) 0).trans h13, (hf.L (f := 129) (o (by simp)) 0).trans h14, h15.u hu (by omega)⟩
  · obtain ⟨⟨q1, q2, q3, q4⟩, q5⟩ := h7
    obtain ⟨e1, e2⟩ := rd_k6 hGa hTG h15 p1 (by decide) (by decide) hf hk6 (o (by simp))
    exact ⟨⟨(hf.I (f := 11) (k := 95) (o (by simp)) 0).trans q1, by rw [e1]; exact q2, by rw [e1]; exact q3, fun i hi => (e2 i).trans (q4 i hi)⟩, (hf.L (f := 518) (o (by simp)) 0).trans q5⟩
  · exact ⟨by rw [(rd_kp hf hTG p2 (o (by simp))).2]; exact h8.1, by rw [(rd_kp hf hTG p3 (o (by simp))).2]; exact h8.2⟩
theorem WWT.s3 (h : WWT G U1 A S on ws lf M) (hg : GTC G U1 BB A S T tp pl L V P M) (hG : GM M) (hz : ∀ q, 3 ≤ q → mR M 702 0 q = none) : (Dok 3 (DT G 3 M) ∧ ow 3 (DT G 3 M) 11 0) ∧ St 3 (DT G 3 M) (fun q => q = 1003) (fun _ => false) M := by
  obtain ⟨⟨-, hO⟩, ⟨⟨hGa, -⟩, hTG⟩, -⟩ := h
  obtain ⟨⟨B, hm, -⟩, -⟩ := hg
  refine ⟨⟨Dok_T hGa.1, ow6⟩, StT hG hGa hTG (by omega) (fun f i q g j _ z => by cases z) (fun f q g j hf hT e => ?_)⟩
  rcases hf with z | z
  · subst z
    have hq : q = 1003 := hT
    subst hq
    rw [hz 1003 (by omega)] at e
    cases e
  · subst z
    have hq : 1000 + q = 1003 := hT
    have hq : q = 3 := by omega
    subst hq
    rw [hm.2.2.2.2.2.2] at e
    cases e
    exact ow1 rfl rfl
theorem tpT.k4 (h : tpT tp M) (hf : Fr R M M') (hk : K4 M M') (hS : okF R [cd 11 85, 5402] = true := by rfl) : tpT tp M' := ⟨(hf.I (f := 11) (k := 85) (okF_in hS (by simp)) 0).trans h.1, (hf.L (f := 402) (okF_in hS (by simp)) 1).trans h.2.1, h.2.2.1, fun k hk' => (hk 402 k rfl).trans (h.2.2.2 k hk')⟩
theorem T_feed {B0 : Nat} (hB0 : mS M ≤ B0 + 2 * rs G M) (h : WWT G U1 A S on ws lf M) (hg : GTC G U1 BB A S T tp pl L V P M) (hG : GM M) (hz : ∀ q, 3 ≤ q → mR M 702 0 q = none) (hQ : ∀ M', WWT G U1 A S on ws lf M' ∧ GTC G U1 BB A S T (sFeed tp a b c d e).2 pl L V P M' ∧ Fr TWF M M' ∧ Ty M' → mS M' ≤ B0 + 2 * rs G M' → Q (sFeed tp a b c d e).1 M') : w_Model_feed 0 a b c d e Q M := by
  obtain ⟨⟨hD, hD6⟩, hS⟩ := h.s3 hg hG hz
  obtain ⟨⟨B1, hm1⟩, ⟨htp, hpl⟩, -⟩ := id hg
  have hm := hm1.bb hB0
  refine mo_w_Model_feed hD hD6 (Q := fun r M' => Fr F_Model_feed M M' ∧ r = (sFeed tp a b c d e).1 ∧ tpT (sFeed tp a b c d e).2 M') (fun r M' ho hx => ?_) hS (mf_w_Model_feed (fun _ _ hf h => ⟨hf, h⟩) (ct_feed htp (fun M' z => ⟨rfl, z⟩)))
  obtain ⟨hf, e, z⟩ := hx
  subst e
  exact hQ M' (RT.tr h hg ho hf (K2.fr hf rfl) (K6.fr hf rfl) List.prefix_rfl List.prefix_rfl (hm.w8 (hf.sub rfl)) z ((hf.I (f := 11) (k := 86) rfl 0).trans hpl)) (hm.w8 (hf.sub rfl)).cap
theorem T_cut {B0 : Nat} (hB0 : mS M ≤ B0 + 2 * rs G M) (h : WWT G U1 A S on ws lf M) (hg : GTC G U1 BB A S T tp pl L V P M) (hG : GM M) (hz : ∀ q, 3 ≤ q → mR M 702 0 q = none) (hQ : ∀ M', WWT G U1 A S on ws lf M' ∧ GTC G U1 BB A S T (sCut tp a).2 pl L V P M' ∧ Fr TWF M M' ∧ Ty M' → mS M' ≤ B0 + 2 * rs G M' → Q (sCut tp a).1 M') : w_Model_cut 0 a Q M := by
  obtain ⟨⟨hD, hD6⟩, hS⟩ := h.s3 hg hG hz
  obtain ⟨⟨B1, hm1⟩, ⟨htp, hpl⟩, -⟩ := id hg
  have hm := hm1.bb hB0
  refine mo_w_Model_cut hD hD6 (Q := fun r M' => Fr F_Model_cut M M' ∧ r = (sCut tp a).1 ∧ tpT (sCut tp a).2 M') (fun r M' ho hx => ?_) hS (mf_w_Model_cut (fun _ _ hf h => ⟨hf, h⟩) (ct_cut htp (fun M' z => ⟨rfl, z⟩)))
  obtain ⟨hf, e, z⟩ := hx
  subst e
  exact hQ M' (RT.tr h hg ho hf (K2.fr hf rfl) (K6.fr hf rfl) List.prefix_rfl List.prefix_rfl (hm.w8 (hf.sub rfl)) z ((hf.I (f := 11) (k := 86) rfl 0).trans hpl)) (hm.w8 (hf.sub rfl)).cap
theorem T_outcome {B0 : Nat} (hB0 : mS M ≤ B0 + 2 * rs G M) (h : WWT G U1 A S on ws lf M) (hg : GTC G U1 BB A S T tp pl L V P M) (hG : GM M) (hz : ∀ q, 3 ≤ q → mR M 702 0 q = none) (hQ : ∀ A' S' M', A <+: A' → WWT G U1 A' S' on ws lf M' ∧ GTC G U1 BB A' S' T tp pl L V P M' ∧ Fr TWF M M' ∧ Ty M' → mS M' ≤ B0 + 2 * rs G M' → Q (outO T a c d) M') : w_Model_outcome 0 a c d Q X M := by
  obtain ⟨⟨hD, hD6⟩, hS⟩ := h.s3 hg hG hz
  obtain ⟨⟨B1, hm1⟩, ⟨htp, hpl⟩, -⟩ := id hg
  have hm := hm1.bb hB0
  refine mo_w_Model_outcome hD hD6 (by decide) (Q := fun r M' => Fr F_Model_outcome M M' ∧ K2 0 M M' ∧ K4 M M' ∧ K6 0 M M' ∧ r = (outO T a c d) ∧ ∃ A' S', A <+: A' ∧ S <+: S' ∧ MdT G U1 BB A' S' B0 900 T M') (X := X) (fun r M' ho hx => ?_) (fun z _ hx => hx) hS (mf_w_Model_outcome (fun _ _ hf h => ⟨hf, h⟩) (fun _ _ hx => hx) (mt_w_Model_outcome (fun _ _ h1 h => ⟨h1, h⟩) (fun _ _ hx => hx) (mq_w_Model_outcome (fun _ _ h1 h => ⟨h1, h⟩) (fun _ _ hx => hx) (m6_w_Model_outcome (fun _ _ h1 h => ⟨h1, h⟩) (fun _ _ hx => hx) (ct_woutcome hm (by decide) (by decide) (fun A' S' M' z1 z2 z3 => ⟨rfl, A', S', z1, z2, z3⟩))))))
  obtain ⟨hf, hk2, hk4, hk6, e, A', S', z1, z2, z3⟩ := hx
  subst e
  exact hQ A' S' M' z1 (RT.tr h hg ho hf hk2 hk6 z1 z2 z3 (htp.k4 hf hk4) ((hf.I (f := 11) (k := 86) rfl 0).trans hpl)) z3.cap
theorem T_meets {B0 : Nat} (hB0 : mS M ≤ B0 + 2 * rs G M) (h : WWT G U1 A S on ws lf M) (hg : GTC G U1 BB A S T tp pl L V P M) (hG : GM M) (hz : ∀ q, 3 ≤ q → mR M 702 0 q = none) (hQ : ∀ A' S' M', A <+: A' → WWT G U1 A' S' on ws lf M' ∧ GTC G U1 BB A' S' T tp pl L V P M' ∧ Fr TWF M M' ∧ Ty M' → mS M' ≤ B0 + 2 * rs G M' → Q (metO T a) M') : w_Model_meets 0 a Q X M := by
  obtain ⟨⟨hD, hD6⟩, hS⟩ := h.s3 hg hG hz
  obtain ⟨⟨B1, hm1⟩, ⟨htp, hpl⟩, -⟩ := id hg
  have hm := hm1.bb hB0
  refine mo_w_Model_meets hD hD6 (by decide) (Q := fun r M' => Fr F_Model_meets M M' ∧ K2 0 M M' ∧ K4 M M' ∧ K6 0 M M' ∧ r = (metO T a) ∧ ∃ A' S', A <+: A' ∧ S <+: S' ∧ MdT G U1 BB A' S' B0 900 T M') (X := X) (fun r M' ho hx => ?_) (fun z _ hx => hx) hS (mf_w_Model_meets (fun _ _ hf h => ⟨hf, h⟩) (fun _ _ hx => hx) (mt_w_Model_meets (fun _ _ h1 h => ⟨h1, h⟩) (fun _ _ hx => hx) (mq_w_Model_meets (fun _ _ h1 h => ⟨h1, h⟩) (fun _ _ hx => hx) (m6_w_Model_meets (fun _ _ h1 h => ⟨h1, h⟩) (fun _ _ hx => hx) (ct_wmeets hm (by decide) (by decide) (fun A' S' M' z1 z2 z3 => ⟨rfl, A', S', z1, z2, z3⟩))))))
  obtain ⟨hf, hk2, hk4, hk6, e, A', S', z1, z2, z3⟩ := hx
  subst e
  exact hQ A' S' M' z1 (RT.tr h hg ho hf hk2 hk6 z1 z2 z3 (htp.k4 hf hk4) ((hf.I (f := 11) (k := 86) rfl 0).trans hpl)) z3.cap
theorem T_finds {B0 : Nat} (hB0 : mS M ≤ B0 + 2 * rs G M) (h : WWT G U1 A S on ws lf M) (hg : GTC G U1 BB A S T tp pl L V P M) (hG : GM M) (hz : ∀ q, 3 ≤ q → mR M 702 0 q = none) (hQ : ∀ A' S' M', A <+: A' → WWT G U1 A' S' on ws lf M' ∧ GTC G U1 BB A' S' T tp pl L V P M' ∧ Fr TWF M M' ∧ Ty M' → mS M' ≤ B0 + 2 * rs G M' → Q (finO T a c) M') : w_Model_finds 0 a c Q X M := by
  obtain ⟨⟨hD, hD6⟩, hS⟩ := h.s3 hg hG hz
  obtain ⟨⟨B1, hm1⟩, ⟨htp, hpl⟩, -⟩ := id hg
  have hm := hm1.bb hB0
  refine mo_w_Model_finds hD hD6 (by decide) (Q := fun r M' => Fr F_Model_finds M M' ∧ K2 0 M M' ∧ K4 M M' ∧ K6 0 M M' ∧ r = (finO T a c) ∧ ∃ A' S', A <+: A' ∧ S <+: S' ∧ MdT G U1 BB A' S' B0 900 T M') (X := X) (fun r M' ho hx => ?_) (fun z _ hx => hx) hS (mf_w_Model_finds (fun _ _ hf h => ⟨hf, h⟩) (fun _ _ hx => hx) (mt_w_Model_finds (fun _ _ h1 h => ⟨h1, h⟩) (fun _ _ hx => hx) (mq_w_Model_finds (fun _ _ h1 h => ⟨h1, h⟩) (fun _ _ hx => hx) (m6_w_Model_finds (fun _ _ h1 h => ⟨h1, h⟩) (fun _ _ hx => hx) (ct_wfinds hm (by decide) (by decide) (fun A' S' M' z1 z2 z3 => ⟨rfl, A', S', z1, z2, z3⟩))))))
  obtain ⟨hf, hk2, hk4, hk6, e, A', S', z1, z2, z3⟩ := hx
  subst e
  exact hQ A' S' M' z1 (RT.tr h hg ho hf hk2 hk6 z1 z2 z3 (htp.k4 hf hk4) ((hf.I (f := 11) (k := 86) rfl 0).trans hpl)) z3.cap
theorem T_hole {B0 : Nat} (hB0 : mS M ≤ B0 + 2 * rs G M) (h : WWT G U1 A S on ws lf M) (hg : GTC G U1 BB A S T tp pl L V P M) (hG : GM M) (hz : ∀ q, 3 ≤ q → mR M 702 0 q = none) (hQ : ∀ A' S' M', A <+: A' → WWT G U1 A' S' on ws lf M' ∧ GTC G U1 BB A' S' T tp pl L V P M' ∧ Fr TWF M M' ∧ Ty M' → mS M' ≤ B0 + 2 * rs G M' → Q (holO T a) M') : w_Model_hole 0 a Q X M := by
  obtain ⟨⟨hD, hD6⟩, hS⟩ := h.s3 hg hG hz
  obtain ⟨⟨B1, hm1⟩, ⟨htp, hpl⟩, -⟩ := id hg
  have hm := hm1.bb hB0
  refine mo_w_Model_hole hD hD6 (by decide) (Q := fun r M' => Fr F_Model_hole M M' ∧ K2 0 M M' ∧ K4 M M' ∧ K6 0 M M' ∧ r = (holO T a) ∧ ∃ A' S', A <+: A' ∧ S <+: S' ∧ MdT G U1 BB A' S' B0 900 T M') (X := X) (fun r M' ho hx => ?_) (fun z _ hx => hx) hS (mf_w_Model_hole (fun _ _ hf h => ⟨hf, h⟩) (fun _ _ hx => hx) (mt_w_Model_hole (fun _ _ h1 h => ⟨h1, h⟩) (fun _ _ hx => hx) (mq_w_Model_hole (fun _ _ h1 h => ⟨h1, h⟩) (fun _ _ hx => hx) (m6_w_Model_hole (fun _ _ h1 h => ⟨h1, h⟩) (fun _ _ hx => hx) (ct_whole hm (by decide) (by decide) (fun A' S' M' z1 z2 z3 => ⟨rfl, A', S', z1, z2, z3⟩))))))
  obtain ⟨hf, hk2, hk4, hk6, e, A', S', z1, z2, z3⟩ := hx
  subst e
  exact hQ A' S' M' z1 (RT.tr h hg ho hf hk2 hk6 z1 z2 z3 (htp.k4 hf hk4) ((hf.I (f := 11) (k := 86) rfl 0).trans hpl)) z3.cap
theorem T_least {B0 : Nat} (hB0 : mS M ≤ B0 + 2 * rs G M) (h : WWT G U1 A S on ws lf M) (hg : GTC G U1 BB A S T tp pl L V P M) (hG : GM M) (hz : ∀ q, 3 ≤ q → mR M 702 0 q = none) (hQ : ∀ A' S' M', A <+: A' → WWT G U1 A' S' on ws lf M' ∧ GTC G U1 BB A' S' (leaF T.length T) tp pl L V P M' ∧ Fr TWF M M' ∧ Ty M' → mS M' ≤ B0 + 2 * rs G M' → Q (Int32.ofNat (leaF T.length T).length) M') : w_Model_least 0  Q X M := by
  obtain ⟨⟨hD, hD6⟩, hS⟩ := h.s3 hg hG hz
  obtain ⟨⟨B1, hm1⟩, ⟨htp, hpl⟩, -⟩ := id hg
  have hm := hm1.bb hB0
  refine mo_w_Model_least hD hD6 (by decide) (Q := fun r M' => Fr F_Model_least M M' ∧ K2 0 M M' ∧ K4 M M' ∧ K6 0 M M' ∧ r = (Int32.ofNat (leaF T.length T).length) ∧ ∃ A' S', A <+: A' ∧ S <+: S' ∧ MdT G U1 BB A' S' B0 900 (leaF T.length T) M') (X := X) (fun r M' ho hx => ?_) (fun z _ hx => hx) hS (mf_w_Model_least (fun _ _ hf h => ⟨hf, h⟩) (fun _ _ hx => hx) (mt_w_Model_least (fun _ _ h1 h => ⟨h1, h⟩) (fun _ _ hx => hx) (mq_w_Model_least (fun _ _ h1 h => ⟨h1, h⟩) (fun _ _ hx => hx) (m6_w_Model_least (fun _ _ h1 h => ⟨h1, h⟩) (fun _ _ hx => hx) (ct_wleast hm (by decide) (by decide) (fun A' S' M' z1 z2 z3 => ⟨rfl, A', S', z1, z2, z3⟩))))))
  obtain ⟨hf, hk2, hk4, hk6, e, A', S', z1, z2, z3⟩ := hx
  subst e
  exact hQ A' S' M' z1 (RT.tr h hg ho hf hk2 hk6 z1 z2 z3 (htp.k4 hf hk4) ((hf.I (f := 11) (k := 86) rfl 0).trans hpl)) z3.cap
theorem T_shrink {B0 : Nat} (hB0 : mS M ≤ B0 + 2 * rs G M) (h : WWT G U1 A S on ws lf M) (hg : GTC G U1 BB A S T tp pl L V P M) (hG : GM M) (hz : ∀ q, 3 ≤ q → mR M 702 0 q = none) (hQ : ∀ A' S' M', A <+: A' → WWT G U1 A' S' on ws lf M' ∧ GTC G U1 BB A' S' (shkO T a b).2 tp pl L V P M' ∧ Fr TWF M M' ∧ Ty M' → mS M' ≤ B0 + 2 * rs G M' → Q (shkO T a b).1 M') : w_Model_shrink 0 a b Q X M := by
  obtain ⟨⟨hD, hD6⟩, hS⟩ := h.s3 hg hG hz
  obtain ⟨⟨B1, hm1⟩, ⟨htp, hpl⟩, -⟩ := id hg
  have hm := hm1.bb hB0
  refine mo_w_Model_shrink hD hD6 (by decide) (Q := fun r M' => Fr F_Model_shrink M M' ∧ K2 0 M M' ∧ K4 M M' ∧ K6 0 M M' ∧ r = (shkO T a b).1 ∧ ∃ A' S', A <+: A' ∧ S <+: S' ∧ MdT G U1 BB A' S' B0 900 (shkO T a b).2 M') (X := X) (fun r M' ho hx => ?_) (fun z _ hx => hx) hS (mf_w_Model_shrink (fun _ _ hf h => ⟨hf, h⟩) (fun _ _ hx => hx) (mt_w_Model_shrink (fun _ _ h1 h => ⟨h1, h⟩) (fun _ _ hx => hx) (mq_w_Model_shrink (fun _ _ h1 h => ⟨h1, h⟩) (fun _ _ hx => hx) (m6_w_Model_shrink (fun _ _ h1 h => ⟨h1, h⟩) (fun _ _ hx => hx) (ct_wshrink hm hg.2.2.2.2.2.2.2.2.2.2.1 (by decide) (by decide) (fun A' S' M' z1 z2 z3 _ => ⟨rfl, A', S', z1, z2, z3⟩))))))
  obtain ⟨hf, hk2, hk4, hk6, e, A', S', z1, z2, z3⟩ := hx
  subst e
  exact hQ A' S' M' z1 (RT.tr h hg ho hf hk2 hk6 z1 z2 z3 (htp.k4 hf hk4) ((hf.I (f := 11) (k := 86) rfl 0).trans hpl)) z3.cap
theorem T_fewest {B0 : Nat} (hB0 : mS M ≤ B0 + 2 * rs G M) (h : WWT G U1 A S on ws lf M) (hg : GTC G U1 BB A S T tp pl L V P M) (hG : GM M) (hz : ∀ q, 3 ≤ q → mR M 702 0 q = none) (hQ : ∀ v A' S' M', IsF (mNt T) (fNt T) T.length v → A <+: A' → WWT G U1 A' S' on ws lf M' ∧ GTC G U1 BB A' S' T tp pl L V P M' ∧ Fr TWF M M' ∧ Ty M' → mS M' ≤ B0 + 2 * rs G M' → Q (Int32.ofNat v) M') : w_Model_fewest 0 Q X M := by
  obtain ⟨⟨hD, hD6⟩, hS⟩ := h.s3 hg hG hz
  obtain ⟨⟨B1, hm1⟩, ⟨htp, hpl⟩, -, -, -, -, l5, l6, l7, l8, -⟩ := id hg
  have hm := hm1.bb hB0
  refine mo_w_Model_fewest hD hD6 (by decide) (Q := fun r M' => Fr F_Model_fewest M M' ∧ K2 0 M M' ∧ K4 M M' ∧ K6 0 M M' ∧ ∃ v A' S', r = Int32.ofNat v ∧ IsF (mNt T) (fNt T) T.length v ∧ A <+: A' ∧ S <+: S' ∧ MdT G U1 BB A' S' B0 900 T M') (X := X) (fun r M' ho hx => ?_) (fun z _ hx => hx) hS (mf_w_Model_fewest (fun _ _ hf h => ⟨hf, h⟩) (fun _ _ hx => hx) (mt_w_Model_fewest (fun _ _ h1 h => ⟨h1, h⟩) (fun _ _ hx => hx) (mq_w_Model_fewest (fun _ _ h1 h => ⟨h1, h⟩) (fun _ _ hx => hx) (m6_w_Model_fewest (fun _ _ h1 h => ⟨h1, h⟩) (fun _ _ hx => hx) (ct_wfewest hm l5 l6 l7 l8 (by decide) (by decide) (fun v A' S' M' z0 z1 z2 z3 _ => ⟨v, A', S', rfl, z0, z1, z2, z3⟩))))))
  obtain ⟨hf, hk2, hk4, hk6, v, A', S', e, z0, z1, z2, z3⟩ := hx
  subst e
  exact hQ v A' S' M' z0 z1 (RT.tr h hg ho hf hk2 hk6 z1 z2 z3 (htp.k4 hf hk4) ((hf.I (f := 11) (k := 86) rfl 0).trans hpl)) z3.cap
theorem T_change {B0 : Nat} (hB0 : mS M ≤ B0 + 2 * rs G M) (h : WWT G U1 A S on ws lf M) (hg : GTC G U1 BB A S T tp pl L V P M) (hG : GM M) (hz : ∀ q, 3 ≤ q → mR M 702 0 q = none) (hQ : ∀ M', WWT G U1 A S on ws lf M' ∧ GTC G U1 BB A S (chgO T a b c d).2 tp pl L V P M' ∧ Fr TWF M M' ∧ Ty M' → mS M' ≤ B0 + 2 * rs G M' → Q (chgO T a b c d).1 M') : w_Model_change 0 a b c d Q M := by
  obtain ⟨⟨hD, hD6⟩, hS⟩ := h.s3 hg hG hz
  obtain ⟨⟨B1, hm1⟩, ⟨htp, hpl⟩, -⟩ := id hg
  have hm := hm1.bb hB0
  refine mo_w_Model_change hD hD6 (Q := fun r M' => Fr F_Model_change M M' ∧ K4 M M' ∧ r = (chgO T a b c d).1 ∧ MdT G U1 BB A S B0 900 (chgO T a b c d).2 M') (fun r M' ho hx => ?_) hS (mf_w_Model_change (fun _ _ hf h => ⟨hf, h⟩) (mq_w_Model_change (fun _ _ h1 h => ⟨h1, h⟩) (ct_wchange hm hg.2.2.2.2.2.2.2.2.2.2.1 (fun M' z _ => ⟨rfl, z⟩))))
  obtain ⟨hf, hk4, e, z⟩ := hx
  subst e
  exact hQ M' (RT.tr h hg ho hf (K2.fr hf rfl) (K6.fr hf rfl) List.prefix_rfl List.prefix_rfl z (htp.k4 hf hk4) ((hf.I (f := 11) (k := 86) rfl 0).trans hpl)) z.cap
theorem T_trial {B0 : Nat} (hB0 : mS M ≤ B0 + 2 * rs G M) (h : WWT G U1 A S on ws lf M) (hg : GTC G U1 BB A S T tp pl L V P M) (hG : GM M) (hz : ∀ q, 3 ≤ q → mR M 702 0 q = none) (hB : ∀ l ∈ lns (pT tp) tp.length 0, NB BB l ∧ UL (U1, []) l) (hQ : ∀ A' S' M', A <+: A' → WWT G U1 A' S' on ws lf M' ∧ GTC G U1 BB A' S' (triO T tp).2.2.2 (triO T tp).2.2.1 (((triO T tp).2.1).getD pl) L V P M' ∧ Fr TWF M M' ∧ Ty M' → mS M' ≤ B0 + 2 * rs G M' → Q (triO T tp).1 M') : w_Model_trial 0 Q M := by
  obtain ⟨⟨hD, hD6⟩, hS⟩ := h.s3 hg hG hz
  obtain ⟨⟨B1, hm1⟩, ⟨htp, hpl⟩, -⟩ := id hg
  have hm := hm1.bb hB0
  refine mo_w_Model_trial hD hD6 (Q := fun r M' => Fr F_Model_trial M M' ∧ K6 0 M M' ∧ r = (triO T tp).1 ∧ ∃ A' S', A <+: A' ∧ S <+: S' ∧ MdT G U1 BB A' S' B0 900 (triO T tp).2.2.2 M' ∧ tpT (triO T tp).2.2.1 M' ∧ mI M' 11 0 86 = ((triO T tp).2.1).getD (mI M 11 0 86)) (fun r M' ho hx => ?_) hS (mf_w_Model_trial (fun _ _ hf h => ⟨hf, h⟩) (m6_w_Model_trial (fun _ _ h1 h => ⟨h1, h⟩) (ct_wtrial hm htp hB (fun A' S' M' z1 z2 z3 z4 z5 => ⟨rfl, A', S', z1, z2, z3, z4, z5⟩))))
  obtain ⟨hf, hk6, e, A', S', z1, z2, z3, z4, z5⟩ := hx
  subst e
  rw [hpl] at z5
  exact hQ A' S' M' z1 (RT.tr h hg ho hf (K2.fr hf rfl) hk6 z1 z2 z3 z4 z5) z3.cap
end
