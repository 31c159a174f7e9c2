/-! THE WHOLE: what holds of works and twin between operations; each leaves the other alone -/
/-- the works beside their worlds: names, trials, tape, place, kinds told, methods reached, page -/
def GWC (BB A : List Nm) (T : List Trl) (tp : List Int32) (pl : Int32) (L : Tl) (V : RV) (P : List Int32) (M : Mem) : Prop := (∃ B, WkT BB A B 900 T M) ∧ (tpC tp M ∧ mI M 10 0 21 = pl) ∧ cTd L 1 M ∧ (rcB V M ∧ mL M 517 0 = 381) ∧ cPo P M ∧ (∀ k, k < 3 → clC k M) ∧ (mL M 103 0 = 256 ∧ mL M 104 0 = 256 ∧ mL M 400 41 = 1260) ∧ (mL M 702 1 = 3 ∧ ∀ k, k < 3 → mR M 702 1 k = some (5, k + 1)) ∧ ∀ q, 3 ≤ q → mR M 702 0 q = none
/-- worlds of the twin that are not there lead to no row -/
def N12 (M : Mem) : Prop := ∀ w, 4 ≤ w → mR M 12 w 30 = none
/-- the twin beside its worlds -/
def GTC (G : List Sl) (U1 : List (List Kd × Kd)) (BB A : List Nm) (S : List Sg) (T : List Trl) (tp : List Int32) (pl : Int32) (L : Tl) (V : RV) (P : List Int32) (M : Mem) : Prop := (∃ B, MdT G U1 BB A S B 900 T M) ∧ (tpT tp M ∧ mI M 11 0 86 = pl) ∧ tKd L M ∧ (tcB V M ∧ mL M 520 0 = 612) ∧ (tPo P M ∧ dPo M) ∧ clT M ∧ mL M 125 0 = 256 ∧ mL M 126 0 = 256 ∧ mL M 127 0 = 256 ∧ mL M 128 0 = 256 ∧ mL M 129 0 = 62 ∧ N12 M
/-- a world that is on, in the twin -/
def WdT (G : List Sl) (U1 : List (List Kd × Kd)) (A : List Nm) (S : List Sg) (k : Nat) (d : Wld) (M : Mem) : Prop := ∃ nq nl nf nk B x, (TAx G (U1, S) A S (dW d) k (dB d) nq nl nf nk B (dF d) x (dS d) M ∧ TI2 x (dS d)) ∧ nq ≤ dD d ∧ nl ≤ dD d ∧ nf ≤ dD d ∧ nk ≤ dD d
/-- worlds of the twin -/
def WWT (G : List Sl) (U1 : List (List Kd × Kd)) (A : List Nm) (S : List Sg) (on : Nat → Bool) (ws : Nat → Wld) (lf : Nat) (M : Mem) : Prop := (Ty M ∧ tOn on M) ∧ ((GaA G ∧ ∀ k, k < 4 → Gx G k) ∧ TG G M) ∧ (lf ≤ 60000 ∧ mI M 11 0 93 = Int32.ofNat (60000 - lf)) ∧ ∀ k, k < 3 → (on k = true → WdT G U1 A S k (ws k) M) ∧ (on k = false → rmT G k (dF (ws k)) M)
theorem GaA.p {G : List Sl} (h : GaA G) : sPg ∈ G ∧ sP1 ∈ G ∧ sP2 ∈ G := ⟨h.2.2 _ _ rfl rfl, h.2.2 _ _ rfl rfl, h.2.2 _ _ rfl rfl⟩
section
variable {G : List Sl} {U1 : List (List Kd × Kd)} {BB A A' : List Nm} {S S' : List Sg} {on : Nat → Bool} {ws : Nat → Wld} {lf lf' k v B F : Nat} {M M' : Mem} {d : Wld} {T : List Trl} {tp P : List Int32} {pl : Int32} {L : Tl} {V : RV}
/-! the twin works -/
theorem GM.tw (hG : GM M) (hf : Fr TWF M M') (hT : Ty M') : GM M' := by
  have r6 : ∀ v k, k < 200 → mR M' 6 v k = mR M 6 v k := fun v k hk => (hf.1 6 k (tw_ob (by omega) (kk_lt hk)) v).2.2
  refine ⟨hT, ⟨fun j hj => (hf.2.2.2 _ (hG.2.1.1 j hj)).1, fun j hj => (hf.2.2.2 _ (hG.2.1.2 j hj)).1⟩, ⟨fun v k g j e => hG.2.2.1.1 v k g j (by rw [← hf.Ra (f := 700) rfl rfl]; exact e), fun v k g j e => hG.2.2.1.2.1 v k g j (by rw [← hf.Ra (f := 704) rfl rfl]; exact e), fun v g j hv e => hG.2.2.1.2.2 v g j hv (by rw [← r6 v 2 (by omega)]; exact e)⟩, fun v k g j hv hk e => ?_, fun v v' k k' g g' j hv hv' hk hk' e e' => hG.2.2.2.2 v v' k k' g g' j hv hv' hk hk' (by rw [← r6 v _ (by omega)]; exact e) (by rw [← r6 v' _ (by omega)]; exact e')⟩
  have := hG.2.2.2.1 v k g j hv hk (by rw [← r6 v _ (by omega)]; exact e)
  exact ⟨this.1, (hf.2.2.2 _ this.2).1⟩
theorem WdC.tw (h : WdC A lf v d M) (hl : A.length ≤ 200000) (hf : Fr TWF M M') (h35 : mI M 6 (v + 1) 35 = 0) (h8 : mI M 10 0 8 = Int32.ofNat lf) : WdC A lf v d M' := by
  have hL := h.lk
  obtain ⟨nq, nk, np, nh, nr, B, h, hb⟩ := h
  refine ⟨nq, nk, np, nh, nr, B + (mS M' - mS M), h.eqd (SmD.tw hf) List.prefix_rfl hl (hL.fr hf) (Or.inr ⟨(hf.I (f := 6) (k := 35) rfl _).trans h35, Nat.le_add_right _ _, by rw [Nat.add_sub_cancel_left]; exact (hf.I (f := 10) (k := 8) rfl 0).trans h8⟩) (fun n z => by omega), hb⟩
theorem WWC.tw (h : WWC A on ws lf M) (hl : A.length ≤ 200000) (hf : Fr TWF M M') (hT : Ty M') : WWC A on ws lf M' := by
  obtain ⟨⟨hG, hO⟩, ⟨h8, h35⟩, hw⟩ := h
  refine ⟨⟨hG.tw hf hT, hO.fr hf⟩, ⟨(hf.I (f := 10) (k := 8) rfl 0).trans h8, fun k hk => (hf.I (f := 6) (k := 35) rfl _).trans (h35 k hk)⟩, fun k hk => ⟨fun z => ((hw k hk).1 z).tw hl hf (h35 k hk) h8, fun z => ?_⟩⟩
  obtain ⟨B, hr⟩ := (hw k hk).2 z
  exact ⟨B + (mS M' - mS M), hr.smd (SmD.tw hf) (fun n z => by omega)⟩
theorem WkT.tw (h : WkT BB A B F T M) (hf : Fr TWF M M') : WkT BB A (B + (mS M' - mS M)) F T M' := by
  obtain ⟨⟨⟨hN, hR⟩, ⟨hRd, hLk, h30⟩, h35⟩, ⟨hx, hk⟩, hT⟩ := h
  refine ⟨⟨⟨hN.fr hf, hR.smd (SmD.tw hf) (fun n z => by omega)⟩, ⟨hRd.fr hf, hLk.fr hf, (hf.L (f := 30) rfl 0).trans h30⟩, ?_⟩, ⟨hx.fr hf, hk.fr hf⟩, hT⟩
  rw [hf.I (f := 6) (k := 35) rfl, hf.I (f := 10) (k := 8) rfl]; exact h35
theorem cTd.tw {this : Nat} (h : cTd L this M) (hf : Fr TWF M M') : cTd L this M' := by
  obtain ⟨⟨p1, p2⟩, ⟨a1, a2, a3, a4⟩, ⟨q1, q2⟩, ⟨b1, b2⟩, rm, c1, c2, c3⟩ := h
  refine ⟨⟨(hf.L (f := 31) rfl this).trans p1, (hf.L (f := 32) rfl this).trans p2⟩, ⟨(hf.L (f := 510) rfl this).trans a1, (hf.L (f := 33) rfl this).trans a2, (hf.L (f := 34) rfl this).trans a3, (hf.L (f := 35) rfl this).trans a4⟩, ⟨(hf.I (f := 4) (k := 9) rfl this).trans q1, (hf.I (f := 4) (k := 10) rfl this).trans q2⟩, ⟨b1, (hf.I (f := 4) (k := 15) rfl this).trans b2⟩, rm, c1, (hf.I (f := 4) (k := 16) rfl this).trans c2, fun i hi => ?_⟩
  obtain ⟨d1, d2⟩ := c3 i hi
  refine ⟨(hf.Ia (f := 510) rfl rfl this i).trans d1, fun l t e => ?_⟩
  obtain ⟨⟨y1, y2, y3⟩, y4, y5⟩ := d2 l t e
  exact ⟨⟨(hf.Ia (f := 33) rfl rfl this i).trans y1, y2, y3⟩, fun k hk => (hf.Ia (f := 35) rfl rfl this _).trans (y4 k hk), fun k hk => (hf.Ia (f := 35) rfl rfl this _).trans (y5 k hk)⟩
theorem rcB.fr {R : Nat} (h : rcB V M) (hf : Fr R M M') (hS : okF R [cd 10 27, 101, 102, 5101, 5102] = true := by rfl) : rcB V M' := by
  have o := fun {b : Nat} (hb : b ∈ [cd 10 27, 101, 102, 5101, 5102]) => okF_in hS hb
  exact ⟨(hf.I (f := 10) (k := 27) (o (by simp)) 0).trans h.1, ⟨(hf.L (f := 101) (o (by simp)) 0).trans h.2.1.1, (hf.L (f := 102) (o (by simp)) 0).trans h.2.1.2⟩, fun i hi => ⟨(hf.Ia (f := 102) rfl (o (by simp)) 0 i).trans (h.2.2 i hi).1, (hf.Ia (f := 101) rfl (o (by simp)) 0 i).trans (h.2.2 i hi).2⟩⟩
theorem cPo.fr {R : Nat} (h : cPo P M) (hf : Fr R M M') (hS : okF R [5096, 5410, cd 8 1, 410, cd 8 2, cd 8 3] = true := by rfl) : cPo P M' := by
  have o := fun {b : Nat} (hb : b ∈ [5096, 5410, cd 8 1, 410, cd 8 2, cd 8 3]) => okF_in hS hb
  obtain ⟨⟨h1, ⟨h2, h3, h4⟩, f, t, h5, h6⟩, h7⟩ := h
  exact ⟨⟨(hf.L (f := 96) (o (by simp)) 0).trans h1, ⟨(hf.L (f := 410) (o (by simp)) 0).trans h2, (hf.I (f := 8) (k := 1) (o (by simp)) 0).trans h3, fun i hi => (hf.Ia (f := 410) rfl (o (by simp)) 0 i).trans (h4 i hi)⟩, f, t, (hf.I (f := 8) (k := 2) (o (by simp)) 0).trans h5, (hf.I (f := 8) (k := 3) (o (by simp)) 0).trans h6⟩, h7⟩
theorem GWC.tw (h : GWC BB A T tp pl L V P M) (hf : Fr TWF M M') : GWC BB A T tp pl L V P M' := by
  obtain ⟨⟨B, h1⟩, ⟨h2, h3⟩, h4, ⟨h5, h6⟩, h7, h8, ⟨h9, h10, h11⟩, ⟨h12, h13⟩, h14⟩ := h
  exact ⟨⟨_, h1.tw hf⟩, ⟨h2.fr hf, (hf.I (f := 10) (k := 21) rfl 0).trans h3⟩, h4.tw hf, ⟨h5.fr hf, (hf.L (f := 517) rfl 0).trans h6⟩, h7.fr hf, fun k hk => ⟨(hf.L (f := 513) rfl _).trans (h8 k hk).1, (hf.L (f := 82) rfl _).trans (h8 k hk).2.1, (hf.L (f := 83) rfl _).trans (h8 k hk).2.2⟩, ⟨(hf.L (f := 103) rfl 0).trans h9, (hf.L (f := 104) rfl 0).trans h10, (hf.L (f := 400) rfl 41).trans h11⟩, ⟨(hf.L (f := 702) rfl 1).trans h12, fun k hk => (hf.Ra (f := 702) rfl rfl 1 k).trans (h13 k hk)⟩, fun q hq => (hf.Ra (f := 702) rfl rfl 0 q).trans (h14 q hq)⟩
/-! the works work -/
theorem WdT.wk (h : WdT G U1 A S k d M) (hf : Fr WKF M M') : WdT G U1 A S k d M' := by
  obtain ⟨nq, nl, nf, nk, B, x, ⟨h, hx⟩, hb⟩ := h
  exact ⟨nq, nl, nf, nk, mS M', x, ⟨h.wk hf (Nat.le_add_right _ _), hx⟩, hb⟩
theorem WWT.wk (h : WWT G U1 A S on ws lf M) (hf : Fr WKF M M') (hT : Ty M') : WWT G U1 A S on ws lf M' := by
  obtain ⟨⟨-, hO⟩, ⟨⟨hGa, hx⟩, hTG⟩, ⟨hl, h93⟩, hw⟩ := h
  exact ⟨⟨hT, hO.fr hf⟩, ⟨⟨hGa, hx⟩, (hTG.wk hGa.1 hf).1.1⟩, ⟨hl, (hf.I (f := 11) (k := 93) rfl 0).trans h93⟩, fun k hk => ⟨fun z => ((hw k hk).1 z).wk hf, fun z => ((hw k hk).2 z).wk (hx k (by omega)) hTG hf⟩⟩
theorem GTC.wk (h : GTC G U1 BB A S T tp pl L V P M) (hG : GaA G) (hTG : TG G M) (hf : Fr WKF M M') : GTC G U1 BB A S T tp pl L V P M' := by
  obtain ⟨⟨B, h1⟩, ⟨h2, h3⟩, h4, ⟨h5, h6⟩, ⟨h7, h8⟩, h9, h10, h11, h12, h13, h14, h15⟩ := h
  obtain ⟨p1, p2, p3⟩ := hG.p
  exact ⟨⟨mS M', h1.wk hf (Nat.le_add_right _ _)⟩, ⟨h2.wk hf, (hf.I (f := 11) (k := 86) rfl 0).trans h3⟩, h4.wk hf, ⟨h5.wk hf, (hf.L (f := 520) rfl 0).trans h6⟩, ⟨h7.wk p1 hG.1 hTG hf, h8.wk p2 p3 hG.1 hTG hf⟩, h9.wk hf, (hf.L (f := 125) rfl 0).trans h10, (hf.L (f := 126) rfl 0).trans h11, (hf.L (f := 127) rfl 0).trans h12, (hf.L (f := 128) rfl 0).trans h13, (hf.L (f := 129) rfl 0).trans h14, fun w hw => ((hf.1 12 30 rfl w).2.2).trans (h15 w hw)⟩
end
