/-! OPERATIONS OF THE WORKS: kinds, in the whole; other worlds of the twin -/
abbrev gwK : List Nat := [cd 10 10, 98, 400, 701, 5701, 5098, 5400, 516, 99, 100, 5516, 5099, 5100, 5030, 5513, 5082, 5083, 5103, 5104, 702, 5702, cd 1 4, 20, 21, 22, 600, 5020, 5021, 5022, 5600, cd 3 17, 5023, 5024, 5025, 5026, 5027, 5028, 5029, 5211, cd 10 1, cd 10 21, cd 10 27, 101, 102, 5101, 5102, 5517, 5096, 5410, cd 8 1, 410, cd 8 2, cd 8 3, cd 6 35]
section
variable {BB A : List Nm} {on : Nat → Bool} {ws : Nat → Wld} {lf lf' k B F R : Nat} {M M' : Mem} {d : Wld} {T : List Trl} {tp P : List Int32} {pl c m : Int32} {L L' : Tl} {V : RV} {T0 : Nat → Prop} {h0 : Hot} {Q : Int32 → Mem → Prop}
theorem RW.nk (h : WWC A on ws lf M) (hg : GWC BB A T tp pl L V P M) (hk : k < 3) (hon : on k = true) (ho : Ow (k + 1) (DC (k + 1) M) T0 h0 M M') (hf : Fr R M M') (hTd : cTd L' 1 M') (hd : WdC A lf' k d M') (h8 : mI M' 10 0 8 = Int32.ofNat lf') (hS1 : gmOk R = true := by rfl) (hS : okF R gwK = true := by rfl) (hW : R &&& WKF = R := by rfl) : WWC A on (up1 ws k d) lf' M' ∧ GWC BB A T tp pl L' V P M' ∧ Fr WKF M M' ∧ Ty M' ∧ CpE (k + 1) M M' := by
  have o := fun {b : Nat} (hb : b ∈ gwK) => okF_in hS hb
  obtain ⟨w1, w2, w3, w4⟩ := h.next hk ho hf List.prefix_rfl hg.na.2 hd hon (h.1.2.fr hf (o (by simp)) (o (by simp))) h8 ((hf.I (f := 6) (k := 35) (o (by simp)) _).trans (h.2.1.2 k hk)) hS1
  refine ⟨w1, ?_, hf.sub hW, ho.2.2 h.1.1.1, CpE.of h hg w4⟩
  obtain ⟨⟨B, ⟨⟨hN, hR⟩, ⟨hRd, hLk, h30⟩, h35⟩, ⟨hx, hkn⟩, hT⟩, ⟨h2, h3⟩, -, ⟨h5, h6⟩, h7, hcl, ⟨h9, h10, h11⟩, ⟨h12, h13⟩, h14⟩ := hg
  obtain ⟨B', hR'⟩ := w2 B 900 hR
  refine ⟨⟨B', ⟨⟨hN.fr hf (okF_sub hS (by rfl)), hR'⟩, ⟨hRd.fr hf (okF_sub hS (by rfl)), hd.lk, (hf.L (f := 30) (o (by simp)) 0).trans h30⟩, ?_⟩, ⟨hx.fr hf (okF_sub hS (by rfl)), hkn.fr hf (okF_sub hS (by rfl))⟩, hT⟩, ⟨h2.fr hf (okF_sub hS (by rfl)), (hf.I (f := 10) (k := 21) (o (by simp)) 0).trans h3⟩, hTd, ⟨h5.fr hf (okF_sub hS (by rfl)), (hf.L (f := 517) (o (by simp)) 0).trans h6⟩, h7.fr hf (okF_sub hS (by rfl)), fun k hk => ⟨(hf.L (f := 513) (o (by simp)) _).trans (hcl k hk).1, (hf.L (f := 82) (o (by simp)) _).trans (hcl k hk).2.1, (hf.L (f := 83) (o (by simp)) _).trans (hcl k hk).2.2⟩, ⟨(hf.L (f := 103) (o (by simp)) 0).trans h9, (hf.L (f := 104) (o (by simp)) 0).trans h10, (hf.L (f := 400) (o (by simp)) 41).trans h11⟩, ⟨(hf.L (f := 702) (o (by simp)) 1).trans h12, fun k hk => (hf.Ra (f := 702) rfl (o (by simp)) 1 k).trans (h13 k hk)⟩, fun q hq => (hf.Ra (f := 702) rfl (o (by simp)) 0 q).trans (h14 q hq)⟩
  rw [w3]
  rcases h35 with z | ⟨z, -⟩
  · exact Or.inl z
  · exact Or.inr ⟨z, lf', h8⟩
theorem W_kinds {inf : Bool} {B0 : Nat} (hB0 : mS M ≤ B0 + 8 * capC (k + 1) M) (h : WWC A on ws lf M) (hg : GWC BB A T tp pl L V P M) (hk : k < 3) (hon : on k = true) (hp : SpD (ws k))
    (hQ : ∀ M', WWC A on (up1 ws k (ws k)) lf M' ∧ GWC BB A T tp pl (kinO (dW (ws k)) c m inf L).2 V P M' ∧ Fr WKF M M' ∧ Ty M' ∧ CpE (k + 1) M M' → mS M' ≤ B0 + 8 * capC (k + 1) M' → Q (kinO (dW (ws k)) c m inf L).1 M') : w_Works_kinds 0 (Int32.ofNat k) c m (b2 inf) Q M := by
  obtain ⟨nq, nk, np, nh, nr, B1, hR1, hb⟩ := (h.2.2 k hk).1 hon
  have hR := hR1.bb hB0
  obtain ⟨hD, hS⟩ := h.st hk hon
  refine mo_w_Works_kinds (T := fun q => q = k) hD (n0k hk) (Q := fun r M' => r = (kinO (dW (ws k)) c m inf L).1 ∧ Fr F_Works_kinds M M' ∧ cTd (kinO (dW (ws k)) c m inf L).2 1 M' ∧ RA A (dW (ws k)) (k + 1) (dB (ws k)) nq nk np nh nr (zK (dS (ws k)) + lf) B0 (dF (ws k)) (dS (ws k)) M') (fun r M' ho hx => ?_) hS (c_wkinds hk h.1.2 hon hp.1.1.1 hp.1.1.2.1.2.1 (hb.kb hp.2) hg.na.1 hR hg.2.2.1 (fun M' hf hTd hR' => ⟨rfl, hf, hTd, hR'⟩))
  obtain ⟨e, hf, hTd, hR'⟩ := hx
  subst e
  exact hQ M' (RW.nk h hg hk hon ho hf hTd ⟨nq, nk, np, nh, nr, B0, hR', hb⟩ ((hf.I (f := 10) (k := 8) rfl 0).trans h.2.1.1)) hR'.cap.1.2.2
end
section
variable {G : List Sl} {U1 U2 : List (List Kd × Kd)} {BB A A' : List Nm} {S S' : List Sg} {on : Nat → Bool} {ws : Nat → Wld} {lf lf' k v B F R : Nat} {M M' : Mem} {d : Wld}
theorem row_oth (hGa : Ga G) (hTG : TG G M) (hne : v ≠ k) (hu : Uch k (DT G k M) M M') {y : Sl} (hy : y ∈ G) (h1 : y.1 = 12) (h2 : y.2.1 = v) : rl M' y = rl M y := by
  have er : mR M' y.1 y.2.1 y.2.2.1 = mR M y.1 y.2.1 y.2.2.1 := ((hu y.1 y.2.1 (fun o => hne (by
    have := o.1 (by rw [h1]; rfl)
    rw [h2] at this; exact this))).1 y.2.2.1).2.2
  have ei : rdI M' y = rdI M y := by unfold rdI; rw [er]
  have hd : DT G k M y.2.2.2 (rdI M y) := ⟨y, hy, h1, by rw [h2]; exact hne, rfl, rfl⟩
  have g3 : grp y.2.2.2 = 3 := by
    rcases (hGa.2.2 y hy).2 with e | e | e <;> rw [e] <;> rfl
  unfold rl; rw [ei]; exact (hu y.2.2.2 (rdI M y) (fun o => o.2.2.1 g3 hd)).2
theorem rmT.oth (h : rmT G v F M) (hx : Gx G v) (hTG : TG G M) (hne : v ≠ k) (hu : Uch k (DT G k M) M M') : rmT G v F M' := by
  obtain ⟨q1, ⟨-, q2⟩, ⟨-, q3⟩, -, q5, q6, q7⟩ := EqT.ow hne hu
  have e : ∀ f, 130 ≤ f → f ≤ 169 → mL M' f v = mL M f v := fun f z1 z2 => (q1 f z1 z2).2
  have et : ∀ t f, t < 3 → tnF f = true → mL M' f (3 * v + t) = mL M f (3 * v + t) := fun t f ht hf => (q5 t ht).2 f hf
  obtain ⟨⟨⟨⟨a1, a2, a3, a4, a5⟩, a6, a7, a8, a9⟩, ⟨b1, b2, b3, b4, b5, b6⟩, c1, c2, c3⟩, ⟨⟨d1, d2⟩, ⟨e1, e2, e3, e4, e5, e6, e7⟩, ⟨f1, f2, f3, f4⟩, g1, g2, g3⟩, kk, l, m⟩ := h
  have hW : ∀ y ∈ XW v, y.1 = 12 ∧ y.2.1 = v := by simp
  have hF : ∀ y ∈ XF v, y.1 = 12 ∧ y.2.1 = v := by simp
  exact ⟨⟨⟨⟨(e 130 (by omega) (by omega)).trans a1, (e 131 (by omega) (by omega)).trans a2, (e 133 (by omega) (by omega)).trans a3, (e 134 (by omega) (by omega)).trans a4, (e 132 (by omega) (by omega)).trans a5⟩, (e 135 (by omega) (by omega)).trans a6, (e 136 (by omega) (by omega)).trans a7, (e 137 (by omega) (by omega)).trans a8, (e 138 (by omega) (by omega)).trans a9⟩, ⟨(e 139 (by omega) (by omega)).trans b1, (e 140 (by omega) (by omega)).trans b2, (e 141 (by omega) (by omega)).trans b3, (e 142 (by omega) (by omega)).trans b4, q2.trans b5, (e 143 (by omega) (by omega)).trans b6⟩, fun f z1 z2 => (e f (by omega) (by omega)).trans (c1 f z1 z2), fun f z1 z2 => (e f (by omega) (by omega)).trans (c2 f z1 z2), (e 156 (by omega) (by omega)).trans c3⟩, ⟨⟨(e 164 (by omega) (by omega)).trans d1, (e 163 (by omega) (by omega)).trans d2⟩, ⟨(e 157 (by omega) (by omega)).trans e1, (e 158 (by omega) (by omega)).trans e2, (e 159 (by omega) (by omega)).trans e3, (e 160 (by omega) (by omega)).trans e4, (e 162 (by omega) (by omega)).trans e5, q3.trans e6, (e 161 (by omega) (by omega)).trans e7⟩, ⟨(e 165 (by omega) (by omega)).trans f1, (e 166 (by omega) (by omega)).trans f2, (e 167 (by omega) (by omega)).trans f3, (e 168 (by omega) (by omega)).trans f4⟩, (e 169 (by omega) (by omega)).trans g1, q6.trans g2, fun t ht => (q7 t ht).trans (g3 t ht)⟩, fun t ht => ⟨(et t 170 ht rfl).trans (kk t ht).1, (et t 171 ht rfl).trans (kk t ht).2.1, (et t 172 ht rfl).trans (kk t ht).2.2.1, (et t 173 ht rfl).trans (kk t ht).2.2.2.1, (et t 174 ht rfl).trans (kk t ht).2.2.2.2.1, (et t 175 ht rfl).trans (kk t ht).2.2.2.2.2.1, (et t 176 ht rfl).trans (kk t ht).2.2.2.2.2.2.1, (et t 525 ht rfl).trans (kk t ht).2.2.2.2.2.2.2⟩, fun y hy => by rw [row_oth hx.1 hTG hne hu (hx.2.2.2.1 y hy) (hW y hy).1 (hW y hy).2]; exact l y hy, fun y hy => ⟨(m y hy).1, by rw [row_oth hx.1 hTG hne hu (m y hy).1 (hF y hy).1 (hF y hy).2]; exact (m y hy).2⟩⟩
/-- after an operation on world k of the twin -/
theorem WWT.next (h : WWT G U1 A S on ws lf M) (hk : k < 3) (hon : on k = true) (hu : Uch k (DT G k M) M M') (hd : WdT G U2 A' S' k d M') (hA : A <+: A') (hS : S <+: S') (hT : Ty M') (hO : tOn on M') (hl : lf' ≤ 60000) (h93 : mI M' 11 0 93 = Int32.ofNat (60000 - lf')) : WWT G U2 A' S' on (up1 ws k d) lf' M' := by
  obtain ⟨-, ⟨⟨hGa, hx⟩, hTG⟩, -, hw⟩ := h
  have hd0 := hd
  obtain ⟨nq', nl', nf', nk', B', x', ⟨hx', -⟩, -⟩ := hd
  refine ⟨⟨hT, hO⟩, ⟨⟨hGa, hx⟩, hx'.tg⟩, ⟨hl, h93⟩, fun v hv => ?_⟩
  unfold up1
  by_cases e : v = k
  · subst e
    rw [if_pos rfl]
    exact ⟨fun _ => hd0, fun z => by rw [hon] at z; cases z⟩
  · rw [if_neg e]
    refine ⟨fun z => ?_, fun z => ((hw v hv).2 z).oth (hx v (by omega)) hTG e hu⟩
    obtain ⟨nq, nl, nf, nk, B, x, ⟨h1, h2⟩, hb⟩ := (hw v hv).1 z
    exact ⟨nq, nl, nf, nk, B', x, ⟨h1.oth hx' e hu hA hS, h2⟩, hb⟩
end
