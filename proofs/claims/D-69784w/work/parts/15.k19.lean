/-! the state in which an operation of the twin on world k begins; what an operation of the works leaves of the rest -/
section
variable {G : List Sl} {U1 : List (List Kd × Kd)} {BB A A' : List Nm} {S S' : List Sg} {on : Nat → Bool} {ws : Nat → Wld} {lf lf' k v B F R : Nat} {M M' : Mem} {d : Wld} {T : List Trl} {tp tp' P P' : List Int32} {pl pl' : Int32} {L : Tl} {V V' : RV}
theorem WWT.st (h : WWT G U1 A S on ws lf M) (hG : GM M) (hz : ∀ q, 3 ≤ q → mR M 702 0 q = none) (hk : k < 3) : (Dok k (DT G k M) ∧ ow k (DT G k M) 11 0) ∧ St k (DT G k M) (fun q => q = 1000 + k) (fun _ => false) M := by
  obtain ⟨⟨-, hO⟩, ⟨⟨hGa, -⟩, hTG⟩, -⟩ := h
  refine ⟨⟨Dok_T hGa.1, ow6⟩, StT hG hGa hTG (by omega) (fun f i q g j _ z => by cases z) (fun f q g j hf hT e => ?_)⟩
  rcases hf with z | z
  · subst z
    have hq : q = 1000 + k := hT
    subst hq
    rw [hz (1000 + k) (by omega)] at e
    cases e
  · subst z
    have hq : 1000 + q = 1000 + k := hT
    have hq : q = k := by omega
    subst hq
    rw [(hO.2 q hk).1] at e
    cases e
    exact ow1 rfl rfl
/-- what an operation on a world of the works leaves alone -/
abbrev gwL : List Nat := [cd 10 10, 98, 400, 701, 5701, 5098, 5400, 516, 99, 100, 5516, 5099, 5100, 5030, 5031, 5032, 5510, 5033, 5034, 5035, 5513, 5082, 5083, 5103, 5104, 702, 5702]
theorem GWC.nx (h : GWC BB A T tp pl L V P M) (hf : Fr R M M') (hk1 : K1 M M') (hN : NC BB A' M') (hr : ∀ B F, rmC 0 B F M → ∃ B', rmC 0 B' F M') (e35 : mI M' 6 0 35 = mI M 6 0 35) (h8 : mI M' 10 0 8 = Int32.ofNat lf') (hRd : cRd M') (hLk : cLk M') (htp : tpC tp' M') (hpl : mI M' 10 0 21 = pl') (hrc : rcB V' M' ∧ mL M' 517 0 = 381) (hpo : cPo P' M') (hS : okF R gwL = true := by rfl) : GWC BB A' T tp' pl' L V' P' M' := by
  have o := fun {b : Nat} (hb : b ∈ gwL) => okF_in hS hb
  obtain ⟨⟨B, ⟨⟨hN0, hR⟩, ⟨hRd0, hLk0, h30⟩, h35⟩, ⟨hx, hkn⟩, hT⟩, -, hTd, -, -, hcl, ⟨h9, h10, h11⟩, ⟨h12, h13⟩, h14⟩ := h
  obtain ⟨B', hR'⟩ := hr B 900 hR
  refine ⟨⟨B', ⟨⟨hN, hR'⟩, ⟨hRd, hLk, (hf.L (f := 30) (o (by simp)) 0).trans h30⟩, ?_⟩, ⟨hx.fr hf (okF_sub hS (by rfl)), hkn.fr hf (okF_sub hS (by rfl))⟩, hT⟩, ⟨htp, hpl⟩, ?_, hrc, hpo, fun k hk => ⟨(hf.L (f := 513) (o (by simp)) _).trans (hcl k hk).1, (hf.L (f := 82) (o (by simp)) _).trans (hcl k hk).2.1, (hf.L (f := 83) (o (by simp)) _).trans (hcl k hk).2.2⟩, ⟨(hf.L (f := 103) (o (by simp)) 0).trans h9, (hf.L (f := 104) (o (by simp)) 0).trans h10, (hf.L (f := 400) (o (by simp)) 41).trans h11⟩, ⟨(hf.L (f := 702) (o (by simp)) 1).trans h12, fun k hk => (hf.Ra (f := 702) rfl (o (by simp)) 1 k).trans (h13 k hk)⟩, fun q hq => (hf.Ra (f := 702) rfl (o (by simp)) 0 q).trans (h14 q hq)⟩
  · rw [e35]
    rcases h35 with z | ⟨z, -⟩
    · exact Or.inl z
    · exact Or.inr ⟨z, lf', h8⟩
  · obtain ⟨⟨p1, p2⟩, ⟨a1, a2, a3, a4⟩, ⟨q1, q2⟩, ⟨b1, b2⟩, rm, c1, c2, c3⟩ := hTd
    refine ⟨⟨(hf.L (f := 31) (o (by simp)) 1).trans p1, (hf.L (f := 32) (o (by simp)) 1).trans p2⟩, ⟨(hf.L (f := 510) (o (by simp)) 1).trans a1, (hf.L (f := 33) (o (by simp)) 1).trans a2, (hf.L (f := 34) (o (by simp)) 1).trans a3, (hf.L (f := 35) (o (by simp)) 1).trans a4⟩, ⟨(hk1 4 9 rfl).trans q1, (hk1 4 10 rfl).trans q2⟩, ⟨b1, (hk1 4 15 rfl).trans b2⟩, rm, c1, (hk1 4 16 rfl).trans c2, fun i hi => ?_⟩
    obtain ⟨d1, d2⟩ := c3 i hi
    refine ⟨(hk1 510 i rfl).trans d1, fun l t e => ?_⟩
    obtain ⟨⟨y1, y2, y3⟩, y4, y5⟩ := d2 l t e
    exact ⟨⟨(hk1 33 i rfl).trans y1, y2, y3⟩, fun k hk => (hk1 35 _ rfl).trans (y4 k hk), fun k hk => (hk1 35 _ rfl).trans (y5 k hk)⟩
end
