/-! OPERATIONS OF THE TWIN on a world, in the whole: link quantum halt foretell collect -/
section
variable {G : List Sl} {U1 U2 : List (List Kd × Kd)} {BB A A' : List Nm} {S S' : List Sg} {on : Nat → Bool} {ws : Nat → Wld} {lf lf' k B F R : Nat} {M M' : Mem} {d : Wld} {T : List Trl} {tp tp' P P' : List Int32} {pl pl' a b c cc : Int32} {L : Tl} {V V' : RV} {Q : Int32 → Mem → Prop}
theorem rd_kp (hf : Fr R M M') (hTG : TG G M) {y : Sl} (hy : y ∈ G) (hb : R.testBit (cd y.1 y.2.2.1) = false) : rdI M' y = rdI M y ∧ rl M' y = rl M y := by
  have e : rdI M' y = rdI M y := by unfold rdI; rw [(hf.1 _ _ hb _).2.2]
  refine ⟨e, ?_⟩
  unfold rl
  rw [e]
  exact (hf.2.2.2 _ (hTG y hy).1.2).2
theorem TAx.bb {W : List Cls} {w nq nl nf nk B' : Nat} {br x : Int32} {US : UST} {s : Ms} (h : TAx G US A S W w br nq nl nf nk B F x s M) (hB : mS M ≤ B' + 2 * rs G M) : TAx G US A S W w br nq nl nf nk B' F x s M := by
  have hx : Gx G w := h.1.1.2.1
  obtain ⟨e1, e2⟩ := (sR_fr (M := M) (w := w)).rsl hx.1
  have h : TA G US A S W w br nq nl nf nk B F x s (sR M 11 0 45 (some (12, w))) := h
  obtain ⟨a, b, c, d, e, ⟨f1, f2⟩, g⟩ := h
  exact ⟨a, b, c, d, e, ⟨by rw [e1, e2]; exact hB, f2⟩, g⟩
theorem tpT.fr (h : tpT tp M) (hf : Fr R M M') (hS : okF R [cd 11 85, 402, 5402] = true := by rfl) : tpT tp M' := by
  have o := fun {b : Nat} (hb : b ∈ [cd 11 85, 402, 5402]) => okF_in hS hb
  exact ⟨(hf.I (f := 11) (k := 85) (o (by simp)) 0).trans h.1, (hf.L (f := 402) (o (by simp)) 1).trans h.2.1, h.2.2.1, fun k hk => (hf.Ia (f := 402) rfl (o (by simp)) 1 k).trans (h.2.2.2 k hk)⟩
theorem tcB.fr (h : tcB V M) (hf : Fr R M M') (hS : okF R [cd 11 109, 119, 5119] = true := by rfl) : tcB V M' := by
  have o := fun {b : Nat} (hb : b ∈ [cd 11 109, 119, 5119]) => okF_in hS hb
  exact ⟨(hf.I (f := 11) (k := 109) (o (by simp)) 0).trans h.1, (hf.L (f := 119) (o (by simp)) 0).trans h.2.1, fun i hi => (hf.Ia (f := 119) rfl (o (by simp)) 0 i).trans (h.2.2 i hi)⟩
theorem tPo.fr (h : tPo P M) (hP : sPg ∈ G) (hTG : TG G M) (hf : Fr R M M') (hS : okF R [cd 11 94, cd 11 95, 401, 5518] = true := by rfl) : tPo P M' := by
  have o := fun {b : Nat} (hb : b ∈ [cd 11 94, cd 11 95, 401, 5518]) => okF_in hS hb
  obtain ⟨e1, e2⟩ := rd_kp hf hTG hP (o (by simp))
  obtain ⟨⟨h1, h2, h3, h4⟩, h5⟩ := h
  refine ⟨⟨(hf.I (f := 11) (k := 95) (o (by simp)) 0).trans h1, by rw [e2]; exact h2, by rw [e2]; exact h3, fun i hi => ?_⟩, (hf.L (f := 518) (o (by simp)) 0).trans h5⟩
  rw [← h4 i hi]
  unfold rd
  rw [e1]
  exact hf.Ia (f := 401) rfl (o (by simp)) _ i
theorem dPo.fr (h : dPo M) (h1 : sP1 ∈ G) (h2 : sP2 ∈ G) (hTG : TG G M) (hf : Fr R M M') (hS : okF R [cd 11 114, cd 11 115] = true := by rfl) : dPo M' := by
  have o := fun {b : Nat} (hb : b ∈ [cd 11 114, cd 11 115]) => okF_in hS hb
  exact ⟨by rw [(rd_kp hf hTG h1 (o (by simp))).2]; exact h.1, by rw [(rd_kp hf hTG h2 (o (by simp))).2]; exact h.2⟩
abbrev gtL : List Nat := [cd 11 121, 122, 412, 5122, 5412, 522, 123, 124, 5522, 5123, 5124, 5402, 5411, 5107, 5108, 5113, 5703, 703, 5519, 5114, 5115, 5116, 5111, 5212, 5112, 5117, 5118, 5520, 5521, 5120, 5121, 5125, 5126, 5127, 5128, 5129]
theorem N12.u (h : N12 M) (hu : Uch k (DT G k M) M M') (hk : k < 4) : N12 M' := fun w hw => (((hu 12 w (fun o => by have : w = k := o.1 rfl; omega)).1 30).2.2).trans (h w hw)
theorem GTC.h77 (h : GTC G U1 BB A S T tp pl L V P M) : mI M 11 0 77 = 0 := by
  obtain ⟨⟨B, h, -⟩, -⟩ := h
  exact h.2.2.1.1.2
/-- after an operation on world k of the twin -/
theorem GTC.nx (h : GTC G U1 BB A S T tp pl L V P M) (hGa : GaA G) (hTG : TG G M) (hk : k < 3) (hu : Uch k (DT G k M) M M') (hf : Fr R M M') (hk2 : K2 0 M M') (hd : WdT G U1 A' S' k d M') (hA : A <+: A') (hAB : A' ⊆ BB) (htp : tpT tp' M') (hpl : mI M' 11 0 86 = pl') (hrc : tcB V' M') (hpo : tPo P' M' ∧ dPo M') (hX : XLb M' ∧ rl M' sFr ≤ 20000) (hS : okF R gtL = true := by rfl) : GTC G U1 BB A' S' T tp' pl' L V' P' M' := by
  have o := fun {b : Nat} (hb : b ∈ gtL) => okF_in hS hb
  have h77 := h.h77
  obtain ⟨nq', nl', nf', nk', B', x', ⟨hx', -⟩, -⟩ := hd
  obtain ⟨-, g1, g2, g3, g4, g5⟩ := hx'.md
  obtain ⟨⟨B, ⟨⟨hx, hR, hTG0, hV⟩, ⟨hKs, hA0, hAB0, hBl⟩, ⟨hgl, hmS, hXb, hrow⟩, hw3, h113, h703⟩, ⟨hx1, hx2⟩, hT⟩, -, hTd, ⟨-, h6⟩, -, h9, h10, h11, h12, h13, h14, h15⟩ := h
  refine ⟨⟨mS M', ⟨⟨hx, hR.oth hx hTG (by omega) hu, g1, g2⟩, ⟨g3, hA0.trans hA, hAB, hBl⟩, ⟨g4, ⟨Nat.le_add_right _ _, g5.2.1, g5.2.2⟩, hX.1, hX.2⟩, ⟨(hf.L (f := 411) (o (by simp)) 0).trans hw3.1, (hf.L (f := 107) (o (by simp)) 0).trans hw3.2.1, (hf.L (f := 108) (o (by simp)) 0).trans hw3.2.2⟩, (hf.L (f := 113) (o (by simp)) 0).trans h113, (hf.L (f := 703) (o (by simp)) 0).trans h703.1, (hf.Ra (f := 703) rfl (o (by simp)) 0 3).trans h703.2⟩, ⟨hx1.fr hf (okF_sub hS (by rfl)), hx2.fr hf (okF_sub hS (by rfl))⟩, hT⟩, ⟨htp, hpl⟩, ?_, ⟨hrc, (hf.L (f := 520) (o (by simp)) 0).trans h6⟩, hpo, ⟨(hf.L (f := 521) (o (by simp)) 0).trans h9.1, (hf.L (f := 120) (o (by simp)) 0).trans h9.2.1, (hf.L (f := 121) (o (by simp)) 0).trans h9.2.2⟩, (hf.L (f := 125) (o (by simp)) 0).trans h10, (hf.L (f := 126) (o (by simp)) 0).trans h11, (hf.L (f := 127) (o (by simp)) 0).trans h12, (hf.L (f := 128) (o (by simp)) 0).trans h13, (hf.L (f := 129) (o (by simp)) 0).trans h14, h15.u hu (by omega)⟩
  obtain ⟨h1, ⟨a1, a2, a3, a4⟩, ⟨b1, b2⟩, rm, c1, c2, c3⟩ := hTd
  have kk := hk2 h77
  refine ⟨h1.fr hf (okF_sub hS (by rfl)), ⟨(hf.L (f := 519) (o (by simp)) 0).trans a1, (hf.L (f := 114) (o (by simp)) 0).trans a2, (hf.L (f := 115) (o (by simp)) 0).trans a3, (hf.L (f := 116) (o (by simp)) 0).trans a4⟩, ⟨b1, (kk 11 101 rfl).trans b2⟩, rm, c1, (kk 11 102 rfl).trans c2, fun i hi => ?_⟩
  obtain ⟨d1, d2⟩ := c3 i hi
  refine ⟨(kk 519 i rfl).trans d1, fun l t e => ?_⟩
  obtain ⟨⟨y1, y2, y3⟩, y4, y5⟩ := d2 l t e
  exact ⟨⟨(kk 114 i rfl).trans y1, y2, y3⟩, fun k hk => (kk 115 _ rfl).trans (y4 k hk), fun k hk => (kk 116 _ rfl).trans (y5 k hk)⟩
end
