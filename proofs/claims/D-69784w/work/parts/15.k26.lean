/-! OPERATIONS OF THE WORKS that read the tape, in the whole: call asked -/
abbrev sSK (d : Wld) (s : Ms) : Wld := (d.1, d.2.1, s, d.2.2.2.1, d.2.2.2.2.1 + 1, d.2.2.2.2.2)
abbrev gwO : List Nat := [cd 10 27, 101, 102, 5101, 5102, 5517, 5096, 5410, cd 8 1, 410, cd 8 2, cd 8 3, 702, 5702, cd 6 35]
section
variable {BB A A' : List Nm} {on : Nat → Bool} {ws : Nat → Wld} {lf lf' k R : Nat} {M M' : Mem} {d : Wld} {T : List Trl} {tp tp' P : List Int32} {pl pl' a c : Int32} {L : Tl} {V : RV} {T0 : Nat → Prop} {h0 : Hot} {Q : Int32 → Mem → Prop}
/-- after an operation on world k of the works that reads the tape -/
theorem RW.nt (h : WWC A on ws lf M) (hg : GWC BB A T tp pl L V P M) (hk : k < 3) (hon : on k = true) (ho : Ow (k + 1) (DC (k + 1) M) T0 h0 M M') (hf : Fr R M M') (hk1 : K1 M M') (hA : A <+: A') (hN : NC BB A' M') (hRd : cRd M') (hd : WdC A' lf' k d M') (h8 : mI M' 10 0 8 = Int32.ofNat lf') (htp : tpC tp' M') (hpl : mI M' 10 0 21 = pl') (hS1 : gmOk R = true := by rfl) (hS2 : okF R gwL = true := by rfl) (hS3 : okF R gwO = true := by rfl) (hW : R &&& WKF = R := by rfl) : WWC A' on (up1 ws k d) lf' M' ∧ GWC BB A' T tp' pl' L V P M' ∧ Fr WKF M M' ∧ Ty M' ∧ CpE (k + 1) M M' := by
  have o := fun {b : Nat} (hb : b ∈ gwO) => okF_in hS3 hb
  have hl := hN.len
  obtain ⟨w1, w2, w3, w4⟩ := h.next hk ho hf hA (by omega) hd hon (h.1.2.fr hf (o (by simp)) (o (by simp))) h8 ((hf.I (f := 6) (k := 35) (o (by simp)) _).trans (h.2.1.2 k hk)) hS1
  refine ⟨w1, ?_, hf.sub hW, ho.2.2 h.1.1.1, CpE.of h hg w4⟩
  have hg0 := hg
  obtain ⟨-, -, -, ⟨h5, h6⟩, h7, -⟩ := hg
  exact GWC.nx hg0 hf hk1 hN w2 w3 h8 hRd hd.lk htp hpl ⟨h5.fr hf (okF_sub hS3 (by rfl)), (hf.L (f := 517) (o (by simp)) 0).trans h6⟩ (h7.fr hf (okF_sub hS3 (by rfl))) hS2
theorem GWC.rd (h : GWC BB A T tp pl L V P M) : cRd M ∧ mL M 30 0 = 6 := by
  obtain ⟨⟨B, h, -⟩, -⟩ := h
  exact ⟨h.2.1.1, h.2.1.2.2⟩
theorem W_call {B0 : Nat} (hB0 : mS M ≤ B0 + 8 * capC (k + 1) M) (h : WWC A on ws lf M) (hg : GWC BB A T tp pl L V P M) (hk : k < 3) (hon : on k = true) (hp : SpD (ws k)) (hn : tp.length ≤ 2900) (hB : ∀ l ∈ lns (pT tp) tp.length 0, NB BB l)
    (q0 : (a < 0 ∨ 2 < a) → Q (-1) M) (q1 : ∀ t, t < 3 → a = Int32.ofNat t → lSt (zN (dS (ws k)) t) = 1 → Q (-2) M)
    (hQ : ∀ t A' x M', t < 3 → a = Int32.ofNat t → lSt (zN (dS (ws k)) t) ≠ 1 → takO pCall tp.length (lns (pT tp) tp.length 0) = .inr x → A <+: A' → WWC A' on (up1 ws k (sSK (ws k) (yN (dS (ws k)) (up1 (zN (dS (ws k))) t (newL x (cvl x)))))) lf M' ∧ GWC BB A' T [] (-2) L V P M' ∧ Fr WKF M M' ∧ Ty M' ∧ CpE (k + 1) M M' → mS M' ≤ B0 + 8 * capC (k + 1) M' → Q 0 M')
    (hX : ∀ t A' e M', t < 3 → a = Int32.ofNat t → lSt (zN (dS (ws k)) t) ≠ 1 → takO pCall tp.length (lns (pT tp) tp.length 0) = .inl e → A <+: A' → WWC A' on (up1 ws k (sSK (ws k) (yN (dS (ws k)) (up1 (zN (dS (ws k))) t (clrL (zN (dS (ws k)) t)))))) lf M' ∧ GWC BB A' T [] (Int32.ofNat e.2) L V P M' ∧ Fr WKF M M' ∧ Ty M' ∧ CpE (k + 1) M M' → mS M' ≤ B0 + 8 * capC (k + 1) M' → Q (-11) M') : w_Works_call 0 (Int32.ofNat k) a Q M := by
  obtain ⟨nq, nk, np, nh, nr, B1, hR1, hb⟩ := (h.2.2 k hk).1 hon
  have hR := hR1.bb hB0
  obtain ⟨hD, hS⟩ := h.st hk hon
  refine mo_w_Works_call (T := fun q => q = k) hD (n0k hk) (Q := fun r M' => Fr F_Works_call M M' ∧ (Q r M' ∨ (∃ t A' x, (t < 3 ∧ a = Int32.ofNat t ∧ lSt (zN (dS (ws k)) t) ≠ 1 ∧ takO pCall tp.length (lns (pT tp) tp.length 0) = .inr x) ∧ r = 0 ∧ A <+: A' ∧ NC BB A' M' ∧ RA A' (dW (ws k)) (k + 1) (dB (ws k)) nq nk np nh nr (zK (dS (ws k)) + lf) B0 (dF (ws k)) (yN (dS (ws k)) (up1 (zN (dS (ws k))) t (newL x (cvl x)))) M' ∧ tpC [] M' ∧ mI M' 10 0 21 = -2 ∧ cRd M') ∨ (∃ t A' e, (t < 3 ∧ a = Int32.ofNat t ∧ lSt (zN (dS (ws k)) t) ≠ 1 ∧ takO pCall tp.length (lns (pT tp) tp.length 0) = .inl e) ∧ r = -11 ∧ A <+: A' ∧ NC BB A' M' ∧ RA A' (dW (ws k)) (k + 1) (dB (ws k)) nq nk np nh nr (zK (dS (ws k)) + lf) B0 (dF (ws k)) (yN (dS (ws k)) (up1 (zN (dS (ws k))) t (clrL (zN (dS (ws k)) t)))) M' ∧ tpC [] M' ∧ mI M' 10 0 21 = Int32.ofNat e.2 ∧ cRd M'))) (fun r M' ho hx => ?_) hS (mf_w_Works_call (fun _ _ hf h => ⟨hf, h⟩) (c_wcall hk h.1.2 hon hg.2.1.1 hn hg.nc hB hg.rd.1 hg.rd.2 hp.1.2.1.1.1.1 hR (fun z => Or.inl (q0 z)) (fun t z1 z2 z3 => Or.inl (q1 t z1 z2 z3)) (fun t A' x M' z1 z2 z3 z4 z5 z6 z7 z8 z9 z10 => Or.inr (Or.inl ⟨t, A', x, ⟨z1, z2, z3, z4⟩, rfl, z5, z6, z7, z8, z9, z10⟩)) (fun t A' e M' z1 z2 z3 z4 z5 z6 z7 z8 z9 z10 => Or.inr (Or.inr ⟨t, A', e, ⟨z1, z2, z3, z4⟩, rfl, z5, z6, z7, z8, z9, z10⟩))))
  obtain ⟨hf, hx | ⟨t, A', x, ⟨z1, z2, z3, z4⟩, e, z5, z6, z7, z8, z9, z10⟩ | ⟨t, A', x, ⟨z1, z2, z3, z4⟩, e, z5, z6, z7, z8, z9, z10⟩⟩ := hx
  · exact hx
  · subst e
    exact hQ t A' x M' z1 z2 z3 z4 z5 (RW.nt h hg hk hon ho hf (K1.fr hf rfl) z5 z6 z10 ⟨nq, nk, np, nh, nr, B0, z7, hb⟩ ((hf.I (f := 10) (k := 8) rfl 0).trans h.2.1.1) z8 z9) z7.cap.1.2.2
  · subst e
    exact hX t A' x M' z1 z2 z3 z4 z5 (RW.nt h hg hk hon ho hf (K1.fr hf rfl) z5 z6 z10 ⟨nq, nk, np, nh, nr, B0, z7, hb⟩ ((hf.I (f := 10) (k := 8) rfl 0).trans h.2.1.1) z8 z9) z7.cap.1.2.2
theorem W_asked {B0 : Nat} (hB0 : mS M ≤ B0 + 8 * capC (k + 1) M) (h : WWC A on ws lf M) (hg : GWC BB A T tp pl L V P M) (hk : k < 3) (hon : on k = true) (hp : SpD (ws k)) (hn : tp.length ≤ 2900) (hB : ∀ l ∈ lns (pT tp) tp.length 0, NB BB l)
    (q0 : (c < 0 ∨ Int32.ofNat (dW (ws k)).length ≤ c) → Q (-1) M)
    (hQ : ∀ A' x i M', i < (dW (ws k)).length → c = Int32.ofNat i → takO pAsk tp.length (lns (pT tp) tp.length 0) = .inr x → A <+: A' → WWC A' on (up1 ws k (sS (ws k) (yL (dS (ws k)) (askS (dB (ws k)) (dW (ws k)) (zL (dS (ws k))) x i).2))) lf M' ∧ GWC BB A' T [] (-2) L V P M' ∧ Fr WKF M M' ∧ Ty M' ∧ CpE (k + 1) M M' → mS M' ≤ B0 + 8 * capC (k + 1) M' → Q (askA (askS (dB (ws k)) (dW (ws k)) (zL (dS (ws k))) x i).1) M')
    (hX : ∀ A' e i M', i < (dW (ws k)).length → c = Int32.ofNat i → takO pAsk tp.length (lns (pT tp) tp.length 0) = .inl e → A <+: A' → WWC A' on (up1 ws k (ws k)) lf M' ∧ GWC BB A' T [] (Int32.ofNat e.2) L V P M' ∧ Fr WKF M M' ∧ Ty M' ∧ CpE (k + 1) M M' → mS M' ≤ B0 + 8 * capC (k + 1) M' → Q (-11) M') : w_Works_asked 0 (Int32.ofNat k) c Q M := by
  obtain ⟨nq, nk, np, nh, nr, B1, hR1, hb⟩ := (h.2.2 k hk).1 hon
  have hR := hR1.bb hB0
  obtain ⟨hD, hS⟩ := h.st hk hon
  refine mo_w_Works_asked (T := fun q => q = k) hD (n0k hk) (Q := fun r M' => Fr F_Works_asked M M' ∧ K1 M M' ∧ (Q r M' ∨ (∃ A' x i, (i < (dW (ws k)).length ∧ c = Int32.ofNat i ∧ takO pAsk tp.length (lns (pT tp) tp.length 0) = .inr x) ∧ r = askA (askS (dB (ws k)) (dW (ws k)) (zL (dS (ws k))) x i).1 ∧ A <+: A' ∧ NC BB A' M' ∧ RA A' (dW (ws k)) (k + 1) (dB (ws k)) nq nk np nh nr (zK (dS (ws k)) + lf) B0 (dF (ws k)) (yL (dS (ws k)) (askS (dB (ws k)) (dW (ws k)) (zL (dS (ws k))) x i).2) M' ∧ tpC [] M' ∧ mI M' 10 0 21 = -2 ∧ cRd M') ∨ (∃ A' e i, (i < (dW (ws k)).length ∧ c = Int32.ofNat i ∧ takO pAsk tp.length (lns (pT tp) tp.length 0) = .inl e) ∧ r = -11 ∧ A <+: A' ∧ NC BB A' M' ∧ RA A' (dW (ws k)) (k + 1) (dB (ws k)) nq nk np nh nr (zK (dS (ws k)) + lf) B0 (dF (ws k)) (dS (ws k)) M' ∧ tpC [] M' ∧ mI M' 10 0 21 = Int32.ofNat e.2 ∧ cRd M'))) (fun r M' ho hx => ?_) hS (mf_w_Works_asked (fun _ _ hf h => ⟨hf, h⟩) (mc_w_Works_asked (fun _ _ h1 h => ⟨h1, h⟩) (c_wasked hk h.1.2 hon hg.2.1.1 hn hg.nc hB hg.rd.1 hg.rd.2 hp.1.1.1 hp.1.2.1.1.1.1.1.1 (hb.kb hp.2) hR (fun z => Or.inl (q0 z)) (fun A' x i M' z1 z2 z4 z5 z6 z7 z8 z9 z10 => Or.inr (Or.inl ⟨A', x, i, ⟨z1, z2, z4⟩, rfl, z5, z6, z7, z8, z9, z10⟩)) (fun A' e i M' z1 z2 z4 z5 z6 z7 z8 z9 z10 => Or.inr (Or.inr ⟨A', e, i, ⟨z1, z2, z4⟩, rfl, z5, z6, z7, z8, z9, z10⟩)))))
  obtain ⟨hf, hk1, hx | ⟨A', x, i, ⟨z1, z2, z4⟩, e, z5, z6, z7, z8, z9, z10⟩ | ⟨A', x, i, ⟨z1, z2, z4⟩, e, z5, z6, z7, z8, z9, z10⟩⟩ := hx
  · exact hx
  · subst e
    exact hQ A' x i M' z1 z2 z4 z5 (RW.nt h hg hk hon ho hf hk1 z5 z6 z10 ⟨nq, nk, np, nh, nr, B0, z7, hb⟩ ((hf.I (f := 10) (k := 8) rfl 0).trans h.2.1.1) z8 z9) z7.cap.1.2.2
  · subst e
    exact hX A' x i M' z1 z2 z4 z5 (RW.nt h hg hk hon ho hf hk1 z5 z6 z10 ⟨nq, nk, np, nh, nr, B0, z7, hb⟩ ((hf.I (f := 10) (k := 8) rfl 0).trans h.2.1.1) z8 z9) z7.cap.1.2.2
end
