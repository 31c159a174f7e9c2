/-! OPERATIONS OF THE TWIN that read the tape, in the whole: call asked define -/
abbrev gtO : List Nat := [cd 11 93, cd 11 95, 5518, cd 11 109, 119, 5119, cd 12 0, 703, 5703]
section
variable {G X : List Sl} {U1 : List (List Kd × Kd)} {US : UST} {BB A A' : List Nm} {S S' : List Sg} {on : Nat → Bool} {ws : Nat → Wld} {lf lf' k n B F R : Nat} {M M' : Mem} {d : Wld} {T : List Trl} {tp tp' P : List Int32} {pl pl' a c : Int32} {L : Tl} {V : RV} {Q : Int32 → Mem → Prop} {T0 : Nat → Prop} {h0 : Hot}
theorem TAx.us {W : List Cls} {w nq nl nf nk : Nat} {br x : Int32} {s : Ms} (h : TAx G US A S W w br nq nl nf nk B F x s M) : TAx G (US.1, S) A S W w br nq nl nf nk B F x s M := by
  have h : TA G US A S W w br nq nl nf nk B F x s (sR M 11 0 45 (some (12, w))) := h
  obtain ⟨⟨⟨⟨a1, a2, a3⟩, b⟩, c⟩, d⟩ := h
  exact ⟨⟨⟨⟨a1, a2.us, a3⟩, b⟩, c⟩, d⟩
theorem tPo.gf (h : tPo P M) (hP : sPg ∈ G) (hg : GF G X M M') (hx : sPg ∉ X) (hf : Fr R M M') (hS : okF R [cd 11 95, 5518] = true := by rfl) : tPo P M' := by
  have o := fun {b : Nat} (hb : b ∈ [cd 11 95, 5518]) => okF_in hS hb
  obtain ⟨e1, e2, -⟩ := hg.2.1 sPg hP hx
  obtain ⟨⟨h1, h2, h3, h4⟩, h5⟩ := h
  exact ⟨⟨(hf.I (f := 11) (k := 95) (o (by simp)) 0).trans h1, by rw [e2]; exact h2, by rw [e2]; exact h3, fun i hi => (e1 i).trans (h4 i hi)⟩, (hf.L (f := 518) (o (by simp)) 0).trans h5⟩
theorem dPo.gf (h : dPo M) (h1 : sP1 ∈ G) (h2 : sP2 ∈ G) (hg : GF G X M M') (x1 : sP1 ∉ X) (x2 : sP2 ∉ X) : dPo M' := ⟨by rw [(hg.2.1 sP1 h1 x1).2.1]; exact h.1, by rw [(hg.2.1 sP2 h2 x2).2.1]; exact h.2⟩
/-- after an operation on world k of the twin that reads the tape -/
theorem RT.nt (h : WWT G U1 A S on ws lf M) (hg : GTC G U1 BB A S T tp pl L V P M) (hk : k < 3) (hon : on k = true) (ho : Ow k (DT G k M) T0 h0 M M') (hf : Fr R M M') (hk2 : K2 0 M M') (hgf : GF G X M M') (hX0 : sPg ∉ X ∧ sP1 ∉ X ∧ sP2 ∉ X) (hd : WdT G U1 A' S' k d M') (hA : A <+: A') (hAB : A' ⊆ BB) (hSS : S <+: S') (htp : tpT tp' M') (hpl : mI M' 11 0 86 = pl') (hX : XLb M' ∧ rl M' sFr ≤ 20000) (hS : okF R gtL = true := by rfl) (hS2 : okF R gtO = true := by rfl) (hW : R &&& TWF = R := by rfl) : WWT G U1 A' S' on (up1 ws k d) lf M' ∧ GTC G U1 BB A' S' T tp' pl' L V P M' ∧ Fr TWF M M' ∧ Ty M' := by
  have o := fun {b : Nat} (hb : b ∈ gtO) => okF_in hS2 hb
  have hT := ho.2.2 h.1.1
  have hGa := h.2.1.1.1
  have hTG := h.2.1.2
  obtain ⟨p1, p2, p3⟩ := hGa.p
  refine ⟨h.next hk hon ho.2.1 hd hA hSS hT (h.1.2.fr hf (o (by simp)) (o (by simp)) (o (by simp))) h.2.2.1.1 ((hf.I (f := 11) (k := 93) (o (by simp)) 0).trans h.2.2.1.2), ?_, hf.sub hW, hT⟩
  have hg0 := hg
  obtain ⟨-, -, -, ⟨h5, -⟩, ⟨h7, h8⟩, -⟩ := hg
  exact hg0.nx hGa hTG hk ho.2.1 hf hk2 hd hA hAB htp hpl (h5.fr hf (okF_sub hS2 (by rfl))) ⟨h7.gf p1 hgf hX0.1 hf (okF_sub hS2 (by rfl)), h8.gf p2 p3 hgf hX0.2.1 hX0.2.2⟩ hX hS
theorem X9p : sPg ∉ X9 ∧ sP1 ∉ X9 ∧ sP2 ∉ X9 := by decide
theorem XTp : sPg ∉ XT k ∧ sP1 ∉ XT k ∧ sP2 ∉ XT k := by
  refine ⟨fun z => ?_, fun z => ?_, fun z => ?_⟩ <;> simp at z
theorem T_call {B0 : Nat} (hB0 : mS M ≤ B0 + 2 * rs G M) (h : WWT G U1 A S on ws lf M) (hg : GTC G U1 BB A S T tp pl L V P M) (hG : GM M) (hz : ∀ q, 3 ≤ q → mR M 702 0 q = none) (hk : k < 3) (hon : on k = true) (hp : SpD (ws k)) (hn : tp.length ≤ 1400) (hB : ∀ l ∈ lns (pT tp) tp.length 0, NB BB l ∧ UL (U1, S) l)
    (q0 : (a < 0 ∨ 2 < a) → Q (-1) M) (q1 : ∀ t, t < 3 → a = Int32.ofNat t → lSt (zN (dS (ws k)) t) = 1 → Q (-2) M)
    (hQ : ∀ t A' S' x M', t < 3 → a = Int32.ofNat t → lSt (zN (dS (ws k)) t) ≠ 1 → takO pCall tp.length (lns (pT tp) tp.length 0) = .inr x → A <+: A' → WWT G U1 A' S' on (up1 ws k (sSK (ws k) (yN (dS (ws k)) (up1 (zN (dS (ws k))) t (newL x (cvl x)))))) lf M' ∧ GTC G U1 BB A' S' T [] (-2) L V P M' ∧ Fr TWF M M' ∧ Ty M' → mS M' ≤ B0 + 2 * rs G M' → Q 0 M')
    (hX : ∀ t A' S' e M', t < 3 → a = Int32.ofNat t → lSt (zN (dS (ws k)) t) ≠ 1 → takO pCall tp.length (lns (pT tp) tp.length 0) = .inl e → A <+: A' → WWT G U1 A' S' on (up1 ws k (sSK (ws k) (yN (dS (ws k)) (up1 (zN (dS (ws k))) t (clrL (zN (dS (ws k)) t)))))) lf M' ∧ GTC G U1 BB A' S' T [] (Int32.ofNat e.2) L V P M' ∧ Fr TWF M M' ∧ Ty M' → mS M' ≤ B0 + 2 * rs G M' → Q (-11) M') : w_Model_call 0 (Int32.ofNat k) a Q M := by
  obtain ⟨nq, nl, nf, nk, B1, x, ⟨hR1, hx⟩, hb⟩ := (h.2.2.2 k hk).1 hon
  have hR := hR1.bb hB0
  obtain ⟨⟨hD, hD6⟩, hS⟩ := h.st hG hz hk
  have hTG := h.2.1.2
  have hx3 := h.2.1.1.2 3 (by omega)
  obtain ⟨⟨B2, hm, -⟩, ⟨h2, h3⟩, -⟩ := id hg
  refine mo_w_Model_call (T := fun q => q = 1000 + k) hD hD6 (by rw [n0k hk]) (Q := fun r M' => Fr F_Model_call M M' ∧ (Q r M' ∨ (∃ t A' S' y, (t < 3 ∧ a = Int32.ofNat t ∧ lSt (zN (dS (ws k)) t) ≠ 1 ∧ takO pCall tp.length (lns (pT tp) tp.length 0) = .inr y) ∧ r = 0 ∧ TIl G (U1, S) BB tp.length (pT tp) A A' S S' M M' ∧ TAx G (U1, S) A' S' (dW (ws k)) k (dB (ws k)) nq nl nf nk B0 (dF (ws k)) x (yN (dS (ws k)) (up1 (zN (dS (ws k))) t (newL y (cvl y)))) M' ∧ tpT [] M' ∧ mI M' 11 0 86 = -2) ∨ (∃ t A' S' e, (t < 3 ∧ a = Int32.ofNat t ∧ lSt (zN (dS (ws k)) t) ≠ 1 ∧ takO pCall tp.length (lns (pT tp) tp.length 0) = .inl e) ∧ r = -11 ∧ TIl G (U1, S) BB tp.length (pT tp) A A' S S' M M' ∧ TAx G (U1, S) A' S' (dW (ws k)) k (dB (ws k)) nq nl nf nk B0 (dF (ws k)) x (yN (dS (ws k)) (up1 (zN (dS (ws k))) t (clrL (zN (dS (ws k)) t)))) M' ∧ tpT [] M' ∧ mI M' 11 0 86 = Int32.ofNat e.2))) (fun r M' ho hx2 => ?_) hS (mf_w_Model_call (fun _ _ hf h => ⟨hf, h⟩) (ct_wcall hk h.1.2 hon h2 hn hm.2.2.2.1 hm.2.2.2.2.1 hm.2.1.2.2.2 hm.2.1.2.2.1 hB hTG hm.1.2.2.2 hm.2.1.1 hp.1.2.1.1.1.1 hp.1.2.1.2 hR (fun z => Or.inl (q0 z)) (fun t z1 z2 z3 => Or.inl (q1 t z1 z2 z3)) (fun t A' S' y M' z1 z2 z3 z4 z5 z6 z7 z8 => Or.inr (Or.inl ⟨t, A', S', y, ⟨z1, z2, z3, z4⟩, rfl, z5, z6 _ (gv_cvl y), z7, z8⟩)) (fun t A' S' e M' z1 z2 z3 z4 z5 z6 z7 z8 => Or.inr (Or.inr ⟨t, A', S', e, ⟨z1, z2, z3, z4⟩, rfl, z5, z6, z7, z8⟩))))
  obtain ⟨hf, hx2 | ⟨t, A', S', y, ⟨z1, z2, z3, z4⟩, e, z5, z6, z7, z8⟩ | ⟨t, A', S', y, ⟨z1, z2, z3, z4⟩, e, z5, z6, z7, z8⟩⟩ := hx2
  · exact hx2
  · subst e
    exact hQ t A' S' y M' z1 z2 z3 z4 z5.2.1.1 (RT.nt h hg hk hon ho hf (K2.fr hf rfl) z5.2.2.2.1 X9p ⟨nq, nl, nf, nk, B0, x, ⟨z6.us, hx.cl hp.1.2.1.2 z1 z3⟩, hb⟩ z5.2.1.1 z5.2.1.2.1 z5.2.1.2.2 z7 z8 ⟨hm.2.2.1.2.2.1.kp hf hTG hx3.2.2.2.2.1, by rw [rl_keep hf hTG hx3.2.2.2.2.2]; exact hm.2.2.1.2.2.2⟩) z6.md.2.2.2.2.2.1
  · subst e
    exact hX t A' S' y M' z1 z2 z3 z4 z5.2.1.1 (RT.nt h hg hk hon ho hf (K2.fr hf rfl) z5.2.2.2.1 X9p ⟨nq, nl, nf, nk, B0, x, ⟨z6.us, hx.cr hp.1.2.1.2 z1 z3⟩, hb⟩ z5.2.1.1 z5.2.1.2.1 z5.2.1.2.2 z7 z8 ⟨hm.2.2.1.2.2.1.kp hf hTG hx3.2.2.2.2.1, by rw [rl_keep hf hTG hx3.2.2.2.2.2]; exact hm.2.2.1.2.2.2⟩) z6.md.2.2.2.2.2.1
theorem T_asked (h12 : W12 (dW (ws k))) {B0 : Nat} (hB0 : mS M ≤ B0 + 2 * rs G M) (h : WWT G U1 A S on ws lf M) (hg : GTC G U1 BB A S T tp pl L V P M) (hG : GM M) (hz : ∀ q, 3 ≤ q → mR M 702 0 q = none) (hk : k < 3) (hon : on k = true) (hp : SpD (ws k)) (hn : tp.length ≤ 1400) (hB : ∀ l ∈ lns (pT tp) tp.length 0, NB BB l ∧ UL (U1, S) l) (hok : ∀ l ∈ lns (pT tp) tp.length 0, okL l)
    (q0 : (c < 0 ∨ Int32.ofNat (dW (ws k)).length ≤ c) → Q (-1) M)
    (hQ : ∀ A' S' x i M', i < (dW (ws k)).length → c = Int32.ofNat i → takO pAsk tp.length (lns (pT tp) tp.length 0) = .inr x → A <+: A' → WWT G U1 A' S' on (up1 ws k (sS (ws k) (yL (dS (ws k)) (askS (dB (ws k)) (dW (ws k)) (zL (dS (ws k))) x i).2))) lf M' ∧ GTC G U1 BB A' S' T [] (-2) L V P M' ∧ Fr TWF M M' ∧ Ty M' → mS M' ≤ B0 + 2 * rs G M' → Q (askA (askS (dB (ws k)) (dW (ws k)) (zL (dS (ws k))) x i).1) M')
    (hX : ∀ A' S' e i M', i < (dW (ws k)).length → c = Int32.ofNat i → takO pAsk tp.length (lns (pT tp) tp.length 0) = .inl e → A <+: A' → WWT G U1 A' S' on (up1 ws k (ws k)) lf M' ∧ GTC G U1 BB A' S' T [] (Int32.ofNat e.2) L V P M' ∧ Fr TWF M M' ∧ Ty M' → mS M' ≤ B0 + 2 * rs G M' → Q (-11) M') : w_Model_asked 0 (Int32.ofNat k) c Q M := by
  obtain ⟨nq, nl, nf, nk, B1, x, ⟨hR1, hx⟩, hb⟩ := (h.2.2.2 k hk).1 hon
  have hR := hR1.bb hB0
  obtain ⟨⟨hD, hD6⟩, hS⟩ := h.st hG hz hk
  have hTG := h.2.1.2
  have hx3 := h.2.1.1.2 3 (by omega)
  obtain ⟨⟨B2, hm, -⟩, ⟨h2, h3⟩, -⟩ := id hg
  refine mo_w_Model_asked (T := fun q => q = 1000 + k) hD hD6 (by rw [n0k hk]) (Q := fun r M' => Fr F_Model_asked M M' ∧ K2 0 M M' ∧ (Q r M' ∨ (∃ A' S' y i, (i < (dW (ws k)).length ∧ c = Int32.ofNat i ∧ takO pAsk tp.length (lns (pT tp) tp.length 0) = .inr y) ∧ r = askA (askS (dB (ws k)) (dW (ws k)) (zL (dS (ws k))) y i).1 ∧ TIl G (U1, S) BB tp.length (pT tp) A A' S S' M M' ∧ TAx G (U1, S) A' S' (dW (ws k)) k (dB (ws k)) nq nl nf nk B0 (dF (ws k)) x (yL (dS (ws k)) (askS (dB (ws k)) (dW (ws k)) (zL (dS (ws k))) y i).2) M' ∧ tpT [] M' ∧ mI M' 11 0 86 = -2) ∨ (∃ A' S' e i, (i < (dW (ws k)).length ∧ c = Int32.ofNat i ∧ takO pAsk tp.length (lns (pT tp) tp.length 0) = .inl e) ∧ r = -11 ∧ TIl G (U1, S) BB tp.length (pT tp) A A' S S' M M' ∧ TAx G (U1, S) A' S' (dW (ws k)) k (dB (ws k)) nq nl nf nk B0 (dF (ws k)) x (dS (ws k)) M' ∧ tpT [] M' ∧ mI M' 11 0 86 = Int32.ofNat e.2))) (fun r M' ho hx2 => ?_) hS (mf_w_Model_asked (fun _ _ hf h => ⟨hf, h⟩) (mt_w_Model_asked (fun _ _ h1 h => ⟨h1, h⟩) (ct_wasked hk h.1.2 hon h2 hn hm.2.2.2.1 hm.2.2.2.2.1 hm.2.1.2.2.2 hm.2.1.2.2.1 hB hok hTG hm.1.2.2.2 hm.2.1.1 hp.1.1.1 h12 hp.1.2.1.1.1.1.1.1 hR (fun z => Or.inl (q0 z)) (fun A' S' y i M' z1 z2 z4 z5 z6 z7 z8 => Or.inr (Or.inl ⟨A', S', y, i, ⟨z1, z2, z4⟩, rfl, z5, z6, z7, z8⟩)) (fun A' S' e i M' z1 z2 z4 z5 z6 z7 z8 => Or.inr (Or.inr ⟨A', S', e, i, ⟨z1, z2, z4⟩, rfl, z5, z6, z7, z8⟩)))))
  obtain ⟨hf, hk2, hx2 | ⟨A', S', y, i, ⟨z1, z2, z4⟩, e, z5, z6, z7, z8⟩ | ⟨A', S', y, i, ⟨z1, z2, z4⟩, e, z5, z6, z7, z8⟩⟩ := hx2
  · exact hx2
  · subst e
    exact hQ A' S' y i M' z1 z2 z4 z5.2.1.1 (RT.nt h hg hk hon ho hf hk2 z5.2.2.2.1 X9p ⟨nq, nl, nf, nk, B0, x, ⟨z6.us, ⟨LkP.eq rfl rfl rfl hx.1, hx.2.1, hx.2.2⟩⟩, hb⟩ z5.2.1.1 z5.2.1.2.1 z5.2.1.2.2 z7 z8 ⟨hm.2.2.1.2.2.1.kp hf hTG hx3.2.2.2.2.1, by rw [rl_keep hf hTG hx3.2.2.2.2.2]; exact hm.2.2.1.2.2.2⟩) z6.md.2.2.2.2.2.1
  · subst e
    exact hX A' S' y i M' z1 z2 z4 z5.2.1.1 (RT.nt h hg hk hon ho hf hk2 z5.2.2.2.1 X9p ⟨nq, nl, nf, nk, B0, x, ⟨z6.us, hx⟩, hb⟩ z5.2.1.1 z5.2.1.2.1 z5.2.1.2.2 z7 z8 ⟨hm.2.2.1.2.2.1.kp hf hTG hx3.2.2.2.2.1, by rw [rl_keep hf hTG hx3.2.2.2.2.2]; exact hm.2.2.1.2.2.2⟩) z6.md.2.2.2.2.2.1
theorem T_define {B0 : Nat} (hB0 : mS M ≤ B0 + 2 * rs G M) (h : WWT G U1 A S on ws lf M) (hg : GTC G U1 BB A S T tp pl L V P M) (hG : GM M) (hz : ∀ q, 3 ≤ q → mR M 702 0 q = none) (hk : k < 3) (hon : on k = true) (hp : SpD (ws k)) (h21 : 21 ≤ (dW (ws k)).length) (hn : tp.length ≤ 1290) (hB : ∀ l ∈ lns (pT tp) tp.length 0, NB BB l ∧ UL (U1, S) l) (hm2 : 2 * tk (lns (pT tp) tp.length 0).tail ≤ n) (hDn : dD (ws k) + n ≤ 2800) (hpt : tend (pT tp) tp.length)
    (hQ : ∀ A' S' W' M', runL (dB (ws k)) tp.length (0, dW (ws k), noM) (lns (pT tp) tp.length 0) = .inr W' → A <+: A' → WWT G U1 A' S' on (up1 ws k (sSW (ws k) W' n)) lf M' ∧ GTC G U1 BB A' S' T [] (-2) L V P M' ∧ Fr TWF M M' ∧ Ty M' → mS M' ≤ B0 + 2 * rs G M' → Q (Int32.ofNat (W'.length - (dW (ws k)).length)) M')
    (hX : ∀ A' S' e M', runL (dB (ws k)) tp.length (0, dW (ws k), noM) (lns (pT tp) tp.length 0) = .inl e → A <+: A' → WWT G U1 A' S' on (up1 ws k (sSW (ws k) (dW (ws k)) n)) lf M' ∧ GTC G U1 BB A' S' T [] (Int32.ofNat e.2) L V P M' ∧ Fr TWF M M' ∧ Ty M' → mS M' ≤ B0 + 2 * rs G M' → Q (-10 - Int32.ofNat e.1) M') : w_Model_define 0 (Int32.ofNat k) Q M := by
  obtain ⟨nq, nl, nf, nk, B1, x, ⟨hR1, hx⟩, hb⟩ := (h.2.2.2 k hk).1 hon
  have hR := hR1.bb hB0
  obtain ⟨⟨hD, hD6⟩, hS⟩ := h.st hG hz hk
  have hTG := h.2.1.2
  have hxk := h.2.1.1.2 k (by omega)
  obtain ⟨⟨B2, hm, -⟩, ⟨h2, h3⟩, -⟩ := id hg
  have hBd : Bd (dD (ws k) + n, dD (ws k) + n, dD (ws k) + n, dD (ws k) + n) (tk (lns (pT tp) tp.length 0).tail) nq nl nf nk [] noM := by
    obtain ⟨b1, b2, b3, b4⟩ := hb
    exact ⟨by show nq + _ ≤ dD (ws k) + n; omega, by show nl + _ ≤ dD (ws k) + n; omega, by show nf + _ ≤ dD (ws k) + n; omega, by show nk + _ ≤ dD (ws k) + n; omega, by show 0 + 2 * _ ≤ 3800; omega, by show 0 + _ ≤ 3800; omega⟩
  have hKk : Kk (dD (ws k) + n, dD (ws k) + n, dD (ws k) + n, dD (ws k) + n) := ⟨by show dD (ws k) + n ≤ 3800; omega, by show dD (ws k) + n ≤ 3800; omega, by show dD (ws k) + n ≤ 3800; omega, by show dD (ws k) + n ≤ 3800; omega⟩
  have tw : TWx A S (dW (ws k)) k (dB (ws k)) nq nl nf nk M := hR.1.1.1.1
  refine mo_w_Model_define (T := fun q => q = 1000 + k) hD hD6 (by rw [n0k hk]) (Q := fun r M' => Fr F_Model_define M M' ∧ ((∃ A' S' W' nq' nl' nf' nk', runL (dB (ws k)) tp.length (0, dW (ws k), noM) (lns (pT tp) tp.length 0) = .inr W' ∧ r = Int32.ofNat (W'.length - (dW (ws k)).length) ∧ A <+: A' ∧ A' ⊆ BB ∧ TV (U1, S) A' S' M' ∧ TWx A' S' W' k (dB (ws k)) nq' nl' nf' nk' M' ∧ XLb M' ∧ rl M' sFr ≤ 20000 ∧ tNw (dW (ws k)).length W' k M' ∧ KR G k (dW (ws k)).length nq nl nf nk M M' ∧ Bd (dD (ws k) + n, dD (ws k) + n, dD (ws k) + n, dD (ws k) + n) 0 nq' nl' nf' nk' [] noM ∧ tpT [] M' ∧ mI M' 11 0 86 = -2 ∧ TKs A' M') ∨ (∃ A' S' e, runL (dB (ws k)) tp.length (0, dW (ws k), noM) (lns (pT tp) tp.length 0) = .inl e ∧ r = -10 - Int32.ofNat e.1 ∧ A <+: A' ∧ A' ⊆ BB ∧ TV (U1, S) A' S' M' ∧ TWx A' S' (dW (ws k)) k (dB (ws k)) nq nl nf nk M' ∧ XLb M' ∧ rl M' sFr ≤ 20000 ∧ KR G k (dW (ws k)).length nq nl nf nk M M' ∧ tpT [] M' ∧ mI M' 11 0 86 = Int32.ofNat e.2 ∧ TKs A' M'))) (fun r M' ho hx2 => ?_) hS (mf_w_Model_define (fun _ _ hf h => ⟨hf, h⟩) (ct_wdefine (K := (dD (ws k) + n, dD (ws k) + n, dD (ws k) + n, dD (ws k) + n)) hk h.1.2 hon h2 (by omega) hxk hTG hm.1.2.2.2 rfl tw hm.2.2.1.2.2.1 hm.2.2.1.2.2.2 hm.2.1.2.1 hm.2.1.1 hm.2.2.2.1 hm.2.1.2.2.2 hm.2.1.2.2.1 hB hKk hBd (fun A' S' W' M' nq' nl' nf' nk' y1 y2 y3 y4 y5 y6 y7 y8 _ y10 y11 y12 y13 _ y15 _ => Or.inl ⟨A', S', W', nq', nl', nf', nk', y1, rfl, y2, y3, y4, y5, y6, y7, y8, y10, y11, y12, y13, y15⟩) (fun A' S' e M' y1 y2 y3 y4 y5 y6 y7 y8 y9 y10 _ y12 _ => Or.inr ⟨A', S', e, y1, rfl, y2, y3, y4, y5, y6, y7, y8, y9, y10, y12⟩)))
  obtain ⟨hf, ⟨A', S', W', nq', nl', nf', nk', y1, e, y2, y3, y4, y5, y6, y7, y8, y10, y11, y12, y13, y15⟩ | ⟨A', S', x', y1, e, y2, y3, y4, y5, y6, y7, y8, y9, y10, y12⟩⟩ := hx2
  · subst e
    obtain ⟨hC', hW'⟩ := hp.1.1.run h21 hpt hn y1
    have hl : A'.length ≤ 200000 := by
      have := nd_le y4.1.1.2.1.1 y3
      have := hm.2.1.2.2.2
      omega
    have hR' := hR.grow hp.1.2.1.1.1 hp.1.2.2.2.2.2 y2 hl y4.2.1.2.2.2 hW' y5 y4 y15 y8 y10 hf
    obtain ⟨c1, c2, c3, c4, -⟩ := y11
    exact hQ A' S' W' M' y1 y2 (RT.nt h hg hk hon ho hf (K2.fr hf rfl) y10.1 XTp ⟨nq', nl', nf', nk', B0, x, ⟨hR'.us, hx⟩, c1, c2, c3, c4⟩ y2 y3 y4.2.1.2.2.2 y12 y13 ⟨y6, y7⟩) hR'.md.2.2.2.2.2.1
  · subst e
    have hl : A'.length ≤ 200000 := by
      have := nd_le y4.1.1.2.1.1 y3
      have := hm.2.1.2.2.2
      omega
    have hR' := hR.grow hp.1.2.1.1.1 hp.1.2.2.2.2.2 y2 hl y4.2.1.2.2.2 List.prefix_rfl y5 y4 y12 (fun j z1 z2 => absurd z2 (by omega)) y8 hf
    exact hX A' S' x' M' y1 y2 (RT.nt h hg hk hon ho hf (K2.fr hf rfl) y8.1 XTp ⟨nq, nl, nf, nk, B0, x, ⟨hR'.us, hx⟩, by show nq ≤ dD (ws k) + n; omega, by show nl ≤ dD (ws k) + n; omega, by show nf ≤ dD (ws k) + n; omega, by show nk ≤ dD (ws k) + n; omega⟩ y2 y3 y4.2.1.2.2.2 y9 y10 ⟨y6, y7⟩) hR'.md.2.2.2.2.2.1
end
