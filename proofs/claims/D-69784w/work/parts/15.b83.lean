/-! B: a text's classes come into a world of the works -/
/-- a world of the works, but for the reader -/
def CWx (A : List Nm) (W : List Cls) (w : Nat) (br : Int32) (nq nk np nh nr : Nat) (M : Mem) : Prop := (cCl A W w M ∧ cFl A W w M ∧ mI M 5 w 1 = br) ∧ cMs A W w 0 nq nk np nh nr M ∧ cCt W w 0 nq nk np nh nr M ∧ cRm w M ∧ nh ≤ 8 * ((allM W).length - 21)
theorem ex_oN (x : Int32) : ∃ c, x = Int32.ofNat c := ⟨x.toBitVec.toNat, by
  apply Int32.toBitVec_inj.mp
  rw [Int32.toBitVec_ofNat']
  simp⟩
theorem CW0.x {A : List Nm} {W : List Cls} {w : Nat} {br : Int32} {nq nk np nh nr : Nat} {M : Mem} (h : CW0 A W w br nq nk np nh nr M) : CWx A W w br nq nk np nh nr M ∧ cRd M := by
  obtain ⟨⟨c, h1⟩, h2, h3, h4, h5, h6⟩ := h
  exact ⟨⟨⟨h1.1, h1.2.1, h1.2.2.2.2⟩, h2, h3, h4, h6⟩, h5⟩
theorem CWx.z {A : List Nm} {W : List Cls} {w : Nat} {br : Int32} {nq nk np nh nr : Nat} {M : Mem} (h : CWx A W w br nq nk np nh nr M) (hd : cRd M) (hR : mR M 3 0 1 = some (5, w)) : CW0 A W w br nq nk np nh nr M := by
  obtain ⟨h1, h2, h3, h4, h6⟩ := h
  obtain ⟨c, hc⟩ := ex_oN (mI M 3 0 3)
  exact ⟨⟨c, h1.1, h1.2.1, hR, hc, h1.2.2⟩, h2, h3, h4, hd, h6⟩
theorem cFl.lo {A : List Nm} {W : List Cls} {w : Nat} {b : Nat → Nat} {M M' : Mem} (h : cFl A W w M) (hx : Lo w b M M') (e17 : mI M' 5 w 17 = mI M 5 w 17) (h1 : W.length ≤ b 41 ∧ W.length ≤ b 42) (h2 : ∀ f, (49 ≤ f ∧ f ≤ 54) ∨ f = 511 → (allF W).length ≤ b f) : cFl A W w M' := by
  obtain ⟨⟨a1, ⟨b1, b2', b3, b4, b5, b6, b7⟩, a3, a4⟩, d, g⟩ := h
  refine ⟨⟨e17.trans a1, ⟨((hx.1 49 rfl).2 w).trans b1, ((hx.1 50 rfl).2 w).trans b2', ((hx.1 51 rfl).2 w).trans b3, ((hx.1 52 rfl).2 w).trans b4, ((hx.1 511 rfl).2 w).trans b5, ((hx.1 53 rfl).2 w).trans b6, ((hx.1 54 rfl).2 w).trans b7⟩, ((hx.1 41 rfl).2 w).trans a3, ((hx.1 42 rfl).2 w).trans a4⟩, fun j hj => ?_, fun i hi => ?_⟩
  · rw [(hx.1 41 rfl).1 w j (Or.inr (by omega)), (hx.1 42 rfl).1 w j (Or.inr (by omega))]; exact d j hj
  · rw [(hx.1 49 rfl).1 w i (Or.inr (by have := h2 49 (by omega); omega)), (hx.1 50 rfl).1 w i (Or.inr (by have := h2 50 (by omega); omega)), (hx.1 51 rfl).1 w i (Or.inr (by have := h2 51 (by omega); omega)), (hx.1 52 rfl).1 w i (Or.inr (by have := h2 52 (by omega); omega)), (hx.1 511 rfl).1 w i (Or.inr (by have := h2 511 (by omega); omega))]; exact g i hi
theorem cCl.lo {A : List Nm} {W : List Cls} {w : Nat} {b : Nat → Nat} {M M' : Mem} (h : cCl A W w M) (hx : Lo w b M M') (e2 : mI M' 5 w 2 = mI M 5 w 2) (h1 : ∀ f, 36 ≤ f → f ≤ 40 → (if f = 38 then 4 * W.length else W.length) ≤ b f) : cCl A W w M' := by
  have hw : ∀ f, 36 ≤ f → f ≤ 40 → wFm f = true := fun f a c => by
    unfold wFm; rw [Bool.or_eq_true, Bool.and_eq_true]; exact Or.inl ⟨Nat.ble_eq.mpr (by omega), Nat.ble_eq.mpr (by omega)⟩
  exact h.of e2 (fun f a c k hk => (hx.1 f (hw f a c)).1 w k (Or.inr (Nat.lt_of_lt_of_le hk (h1 f a c)))) (fun f a c => (hx.1 f (hw f a c)).2 w)
theorem bA_at {c nf nm nq nk np nh nr f : Nat} (h : 49 ≤ f) : bA c nf nm nq nk np nh nr f = bT c nf nm nq nk np nh nr f := by unfold bA; rw [if_neg (by omega), if_neg (by omega)]
theorem bA_M {c nf nm nq nk np nh nr : Nat} : bM nm nq nk np nh nr (bA c nf nm nq nk np nh nr) := by
  refine ⟨fun f a b => ?_, ?_, fun f a b => ?_, ?_, ?_, ?_, ?_, ?_⟩
  · rw [bA_at (by omega)]; unfold bT; rw [if_neg (by omega), if_neg (by omega), if_pos ⟨a, b⟩]; exact Nat.le_refl _
  · exact Nat.le_refl _
  · rw [bA_at (by omega)]; unfold bT; rw [if_neg (by omega), if_neg (by omega), if_neg (by omega), if_neg (by omega), if_pos ⟨a, b⟩]; exact Nat.le_refl _
  all_goals exact Nat.le_refl _
/-- what a refused text leaves: the world as it was -/
theorem CWx.back {A A' : List Nm} {W : List Cls} {w : Nat} {br : Int32} {nq nk np nh nr : Nat} {M M' : Mem} (h : CWx A W w br nq nk np nh nr M) (hp : A <+: A') (hl : A'.length ≤ 200000) (hx : Lo w (bA W.length (allF W).length (allM W).length nq nk np nh nr) M M') (h1 : mI M' 5 w 1 = mI M 5 w 1) (h2 : mI M' 5 w 2 = mI M 5 w 2) (h17 : mI M' 5 w 17 = mI M 5 w 17) (h26 : mI M' 5 w 26 = mI M 5 w 26) (h39 : mI M' 5 w 39 = mI M 5 w 39) (h47 : mI M' 5 w 47 = mI M 5 w 47) (h49 : mI M' 5 w 49 = mI M 5 w 49) (h51 : mI M' 5 w 51 = mI M 5 w 51) (h53 : mI M' 5 w 53 = mI M 5 w 53) : CWx A' W w br nq nk np nh nr M' := by
  obtain ⟨⟨c1, c2, c3⟩, m, ⟨k1, k2, k3, k4, k5, k6⟩, r, e⟩ := h
  refine ⟨⟨(c1.lo hx h2 (fun f a c => ?_)).pre hp hl, (c2.lo hx h17 ⟨Nat.le_refl _, Nat.le_refl _⟩ (fun f q => ?_)).pre hp, h1.trans c3⟩, (m.lo hx (Nat.le_refl _) (Nat.le_refl _) bA_M).pre hp, ⟨h26.trans k1, h39.trans k2, h47.trans k3, h49.trans k4, h51.trans k5, h53.trans k6⟩, r.lo hx, e⟩
  · unfold bA
    by_cases q : f = 38
    · rw [if_pos q, if_pos q]; exact Nat.le_refl _
    · rw [if_neg q, if_neg q, if_pos (by omega)]; exact Nat.le_refl _
  · rw [bA_at (by omega)]; unfold bT; rw [if_neg (by omega), if_pos q]; exact Nat.le_refl _
