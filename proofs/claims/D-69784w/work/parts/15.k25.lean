/-! OPERATIONS OF THE TWIN on a world, in the whole: step print kinds -/
abbrev gtK : List Nat := [cd 11 121, 122, 412, 5122, 5412, 522, 123, 124, 5522, 5123, 5124, 5402, 5411, 5107, 5108, 5113, 5703, 703, 5520, 5521, 5120, 5121, 5125, 5126, 5127, 5128, 5129]
section
variable {G : List Sl} {U1 U2 : List (List Kd × Kd)} {BB A A' : List Nm} {S S' : List Sg} {on : Nat → Bool} {ws : Nat → Wld} {lf lf' k B F F' R : Nat} {M M' : Mem} {d : Wld} {T : List Trl} {tp tp' P P' : List Int32} {pl pl' a b c cc m : Int32} {L L' : Tl} {V V' : RV} {Q : Int32 → Mem → Prop}
/-- after an operation on world k of the twin -/
theorem GTC.nk (h : GTC G U1 BB A S T tp pl L V P M) (hGa : GaA G) (hTG : TG G M) (hk : k < 3) (hu : Uch k (DT G k M) M M') (hf : Fr R M M') (hTd' : tKd L' M') (hd : WdT G U1 A' S' k d M') (hA : A <+: A') (hAB : A' ⊆ BB) (htp : tpT tp' M') (hpl : mI M' 11 0 86 = pl') (hrc : tcB V' M') (hpo : tPo P' M' ∧ dPo M') (hX : XLb M' ∧ rl M' sFr ≤ 20000) (hS : okF R gtK = true := by rfl) : GTC G U1 BB A' S' T tp' pl' L' V' P' M' := by
  have o := fun {b : Nat} (hb : b ∈ gtK) => okF_in hS hb
  obtain ⟨nq', nl', nf', nk', B', x', ⟨hx', -⟩, -⟩ := hd
  obtain ⟨-, g1, g2, g3, g4, g5⟩ := hx'.md
  obtain ⟨⟨B, ⟨⟨hx, hR, hTG0, hV⟩, ⟨hKs, hA0, hAB0, hBl⟩, ⟨hgl, hmS, hXb, hrow⟩, hw3, h113, h703⟩, ⟨hx1, hx2⟩, hT⟩, -, hTd, ⟨-, h6⟩, -, h9, h10, h11, h12, h13, h14, h15⟩ := h
  exact ⟨⟨mS M', ⟨⟨hx, hR.oth hx hTG (by omega) hu, g1, g2⟩, ⟨g3, hA0.trans hA, hAB, hBl⟩, ⟨g4, ⟨Nat.le_add_right _ _, g5.2.1, g5.2.2⟩, hX.1, hX.2⟩, ⟨(hf.L (f := 411) (o (by simp)) 0).trans hw3.1, (hf.L (f := 107) (o (by simp)) 0).trans hw3.2.1, (hf.L (f := 108) (o (by simp)) 0).trans hw3.2.2⟩, (hf.L (f := 113) (o (by simp)) 0).trans h113, (hf.L (f := 703) (o (by simp)) 0).trans h703.1, (hf.Ra (f := 703) rfl (o (by simp)) 0 3).trans h703.2⟩, ⟨hx1.fr hf (okF_sub hS (by rfl)), hx2.fr hf (okF_sub hS (by rfl))⟩, hT⟩, ⟨htp, hpl⟩, hTd', ⟨hrc, (hf.L (f := 520) (o (by simp)) 0).trans h6⟩, hpo, ⟨(hf.L (f := 521) (o (by simp)) 0).trans h9.1, (hf.L (f := 120) (o (by simp)) 0).trans h9.2.1, (hf.L (f := 121) (o (by simp)) 0).trans h9.2.2⟩, (hf.L (f := 125) (o (by simp)) 0).trans h10, (hf.L (f := 126) (o (by simp)) 0).trans h11, (hf.L (f := 127) (o (by simp)) 0).trans h12, (hf.L (f := 128) (o (by simp)) 0).trans h13, (hf.L (f := 129) (o (by simp)) 0).trans h14, h15.u hu (by omega)⟩
theorem TAx.ff {W : List Cls} {w nq nl nf nk : Nat} {br x : Int32} {US : UST} {s : Ms} (h : TAx G US A S W w br nq nl nf nk B F x s M) (hF : F ≤ F') : TAx G US A S W w br nq nl nf nk B F' x s M := by
  have h : TA G US A S W w br nq nl nf nk B F x s (sR M 11 0 45 (some (12, w))) := h
  obtain ⟨a, b, ⟨c1, c2, c3, c4⟩, d⟩ := h
  exact ⟨a, b, ⟨c1, c2, fun y hy => ⟨(c3 y hy).1, (c3 y hy).2.1, by have := (c3 y hy).2.2; omega⟩, c4⟩, d⟩
theorem gow_K {br : Int32} {W : List Cls} {K f n : Nat} {s : Ms} (hW : WO W) (hG : GI W K s) (hb : zK s + n + K + 300 < 1000000) : zK s ≤ zK (gowS br W f n s).2 := gow_ind (P := fun x => zK s ≤ zK x) hW (fun x t s1 g b e h => by
  rcases (turn_ok (br := br) hW g b e).2.2 with z | z
  · rw [z.1]; exact h
  · rw [z]; omega) f n s hG hb (Nat.le_refl _)
theorem step_K {br : Int32} {W : List Cls} {K l : Nat} {s : Ms} (hW : WO W) (hG : GI W K s) (hb : zK s + 4000 + K + 300 < 1000000) : zK s ≤ zK (stepO br W l a s).2 := by
  unfold stepO
  by_cases c1 : a < 1 ∨ 4000 < a
  · rw [if_pos c1]; exact Nat.le_refl _
  rw [if_neg c1]
  by_cases c2 : ¬ thereS s
  · rw [if_pos c2]; exact Nat.le_refl _
  rw [if_neg c2]
  by_cases c3 : ¬ anyOn s
  · rw [if_pos c3]; exact Nat.le_refl _
  rw [if_neg c3]
  by_cases c4 : a.toNatClampNeg ≤ l
  · rw [if_pos c4]
    obtain ⟨m, -, m4, -, em⟩ := i4000 (fun z => c1 (Or.inl z)) (fun z => c1 (Or.inr z))
    exact gow_K hW hG (by rw [em]; omega)
  · rw [if_neg c4]; exact Nat.le_refl _
theorem T_step (hF : dF (ws k) ≤ F') (hF1 : zK (dS (ws k)) + 4000 + dK (ws k) + 300 < F') (hF2 : F' < 1000000) {B0 : Nat} (hB0 : mS M ≤ B0 + 2 * rs G M) (h : WWT G U1 A S on ws lf M) (hg : GTC G U1 BB A S T tp pl L V P M) (hG : GM M) (hz : ∀ q, 3 ≤ q → mR M 702 0 q = none) (hk : k < 3) (hon : on k = true) (hp : SpD (ws k)) {s' : Ms} (hs : s' = (stepO (dB (ws k)) (dW (ws k)) lf a (dS (ws k))).2) (hz' : zK s' ≤ zK (dS (ws k)) + lf)
    (hQ : ∀ M', WWT G U1 A S on (up1 ws k (sSF (ws k) s' F')) (zK (dS (ws k)) + lf - zK s') M' ∧ GTC G U1 BB A S T tp pl L V P M' ∧ Fr TWF M M' ∧ Ty M' → mS M' ≤ B0 + 2 * rs G M' → Q (stepO (dB (ws k)) (dW (ws k)) lf a (dS (ws k))).1 M') : w_Model_step 0 (Int32.ofNat k) a Q M := by
  obtain ⟨nq, nl, nf, nk, B1, x, ⟨hR1, hx⟩, hb⟩ := (h.2.2.2 k hk).1 hon
  have hR := hR1.bb hB0
  obtain ⟨⟨hD, hD6⟩, hS⟩ := h.st hG hz hk
  have hl := h.2.2.1.1
  have e0 : zK (dS (ws k)) + lf - zK (dS (ws k)) = lf := Nat.add_sub_cancel_left _ _
  have hm : zK (dS (ws k)) ≤ zK s' := by rw [hs]; exact step_K hp.1.1.1 hp.1.2.1.1.1 (by omega)
  have key := ct_wstep2 (C := zK (dS (ws k)) + lf) (ud := 60000 - lf) (Q := fun r M' => r = (stepO (dB (ws k)) (dW (ws k)) lf a (dS (ws k))).1 ∧ mI M' 11 0 93 = Int32.ofNat (60000 - lf + (zK s' - zK (dS (ws k)))) ∧ ∃ x', TAx G (U1, S) A S (dW (ws k)) k (dB (ws k)) nq nl nf nk B0 F' x' s' M' ∧ TI2 x' s') (a := a) hk h.1.2 hon hp.1.1.1 hp.1.1.i hF2 hF1 (hR.ff hF) hp.1.2.1.1.1 hx (Nat.le_add_right _ _) h.2.2.1.2 (by omega) (fun x' M' hR' _ hx' h93 => by
    rw [e0] at hR' hx' h93 ⊢
    rw [← hs] at hR' hx' h93
    exact ⟨rfl, h93, x', hR', hx'⟩)
  refine mo_w_Model_step (T := fun q => q = 1000 + k) hD hD6 (by rw [n0k hk]) (Q := fun r M' => Fr F_Model_step M M' ∧ K2 0 M M' ∧ r = (stepO (dB (ws k)) (dW (ws k)) lf a (dS (ws k))).1 ∧ mI M' 11 0 93 = Int32.ofNat (60000 - lf + (zK s' - zK (dS (ws k)))) ∧ ∃ x', TAx G (U1, S) A S (dW (ws k)) k (dB (ws k)) nq nl nf nk B0 F' x' s' M' ∧ TI2 x' s') (fun r M' ho hx2 => ?_) hS (mf_w_Model_step (fun _ _ hf h => ⟨hf, h⟩) (mt_w_Model_step (fun _ _ h1 h => ⟨h1, h⟩) key))
  obtain ⟨hf, hk2, e, h93, x', hR', hx'⟩ := hx2
  subst e
  exact hQ M' (RT.nx h hg hk hon ho hf hk2 ⟨nq, nl, nf, nk, B0, x', ⟨hR', hx'⟩, hb⟩ (by omega) (by rw [h93]; congr 1; omega) (hg.2.2.2.1.1.fr hf)) hR'.md.2.2.2.2.2.1
theorem T_print {B0 : Nat} (hB0 : mS M ≤ B0 + 2 * rs G M) (h : WWT G U1 A S on ws lf M) (hg : GTC G U1 BB A S T tp pl L V P M) (hG : GM M) (hz : ∀ q, 3 ≤ q → mR M 702 0 q = none) (hk : k < 3) (hon : on k = true) (hp : SpD (ws k))
    (hQ : ∀ M', WWT G U1 A S on (up1 ws k (ws k)) lf M' ∧ GTC G U1 BB A S T tp pl L V (prtO (dW (ws k)) c P).2 M' ∧ Fr TWF M M' ∧ Ty M' → mS M' ≤ B0 + 2 * rs G M' → Q (prtO (dW (ws k)) c P).1 M') : w_Model_print 0 (Int32.ofNat k) c Q M := by
  obtain ⟨nq, nl, nf, nk, B1, x, ⟨hR1, hx⟩, hb⟩ := (h.2.2.2 k hk).1 hon
  have hR := hR1.bb hB0
  obtain ⟨⟨hD, hD6⟩, hS⟩ := h.st hG hz hk
  have hGa := h.2.1.1.1
  have hTG := h.2.1.2
  have hx3 := h.2.1.1.2 3 (by omega)
  obtain ⟨p1, p2, p3⟩ := hGa.p
  have hg0 := hg
  obtain ⟨⟨B2, hm, -⟩, ⟨h2, h3⟩, -, ⟨h5, -⟩, ⟨h7, h8⟩, -⟩ := hg
  refine mo_w_Model_print (T := fun q => q = 1000 + k) hD hD6 (by rw [n0k hk]) (Q := fun r M' => Fr F_Model_print M M' ∧ r = (prtO (dW (ws k)) c P).1 ∧ TAx G (U1, S) A S (dW (ws k)) k (dB (ws k)) nq nl nf nk B0 (dF (ws k)) x (dS (ws k)) M' ∧ tPo (prtO (dW (ws k)) c P).2 M') (fun r M' ho hx2 => ?_) hS (mf_w_Model_print (fun _ _ hf h => ⟨hf, h⟩) (ct_wprint hk h.1.2 hon hp.1.1.1 hp.1.1.2.1.2.1 p1 hR h7 (fun M' hR' hpo _ _ => ⟨rfl, hR', hpo⟩)))
  obtain ⟨hf, e, hR', hpo⟩ := hx2
  subst e
  have hT := ho.2.2 h.1.1
  have hd : WdT G U1 A S k (ws k) M' := ⟨nq, nl, nf, nk, B0, x, ⟨hR', hx⟩, hb⟩
  exact hQ M' ⟨h.next hk hon ho.2.1 hd List.prefix_rfl List.prefix_rfl hT (h.1.2.fr hf) h.2.2.1.1 ((hf.I (f := 11) (k := 93) rfl 0).trans h.2.2.1.2), hg0.nx hGa hTG hk ho.2.1 hf (K2.fr hf rfl) hd List.prefix_rfl hm.2.1.2.2.1 (h2.fr hf) ((hf.I (f := 11) (k := 86) rfl 0).trans h3) (h5.fr hf) ⟨hpo, h8.fr p2 p3 hTG hf⟩ ⟨hm.2.2.1.2.2.1.kp hf hTG hx3.2.2.2.2.1, by rw [rl_keep hf hTG hx3.2.2.2.2.2]; exact hm.2.2.1.2.2.2⟩, hf.sub rfl, hT⟩ hR'.md.2.2.2.2.2.1
theorem T_kinds {inf : Bool} {B0 : Nat} (hB0 : mS M ≤ B0 + 2 * rs G M) (h : WWT G U1 A S on ws lf M) (hg : GTC G U1 BB A S T tp pl L V P M) (hG : GM M) (hz : ∀ q, 3 ≤ q → mR M 702 0 q = none) (hk : k < 3) (hon : on k = true) (hp : SpD (ws k))
    (hQ : ∀ M', WWT G U1 A S on (up1 ws k (ws k)) lf M' ∧ GTC G U1 BB A S T tp pl (kinO (dW (ws k)) c m inf L).2 V P M' ∧ Fr TWF M M' ∧ Ty M' → mS M' ≤ B0 + 2 * rs G M' → Q (kinO (dW (ws k)) c m inf L).1 M') : w_Model_kinds 0 (Int32.ofNat k) c m (b2 inf) Q M := by
  obtain ⟨nq, nl, nf, nk, B1, x, ⟨hR1, hx⟩, hb⟩ := (h.2.2.2 k hk).1 hon
  have hR := hR1.bb hB0
  obtain ⟨⟨hD, hD6⟩, hS⟩ := h.st hG hz hk
  have hGa := h.2.1.1.1
  have hTG := h.2.1.2
  have hx3 := h.2.1.1.2 3 (by omega)
  obtain ⟨p1, p2, p3⟩ := hGa.p
  have hg0 := hg
  obtain ⟨⟨B2, hm, -⟩, ⟨h2, h3⟩, hTd, ⟨h5, -⟩, ⟨h7, h8⟩, -⟩ := hg
  refine mo_w_Model_kinds (T := fun q => q = 1000 + k) hD hD6 (by rw [n0k hk]) (Q := fun r M' => Fr F_Model_kinds M M' ∧ r = (kinO (dW (ws k)) c m inf L).1 ∧ tKd (kinO (dW (ws k)) c m inf L).2 M' ∧ TAx G (U1, S) A S (dW (ws k)) k (dB (ws k)) nq nl nf nk B0 (dF (ws k)) x (dS (ws k)) M') (fun r M' ho hx2 => ?_) hS (mf_w_Model_kinds (fun _ _ hf h => ⟨hf, h⟩) (ct_wkinds hk h.1.2 hon hp.1.1.1 hp.1.1.2.1.2.1 hR hTd (fun M' hTd' hR' => ⟨rfl, hTd', hR'⟩)))
  obtain ⟨hf, e, hTd', hR'⟩ := hx2
  subst e
  have hT := ho.2.2 h.1.1
  have hd : WdT G U1 A S k (ws k) M' := ⟨nq, nl, nf, nk, B0, x, ⟨hR', hx⟩, hb⟩
  exact hQ M' ⟨h.next hk hon ho.2.1 hd List.prefix_rfl List.prefix_rfl hT (h.1.2.fr hf) h.2.2.1.1 ((hf.I (f := 11) (k := 93) rfl 0).trans h.2.2.1.2), hg0.nk hGa hTG hk ho.2.1 hf hTd' hd List.prefix_rfl hm.2.1.2.2.1 (h2.fr hf) ((hf.I (f := 11) (k := 86) rfl 0).trans h3) (h5.fr hf) ⟨h7.fr p1 hTG hf, h8.fr p2 p3 hTG hf⟩ ⟨hm.2.2.1.2.2.1.kp hf hTG hx3.2.2.2.2.1, by rw [rl_keep hf hTG hx3.2.2.2.2.2]; exact hm.2.2.1.2.2.2⟩, hf.sub rfl, hT⟩ hR'.md.2.2.2.2.2.1
end
