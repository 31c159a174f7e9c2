/-! OPERATIONS OF THE WORKS on a world, in the whole: step reach print -/
abbrev gwN : List Nat := [cd 1 4, 20, 21, 22, 600, 5020, 5021, 5022, 5600, cd 3 17, 5023, 5024, 5025, 5026, 5027, 5028, 5029, 5211, cd 10 1, 400, 5400, cd 10 21, 5517, 702, 5702, cd 6 35]
section
variable {BB A : List Nm} {on : Nat → Bool} {ws : Nat → Wld} {lf lf' k B F F' R : Nat} {M M' : Mem} {d : Wld} {T : List Trl} {tp P P' : List Int32} {pl a b c cc : Int32} {L : Tl} {V V' : RV} {T0 : Nat → Prop} {h0 : Hot} {Q : Int32 → Mem → Prop}
/-- after an operation on world k of the works that leaves names and tape alone -/
theorem RW.nv (h : WWC A on ws lf M) (hg : GWC BB A T tp pl L V P M) (hk : k < 3) (hon : on k = true) (ho : Ow (k + 1) (DC (k + 1) M) T0 h0 M M') (hf : Fr R M M') (hk1 : K1 M M') (hd : WdC A lf' k d M') (h8 : mI M' 10 0 8 = Int32.ofNat lf') (hrc : rcB V' M') (hpo : cPo P' M') (hS1 : gmOk R = true := by rfl) (hS2 : okF R gwL = true := by rfl) (hS3 : okF R gwN = true := by rfl) (hW : R &&& WKF = R := by rfl) : WWC A on (up1 ws k d) lf' M' ∧ GWC BB A T tp pl L V' P' M' ∧ Fr WKF M M' ∧ Ty M' ∧ CpE (k + 1) M M' := by
  have o := fun {b : Nat} (hb : b ∈ gwN) => okF_in hS3 hb
  obtain ⟨w1, w2, w3, w4⟩ := h.next hk ho hf List.prefix_rfl hg.na.2 hd hon (h.1.2.fr hf (o (by simp)) (o (by simp))) h8 ((hf.I (f := 6) (k := 35) (o (by simp)) _).trans (h.2.1.2 k hk)) hS1
  refine ⟨w1, ?_, hf.sub hW, ho.2.2 h.1.1.1, CpE.of h hg w4⟩
  have hg0 := hg
  obtain ⟨⟨B, hwk, -⟩, ⟨h2, h3⟩, -, ⟨h5, h6⟩, h7, -⟩ := hg
  exact GWC.nx hg0 hf hk1 (hwk.1.1.fr hf (okF_sub hS3 (by rfl))) w2 w3 h8 (hwk.2.1.1.fr hf (okF_sub hS3 (by rfl))) hd.lk (h2.fr hf (okF_sub hS3 (by rfl))) ((hf.I (f := 10) (k := 21) (o (by simp)) 0).trans h3) ⟨hrc, (hf.L (f := 517) (o (by simp)) 0).trans h6⟩ hpo hS2
theorem W_step (hF : dF (ws k) ≤ F') (hF1 : zK (dS (ws k)) + 4000 + dK (ws k) + 300 < F') (hF2 : F' < 1000000) (hC : zK (dS (ws k)) + lf < 1000000) {B0 : Nat} (hB0 : mS M ≤ B0 + 8 * capC (k + 1) M) (h : WWC A on ws lf M) (hg : GWC BB A T tp pl L V P M) (hk : k < 3) (hon : on k = true) (hp : SpD (ws k))
    (hQ : ∀ M' s', s' = (stepO (dB (ws k)) (dW (ws k)) lf a (dS (ws k))).2 → zK s' ≤ zK (dS (ws k)) + lf → WWC A on (up1 ws k (sSF (ws k) s' F')) (zK (dS (ws k)) + lf - zK s') M' ∧ GWC BB A T tp pl L V P M' ∧ Fr WKF M M' ∧ Ty M' ∧ CpE (k + 1) M M' → mS M' ≤ B0 + 8 * capC (k + 1) M' → Q (stepO (dB (ws k)) (dW (ws k)) lf a (dS (ws k))).1 M') : w_Works_step 0 (Int32.ofNat k) a Q M := by
  obtain ⟨nq, nk, np, nh, nr, B1, hR1, hb⟩ := (h.2.2 k hk).1 hon
  have hR := hR1.bb hB0
  obtain ⟨hD, hS⟩ := h.st hk hon
  have e0 : zK (dS (ws k)) + lf - zK (dS (ws k)) = lf := Nat.add_sub_cancel_left _ _
  have key := c_wstep2 (Q := fun r M' => r = (stepO (dB (ws k)) (dW (ws k)) lf a (dS (ws k))).1 ∧ RA A (dW (ws k)) (k + 1) (dB (ws k)) nq nk np nh nr (zK (dS (ws k)) + lf) B0 F' (stepO (dB (ws k)) (dW (ws k)) lf a (dS (ws k))).2 M') (a := a) hk h.1.2 hon hp.1.1.1 (hb.kb hp.2) hg.na.1 hF2 hC hF1 (hR.ff hF) hp.1.2.1.1.1 (h.2.1.2 k hk) (fun M' hR' _ => by rw [e0] at hR' ⊢; exact ⟨rfl, hR'⟩)
  refine mo_w_Works_step (T := fun q => q = k) hD (n0k hk) (Q := fun r M' => Fr F_Works_step M M' ∧ K1 M M' ∧ r = (stepO (dB (ws k)) (dW (ws k)) lf a (dS (ws k))).1 ∧ RA A (dW (ws k)) (k + 1) (dB (ws k)) nq nk np nh nr (zK (dS (ws k)) + lf) B0 F' (stepO (dB (ws k)) (dW (ws k)) lf a (dS (ws k))).2 M') (fun r M' ho hx => ?_) hS (mf_w_Works_step (fun _ _ hf h => ⟨hf, h⟩) (mc_w_Works_step (fun _ _ h1 h => ⟨h1, h⟩) key))
  obtain ⟨hf, hk1, e, hR'⟩ := hx
  subst e
  obtain ⟨hz, h8⟩ := hR'.c8 ((hf.I (f := 6) (k := 35) rfl _).trans (h.2.1.2 k hk))
  generalize hs : (stepO (dB (ws k)) (dW (ws k)) lf a (dS (ws k))).2 = s' at hR' hz h8
  exact hQ M' s' hs.symm hz (RW.nx h hg hk hon ho hf hk1 ⟨nq, nk, np, nh, nr, B0, by
    rw [show zK (dS (sSF (ws k) s' F')) + (zK (dS (ws k)) + lf - zK s') = zK (dS (ws k)) + lf from Nat.add_sub_cancel' hz]; exact hR', hb⟩ h8) hR'.cap.1.2.2
theorem rch_K {br : Int32} {W : List Cls} {s : Ms} : zK (rchO br W cc a V s).2.2 = zK s := by
  unfold rchO
  split <;> rfl
theorem W_reach {B0 : Nat} (hB0 : mS M ≤ B0 + 8 * capC (k + 1) M) (h : WWC A on ws lf M) (hg : GWC BB A T tp pl L V P M) (hk : k < 3) (hon : on k = true) (hp : SpD (ws k))
    (hQ : ∀ M', WWC A on (up1 ws k (sS (ws k) (rchO (dB (ws k)) (dW (ws k)) cc a V (dS (ws k))).2.2)) lf M' ∧ GWC BB A T tp pl L (rchO (dB (ws k)) (dW (ws k)) cc a V (dS (ws k))).2.1 P M' ∧ Fr WKF M M' ∧ Ty M' ∧ CpE (k + 1) M M' → mS M' ≤ B0 + 8 * capC (k + 1) M' → Q (rchO (dB (ws k)) (dW (ws k)) cc a V (dS (ws k))).1 M') : w_Works_reach 0 (Int32.ofNat k) cc a Q M := by
  obtain ⟨nq, nk, np, nh, nr, B1, hR1, hb⟩ := (h.2.2 k hk).1 hon
  have hR := hR1.bb hB0
  obtain ⟨hD, hS⟩ := h.st hk hon
  refine mo_w_Works_reach (T := fun q => q = k) hD (n0k hk) (Q := fun r M' => Fr F_Works_reach M M' ∧ K1 M M' ∧ r = (rchO (dB (ws k)) (dW (ws k)) cc a V (dS (ws k))).1 ∧ RA A (dW (ws k)) (k + 1) (dB (ws k)) nq nk np nh nr (zK (dS (ws k)) + lf) B0 (dF (ws k)) (rchO (dB (ws k)) (dW (ws k)) cc a V (dS (ws k))).2.2 M' ∧ rcB (rchO (dB (ws k)) (dW (ws k)) cc a V (dS (ws k))).2.1 M') (fun r M' ho hx => ?_) hS (mf_w_Works_reach (fun _ _ hf h => ⟨hf, h⟩) (mc_w_Works_reach (fun _ _ h1 h => ⟨h1, h⟩) (c_wreach hk h.1.2 hon hp.1.1.1 hp.1.2.1.1.1.1.1.1 (hb.kb hp.2) hg.na.1 hg.2.2.2.1.1 hg.2.2.2.1.2 hR (fun M' hR' _ hrc => ⟨rfl, hR', hrc⟩))))
  obtain ⟨hf, hk1, e, hR', hrc⟩ := hx
  subst e
  exact hQ M' (RW.nv h hg hk hon ho hf hk1 ⟨nq, nk, np, nh, nr, B0, by rw [show zK (dS (sS (ws k) (rchO (dB (ws k)) (dW (ws k)) cc a V (dS (ws k))).2.2)) = zK (dS (ws k)) from rch_K]; exact hR', hb⟩ ((hf.I (f := 10) (k := 8) rfl 0).trans h.2.1.1) hrc (hg.2.2.2.2.1.fr hf)) hR'.cap.1.2.2
theorem W_print {B0 : Nat} (hB0 : mS M ≤ B0 + 8 * capC (k + 1) M) (h : WWC A on ws lf M) (hg : GWC BB A T tp pl L V P M) (hk : k < 3) (hon : on k = true) (hp : SpD (ws k))
    (hQ : ∀ M', WWC A on (up1 ws k (ws k)) lf M' ∧ GWC BB A T tp pl L V (prtO (dW (ws k)) c P).2 M' ∧ Fr WKF M M' ∧ Ty M' ∧ CpE (k + 1) M M' → mS M' ≤ B0 + 8 * capC (k + 1) M' → Q (prtO (dW (ws k)) c P).1 M') : w_Works_print 0 (Int32.ofNat k) c Q M := by
  obtain ⟨nq, nk, np, nh, nr, B1, hR1, hb⟩ := (h.2.2 k hk).1 hon
  have hR := hR1.bb hB0
  obtain ⟨hD, hS⟩ := h.st hk hon
  refine mo_w_Works_print (T := fun q => q = k) hD (n0k hk) (Q := fun r M' => Fr F_Works_print M M' ∧ r = (prtO (dW (ws k)) c P).1 ∧ RA A (dW (ws k)) (k + 1) (dB (ws k)) nq nk np nh nr (zK (dS (ws k)) + lf) B0 (dF (ws k)) (dS (ws k)) M' ∧ cPo (prtO (dW (ws k)) c P).2 M') (fun r M' ho hx => ?_) hS (mf_w_Works_print (fun _ _ hf h => ⟨hf, h⟩) (c_wprint hk h.1.2 hon hp.1.1.1 hp.1.1.2.1.2.1 (hb.kb hp.2) hg.na.2 hg.nc.1 hg.nc.2.1 hR hg.2.2.2.2.1 (fun M' hR' hpo _ => ⟨rfl, hR', hpo⟩)))
  obtain ⟨hf, e, hR', hpo⟩ := hx
  subst e
  exact hQ M' (RW.nv h hg hk hon ho hf (K1.fr hf rfl) ⟨nq, nk, np, nh, nr, B0, hR', hb⟩ ((hf.I (f := 10) (k := 8) rfl 0).trans h.2.1.1) (hg.2.2.2.1.1.fr hf) hpo) hR'.cap.1.2.2
end
