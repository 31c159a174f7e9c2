/-! OPERATIONS OF THE WORKS on a world, in the whole: link quantum halt step foretell collect -/
abbrev sS (d : Wld) (s : Ms) : Wld := (d.1, d.2.1, s, d.2.2.2)
abbrev sSF (d : Wld) (s : Ms) (f : Nat) : Wld := (d.1, d.2.1, s, d.2.2.2.1, d.2.2.2.2.1, f, d.2.2.2.2.2.2)
/-- what holds of a world that is on -/
def SpD (d : Wld) : Prop := (SpC (dW d) ∧ SpM (dW d) (dK d) (dS d)) ∧ dD d ≤ 2800
abbrev gwM : List Nat := [cd 1 4, 20, 21, 22, 600, 5020, 5021, 5022, 5600, cd 3 17, 5023, 5024, 5025, 5026, 5027, 5028, 5029, 5211, cd 10 1, 400, 5400, cd 10 21, cd 10 27, 101, 102, 5101, 5102, 5517, 5096, 5410, cd 8 1, 410, cd 8 2, cd 8 3, 702, 5702, cd 6 35]
section
variable {G : List Sl} {U1 : List (List Kd × Kd)} {BB A : List Nm} {on : Nat → Bool} {ws : Nat → Wld} {lf lf' k B F R : Nat} {M M' : Mem} {d : Wld} {T : List Trl} {tp P : List Int32} {pl a b c cc : Int32} {L : Tl} {V : RV} {T0 : Nat → Prop} {h0 : Hot} {Q : Int32 → Mem → Prop}
/-- the other worlds of the works hold as many faults as they did -/
def CpE (w : Nat) (M M' : Mem) : Prop := ∀ v, v < 4 → v ≠ w → capC v M' = capC v M
theorem WWC.r22 {v : Nat} (h : WWC A on ws lf M) (hg : GWC BB A T tp pl L V P M) (hv : v < 4) : ∃ j, mR M 6 v 22 = some (301, j) := by
  by_cases e : v = 0
  · subst e
    obtain ⟨⟨B, hT⟩, -⟩ := hg
    exact hT.1.1.2.cap.2
  · obtain ⟨u, rfl⟩ : ∃ u, v = u + 1 := ⟨v - 1, by omega⟩
    cases ho : on u with
    | true =>
      obtain ⟨nq, nk, np, nh, nr, B, hR, -⟩ := (h.2.2 u (by omega)).1 ho
      exact hR.cap.2
    | false =>
      obtain ⟨B, hr⟩ := (h.2.2 u (by omega)).2 ho
      exact hr.cap.2
theorem CpE.of {w : Nat} (h : WWC A on ws lf M) (hg : GWC BB A T tp pl L V P M) (hs : ∀ v, v < 4 → v ≠ w → SmC v M M') : CpE w M M' := fun v hv hne => capC.sm (hs v hv hne) (WWC.r22 h hg hv)
theorem GWC.nc (h : GWC BB A T tp pl L V P M) : NC BB A M := by
  obtain ⟨⟨B, h⟩, -⟩ := h
  exact h.1.1.1
theorem GWC.na (h : GWC BB A T tp pl L V P M) : nA A ∧ A.length ≤ 200000 := by
  have := h.nc.len
  exact ⟨h.nc.nA (by omega), by omega⟩
theorem RA.c8 {W : List Cls} {w C nq nk np nh nr : Nat} {br : Int32} {s : Ms} (h : RA A W w br nq nk np nh nr C B F s M) (h35 : mI M 6 w 35 = 0) : zK s ≤ C ∧ mI M 10 0 8 = Int32.ofNat (C - zK s) := by
  obtain ⟨-, -, -, ⟨-, ⟨-, -, hK⟩, -⟩, -⟩ := h
  rcases hK with z | z
  · rw [h35] at z; exact absurd z (by decide)
  · exact z.2
/-- after an operation on world k of the works that leaves names, tape, methods reached and page alone -/
theorem RW.nx (h : WWC A on ws lf M) (hg : GWC BB A T tp pl L V P M) (hk : k < 3) (hon : on k = true) (ho : Ow (k + 1) (DC (k + 1) M) T0 h0 M M') (hf : Fr R M M') (hk1 : K1 M M') (hd : WdC A lf' k d M') (h8 : mI M' 10 0 8 = Int32.ofNat lf') (hS1 : gmOk R = true := by rfl) (hS2 : okF R gwL = true := by rfl) (hS3 : okF R gwM = true := by rfl) (hW : R &&& WKF = R := by rfl) : WWC A on (up1 ws k d) lf' M' ∧ GWC BB A T tp pl L V P M' ∧ Fr WKF M M' ∧ Ty M' ∧ CpE (k + 1) M M' := by
  have o := fun {b : Nat} (hb : b ∈ gwM) => okF_in hS3 hb
  obtain ⟨w1, w2, w3, w4⟩ := h.next hk ho hf List.prefix_rfl hg.na.2 hd hon (h.1.2.fr hf (o (by simp)) (o (by simp))) h8 ((hf.I (f := 6) (k := 35) (o (by simp)) _).trans (h.2.1.2 k hk)) hS1
  refine ⟨w1, ?_, hf.sub hW, ho.2.2 h.1.1.1, CpE.of h hg w4⟩
  have hg0 := hg
  obtain ⟨⟨B, hwk, -⟩, ⟨h2, h3⟩, -, ⟨h5, h6⟩, h7, -⟩ := hg
  exact GWC.nx hg0 hf hk1 (hwk.1.1.fr hf (okF_sub hS3 (by rfl))) w2 w3 h8 (hwk.2.1.1.fr hf (okF_sub hS3 (by rfl))) hd.lk (h2.fr hf (okF_sub hS3 (by rfl))) ((hf.I (f := 10) (k := 21) (o (by simp)) 0).trans h3) ⟨h5.fr hf (okF_sub hS3 (by rfl)), (hf.L (f := 517) (o (by simp)) 0).trans h6⟩ (h7.fr hf (okF_sub hS3 (by rfl))) hS2
theorem n0k (hk : k < 3) : (Int32.ofNat k).toNatClampNeg = k := oN_tnc (by omega)
theorem lnk_K {br : Int32} {W : List Cls} {s : Ms} : zK (lnkO br W c s).2 = zK s := by
  unfold lnkO
  split <;> rfl
theorem W_link {B0 : Nat} (hB0 : mS M ≤ B0 + 8 * capC (k + 1) M) (h : WWC A on ws lf M) (hg : GWC BB A T tp pl L V P M) (hk : k < 3) (hon : on k = true) (hp : SpD (ws k))
    (hQ : ∀ M', WWC A on (up1 ws k (sS (ws k) (lnkO (dB (ws k)) (dW (ws k)) c (dS (ws k))).2)) lf M' ∧ GWC BB A T tp pl L V P M' ∧ Fr WKF M M' ∧ Ty M' ∧ CpE (k + 1) M M' → mS M' ≤ B0 + 8 * capC (k + 1) M' → Q (lnkO (dB (ws k)) (dW (ws k)) c (dS (ws k))).1 M') : w_Works_link 0 (Int32.ofNat k) c Q M := by
  obtain ⟨nq, nk, np, nh, nr, B1, hR1, hb⟩ := (h.2.2 k hk).1 hon
  have hR := hR1.bb hB0
  obtain ⟨hD, hS⟩ := h.st hk hon
  refine mo_w_Works_link (T := fun q => q = k) hD (n0k hk) (Q := fun r M' => Fr F_Works_link M M' ∧ K1 M M' ∧ r = (lnkO (dB (ws k)) (dW (ws k)) c (dS (ws k))).1 ∧ RA A (dW (ws k)) (k + 1) (dB (ws k)) nq nk np nh nr (zK (dS (ws k)) + lf) B0 (dF (ws k)) (lnkO (dB (ws k)) (dW (ws k)) c (dS (ws k))).2 M') (fun r M' ho hx => ?_) hS (mf_w_Works_link (fun _ _ hf h => ⟨hf, h⟩) (mc_w_Works_link (fun _ _ h1 h => ⟨h1, h⟩) (c_wlink hk h.1.2 hon hp.1.1.1 hp.1.2.1.1.1.1.1.1.1.1 (hb.kb hp.2) hg.na.1 hR (fun M' hR' => ⟨rfl, hR'⟩))))
  obtain ⟨hf, hk1, e, hR'⟩ := hx
  subst e
  exact hQ M' (RW.nx h hg hk hon ho hf hk1 ⟨nq, nk, np, nh, nr, B0, by rw [show zK (dS (sS (ws k) (lnkO (dB (ws k)) (dW (ws k)) c (dS (ws k))).2)) = zK (dS (ws k)) from lnk_K]; exact hR', hb⟩ ((hf.I (f := 10) (k := 8) rfl 0).trans h.2.1.1)) hR'.cap.1.2.2
theorem qnt_K {s : Ms} : zK (qntO a s).2 = zK s := by
  unfold qntO
  split <;> rfl
theorem frt_K {br : Int32} {W : List Cls} {s : Ms} : zK (frtO br W cc a b s).2 = zK s := by
  unfold frtO
  split <;> rfl
theorem W_quantum {B0 : Nat} (hB0 : mS M ≤ B0 + 8 * capC (k + 1) M) (h : WWC A on ws lf M) (hg : GWC BB A T tp pl L V P M) (hk : k < 3) (hon : on k = true) (hp : SpD (ws k))
    (hQ : ∀ M', WWC A on (up1 ws k (sS (ws k) (qntO a (dS (ws k))).2)) lf M' ∧ GWC BB A T tp pl L V P M' ∧ Fr WKF M M' ∧ Ty M' ∧ CpE (k + 1) M M' → mS M' ≤ B0 + 8 * capC (k + 1) M' → Q (qntO a (dS (ws k))).1 M') : w_Works_quantum 0 (Int32.ofNat k) a Q M := by
  obtain ⟨nq, nk, np, nh, nr, B1, hR1, hb⟩ := (h.2.2 k hk).1 hon
  have hR := hR1.bb hB0
  obtain ⟨hD, hS⟩ := h.st hk hon
  refine mo_w_Works_quantum (T := fun q => q = k) hD (n0k hk) (Q := fun r M' => Fr F_Works_quantum M M' ∧ r = (qntO a (dS (ws k))).1 ∧ RA A (dW (ws k)) (k + 1) (dB (ws k)) nq nk np nh nr (zK (dS (ws k)) + lf) B0 (dF (ws k)) (qntO a (dS (ws k))).2 M') (fun r M' ho hx => ?_) hS (mf_w_Works_quantum (fun _ _ hf h => ⟨hf, h⟩) (c_quantum hk h.1.2 hon hR (fun M' hR' _ => ⟨rfl, hR'⟩)))
  obtain ⟨hf, e, hR'⟩ := hx
  subst e
  exact hQ M' (RW.nx h hg hk hon ho hf (K1.fr hf rfl) ⟨nq, nk, np, nh, nr, B0, by rw [show zK (dS (sS (ws k) (qntO a (dS (ws k))).2)) = zK (dS (ws k)) from qnt_K]; exact hR', hb⟩ ((hf.I (f := 10) (k := 8) rfl 0).trans h.2.1.1)) hR'.cap.1.2.2
theorem W_halt (hfb : (zF (dS (ws k))).length < 1000000) {B0 : Nat} (hB0 : mS M ≤ B0 + 8 * capC (k + 1) M) (h : WWC A on ws lf M) (hg : GWC BB A T tp pl L V P M) (hk : k < 3) (hon : on k = true) (hp : SpD (ws k))
    (hQ : ∀ M', WWC A on (up1 ws k (sS (ws k) (hltS (dS (ws k))))) lf M' ∧ GWC BB A T tp pl L V P M' ∧ Fr WKF M M' ∧ Ty M' ∧ CpE (k + 1) M M' → mS M' ≤ B0 + 8 * capC (k + 1) M' → Q (Int32.ofNat (onN (dS (ws k)) 3)) M') : w_Works_halt 0 (Int32.ofNat k) Q M := by
  obtain ⟨nq, nk, np, nh, nr, B1, hR1, hb⟩ := (h.2.2 k hk).1 hon
  have hR := hR1.bb hB0
  obtain ⟨hD, hS⟩ := h.st hk hon
  refine mo_w_Works_halt (T := fun q => q = k) hD (n0k hk) (Q := fun r M' => Fr F_Works_halt M M' ∧ r = (Int32.ofNat (onN (dS (ws k)) 3)) ∧ RA A (dW (ws k)) (k + 1) (dB (ws k)) nq nk np nh nr (zK (dS (ws k)) + lf) B0 (dF (ws k)) (hltS (dS (ws k))) M') (fun r M' ho hx => ?_) hS (mf_w_Works_halt (fun _ _ hf h => ⟨hf, h⟩) (c_whalt hk h.1.2 hon hp.1.1.1 (hb.kb hp.2) hp.1.2.1.1.1.1 hfb hR (fun M' hR' _ => ⟨rfl, hR'⟩)))
  obtain ⟨hf, e, hR'⟩ := hx
  subst e
  exact hQ M' (RW.nx h hg hk hon ho hf (K1.fr hf rfl) ⟨nq, nk, np, nh, nr, B0, by rw [show zK (dS (sS (ws k) (hltS (dS (ws k))))) = zK (dS (ws k)) from rfl]; exact hR', hb⟩ ((hf.I (f := 10) (k := 8) rfl 0).trans h.2.1.1)) hR'.cap.1.2.2
theorem W_foretell {B0 : Nat} (hB0 : mS M ≤ B0 + 8 * capC (k + 1) M) (h : WWC A on ws lf M) (hg : GWC BB A T tp pl L V P M) (hk : k < 3) (hon : on k = true) (hp : SpD (ws k))
    (hQ : ∀ M', WWC A on (up1 ws k (sS (ws k) (frtO (dB (ws k)) (dW (ws k)) cc a b (dS (ws k))).2)) lf M' ∧ GWC BB A T tp pl L V P M' ∧ Fr WKF M M' ∧ Ty M' ∧ CpE (k + 1) M M' → mS M' ≤ B0 + 8 * capC (k + 1) M' → Q (frtO (dB (ws k)) (dW (ws k)) cc a b (dS (ws k))).1 M') : w_Works_foretell 0 (Int32.ofNat k) cc a b Q M := by
  obtain ⟨nq, nk, np, nh, nr, B1, hR1, hb⟩ := (h.2.2 k hk).1 hon
  have hR := hR1.bb hB0
  obtain ⟨hD, hS⟩ := h.st hk hon
  refine mo_w_Works_foretell (T := fun q => q = k) hD (n0k hk) (Q := fun r M' => Fr F_Works_foretell M M' ∧ K1 M M' ∧ r = (frtO (dB (ws k)) (dW (ws k)) cc a b (dS (ws k))).1 ∧ RA A (dW (ws k)) (k + 1) (dB (ws k)) nq nk np nh nr (zK (dS (ws k)) + lf) B0 (dF (ws k)) (frtO (dB (ws k)) (dW (ws k)) cc a b (dS (ws k))).2 M') (fun r M' ho hx => ?_) hS (mf_w_Works_foretell (fun _ _ hf h => ⟨hf, h⟩) (mc_w_Works_foretell (fun _ _ h1 h => ⟨h1, h⟩) (c_wforetell hk h.1.2 hon hp.1.1.1 hp.1.2.1.1.1.1.1.1 (hb.kb hp.2) hg.na.1 hR (fun M' hR' _ => ⟨rfl, hR'⟩))))
  obtain ⟨hf, hk1, e, hR'⟩ := hx
  subst e
  exact hQ M' (RW.nx h hg hk hon ho hf hk1 ⟨nq, nk, np, nh, nr, B0, by rw [show zK (dS (sS (ws k) (frtO (dB (ws k)) (dW (ws k)) cc a b (dS (ws k))).2)) = zK (dS (ws k)) from frt_K]; exact hR', hb⟩ ((hf.I (f := 10) (k := 8) rfl 0).trans h.2.1.1)) hR'.cap.1.2.2
theorem W_collect {B0 : Nat} (hB0 : mS M ≤ B0 + 8 * capC (k + 1) M) (h : WWC A on ws lf M) (hg : GWC BB A T tp pl L V P M) (hk : k < 3) (hon : on k = true) (hp : SpD (ws k))
    (hQ : ∀ M', WWC A on (up1 ws k (sS (ws k) (colO (dW (ws k)) (dS (ws k))).2)) lf M' ∧ GWC BB A T tp pl L V P M' ∧ Fr WKF M M' ∧ Ty M' ∧ CpE (k + 1) M M' → mS M' ≤ B0 + 8 * capC (k + 1) M' → Q (colO (dW (ws k)) (dS (ws k))).1 M') : w_Works_collect 0 (Int32.ofNat k) Q M := by
  obtain ⟨nq, nk, np, nh, nr, B1, hR1, hb⟩ := (h.2.2 k hk).1 hon
  have hR := hR1.bb hB0
  obtain ⟨hD, hS⟩ := h.st hk hon
  refine mo_w_Works_collect (T := fun q => q = k) hD (n0k hk) (Q := fun r M' => Fr F_Works_collect M M' ∧ r = (colO (dW (ws k)) (dS (ws k))).1 ∧ RA A (dW (ws k)) (k + 1) (dB (ws k)) nq nk np nh nr (zK (dS (ws k)) + lf) B0 (dF (ws k)) (colO (dW (ws k)) (dS (ws k))).2 M') (fun r M' ho hx => ?_) hS (mf_w_Works_collect (fun _ _ hf h => ⟨hf, h⟩) (c_wcollect hk h.1.2 hon hp.1.1.1 hp.1.2.1.1.1.1 hp.1.2.2.1 hg.na.1 hp.1.1.ty (hg.2.2.2.2.2.1 k hk) hR (fun M' hR' _ => ⟨rfl, hR'⟩)))
  obtain ⟨hf, e, hR'⟩ := hx
  subst e
  exact hQ M' (RW.nx h hg hk hon ho hf (K1.fr hf rfl) ⟨nq, nk, np, nh, nr, B0, by rw [show zK (dS (sS (ws k) (colO (dW (ws k)) (dS (ws k))).2)) = zK (dS (ws k)) from rfl]; exact hR', hb⟩ ((hf.I (f := 10) (k := 8) rfl 0).trans h.2.1.1)) hR'.cap.1.2.2
end
