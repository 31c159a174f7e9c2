/-! OPERATIONS OF THE TWIN on a world, in the whole: link quantum halt foretell collect step reach (printed by gen/tw.py) -/
abbrev gtM : List Nat := [cd 11 85, 402, 5402, cd 11 86, cd 11 94, cd 11 95, 401, 5518, cd 11 114, cd 11 115, cd 12 0, 703, 5703]
section
variable {G : List Sl} {U1 : List (List Kd × Kd)} {BB A : List Nm} {S : List Sg} {on : Nat → Bool} {ws : Nat → Wld} {lf lf' k B F F' R : Nat} {M M' : Mem} {d : Wld} {T : List Trl} {tp P : List Int32} {pl a b c cc : Int32} {L : Tl} {V V' : RV} {Q : Int32 → Mem → Prop} {T0 : Nat → Prop} {h0 : Hot}
theorem RT.nx (h : WWT G U1 A S on ws lf M) (hg : GTC G U1 BB A S T tp pl L V P M) (hk : k < 3) (hon : on k = true) (ho : Ow k (DT G k M) T0 h0 M M') (hf : Fr R M M') (hk2 : K2 0 M M') (hd : WdT G U1 A S k d M') (hl : lf' ≤ 60000) (h93 : mI M' 11 0 93 = Int32.ofNat (60000 - lf')) (hrc : tcB V' M') (hS : okF R gtL = true := by rfl) (hS2 : okF R gtM = true := by rfl) (h57 : R.testBit (cd 11 57) = false := by rfl) (h9 : R.testBit (5000 + 109) = false := by rfl) (hb : XL.all (fun s => !R.testBit (cd s.1 s.2.2.1)) = true := by rfl) (hW : R &&& TWF = R := by rfl) : WWT G U1 A S on (up1 ws k d) lf' M' ∧ GTC G U1 BB A S T tp pl L V' P M' ∧ Fr TWF M M' ∧ Ty M' := by
  have o := fun {b : Nat} (hb : b ∈ gtM) => okF_in hS2 hb
  have hT := ho.2.2 h.1.1
  have hGa := h.2.1.1.1
  have hTG := h.2.1.2
  have hx := h.2.1.1.2 3 (by omega)
  obtain ⟨p1, p2, p3⟩ := hGa.p
  refine ⟨h.next hk hon ho.2.1 hd List.prefix_rfl List.prefix_rfl hT (h.1.2.fr hf (o (by simp)) (o (by simp)) (o (by simp))) hl h93, ?_, hf.sub hW, hT⟩
  have hg0 := hg
  obtain ⟨⟨B, hm, -⟩, ⟨h2, h3⟩, -, -, ⟨h7, h8⟩, -⟩ := hg
  exact hg0.nx hGa hTG hk ho.2.1 hf hk2 hd List.prefix_rfl hm.2.1.2.2.1 (h2.fr hf (okF_sub hS2 (by rfl))) ((hf.I (f := 11) (k := 86) (o (by simp)) 0).trans h3) hrc ⟨h7.fr p1 hTG hf (okF_sub hS2 (by rfl)), h8.fr p2 p3 hTG hf (okF_sub hS2 (by rfl))⟩ ⟨hm.2.2.1.2.2.1.kp hf hTG hx.2.2.2.2.1 h9 hb, by rw [rl_keep hf hTG hx.2.2.2.2.2 h57]; exact hm.2.2.1.2.2.2⟩ hS
theorem TI2.fr {x : Int32} {br : Int32} {W : List Cls} {s : Ms} (h : TI2 x s) : TI2 x (frtO br W cc a b s).2 := by
  unfold frtO
  split
  · exact h
  · exact ⟨LkP.eq rfl rfl rfl h.1, h.2.1, h.2.2⟩
theorem TI2.rc {x : Int32} {br : Int32} {W : List Cls} {s : Ms} (h : TI2 x s) : TI2 x (rchO br W cc a V s).2.2 := by
  unfold rchO
  split
  · exact h
  · exact ⟨LkP.eq rfl rfl rfl h.1, h.2.1, h.2.2⟩
theorem T_link {B0 : Nat} (hB0 : mS M ≤ B0 + 2 * rs G M) (h : WWT G U1 A S on ws lf M) (hg : GTC G U1 BB A S T tp pl L V P M) (hG : GM M) (hz : ∀ q, 3 ≤ q → mR M 702 0 q = none) (hk : k < 3) (hon : on k = true) (hp : SpD (ws k))
    (hQ : ∀ M', WWT G U1 A S on (up1 ws k (sS (ws k) (lnkO (dB (ws k)) (dW (ws k)) c (dS (ws k))).2)) lf M' ∧ GTC G U1 BB A S T tp pl L V P M' ∧ Fr TWF M M' ∧ Ty M' → mS M' ≤ B0 + 2 * rs G M' → Q (lnkO (dB (ws k)) (dW (ws k)) c (dS (ws k))).1 M') : w_Model_link 0 (Int32.ofNat k) c Q M := by
  obtain ⟨nq, nl, nf, nk, B1, x, ⟨hR1, hx⟩, hb⟩ := (h.2.2.2 k hk).1 hon
  have hR := hR1.bb hB0
  obtain ⟨⟨hD, hD6⟩, hS⟩ := h.st hG hz hk
  refine mo_w_Model_link (T := fun q => q = 1000 + k) hD hD6 (by rw [n0k hk]) (Q := fun r M' => Fr F_Model_link M M' ∧ K2 0 M M' ∧ r = (lnkO (dB (ws k)) (dW (ws k)) c (dS (ws k))).1 ∧ TAx G (U1, S) A S (dW (ws k)) k (dB (ws k)) nq nl nf nk B0 (dF (ws k)) x (lnkO (dB (ws k)) (dW (ws k)) c (dS (ws k))).2 M') (fun r M' ho hx2 => ?_) hS (mf_w_Model_link (fun _ _ hf h => ⟨hf, h⟩) (mt_w_Model_link (fun _ _ h1 h => ⟨h1, h⟩) (ct_wlink hk h.1.2 hon hp.1.1.1 hp.1.2.1.1.1.1.1.1.1.1 hp.1.2.1.1.1.1.1.1.1.2.1 hR (fun M' hR' => ⟨rfl, hR'⟩))))
  obtain ⟨hf, hk2, e, hR'⟩ := hx2
  subst e
  exact hQ M' (RT.nx h hg hk hon ho hf hk2 ⟨nq, nl, nf, nk, B0, x, ⟨hR', hx.ln⟩, hb⟩ h.2.2.1.1 ((hf.I (f := 11) (k := 93) rfl 0).trans h.2.2.1.2) (hg.2.2.2.1.1.fr hf)) hR'.md.2.2.2.2.2.1
theorem T_quantum {B0 : Nat} (hB0 : mS M ≤ B0 + 2 * rs G M) (h : WWT G U1 A S on ws lf M) (hg : GTC G U1 BB A S T tp pl L V P M) (hG : GM M) (hz : ∀ q, 3 ≤ q → mR M 702 0 q = none) (hk : k < 3) (hon : on k = true) (hp : SpD (ws k))
    (hQ : ∀ M', WWT G U1 A S on (up1 ws k (sS (ws k) (qntO a (dS (ws k))).2)) lf M' ∧ GTC G U1 BB A S T tp pl L V P M' ∧ Fr TWF M M' ∧ Ty M' → mS M' ≤ B0 + 2 * rs G M' → Q (qntO a (dS (ws k))).1 M') : w_Model_quantum 0 (Int32.ofNat k) a Q M := by
  obtain ⟨nq, nl, nf, nk, B1, x, ⟨hR1, hx⟩, hb⟩ := (h.2.2.2 k hk).1 hon
  have hR := hR1.bb hB0
  obtain ⟨⟨hD, hD6⟩, hS⟩ := h.st hG hz hk
  refine mo_w_Model_quantum (T := fun q => q = 1000 + k) hD (by rw [n0k hk]) (Q := fun r M' => Fr F_Model_quantum M M' ∧ r = (qntO a (dS (ws k))).1 ∧ TAx G (U1, S) A S (dW (ws k)) k (dB (ws k)) nq nl nf nk B0 (dF (ws k)) x (qntO a (dS (ws k))).2 M') (fun r M' ho hx2 => ?_) hS (mf_w_Model_quantum (fun _ _ hf h => ⟨hf, h⟩) (ct_quantum hk h.1.2 hon hR (fun M' hR' _ => ⟨rfl, hR'⟩)))
  obtain ⟨hf, e, hR'⟩ := hx2
  subst e
  exact hQ M' (RT.nx h hg hk hon ho hf (K2.fr hf rfl) ⟨nq, nl, nf, nk, B0, x, ⟨hR', hx.qn⟩, hb⟩ h.2.2.1.1 ((hf.I (f := 11) (k := 93) rfl 0).trans h.2.2.1.2) (hg.2.2.2.1.1.fr hf)) hR'.md.2.2.2.2.2.1
theorem T_halt (hfb : (zF (dS (ws k))).length < 1000000) {B0 : Nat} (hB0 : mS M ≤ B0 + 2 * rs G M) (h : WWT G U1 A S on ws lf M) (hg : GTC G U1 BB A S T tp pl L V P M) (hG : GM M) (hz : ∀ q, 3 ≤ q → mR M 702 0 q = none) (hk : k < 3) (hon : on k = true) (hp : SpD (ws k))
    (hQ : ∀ M', WWT G U1 A S on (up1 ws k (sS (ws k) (hltS (dS (ws k))))) lf M' ∧ GTC G U1 BB A S T tp pl L V P M' ∧ Fr TWF M M' ∧ Ty M' → mS M' ≤ B0 + 2 * rs G M' → Q (Int32.ofNat (onN (dS (ws k)) 3)) M') : w_Model_halt 0 (Int32.ofNat k) Q M := by
  obtain ⟨nq, nl, nf, nk, B1, x, ⟨hR1, hx⟩, hb⟩ := (h.2.2.2 k hk).1 hon
  have hR := hR1.bb hB0
  obtain ⟨⟨hD, hD6⟩, hS⟩ := h.st hG hz hk
  refine mo_w_Model_halt (T := fun q => q = 1000 + k) hD hD6 (by rw [n0k hk]) (Q := fun r M' => Fr F_Model_halt M M' ∧ r = (Int32.ofNat (onN (dS (ws k)) 3)) ∧ TAx G (U1, S) A S (dW (ws k)) k (dB (ws k)) nq nl nf nk B0 (dF (ws k)) (Int32.ofNat (zT (dS (ws k))).2.2) (hltS (dS (ws k))) M') (fun r M' ho hx2 => ?_) hS (mf_w_Model_halt (fun _ _ hf h => ⟨hf, h⟩) (ct_whalt hk h.1.2 hon hp.1.1.1 hp.1.2.1.1.1.1 hfb hR (fun M' hR' => ⟨rfl, hR'⟩)))
  obtain ⟨hf, e, hR'⟩ := hx2
  subst e
  exact hQ M' (RT.nx h hg hk hon ho hf (K2.fr hf rfl) ⟨nq, nl, nf, nk, B0, (Int32.ofNat (zT (dS (ws k))).2.2), ⟨hR', TI2.hl hp.1.2.1.1⟩, hb⟩ h.2.2.1.1 ((hf.I (f := 11) (k := 93) rfl 0).trans h.2.2.1.2) (hg.2.2.2.1.1.fr hf)) hR'.md.2.2.2.2.2.1
theorem T_foretell {B0 : Nat} (hB0 : mS M ≤ B0 + 2 * rs G M) (h : WWT G U1 A S on ws lf M) (hg : GTC G U1 BB A S T tp pl L V P M) (hG : GM M) (hz : ∀ q, 3 ≤ q → mR M 702 0 q = none) (hk : k < 3) (hon : on k = true) (hp : SpD (ws k))
    (hQ : ∀ M', WWT G U1 A S on (up1 ws k (sS (ws k) (frtO (dB (ws k)) (dW (ws k)) cc a b (dS (ws k))).2)) lf M' ∧ GTC G U1 BB A S T tp pl L V P M' ∧ Fr TWF M M' ∧ Ty M' → mS M' ≤ B0 + 2 * rs G M' → Q (frtO (dB (ws k)) (dW (ws k)) cc a b (dS (ws k))).1 M') : w_Model_foretell 0 (Int32.ofNat k) cc a b Q M := by
  obtain ⟨nq, nl, nf, nk, B1, x, ⟨hR1, hx⟩, hb⟩ := (h.2.2.2 k hk).1 hon
  have hR := hR1.bb hB0
  obtain ⟨⟨hD, hD6⟩, hS⟩ := h.st hG hz hk
  refine mo_w_Model_foretell (T := fun q => q = 1000 + k) hD hD6 (by rw [n0k hk]) (Q := fun r M' => Fr F_Model_foretell M M' ∧ K2 0 M M' ∧ r = (frtO (dB (ws k)) (dW (ws k)) cc a b (dS (ws k))).1 ∧ TAx G (U1, S) A S (dW (ws k)) k (dB (ws k)) nq nl nf nk B0 (dF (ws k)) x (frtO (dB (ws k)) (dW (ws k)) cc a b (dS (ws k))).2 M') (fun r M' ho hx2 => ?_) hS (mf_w_Model_foretell (fun _ _ hf h => ⟨hf, h⟩) (mt_w_Model_foretell (fun _ _ h1 h => ⟨h1, h⟩) (ct_wforetell hk h.1.2 hon hp.1.1.1 hp.1.1.i hp.1.2.1.1.1.1.1.1 hp.1.2.2.2.2.1 hR (fun M' hR' _ => ⟨rfl, hR'⟩))))
  obtain ⟨hf, hk2, e, hR'⟩ := hx2
  subst e
  exact hQ M' (RT.nx h hg hk hon ho hf hk2 ⟨nq, nl, nf, nk, B0, x, ⟨hR', hx.fr⟩, hb⟩ h.2.2.1.1 ((hf.I (f := 11) (k := 93) rfl 0).trans h.2.2.1.2) (hg.2.2.2.1.1.fr hf)) hR'.md.2.2.2.2.2.1
theorem T_collect {B0 : Nat} (hB0 : mS M ≤ B0 + 2 * rs G M) (h : WWT G U1 A S on ws lf M) (hg : GTC G U1 BB A S T tp pl L V P M) (hG : GM M) (hz : ∀ q, 3 ≤ q → mR M 702 0 q = none) (hk : k < 3) (hon : on k = true) (hp : SpD (ws k))
    (hQ : ∀ M', WWT G U1 A S on (up1 ws k (sS (ws k) (colO (dW (ws k)) (dS (ws k))).2)) lf M' ∧ GTC G U1 BB A S T tp pl L V P M' ∧ Fr TWF M M' ∧ Ty M' → mS M' ≤ B0 + 2 * rs G M' → Q (colO (dW (ws k)) (dS (ws k))).1 M') : w_Model_collect 0 (Int32.ofNat k) Q M := by
  obtain ⟨nq, nl, nf, nk, B1, x, ⟨hR1, hx⟩, hb⟩ := (h.2.2.2 k hk).1 hon
  have hR := hR1.bb hB0
  obtain ⟨⟨hD, hD6⟩, hS⟩ := h.st hG hz hk
  refine mo_w_Model_collect (T := fun q => q = 1000 + k) hD hD6 (by rw [n0k hk]) (Q := fun r M' => Fr F_Model_collect M M' ∧ r = (colO (dW (ws k)) (dS (ws k))).1 ∧ TAx G (U1, S) A S (dW (ws k)) k (dB (ws k)) nq nl nf nk B0 (dF (ws k)) x (colO (dW (ws k)) (dS (ws k))).2 M') (fun r M' ho hx2 => ?_) hS (mf_w_Model_collect (fun _ _ hf h => ⟨hf, h⟩) (ct_wcollect hk h.1.2 hon hp.1.1.1 hp.1.2.1.1.1.1 hp.1.2.1.1.2.2.1 hp.1.2.2.1 hp.1.1.ty hg.2.2.2.2.2.1 hR (fun M' hR' _ => ⟨rfl, hR'⟩)))
  obtain ⟨hf, e, hR'⟩ := hx2
  subst e
  exact hQ M' (RT.nx h hg hk hon ho hf (K2.fr hf rfl) ⟨nq, nl, nf, nk, B0, x, ⟨hR', hx.co⟩, hb⟩ h.2.2.1.1 ((hf.I (f := 11) (k := 93) rfl 0).trans h.2.2.1.2) (hg.2.2.2.1.1.fr hf)) hR'.md.2.2.2.2.2.1
theorem T_reach (h12 : W12 (dW (ws k))) (hvl : ∀ V, okV (dW (ws k)) V → V.length ≤ 381) {B0 : Nat} (hB0 : mS M ≤ B0 + 2 * rs G M) (h : WWT G U1 A S on ws lf M) (hg : GTC G U1 BB A S T tp pl L V P M) (hG : GM M) (hz : ∀ q, 3 ≤ q → mR M 702 0 q = none) (hk : k < 3) (hon : on k = true) (hp : SpD (ws k))
    (hQ : ∀ M', WWT G U1 A S on (up1 ws k (sS (ws k) (rchO (dB (ws k)) (dW (ws k)) cc a V (dS (ws k))).2.2)) lf M' ∧ GTC G U1 BB A S T tp pl L (rchO (dB (ws k)) (dW (ws k)) cc a V (dS (ws k))).2.1 P M' ∧ Fr TWF M M' ∧ Ty M' → mS M' ≤ B0 + 2 * rs G M' → (okV (dW (ws k)) (rchO (dB (ws k)) (dW (ws k)) cc a V (dS (ws k))).2.1 ∨ (rchO (dB (ws k)) (dW (ws k)) cc a V (dS (ws k))).2.1 = V) → Q (rchO (dB (ws k)) (dW (ws k)) cc a V (dS (ws k))).1 M') : w_Model_reach 0 (Int32.ofNat k) cc a Q M := by
  obtain ⟨nq, nl, nf, nk, B1, x, ⟨hR1, hx⟩, hb⟩ := (h.2.2.2 k hk).1 hon
  have hR := hR1.bb hB0
  obtain ⟨⟨hD, hD6⟩, hS⟩ := h.st hG hz hk
  refine mo_w_Model_reach (T := fun q => q = 1000 + k) hD hD6 (by rw [n0k hk]) (Q := fun r M' => Fr F_Model_reach M M' ∧ K2 0 M M' ∧ r = (rchO (dB (ws k)) (dW (ws k)) cc a V (dS (ws k))).1 ∧ TAx G (U1, S) A S (dW (ws k)) k (dB (ws k)) nq nl nf nk B0 (dF (ws k)) x (rchO (dB (ws k)) (dW (ws k)) cc a V (dS (ws k))).2.2 M' ∧ tcB (rchO (dB (ws k)) (dW (ws k)) cc a V (dS (ws k))).2.1 M' ∧ (okV (dW (ws k)) (rchO (dB (ws k)) (dW (ws k)) cc a V (dS (ws k))).2.1 ∨ (rchO (dB (ws k)) (dW (ws k)) cc a V (dS (ws k))).2.1 = V)) (fun r M' ho hx2 => ?_) hS (mf_w_Model_reach (fun _ _ hf h => ⟨hf, h⟩) (mt_w_Model_reach (fun _ _ h1 h => ⟨h1, h⟩) (ct_wreach hk h.1.2 hon hp.1.1.1 h12 hp.1.1.i hp.1.2.1.1.1.1.1.1 hp.1.2.2.2.2.1 hg.2.2.2.1.1 hg.2.2.2.1.2 hvl hR (fun M' hR' _ hrc hov => ⟨rfl, hR', hrc, hov⟩))))
  obtain ⟨hf, hk2, e, hR', hrc, hov⟩ := hx2
  subst e
  exact hQ M' (RT.nx h hg hk hon ho hf hk2 ⟨nq, nl, nf, nk, B0, x, ⟨hR', hx.rc⟩, hb⟩ h.2.2.1.1 ((hf.I (f := 11) (k := 93) rfl 0).trans h.2.2.1.2) hrc) hR'.md.2.2.2.2.2.1 hov
end
