/-! OPERATION OF THE WORKS define, in the whole (RA.growW is RA.grow of j27 with the mask of w_Works_define) -/
section
variable {A A' : List Nm} {W W' : List Cls} {w C B F K L t : Nat} {br : Int32} {nq nk np nh nr nq' nk' np' nh' nr' : Nat} {s : Ms} {M M' : Mem}
theorem RA.growW (h : RA A W w br nq nk np nh nr C B F s M) (hG : GI W K s) (hz : LZ W s) (hp : A <+: A') (hW : W <+: W') (hC : CWx A' W' w br nq' nk' np' nh' nr' M') (hN : cNw W.length (allF W).length W' w M') (hx : Lo w (bA W.length (allF W).length (allM W).length nq nk np nh nr) M M') (hf : Fr F_Works_define M M') (h4 : 4 ≤ nr) : RA A' W' w br nq' nk' np' nh' nr' C B F s M' := by
  obtain ⟨⟨⟨a1, a2, a3, a4, a5⟩, aS⟩, ⟨b1, b2'⟩, ⟨c1, c2⟩, ⟨d1, d2, d3⟩, ⟨e2, e3⟩, g⟩ := h
  have hI : LInv W (zL s).1 := hG.1.1.1.1.1
  have hCO : CO W s := hG.1.1.1.2.2.2.2
  have hSO : SO W s := hG.1.1.1.2.2.1
  have zc : ∀ k, W.length ≤ k → zC s k = 0 := fun k hk => Classical.byContradiction (fun z => absurd ((hCO.2.1 k).2 z).1 (by omega))
  have hle := hW.length_le
  refine ⟨⟨⟨hC, fun c hc => ?_, ⟨(hf.I (f := 5) (k := 56) rfl w).trans a3.1, (hf.I (f := 5) (k := 57) rfl w).trans a3.2.1, (hf.I (f := 5) (k := 58) rfl w).trans a3.2.2⟩, fun c hc h1 => ?_, ?_⟩, aS.fr hf⟩, ⟨⟨⟨(hf.L (f := 86) rfl w).trans b1.1.1, (hf.L (f := 85) rfl w).trans b1.1.2⟩, fun k hk => ?_, (hf.I (f := 6) (k := 26) rfl w).trans b1.2.2.1, fun i hi => (hf.Ia (f := 85) rfl rfl w i).trans (b1.2.2.2 i hi)⟩, fun c f hc hf' hs => ?_⟩, ⟨c1.fr hf, c2.fr hf (hf.ms rfl)⟩, ⟨d1.fr hf, d2.fr hf, d3.fr hf⟩, ⟨(hf.L (f := 700) rfl w).trans e2, fun t' ht => (hf.Ra (f := 700) rfl rfl w t').trans (e3 t' ht)⟩, fun t' ht' => ?_⟩
  · by_cases q : c < W.length
    · exact ((hx.1 45 rfl).1 w c (Or.inr q)).trans (a2 c q)
    · exact (hN.1 c (by omega) hc).1.trans (hz c (by omega)).symm
  · by_cases q : c < W.length
    · obtain ⟨x, y, z⟩ := a4 c q h1
      obtain ⟨o1, o2⟩ := osz_pre hW hI q h1
      refine ⟨?_, ?_, fun f hf' hs => ?_⟩
      · rw [o2]; exact ((hx.1 47 rfl).1 w c (Or.inr q)).trans x
      · rw [o1]; exact ((hx.1 48 rfl).1 w c (Or.inr q)).trans y
      · rw [gc_pre hW q] at hf' hs ⊢
        rw [foff_pre hW c (Nat.le_of_lt q), o2]
        exact ((hx.1 53 rfl).1 w _ (Or.inr (gF1_at q hf').1)).trans (z f hf' hs)
    · exact absurd (h1.symm.trans (hz c (by omega))) (by decide)
  · obtain ⟨q1, q2, q3, q4, q5, q6⟩ := a5
    exact ⟨(hf.L (f := 515) rfl 0).trans q1, (hf.L (f := 97) rfl 0).trans q2, (hf.L (f := 31) rfl 0).trans q3, (hf.L (f := 32) rfl 0).trans q4, (hf.I (f := 4) (k := 9) rfl 0).trans q5, (hf.I (f := 4) (k := 10) rfl 0).trans q6⟩
  · by_cases q : k < W.length
    · obtain ⟨x, y⟩ := b1.2.1 k q
      exact ⟨((hx.1 46 rfl).1 w k (Or.inr q)).trans x, fun z => (hf.Ia (f := 86) rfl rfl w k).trans (y z)⟩
    · exact ⟨(hN.1 k (by omega) hk).2.1.trans (zc k (by omega)).symm, fun z => absurd (z.symm.trans (zc k (by omega))) (by decide)⟩
  · by_cases q : c < W.length
    · rw [gc_pre hW q] at hf' hs
      rw [foff_pre hW c (Nat.le_of_lt q)]
      exact ((hx.1 54 rfl).1 w _ (Or.inr (gF1_at q hf').1)).trans (b2' c f q hf' hs)
    · exact (hN.2 (foff W' c + f) (by have := foff_new hW (c := c) (by omega) (Nat.le_of_lt hc); omega) (gF1_at hc hf').1).2.trans (hSO.2 c f (zc c (by omega))).symm
  · obtain ⟨r1, r2, r3⟩ := hf.r89
    have gg := g t' ht'
    obtain ⟨⟨⟨a1, a2, a3, a4⟩, ⟨b1, b2', b3, b4⟩, ⟨c1, c2, c3, c4⟩, d, e'⟩, ⟨u1, u2, u3⟩, gR⟩ := gg
    refine ⟨⟨⟨fun f h1 h2 => (r3 _ f (by omega) (Or.inl (by omega))).trans (a1 f h1 h2), (r3 _ 94 (by omega) (Or.inl (by omega))).trans a2, (r3 _ 514 (by omega) (Or.inr rfl)).trans a3, (r3 _ 95 (by omega) (Or.inl (by omega))).trans a4⟩, ⟨(hf.I (f := 7) (k := 0) rfl _).trans b1, (hf.I (f := 7) (k := 10) rfl _).trans b2', (hf.I (f := 7) (k := 11) rfl _).trans b3, (hf.I (f := 7) (k := 12) rfl _).trans b4⟩, ⟨(hf.I (f := 7) (k := 13) rfl _).trans c1, (hf.I (f := 7) (k := 14) rfl _).trans c2, (hf.I (f := 7) (k := 15) rfl _).trans c3, (hf.I (f := 7) (k := 16) rfl _).trans c4⟩, ?_, fun z j hj => (hf.Ia (f := 95) rfl rfl _ j).trans (e' z j hj)⟩, ⟨(hf.I (f := 7) (k := 1) rfl _).trans u1, (hf.I (f := 7) (k := 2) rfl _).trans u2, LU.ev (r1 _) (r2 _) (LU_pre hW (hG.1.2.2.1 t' ht').1.1 u3)⟩, fun z => ?_⟩
    · unfold rW at *
      rw [hf.I (f := 7) (k := 18) rfl, hf.I (f := 7) (k := 19) rfl]; exact d
    · have x := (gR z).lw hx (show 4 * t' + 4 ≤ 4 * nr by omega) (show 6 * t' + 6 ≤ 6 * nr by omega)
      exact ⟨cRf.pre x.1 hp, x.2⟩
end
abbrev sSW (d : Wld) (W : List Cls) (n : Nat) : Wld := (W, d.2.1, d.2.2.1, d.2.2.2.1, d.2.2.2.2.1, d.2.2.2.2.2.1, d.2.2.2.2.2.2 + n)
section
variable {BB A : List Nm} {on : Nat → Bool} {ws : Nat → Wld} {lf k n : Nat} {M : Mem} {T : List Trl} {tp P : List Int32} {pl : Int32} {L : Tl} {V : RV} {Q : Int32 → Mem → Prop}
theorem BdC.mn {D D' nq nk np nh nr : Nat} (h : BdC D nq nk np nh nr) (hD : D ≤ D') : BdC D' nq nk np nh nr := by
  obtain ⟨h1, h2, h3, h4, h5, h6, h7⟩ := h
  exact ⟨by omega, by omega, by omega, by omega, by omega, by omega, h7⟩
theorem W_define {B0 : Nat} (hB0 : mS M ≤ B0 + 8 * capC (k + 1) M) (h : WWC A on ws lf M) (hg : GWC BB A T tp pl L V P M) (hk : k < 3) (hon : on k = true) (hp : SpD (ws k)) (h21 : 21 ≤ (dW (ws k)).length) (hn : tp.length ≤ 1290) (hB : ∀ l ∈ lns (pT tp) tp.length 0, NB BB l) (hm : tk (lns (pT tp) tp.length 0) ≤ n) (hm2 : (lns (pT tp) tp.length 0).length ≤ n) (hD : dD (ws k) + n ≤ 2800) (htk : tk (lns (pT tp) tp.length 0) + 2 * (lns (pT tp) tp.length 0).length + 3 ≤ 3100) (hpt : tend (pT tp) tp.length)
    (hQ : ∀ A' W' M', runL (dB (ws k)) tp.length (0, dW (ws k), noM) (lns (pT tp) tp.length 0) = .inr W' → A <+: A' → WWC A' on (up1 ws k (sSW (ws k) W' n)) lf M' ∧ GWC BB A' T [] (-2) L V P M' ∧ Fr WKF M M' ∧ Ty M' ∧ CpE (k + 1) M M' → mS M' ≤ B0 + 8 * capC (k + 1) M' → Q (Int32.ofNat (W'.length - (dW (ws k)).length)) M')
    (hX : ∀ A' e M', runL (dB (ws k)) tp.length (0, dW (ws k), noM) (lns (pT tp) tp.length 0) = .inl e → A <+: A' → WWC A' on (up1 ws k (sSW (ws k) (dW (ws k)) n)) lf M' ∧ GWC BB A' T [] (Int32.ofNat e.2) L V P M' ∧ Fr WKF M M' ∧ Ty M' ∧ CpE (k + 1) M M' → mS M' ≤ B0 + 8 * capC (k + 1) M' → Q (-10 - Int32.ofNat e.1) M') : w_Works_define 0 (Int32.ofNat k) Q M := by
  obtain ⟨nq, nk, np, nh, nr, B1, hR1, hb⟩ := (h.2.2 k hk).1 hon
  have hR := hR1.bb hB0
  obtain ⟨hDk, hS⟩ := h.st hk hon
  refine mo_w_Works_define (T := fun q => q = k) hDk (n0k hk) (Q := fun r M' => Fr F_Works_define M M' ∧ ((∃ A' W' nq' nk' np' nh' nr', runL (dB (ws k)) tp.length (0, dW (ws k), noM) (lns (pT tp) tp.length 0) = .inr W' ∧ r = Int32.ofNat (W'.length - (dW (ws k)).length) ∧ A <+: A' ∧ NC BB A' M' ∧ CWx A' W' (k + 1) (dB (ws k)) nq' nk' np' nh' nr' M' ∧ cRd M' ∧ cNw (dW (ws k)).length (allF (dW (ws k))).length W' (k + 1) M' ∧ Lo (k + 1) (bA (dW (ws k)).length (allF (dW (ws k))).length (allM (dW (ws k))).length nq nk np nh nr) M M' ∧ Bud (dD (ws k) + n, dD (ws k) + n, dD (ws k) + n, dD (ws k) + n, dD (ws k) + n + 4, dD (ws k) + n + 24) [] nq' nk' np' nh' nr' ∧ tpC [] M' ∧ mI M' 10 0 21 = -2) ∨ (∃ A' e, runL (dB (ws k)) tp.length (0, dW (ws k), noM) (lns (pT tp) tp.length 0) = .inl e ∧ r = -10 - Int32.ofNat e.1 ∧ A <+: A' ∧ NC BB A' M' ∧ CWx A' (dW (ws k)) (k + 1) (dB (ws k)) nq nk np nh nr M' ∧ cRd M' ∧ Lo (k + 1) (bA (dW (ws k)).length (allF (dW (ws k))).length (allM (dW (ws k))).length nq nk np nh nr) M M' ∧ tpC [] M' ∧ mI M' 10 0 21 = Int32.ofNat e.2))) (fun r M' ho hx => ?_) hS (mf_w_Works_define (fun _ _ hf h => ⟨hf, h⟩) (c_wdefine (K := (dD (ws k) + n, dD (ws k) + n, dD (ws k) + n, dD (ws k) + n, dD (ws k) + n + 4, dD (ws k) + n + 24)) hk h.1.2 hon hg.2.1.1 (by omega) hg.nc hB hR.1.1.1 hg.rd.1 h21 (KOk_D hD) (hb.bud hm hm2) htk (fun A' W' M' nq' nk' np' nh' nr' y1 y2 y3 y4 y5 y6 _ y8 y9 y10 y11 _ => Or.inl ⟨A', W', nq', nk', np', nh', nr', y1, rfl, y2, y3, y4, y5, y6, y8, y9, y10, y11⟩) (fun A' e M' y1 y2 y3 y4 y5 y6 y7 y8 _ => Or.inr ⟨A', e, y1, rfl, y2, y3, y4, y5, y6, y7, y8⟩)))
  obtain ⟨hf, ⟨A', W', nq', nk', np', nh', nr', y1, e, y2, y3, y4, y5, y6, y8, y9, y10, y11⟩ | ⟨A', x, y1, e, y2, y3, y4, y5, y6, y7, y8⟩⟩ := hx
  · subst e
    obtain ⟨hC', hW'⟩ := hp.1.1.run h21 hpt hn y1
    have hR' := hR.growW hp.1.2.1.1.1 hp.1.2.2.2.2.2 y2 hW' y4 y6 y8 hf hb.2.2.2.2.2.2
    exact hQ A' W' M' y1 y2 (RW.nt h hg hk hon ho hf (K1.fr hf rfl) y2 y3 y5 ⟨nq', nk', np', nh', nr', B0, hR', BdC.of y9⟩ ((hf.I (f := 10) (k := 8) rfl 0).trans h.2.1.1) y10 y11) hR'.cap.1.2.2
  · subst e
    have hR' := hR.growW hp.1.2.1.1.1 hp.1.2.2.2.2.2 y2 List.prefix_rfl y4 ⟨fun c h1 h2 => absurd h2 (by omega), fun i h1 h2 => absurd h2 (by omega)⟩ y6 hf hb.2.2.2.2.2.2
    exact hX A' x M' y1 y2 (RW.nt h hg hk hon ho hf (K1.fr hf rfl) y2 y3 y5 ⟨nq, nk, np, nh, nr, B0, hR', hb.mn (by show dD (ws k) ≤ dD (ws k) + n; omega)⟩ ((hf.I (f := 10) (k := 8) rfl 0).trans h.2.1.1) y7 y8) hR'.cap.1.2.2
end
