/-! a world of the works after a text was taken in -/
section
variable {A A' : List Nm} {W W' : List Cls} {w C B F K L t : Nat} {br : Int32} {nq nk np nh nr nq' nk' np' nh' nr' : Nat} {s : Ms} {M M' : Mem}
/-- nothing beyond the classes is linked -/
def LZ (W : List Cls) (s : Ms) : Prop := ∀ c, W.length ≤ c → (zL s).1 c = 0
theorem LU_pre (h : W <+: W') : ∀ {U : List Un} {o : Option Kd}, UO W s t o U → LU W L M U → LU W' L M U
  | [], _, _, _ => trivial
  | .inl (c, j, a, lo, st) :: U, o, hu, hl => by
    refine ⟨⟨⟨?_, hl.1.1.2⟩, hl.1.2⟩, LU_pre h hu.2.2 hl.2⟩
    rw [moff_pre h c (Nat.le_of_lt hu.1.1.2.1)]
    exact hl.1.1.1
  | .inr (k, own) :: U, o, hu, hl => ⟨hl.1, LU_pre h hu.2.2 hl.2⟩
theorem RA.grow (h : RA A W w br nq nk np nh nr C B F s M) (hG : GI W K s) (hz : LZ W s) (hp : A <+: A') (hW : W <+: W') (hC : CWx A' W' w br nq' nk' np' nh' nr' M') (hN : cNw W.length (allF W).length W' w M') (hx : Lo w (bA W.length (allF W).length (allM W).length nq nk np nh nr) M M') (hf : Fr F_Reader_define M M') (h4 : 4 ≤ nr) : RA A' W' w br nq' nk' np' nh' nr' C B F s M' := by
  obtain ⟨⟨⟨a1, a2, a3, a4, a5⟩, aS⟩, ⟨b1, b2'⟩, ⟨c1, c2⟩, ⟨d1, d2, d3⟩, ⟨e2, e3⟩, g⟩ := h
  have hI : LInv W (zL s).1 := hG.1.1.1.1.1
  have hCO : CO W s := hG.1.1.1.2.2.2.2
  have hSO : SO W s := hG.1.1.1.2.2.1
  have zc : ∀ k, W.length ≤ k → zC s k = 0 := fun k hk => Classical.byContradiction (fun z => absurd ((hCO.2.1 k).2 z).1 (by omega))
  have hle := hW.length_le
  refine ⟨⟨⟨hC, fun c hc => ?_, ⟨(hf.I (f := 5) (k := 56) rfl w).trans a3.1, (hf.I (f := 5) (k := 57) rfl w).trans a3.2.1, (hf.I (f := 5) (k := 58) rfl w).trans a3.2.2⟩, fun c hc h1 => ?_, ?_⟩, aS.fr hf⟩, ⟨⟨⟨(hf.L (f := 86) rfl w).trans b1.1.1, (hf.L (f := 85) rfl w).trans b1.1.2⟩, fun k hk => ?_, (hf.I (f := 6) (k := 26) rfl w).trans b1.2.2.1, fun i hi => (hf.Ia (f := 85) rfl rfl w i).trans (b1.2.2.2 i hi)⟩, fun c f hc hf' hs => ?_⟩, ⟨c1.fr hf, c2.fr hf (hf.ms rfl)⟩, ⟨d1.fr hf, d2.fr hf, d3.fr hf⟩, ⟨(hf.L (f := 700) rfl w).trans e2, fun t' ht => (hf.Ra (f := 700) rfl rfl w t').trans (e3 t' ht)⟩, fun t' ht' => ?_⟩
  · by_cases q : c < W.length
    · exact ((hx.1 45 rfl).1 w c (Or.inr q)).trans (a2 c q)
    · exact (hN.1 c (by omega) hc).1.trans (hz c (by omega)).symm
  · by_cases q : c < W.length
    · obtain ⟨x, y, z⟩ := a4 c q h1
      obtain ⟨o1, o2⟩ := osz_pre hW hI q h1
      refine ⟨?_, ?_, fun f hf' hs => ?_⟩
      · rw [o2]; exact ((hx.1 47 rfl).1 w c (Or.inr q)).trans x
      · rw [o1]; exact ((hx.1 48 rfl).1 w c (Or.inr q)).trans y
      · rw [gc_pre hW q] at hf' hs ⊢
        rw [foff_pre hW c (Nat.le_of_lt q), o2]
        exact ((hx.1 53 rfl).1 w _ (Or.inr (gF1_at q hf').1)).trans (z f hf' hs)
    · exact absurd (h1.symm.trans (hz c (by omega))) (by decide)
  · obtain ⟨q1, q2, q3, q4, q5, q6⟩ := a5
    exact ⟨(hf.L (f := 515) rfl 0).trans q1, (hf.L (f := 97) rfl 0).trans q2, (hf.L (f := 31) rfl 0).trans q3, (hf.L (f := 32) rfl 0).trans q4, (hf.I (f := 4) (k := 9) rfl 0).trans q5, (hf.I (f := 4) (k := 10) rfl 0).trans q6⟩
  · by_cases q : k < W.length
    · obtain ⟨x, y⟩ := b1.2.1 k q
      exact ⟨((hx.1 46 rfl).1 w k (Or.inr q)).trans x, fun z => (hf.Ia (f := 86) rfl rfl w k).trans (y z)⟩
    · exact ⟨(hN.1 k (by omega) hk).2.1.trans (zc k (by omega)).symm, fun z => absurd (z.symm.trans (zc k (by omega))) (by decide)⟩
  · by_cases q : c < W.length
    · rw [gc_pre hW q] at hf' hs
      rw [foff_pre hW c (Nat.le_of_lt q)]
      exact ((hx.1 54 rfl).1 w _ (Or.inr (gF1_at q hf').1)).trans (b2' c f q hf' hs)
    · exact (hN.2 (foff W' c + f) (by have := foff_new hW (c := c) (by omega) (Nat.le_of_lt hc); omega) (gF1_at hc hf').1).2.trans (hSO.2 c f (zc c (by omega))).symm
  · obtain ⟨r1, r2, r3⟩ := hf.r89
    have gg := g t' ht'
    obtain ⟨⟨⟨a1, a2, a3, a4⟩, ⟨b1, b2', b3, b4⟩, ⟨c1, c2, c3, c4⟩, d, e'⟩, ⟨u1, u2, u3⟩, gR⟩ := gg
    refine ⟨⟨⟨fun f h1 h2 => (r3 _ f (by omega) (Or.inl (by omega))).trans (a1 f h1 h2), (r3 _ 94 (by omega) (Or.inl (by omega))).trans a2, (r3 _ 514 (by omega) (Or.inr rfl)).trans a3, (r3 _ 95 (by omega) (Or.inl (by omega))).trans a4⟩, ⟨(hf.I (f := 7) (k := 0) rfl _).trans b1, (hf.I (f := 7) (k := 10) rfl _).trans b2', (hf.I (f := 7) (k := 11) rfl _).trans b3, (hf.I (f := 7) (k := 12) rfl _).trans b4⟩, ⟨(hf.I (f := 7) (k := 13) rfl _).trans c1, (hf.I (f := 7) (k := 14) rfl _).trans c2, (hf.I (f := 7) (k := 15) rfl _).trans c3, (hf.I (f := 7) (k := 16) rfl _).trans c4⟩, ?_, fun z j hj => (hf.Ia (f := 95) rfl rfl _ j).trans (e' z j hj)⟩, ⟨(hf.I (f := 7) (k := 1) rfl _).trans u1, (hf.I (f := 7) (k := 2) rfl _).trans u2, LU.ev (r1 _) (r2 _) (LU_pre hW (hG.1.2.2.1 t' ht').1.1 u3)⟩, fun z => ?_⟩
    · unfold rW at *
      rw [hf.I (f := 7) (k := 18) rfl, hf.I (f := 7) (k := 19) rfl]; exact d
    · have x := (gR z).lw hx (show 4 * t' + 4 ≤ 4 * nr by omega) (show 6 * t' + 6 ≤ 6 * nr by omega)
      exact ⟨cRf.pre x.1 hp, x.2⟩
end
