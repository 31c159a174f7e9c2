/-! THE OPERATION trial, in the twin: what a line of the tape leaves -/
theorem tl_len : ∀ j, j < 80 → F_Model_takesLine.testBit (5000 + (100 + j)) = false := by decide
/-- starts of lines from a place on -/
def SLr (p : Nat → Int32) (n a : Nat) : List Nat := if a ≤ n then stL p n a else []
section
variable {G : List Sl} {U1 : List (List Kd × Kd)} {US : UST} {BB A A' : List Nm} {S S' : List Sg} {B F w t n a to : Nat} {T : List Trl} {L : Trl} {M M' M1 : Mem} {p : Nat → Int32} {tp : List Int32}
theorem rsL_SL (hp : tend p n) (hto : to ≤ n) : rsL p n to = SLr p n (to + 1) := by
  unfold rsL SLr
  by_cases c : to + 1 < n
  · rw [if_pos c, if_pos (by omega)]
  · rw [if_neg c]
    by_cases c2 : to + 1 ≤ n
    · have e : to + 1 = n := by omega
      rw [if_pos c2, e, stL_eq hp (Nat.le_refl _)]
      have h0 : (hd (full (nl p n n) (tks p n n))).1 = 0 := by
        have hl := lns_eq hp (Nat.le_refl n)
        have hr := rln_Lr hp hto
        unfold rln Lr at hr
        rw [if_neg c, if_pos c2, e] at hr
        rw [← hr] at hl
        exact Classical.byContradiction (fun z => by rw [if_neg z] at hl; cases hl)
      rw [if_pos h0]
      obtain ⟨x1, x2, -, -⟩ := nl_ok hp (Nat.le_refl n)
      unfold rsL
      rw [if_neg (by omega)]
    · rw [if_neg c2]
theorem SLr_eq (hp : tend p n) (ha : a ≤ n) : SLr p n a = if 1 < (full (nl p n a) (tks p n a)).length then a :: SLr p n (nl p n a + 1) else SLr p n (nl p n a + 1) := by
  obtain ⟨x1, x2, -, -⟩ := nl_ok (a := a) hp ha
  have e : SLr p n a = stL p n a := if_pos ha
  rw [e, stL_eq hp ha, rsL_SL hp x2]
  by_cases c : (hd (full (nl p n a) (tks p n a))).1 = 0
  · rw [if_pos c, if_neg (fun q => (full_two hp (by omega)).mp q c)]
  · rw [if_neg c, if_pos ((full_two hp (by omega)).mpr c)]
theorem rmT.tk (h : rmT G w F M) (hx : Gx G w) (hf : Fr F_Model_takesLine M M') (hg : GF G X9 M M') : rmT G w F M' := by
  have L : ∀ f i, 100 ≤ f → f < 180 → mL M' f i = mL M f i := fun f i h1 h2 => hf.L (by have := tl_len (f - 100) (by omega); rw [show 100 + (f - 100) = f by omega] at this; exact this) i
  obtain ⟨⟨⟨⟨a1, a2, a3, a4, a5⟩, a6, a7, a8, a9⟩, ⟨b1, b2', b3, b4, b5, b6⟩, c1, c2, c3⟩, ⟨⟨d1, d2⟩, ⟨e1, e2, e3, e4, e5, e6, e7⟩, ⟨f1, f2, f3, f4⟩, g1, g2, g3⟩, h3, h4, h5⟩ := h
  refine ⟨⟨⟨⟨(L 130 w (by omega) (by omega)).trans a1, (L 131 w (by omega) (by omega)).trans a2, (L 133 w (by omega) (by omega)).trans a3, (L 134 w (by omega) (by omega)).trans a4, (L 132 w (by omega) (by omega)).trans a5⟩, (L 135 w (by omega) (by omega)).trans a6, (L 136 w (by omega) (by omega)).trans a7, (L 137 w (by omega) (by omega)).trans a8, (L 138 w (by omega) (by omega)).trans a9⟩, ⟨(L 139 w (by omega) (by omega)).trans b1, (L 140 w (by omega) (by omega)).trans b2', (L 141 w (by omega) (by omega)).trans b3, (L 142 w (by omega) (by omega)).trans b4, (hf.L (f := 523) rfl w).trans b5, (L 143 w (by omega) (by omega)).trans b6⟩, fun f h1 h2 => (L f w (by omega) (by omega)).trans (c1 f h1 h2), fun f h1 h2 => (L f w (by omega) (by omega)).trans (c2 f h1 h2), (L 156 w (by omega) (by omega)).trans c3⟩, ⟨⟨(L 164 w (by omega) (by omega)).trans d1, (L 163 w (by omega) (by omega)).trans d2⟩, ⟨(L 157 w (by omega) (by omega)).trans e1, (L 158 w (by omega) (by omega)).trans e2, (L 159 w (by omega) (by omega)).trans e3, (L 160 w (by omega) (by omega)).trans e4, (L 162 w (by omega) (by omega)).trans e5, (hf.L (f := 524) rfl w).trans e6, (L 161 w (by omega) (by omega)).trans e7⟩, ⟨(L 165 w (by omega) (by omega)).trans f1, (L 166 w (by omega) (by omega)).trans f2, (L 167 w (by omega) (by omega)).trans f3, (L 168 w (by omega) (by omega)).trans f4⟩, (L 169 w (by omega) (by omega)).trans g1, (hf.L (f := 704) rfl w).trans g2, fun t ht => (hf.Ra (f := 704) rfl rfl w t).trans (g3 t ht)⟩, fun t ht => ?_, fun y hy => ?_, fun y hy => ⟨(h5 y hy).1, ?_⟩⟩
  · obtain ⟨z1, z2, z3, z4, z5, z6, z7, z8⟩ := h3 t ht
    exact ⟨(L 170 _ (by omega) (by omega)).trans z1, (L 171 _ (by omega) (by omega)).trans z2, (L 172 _ (by omega) (by omega)).trans z3, (L 173 _ (by omega) (by omega)).trans z4, (L 174 _ (by omega) (by omega)).trans z5, (L 175 _ (by omega) (by omega)).trans z6, (L 176 _ (by omega) (by omega)).trans z7, (hf.L (f := 525) rfl _).trans z8⟩
  · rw [(hg.2.1 y (hx.2.2.2.1 y hy) (X9W y (Or.inl hy))).2.1]; exact h4 y hy
  · rw [(hg.2.1 y (h5 y hy).1 (X9W y (Or.inr hy))).2.1]; exact (h5 y hy).2
/-- a line was read -/
theorem MdB.tk (h : MdB G U1 BB A S B F M) (hf : Fr F_Model_takesLine M M') (hg : GF G X9 M M') (hV : TV US A' S' M') (hU : US.1 = U1) (hK : TKs A' M') (hA : A <+: A') (hAB : A' ⊆ BB) (h113 : mL M' 113 0 = 6) : MdB G U1 BB A' S' B F M' := by
  obtain ⟨⟨hx, hR, hTG, -⟩, ⟨-, hA0, -, hBl⟩, ⟨hgl, hmS, hXb, hrow⟩, hw3, -, h703⟩ := h
  have := hg.2.2
  refine ⟨⟨hx, hR.tk hx hf hg, hg.1, by rw [← hU]; exact hV.us⟩, ⟨hK, hA0.trans hA, hAB, hBl⟩, ⟨⟨⟨(hf.L (f := 111) rfl 0).trans hgl.1.1, (hf.L (f := 212) rfl 0).trans hgl.1.2.1, (hf.L (f := 112) rfl 0).trans hgl.1.2.2⟩, (hf.I (f := 11) (k := 77) rfl 0).trans hgl.2⟩, ⟨by omega, by rw [hf.L (f := 110) rfl]; exact hmS.2.1, by rw [hf.L (f := 110) rfl]; exact hmS.2.2⟩, hXb.kp hf hTG hx.2.2.2.2.1, by rw [rl_keep hf hTG hx.2.2.2.2.2]; exact hrow⟩, ⟨(hf.L (f := 411) rfl 0).trans hw3.1, (hf.L (f := 107) rfl 0).trans hw3.2.1, (hf.L (f := 108) rfl 0).trans hw3.2.2⟩, h113, (hf.L (f := 703) rfl 0).trans h703.1, (hf.Ra (f := 703) rfl rfl 0 3).trans h703.2⟩
theorem MdT.tk (h : MdT G U1 BB A S B F T M) (hf : Fr F_Model_takesLine M M') (hg : GF G X9 M M') (hV : TV US A' S' M') (hU : US.1 = U1) (hK : TKs A' M') (hA : A <+: A') (hAB : A' ⊆ BB) (h113 : mL M' 113 0 = 6) : MdT G U1 BB A' S' B F T M' := ⟨h.1.tk hf hg hV hU hK hA hAB h113, ⟨h.2.1.1.fr hf, h.2.1.2.fr hf⟩, h.2.2⟩
/-- a line of the tape is cut into words -/
theorem ct_cutM {Q : Int32 → Mem → Prop} (h : MdT G U1 BB A S B F T M) (hp : tend p n) (hn : n ≤ 1400) (hX : TXt 1 n p M) (hs : a ≤ n) (hB : NB BB (full (nl p n a) (tks p n a))) (hQ : ∀ A' M', A <+: A' → MdT G U1 BB A' S B F T M' → TXt 1 n p M' → Fr F_Model_cutLine M M' → TQ A' (full (nl p n a) (tks p n a)) (full (nl p n a) (tks p n a)) M' → Q (b2 (decide (1 < (full (nl p n a) (tks p n a)).length))) M') : w_Model_cutLine 0 1 (Int32.ofNat a) (Int32.ofNat (nl p n a)) Q M := by
  obtain ⟨x1, x2, x3, x4⟩ := nl_ok hp hs
  obtain ⟨⟨⟨hx, hR, hTG, hV⟩, ⟨hKs, hA0, hAB, hBl⟩, ⟨hgl, hmS, hXb, hrow⟩, hw3, h113, h703⟩, -⟩ := id h
  have hA1 : A.length ≤ 50000 := Nat.le_trans (nd_le hV.1.1.2.1.1 hAB) hBl
  refine k_cutT (c_cutLine hx.1 hTG hV.1.1 hX ⟨hKs (6, nMake) (by simp [kF]), hKs (7, nStart) (by simp [kF])⟩ hw3 (by omega) x1 x2 x3 x4 (fun M7 hTL f7 => ?_))
  obtain ⟨hg7, hN7, hX7, hWA7, hK27⟩ := hTL
  have hpre := foldT_pre (tks p n a) A
  have hsub : foldT A (tks p n a) ⊆ BB := foldT_sub _ _ hAB (fun t ht => hB t (by
    unfold full; split
    · exact List.mem_append_left _ ht
    · exact ht))
  have hA2 : (foldT A (tks p n a)).length ≤ 50000 := Nat.le_trans (nd_le hN7.2.1.1 hsub) hBl
  have hK7 := (hKs.fr f7).pre hpre
  have hok := tks_ok hp _ a (Nat.le_refl _) (by omega)
  have hL1 := tks_len hp _ a (Nat.le_refl _) (by omega)
  have hL2 := full_len (nl p n a) (tks p n a)
  refine hQ _ M7 hpre (h.tk (f7.sub rfl) (hg7.sub (by decide)) (hV.cut f7 hg7 hx hN7 hpre) rfl hK7 hpre hsub ((f7.L (f := 113) rfl 0).trans h113)) hX7 f7 ⟨⟨hWA7, hK7, by omega, by omega, fun t ht => ?_⟩, 0, hK27.2, rfl, Nat.zero_le _⟩
  rcases full_mem ht with q | q
  · exact (hok t q).2.1
  · rw [q]; exact (by decide : (0 : Nat) < 100)
end
