/-! OPERATIONS OF THE TWIN drop and world, in the whole -/
section
variable {G : List Sl} {U1 : List (List Kd × Kd)} {BB A : List Nm} {S : List Sg} {on : Nat → Bool} {ws : Nat → Wld} {lf k w v B F : Nat} {M M' : Mem} {T : List Trl} {tp P : List Int32} {pl a : Int32} {L : Tl} {V : RV} {Q : Int32 → Mem → Prop}
theorem rmT.f0 (h : rmT G w F M) (hx : Gx G w) (hf : Fr (3176766231019168047779935388200097820433440940018864273811639933063724010036462572464536816452463822043693039747533696923500251937487517949404356825600544036344455908035583560540390217230299228602535954416742432484892734669356970162868285225878336857345442727250597155312251875886802639364567083582236778759931726123102495613076389466063225796848630163810544079872327896179184153761054749292796905880507931009486609892811110825603694618585322639248116766765050579745484946965056582381132478729923878282245619922116715577966205714978741578170013967068028294346726708507859037228305980369719464988185053860432163694086015799484788203870845452716919147023869426651895842082422654084581075172593123188508708387881668236955343499055473420964837200145534202872959710979570829211463259007604711111155717266691130748436466678936079838497378063205351871612003168426046789832815236181136338724542174324145370814195021543696092995150220967056346092858553590550584450399115760931106863321194276388088237585666814431669877909775110373376) M M') : rmT G w F M' := by
  obtain ⟨e, -, -⟩ := hf.ml (by rfl)
  obtain ⟨a, ⟨q1, q2, q3, q4, q5, q6⟩, c, d, g⟩ := h
  refine ⟨by rw [e]; exact a, ⟨by rw [e]; exact q1, by rw [e]; exact q2, by rw [e]; exact q3, by rw [e]; exact q4, by rw [e]; exact q5, fun t ht => ?_⟩, fun t ht => by rw [e]; exact c t ht, fun y hy => ?_, fun y hy => ⟨(g y hy).1, ?_⟩⟩
  · rw [hf.Ra (f := 704) rfl rfl]; exact q6 t ht
  · rw [(rd_fr hf hx.1 rfl (hx.2.2.2.1 y hy)).2]; exact d y hy
  · rw [(rd_fr hf hx.1 rfl (g y hy).1).2]; exact (g y hy).2
theorem MdT.f0 (h : MdT G U1 BB A S B F T M) (hf : Fr (3176766231019168047779935388200097820433440940018864273811639933063724010036462572464536816452463822043693039747533696923500251937487517949404356825600544036344455908035583560540390217230299228602535954416742432484892734669356970162868285225878336857345442727250597155312251875886802639364567083582236778759931726123102495613076389466063225796848630163810544079872327896179184153761054749292796905880507931009486609892811110825603694618585322639248116766765050579745484946965056582381132478729923878282245619922116715577966205714978741578170013967068028294346726708507859037228305980369719464988185053860432163694086015799484788203870845452716919147023869426651895842082422654084581075172593123188508708387881668236955343499055473420964837200145534202872959710979570829211463259007604711111155717266691130748436466678936079838497378063205351871612003168426046789832815236181136338724542174324145370814195021543696092995150220967056346092858553590550584450399115760931106863321194276388088237585666814431669877909775110373376) M M') : MdT G U1 BB A S B F T M' := by
  refine ⟨?_, ⟨h.2.1.1.fr hf, h.2.1.2.fr hf⟩, h.2.2⟩
  obtain ⟨⟨hx, hR, hTG, hV⟩, ⟨hKs, hA0, hAB, hBl⟩, ⟨hgl, hmS, hXb, hrow⟩, hw3, h113, h703⟩ := h.1
  obtain ⟨r1, r2⟩ := hf.rsl hx.1
  exact ⟨⟨hx, hR.f0 hx hf, ((GF.rf hTG).fr (X := []) hf hx.1).1, hV.fr hf hx⟩, ⟨hKs.fr hf, hA0, hAB, hBl⟩, ⟨⟨⟨(hf.L (f := 111) rfl 0).trans hgl.1.1, (hf.L (f := 212) rfl 0).trans hgl.1.2.1, (hf.L (f := 112) rfl 0).trans hgl.1.2.2⟩, (hf.I (f := 11) (k := 77) rfl 0).trans hgl.2⟩, ⟨by rw [r1, r2]; exact hmS.1, by rw [hf.L (f := 110) rfl]; exact hmS.2.1, by rw [hf.L (f := 110) rfl]; exact hmS.2.2⟩, hXb.fr hf hx.1 hx.2.2.2.2.1, by rw [rl_keep hf hTG hx.2.2.2.2.2]; exact hrow⟩, ⟨(hf.L (f := 411) rfl 0).trans hw3.1, (hf.L (f := 107) rfl 0).trans hw3.2.1, (hf.L (f := 108) rfl 0).trans hw3.2.2⟩, (hf.L (f := 113) rfl 0).trans h113, (hf.L (f := 703) rfl 0).trans h703.1, (hf.Ra (f := 703) rfl rfl 0 3).trans h703.2⟩
theorem T_drop {B0 : Nat} (hB0 : mS M ≤ B0 + 2 * rs G M) (h : WWT G U1 A S on ws lf M) (hg : GTC G U1 BB A S T tp pl L V P M) (hG : GM M) (hz : ∀ q, 3 ≤ q → mR M 702 0 q = none) (hk : k < 3) (hon : on k = true)
    (hQ : ∀ M', WWT G U1 A S (up1 on k false) ws lf M' ∧ GTC G U1 BB A S T tp pl L V P M' ∧ Fr TWF M M' ∧ Ty M' → mS M' ≤ B0 + 2 * rs G M' → Q (Int32.ofNat (dW (ws k)).length - 21) M') : w_Model_drop 0 (Int32.ofNat k) Q M := by
  obtain ⟨nq, nl, nf, nk, B, x, ⟨hR, hx⟩, hb⟩ := (h.2.2.2 k hk).1 hon
  obtain ⟨⟨hD, hD6⟩, hS⟩ := h.st hG hz hk
  have hGa := h.2.1.1.1
  have hTG := h.2.1.2
  obtain ⟨p1, p2, p3⟩ := hGa.p
  refine mo_w_Model_drop (T := fun q => q = 1000 + k) hD (by rw [n0k hk]) (Q := fun r M' => r = Int32.ofNat (dW (ws k)).length - 21 ∧ tOn (up1 on k false) M' ∧ Fr (3176766231019168047779935388200097820433440940018864273811639933063724010036462572464536816452463822043693039747533696923500251937487517949404356825600544036344455908035583560540390217230299228602535954416742432484892734669356970162868285225878336857345442727250597155312251875886802639364567083582236778759931726123102495613076389466063225796848630163810544079872327896179184153761054749292796905880507931009486609892811110825603694618585322639248116766765050579745484946965056582381132478729923878282245619922116715577966205714978741578170013967068028294346726708507859037228305980369719464988185053860432163694086015799484788203870845452716919147023869426651895842082422654084581075172593123188508708387881668236955343499055473420964837200145534202872959710979570829211463259007604711111155717266691130748436466678936079838497378063205351871612003168426046789832815236181136338724542174324145370814195021543696092995150220967056346092858553590550584450399115760931106863321194276388088237585666814431669877909775110373376) M M') (fun r M' ho hx2 => ?_) hS (ct_drop hk h.1.2 hon hR (fun M' z1 z2 => ⟨rfl, z1, z2⟩))
  obtain ⟨e, hO, hf⟩ := hx2
  subst e
  have hT := ho.2.2 h.1.1
  obtain ⟨⟨B2, hm2⟩, ⟨h2, h3⟩, hTd, ⟨h5, h6⟩, ⟨h7, h8⟩, h9, h10, h11, h12, h13, h14, h15⟩ := id hg
  have hm := hm2.bb hB0
  have hm' := hm.f0 hf
  refine hQ M' ⟨⟨⟨hT, hO⟩, ⟨h.2.1.1, hm'.1.1.2.2.1⟩, ⟨h.2.2.1.1, (hf.I (f := 11) (k := 93) rfl 0).trans h.2.2.1.2⟩, fun v hv => ?_⟩, ⟨⟨B0, hm'⟩, ⟨h2.fr hf, (hf.I (f := 11) (k := 86) rfl 0).trans h3⟩, hTd.k2 hg.h77 hf (K2.fr hf rfl), ⟨h5.fr hf, (hf.L (f := 520) rfl 0).trans h6⟩, ⟨h7.fr p1 hTG hf, h8.fr p2 p3 hTG hf⟩, ⟨(hf.L (f := 521) rfl 0).trans h9.1, (hf.L (f := 120) rfl 0).trans h9.2.1, (hf.L (f := 121) rfl 0).trans h9.2.2⟩, (hf.L (f := 125) rfl 0).trans h10, (hf.L (f := 126) rfl 0).trans h11, (hf.L (f := 127) rfl 0).trans h12, (hf.L (f := 128) rfl 0).trans h13, (hf.L (f := 129) rfl 0).trans h14, h15.u ho.2.1 (by omega)⟩, hf.sub rfl, hT⟩ hm'.cap
  by_cases e : v = k
  · subst e
    rw [up1_s]
    exact ⟨fun z => (by cases z), fun _ => (hR.md.1).f0 (h.2.1.1.2 v (by omega)) hf⟩
  · rw [up1_o e]
    exact h.om hm'.1 ho.2.1 List.prefix_rfl List.prefix_rfl e hv
theorem T_world {B0 : Nat} (hB0 : mS M ≤ B0 + 2 * rs G M) (h : WWT G U1 A S on ws lf M) (hg : GTC G U1 BB A S T tp pl L V P M) (hG : GM M) (hz : ∀ q, 3 ≤ q → mR M 702 0 q = none) (q0 : (a < 0 ∨ 255 < a) → Q (-1) M) (q1 : ¬ (a < 0 ∨ 255 < a) → frW on = none → Q (-3) M)
    (hQ : ∀ k M', frW on = some k → k < 3 → ¬ (a < 0 ∨ 255 < a) → WWT G U1 A S (up1 on k true) (up1 ws k (W21, a, ms0 0, 50, 0, dF (ws k), 0)) lf M' ∧ GTC G U1 BB A S T tp pl L V P M' ∧ Fr TWF M M' ∧ Ty M' → mS M' ≤ B0 + 2 * rs G M' → Q (Int32.ofNat k) M') : w_Model_world 0 a Q M := by
  refine ct_wworld h.1.2 q0 q1 (fun k e hk nb => ?_)
  have hoff := frW_off e
  have hGa := h.2.1.1.1
  have hTG := h.2.1.2
  have hx3 := h.2.1.1.2 3 (by omega)
  obtain ⟨p1, p2, p3⟩ := hGa.p
  have hD : Dok k (DT G k M) := Dok_T hGa.1
  have hS : St k (DT G k M) (fun _ => False) (fun _ => false) M := StT hG hGa hTG (by omega) (fun f i q g j _ z => by cases z) (fun f q g j _ z => z.elim)
  obtain ⟨⟨B2, hm2⟩, ⟨h2, h3⟩, -, ⟨h5, h6⟩, ⟨h7, h8⟩, -⟩ := id hg
  have hm := (hm2.bb hB0).1
  refine mo_w_Model_beginWorld hD (ow1 rfl rfl) (Q := fun M' => Fr F_Model_beginWorld M M' ∧ TAx G (U1, S) A S W21 k a 0 0 0 0 B0 (dF (ws k)) 50 (ms0 0) M' ∧ mI M' 12 k 0 = 1) (fun M' ho hx => ?_) hS (mf_w_Model_beginWorld (fun _ hf h => ⟨hf, h⟩) (ct_wbegin (k := 0) (h.2.1.1.2 k (by omega)) ((h.2.2.2 k hk).2 hoff) hTG hm.1.2.2.2 hm.2.1.1 hm.2.1.2.1 hm.al hm.2.2.1.1 hm.2.2.1.2.1 (fun M' z1 _ z3 _ _ => ⟨z1, z3⟩)))
  obtain ⟨hf, hR, h1⟩ := hx
  have hT := ho.2.2 h.1.1
  have hu := ho.2.1
  have hd : WdT G U1 A S k (W21, a, ms0 0, 50, 0, dF (ws k), 0) M' := ⟨0, 0, 0, 0, B0, 50, ⟨hR, (WI21 (K := 0)).2.2⟩, Nat.zero_le _, Nat.zero_le _, Nat.zero_le _, Nat.zero_le _⟩
  have hO : tOn (up1 on k true) M' := by
    refine ⟨(hf.L (f := 703) rfl 0).trans h.1.2.1, fun j hj => ⟨(hf.Ra (f := 703) rfl rfl 0 j).trans (h.1.2.2 j hj).1, ?_⟩⟩
    by_cases e : j = k
    · rw [e, up1_s]; exact h1
    · rw [up1_o e]
      exact (((hu 12 j (fun o => e (o.1 rfl))).1 0).1).trans (h.1.2.2 j hj).2
  refine hQ k M' e hk nb ⟨⟨⟨hT, hO⟩, ⟨h.2.1.1, hR.tg⟩, ⟨h.2.2.1.1, (hf.I (f := 11) (k := 93) rfl 0).trans h.2.2.1.2⟩, fun v hv => ?_⟩, hg.nx hGa hTG hk hu hf (K2.fr hf rfl) hd List.prefix_rfl hm.2.1.2.2.1 (h2.fr hf) ((hf.I (f := 11) (k := 86) rfl 0).trans h3) (h5.fr hf) ⟨h7.fr p1 hTG hf, h8.fr p2 p3 hTG hf⟩ ⟨hm.2.2.1.2.2.1.kp hf hTG hx3.2.2.2.2.1, by rw [rl_keep hf hTG hx3.2.2.2.2.2]; exact hm.2.2.1.2.2.2⟩, hf.sub rfl, hT⟩ hR.md.2.2.2.2.2.1
  by_cases e : v = k
  · subst e
    rw [up1_s, up1_s]
    exact ⟨fun _ => hd, fun z => (by cases z)⟩
  · rw [up1_o e, up1_o e]
    refine ⟨fun z => ?_, fun z => ((h.2.2.2 v hv).2 z).oth (h.2.1.1.2 v (by omega)) hTG e hu⟩
    obtain ⟨nq, nl, nf, nk, B, x, ⟨y1, y2⟩, hb⟩ := (h.2.2.2 v hv).1 z
    exact ⟨nq, nl, nf, nk, B0, x, ⟨y1.oth hR e hu List.prefix_rfl List.prefix_rfl, y2⟩, hb⟩
end
