/-! a world of the twin after a text was taken in -/
section
variable {G : List Sl} {US US' : UST} {A A' : List Nm} {S S' : List Sg} {W W' : List Cls} {w K : Nat} {br x : Int32} {nq nl nf nk nq' nl' nf' nk' B F : Nat} {M M' : Mem} {s : Ms}
theorem XF_T : ∀ y ∈ XF w, y ∉ XT w := fun y hy hz => by
  simp only [List.mem_cons, List.not_mem_nil, or_false] at hy hz
  rcases hy with e | e | e | e <;> subst e <;> simp at hz
theorem TA.grow (h : TA G US A S W w br nq nl nf nk B F x s M) (hG : GI W K s) (hz : LZ W s) (hA : A <+: A') (hl : A'.length ≤ 200000) (hS : S <+: S') (hW : W <+: W') (hT : TW A' S' W' w br 0 nq' nl' nq' nl' nf' nk' M') (hV : TV US' A' S' M') (hK : TKs A' M') (hN : tNw W.length W' w M') (hR : KR G w W.length nq nl nf nk M M') (hf : Fr F_Model_define M M') : TA G US' A' S' W' w br nq' nl' nf' nk' B F x s M' := by
  have hCO : CO W s := hG.1.1.1.2.2.2.2
  have hSO : SO W s := hG.1.1.1.2.2.1
  have zc : ∀ k, W.length ≤ k → zC s k = 0 := fun k hk => Classical.byContradiction (fun z => absurd ((hCO.2.1 k).2 z).1 (by omega))
  obtain ⟨⟨⟨⟨h1, h2, h3, h4⟩, hx, h7, h8⟩, hl8, h156, ⟨tk1, tk2, tk3⟩, tk4⟩, ⟨hC, hSs⟩, ⟨hH, hF⟩, ⟨hEv, hD, hTt⟩, ⟨l7, r7⟩, ⟨m1, m2, m3⟩, hNn⟩ := h
  have lo := hR.2.1.1
  refine ⟨⟨⟨⟨hT, hV, hK, hR.1.1⟩, hx, hl, h8.trans hA⟩, fun c hc => ?_, ⟨(hf.L (f := 156) rfl w).trans h156.1, (hf.Ia (f := 156) rfl rfl w 0).trans h156.2.1, (hf.Ia (f := 156) rfl rfl w 1).trans h156.2.2.1, (hf.Ia (f := 156) rfl rfl w 2).trans h156.2.2.2⟩, ⟨(hf.L (f := 111) rfl 0).trans tk1, (hf.L (f := 212) rfl 0).trans tk2, (hf.L (f := 112) rfl 0).trans tk3⟩, (hf.I (f := 11) (k := 77) rfl 0).trans tk4⟩, ⟨⟨⟨(hf.L (f := 164) rfl w).trans hC.1.1, (hf.L (f := 163) rfl w).trans hC.1.2⟩, fun k hk => ?_, (hf.I (f := 12) (k := 60) rfl w).trans hC.2.2.1, fun i hi => (hf.Ia (f := 163) rfl rfl w i).trans (hC.2.2.2 i hi)⟩, fun c f hc hf' hs => ?_⟩, ⟨hH.fr hf, ?_⟩, ⟨hEv.fr hf, hD.fr hf, hTt.fr hf⟩, ⟨(hf.L (f := 704) rfl w).trans l7, fun t ht => (hf.Ra (f := 704) rfl rfl w t).trans (r7 t ht)⟩, ⟨?_, by rw [hf.L (f := 110) rfl]; exact m2, by rw [hf.L (f := 110) rfl]; exact m3⟩, fun t ht => ((hNn t ht).eq (fun g k a b => unO_I (by rfl) hf a b _) (fun g a => unO_L (by rfl) hf a _)).pre hA hS⟩
  · by_cases q : c < W.length
    · exact ((lo 138 rfl).1 w c (Or.inr q)).trans (hl8 c q)
    · exact (hN c (by omega) hc).1.2.trans (hz c (by omega)).symm
  · by_cases q : k < W.length
    · obtain ⟨a, b⟩ := hC.2.1 k q
      exact ⟨((lo 137 rfl).1 w k (Or.inr q)).trans a, fun z => (hf.Ia (f := 164) rfl rfl w k).trans (b z)⟩
    · exact ⟨(hN k (by omega) hk).1.1.trans (zc k (by omega)).symm, fun z => absurd (z.symm.trans (zc k (by omega))) (by decide)⟩
  · by_cases q : c < W.length
    · rw [gc_pre hW q] at hf' hs ⊢
      have h8 := (h1.1.2.1.2 c q).1.2
      exact ((lo 143 rfl).1 w (8 * c + f) (Or.inr (show 8 * c + f < 8 * W.length by omega))).trans (hSs c f q hf' hs)
    · rw [hSO.2 c f (zc c (by omega)), tr_0]
      exact (hN c (by omega) hc).2 f hf'
  · obtain ⟨f1, f2, f3⟩ := hF
    have hr : ∀ y ∈ XF w, (∀ k, rd M' y k = rd M y k) ∧ rl M' y = rl M y := fun y hy => ⟨(hR.1.2.1 y (f2 y hy).1 (XF_T y hy)).1, (hR.1.2.1 y (f2 y hy).1 (XF_T y hy)).2.1⟩
    refine ⟨(hf.I (f := 12) (k := 56) rfl w).trans f1, fun y hy => ?_, fun i hi => ?_⟩
    · rw [(hr y hy).2]; exact f2 y hy
    · rw [(hr (sFc w) (by simp)).1, (hr (sFu w) (by simp)).1, (hr (sFl' w) (by simp)).1, (hr (sFo w) (by simp)).1]; exact f3 i hi
  · have := hR.1.2.2
    omega
theorem sR_rf : Fr (69556213141345269407515067115786764991705262549735948303537359111522614176378895669990532984393877424257869264331680209358104836822935374614554679608043721543799333994078233166448732839509381338884749875141583345849788064702954612877462466104677421689448088294080777773965362174599308044327164417092088846031042047278365580585966720455145967136585436087833973984505353126613550736388181582785893315094229488730062957948409704252857268529221075377285067062755595332929103886865297150820576930048624213679773234781064639103418048462727563158233601126703792262163018387042296687430434915196125330685777119717767970019341806901981510528366365657011400439883787084893751229924829447152769796462326141284670937650906274428797367613626454026848298648969369286983979169519208976077834399557390296948941219899625597632161323087361696526000865772268255307923110197940977474400891396850517544211016799549379926055142573277403100946091498432294529676854420081353757434477181439477999992832) (sR M 11 0 45 (some (12, w))) M := by
  have h := sR_fr (M := M) (w := w)
  exact ⟨fun f k e i => ⟨(h.1 f k e i).1.symm, (h.1 f k e i).2.1.symm, (h.1 f k e i).2.2.symm⟩, fun f e i => (h.2.1 f e i).symm, fun e => ⟨(h.2.2.1 e).1.symm, (h.2.2.1 e).2.symm⟩, fun q hq => ⟨hq, rfl⟩⟩
theorem TAx.grow (h : TAx G US A S W w br nq nl nf nk B F x s M) (hG : GI W K s) (hz : LZ W s) (hA : A <+: A') (hl : A'.length ≤ 200000) (hS : S <+: S') (hW : W <+: W') (hT : TWx A' S' W' w br nq' nl' nf' nk' M') (hV : TV US' A' S' M') (hK : TKs A' M') (hN : tNw W.length W' w M') (hR : KR G w W.length nq nl nf nk M M') (hf : Fr F_Model_define M M') : TAx G US' A' S' W' w br nq' nl' nf' nk' B F x s M' := by
  have hx : Gx G w := h.1.1.2.1
  have hw := hx.2.2.2.1
  have hTG : TG G (sR M 11 0 45 (some (12, w))) := h.1.1.1.2.2.2
  have kr : KR G w W.length nq nl nf nk (sR M 11 0 45 (some (12, w))) (sR M' 11 0 45 (some (12, w))) := ((KR.fr (M := sR M 11 0 45 (some (12, w))) ⟨GF.rf hTG, LoT.rf _ _ _, Rk.rf _ _ _ _ _ _⟩ sR_rf hx.1 hw).trans hR).fr sR_fr hx.1 hw
  exact TA.grow h hG hz hA hl hS hW hT (hV.fr sR_fr hx) (hK.fr sR_fr) hN kr hf.rr
end
