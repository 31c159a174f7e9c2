/-! A world of the twin depends on its own cells alone -/
def EqT (w : Nat) (M M' : Mem) : Prop := (∀ f, 130 ≤ f → f ≤ 169 → (∀ k, mI M' f w k = mI M f w k) ∧ mL M' f w = mL M f w) ∧ ((∀ k, mI M' 523 w k = mI M 523 w k) ∧ mL M' 523 w = mL M 523 w) ∧ ((∀ k, mI M' 524 w k = mI M 524 w k) ∧ mL M' 524 w = mL M 524 w) ∧ (∀ k, k < 72 → mI M' 12 w k = mI M 12 w k) ∧ (∀ t, t < 3 → (∀ g k, tnF g = true → (g = 13 → k < 23) → mI M' g (3 * w + t) k = mI M g (3 * w + t) k) ∧ ∀ g, tnF g = true → mL M' g (3 * w + t) = mL M g (3 * w + t)) ∧ mL M' 704 w = mL M 704 w ∧ ∀ t, t < 3 → mR M' 704 w t = mR M 704 w t
def eqO (R : Nat) : Bool := ((List.range 40).all (fun j => !R.testBit (130 + j) && !R.testBit (5130 + j)) && ((List.range 72).all (fun k => !R.testBit (cd 12 k)) && okF R [523, 524, 5523, 5524, 704, 5704])) && unO R
section
variable {G : List Sl} {US US' : UST} {A A' : List Nm} {S S' : List Sg} {W : List Cls} {w t : Nat} {br x : Int32} {nq nl nf nk B B' F : Nat} {M M' M1 : Mem} {s : Ms} {l : Ln} {R : Nat}
theorem EqT.rf (w : Nat) (M : Mem) : EqT w M M := ⟨fun _ _ _ => ⟨fun _ => rfl, rfl⟩, ⟨fun _ => rfl, rfl⟩, ⟨fun _ => rfl, rfl⟩, fun _ _ => rfl, fun _ _ => ⟨fun _ _ _ _ => rfl, fun _ _ => rfl⟩, rfl, fun _ _ => rfl⟩
theorem EqT.trans (h : EqT w M M1) (h1 : EqT w M1 M') : EqT w M M' := by
  obtain ⟨a, b, c, d, e, f, g⟩ := h
  obtain ⟨a1, b1, c1, d1, e1, f1, g1⟩ := h1
  exact ⟨fun f h1 h2 => ⟨fun k => ((a1 f h1 h2).1 k).trans ((a f h1 h2).1 k), (a1 f h1 h2).2.trans (a f h1 h2).2⟩, ⟨fun k => (b1.1 k).trans (b.1 k), b1.2.trans b.2⟩, ⟨fun k => (c1.1 k).trans (c.1 k), c1.2.trans c.2⟩, fun k hk => (d1 k hk).trans (d k hk), fun t ht => ⟨fun g k h1 h2 => ((e1 t ht).1 g k h1 h2).trans ((e t ht).1 g k h1 h2), fun g h1 => ((e1 t ht).2 g h1).trans ((e t ht).2 g h1)⟩, f1.trans f, fun t ht => (g1 t ht).trans (g t ht)⟩
theorem EqT.fr (hf : Fr R M M') (hS : eqO R = true := by rfl) : EqT w M M' := by
  unfold eqO at hS
  simp only [Bool.and_eq_true, List.all_eq_true, List.mem_range, Bool.not_eq_true'] at hS
  obtain ⟨⟨a, b, c⟩, d⟩ := hS
  have o := fun {b : Nat} (hb : b ∈ [523, 524, 5523, 5524, 704, 5704]) => okF_in c hb
  refine ⟨fun f h1 h2 => ?_, ⟨fun k => hf.Ia (f := 523) rfl (o (by decide)) w k, hf.L (f := 523) (o (by decide)) w⟩, ⟨fun k => hf.Ia (f := 524) rfl (o (by decide)) w k, hf.L (f := 524) (o (by decide)) w⟩, fun k hk => hf.I (b k hk) w, fun t ht => ⟨fun g k h1 h2 => unO_I d hf h1 h2 _, fun g h1 => unO_L d hf h1 _⟩, hf.L (f := 704) (o (by decide)) w, fun t ht => hf.Ra (f := 704) rfl (o (by decide)) w t⟩
  have := a (f - 130) (by omega)
  rw [show 130 + (f - 130) = f by omega, show 5130 + (f - 130) = 5000 + f by omega] at this
  exact ⟨fun k => hf.Ia (Nat.ble_eq.mpr (by omega)) this.1 w k, hf.L this.2 w⟩
theorem uN.pre (h : uN A S w t l M) (hA : A <+: A') (hS : S <+: S') : uN A' S' w t l M := by
  refine ⟨h.1, fun z => ⟨?_, (h.2 z).2⟩⟩
  obtain ⟨a1, a2, a3, a4, a5⟩ := (h.2 z).1
  refine ⟨a1, a2, a3, a4, fun q => ?_⟩
  obtain ⟨b1, ⟨b2, b3⟩, b4, b5, b6, b7⟩ := a5 q
  have e := sg_pre hA (fun κ hκ => (b6.2.2.1 κ hκ).1) b6.2.2.2.1
  exact ⟨b1, ⟨by rw [nc_pre hA b3]; exact b2, hA.subset b3⟩, by rw [nc_pre hA b6.1]; exact b4, by rw [e, idxS_pre hS b6.2.1]; exact b5, ⟨hA.subset b6.1, by rw [e]; exact hS.subset b6.2.1, fun κ hκ => ⟨kok_pre hA (b6.2.2.1 κ hκ).1, (b6.2.2.1 κ hκ).2⟩, kok_pre hA b6.2.2.2.1, b6.2.2.2.2⟩, b7⟩
theorem TA.eq (h : TA G US A S W w br nq nl nf nk B F x s M) (hE : EqT w M M') (h45 : mR M' 11 0 45 = some (12, w)) (hr : ∀ y, y ∈ XW w ∨ y ∈ XF w → (∀ k, rd M' y k = rd M y k) ∧ rl M' y = rl M y) (hg : TG G M') (hV : TV US' A' S' M') (hK : TKs A' M') (hA : A <+: A') (hl : A'.length ≤ 200000) (hS : S <+: S') (hgl : tLk M') (hmS : mS M' ≤ B' + 2 * rs G M' ∧ 51 ≤ mL M' 110 0 ∧ mL M' 110 0 < 1000000) : TA G US' A' S' W w br nq nl nf nk B' F x s M' := by
  obtain ⟨⟨⟨⟨h1, h2, h3, h4⟩, hx, h7, h8⟩, hl8, h156, -⟩, ⟨hC, hSs⟩, ⟨hH, hF⟩, ⟨hEv, hD, hT⟩, ⟨l7, r7⟩, -, hN⟩ := h
  obtain ⟨a, b, c, d, e, f, g⟩ := hE
  have E : ∀ f, 130 ≤ f → f ≤ 169 → ∀ k, mI M' f w k = mI M f w k := fun f h1 h2 => (a f h1 h2).1
  have L : ∀ f, 130 ≤ f → f ≤ 169 → mL M' f w = mL M f w := fun f h1 h2 => (a f h1 h2).2
  refine ⟨⟨⟨⟨?_, hV, hK, hg⟩, hx, hl, h8.trans hA⟩, fun c hc => (E 138 (by omega) (by omega) c).trans (hl8 c hc), ⟨(L 156 (by omega) (by omega)).trans h156.1, (E 156 (by omega) (by omega) 0).trans h156.2.1, (E 156 (by omega) (by omega) 1).trans h156.2.2.1, (E 156 (by omega) (by omega) 2).trans h156.2.2.2⟩, hgl⟩, ⟨?_, ?_⟩, ⟨?_, ?_⟩, ⟨?_, ?_, ?_⟩, ⟨f.trans l7, fun t ht => (g t ht).trans (r7 t ht)⟩, hmS, fun t ht => ((hN t ht).eq (e t ht).1 (e t ht).2).pre hA hS⟩
  · refine TW.pre (h1.of (fun f hf => ?_) (fun k hk => d k ?_) (h45.trans h1.1.1.2.1.symm) (fun y hy => hr y (Or.inl hy))) hA hl hS
    · unfold tFm at hf
      rw [Bool.or_eq_true, Bool.and_eq_true] at hf
      rcases hf with z | z
      · have z1 := Nat.ble_eq.mp z.1
        have z2 := Nat.ble_eq.mp z.2
        exact a f (by omega) (by omega)
      · have := Nat.eq_of_beq_eq_true z; subst this; exact b
    · simp only [List.mem_cons, List.not_mem_nil, or_false] at hk
      omega
  · unfold uC at hC ⊢
    simp only [E 137 (by omega) (by omega), E 163 (by omega) (by omega), E 164 (by omega) (by omega), L 163 (by omega) (by omega), L 164 (by omega) (by omega), d 60 (by omega)]
    exact hC
  · unfold uS at hSs ⊢
    simp only [E 143 (by omega) (by omega)]
    exact hSs
  · unfold uH uO at hH ⊢
    simp only [E 157 (by omega) (by omega), E 158 (by omega) (by omega), E 159 (by omega) (by omega), E 160 (by omega) (by omega), E 161 (by omega) (by omega), E 162 (by omega) (by omega), L 157 (by omega) (by omega), L 158 (by omega) (by omega), L 159 (by omega) (by omega), L 160 (by omega) (by omega), L 161 (by omega) (by omega), L 162 (by omega) (by omega), c.1, c.2, d 50 (by omega), d 52 (by omega)]
    exact hH
  · obtain ⟨f1, f2, f3⟩ := hF
    refine ⟨(d 56 (by omega)).trans f1, fun y hy => ?_, fun i hi => ?_⟩
    · rw [(hr y (Or.inr hy)).2]; exact f2 y hy
    · rw [(hr (sFc w) (Or.inr (by simp))).1, (hr (sFu w) (Or.inr (by simp))).1, (hr (sFl' w) (Or.inr (by simp))).1, (hr (sFo w) (Or.inr (by simp))).1]; exact f3 i hi
  · unfold uE at hEv ⊢
    simp only [E 165 (by omega) (by omega), E 166 (by omega) (by omega), E 167 (by omega) (by omega), E 168 (by omega) (by omega), L 165 (by omega) (by omega), L 166 (by omega) (by omega), L 167 (by omega) (by omega), L 168 (by omega) (by omega), d 70 (by omega)]
    exact hEv
  · unfold uD at hD ⊢
    simp only [E 169 (by omega) (by omega), L 169 (by omega) (by omega)]
    exact hD
  · unfold uT at hT ⊢
    rw [d 63 (by omega), d 65 (by omega), d 64 (by omega)]
    exact hT
theorem EqT.sel (h : EqT w M M') : EqT w (sR M 11 0 45 (some (12, w))) (sR M' 11 0 45 (some (12, w))) := by
  obtain ⟨a, b, c, d, e, f, g⟩ := h
  refine ⟨a, b, c, d, e, f, fun t ht => ?_⟩
  rw [mR_sR, if_neg (fun z => absurd z.1 (by decide)), mR_sR, if_neg (fun z => absurd z.1 (by decide))]; exact g t ht
theorem TAx.eq (h : TAx G US A S W w br nq nl nf nk B F x s M) (hE : EqT w M M') (hr : ∀ y, y ∈ XW w ∨ y ∈ XF w → (∀ k, rd M' y k = rd M y k) ∧ rl M' y = rl M y) (hg : TG G M') (hV : TV US' A' S' M') (hK : TKs A' M') (hA : A <+: A') (hl : A'.length ≤ 200000) (hS : S <+: S') (hgl : tLk M') (hmS : mS M' ≤ B' + 2 * rs G M' ∧ 51 ≤ mL M' 110 0 ∧ mL M' 110 0 < 1000000) : TAx G US' A' S' W w br nq nl nf nk B' F x s M' := by
  have hx : Gx G w := h.1.1.2.1
  have hf : ∀ M : Mem, Fr (69556213141345269407515067115786764991705262549735948303537359111522614176378895669990532984393877424257869264331680209358104836822935374614554679608043721543799333994078233166448732839509381338884749875141583345849788064702954612877462466104677421689448088294080777773965362174599308044327164417092088846031042047278365580585966720455145967136585436087833973984505353126613550736388181582785893315094229488730062957948409704252857268529221075377285067062755595332929103886865297150820576930048624213679773234781064639103418048462727563158233601126703792262163018387042296687430434915196125330685777119717767970019341806901981510528366365657011400439883787084893751229924829447152769796462326141284670937650906274428797367613626454026848298648969369286983979169519208976077834399557390296948941219899625597632161323087361696526000865772268255307923110197940977474400891396850517544211016799549379926055142573277403100946091498432294529676854420081353757434477181439477999992832) M (sR M 11 0 45 (some (12, w))) := fun M => sR_fr
  have hin : ∀ y, y ∈ XW w ∨ y ∈ XF w → y ∈ G := fun y hy => hy.elim (fun z => hx.2.2.2.1 y z) (fun z => (h.2.2.1.2.2.1 y z).1)
  refine TA.eq h hE.sel (by rw [mR_sR, if_pos ⟨rfl, rfl, rfl⟩]) (fun y hy => ?_) ((GF.rf hg).fr (X := []) (hf M') hx.1).1 (hV.fr (hf M') hx) (hK.fr (hf M')) hA hl hS hgl ?_
  · have r1 := rd_fr (hf M') hx.1 rfl (hin y hy)
    have r2 := rd_fr (hf M) hx.1 rfl (hin y hy)
    have r3 := hr y hy
    exact ⟨fun k => (r1.1 k).trans ((r3.1 k).trans (r2.1 k).symm), r1.2.trans (r3.2.trans r2.2.symm)⟩
  · obtain ⟨e1, e2⟩ := (hf M').rsl hx.1
    rw [e1, e2]; exact hmS
end
