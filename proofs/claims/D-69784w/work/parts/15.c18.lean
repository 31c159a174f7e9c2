/-! B: methods' and rooms' lines in the twin -/
theorem ct_mLn {G : List Sl} {US : UST} {A : List Nm} {S : List Sg} {W : List Cls} {w c : Nat} {br : Int32} {nq nl nf nk : Nat} {z : Nat × Nat × Nat × Nat × Nat × Nat} {L ts : List Tok} {M0 M : Mem} {Q X : Mem → Prop} (hx : Gx G w) (hz : lz L) (hUL : UL US L) (hLl : L.length ≤ 1500) (hq : TQ A L ts M) (hne : ts ≠ []) (hW : TW A S W w br 0 nq nl nq nl nf nk M) (hV : TV US A S M) (hK : KR G w z.1 z.2.1 z.2.2.1 z.2.2.2.1 z.2.2.2.2.1 M0 M) (h51 : mI M 11 0 51 = Int32.ofNat 99) (h53 : mI M 11 0 53 = Int32.ofNat c) (hc1 : c + 1 = W.length) (hzc : z.1 ≤ c) (hXb : XLb M)
    (hX : ∀ e M', pMethod ts = .inl e → ThT e M' → JE G US A w z M0 M' → X M')
    (hQ0 : ∀ bits own ks κ t5 M', pMethod ts = .inr ((bits, own, ks, κ), t5) → rulM br (gc W c) bits own ks κ < 99 → mI M' 11 0 51 = Int32.ofNat (rulM br (gc W c) bits own ks κ) → JE G US A w z M0 M' → PLc L M' → Q M')
    (hQ1 : ∀ bits own ks κ t5 S' M', pMethod ts = .inr ((bits, own, ks, κ), t5) → rulM br (gc W c) bits own ks κ = 99 → bits &&& 8 = 0 → S <+: S' → mI M' 11 0 51 = Int32.ofNat 99 → mI M' 11 0 52 = 2 → TW A S' W w br 1 nq nl nq nl nf nk M' → TP A S' w c (12 * c + (gc W c).2.2.2.2.2.length) nq nl nl nf nk ((own, ks, κ, bits, 0, 0, [], []), [], [], [], none) [] M' → TV US A S' M' → KR G w z.1 z.2.1 z.2.2.1 z.2.2.2.1 z.2.2.2.2.1 M0 M' → (gc W c).2.2.2.2.2.length < 12 → Q M')
    (hQ2 : ∀ bits own ks κ t5 S' M', pMethod ts = .inr ((bits, own, ks, κ), t5) → rulM br (gc W c) bits own ks κ = 99 → ¬ bits &&& 8 = 0 → S <+: S' → mI M' 11 0 51 = Int32.ofNat 99 → mI M' 11 0 52 = 1 → mI M' 11 0 53 = Int32.ofNat c → TW A S' (addM W (own, ks, κ, bits, 0, 0, [], [])) w br 0 nq nl nq nl nf nk M' → TV US A S' M' → KR G w z.1 z.2.1 z.2.2.1 z.2.2.2.1 z.2.2.2.2.1 M0 M' → XLb M' → Q M') : w_Model_methodLine 0 Q X M := by
  have hw := hx.2.2.2.1
  have hL : L ≠ [] := by obtain ⟨i, z, e, -⟩ := hz; rw [e]; simp
  have hc : c < W.length := by omega
  have dW : ∀ s ∈ XW w, s ∉ X6 := fun s hs q => by
    simp only [List.mem_cons, List.not_mem_nil, or_false] at hs q
    rcases hs with e | e | e | e | e | e | e | e | e | e <;> rcases q with q | q | q | q | q | q <;> (rw [e] at q; cases q)
  have dL : ∀ s ∈ XL, s ∉ X6 := by decide
  have hT : ∀ s ∈ X6, s ∈ XT w := fun s hs => by
    simp only [List.mem_cons, List.not_mem_nil, or_false] at hs ⊢
    rcases hs with e | e | e | e | e | e <;> simp [e]
  have fin : ∀ M', Fr F_Model_methodLine M M' → GF G X6 M M' → LoT w c M M' → KR G w z.1 z.2.1 z.2.2.1 z.2.2.2.1 z.2.2.2.2.1 M0 M' ∧ PLc L M' ∧ mR M' 11 0 45 = some (12, w) ∧ XLb M' := fun M' f g lo => ⟨⟨hK.1.trans (g.sub hT), hK.2.1.trans (lo.mono hzc), hK.2.2.trans (Rk.gf g hw dW)⟩, PLc.fr (hq.pl hL) f, (f.R (f := 11) (k := 45) rfl 0).trans hW.1.1.2.1, hXb.gf f g hx.2.2.2.2.1 dL⟩
  refine mf_w_Model_methodLine (Q := fun M' => (∃ bits own ks κ t5 S', pMethod ts = .inr ((bits, own, ks, κ), t5) ∧ rulM br (gc W c) bits own ks κ < 99 ∧ mI M' 11 0 51 = Int32.ofNat (rulM br (gc W c) bits own ks κ) ∧ TV US A S' M' ∧ GF G X6 M M' ∧ LoT w c M M') ∨ (∃ bits own ks κ t5 S', pMethod ts = .inr ((bits, own, ks, κ), t5) ∧ rulM br (gc W c) bits own ks κ = 99 ∧ S <+: S' ∧ tHD A S' W w c br (own, ks, κ, bits, 0, 0, [], []) M' ∧ TV US A S' M' ∧ mI M' 11 0 52 = (if bits &&& 8 = 0 then 2 else 1) ∧ GF G X6 M M' ∧ LoT w c M M' ∧ (∀ f, 149 ≤ f → f ≤ 151 → ∀ k, k ≠ 12 * c + (gc W c).2.2.2.2.2.length → mI M' f w k = mI M f w k))) (X := fun M' => ∃ e S', pMethod ts = .inl e ∧ ThT e M' ∧ TV US A S' M' ∧ GF G X6 M M' ∧ LoT w c M M') (fun M' f h => ?_) (fun M' f h => ?_) (ct_methodLine hx.1 hx.2.1 hx.2.2.1 hK.1.1 hz hUL (by omega) hq hne hW.1.1 hW.1.2.2.1 hV h51 h53 hc1 (fun e S' M' a _ b c _ _ d e' => ⟨e, S', a, b, c, d, e'⟩) (fun bits own ks κ t5 S' M' a b _ c d _ _ e f => Or.inl ⟨bits, own, ks, κ, t5, S', a, b, c, d, e, f⟩) (fun bits own ks κ t5 S' M' a b c d e f g h i => Or.inr ⟨bits, own, ks, κ, t5, S', a, b, c, d, e, f, g, h, i⟩))
  rotate_left
  · obtain ⟨e, S', a, b, c', d, e'⟩ := h
    obtain ⟨x1, x2, x3⟩ := fin M' f d e'
    exact hX e M' a b ⟨S', c', x1, x3⟩
  rcases h with ⟨bits, own, ks, κ, t5, S', a, b, c', d, e, g⟩ | ⟨bits, own, ks, κ, t5, S', a, b, hS, d, e, g, i, j, k9⟩
  · obtain ⟨x1, x2, x3⟩ := fin M' f e g
    exact hQ0 bits own ks κ t5 M' a b c' ⟨S', d, x1, x3⟩ x2
  obtain ⟨x1, x2, x3⟩ := fin M' f i j
  obtain ⟨⟨y1, y2, y3⟩, y4, ⟨y5, y6, y7⟩, y8, ⟨y9, y10, y11⟩, y12⟩ := d
  obtain ⟨⟨hC, hFl, hMs⟩, cnt, hRL, hbn⟩ := id hW
  have hn12 : (gc W c).2.2.2.2.2.length < 12 := Nat.lt_of_le_of_ne (hMs.1.2 c hc).1.2 (rulM_99 b).2
  have e35 : mI M' 12 w 35 = Int32.ofNat nq := (f.I (f := 12) (k := 35) rfl w).trans cnt.1
  rw [e35] at y5
  have rX : ∀ s ∈ XW w, (∀ k, rd M' s k = rd M s k) ∧ rl M' s = rl M s := fun s hs => ⟨(i.2.1 s (hw s hs) (dW s hs)).1, (i.2.1 s (hw s hs) (dW s hs)).2.1⟩
  have hMs' : tMs A S' W w 1 nq nl nf nk M' := by
    refine ⟨y2, fun f' a b => ?_, fun d hd' k hk => ((hMs.2.2 d hd' k hk).pre (List.prefix_refl A) hS (Nat.le_refl _) (Nat.le_refl _) (Nat.le_refl _) (Nat.le_refl _)).keep (Rk.of rX) (fun f' a b => k9 f' a b _ ?_) (fun f' a b i hi => ?_)⟩
    · have h3 : f' = 152 ∨ f' = 153 ∨ f' = 154 ∨ f' = 155 := by omega
      have := hMs.2.1 f' a b
      rcases h3 with e | e | e | e <;> subst e
      · rw [f.L (f := 152) rfl]; exact this
      · rw [f.L (f := 153) rfl]; exact this
      · rw [f.L (f := 154) rfl]; exact this
      · rw [f.L (f := 155) rfl]; exact this
    · have := (hMs.1.2 d hd').1.2
      by_cases q : d = c
      · subst q; omega
      · omega
    · have h3 : f' = 152 ∨ f' = 153 ∨ f' = 154 ∨ f' = 155 := by omega
      rcases h3 with e | e | e | e <;> subst e
      · exact f.Ia (f := 152) rfl rfl w _
      · exact f.Ia (f := 153) rfl rfl w _
      · exact f.Ia (f := 154) rfl rfl w _
      · exact f.Ia (f := 155) rfl rfl w _
  have hcnt : mI M' 12 w 35 = Int32.ofNat nq ∧ mI M' 12 w 37 = Int32.ofNat nl ∧ mI M' 12 w 41 = Int32.ofNat nf ∧ mI M' 12 w 43 = Int32.ofNat nk := ⟨e35, (f.I (f := 12) (k := 37) rfl w).trans cnt.2.1, (f.I (f := 12) (k := 41) rfl w).trans cnt.2.2.1, (f.I (f := 12) (k := 43) rfl w).trans cnt.2.2.2⟩
  have hRL' := hRL.of (fun s hs => (rX s hs).2)
  have hXb' := hXb.gf f i hx.2.2.2.2.1 dL
  by_cases c8 : bits &&& 8 = 0
  · rw [if_pos c8] at g
    refine hQ1 bits own ks κ t5 S' M' a b c8 hS y12 g ⟨⟨y1, hFl.fr f, hMs'⟩, hcnt, hRL', hbn⟩ ⟨⟨⟨y4, ⟨y5, y6, y7⟩, ⟨y3, y8⟩, by simp, by simp⟩, fun i hi => absurd hi (by simp), ⟨hXb'.1, fun i hi => absurd hi (by simp)⟩, y11⟩, ⟨y9, ⟨Nat.zero_le _, Nat.zero_le _⟩, ⟨hXb'.2.1 _ (by simp), hXb'.2.1 _ (by simp)⟩, fun i hi => absurd hi (by simp)⟩, ⟨⟨y10, hXb'.2.2⟩, ⟨Nat.zero_le _, Nat.zero_le _, Nat.zero_le _⟩, ⟨hXb'.2.1 _ (by simp), hXb'.2.1 _ (by simp), hXb'.2.1 _ (by simp)⟩, fun i hi => absurd hi (by simp)⟩⟩ e x1 hn12
  · rw [if_neg c8] at g
    refine hQ2 bits own ks κ t5 S' M' a b c8 hS y12 g y3 ⟨⟨y1.setM hc1, (hFl.fr f).setM hc1, hMs'.setM hc1 hn12 y4 ⟨nq, y5, y6, ⟨by simp, by simp⟩, fun i hi => absurd hi (by simp), ⟨y7, by simp⟩, fun i hi => absurd hi (by simp)⟩⟩, hcnt, hRL', hbn⟩ e x1 hXb'
/-- a method's room -/
abbrev pSt (p : PM) (a b : Int32) : PM := ((p.1.1, p.1.2.1, p.1.2.2.1, p.1.2.2.2.1, a, b, p.1.2.2.2.2.2.2), p.2)
theorem JM.room {G : List Sl} {US : UST} {A : List Nm} {S : List Sg} {W : List Cls} {w c : Nat} {br : Int32} {q0 nl0 nq nl nf nk : Nat} {p : PM} {NL : List Nine} {z : Nat × Nat × Nat × Nat × Nat × Nat} {L ts : List Tok} {M0 M : Mem} {f : Nat} {v a b : Int32} (h : JM G US A S W w c br q0 nl0 nq nl nf nk p NL z L ts M0 M) (hx : Gx G w) (hm12 : (gc W c).2.2.2.2.2.length < 12) (hzc : z.1 ≤ c) (hab : (f = 147 ∧ a = v ∧ b = p.1.2.2.2.2.2.1) ∨ (f = 148 ∧ a = p.1.2.2.2.2.1 ∧ b = v)) : JM G US A S W w c br q0 nl0 nq nl nf nk (pSt p a b) NL z L ts M0 (sI M f w (12 * c + (gc W c).2.2.2.2.2.length) v) := by
  obtain ⟨g1, ⟨⟨hC, hFl, hMs⟩, cnt, hRL, hbn⟩, ⟨⟨hHm, hIn, hPh, hPe⟩, hLb, hNi⟩, g4, g5, g6⟩ := h
  have hw := hx.2.2.2.1
  generalize hm : 12 * c + (gc W c).2.2.2.2.2.length = m at hHm hPh ⊢
  obtain ⟨Mz, hMz⟩ : ∃ Mz, Mz = sI M f w m v := ⟨_, rfl⟩
  rw [← hMz]
  have hf : Fr (535217884764734955396857238543560676143529984) M Mz := by
    rw [hMz]
    rcases hab with ⟨e, -⟩ | ⟨e, -⟩ <;> subst e <;> exact Fr.wIa rfl rfl (Fr.rf _ _)
  have loz : LoT w z.1 M Mz := by
    rw [hMz]
    refine (LoT.rf w z.1 M).w ?_
    rcases hab with ⟨e, -⟩ | ⟨e, -⟩ <;> subst e <;> (show 12 * z.1 ≤ m; omega)
  have e7 : ∀ k, mI Mz 147 w k = if f = 147 ∧ k = m then v else mI M 147 w k := fun k => by
    rw [hMz, mI_sI]
    by_cases q : f = 147 ∧ k = m
    · rw [if_pos q, if_pos ⟨q.1.symm, rfl, q.2⟩]
    · rw [if_neg q, if_neg (fun x => q ⟨x.1.symm, x.2.2⟩)]
  have e8 : ∀ k, mI Mz 148 w k = if f = 148 ∧ k = m then v else mI M 148 w k := fun k => by
    rw [hMz, mI_sI]
    by_cases q : f = 148 ∧ k = m
    · rw [if_pos q, if_pos ⟨q.1.symm, rfl, q.2⟩]
    · rw [if_neg q, if_neg (fun x => q ⟨x.1.symm, x.2.2⟩)]
  clear hMz
  have rk : ∀ a b c d, Rk w a b c d M Mz := fun a b c d => Rk.fr hf hx.1 hw
  have xl := XL_fr hf hx.1 hx.2.2.2.2.1 rfl
  have nem : ∀ d, d < W.length → ∀ j, j < (gc W d).2.2.2.2.2.length → 12 * d + j ≠ m := fun d hd' j hj => by
    have hk12 := (hMs.1.2 d hd').1.2
    rw [← hm]
    by_cases q : d = c
    · subst q; omega
    · omega
  have hMh : tMh A S W w 1 Mz := by
    refine ⟨fun f' x y => ?_, fun d hd' => ⟨?_, fun k hk => ?_⟩⟩
    · have := hMs.1.1 f' x y
      have h3 : f' = 144 ∨ f' = 145 ∨ f' = 146 ∨ f' = 147 ∨ f' = 148 ∨ f' = 149 ∨ f' = 150 ∨ f' = 151 := by omega
      rcases h3 with e | e | e | e | e | e | e | e <;> subst e
      · rw [hf.L (f := 144) rfl]; exact this
      · rw [hf.L (f := 145) rfl]; exact this
      · rw [hf.L (f := 146) rfl]; exact this
      · rw [hf.L (f := 147) rfl]; exact this
      · rw [hf.L (f := 148) rfl]; exact this
      · rw [hf.L (f := 149) rfl]; exact this
      · rw [hf.L (f := 150) rfl]; exact this
      · rw [hf.L (f := 151) rfl]; exact this
    · rw [hf.Ia (f := 136) rfl rfl]; exact (hMs.1.2 d hd').1
    · obtain ⟨a1, a2, a3, a4, a5, a6⟩ := (hMs.1.2 d hd').2 k hk
      have hne := nem d hd' k hk
      exact ⟨⟨(hf.Ia (f := 144) rfl rfl w _).trans a1.1, a1.2⟩, ⟨(hf.Ia (f := 145) rfl rfl w _).trans a2.1, a2.2⟩, a3, (hf.Ia (f := 146) rfl rfl w _).trans a4, by rw [e7, if_neg (fun q => hne q.2)]; exact a5, by rw [e8, if_neg (fun q => hne q.2)]; exact a6⟩
  refine ⟨g1.fr hf, ⟨⟨hC.fr hf, hFl.fr hf, hMs.keep hMh (rk _ _ _ _) (fun f x y d hd' j hj => ?_) (fun f x y d hd' j hj i hi => ?_) (fun f x y => ?_)⟩, ⟨(hf.I (f := 12) (k := 35) rfl w).trans cnt.1, (hf.I (f := 12) (k := 37) rfl w).trans cnt.2.1, (hf.I (f := 12) (k := 41) rfl w).trans cnt.2.2.1, (hf.I (f := 12) (k := 43) rfl w).trans cnt.2.2.2⟩, hRL.of (fun s hs => (rd_fr hf hx.1 rfl (hw s hs)).2), hbn⟩, ⟨⟨?_, fun i hi => (hIn i hi).keep (rk (q0 + p.2.1.length) _ _ _) (by have : i < p.2.1.length := hi; omega), ?_, ?_⟩, hLb.of (hf.I (f := 11) (k := 60) rfl 0) xl, hNi.of (hf.I (f := 11) (k := 64) rfl 0) xl⟩, g4.fr hf hx, ⟨g5.1.fr hf hx.1, g5.2.1.trans loz, g5.2.2.trans (rk _ _ _ _)⟩, (hf.I (f := 11) (k := 51) rfl 0).trans g6⟩
  · have h3 : f = 149 ∨ f = 150 ∨ f = 151 := by omega
    rcases h3 with e | e | e <;> subst e
    · exact hf.Ia (f := 149) rfl rfl w _
    · exact hf.Ia (f := 150) rfl rfl w _
    · exact hf.Ia (f := 151) rfl rfl w _
  · have h3 : f = 152 ∨ f = 153 ∨ f = 154 ∨ f = 155 := by omega
    rcases h3 with e | e | e | e <;> subst e
    · exact hf.Ia (f := 152) rfl rfl w _
    · exact hf.Ia (f := 153) rfl rfl w _
    · exact hf.Ia (f := 154) rfl rfl w _
    · exact hf.Ia (f := 155) rfl rfl w _
  · have h3 : f = 152 ∨ f = 153 ∨ f = 154 ∨ f = 155 := by omega
    rcases h3 with e | e | e | e <;> subst e
    · exact hf.L (f := 152) rfl w
    · exact hf.L (f := 153) rfl w
    · exact hf.L (f := 154) rfl w
    · exact hf.L (f := 155) rfl w
  · rw [hm]
    obtain ⟨⟨a1, a2, a3, a4, a5, a6⟩, ⟨b1, b2', b3⟩, ⟨c1, c2⟩, d1, d2⟩ := hHm
    refine ⟨⟨⟨(hf.Ia (f := 144) rfl rfl w m).trans a1.1, a1.2⟩, ⟨(hf.Ia (f := 145) rfl rfl w m).trans a2.1, a2.2⟩, a3, (hf.Ia (f := 146) rfl rfl w m).trans a4, ?_, ?_⟩, ⟨(hf.Ia (f := 149) rfl rfl w m).trans b1, (hf.Ia (f := 150) rfl rfl w m).trans b2', (hf.Ia (f := 151) rfl rfl w m).trans b3⟩, ⟨(hf.I (f := 11) (k := 53) rfl 0).trans c1, (hf.I (f := 11) (k := 54) rfl 0).trans c2⟩, d1, d2⟩
    · show mI Mz 147 w m = a
      rw [e7]
      rcases hab with ⟨e, x, y⟩ | ⟨e, x, y⟩
      · rw [if_pos ⟨e, rfl⟩, x]
      · rw [if_neg (fun q => by omega), x]; exact a5
    · show mI Mz 148 w m = b
      rw [e8]
      rcases hab with ⟨e, x, y⟩ | ⟨e, x, y⟩
      · rw [if_neg (fun q => by omega), y]; exact a6
      · rw [if_pos ⟨e, rfl⟩, y]
  · rw [hm]
    refine ⟨(hf.L (f := 109) rfl 0).trans hPh.1, fun i hi => ?_⟩
    obtain ⟨x, y, u⟩ := hPh.2 i hi
    refine ⟨x.of (fun f q1 q2 => ?_), y, (hf.Ia (f := 109) rfl rfl 0 i).trans u⟩
    have h3 : f = 152 ∨ f = 153 ∨ f = 154 ∨ f = 155 := by omega
    rcases h3 with e | e | e | e <;> subst e
    · exact hf.Ia (f := 152) rfl rfl w _
    · exact hf.Ia (f := 153) rfl rfl w _
    · exact hf.Ia (f := 154) rfl rfl w _
    · exact hf.Ia (f := 155) rfl rfl w _
  · unfold tPe at hPe ⊢
    show (match p.2.2.2.2 with | none => _ | some x => _)
    cases e : p.2.2.2.2 with
    | none => rw [e] at hPe; exact (hf.I (f := 11) (k := 65) rfl 0).trans hPe
    | some x =>
      rw [e] at hPe
      obtain ⟨j, j1, j2, j3⟩ := hPe
      exact ⟨j, j1, (hf.I (f := 11) (k := 65) rfl 0).trans j2, j3.keep (rk 0 0 _ _) j1⟩
