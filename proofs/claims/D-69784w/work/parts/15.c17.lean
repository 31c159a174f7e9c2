/-! B: lines of classes and fields in the twin -/
theorem rl_keep {G : List Sl} {F : Nat} {M M' : Mem} (hf : Fr F M M') (hTG : TG G M) (hs : sFr ∈ G) (h57 : F.testBit (cd 11 57) = false := by rfl) : rl M' sFr = rl M sFr := by
  have e : rdI M' sFr = rdI M sFr := by unfold rdI; rw [hf.R h57]
  unfold rl
  rw [e]; exact hf.Lo (hTG sFr hs).1.2
/-- the place of a line's first word is there -/
def PLc (L : List Tok) (M : Mem) : Prop := mI M 108 0 0 = Int32.ofNat (hd L).2.2.2 ∧ 0 < mL M 108 0
theorem PLc.fr {L : List Tok} {M M' : Mem} {F : Nat} (h : PLc L M) (hf : Fr F M M') (h1 : F.testBit 108 = false := by rfl) (h2 : F.testBit (5000 + 108) = false := by rfl) : PLc L M' := ⟨(hf.Ia rfl h1 0 0).trans h.1, by rw [hf.L h2]; exact h.2⟩
theorem gc_snoc {W : List Cls} {cl : Cls} (j : Nat) : gc (W ++ [cl]) j = if j < W.length then gc W j else if j = W.length then cl else ([], [], [], 0, [], []) := by
  show (W ++ [cl]).getD j _ = _
  rw [List.getD_eq_getElem?_getD]
  by_cases c : j < W.length
  · rw [if_pos c, List.getElem?_append_left c]
    show _ = W.getD j _
    rw [List.getD_eq_getElem?_getD]
  · rw [if_neg c]
    by_cases e : j = W.length
    · rw [if_pos e, e]; simp
    · rw [if_neg e, List.getElem?_eq_none (by rw [List.length_append, List.length_singleton]; omega)]; rfl
theorem tb_le {c d f : Nat} (h : d < c) : d < tb c f ∨ f = 133 ∨ (139 ≤ f ∧ f ≤ 143) ∨ f = 523 ∨ (144 ≤ f ∧ f ≤ 155) := by
  unfold tb
  by_cases a : f = 133
  · right; left; exact a
  rw [if_neg a]
  by_cases b : 139 ≤ f ∧ f ≤ 143 ∨ f = 523
  · right; right
    rcases b with b | b
    · exact Or.inl b
    · exact Or.inr (Or.inl b)
  rw [if_neg b]
  by_cases d' : 144 ≤ f ∧ f ≤ 151
  · right; right; right; right; omega
  rw [if_neg d']
  by_cases e : 152 ≤ f ∧ f ≤ 155
  · right; right; right; right; omega
  rw [if_neg e]; left; exact h
/-- a class more, without members -/
theorem TW.addC {G : List Sl} {A : List Nm} {S : List Sg} {W : List Cls} {w : Nat} {br : Int32} {nq nl nf nk : Nat} {cl : Cls} {M M' : Mem} {F : Nat} (h : TW A S W w br 0 nq nl nq nl nf nk M) (hcl : cl.2.2.2.2.1 = [] ∧ cl.2.2.2.2.2 = []) (hC : Cx1 A (W ++ [cl]) w br M') (h135 : mI M' 135 w W.length = 0) (h136 : mI M' 136 w W.length = 0) (lo : LoT w W.length M M') (hf : Fr F M M') (hg : GF G [sFr] M M') (hw : Gw G w) (hF : [35, 37, 41, 43].all (fun k => !F.testBit (cd 12 k)) = true := by rfl) : TW A S (W ++ [cl]) w br 0 nq nl nq nl nf nk M' := by
  obtain ⟨⟨hC0, ⟨f1, f2⟩, ⟨⟨m1, m2⟩, m3, m4⟩⟩, cnt, hRL, hbn⟩ := h
  have hWl := hC0.1.1.1.2.2.1
  simp only [List.all_eq_true, Bool.not_eq_true'] at hF
  have dW : ∀ s ∈ XW w, s ∉ [sFr] := fun s hs q => by
    simp only [List.mem_cons, List.not_mem_nil, or_false] at hs q
    rcases hs with e | e | e | e | e | e | e | e | e | e <;> (rw [e] at q; cases q)
  have rX : ∀ s ∈ XW w, (∀ k, rd M' s k = rd M s k) ∧ rl M' s = rl M s := fun s hs => ⟨(hg.2.1 s (hw s hs) (dW s hs)).1, (hg.2.1 s (hw s hs) (dW s hs)).2.1⟩
  have rg : ∀ f, 130 ≤ f → f ≤ 155 → tFm f = true := fun f a b => by
    unfold tFm; rw [Bool.or_eq_true, Bool.and_eq_true]; exact Or.inl ⟨Nat.ble_eq.mpr a, Nat.ble_eq.mpr b⟩
  have l1 : ∀ f, 130 ≤ f → f ≤ 155 → mL M' f w = mL M f w := fun f a b => (lo.1 f (rg f a b)).2 w
  have t8 : ∀ f, (139 ≤ f ∧ f ≤ 143 ∨ f = 523) → tb W.length f = 8 * W.length := fun f q => by unfold tb; rw [if_neg (by omega), if_pos q]
  have t12 : ∀ f, 144 ≤ f → f ≤ 151 → tb W.length f = 12 * W.length := fun f a b => by unfold tb; rw [if_neg (by omega), if_neg (by omega), if_pos ⟨a, b⟩]
  have t96 : ∀ f, 152 ≤ f → f ≤ 155 → tb W.length f = 96 * W.length := fun f a b => by unfold tb; rw [if_neg (by omega), if_neg (by omega), if_neg (by omega), if_pos ⟨a, b⟩]
  have i8 : ∀ f, (139 ≤ f ∧ f ≤ 143 ∨ f = 523) → ∀ k, k < 8 * W.length → mI M' f w k = mI M f w k := fun f q k hk => (lo.1 f (by unfold tFm; rw [Bool.or_eq_true, Bool.and_eq_true]; rcases q with q | q; exact Or.inl ⟨Nat.ble_eq.mpr (by omega), Nat.ble_eq.mpr (by omega)⟩; exact Or.inr (by rw [q]; rfl))).1 w k (Or.inr (by rw [t8 f q]; exact hk))
  have i12 : ∀ f, 144 ≤ f → f ≤ 151 → ∀ k, k < 12 * W.length → mI M' f w k = mI M f w k := fun f a b k hk => (lo.1 f (rg f (by omega) (by omega))).1 w k (Or.inr (by rw [t12 f a b]; exact hk))
  have i96 : ∀ f, 152 ≤ f → f ≤ 155 → ∀ k, k < 96 * W.length → mI M' f w k = mI M f w k := fun f a b k hk => (lo.1 f (rg f (by omega) (by omega))).1 w k (Or.inr (by rw [t96 f a b]; exact hk))
  have i1 : ∀ f, f = 135 ∨ f = 136 → ∀ k, k < W.length → mI M' f w k = mI M f w k := fun f q k hk => (lo.1 f (rg f (by omega) (by omega))).1 w k (Or.inr (by
    have : tb W.length f = W.length := by unfold tb; rw [if_neg (by omega), if_neg (by omega), if_neg (by omega), if_neg (by omega)]
    rw [this]; exact hk))
  have hlen : (W ++ [cl]).length = W.length + 1 := by simp
  have gcl : ∀ j, j < W.length → gc (W ++ [cl]) j = gc W j := fun j hj => by rw [gc_snoc, if_pos hj]
  have gcn : gc (W ++ [cl]) W.length = cl := by rw [gc_snoc, if_neg (by omega), if_pos rfl]
  have cs : ∀ j, j < (W ++ [cl]).length → j < W.length ∨ j = W.length := fun j hj => by rw [hlen] at hj; omega
  refine ⟨⟨hC, ⟨?_, fun j hj => ?_⟩, ⟨⟨fun f a b => (l1 f (by omega) (by omega)).trans (m1 f a b), fun j hj => ?_⟩, fun f a b => (l1 f (by omega) (by omega)).trans (m3 f a b), fun j hj k hk => ?_⟩⟩, ⟨(hf.I (hF 35 (by simp)) w).trans cnt.1, (hf.I (hF 37 (by simp)) w).trans cnt.2.1, (hf.I (hF 41 (by simp)) w).trans cnt.2.2.1, (hf.I (hF 43 (by simp)) w).trans cnt.2.2.2⟩, hRL.of (fun s hs => (rX s hs).2), hbn⟩
  · rw [l1 139 (by omega) (by omega), l1 140 (by omega) (by omega), l1 141 (by omega) (by omega), l1 142 (by omega) (by omega), (lo.1 523 rfl).2 w, l1 143 (by omega) (by omega)]; exact f1
  · rcases cs j hj with q | q
    · rw [gcl j q, i1 135 (by omega) j q]
      obtain ⟨x, y⟩ := f2 j q
      refine ⟨x, fun k hk => ?_⟩
      rw [i8 139 (by omega) _ (by omega), i8 140 (by omega) _ (by omega), i8 141 (by omega) _ (by omega), i8 142 (by omega) _ (by omega), i8 523 (by omega) _ (by omega)]
      exact y k hk
    · rw [q, gcn, hcl.1]
      exact ⟨⟨h135, by simp⟩, fun k hk => absurd hk (by simp)⟩
  · rcases cs j hj with q | q
    · rw [gcl j q, i1 136 (by omega) j q]
      obtain ⟨x, y⟩ := m2 j q
      refine ⟨⟨?_, x.2⟩, fun k hk => ?_⟩
      · have := x.1
        have e0 : ∀ (b : Prop) [Decidable b], (if b then 0 else 0) = 0 := fun b _ => by split <;> rfl
        rw [e0] at this ⊢; exact this
      · obtain ⟨a, b, d, e, f, g⟩ := y k hk
        have hk12 : 12 * j + k < 12 * W.length := by omega
        exact ⟨⟨(i12 144 (by omega) (by omega) _ hk12).trans a.1, a.2⟩, ⟨(i12 145 (by omega) (by omega) _ hk12).trans b.1, b.2⟩, d, (i12 146 (by omega) (by omega) _ hk12).trans e, (i12 147 (by omega) (by omega) _ hk12).trans f, (i12 148 (by omega) (by omega) _ hk12).trans g⟩
    · rw [q, gcn, hcl.2]
      refine ⟨⟨?_, by simp⟩, fun k hk => absurd hk (by simp)⟩
      rw [h136]
      have e0 : ∀ (b : Prop) [Decidable b], (if b then 0 else 0) = 0 := fun b _ => by split <;> rfl
      rw [e0]; rfl
  · rcases cs j hj with q | q
    · rw [gcl j q] at hk ⊢
      have hk12 : 12 * j + k < 12 * W.length := by have := (m2 j q).1.2; omega
      exact (m4 j q k hk).keep (Rk.of rX) (fun f a b => i12 f (by omega) b _ hk12) (fun f a b i hi => i96 f a b _ (by omega))
    · rw [q, gcn, hcl.2] at hk; exact absurd hk (by simp)
theorem tMs.setF {A : List Nm} {S : List Sg} {W : List Cls} {w e c nq nl nf nk : Nat} {f : Fld} {M : Mem} (h : tMs A S W w e nq nl nf nk M) (hc : c < W.length) : tMs A S (addF W c f) w e nq nl nf nk M := by
  have hl := addF_len W c f
  have em : ∀ j, (gc (addF W c f) j).2.2.2.2.2 = (gc W j).2.2.2.2.2 := fun j => by
    rw [gc_addF hc]
    by_cases q : j = c
    · rw [if_pos q, q]
    · rw [if_neg q]
  obtain ⟨⟨m1, m2⟩, m3, m4⟩ := h
  refine ⟨⟨m1, fun j hj => ?_⟩, m3, fun j hj k hk => ?_⟩
  · rw [hl] at hj
    have := m2 j hj
    unfold gmt at this ⊢
    rw [hl, em]; exact this
  · rw [hl] at hj
    rw [em] at hk
    have := m4 j hj k hk
    unfold gmt at this ⊢
    rw [em]; exact this
theorem TW.addF {G : List Sl} {A : List Nm} {S : List Sg} {W : List Cls} {w c : Nat} {br : Int32} {nq nl nf nk : Nat} {fl : Fld} {M M' : Mem} (h : TW A S W w br 0 nq nl nq nl nf nk M) (hc : c < W.length) (hC : Cx1 A (addF W c fl) w br M') (hF : tFl A (addF W c fl) w M') (hf : Fr F_Model_fieldLine M M') (hG : Ga G) (hw : Gw G w) : TW A S (addF W c fl) w br 0 nq nl nq nl nf nk M' := by
  obtain ⟨⟨-, -, hMs⟩, cnt, hRL, hbn⟩ := h
  refine ⟨⟨hC, hF, (hMs.keep (hMs.1.fr hf) (Rk.fr hf hG hw) (fun f a b d hd' k hk => ?_) (fun f a b d hd' k hk i hi => ?_) (fun f a b => ?_)).setF hc⟩, ⟨(hf.I (f := 12) (k := 35) rfl w).trans cnt.1, (hf.I (f := 12) (k := 37) rfl w).trans cnt.2.1, (hf.I (f := 12) (k := 41) rfl w).trans cnt.2.2.1, (hf.I (f := 12) (k := 43) rfl w).trans cnt.2.2.2⟩, hRL.of (fun s hs => (rd_fr hf hG rfl (hw s hs)).2), hbn⟩
  · have h3 : f = 149 ∨ f = 150 ∨ f = 151 := by omega
    rcases h3 with e | e | e <;> subst e
    · exact hf.Ia (f := 149) rfl rfl w _
    · exact hf.Ia (f := 150) rfl rfl w _
    · exact hf.Ia (f := 151) rfl rfl w _
  · have h3 : f = 152 ∨ f = 153 ∨ f = 154 ∨ f = 155 := by omega
    rcases h3 with e | e | e | e <;> subst e
    · exact hf.Ia (f := 152) rfl rfl w _
    · exact hf.Ia (f := 153) rfl rfl w _
    · exact hf.Ia (f := 154) rfl rfl w _
    · exact hf.Ia (f := 155) rfl rfl w _
  · have h3 : f = 152 ∨ f = 153 ∨ f = 154 ∨ f = 155 := by omega
    rcases h3 with e | e | e | e <;> subst e
    · exact hf.L (f := 152) rfl w
    · exact hf.L (f := 153) rfl w
    · exact hf.L (f := 154) rfl w
    · exact hf.L (f := 155) rfl w
/-- a class's line -/
theorem ct_cLn {G : List Sl} {US : UST} {A : List Nm} {S : List Sg} {W : List Cls} {w : Nat} {br : Int32} {nq nl nf nk : Nat} {z : Nat × Nat × Nat × Nat × Nat × Nat} {L ts : List Tok} {M0 M : Mem} {Q X : Mem → Prop} (hx : Gx G w) (hz : lz L) (hLl : L.length ≤ 1500) (hLn : ∀ t ∈ L, t.1 = 2 → t.2.1 ≠ []) (hq : TQ A L ts M) (hne : ts ≠ []) (hW : TW A S W w br 0 nq nl nq nl nf nk M) (hV : TV US A S M) (hK : KR G w z.1 z.2.1 z.2.2.1 z.2.2.2.1 z.2.2.2.2.1 M0 M) (h51 : mI M 11 0 51 = Int32.ofNat 99) (hrow : rl M sFr ≤ 20000) (hzc : z.1 ≤ W.length) (hXb : XLb M)
    (hX : ∀ e M', pClass ts = .inl e → ThT e M' → JE G US A w z M0 M' → rl M' sFr ≤ 20000 → X M')
    (hQ0 : ∀ bits own par fs t5 M', pClass ts = .inr ((bits, own, par, fs), t5) → rulC br W bits own par fs < 99 → mI M' 11 0 51 = Int32.ofNat (rulC br W bits own par fs) → JE G US A w z M0 M' → PLc L M' → rl M' sFr ≤ 20000 → Q M')
    (hQ1 : ∀ bits own par fs t5 M', pClass ts = .inr ((bits, own, par, fs), t5) → rulC br W bits own par fs = 99 → mI M' 11 0 51 = Int32.ofNat 99 → TW A S (W ++ [(own, par, fs, bits, [], [])]) w br 0 nq nl nq nl nf nk M' → TV US A S M' → KR G w z.1 z.2.1 z.2.2.1 z.2.2.2.1 z.2.2.2.2.1 M0 M' → mI M' 11 0 53 = Int32.ofNat W.length → mI M' 11 0 52 = 1 → rl M' sFr ≤ 20000 → XLb M' → mI M' 137 w W.length = 0 ∧ mI M' 138 w W.length = 0 → LoT w W.length M M' → Q M') : w_Model_classLine 0 Q X M := by
  have hw := hx.2.2.2.1
  have hL : L ≠ [] := by obtain ⟨i, z, e, -⟩ := hz; rw [e]; simp
  have hs : sFr ∈ G := hx.2.2.2.2.2
  have dW : ∀ s ∈ XW w, s ∉ [sFr] := fun s hs q => by
    simp only [List.mem_cons, List.not_mem_nil, or_false] at hs q
    rcases hs with e | e | e | e | e | e | e | e | e | e <;> (rw [e] at q; cases q)
  have dV : ∀ s ∈ [sB, sZ, sX, sTr, sF, sC, sRe, sNx, sTy], s ∉ [sFr] := by decide
  have fin : ∀ M', Fr F_Model_classLine M M' → GF G [sFr] M M' → LoT w W.length M M' → TV US A S M' ∧ KR G w z.1 z.2.1 z.2.2.1 z.2.2.2.1 z.2.2.2.2.1 M0 M' ∧ PLc L M' ∧ mR M' 11 0 45 = some (12, w) ∧ XLb M' := fun M' f g lo => ⟨hV.gf f g hx dV, ⟨hK.1.trans (g.sub (by simp)), hK.2.1.trans (lo.mono hzc), hK.2.2.trans (Rk.gf g hw dW)⟩, PLc.fr (hq.pl hL) f, (f.R (f := 11) (k := 45) rfl 0).trans hW.1.1.2.1, hXb.gf f g hx.2.2.2.2.1 (by decide)⟩
  refine mf_w_Model_classLine (Q := fun M' => (∃ bits own par fs t5, pClass ts = .inr ((bits, own, par, fs), t5) ∧ rulC br W bits own par fs < 99 ∧ mI M' 11 0 51 = Int32.ofNat (rulC br W bits own par fs) ∧ GF G [sFr] M M' ∧ LoT w W.length M M' ∧ rl M' sFr ≤ 20000) ∨ (∃ bits own par fs t5, pClass ts = .inr ((bits, own, par, fs), t5) ∧ rulC br W bits own par fs = 99 ∧ mI M' 11 0 51 = Int32.ofNat 99 ∧ Cx1 A (W ++ [(own, par, fs, bits, [], [])]) w br M' ∧ (mI M' 135 w W.length = 0 ∧ mI M' 136 w W.length = 0 ∧ mI M' 137 w W.length = 0 ∧ mI M' 138 w W.length = 0) ∧ mI M' 11 0 53 = Int32.ofNat W.length ∧ mI M' 11 0 52 = 1 ∧ GF G [sFr] M M' ∧ LoT w W.length M M' ∧ rl M' sFr ≤ 20000)) (X := fun M' => ∃ e, pClass ts = .inl e ∧ ThT e M' ∧ GF G [sFr] M M' ∧ LoT w W.length M M' ∧ rl M' sFr ≤ 20000) (fun M' f h => ?_) (fun M' f h => ?_) (ct_classLine hx.1 hs hK.1.1 hz (by omega) hLn hq hne hW.1.1 h51 hrow (fun e M' a b _ c d r => ⟨e, a, b, c, d, r⟩) (fun bits own par fs t5 M' a b c _ d e r => Or.inl ⟨bits, own, par, fs, t5, a, b, c, d, e, r⟩) (fun bits own par fs t5 M' a b c d e f g h i r => Or.inr ⟨bits, own, par, fs, t5, a, b, c, d, e, f, g, h, i, r⟩))
  · rcases h with ⟨bits, own, par, fs, t5, a, b, c, d, e, r⟩ | ⟨bits, own, par, fs, t5, a, b, c, d, e, g, i, j, k, r⟩
    · obtain ⟨x1, x2, x3, x4⟩ := fin M' f d e
      exact hQ0 bits own par fs t5 M' a b c ⟨S, x1, x2, x4⟩ x3 r
    · obtain ⟨x1, x2, x3, x4⟩ := fin M' f j k
      exact hQ1 bits own par fs t5 M' a b c (hW.addC ⟨rfl, rfl⟩ d e.1 e.2.1 k f j hw) x1 x2 g i r x4.2 e.2.2 k
  · obtain ⟨e, a, b, c, d, r⟩ := h
    obtain ⟨x1, x2, x3, x4⟩ := fin M' f c d
    exact hX e M' a b ⟨S, x1, x2, x4⟩ r
/-- a field's line -/
theorem ct_fLn {G : List Sl} {US : UST} {A : List Nm} {S : List Sg} {W : List Cls} {w c : Nat} {br : Int32} {nq nl nf nk : Nat} {z : Nat × Nat × Nat × Nat × Nat × Nat} {L ts : List Tok} {M0 M : Mem} {Q X : Mem → Prop} (hx : Gx G w) (hz : lz L) (hq : TQ A L ts M) (hne : ts ≠ []) (hW : TW A S W w br 0 nq nl nq nl nf nk M) (hV : TV US A S M) (hK : KR G w z.1 z.2.1 z.2.2.1 z.2.2.2.1 z.2.2.2.2.1 M0 M) (h51 : mI M 11 0 51 = Int32.ofNat 99) (h53 : mI M 11 0 53 = Int32.ofNat c) (hc : c < W.length) (hzc : z.1 ≤ c) (hXb : XLb M)
    (hX : ∀ e M', pField ts = .inl e → ThT e M' → JE G US A w z M0 M' → X M')
    (hQ0 : ∀ bits own κ v has t5 M', pField ts = .inr ((bits, own, κ, v, has), t5) → rulF br (gc W c) bits own κ has < 99 → mI M' 11 0 51 = Int32.ofNat (rulF br (gc W c) bits own κ has) → JE G US A w z M0 M' → PLc L M' → Q M')
    (hQ1 : ∀ bits own κ v has t5 M', pField ts = .inr ((bits, own, κ, v, has), t5) → rulF br (gc W c) bits own κ has = 99 → mI M' 11 0 51 = Int32.ofNat 99 → TW A S (addF W c (own, κ, bits, v, has)) w br 0 nq nl nq nl nf nk M' → (∀ k, mI M' 143 w k = if k = 8 * c + (gc W c).2.2.2.2.1.length then 0 else mI M 143 w k) → TV US A S M' → KR G w z.1 z.2.1 z.2.2.1 z.2.2.2.1 z.2.2.2.2.1 M0 M' → XLb M' → Q M') : w_Model_fieldLine 0 Q X M := by
  have hw := hx.2.2.2.1
  have hL : L ≠ [] := by obtain ⟨i, z, e, -⟩ := hz; rw [e]; simp
  have fin : ∀ M', Fr F_Model_fieldLine M M' → GF G [] M M' → LoT w c M M' → TV US A S M' ∧ KR G w z.1 z.2.1 z.2.2.1 z.2.2.2.1 z.2.2.2.2.1 M0 M' ∧ PLc L M' ∧ mR M' 11 0 45 = some (12, w) ∧ XLb M' := fun M' f g lo => ⟨hV.fr f hx, ⟨hK.1.trans (g.sub (fun s h => by cases h)), hK.2.1.trans (lo.mono hzc), hK.2.2.trans (Rk.fr f hx.1 hw)⟩, PLc.fr (hq.pl hL) f, (f.R (f := 11) (k := 45) rfl 0).trans hW.1.1.2.1, hXb.fr f hx.1 hx.2.2.2.2.1⟩
  refine mf_w_Model_fieldLine (Q := fun M' => (∃ bits own κ v has t5, pField ts = .inr ((bits, own, κ, v, has), t5) ∧ rulF br (gc W c) bits own κ has < 99 ∧ mI M' 11 0 51 = Int32.ofNat (rulF br (gc W c) bits own κ has) ∧ GF G [] M M' ∧ LoT w c M M') ∨ (∃ bits own κ v has t5, pField ts = .inr ((bits, own, κ, v, has), t5) ∧ rulF br (gc W c) bits own κ has = 99 ∧ mI M' 11 0 51 = Int32.ofNat 99 ∧ Cx1 A (addF W c (own, κ, bits, v, has)) w br M' ∧ tFl A (addF W c (own, κ, bits, v, has)) w M' ∧ (∀ k, mI M' 143 w k = if k = 8 * c + (gc W c).2.2.2.2.1.length then 0 else mI M 143 w k) ∧ GF G [] M M' ∧ LoT w c M M')) (X := fun M' => ∃ e, pField ts = .inl e ∧ ThT e M' ∧ GF G [] M M' ∧ LoT w c M M') (fun M' f h => ?_) (fun M' f h => ?_) (ct_fieldLine hx.1 hK.1.1 hz hq hne hW.1.1 hW.1.2.1 h51 h53 hc (fun e M' a b _ _ c d => ⟨e, a, b, c, d⟩) (fun bits own κ v has t5 M' a b c _ _ d e => Or.inl ⟨bits, own, κ, v, has, t5, a, b, c, d, e⟩) (fun bits own κ v has t5 M' a b c d e f g h => Or.inr ⟨bits, own, κ, v, has, t5, a, b, c, d, e, f, g, h⟩))
  · rcases h with ⟨bits, own, κ, v, has, t5, a, b, c', d, e⟩ | ⟨bits, own, κ, v, has, t5, a, b, c', d, e, g, i, j⟩
    · obtain ⟨x1, x2, x3, x4⟩ := fin M' f d e
      exact hQ0 bits own κ v has t5 M' a b c' ⟨S, x1, x2, x4⟩ x3
    · obtain ⟨x1, x2, x3, x4⟩ := fin M' f i j
      exact hQ1 bits own κ v has t5 M' a b c' (hW.addF hc d e f hx.1 hw) g x1 x2 x4.2
  · obtain ⟨e, a, b, c', d⟩ := h
    obtain ⟨x1, x2, x3, x4⟩ := fin M' f c' d
    exact hX e M' a b ⟨S, x1, x2, x4⟩
