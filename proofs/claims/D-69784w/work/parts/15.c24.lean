/-! B: what stands between lines, while the next is cut; and rollback -/
theorem dW3 {w : Nat} : ∀ s ∈ XW w, s ∉ X3 := fun s hs q => by
  have h1 : s.1 = 12 := by
    simp only [List.mem_cons, List.not_mem_nil, or_false] at hs
    rcases hs with e | e | e | e | e | e | e | e | e | e <;> rw [e]
  have h2 : ∀ s ∈ X3, s.1 = 11 := by decide
  have := h2 s q
  omega
theorem TV.cut {G : List Sl} {US : UST} {A A' : List Nm} {S : List Sg} {w : Nat} {M M' : Mem} {F : Nat} (h : TV US A S M) (hf : Fr F M M') (hg : GF G X3 M M') (hx : Gx G w) (hN : TN hT A' M') (hp : A <+: A') (h1 : F.testBit (cd 11 36) = false := by rfl) (h2 : F.testBit (cd 11 37) = false := by rfl) (h3 : F.testBit 106 = false := by rfl) (h4 : F.testBit (5000 + 106) = false := by rfl) (h5 : F.testBit (cd 11 38) = false := by rfl) : TV US A' S M' :=
  ⟨⟨hN, h.1.2.gf hf hg hx.2.1 (by decide) h1 h2 h3 h4⟩, h.2.1.pre hp, by rw [(hg.2.1 sTr hx.2.2.1 (by decide)).2.1]; exact h.2.2.1, (hf.I h5 0).trans h.2.2.2.1, h.2.2.2.2⟩
theorem LM.cut {G : List Sl} {A A' : List Nm} {S : List Sg} {w : Nat} {br : Int32} {c0 q0 nl0 nq nl nf nk : Nat} {NL : List Nine} {pl : Nat} {st : PSt} {M M' : Mem} (h : LM A S w br c0 q0 nl0 nq nl nf nk NL pl st M) (hx : Gx G w) (hf : Fr F_Model_cutLine M M') (hg : GF G X3 M M') (hp : A <+: A') (hl : A'.length ≤ 200000) : LM A' S w br c0 q0 nl0 nq nl nf nk NL pl st M' := by
  have hw := hx.2.2.2.1
  have dL : ∀ s ∈ XL, s ∉ X3 := by decide
  rcases h with ⟨a, b, c, d, e⟩ | ⟨a, b, c, d, e⟩
  · exact Or.inl ⟨a, (b.gf hf hg hw dW3).pre hp hl (List.prefix_refl _), c.gf hf hg hx.2.2.2.2.1 dL, d, fun q => ⟨(hf.I (f := 11) (k := 53) rfl 0).trans (e q).1, (e q).2⟩⟩
  · have xl : ∀ s ∈ XL, (∀ k, rd M' s k = rd M s k) ∧ rl M' s = rl M s := fun s hs => ⟨(hg.2.1 s (hx.2.2.2.2.1 s hs) (dL s hs)).1, (hg.2.1 s (hx.2.2.2.2.1 s hs) (dL s hs)).2.1⟩
    exact Or.inr ⟨a, b, (c.gf hf hg hw dW3).pre hp hl (List.prefix_refl _), ⟨(d.1.gf hf hg hw dW3).pre hp (List.prefix_refl _) (Nat.le_refl _) (Nat.le_refl _) (Nat.le_refl _), (d.2.1.of (hf.I (f := 11) (k := 60) rfl 0) xl).pre hp, (d.2.2.of (hf.I (f := 11) (k := 64) rfl 0) xl).pre hp⟩, e⟩
theorem LSt.cut {G : List Sl} {US : UST} {A A' : List Nm} {w : Nat} {br : Int32} {z : Nat × Nat × Nat × Nat × Nat × Nat} {K : Nat × Nat × Nat × Nat} {R pl : Nat} {st : PSt} {M0 M M' : Mem} (h : LSt G US A w br z K R pl st M0 M) (hx : Gx G w) (hf : Fr F_Model_cutLine M M') (hg : GF G X3 M M') (hN : TN hT A' M') (hp : A <+: A') (hl : A'.length ≤ 200000) : LSt G US A' w br z K R pl st M0 M' := by
  obtain ⟨S, q0, nl0, nq, nl, nf, nk, NL, ⟨a1, a2, a3, a4, a5, a6⟩, b, c, d⟩ := h
  exact ⟨S, q0, nl0, nq, nl, nf, nk, NL, ⟨a1.cut hf hg hx hN hp, a2.gf hf hg hx.2.2.2.1 dW3 (by simp), (hf.I (f := 11) (k := 52) rfl 0).trans a3, by rw [(hg.2.1 sFr hx.2.2.2.2.2 (by decide)).2.1]; exact a4, a5.fr hf, a6⟩, b, c, d.cut hx hf hg hp hl⟩
/-- what was there before a refused text is there again -/
theorem TW.back {G : List Sl} {A A' : List Nm} {S S' : List Sg} {W : List Cls} {w : Nat} {br : Int32} {nq nl nf nk : Nat} {M M1 M' : Mem} (h : TW A S W w br 0 nq nl nq nl nf nk M) (hk : KR G w W.length nq nl nf nk M M1) (hA : A <+: A') (hl : A'.length ≤ 200000) (hS : S <+: S') (e45 : mR M' 11 0 45 = some (12, w)) (e1 : mI M' 12 w 1 = br) (e2 : mI M' 12 w 2 = mI M 12 w 2) (hc : mI M' 12 w 35 = Int32.ofNat nq ∧ mI M' 12 w 37 = Int32.ofNat nl ∧ mI M' 12 w 41 = Int32.ofNat nf ∧ mI M' 12 w 43 = Int32.ofNat nk) (hI : ∀ f i k, f ≠ 12 → mI M' f i k = mI M1 f i k) (hL : ∀ f i, mL M' f i = mL M1 f i) (hrd : ∀ s ∈ XW w, (∀ k, rd M' s k = rd M1 s k) ∧ rl M' s = rl M1 s) : TW A' S' W w br 0 nq nl nq nl nf nk M' := by
  refine TW.pre ?_ hA hl hS
  obtain ⟨⟨⟨h1, h2, h3, h4⟩, ⟨f1, f2⟩, h6⟩, h7, h8, h9⟩ := h
  have rg : ∀ f, 130 ≤ f → f ≤ 155 → tFm f = true := fun f a b => by
    unfold tFm; rw [Bool.or_eq_true, Bool.and_eq_true]; exact Or.inl ⟨Nat.ble_eq.mpr a, Nat.ble_eq.mpr b⟩
  have n12 : ∀ f, tFm f = true → f ≠ 12 := fun f hf q => by rw [q] at hf; cases hf
  have kI : ∀ f, tFm f = true → ∀ k, k < tb W.length f → mI M' f w k = mI M f w k := fun f hf k q => (hI f w k (n12 f hf)).trans ((hk.2.1.1 f hf).1 w k (Or.inr q))
  have kL : ∀ f, tFm f = true → mL M' f w = mL M f w := fun f hf => (hL f w).trans ((hk.2.1.1 f hf).2 w)
  have rk : Rk w nq nl nf nk M M' := hk.2.2.trans (Rk.of hrd)
  refine ⟨⟨⟨?_, e45, e1, ?_⟩, ⟨?_, fun c hc => ?_⟩, ?_⟩, hc, ?_, h9⟩
  · obtain ⟨⟨⟨x1, x2, x3, x4⟩, x5⟩, ⟨y1, y2, y3, y4⟩, y5⟩ := h1
    refine ⟨⟨⟨e2.trans x1, (kL 130 rfl).trans x2, x3, x4⟩, fun c hc => ?_⟩, ⟨(kL 131 rfl).trans y1, (kL 133 rfl).trans y2, (kL 134 rfl).trans y3, (kL 132 rfl).trans y4⟩, fun c hc => ?_⟩
    · rw [kI 130 rfl c hc]; exact x5 c hc
    · obtain ⟨z1, ⟨z2, z3, z4⟩, z5⟩ := y5 c hc
      rw [kI 131 rfl c hc, kI 134 rfl c hc, kI 132 rfl c hc]
      refine ⟨z1, ⟨z2, z3, fun i hi => ?_⟩, z5⟩
      rw [kI 133 rfl _ (show 4 * c + i < 4 * W.length by omega)]; exact z4 i hi
  · rw [kL 135 rfl, kL 136 rfl, kL 137 rfl, kL 138 rfl]; exact h4
  · rw [kL 139 rfl, kL 140 rfl, kL 141 rfl, kL 142 rfl, kL 523 rfl, kL 143 rfl]; exact f1
  · rw [kI 135 rfl c hc]
    have h8' := (f2 c hc).1.2
    refine ⟨(f2 c hc).1, fun k hk' => ?_⟩
    have q : 8 * c + k < 8 * W.length := by omega
    rw [kI 139 rfl _ q, kI 140 rfl _ q, kI 141 rfl _ q, kI 142 rfl _ q, kI 523 rfl _ q]; exact (f2 c hc).2 k hk'
  · have h12 : ∀ c, c < W.length → (gc W c).2.2.2.2.2.length ≤ 12 := fun c hc => (h6.1.2 c hc).1.2
    have tb12 : ∀ f, 144 ≤ f → f ≤ 151 → tb W.length f = 12 * W.length := fun f a b => by
      unfold tb; rw [if_neg (by omega), if_neg (by omega), if_pos ⟨a, b⟩]
    have tb96 : ∀ f, 152 ≤ f → f ≤ 155 → tb W.length f = 96 * W.length := fun f a b => by
      unfold tb; rw [if_neg (by omega), if_neg (by omega), if_neg (by omega), if_pos ⟨a, b⟩]
    have k12 : ∀ f, 144 ≤ f → f ≤ 151 → ∀ c, c < W.length → ∀ k, k < (gc W c).2.2.2.2.2.length → mI M' f w (12 * c + k) = mI M f w (12 * c + k) := fun f a b c hc k hk' => kI f (rg f (by omega) (by omega)) _ (by rw [tb12 f a b]; have := h12 c hc; omega)
    refine h6.keep ⟨fun f a b => (kL f (rg f (by omega) (by omega))).trans (h6.1.1 f a b), fun c hc => ⟨by rw [kI 136 rfl c hc]; exact (h6.1.2 c hc).1, fun k hk' => ?_⟩⟩ rk (fun f a b => k12 f (by omega) b) (fun f a b c hc k hk' i hi => kI f (rg f (by omega) (by omega)) _ (by rw [tb96 f a b]; have := h12 c hc; omega)) (fun f a b => kL f (rg f (by omega) (by omega)))
    obtain ⟨a, b, d, e, f, g⟩ := (h6.1.2 c hc).2 k hk'
    have q := fun f a b => k12 f a b c hc k hk'
    exact ⟨⟨(q 144 (by omega) (by omega)).trans a.1, a.2⟩, ⟨(q 145 (by omega) (by omega)).trans b.1, b.2⟩, d, (q 146 (by omega) (by omega)).trans e, (q 147 (by omega) (by omega)).trans f, (q 148 (by omega) (by omega)).trans g⟩
  · obtain ⟨a, b, d, e, f⟩ := h8
    have rw' := rk.2.2.2.2
    refine ⟨fun s hs => Nat.le_trans (a s hs) (rw' s ?_).1, Nat.le_trans b (rw' _ (by simp)).1, fun s hs => Nat.le_trans (d s hs) (rw' s ?_).1, Nat.le_trans e (rw' _ (by simp)).1, fun s hs => (rw' s hs).2 (f s hs)⟩
    · simp only [List.mem_cons, List.not_mem_nil, or_false] at hs ⊢
      rcases hs with e | e | e | e | e <;> simp [e]
    · simp only [List.mem_cons, List.not_mem_nil, or_false] at hs ⊢
      rcases hs with e | e | e <;> simp [e]
