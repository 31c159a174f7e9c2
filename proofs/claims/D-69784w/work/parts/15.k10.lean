/-! a world of the works depends on its own cells of the works alone (printed by gen/kd.py from j10 and k04) -/
def gw1 (f : Nat) : Bool := (Nat.ble 36 f && Nat.ble f 88) || (Nat.beq f 5 || Nat.beq f 6 || Nat.beq f 511 || Nat.beq f 512 || Nat.beq f 513 || Nat.beq f 700)
def kk (f k : Nat) : Bool := Nat.ble 20 f || Nat.blt k 200
theorem kk_lt {f k : Nat} (h : k < 200) : kk f k = true := by
  unfold kk Nat.blt
  rw [Nat.ble_eq.mpr h, Bool.or_true]
theorem kk_ge {f k : Nat} (h : 20 ≤ f) : kk f k = true := by
  unfold kk
  rw [Nat.ble_eq.mpr h, Bool.true_or]
def gw2 (f : Nat) : Bool := (Nat.ble 89 f && Nat.ble f 95) || (Nat.beq f 7 || Nat.beq f 514)
theorem gw_1 {f : Nat} (h1 : 36 ≤ f) (h2 : f ≤ 88) : gw1 f = true := by
  unfold gw1
  rw [Nat.ble_eq.mpr h1, Nat.ble_eq.mpr h2]; rfl
theorem gw_2 {f : Nat} (h1 : 89 ≤ f) (h2 : f ≤ 95) : gw2 f = true := by
  unfold gw2
  rw [Nat.ble_eq.mpr h1, Nat.ble_eq.mpr h2]; rfl
/-- the cells of world w are as they were -/
def SmD (w : Nat) (M M' : Mem) : Prop := (∀ f, gw1 f = true → (∀ k, kk f k = true → mI M' f w k = mI M f w k ∧ mR M' f w k = mR M f w k) ∧ mL M' f w = mL M f w) ∧ (∀ f t, gw2 f = true → t < 3 → (∀ k, kk f k = true → mI M' f (3 * w + t) k = mI M f (3 * w + t) k) ∧ mL M' f (3 * w + t) = mL M f (3 * w + t)) ∧ (∀ j, (j = 2 * w + 1 ∨ j = 2 * w + 2) → ∀ k, mI M' 211 j k = mI M 211 j k) ∧ (∀ i, mL M' 211 i = mL M 211 i) ∧ ∀ j, (j = 6 * w + 0 ∨ j = 6 * w + 1 ∨ ∃ k, k < 4 ∧ mR M 6 w (22 + k) = some (301, j)) → ((∀ k, mI M' 301 j k = mI M 301 j k) ∧ mL M' 301 j = mL M 301 j) ∧ ((301, j) ∈ mN M → (301, j) ∈ mN M')
section
variable {A A' : List Nm} {W : List Cls} {w C C' B B' F : Nat} {br : Int32} {nq nk np nh nr : Nat} {s : Ms} {M M' : Mem} {b : Nat → Nat}
theorem SmD.lw (e : SmD w M M') : LoW w b M M' := by
  refine ⟨fun f hf => ?_, fun k hk => ((e.1 5 rfl).1 k (kk_lt (by omega))).1, fun j k _ _ q => e.2.2.1 j q k, e.2.2.2.1⟩
  have h20 : 20 ≤ f := by
    unfold wFm at hf
    rcases (Bool.or_eq_true _ _).mp hf with z | z
    · rw [Bool.and_eq_true] at z
      have z1 := Nat.le_of_ble_eq_true z.1
      omega
    · have := Nat.eq_of_beq_eq_true z; omega
  have hg : gw1 f = true := by
    unfold wFm at hf
    rcases (Bool.or_eq_true _ _).mp hf with z | z
    · rw [Bool.and_eq_true] at z
      have z1 := Nat.le_of_ble_eq_true z.1
      have z2 := Nat.le_of_ble_eq_true z.2
      exact gw_1 z1 (by omega)
    · rw [Nat.eq_of_beq_eq_true z]; rfl
  exact ⟨fun k _ => ((e.1 f hg).1 k (kk_ge h20)).1, (e.1 f hg).2⟩
theorem CWx.smd (h : CWx A W w br nq nk np nh nr M) (e : SmD w M M') (hp : A <+: A') (hl : A'.length ≤ 200000) : CWx A' W w br nq nk np nh nr M' := by
  have hx : LoW w (bA W.length (allF W).length (allM W).length nq nk np nh nr) M M' := e.lw
  have h5 : ∀ k, k < 65 → mI M' 5 w k = mI M 5 w k := hx.2.1
  obtain ⟨⟨c1, c2, c3⟩, m, ⟨k1, k2, k3, k4, k5, k6⟩, r, e⟩ := h
  refine ⟨⟨(c1.loW hx (h5 2 (by omega)) (fun f a c => ?_)).pre hp hl, (c2.loW hx (h5 17 (by omega)) ⟨Nat.le_refl _, Nat.le_refl _⟩ (fun f q => ?_)).pre hp, (h5 1 (by omega)).trans c3⟩, (m.loW hx (Nat.le_refl _) (Nat.le_refl _) bA_M).pre hp, ⟨(h5 26 (by omega)).trans k1, (h5 39 (by omega)).trans k2, (h5 47 (by omega)).trans k3, (h5 49 (by omega)).trans k4, (h5 51 (by omega)).trans k5, (h5 53 (by omega)).trans k6⟩, r.loW hx, e⟩
  · unfold bA
    by_cases q : f = 38
    · rw [if_pos q, if_pos q]; exact Nat.le_refl _
    · rw [if_neg q, if_neg q, if_pos (by omega)]; exact Nat.le_refl _
  · rw [bA_at (by omega)]; unfold bT; rw [if_neg (by omega), if_pos q]; exact Nat.le_refl _
theorem RA.eqd (h : RA A W w br nq nk np nh nr C B F s M) (e : SmD w M M') (hp : A <+: A') (hl : A'.length ≤ 200000) (hL : cLk M') (hK : mI M' 6 w 35 = 1 ∨ (mI M' 6 w 35 = 0 ∧ zK s ≤ C' ∧ mI M' 10 0 8 = Int32.ofNat (C' - zK s))) (hB : ∀ n, mS M ≤ B + 8 * n → mS M' ≤ B' + 8 * n) : RA A' W w br nq nk np nh nr C' B' F s M' := by
  obtain ⟨⟨⟨a1, a2, a3, a4, a5⟩, aS⟩, ⟨b1, b2'⟩, ⟨c1, c2⟩, ⟨d1, d2, d3⟩, ⟨e2, e3⟩, g⟩ := h
  have I : ∀ f k, gw1 f = true → ∀ (_ : kk f k = true := by rfl), mI M' f w k = mI M f w k := fun f k hf hk => ((e.1 f hf).1 k hk).1
  have L : ∀ f, gw1 f = true → mL M' f w = mL M f w := fun f hf => (e.1 f hf).2
  have R : ∀ f k, gw1 f = true → ∀ (_ : kk f k = true := by rfl), mR M' f w k = mR M f w k := fun f k hf hk => ((e.1 f hf).1 k hk).2
  refine ⟨⟨⟨a1.smd e hp hl, fun c hc => (I 45 c rfl).trans (a2 c hc), ⟨(I 5 56 rfl).trans a3.1, (I 5 57 rfl).trans a3.2.1, (I 5 58 rfl).trans a3.2.2⟩, fun d hd hl1 => ?_, hL⟩, ?_⟩, ⟨?_, fun c f h1 h2 h3 => (I 54 _ rfl).trans (b2' c f h1 h2 h3)⟩, ⟨?_, ?_⟩, ⟨?_, ⟨(L 88 rfl).trans d2.1, fun o ho => (I 88 o rfl).trans (d2.2.1 o ho), hK⟩, ⟨(I 6 3 rfl).trans d3.1, (I 6 4 rfl).trans d3.2.1, (I 6 5 rfl).trans d3.2.2⟩⟩, ⟨(L 700 rfl).trans e2, fun t' ht => (R 700 t' rfl).trans (e3 t' ht)⟩, fun t' ht' => ?_⟩
  · obtain ⟨x, y, z⟩ := a4 d hd hl1
    exact ⟨(I 47 d rfl).trans x, (I 48 d rfl).trans y, fun f hf' hs => (I 53 _ rfl).trans (z f hf' hs)⟩
  · obtain ⟨⟨x, y⟩, z⟩ := aS
    exact ⟨⟨(L 77 rfl).trans x, (L 78 rfl).trans y⟩, fun i hi => by rw [I 77 i rfl, I 5 61 rfl]; exact z i hi⟩
  · obtain ⟨⟨x, y⟩, z, u, v⟩ := b1
    exact ⟨⟨(L 86 rfl).trans x, (L 85 rfl).trans y⟩, fun k hk => ⟨(I 46 k rfl).trans (z k hk).1, fun q => (I 86 k rfl).trans ((z k hk).2 q)⟩, (I 6 26 rfl).trans u, fun i hi => (I 85 i rfl).trans (v i hi)⟩
  · obtain ⟨⟨⟨x1, x2, x3, x4, x5⟩, x6, x7⟩, ⟨y1, y2⟩, z, o, u, l, m, ⟨v1, v2⟩, v3⟩ := c1
    have r0 := (e.2.2.2.2 (6 * w + 0) (Or.inl rfl)).1
    have r1 := (e.2.2.2.2 (6 * w + 1) (Or.inr (Or.inl rfl))).1
    refine ⟨⟨⟨(L 79 rfl).trans x1, (L 80 rfl).trans x2, (L 81 rfl).trans x3, (L 512 rfl).trans x4, (L 84 rfl).trans x5⟩, r0.2.trans x6, r1.2.trans x7⟩, ⟨(I 6 6 rfl).trans y1, (I 6 7 rfl).trans y2⟩, fun r hr => (I 512 r rfl).trans (z r hr), fun r hr => ?_, fun i hi => (I 84 i rfl).trans (u i hi), l, m, ⟨(I 6 14 rfl).trans v1, (I 6 15 rfl).trans v2⟩, v3⟩
    obtain ⟨o1, o2, o3, o4, o5⟩ := o r hr
    exact ⟨(I 79 r rfl).trans o1, (I 80 r rfl).trans o2, (I 81 r rfl).trans o3, (r0.1 r).trans o4, fun q => (r1.1 r).trans (o5 q)⟩
  · obtain ⟨x, y, n, ⟨z1, z2, z3, z4⟩, u, v, q⟩ := c2
    have rr : ∀ k, k < 4 → ((∀ i, mI M' 301 (y k) i = mI M 301 (y k) i) ∧ mL M' 301 (y k) = mL M 301 (y k)) ∧ ((301, y k) ∈ mN M → (301, y k) ∈ mN M') := fun k hk => e.2.2.2.2 (y k) (Or.inr (Or.inr ⟨k, hk, (u k hk).1⟩))
    refine ⟨(I 6 21 rfl).trans x, y, n, ⟨z1, z2, z3, hB n z4⟩, fun k hk => ⟨(R 6 (22 + k) rfl (kk_lt (by omega))).trans (u k hk).1, (rr k hk).1.2.trans (u k hk).2.1, (u k hk).2.2.1, (rr k hk).2 (u k hk).2.2.2⟩, v, fun i hi => ?_⟩
    obtain ⟨q1, q2, q3, q4⟩ := q i hi
    exact ⟨((rr 0 (by omega)).1.1 i).trans q1, ((rr 1 (by omega)).1.1 i).trans q2, ((rr 2 (by omega)).1.1 i).trans q3, ((rr 3 (by omega)).1.1 i).trans q4⟩
  · obtain ⟨x, y, z⟩ := d1
    exact ⟨(L 87 rfl).trans x, (I 6 29 rfl).trans y, fun i hi => ⟨(I 87 _ rfl).trans (z i hi).1, (I 87 _ rfl).trans (z i hi).2.1, (I 87 _ rfl).trans (z i hi).2.2.1, (I 87 _ rfl).trans (z i hi).2.2.2.1, (I 87 _ rfl).trans (z i hi).2.2.2.2⟩⟩
  · obtain ⟨⟨⟨x1, x2, x3, x4⟩, ⟨y1, y2, y3, y4⟩, ⟨z1, z2, z3, z4⟩, d, e'⟩, ⟨u1, u2, u3⟩, gR⟩ := g t' ht'
    have J : ∀ f k, gw2 f = true → ∀ (_ : kk f k = true := by rfl), mI M' f (3 * w + t') k = mI M f (3 * w + t') k := fun f k hf hk => (e.2.1 f t' hf ht').1 k hk
    have K : ∀ f, gw2 f = true → mL M' f (3 * w + t') = mL M f (3 * w + t') := fun f hf => (e.2.1 f t' hf ht').2
    refine ⟨⟨⟨fun f h1 h2 => (K f (gw_2 h1 (by omega))).trans (x1 f h1 h2), (K 94 rfl).trans x2, (K 514 rfl).trans x3, (K 95 rfl).trans x4⟩, ⟨(J 7 0 rfl).trans y1, (J 7 10 rfl).trans y2, (J 7 11 rfl).trans y3, (J 7 12 rfl).trans y4⟩, ⟨(J 7 13 rfl).trans z1, (J 7 14 rfl).trans z2, (J 7 15 rfl).trans z3, (J 7 16 rfl).trans z4⟩, ?_, fun z j hj => (J 95 j rfl).trans (e' z j hj)⟩, ⟨(J 7 1 rfl).trans u1, (J 7 2 rfl).trans u2, LU.ev (fun g k g1 g2 => J g k (gw_2 g1 (by omega)) (kk_ge (by omega))) (fun k => J 514 k rfl) u3⟩, fun z => ?_⟩
    · unfold rW at *
      rw [J 7 18 rfl, J 7 19 rfl]; exact d
    · obtain ⟨⟨⟨p1, q1⟩, ⟨p2, q2⟩, ⟨p3, q3⟩, p4, p5⟩, bb, cc, dd⟩ := gR z
      refine ⟨cRf.pre ⟨⟨(I 76 _ rfl).trans p1, q1⟩, ⟨(I 76 _ rfl).trans p2, q2⟩, ⟨(I 76 _ rfl).trans p3, q3⟩, (I 76 _ rfl).trans p4, fun i h1 h2 => ⟨(e.2.2.1 (2 * w + 2) (Or.inr rfl) (6 * t' + i)).trans (p5 i h1 h2).1, (p5 i h1 h2).2⟩⟩ hp, bb, by rw [L 76 rfl]; exact cc, by rw [e.2.2.2.1 (2 * w + 2)]; exact dd⟩
theorem rmC.smd (h : rmC w B F M) (e : SmD w M M') (hB : ∀ n, mS M ≤ B + 8 * n → mS M' ≤ B' + 8 * n) : rmC w B' F M' := by
  have I : ∀ f k, gw1 f = true → ∀ (_ : kk f k = true := by rfl), mI M' f w k = mI M f w k := fun f k hf hk => ((e.1 f hf).1 k hk).1
  have L : ∀ f, gw1 f = true → mL M' f w = mL M f w := fun f hf => (e.1 f hf).2
  have R : ∀ f k, gw1 f = true → ∀ (_ : kk f k = true := by rfl), mR M' f w k = mR M f w k := fun f k hf hk => ((e.1 f hf).1 k hk).2
  have L2 : ∀ f t, gw2 f = true → t < 3 → mL M' f (3 * w + t) = mL M f (3 * w + t) := fun f t hf ht => (e.2.1 f t hf ht).2
  obtain ⟨⟨⟨⟨a1, a2, a3, a4⟩, ⟨b1, b2', b3, b4, b5, b6, b7⟩⟩, ⟨c1, c2⟩, ⟨d1, d2, d3, d4, d5, d6, d7⟩, ⟨⟨s1, s2⟩, s3⟩⟩, ⟨⟨q1, q1'⟩, ⟨⟨q2, q3, q4, q5, q6⟩, q7, q8⟩, q9, q10, q11, q12⟩, cc, x, n, ⟨z1, z2, z3⟩, z4, z5⟩ := h
  refine ⟨⟨⟨⟨(L 36 rfl).trans a1, (L 37 rfl).trans a2, (L 38 rfl).trans a3, fun f u v => (L f (gw_1 (by omega) (by omega))).trans (a4 f u v)⟩, ⟨(L 49 rfl).trans b1, (L 50 rfl).trans b2', (L 51 rfl).trans b3, (L 52 rfl).trans b4, (L 511 rfl).trans b5, (L 53 rfl).trans b6, (L 54 rfl).trans b7⟩⟩, ⟨fun f u v => (L f (gw_1 (by omega) (by omega))).trans (c1 f u v), (e.2.2.2.1 _).trans c2⟩, ⟨fun f u v => (L f (gw_1 (by omega) (by omega))).trans (d1 f u v), (L 73 rfl).trans d2, (L 74 rfl).trans d3, (L 75 rfl).trans d4, (L 76 rfl).trans d5, (e.2.2.2.1 _).trans d6, fun f u v => (L f (gw_1 (by omega) (by omega))).trans (d7 f u v)⟩, ⟨⟨(L 77 rfl).trans s1, (L 78 rfl).trans s2⟩, fun i hi => by rw [I 77 i rfl, I 5 61 rfl]; exact s3 i hi⟩⟩,
    ⟨⟨(L 86 rfl).trans q1, (L 85 rfl).trans q1'⟩, ⟨⟨(L 79 rfl).trans q2, (L 80 rfl).trans q3, (L 81 rfl).trans q4, (L 512 rfl).trans q5, (L 84 rfl).trans q6⟩, (e.2.2.2.2 (6 * w + 0) (Or.inl rfl)).1.2.trans q7, (e.2.2.2.2 (6 * w + 1) (Or.inr (Or.inl rfl))).1.2.trans q8⟩, (L 87 rfl).trans q9, (L 88 rfl).trans q10, (L 700 rfl).trans q11, fun t ht => (R 700 t rfl).trans (q12 t ht)⟩,
    fun t ht => ⟨⟨fun f u v => (L2 f t (gw_2 (by omega) (by omega)) ht).trans ((cc t ht).1.1 f u v), (L2 94 t rfl ht).trans (cc t ht).1.2.1, (L2 514 t rfl ht).trans (cc t ht).1.2.2.1, (L2 95 t rfl ht).trans (cc t ht).1.2.2.2⟩, ((e.2.1 7 t rfl ht).1 0 rfl).trans (cc t ht).2⟩, x, n, ⟨z1, z2, hB n z3⟩, fun k hk => ?_, z5⟩
  obtain ⟨y1, y2, y3, y4⟩ := z4 k hk
  have hx := e.2.2.2.2 (x k) (Or.inr (Or.inr ⟨k, hk, y1⟩))
  exact ⟨(R 6 _ rfl (kk_lt (by omega))).trans y1, hx.1.2.trans y2, y3, hx.2 y4⟩
theorem capC.smd (e : SmD w M M') (h : ∃ j, mR M 6 w 22 = some (301, j)) : capC w M' = capC w M := by
  obtain ⟨j, hj⟩ := h
  unfold capC
  have hx := e.2.2.2.2 j (Or.inr (Or.inr ⟨0, by omega, hj⟩))
  rw [((e.1 6 rfl).1 22 rfl).2, hj]
  exact hx.1.2
end
theorem gw1_g {f : Nat} (h : gw1 f = true) : grp f = 1 := by
  unfold gw1 at h
  simp only [Bool.or_eq_true, Bool.and_eq_true] at h
  rcases h with ⟨a, b⟩ | ((((a | a) | a) | a) | a) | a
  · exact grp_1 (Nat.le_of_ble_eq_true a) (Nat.le_of_ble_eq_true b)
  all_goals (rw [Nat.eq_of_beq_eq_true a]; rfl)
theorem gw2_g {f : Nat} (h : gw2 f = true) : grp f = 2 := by
  unfold gw2 at h
  simp only [Bool.or_eq_true, Bool.and_eq_true] at h
  rcases h with ⟨a, b⟩ | a | a
  · exact grp_2 (Nat.le_of_ble_eq_true a) (Nat.le_of_ble_eq_true b)
  all_goals (rw [Nat.eq_of_beq_eq_true a]; rfl)
theorem SmC.d {w : Nat} {M M' : Mem} (h : SmC w M M') : SmD w M M' := ⟨fun f hf => ⟨fun k _ => (h.1 f (gw1_g hf)).1 k, (h.1 f (gw1_g hf)).2⟩, fun f t hf ht => ⟨fun k _ => (h.2.1 f t (gw2_g hf) ht).1 k, (h.2.1 f t (gw2_g hf) ht).2⟩, h.2.2⟩
/-- the twin leaves the works alone -/
theorem tw_bit {b c n : Nat} (h : (List.range n).all (fun j => !TWF.testBit (b + j)) = true) (hc : b ≤ c) (hn : c < b + n) : TWF.testBit c = false := by
  have := List.all_eq_true.mp h (c - b) (List.mem_range.mpr (by omega))
  rw [show b + (c - b) = c by omega] at this
  simpa using this
theorem tw_ob {f k : Nat} (h1 : f < 11) (h : kk f k = true) : TWF.testBit (cd f k) = false := by
  have hk : k < 200 := by
    unfold kk at h
    rcases (Bool.or_eq_true _ _).mp h with z | z
    · have := Nat.le_of_ble_eq_true z; omega
    · exact Nat.le_of_ble_eq_true z
  unfold cd
  rw [if_pos (by omega)]
  exact tw_bit (b := 1000) (n := 2200) (by decide +kernel) (by omega) (by omega)
theorem SmD.tw {w : Nat} {M M' : Mem} (hf : Fr TWF M M') : SmD w M M' := by
  have key : ∀ f, (gw1 f = true ∨ gw2 f = true) → (∀ k, kk f k = true → TWF.testBit (cd f k) = false) ∧ TWF.testBit (5000 + f) = false := fun f hg => by
    have hc : (f < 11) ∨ (36 ≤ f ∧ f ≤ 95) ∨ (511 ≤ f ∧ f ≤ 514) ∨ f = 700 := by
      rcases hg with h | h
      · unfold gw1 at h
        simp only [Bool.or_eq_true, Bool.and_eq_true] at h
        rcases h with ⟨a, b⟩ | ((((a | a) | a) | a) | a) | a
        · have := Nat.le_of_ble_eq_true a
          have := Nat.le_of_ble_eq_true b
          omega
        all_goals (have := Nat.eq_of_beq_eq_true a; omega)
      · unfold gw2 at h
        simp only [Bool.or_eq_true, Bool.and_eq_true] at h
        rcases h with ⟨a, b⟩ | a | a
        · have := Nat.le_of_ble_eq_true a
          have := Nat.le_of_ble_eq_true b
          omega
        all_goals (have := Nat.eq_of_beq_eq_true a; omega)
    refine ⟨fun k hk => ?_, ?_⟩
    · rcases hc with z | z | z | z
      · exact tw_ob z hk
      · rw [cd_a (Nat.ble_eq.mpr (by omega))]; exact tw_bit (b := 0) (n := 105) (by rfl) (by omega) (by omega)
      · rw [cd_a (Nat.ble_eq.mpr (by omega))]; exact tw_bit (b := 511) (n := 4) (by rfl) (by omega) (by omega)
      · rw [z, cd_a rfl]; rfl
    · rcases hc with z | z | z | z
      · exact tw_bit (b := 5000) (n := 105) (by rfl) (by omega) (by omega)
      · exact tw_bit (b := 5000) (n := 105) (by rfl) (by omega) (by omega)
      · exact tw_bit (b := 5511) (n := 4) (by rfl) (by omega) (by omega)
      · rw [z]; rfl
  refine ⟨fun f hg => ⟨fun k hk => ?_, hf.2.1 f (key f (Or.inl hg)).2 w⟩, fun f t hg _ => ⟨fun k hk => (hf.1 f k ((key f (Or.inr hg)).1 k hk) _).1, hf.2.1 f (key f (Or.inr hg)).2 _⟩, fun j _ k => hf.Ia (f := 211) rfl rfl j k, fun i => hf.L (f := 211) rfl i, fun j _ => ⟨⟨fun k => hf.Ia (f := 301) rfl rfl j k, hf.L (f := 301) rfl j⟩, fun h => (hf.2.2.2 _ h).1⟩⟩
  have := hf.1 f k ((key f (Or.inl hg)).1 k hk) w
  exact ⟨this.1, this.2.2⟩
theorem Fr.tI {M M' : Mem} (hf : Fr TWF M M') {f k : Nat} (i : Nat) (h : (Nat.blt f 11 && Nat.blt k 200) = true := by rfl) : mI M' f i k = mI M f i k := by
  rw [Bool.and_eq_true] at h
  have h1 : f < 11 := Nat.le_of_ble_eq_true h.1
  have h2 : k < 200 := Nat.le_of_ble_eq_true h.2
  exact (hf.1 f k (tw_ob h1 (kk_lt h2)) i).1
