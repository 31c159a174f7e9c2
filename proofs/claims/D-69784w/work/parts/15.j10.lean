/-! a world of the works depends on its own cells alone -/
theorem grp_1 {f : Nat} (h1 : 36 ≤ f) (h2 : f ≤ 88) : grp f = 1 := by
  have e1 : Nat.blt f 36 = false := by
    cases h : Nat.blt f 36 with
    | false => rfl
    | true => have := Nat.le_of_ble_eq_true h; omega
  have e2 : Nat.ble f 88 = true := Nat.ble_eq.mpr h2
  unfold grp
  rw [e1, e2]; rfl
theorem grp_2 {f : Nat} (h1 : 89 ≤ f) (h2 : f ≤ 95) : grp f = 2 := by
  have e1 : Nat.blt f 36 = false := by
    cases h : Nat.blt f 36 with
    | false => rfl
    | true => have := Nat.le_of_ble_eq_true h; omega
  have e2 : Nat.ble f 88 = false := by
    cases h : Nat.ble f 88 with
    | false => rfl
    | true => have := Nat.le_of_ble_eq_true h; omega
  have e3 : Nat.ble f 95 = true := Nat.ble_eq.mpr h2
  unfold grp
  rw [e1, e2, e3]; rfl
/-- the cells of world w are as they were -/
def SmC (w : Nat) (M M' : Mem) : Prop := (∀ f, grp f = 1 → (∀ k, mI M' f w k = mI M f w k ∧ mR M' f w k = mR M f w k) ∧ mL M' f w = mL M f w) ∧ (∀ f t, grp f = 2 → t < 3 → (∀ k, mI M' f (3 * w + t) k = mI M f (3 * w + t) k) ∧ mL M' f (3 * w + t) = mL M f (3 * w + t)) ∧ (∀ j, (j = 2 * w + 1 ∨ j = 2 * w + 2) → ∀ k, mI M' 211 j k = mI M 211 j k) ∧ (∀ i, mL M' 211 i = mL M 211 i) ∧ ∀ j, (j = 6 * w + 0 ∨ j = 6 * w + 1 ∨ ∃ k, k < 4 ∧ mR M 6 w (22 + k) = some (301, j)) → ((∀ k, mI M' 301 j k = mI M 301 j k) ∧ mL M' 301 j = mL M 301 j) ∧ ((301, j) ∈ mN M → (301, j) ∈ mN M')
section
variable {A A' : List Nm} {W : List Cls} {w C C' B B' F : Nat} {br : Int32} {nq nk np nh nr : Nat} {s : Ms} {M M' : Mem} {b : Nat → Nat}
theorem SmC.lw (e : SmC w M M') : LoW w b M M' := by
  refine ⟨fun f hf => ?_, fun k _ => ((e.1 5 rfl).1 k).1, fun j k _ _ q => e.2.2.1 j q k, e.2.2.2.1⟩
  have hg : grp f = 1 := by
    unfold wFm at hf
    rcases (Bool.or_eq_true _ _).mp hf with z | z
    · rw [Bool.and_eq_true] at z
      have z1 := Nat.le_of_ble_eq_true z.1
      have z2 := Nat.le_of_ble_eq_true z.2
      exact grp_1 z1 (by omega)
    · rw [Nat.eq_of_beq_eq_true z]; rfl
  exact ⟨fun k _ => ((e.1 f hg).1 k).1, (e.1 f hg).2⟩
theorem CWx.sm (h : CWx A W w br nq nk np nh nr M) (e : SmC w M M') (hp : A <+: A') (hl : A'.length ≤ 200000) : CWx A' W w br nq nk np nh nr M' := by
  have hx : LoW w (bA W.length (allF W).length (allM W).length nq nk np nh nr) M M' := e.lw
  have h5 : ∀ k, k < 65 → mI M' 5 w k = mI M 5 w k := hx.2.1
  obtain ⟨⟨c1, c2, c3⟩, m, ⟨k1, k2, k3, k4, k5, k6⟩, r, e⟩ := h
  refine ⟨⟨(c1.loW hx (h5 2 (by omega)) (fun f a c => ?_)).pre hp hl, (c2.loW hx (h5 17 (by omega)) ⟨Nat.le_refl _, Nat.le_refl _⟩ (fun f q => ?_)).pre hp, (h5 1 (by omega)).trans c3⟩, (m.loW hx (Nat.le_refl _) (Nat.le_refl _) bA_M).pre hp, ⟨(h5 26 (by omega)).trans k1, (h5 39 (by omega)).trans k2, (h5 47 (by omega)).trans k3, (h5 49 (by omega)).trans k4, (h5 51 (by omega)).trans k5, (h5 53 (by omega)).trans k6⟩, r.loW hx, e⟩
  · unfold bA
    by_cases q : f = 38
    · rw [if_pos q, if_pos q]; exact Nat.le_refl _
    · rw [if_neg q, if_neg q, if_pos (by omega)]; exact Nat.le_refl _
  · rw [bA_at (by omega)]; unfold bT; rw [if_neg (by omega), if_pos q]; exact Nat.le_refl _
theorem RA.eq (h : RA A W w br nq nk np nh nr C B F s M) (e : SmC w M M') (hp : A <+: A') (hl : A'.length ≤ 200000) (hL : cLk M') (hK : mI M' 6 w 35 = 1 ∨ (mI M' 6 w 35 = 0 ∧ zK s ≤ C' ∧ mI M' 10 0 8 = Int32.ofNat (C' - zK s))) (hB : ∀ n, mS M ≤ B + 8 * n → mS M' ≤ B' + 8 * n) : RA A' W w br nq nk np nh nr C' B' F s M' := by
  obtain ⟨⟨⟨a1, a2, a3, a4, a5⟩, aS⟩, ⟨b1, b2'⟩, ⟨c1, c2⟩, ⟨d1, d2, d3⟩, ⟨e2, e3⟩, g⟩ := h
  have I : ∀ f k, grp f = 1 → mI M' f w k = mI M f w k := fun f k hf => ((e.1 f hf).1 k).1
  have L : ∀ f, grp f = 1 → mL M' f w = mL M f w := fun f hf => (e.1 f hf).2
  have R : ∀ f k, grp f = 1 → mR M' f w k = mR M f w k := fun f k hf => ((e.1 f hf).1 k).2
  refine ⟨⟨⟨a1.sm e hp hl, fun c hc => (I 45 c rfl).trans (a2 c hc), ⟨(I 5 56 rfl).trans a3.1, (I 5 57 rfl).trans a3.2.1, (I 5 58 rfl).trans a3.2.2⟩, fun d hd hl1 => ?_, hL⟩, ?_⟩, ⟨?_, fun c f h1 h2 h3 => (I 54 _ rfl).trans (b2' c f h1 h2 h3)⟩, ⟨?_, ?_⟩, ⟨?_, ⟨(L 88 rfl).trans d2.1, fun o ho => (I 88 o rfl).trans (d2.2.1 o ho), hK⟩, ⟨(I 6 3 rfl).trans d3.1, (I 6 4 rfl).trans d3.2.1, (I 6 5 rfl).trans d3.2.2⟩⟩, ⟨(L 700 rfl).trans e2, fun t' ht => (R 700 t' rfl).trans (e3 t' ht)⟩, fun t' ht' => ?_⟩
  · obtain ⟨x, y, z⟩ := a4 d hd hl1
    exact ⟨(I 47 d rfl).trans x, (I 48 d rfl).trans y, fun f hf' hs => (I 53 _ rfl).trans (z f hf' hs)⟩
  · obtain ⟨⟨x, y⟩, z⟩ := aS
    exact ⟨⟨(L 77 rfl).trans x, (L 78 rfl).trans y⟩, fun i hi => by rw [I 77 i rfl, I 5 61 rfl]; exact z i hi⟩
  · obtain ⟨⟨x, y⟩, z, u, v⟩ := b1
    exact ⟨⟨(L 86 rfl).trans x, (L 85 rfl).trans y⟩, fun k hk => ⟨(I 46 k rfl).trans (z k hk).1, fun q => (I 86 k rfl).trans ((z k hk).2 q)⟩, (I 6 26 rfl).trans u, fun i hi => (I 85 i rfl).trans (v i hi)⟩
  · obtain ⟨⟨⟨x1, x2, x3, x4, x5⟩, x6, x7⟩, ⟨y1, y2⟩, z, o, u, l, m, ⟨v1, v2⟩, v3⟩ := c1
    have r0 := (e.2.2.2.2 (6 * w + 0) (Or.inl rfl)).1
    have r1 := (e.2.2.2.2 (6 * w + 1) (Or.inr (Or.inl rfl))).1
    refine ⟨⟨⟨(L 79 rfl).trans x1, (L 80 rfl).trans x2, (L 81 rfl).trans x3, (L 512 rfl).trans x4, (L 84 rfl).trans x5⟩, r0.2.trans x6, r1.2.trans x7⟩, ⟨(I 6 6 rfl).trans y1, (I 6 7 rfl).trans y2⟩, fun r hr => (I 512 r rfl).trans (z r hr), fun r hr => ?_, fun i hi => (I 84 i rfl).trans (u i hi), l, m, ⟨(I 6 14 rfl).trans v1, (I 6 15 rfl).trans v2⟩, v3⟩
    obtain ⟨o1, o2, o3, o4, o5⟩ := o r hr
    exact ⟨(I 79 r rfl).trans o1, (I 80 r rfl).trans o2, (I 81 r rfl).trans o3, (r0.1 r).trans o4, fun q => (r1.1 r).trans (o5 q)⟩
  · obtain ⟨x, y, n, ⟨z1, z2, z3, z4⟩, u, v, q⟩ := c2
    have rr : ∀ k, k < 4 → ((∀ i, mI M' 301 (y k) i = mI M 301 (y k) i) ∧ mL M' 301 (y k) = mL M 301 (y k)) ∧ ((301, y k) ∈ mN M → (301, y k) ∈ mN M') := fun k hk => e.2.2.2.2 (y k) (Or.inr (Or.inr ⟨k, hk, (u k hk).1⟩))
    refine ⟨(I 6 21 rfl).trans x, y, n, ⟨z1, z2, z3, hB n z4⟩, fun k hk => ⟨(R 6 (22 + k) rfl).trans (u k hk).1, (rr k hk).1.2.trans (u k hk).2.1, (u k hk).2.2.1, (rr k hk).2 (u k hk).2.2.2⟩, v, fun i hi => ?_⟩
    obtain ⟨q1, q2, q3, q4⟩ := q i hi
    exact ⟨((rr 0 (by omega)).1.1 i).trans q1, ((rr 1 (by omega)).1.1 i).trans q2, ((rr 2 (by omega)).1.1 i).trans q3, ((rr 3 (by omega)).1.1 i).trans q4⟩
  · obtain ⟨x, y, z⟩ := d1
    exact ⟨(L 87 rfl).trans x, (I 6 29 rfl).trans y, fun i hi => ⟨(I 87 _ rfl).trans (z i hi).1, (I 87 _ rfl).trans (z i hi).2.1, (I 87 _ rfl).trans (z i hi).2.2.1, (I 87 _ rfl).trans (z i hi).2.2.2.1, (I 87 _ rfl).trans (z i hi).2.2.2.2⟩⟩
  · obtain ⟨⟨⟨x1, x2, x3, x4⟩, ⟨y1, y2, y3, y4⟩, ⟨z1, z2, z3, z4⟩, d, e'⟩, ⟨u1, u2, u3⟩, gR⟩ := g t' ht'
    have J : ∀ f k, grp f = 2 → mI M' f (3 * w + t') k = mI M f (3 * w + t') k := fun f k hf => (e.2.1 f t' hf ht').1 k
    have K : ∀ f, grp f = 2 → mL M' f (3 * w + t') = mL M f (3 * w + t') := fun f hf => (e.2.1 f t' hf ht').2
    refine ⟨⟨⟨fun f h1 h2 => (K f (grp_2 h1 (by omega))).trans (x1 f h1 h2), (K 94 rfl).trans x2, (K 514 rfl).trans x3, (K 95 rfl).trans x4⟩, ⟨(J 7 0 rfl).trans y1, (J 7 10 rfl).trans y2, (J 7 11 rfl).trans y3, (J 7 12 rfl).trans y4⟩, ⟨(J 7 13 rfl).trans z1, (J 7 14 rfl).trans z2, (J 7 15 rfl).trans z3, (J 7 16 rfl).trans z4⟩, ?_, fun z j hj => (J 95 j rfl).trans (e' z j hj)⟩, ⟨(J 7 1 rfl).trans u1, (J 7 2 rfl).trans u2, LU.ev (fun g k g1 g2 => J g k (grp_2 g1 (by omega))) (fun k => J 514 k rfl) u3⟩, fun z => ?_⟩
    · unfold rW at *
      rw [J 7 18 rfl, J 7 19 rfl]; exact d
    · obtain ⟨⟨⟨p1, q1⟩, ⟨p2, q2⟩, ⟨p3, q3⟩, p4, p5⟩, bb, cc, dd⟩ := gR z
      refine ⟨cRf.pre ⟨⟨(I 76 _ rfl).trans p1, q1⟩, ⟨(I 76 _ rfl).trans p2, q2⟩, ⟨(I 76 _ rfl).trans p3, q3⟩, (I 76 _ rfl).trans p4, fun i h1 h2 => ⟨(e.2.2.1 (2 * w + 2) (Or.inr rfl) (6 * t' + i)).trans (p5 i h1 h2).1, (p5 i h1 h2).2⟩⟩ hp, bb, by rw [L 76 rfl]; exact cc, by rw [e.2.2.2.1 (2 * w + 2)]; exact dd⟩
end
