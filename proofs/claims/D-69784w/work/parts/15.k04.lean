/-! WORLDS BESIDE: what a room of the works is, is told by its own cells -/
section
variable {A A' : List Nm} {W : List Cls} {w C B B' F F' : Nat} {br : Int32} {nq nk np nh nr : Nat} {s : Ms} {M M' : Mem}
theorem rmC.sm (h : rmC w B F M) (e : SmC w M M') (hB : ∀ n, mS M ≤ B + 8 * n → mS M' ≤ B' + 8 * n) : rmC w B' F M' := by
  have I : ∀ f k, grp f = 1 → mI M' f w k = mI M f w k := fun f k hf => ((e.1 f hf).1 k).1
  have L : ∀ f, grp f = 1 → mL M' f w = mL M f w := fun f hf => (e.1 f hf).2
  have R : ∀ f k, grp f = 1 → mR M' f w k = mR M f w k := fun f k hf => ((e.1 f hf).1 k).2
  have L2 : ∀ f t, grp f = 2 → t < 3 → mL M' f (3 * w + t) = mL M f (3 * w + t) := fun f t hf ht => (e.2.1 f t hf ht).2
  obtain ⟨⟨⟨⟨a1, a2, a3, a4⟩, ⟨b1, b2', b3, b4, b5, b6, b7⟩⟩, ⟨c1, c2⟩, ⟨d1, d2, d3, d4, d5, d6, d7⟩, ⟨⟨s1, s2⟩, s3⟩⟩, ⟨⟨q1, q1'⟩, ⟨⟨q2, q3, q4, q5, q6⟩, q7, q8⟩, q9, q10, q11, q12⟩, cc, x, n, ⟨z1, z2, z3⟩, z4, z5⟩ := h
  refine ⟨⟨⟨⟨(L 36 rfl).trans a1, (L 37 rfl).trans a2, (L 38 rfl).trans a3, fun f u v => (L f (grp_1 (by omega) (by omega))).trans (a4 f u v)⟩, ⟨(L 49 rfl).trans b1, (L 50 rfl).trans b2', (L 51 rfl).trans b3, (L 52 rfl).trans b4, (L 511 rfl).trans b5, (L 53 rfl).trans b6, (L 54 rfl).trans b7⟩⟩, ⟨fun f u v => (L f (grp_1 (by omega) (by omega))).trans (c1 f u v), (e.2.2.2.1 _).trans c2⟩, ⟨fun f u v => (L f (grp_1 (by omega) (by omega))).trans (d1 f u v), (L 73 rfl).trans d2, (L 74 rfl).trans d3, (L 75 rfl).trans d4, (L 76 rfl).trans d5, (e.2.2.2.1 _).trans d6, fun f u v => (L f (grp_1 (by omega) (by omega))).trans (d7 f u v)⟩, ⟨⟨(L 77 rfl).trans s1, (L 78 rfl).trans s2⟩, fun i hi => by rw [I 77 i rfl, I 5 61 rfl]; exact s3 i hi⟩⟩,
    ⟨⟨(L 86 rfl).trans q1, (L 85 rfl).trans q1'⟩, ⟨⟨(L 79 rfl).trans q2, (L 80 rfl).trans q3, (L 81 rfl).trans q4, (L 512 rfl).trans q5, (L 84 rfl).trans q6⟩, (e.2.2.2.2 (6 * w + 0) (Or.inl rfl)).1.2.trans q7, (e.2.2.2.2 (6 * w + 1) (Or.inr (Or.inl rfl))).1.2.trans q8⟩, (L 87 rfl).trans q9, (L 88 rfl).trans q10, (L 700 rfl).trans q11, fun t ht => (R 700 t rfl).trans (q12 t ht)⟩,
    fun t ht => ⟨⟨fun f u v => (L2 f t (grp_2 (by omega) (by omega)) ht).trans ((cc t ht).1.1 f u v), (L2 94 t rfl ht).trans (cc t ht).1.2.1, (L2 514 t rfl ht).trans (cc t ht).1.2.2.1, (L2 95 t rfl ht).trans (cc t ht).1.2.2.2⟩, ((e.2.1 7 t rfl ht).1 0).trans (cc t ht).2⟩, x, n, ⟨z1, z2, hB n z3⟩, fun k hk => ?_, z5⟩
  obtain ⟨y1, y2, y3, y4⟩ := z4 k hk
  have hx := e.2.2.2.2 (x k) (Or.inr (Or.inr ⟨k, hk, y1⟩))
  exact ⟨(R 6 _ rfl).trans y1, hx.1.2.trans y2, y3, hx.2 y4⟩
theorem rmC.ff (h : rmC w B F M) (hF : F ≤ F') : rmC w B F' M := by
  obtain ⟨a, b, c, x, n, ⟨z1, z2, z3⟩, z4⟩ := h
  exact ⟨a, b, c, x, n, ⟨z1, z2.imp id (fun z => by omega), z3⟩, z4⟩
theorem RA.ff (h : RA A W w br nq nk np nh nr C B F s M) (hF : F ≤ F') : RA A W w br nq nk np nh nr C B F' s M := by
  obtain ⟨a, b, ⟨c1, c2, x, n, ⟨z0, z1, z2, z3⟩, z4⟩, d⟩ := h
  exact ⟨a, b, ⟨c1, c2, x, n, ⟨z0, z1, z2.imp id (fun z => by omega), z3⟩, z4⟩, d⟩
/-- how long the rows of faults are -/
def capC (w : Nat) (M : Mem) : Nat := mL M 301 ((mR M 6 w 22).getD (0, 0)).2
theorem capC.sm (e : SmC w M M') (h : ∃ j, mR M 6 w 22 = some (301, j)) : capC w M' = capC w M := by
  obtain ⟨j, hj⟩ := h
  unfold capC
  have hx := e.2.2.2.2 j (Or.inr (Or.inr ⟨0, by omega, hj⟩))
  rw [((e.1 6 rfl).1 22).2, hj]
  exact hx.1.2
theorem RA.cap (h : RA A W w br nq nk np nh nr C B F s M) : (64 ≤ capC w M ∧ (capC w M = 64 ∨ capC w M ≤ 2 * F) ∧ mS M ≤ B + 8 * capC w M) ∧ ∃ j, mR M 6 w 22 = some (301, j) := by
  obtain ⟨-, -, ⟨-, -, x, n, ⟨-, z1, z2, z3⟩, z4, -⟩, -⟩ := h
  obtain ⟨y1, y2, -⟩ := z4 0 (by omega)
  have e : capC w M = n := by
    unfold capC
    rw [y1]
    exact y2
  rw [e]
  exact ⟨⟨z1, z2, z3⟩, x 0, y1⟩
theorem rmC.cap (h : rmC w B F M) : (64 ≤ capC w M ∧ (capC w M = 64 ∨ capC w M ≤ 2 * F) ∧ mS M ≤ B + 8 * capC w M) ∧ ∃ j, mR M 6 w 22 = some (301, j) := by
  obtain ⟨-, -, -, x, n, ⟨z1, z2, z3⟩, z4, -⟩ := h
  obtain ⟨y1, y2, -⟩ := z4 0 (by omega)
  have e : capC w M = n := by
    unfold capC
    rw [y1]
    exact y2
  rw [e]
  exact ⟨⟨z1, z2, z3⟩, x 0, y1⟩
/-- any other bound that holds -/
theorem RA.bb (h : RA A W w br nq nk np nh nr C B F s M) (hB : mS M ≤ B' + 8 * capC w M) : RA A W w br nq nk np nh nr C B' F s M := by
  obtain ⟨a, b, ⟨c1, c2, x, n, ⟨z0, z1, z2, z3⟩, z4, z5⟩, d⟩ := h
  obtain ⟨y1, y2, -⟩ := z4 0 (by omega)
  have e : capC w M = n := by
    unfold capC
    rw [y1]
    exact y2
  rw [e] at hB
  exact ⟨a, b, ⟨c1, c2, x, n, ⟨z0, z1, z2, hB⟩, z4, z5⟩, d⟩
theorem rmC.cap (h : rmC w B F M) : (64 ≤ capC w M ∧ (capC w M = 64 ∨ capC w M ≤ 2 * F) ∧ mS M ≤ B + 8 * capC w M) ∧ ∃ j, mR M 6 w 22 = some (301, j) := by
  obtain ⟨-, -, -, x, n, ⟨z1, z2, z3⟩, z4, -⟩ := h
  obtain ⟨y1, y2, -⟩ := z4 0 (by omega)
  have e : capC w M = n := by
    unfold capC
    rw [y1]; exact y2
  exact ⟨⟨by omega, by omega, by omega⟩, x 0, y1⟩
theorem rmC.bb (h : rmC w B F M) (hB : mS M ≤ B' + 8 * capC w M) : rmC w B' F M := by
  obtain ⟨a, b, c, x, n, ⟨z1, z2, z3⟩, z4, z5⟩ := h
  obtain ⟨y1, y2, -⟩ := z4 0 (by omega)
  have e : capC w M = n := by
    unfold capC
    rw [y1]
    exact y2
  rw [e] at hB
  exact ⟨a, b, c, x, n, ⟨z1, z2, hB⟩, z4, z5⟩
end
