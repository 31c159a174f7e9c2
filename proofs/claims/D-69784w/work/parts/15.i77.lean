/-! the words of a line do not depend on where it lies -/
abbrev wds (ts : List Tok) : List (Nat × Nm × Int32) := ts.map (fun t => (t.1, t.2.1, t.2.2.1))
/-- a line lies at a and at a' -/
def smL (m : Nat) (p p' : Nat → Int32) (a a' : Nat) : Prop := (∀ i, i ≤ m → p (a + i) = p' (a' + i)) ∧ p (a + m) = 10
section
variable {p p' : Nat → Int32} {n n' a a' m j : Nat}
theorem scn_sh {q : Int32 → Bool} (hp : tend p n) (hp' : tend p' n') (hq : q 10 = false) (h : smL m p p' a a') (hj : j ≤ m) : ∃ r, j ≤ r ∧ r ≤ m ∧ scn q p n (a + j) = a + r ∧ scn q p' n' (a' + j) = a' + r := by
  obtain ⟨s1, s2, s3, s4⟩ := scn_spec (q := q) hp hq (a + j)
  have hle : scn q p n (a + j) ≤ a + m := Nat.le_of_not_lt (fun z => by
    have := s3 (a + m) (by omega) z
    rw [h.2, hq] at this; cases this)
  generalize scn q p n (a + j) = s at s1 s2 s3 s4 hle ⊢
  refine ⟨s - a, by omega, by omega, by omega, ?_⟩
  refine scn_uniq hp' hq (by omega) (fun i h1 h2 => ?_) ?_
  · have e := h.1 (i - a') (by omega)
    rw [show a' + (i - a') = i by omega] at e
    rw [← e]; exact s3 _ (by omega) (by omega)
  · have e := h.1 (s - a) (by omega)
    rw [← e, show a + (s - a) = s by omega]; exact s4
theorem bytes_sh {r : Nat} (h : smL m p p' a a') (hr : r ≤ m) : bytes p (a + j) (a + r) = bytes p' (a' + j) (a' + r) := by
  unfold bytes
  rw [show a + r - (a + j) = r - j by omega, show a' + r - (a' + j) = r - j by omega]
  refine List.map_congr_left (fun i hi => ?_)
  have := List.mem_range.1 hi
  have e := h.1 (j + i) (by omega)
  rw [show a + j + i = a + (j + i) by omega, e, show a' + j + i = a' + (j + i) by omega]
theorem nvl_sh (h : smL m p p' a a') : ∀ c, j + c ≤ m → nvl p (a + j) c = nvl p' (a' + j) c
  | 0, _ => rfl
  | c + 1, hc => by
    unfold nvl
    have e := h.1 (j + c) (by omega)
    rw [nvl_sh h c (by omega), show a + j + c = a + (j + c) by omega, e, show a' + j + c = a' + (j + c) by omega]
theorem pref_sh {nm : Nm} (h : smL m p p' a a') (h10 : ∀ i, i < nm.length → gb0 nm i ≠ 10) (hj : j ≤ m) : pref p (a + j) nm = pref p' (a' + j) nm ∧ (pref p (a + j) nm = true → j + nm.length ≤ m) := by
  have key : pref p (a + j) nm = true → j + nm.length ≤ m := fun z => by
    refine Nat.le_of_not_lt (fun y => ?_)
    have := pref_iff.mp z (m - j) (by omega)
    rw [show a + j + (m - j) = a + m by omega, h.2] at this
    exact h10 (m - j) (by omega) this.symm
  have key' : pref p' (a' + j) nm = true → j + nm.length ≤ m := fun z => by
    refine Nat.le_of_not_lt (fun y => ?_)
    have := pref_iff.mp z (m - j) (by omega)
    rw [show a' + j + (m - j) = a' + m by omega, ← h.1 m (Nat.le_refl _), h.2] at this
    exact h10 (m - j) (by omega) this.symm
  refine ⟨?_, key⟩
  have up : pref p (a + j) nm = true ↔ pref p' (a' + j) nm = true := by
    constructor
    · intro z
      have := key z
      refine pref_iff.mpr (fun i hi => ?_)
      have e := h.1 (j + i) (by omega)
      rw [show a' + j + i = a' + (j + i) by omega, ← e, show a + (j + i) = a + j + i by omega]
      exact pref_iff.mp z i hi
    · intro z
      have := key' z
      refine pref_iff.mpr (fun i hi => ?_)
      have e := h.1 (j + i) (by omega)
      rw [show a + j + i = a + (j + i) by omega, e, show a' + (j + i) = a' + j + i by omega]
      exact pref_iff.mp z i hi
  cases hb : pref p (a + j) nm with
  | true => rw [up.1 hb]
  | false =>
    cases hb' : pref p' (a' + j) nm with
    | true => rw [up.2 hb'] at hb; cases hb
    | false => rfl
/-- the same word, as far on in the line -/
def smT (m j a a' : Nat) (x x' : Tok × Nat) : Prop := (x.1.1 = x'.1.1 ∧ x.1.2.1 = x'.1.2.1 ∧ x.1.2.2.1 = x'.1.2.2.1) ∧ ∃ r, j ≤ r ∧ r ≤ m ∧ x.2 = a + r ∧ x'.2 = a' + r
theorem smT.one (hj : j ≤ m) {k : Nat} {nm : Nm} {v : Int32} {s s' : Nat} : smT m j a a' ((k, nm, v, s), a + j) ((k, nm, v, s'), a' + j) := ⟨⟨rfl, rfl, rfl⟩, j, Nat.le_refl _, hj, rfl, rfl⟩
theorem lexN_sh {less : Bool} (hp : tend p n) (hp' : tend p' n') (h : smL m p p' a a') (hj : j < m) : smT m j a a' (lexN p n (a + j) less) (lexN p' n' (a' + j) less) := by
  obtain ⟨r, r1, r2, r3, r4⟩ := scn_sh (q := isD) (j := if less then j + 1 else j) hp hp' (by decide) h (by split <;> omega)
  have hf : (if less then a + j + 1 else a + j) = a + (if less then j + 1 else j) := by split <;> omega
  have hf' : (if less then a' + j + 1 else a' + j) = a' + (if less then j + 1 else j) := by split <;> omega
  have hlow : j ≤ (if less then j + 1 else j) := by split <;> omega
  unfold lexN
  simp only [hf, hf', r3, r4]
  generalize (if less then j + 1 else j) = u at r1 r3 r4 hlow ⊢
  rw [show a + r - (a + u) = r - u by omega, show a' + r - (a' + u) = r - u by omega]
  rw [nvl_sh h (r - u) (by omega)]
  by_cases c : 1 ≤ r - u ∧ r - u ≤ 10
  · rw [if_pos c, if_pos c]
    generalize (if less = true then -nvl p' (a' + u) (r - u) else nvl p' (a' + u) (r - u)) = v
    by_cases c2 : v < -2147483648 ∨ 2147483647 < v
    · rw [if_pos c2, if_pos c2]; exact smT.one (by omega)
    · rw [if_neg c2, if_neg c2]; exact ⟨⟨rfl, rfl, rfl⟩, r, by omega, r2, rfl, rfl⟩
  · rw [if_neg c, if_neg c]; exact smT.one (by omega)
theorem lex1_sh (hp : tend p n) (hp' : tend p' n') (h : smL m p p' a a') (hj : j ≤ m) : smT m j a a' (lex1 p n (a + j)) (lex1 p' n' (a' + j)) := by
  have e := h.1 j hj
  have hm : p (a + j) ≠ 10 → j < m := fun z => by
    refine Nat.lt_of_le_of_ne hj (fun y => z ?_)
    rw [y]; exact h.2
  unfold lex1
  rw [← e]
  by_cases c1 : p (a + j) = 35 ∨ p (a + j) = 10
  · rw [if_pos c1, if_pos c1]; exact smT.one hj
  rw [if_neg c1, if_neg c1]
  have hjm := hm (fun z => c1 (Or.inr z))
  by_cases c2 : isLt (p (a + j)) = true
  · rw [if_pos c2, if_pos c2]
    obtain ⟨r, r1, r2, r3, r4⟩ := scn_sh (q := isW) hp hp' (by decide) h hj
    rw [r3, r4, show a + r - (a + j) = r - j by omega, show a' + r - (a' + j) = r - j by omega, bytes_sh h r2]
    by_cases c : r - j ≤ 12
    · rw [if_pos c, if_pos c]; exact ⟨⟨rfl, rfl, rfl⟩, r, r1, r2, rfl, rfl⟩
    · rw [if_neg c, if_neg c]; exact smT.one hj
  rw [if_neg c2, if_neg c2]
  by_cases c3 : (isD (p (a + j)) || p (a + j) == 45) = true
  · rw [if_pos c3, if_pos c3]; exact lexN_sh hp hp' h hjm
  rw [if_neg c3, if_neg c3]
  by_cases c4 : p (a + j) = 60
  · rw [if_pos c4, if_pos c4]
    obtain ⟨q1, q2⟩ := pref_sh (nm := nMake) h nMake10 hj
    obtain ⟨q3, q4⟩ := pref_sh (nm := nStart) h nStart10 hj
    rw [← q1, ← q3]
    by_cases d1 : pref p (a + j) nMake = true
    · rw [if_pos d1, if_pos d1]
      have := q2 d1
      exact ⟨⟨rfl, rfl, rfl⟩, j + 6, by omega, this, by show a + j + 6 = _; omega, by show a' + j + 6 = _; omega⟩
    rw [if_neg d1, if_neg d1]
    by_cases d2 : pref p (a + j) nStart = true
    · rw [if_pos d2, if_pos d2]
      have := q4 d2
      exact ⟨⟨rfl, rfl, rfl⟩, j + 7, by omega, this, by show a + j + 7 = _; omega, by show a' + j + 7 = _; omega⟩
    rw [if_neg d2, if_neg d2]; exact smT.one hj
  rw [if_neg c4, if_neg c4]
  by_cases c5 : isSg (p (a + j)) = true
  · rw [if_pos c5, if_pos c5]
    exact ⟨⟨rfl, rfl, rfl⟩, j + 1, by omega, hjm, by show a + j + 1 = _; omega, by show a' + j + 1 = _; omega⟩
  rw [if_neg c5, if_neg c5]; exact smT.one hj
theorem lex_sh (hp : tend p n) (hp' : tend p' n') (h : smL m p p' a a') (hj : j ≤ m) : smT m j a a' (lex p n (a + j)) (lex p' n' (a' + j)) := by
  obtain ⟨r, r1, r2, r3, r4⟩ := scn_sh (q := fun b => b == 32) hp hp' (by decide) h hj
  unfold lex
  rw [r3, r4]
  obtain ⟨x, s, s1, s2, s3, s4⟩ := lex1_sh hp hp' h r2
  exact ⟨x, s, by omega, s2, s3, s4⟩
theorem tks_sh (hp : tend p n) (hp' : tend p' n') (h : smL m p p' a a') (hn : a + m ≤ n) (hn' : a' + m ≤ n') : ∀ d j, m - j < d → j ≤ m → wds (tks p n (a + j)) = wds (tks p' n' (a' + j))
  | 0, j, hd, _ => absurd hd (by omega)
  | d + 1, j, hd, hj => by
    obtain ⟨⟨x1, x2, x3⟩, r, r1, r2, r3, r4⟩ := lex_sh hp hp' h hj
    have ex : (fun t : Tok => (t.1, t.2.1, t.2.2.1)) (lex p n (a + j)).1 = (fun t : Tok => (t.1, t.2.1, t.2.2.1)) (lex p' n' (a' + j)).1 := by
      show ((lex p n (a + j)).1.1, (lex p n (a + j)).1.2.1, (lex p n (a + j)).1.2.2.1) = ((lex p' n' (a' + j)).1.1, (lex p' n' (a' + j)).1.2.1, (lex p' n' (a' + j)).1.2.2.1)
      rw [x1, x2, x3]
    rw [tks_eq hp (by omega), tks_eq hp' (by omega), ← x1]
    by_cases c : (lex p n (a + j)).1.1 ≤ 1
    · rw [if_pos c, if_pos c]
      exact congrArg (fun z => [z]) ex
    · rw [if_neg c, if_neg c]
      have hr := (lex_ok (a := a + j) hp (by omega)).2 (by omega)
      rw [r3] at hr
      have ih := tks_sh hp hp' h hn hn' d r (by omega) r2
      rw [r3, r4]
      exact List.cons_eq_cons.mpr ⟨ex, ih⟩
theorem full_sh {ts ts' : List Tok} {to to' : Nat} (h : wds ts = wds ts') : wds (full to ts) = wds (full to' ts') := by
  have e : (ts.getLastD (0, [], 0, 0)).1 = (ts'.getLastD (0, [], 0, 0)).1 := by
    have g : ∀ l : List Tok, (l.getLastD (0, [], 0, 0)).1 = ((wds l).getLastD (0, [], 0)).1 := fun l => by
      rw [List.getLastD_eq_getLast?, List.getLastD_eq_getLast?, List.getLast?_map]
      cases l.getLast? <;> rfl
    rw [g, g, h]
  unfold full
  rw [e]
  by_cases c : (ts'.getLastD (0, [], 0, 0)).1 = 1
  · rw [if_pos c, if_pos c]
    show (ts ++ _).map _ = (ts' ++ _).map _
    rw [List.map_append, List.map_append]
    have h : ts.map (fun t => (t.1, t.2.1, t.2.2.1)) = ts'.map (fun t => (t.1, t.2.1, t.2.2.1)) := h
    rw [h]; rfl
  · rw [if_neg c, if_neg c]; exact h
end
