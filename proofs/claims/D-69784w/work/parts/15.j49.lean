/-! fewest (SPEC), as the twin has it -/
section
variable {m g : Nat → Nat} {n : Nat} {Z Z' : Nat → Bool} {f f' h : Nat → Nat} {r t : Nat}
/-- the twin: after rules below r -/
abbrev zRr (m : Nat → Nat) (Z : Nat → Bool) (r : Nat) : Nat → Bool := fun i => Z i && decide (m i < r)
def cmpT (m g : Nat → Nat) (n r : Nat) (f : Nat → Nat) : Prop := ∀ Z, CvZ m n Z → f (orZ g (zRr m Z r) n) ≤ cnZ (zRr m Z r) n
theorem T_0 (h0 : f 0 = 0) (h1 : ∀ k, k < 256 → k ≠ 0 → f k = 1000) : sndW m g n 0 f ∧ cmpT m g n 0 f := by
  refine ⟨fun k hk hf => ?_, fun Z hZ => ?_⟩
  · have : k = 0 := Classical.byContradiction (fun z => by rw [h1 k hk z] at hf; omega)
    subst this
    obtain ⟨a, b⟩ := or0 (g := g) (Z := fun _ => false) (n := n) (fun _ _ => rfl)
    exact ⟨fun _ => false, a, by rw [b]; exact Nat.zero_le _, fun i _ a b => absurd b (by omega)⟩
  · obtain ⟨a, b⟩ := or0 (g := g) (Z := zRr m Z 0) (n := n) (fun i _ => by
      show (Z i && decide (m i < 0)) = false
      rw [decide_eq_false (by omega), Bool.and_false])
    rw [a, b, h0]; exact Nat.le_refl _
/-- those of rules below r, and those of rule r that come before t -/
abbrev zTt (m : Nat → Nat) (Z : Nat → Bool) (r t : Nat) : Nat → Bool := fun i => Z i && (decide (m i < r) || (decide (m i = r) && decide (i < t)))
/-- while trials of a rule are added: with one of them at least -/
def oneI (m g : Nat → Nat) (n r : Nat) (f : Nat → Nat) (t : Nat) (h : Nat → Nat) : Prop := (∀ Z, CvZ m n Z → (∃ i, i < t ∧ m i = r ∧ Z i = true) → h (orZ g (zTt m Z r t) n) ≤ cnZ (zTt m Z r t) n) ∧ ∀ k, k < 256 → h k < 1000 → ∃ Z, orZ g Z n = k ∧ cnZ Z n ≤ h k ∧ (∀ i, i < n → 0 < m i → m i < r → ∃ j, j < n ∧ Z j = true ∧ m j = m i) ∧ ∃ j, j < n ∧ Z j = true ∧ m j = r
theorem zT_0 : zTt m Z r 0 = zRr m Z r := by
  funext i
  show (Z i && (decide (m i < r) || (decide (m i = r) && decide (i < 0)))) = (Z i && decide (m i < r))
  rw [decide_eq_false (show ¬ i < 0 by omega), Bool.and_false, Bool.or_false]
theorem zT_no (h : m t ≠ r ∨ Z t = false) : ∀ i, zTt m Z r (t + 1) i = zTt m Z r t i := fun i => by
  show (Z i && (decide (m i < r) || (decide (m i = r) && decide (i < t + 1)))) = (Z i && (decide (m i < r) || (decide (m i = r) && decide (i < t))))
  by_cases e : i = t
  · subst e
    rcases h with z | z
    · rw [decide_eq_false z, Bool.false_and, Bool.false_and]
    · rw [z]; rfl
  · by_cases c : i < t
    · rw [decide_eq_true c, decide_eq_true (show i < t + 1 by omega)]
    · rw [decide_eq_false c, decide_eq_false (show ¬ i < t + 1 by omega)]
theorem zT_yes (h : m t = r) (hz : Z t = true) : ∀ i, zTt m Z r (t + 1) i = (zTt m Z r t i || decide (i = t)) := fun i => by
  show (Z i && (decide (m i < r) || (decide (m i = r) && decide (i < t + 1)))) = ((Z i && (decide (m i < r) || (decide (m i = r) && decide (i < t)))) || decide (i = t))
  by_cases e : i = t
  · subst e
    rw [decide_eq_true h, hz, decide_eq_true (Nat.lt_succ_self i), decide_eq_true rfl, Bool.or_true, Bool.true_and, Bool.true_and, Bool.or_true]
  · rw [decide_eq_false e, Bool.or_false]
    by_cases c : i < t
    · rw [decide_eq_true c, decide_eq_true (show i < t + 1 by omega)]
    · rw [decide_eq_false c, decide_eq_false (show ¬ i < t + 1 by omega)]
theorem zT_self (h : m t = r) : zTt m Z r t t = false := by
  show (Z t && (decide (m t < r) || (decide (m t = r) && decide (t < t)))) = false
  rw [decide_eq_false (show ¬ m t < r by omega), decide_eq_false (Nat.lt_irrefl t), Bool.and_false, Bool.or_false, Bool.and_false]
theorem one_no (hI : oneI m g n r f t h) (hne : m t ≠ r) : oneI m g n r f (t + 1) h := by
  refine ⟨fun Z hZ ⟨i, x1, x2, x3⟩ => ?_, hI.2⟩
  rw [orZ_congr n (fun i _ => zT_no (Or.inl hne) i), cnZ_congr n (fun i _ => zT_no (Or.inl hne) i)]
  have : i ≠ t := fun z => hne (z ▸ x2)
  exact hI.1 Z hZ ⟨i, by omega, x2, x3⟩
/-- one more trial of the rule -/
theorem one_st (hg : ∀ i, i < n → g i < 256) (ht : t < n) (he : m t = r) (hS : sndW m g n r f) (hC : cmpT m g n r f) (hI : oneI m g n r f t h) (a1 : ∀ k, k < 256 → f' k ≤ h k) (a2 : ∀ k, k < 256 → f' (k ||| g t) ≤ 1 + min (f k) (h k)) (a3 : ∀ k, k < 256 → f' k < 1000 → f' k = h k ∨ ∃ k', k' < 256 ∧ k = k' ||| g t ∧ 1 + min (f k') (h k') = f' k) : oneI m g n r f (t + 1) f' := by
  refine ⟨fun Z hZ ⟨i, x1, x2, x3⟩ => ?_, fun k hk hlt => ?_⟩
  · by_cases hz : Z t = true
    · rw [orZ_congr n (fun i _ => zT_yes he hz i), cnZ_congr n (fun i _ => zT_yes he hz i), orZ_add ht, cnZ_add ht (zT_self he)]
      show f' (orZ g (zTt m Z r t) n ||| g t) ≤ cnZ (zTt m Z r t) n + 1
      have q := a2 _ (orZ_lt (Z := zTt m Z r t) hg)
      by_cases ex : ∃ i, i < t ∧ m i = r ∧ Z i = true
      · have := hI.1 Z hZ ex
        omega
      · have e : ∀ i, i < n → zTt m Z r t i = zRr m Z r i := fun i _ => by
          show (Z i && (decide (m i < r) || (decide (m i = r) && decide (i < t)))) = (Z i && decide (m i < r))
          by_cases c : m i = r ∧ i < t
          · have : Z i = false := by
              cases ez : Z i with
              | false => rfl
              | true => exact absurd ⟨i, c.2, c.1, ez⟩ ex
            rw [this]; rfl
          · have : (decide (m i = r) && decide (i < t)) = false := by
              by_cases c1 : m i = r
              · rw [decide_eq_false (show ¬ i < t from fun z => c ⟨c1, z⟩), Bool.and_false]
              · rw [decide_eq_false c1]; rfl
            rw [this, Bool.or_false]
        have c := hC Z hZ
        have c : f (orZ g (zTt m Z r t) n) ≤ cnZ (zTt m Z r t) n := by rw [orZ_congr n e, cnZ_congr n e]; exact c
        omega
    · have hz : Z t = false := by cases e : Z t with | false => rfl | true => exact absurd e hz
      rw [orZ_congr n (fun i _ => zT_no (Or.inr hz) i), cnZ_congr n (fun i _ => zT_no (Or.inr hz) i)]
      have : i ≠ t := fun z => by rw [z, hz] at x3; cases x3
      have a := hI.1 Z hZ ⟨i, by omega, x2, x3⟩
      have b := a1 _ (orZ_lt (Z := zTt m Z r t) hg)
      exact Nat.le_trans b a
  · rcases a3 k hk hlt with z | ⟨k', hk', e, z⟩
    · obtain ⟨Z, x1, x2, x3⟩ := hI.2 k hk (by omega)
      exact ⟨Z, x1, by omega, x3⟩
    · have add : ∀ Z v, orZ g Z n = k' → cnZ Z n ≤ v → v + 1 = f' k → (∀ i, i < n → 0 < m i → m i < r → ∃ j, j < n ∧ Z j = true ∧ m j = m i) → ∃ Z, orZ g Z n = k ∧ cnZ Z n ≤ f' k ∧ (∀ i, i < n → 0 < m i → m i < r → ∃ j, j < n ∧ Z j = true ∧ m j = m i) ∧ ∃ j, j < n ∧ Z j = true ∧ m j = r := fun Z v y1 y2 y3 y4 => by
        refine ⟨fun i => Z i || decide (i = t), ?_, ?_, fun i hi h0 h1 => ?_, t, ht, by dsimp only; rw [decide_eq_true rfl, Bool.or_true], he⟩
        · rw [orZ_add ht, y1, e]
        · have := cnZ_addLe (Z := Z) (t := t) n
          rw [if_pos ht] at this
          omega
        · obtain ⟨j, x, y, z⟩ := y4 i hi h0 h1
          exact ⟨j, x, by dsimp only; rw [y]; rfl, z⟩
      by_cases cm : f k' ≤ h k'
      · rw [Nat.min_eq_left cm] at z
        obtain ⟨Z, y1, y2, y3⟩ := hS k' hk' (by omega)
        exact add Z (f k') y1 y2 (by omega) y3
      · rw [Nat.min_eq_right (by omega)] at z
        obtain ⟨Z, y1, y2, y3, -⟩ := hI.2 k' hk' (by omega)
        exact add Z (h k') y1 y2 (by omega) y3
theorem zT_n (hm : ∀ i, i < n → i < t) : ∀ i, i < n → zTt m Z r t i = zRr m Z (r + 1) i := fun i hi => by
  show (Z i && (decide (m i < r) || (decide (m i = r) && decide (i < t)))) = (Z i && decide (m i < r + 1))
  rw [decide_eq_true (hm i hi), Bool.and_true]
  by_cases c1 : m i < r
  · rw [decide_eq_true c1, decide_eq_true (show m i < r + 1 by omega)]; rfl
  · by_cases c2 : m i = r
    · rw [decide_eq_true c2, decide_eq_true (show m i < r + 1 by omega), Bool.or_true]
    · rw [decide_eq_false c1, decide_eq_false c2, decide_eq_false (show ¬ m i < r + 1 by omega)]; rfl
/-- a rule is done with -/
theorem T_no (h : sndW m g n r f ∧ cmpT m g n r f) (hno : ∀ i, i < n → m i ≠ r) : sndW m g n (r + 1) f ∧ cmpT m g n (r + 1) f := by
  refine ⟨fun k hk hf => ?_, fun Z hZ => ?_⟩
  · obtain ⟨Z, a, b, c⟩ := h.1 k hk hf
    exact ⟨Z, a, b, fun i hi h0 h1 => c i hi h0 (by have := hno i hi; omega)⟩
  · have e : ∀ i, i < n → zRr m Z (r + 1) i = zRr m Z r i := fun i hi => by
      show (Z i && decide (m i < r + 1)) = (Z i && decide (m i < r))
      have := hno i hi
      by_cases c : m i < r
      · rw [decide_eq_true c, decide_eq_true (show m i < r + 1 by omega)]
      · rw [decide_eq_false c, decide_eq_false (show ¬ m i < r + 1 by omega)]
    rw [orZ_congr n e, cnZ_congr n e]
    exact h.2 Z hZ
theorem T_ru (hr : 0 < r) (hO : oneI m g n r f n h) (hex : ∃ i, i < n ∧ m i = r) : sndW m g n (r + 1) h ∧ cmpT m g n (r + 1) h := by
  refine ⟨fun k hk hf => ?_, fun Z hZ => ?_⟩
  · obtain ⟨Z, a, b, c, j, x, y, z⟩ := hO.2 k hk hf
    refine ⟨Z, a, b, fun i hi h0 h1 => ?_⟩
    by_cases e : m i = r
    · exact ⟨j, x, y, by omega⟩
    · exact c i hi h0 (by omega)
  · obtain ⟨i, hi, mi⟩ := hex
    obtain ⟨j, x, y, z⟩ := hZ i hi (by omega)
    have := hO.1 Z hZ ⟨j, x, by omega, y⟩
    rw [orZ_congr n (zT_n (fun i hi => hi)), cnZ_congr n (zT_n (fun i hi => hi))] at this
    exact this
theorem T_00 (hS : sndW m g n 0 f ∧ cmpT m g n 0 f) (hO : oneI m g n 0 f n h) (e : ∀ k, k < 256 → f' k = min (f k) (h k)) (hg : ∀ i, i < n → g i < 256) : sndW m g n 1 f' ∧ cmpT m g n 1 f' := by
  refine ⟨fun k hk hf => ?_, fun Z hZ => ?_⟩
  · rw [e k hk] at hf ⊢
    by_cases cm : f k ≤ h k
    · rw [Nat.min_eq_left cm] at hf ⊢
      obtain ⟨Z, a, b, _⟩ := hS.1 k hk hf
      exact ⟨Z, a, b, fun i _ h0 h1 => absurd h0 (by omega)⟩
    · rw [Nat.min_eq_right (by omega)] at hf ⊢
      obtain ⟨Z, a, b, _⟩ := hO.2 k hk hf
      exact ⟨Z, a, b, fun i _ h0 h1 => absurd h0 (by omega)⟩
  · rw [e _ (orZ_lt hg)]
    by_cases ex : ∃ i, i < n ∧ m i = 0 ∧ Z i = true
    · have := hO.1 Z hZ ex
      rw [orZ_congr n (zT_n (fun i hi => hi)), cnZ_congr n (zT_n (fun i hi => hi))] at this
      exact Nat.le_trans (Nat.min_le_right _ _) this
    · have e1 : ∀ i, i < n → zRr m Z 1 i = zRr m Z 0 i := fun i hi => by
        show (Z i && decide (m i < 1)) = (Z i && decide (m i < 0))
        cases ez : Z i with
        | false => rfl
        | true =>
          have : m i ≠ 0 := fun z => ex ⟨i, hi, z, ez⟩
          rw [decide_eq_false (show ¬ m i < 1 by omega), decide_eq_false (show ¬ m i < 0 by omega)]
      rw [orZ_congr n e1, cnZ_congr n e1]
      exact Nat.le_trans (Nat.min_le_left _ _) (hS.2 Z hZ)
theorem T_fin (hn : n ≤ 40) (hm : ∀ i, i < n → m i < 60) (hg : ∀ i, i < n → g i < 256) (hS : sndW m g n 60 f ∧ cmpT m g n 60 f) : IsF m g n (f (orZ g (fun _ => true) n)) := by
  have cmp : ∀ Z, CvZ m n Z → f (orZ g Z n) ≤ cnZ Z n := fun Z hZ => by
    have e : ∀ i, i < n → Z i = zRr m Z 60 i := fun i hi => by
      show Z i = (Z i && decide (m i < 60))
      rw [decide_eq_true (hm i hi), Bool.and_true]
    rw [orZ_congr n e, cnZ_congr n e]
    exact hS.2 Z hZ
  have cvA : CvZ m n (fun _ => true) := fun i hi _ => ⟨i, hi, rfl, rfl⟩
  have lt : f (orZ g (fun _ => true) n) < 1000 := by
    have a := cmp _ cvA
    have b := cnZ_le (Z := fun _ => true) n
    omega
  refine ⟨?_, fun Z hZ e => by rw [← e]; exact cmp Z hZ⟩
  obtain ⟨Z, a, b, c⟩ := hS.1 _ (orZ_lt hg) lt
  exact ⟨Z, fun i hi h0 => c i hi h0 (hm i hi), a, b⟩
theorem one_0 : oneI m g n r f 0 (fun _ => 1000) := ⟨fun _ _ ⟨i, h, _⟩ => absurd h (by omega), fun k _ h => absurd h (Nat.lt_irrefl 1000)⟩
end
