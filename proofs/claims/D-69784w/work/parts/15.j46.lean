/-! fewest (SPEC): the fewest trials that meet all rules that are met and find all breaks that are found -/
def orZ (g : Nat → Nat) (Z : Nat → Bool) : Nat → Nat
  | 0 => 0
  | n + 1 => if Z n = true then orZ g Z n ||| g n else orZ g Z n
def cnZ (Z : Nat → Bool) : Nat → Nat
  | 0 => 0
  | n + 1 => if Z n = true then cnZ Z n + 1 else cnZ Z n
/-- all rules that are met are met by some of them -/
def CvZ (m : Nat → Nat) (n : Nat) (Z : Nat → Bool) : Prop := ∀ i, i < n → 0 < m i → ∃ j, j < n ∧ Z j = true ∧ m j = m i
def IsF (m g : Nat → Nat) (n v : Nat) : Prop := (∃ Z, CvZ m n Z ∧ orZ g Z n = orZ g (fun _ => true) n ∧ cnZ Z n ≤ v) ∧ ∀ Z, CvZ m n Z → orZ g Z n = orZ g (fun _ => true) n → v ≤ cnZ Z n
theorem IsF.uniq {m g : Nat → Nat} {n v v' : Nat} (h : IsF m g n v) (h' : IsF m g n v') : v = v' := by
  obtain ⟨⟨Z, a, b, c⟩, d⟩ := h
  obtain ⟨⟨Z', a', b', c'⟩, d'⟩ := h'
  have := d Z' a' b'
  have := d' Z a b
  omega
section
variable {m g : Nat → Nat} {n : Nat} {Z Z' : Nat → Bool}
theorem orZ_congr : ∀ n, (∀ i, i < n → Z i = Z' i) → orZ g Z n = orZ g Z' n
  | 0, _ => rfl
  | n + 1, h => by
    unfold orZ
    rw [h n (Nat.lt_succ_self n), orZ_congr n (fun i hi => h i (by omega))]
theorem cnZ_congr : ∀ n, (∀ i, i < n → Z i = Z' i) → cnZ Z n = cnZ Z' n
  | 0, _ => rfl
  | n + 1, h => by
    unfold cnZ
    rw [h n (Nat.lt_succ_self n), cnZ_congr n (fun i hi => h i (by omega))]
theorem orZ_or : ∀ n, orZ g (fun i => Z i || Z' i) n = orZ g Z n ||| orZ g Z' n
  | 0 => (Nat.or_self 0).symm
  | n + 1 => by
    unfold orZ
    rw [orZ_or n]
    cases Z n <;> cases Z' n
    · rfl
    · show orZ g Z n ||| orZ g Z' n ||| g n = orZ g Z n ||| (orZ g Z' n ||| g n)
      rw [Nat.or_assoc]
    · show orZ g Z n ||| orZ g Z' n ||| g n = orZ g Z n ||| g n ||| orZ g Z' n
      rw [Nat.or_assoc, Nat.or_comm (orZ g Z' n) (g n), Nat.or_assoc]
    · show orZ g Z n ||| orZ g Z' n ||| g n = orZ g Z n ||| g n ||| (orZ g Z' n ||| g n)
      rw [Nat.or_assoc, Nat.or_assoc, ← Nat.or_assoc (g n) (orZ g Z' n) (g n), Nat.or_comm (g n) (orZ g Z' n), Nat.or_assoc (orZ g Z' n), Nat.or_self]
theorem cnZ_or : ∀ n, (∀ i, i < n → ¬ (Z i = true ∧ Z' i = true)) → cnZ (fun i => Z i || Z' i) n = cnZ Z n + cnZ Z' n
  | 0, _ => rfl
  | n + 1, h => by
    have hn := h n (Nat.lt_succ_self n)
    unfold cnZ
    rw [cnZ_or n (fun i hi => h i (by omega))]
    cases e : Z n <;> cases e' : Z' n
    · rfl
    · show cnZ Z n + cnZ Z' n + 1 = cnZ Z n + (cnZ Z' n + 1); omega
    · show cnZ Z n + cnZ Z' n + 1 = cnZ Z n + 1 + cnZ Z' n; omega
    · exact absurd ⟨e, e'⟩ hn
theorem cnZ_le : ∀ n, cnZ Z n ≤ n
  | 0 => Nat.le_refl _
  | n + 1 => by
    unfold cnZ
    have := cnZ_le n
    split <;> omega
/-- one alone -/
theorem orZ_one {t : Nat} : ∀ n, orZ g (fun i => decide (i = t)) n = if t < n then g t else 0
  | 0 => (if_neg (Nat.not_lt_zero _)).symm
  | n + 1 => by
    unfold orZ
    rw [orZ_one n]
    by_cases e : n = t
    · rw [if_pos (decide_eq_true e), e, if_neg (Nat.lt_irrefl _), if_pos (Nat.lt_succ_self _), Nat.zero_or]
    · rw [if_neg (by rw [decide_eq_false e]; decide)]
      by_cases h : t < n
      · rw [if_pos h, if_pos (by omega)]
      · rw [if_neg h, if_neg (by omega)]
theorem cnZ_one {t : Nat} : ∀ n, cnZ (fun i => decide (i = t)) n = if t < n then 1 else 0
  | 0 => (if_neg (Nat.not_lt_zero _)).symm
  | n + 1 => by
    unfold cnZ
    rw [cnZ_one n]
    by_cases e : n = t
    · rw [if_pos (decide_eq_true e), e, if_neg (Nat.lt_irrefl _), if_pos (Nat.lt_succ_self _)]
    · rw [if_neg (by rw [decide_eq_false e]; decide)]
      by_cases h : t < n
      · rw [if_pos h, if_pos (by omega)]
      · rw [if_neg h, if_neg (by omega)]
theorem orZ_add {t : Nat} (ht : t < n) : orZ g (fun i => Z i || decide (i = t)) n = orZ g Z n ||| g t := by
  rw [orZ_or, orZ_one, if_pos ht]
theorem cnZ_addLe {t : Nat} : ∀ n, cnZ (fun i => Z i || decide (i = t)) n ≤ cnZ Z n + (if t < n then 1 else 0)
  | 0 => Nat.le_add_right _ _
  | n + 1 => by
    have ih := cnZ_addLe (t := t) n
    unfold cnZ
    by_cases e : n = t
    · rw [decide_eq_true e, Bool.or_true, if_pos rfl, if_pos (show t < n + 1 by omega)]
      rw [if_neg (show ¬ t < n by omega)] at ih
      split <;> omega
    · rw [decide_eq_false e, Bool.or_false]
      have : (if t < n then 1 else 0) = (if t < n + 1 then 1 else 0) := by
        by_cases h : t < n
        · rw [if_pos h, if_pos (by omega)]
        · rw [if_neg h, if_neg (by omega)]
      rw [this] at ih
      split <;> omega
theorem cnZ_add {t : Nat} (ht : t < n) (h : Z t = false) : cnZ (fun i => Z i || decide (i = t)) n = cnZ Z n + 1 := by
  rw [cnZ_or n (fun i hi z => by rw [of_decide_eq_true z.2, h] at z; cases z.1), cnZ_one, if_pos ht]
theorem orZ_lt (hg : ∀ i, i < n → g i < 256) : orZ g Z n < 256 := by
  induction n with
  | zero => exact (by decide : (0 : Nat) < 256)
  | succ n ih =>
    unfold orZ
    have := ih (fun i hi => hg i (by omega))
    split
    · exact Nat.or_lt_two_pow (n := 8) this (hg n (by omega))
    · exact this
theorem least_of {p : Nat → Bool} : ∀ n, (∃ i, i < n ∧ p i = true) → ∃ i, i < n ∧ p i = true ∧ ∀ j, j < i → p j = false
  | 0, ⟨i, h, _⟩ => absurd h (Nat.not_lt_zero _)
  | n + 1, ⟨i, h, hp⟩ => by
    by_cases e : ∃ j, j < n ∧ p j = true
    · obtain ⟨j, a, b, c⟩ := least_of n e
      exact ⟨j, by omega, b, c⟩
    · have : i = n := Classical.byContradiction (fun z => e ⟨i, by omega, hp⟩)
      refine ⟨i, h, hp, fun j hj => ?_⟩
      cases ej : p j with
      | false => rfl
      | true => exact absurd ⟨j, by omega, ej⟩ e
/-- the first of those that meet its rule -/
def rpZ (m : Nat → Nat) (Z : Nat → Bool) (i : Nat) : Bool := (Z i && decide (0 < m i)) && (List.range i).all (fun j => !(Z j && decide (m j = m i)))
theorem rpZ_in {i : Nat} (h : rpZ m Z i = true) : Z i = true ∧ 0 < m i := by
  unfold rpZ at h
  rw [Bool.and_eq_true, Bool.and_eq_true] at h
  exact ⟨h.1.1, of_decide_eq_true h.1.2⟩
theorem rpZ_u {i j : Nat} (hi : rpZ m Z i = true) (hj : rpZ m Z j = true) (e : m i = m j) : i = j := by
  have main : ∀ {i j : Nat}, rpZ m Z i = true → rpZ m Z j = true → m i = m j → ¬ i < j := fun {i j} hi hj e hlt => by
    unfold rpZ at hj
    rw [Bool.and_eq_true, List.all_eq_true] at hj
    have := hj.2 i (List.mem_range.mpr hlt)
    rw [(rpZ_in hi).1, e, decide_eq_true rfl] at this
    cases this
  have a := main hi hj e
  have b := main hj hi e.symm
  omega
theorem rpZ_ex {r : Nat} (hr : 0 < r) (h : ∃ i, i < n ∧ Z i = true ∧ m i = r) : ∃ i, i < n ∧ rpZ m Z i = true ∧ m i = r := by
  obtain ⟨i, hi, hp, hl⟩ := least_of (p := fun i => Z i && decide (m i = r)) n (by
    obtain ⟨i, a, b, c⟩ := h
    exact ⟨i, a, by rw [b, decide_eq_true c]; rfl⟩)
  rw [Bool.and_eq_true] at hp
  have em := of_decide_eq_true hp.2
  refine ⟨i, hi, ?_, em⟩
  unfold rpZ
  rw [hp.1, decide_eq_true (show 0 < m i by omega), Bool.and_eq_true, List.all_eq_true]
  refine ⟨rfl, fun j hj => ?_⟩
  have := hl j (List.mem_range.mp hj)
  rw [em, this]; rfl
/-- the works: after rules below r -/
def sndW (m g : Nat → Nat) (n r : Nat) (f : Nat → Nat) : Prop := ∀ k, k < 256 → f k < 1000 → ∃ Z, orZ g Z n = k ∧ cnZ Z n ≤ f k ∧ ∀ i, i < n → 0 < m i → m i < r → ∃ j, j < n ∧ Z j = true ∧ m j = m i
abbrev rpR (m : Nat → Nat) (Z : Nat → Bool) (r : Nat) : Nat → Bool := fun i => rpZ m Z i && decide (m i < r)
def cmpW (m g : Nat → Nat) (n r : Nat) (f : Nat → Nat) : Prop := ∀ Z, CvZ m n Z → f (orZ g (rpR m Z r) n) ≤ cnZ (rpR m Z r) n
variable {f f' : Nat → Nat} {r : Nat}
theorem or0 (h : ∀ i, i < n → Z i = false) : orZ g Z n = 0 ∧ cnZ Z n = 0 := by
  induction n with
  | zero => exact ⟨rfl, rfl⟩
  | succ n ih =>
    obtain ⟨a, b⟩ := ih (fun i hi => h i (by omega))
    unfold orZ cnZ
    rw [h n (by omega), if_neg (by decide), if_neg (by decide)]
    exact ⟨a, b⟩
theorem W_0 (h0 : f 0 = 0) (h1 : ∀ k, k < 256 → k ≠ 0 → f k = 1000) : sndW m g n 1 f ∧ cmpW m g n 1 f := by
  refine ⟨fun k hk hf => ?_, fun Z hZ => ?_⟩
  · have : k = 0 := Classical.byContradiction (fun z => by rw [h1 k hk z] at hf; omega)
    subst this
    obtain ⟨a, b⟩ := or0 (g := g) (Z := fun _ => false) (n := n) (fun _ _ => rfl)
    exact ⟨fun _ => false, a, by rw [b]; exact Nat.zero_le _, fun i _ a b => absurd a (by omega)⟩
  · obtain ⟨a, b⟩ := or0 (g := g) (Z := rpR m Z 1) (n := n) (fun i _ => by
      cases e : rpZ m Z i with
      | false => show (rpZ m Z i && _) = false; rw [e]; rfl
      | true =>
        have := (rpZ_in e).2
        show (rpZ m Z i && decide (m i < 1)) = false
        rw [decide_eq_false (by omega), Bool.and_false])
    rw [a, b, h0]; exact Nat.le_refl _
theorem W_no (h : sndW m g n r f ∧ cmpW m g n r f) (hno : ∀ i, i < n → m i ≠ r) : sndW m g n (r + 1) f ∧ cmpW m g n (r + 1) f := by
  refine ⟨fun k hk hf => ?_, fun Z hZ => ?_⟩
  · obtain ⟨Z, a, b, c⟩ := h.1 k hk hf
    exact ⟨Z, a, b, fun i hi h0 h1 => c i hi h0 (by have := hno i hi; omega)⟩
  · have e : ∀ i, i < n → rpR m Z (r + 1) i = rpR m Z r i := fun i hi => by
      show (rpZ m Z i && decide (m i < r + 1)) = (rpZ m Z i && decide (m i < r))
      have := hno i hi
      by_cases c : m i < r
      · rw [decide_eq_true c, decide_eq_true (show m i < r + 1 by omega)]
      · rw [decide_eq_false c, decide_eq_false (show ¬ m i < r + 1 by omega)]
    rw [orZ_congr n e, cnZ_congr n e]
    exact h.2 Z hZ
theorem W_ru (hr : 0 < r) (hg : ∀ i, i < n → g i < 256) (h : sndW m g n r f ∧ cmpW m g n r f) (hex : ∃ i, i < n ∧ m i = r) (n1 : ∀ t, t < n → m t = r → ∀ k, k < 256 → f' (k ||| g t) ≤ f k + 1) (n2 : ∀ k, k < 256 → f' k < 1000 → ∃ t, t < n ∧ m t = r ∧ ∃ k', k' < 256 ∧ k = k' ||| g t ∧ f k' + 1 ≤ f' k) : sndW m g n (r + 1) f' ∧ cmpW m g n (r + 1) f' := by
  refine ⟨fun k hk hf => ?_, fun Z hZ => ?_⟩
  · obtain ⟨t, ht, mt, k', hk', e, hle⟩ := n2 k hk hf
    obtain ⟨Z, a, b, c⟩ := h.1 k' hk' (by omega)
    refine ⟨fun i => Z i || decide (i = t), ?_, ?_, fun i hi h0 h1 => ?_⟩
    · rw [orZ_add ht, a, e]
    · have := cnZ_addLe (Z := Z) (t := t) n
      rw [if_pos ht] at this
      omega
    · by_cases ei : m i = r
      · exact ⟨t, ht, by dsimp only; rw [decide_eq_true rfl, Bool.or_true], by omega⟩
      · obtain ⟨j, x, y, z⟩ := c i hi h0 (by omega)
        exact ⟨j, x, by dsimp only; rw [y]; rfl, z⟩
  · obtain ⟨i, hi, mi⟩ := hex
    obtain ⟨i0, h0, hp, m0⟩ := rpZ_ex (m := m) (Z := Z) (n := n) hr (by
      obtain ⟨j, a, b, c⟩ := hZ i hi (by omega)
      exact ⟨j, a, b, by omega⟩)
    have e : ∀ i, i < n → rpR m Z (r + 1) i = (rpR m Z r i || decide (i = i0)) := fun i _ => by
      show (rpZ m Z i && decide (m i < r + 1)) = ((rpZ m Z i && decide (m i < r)) || decide (i = i0))
      by_cases ei : i = i0
      · rw [ei, hp, decide_eq_true (show m i0 < r + 1 by omega), decide_eq_true rfl, Bool.or_true]; rfl
      · rw [decide_eq_false ei, Bool.or_false]
        cases er : rpZ m Z i with
        | false => rfl
        | true =>
          have : m i ≠ r := fun z => ei (rpZ_u er hp (by omega))
          by_cases c : m i < r
          · rw [decide_eq_true c, decide_eq_true (show m i < r + 1 by omega)]
          · rw [decide_eq_false c, decide_eq_false (show ¬ m i < r + 1 by omega)]
    have hf0 : rpR m Z r i0 = false := by
      show (rpZ m Z i0 && decide (m i0 < r)) = false
      rw [decide_eq_false (by omega), Bool.and_false]
    rw [orZ_congr n e, cnZ_congr n e, orZ_add h0, cnZ_add h0 hf0]
    have a := n1 i0 h0 m0 _ (orZ_lt (Z := rpR m Z r) hg)
    have b := h.2 Z hZ
    omega
/-- any others besides -/
theorem W_fin (hn : n ≤ 40) (h : sndW m g n 60 f ∧ cmpW m g n 60 f) (hm : ∀ i, i < n → m i < 60) (hg : ∀ i, i < n → g i < 256)
    (r1 : ∀ (E : Nat → Bool) k, k < 256 → f' (k ||| orZ g E n) ≤ f k + cnZ E n) (r2 : ∀ P : Nat → Nat → Prop, (∀ t, t < n → ∀ k v, k < 256 → P k v → P (k ||| g t) (v + 1)) → (∀ k, k < 256 → f k < 1000 → P k (f k)) → ∀ k, k < 256 → f' k < 1000 → P k (f' k)) : IsF m g n (f' (orZ g (fun _ => true) n)) := by
  have cmp : ∀ Z, CvZ m n Z → f' (orZ g Z n) ≤ cnZ Z n := fun Z hZ => by
    have e : ∀ i, i < n → Z i = (rpR m Z 60 i || (Z i && !rpZ m Z i)) := fun i hi => by
      show Z i = ((rpZ m Z i && decide (m i < 60)) || (Z i && !rpZ m Z i))
      rw [decide_eq_true (hm i hi), Bool.and_true]
      cases er : rpZ m Z i with
      | false => rw [Bool.false_or, Bool.not_false, Bool.and_true]
      | true => rw [(rpZ_in er).1]; rfl
    have hd : ∀ i, i < n → ¬ (rpR m Z 60 i = true ∧ (Z i && !rpZ m Z i) = true) := fun i _ z => by
      have a : rpZ m Z i = true := (Bool.and_eq_true _ _ ▸ z.1 : _ ∧ _).1
      have b := z.2
      rw [a, Bool.not_true, Bool.and_false] at b
      cases b
    rw [orZ_congr n e, cnZ_congr n e, orZ_or, cnZ_or n hd]
    have a := r1 (fun i => Z i && !rpZ m Z i) _ (orZ_lt (Z := rpR m Z 60) hg)
    have b := h.2 Z hZ
    omega
  have cvA : CvZ m n (fun _ => true) := fun i hi _ => ⟨i, hi, rfl, rfl⟩
  have lt : f' (orZ g (fun _ => true) n) < 1000 := by
    have a := cmp _ cvA
    have b := cnZ_le (Z := fun _ => true) n
    omega
  refine ⟨?_, fun Z hZ e => by rw [← e]; exact cmp Z hZ⟩
  obtain ⟨Z, a, b, c⟩ := r2 (fun k v => ∃ Z, orZ g Z n = k ∧ cnZ Z n ≤ v ∧ ∀ i, i < n → 0 < m i → m i < 60 → ∃ j, j < n ∧ Z j = true ∧ m j = m i) (fun t ht k v _ ⟨Z, a, b, c⟩ => by
    refine ⟨fun i => Z i || decide (i = t), ?_, ?_, fun i hi h0 h1 => ?_⟩
    · rw [orZ_add ht, a]
    · have := cnZ_addLe (Z := Z) (t := t) n
      rw [if_pos ht] at this
      omega
    · obtain ⟨j, x, y, z⟩ := c i hi h0 h1
      exact ⟨j, x, by dsimp only; rw [y]; rfl, z⟩) h.1 _ (orZ_lt hg) lt
  exact ⟨Z, fun i hi h0 => c i hi h0 (hm i hi), a, b⟩
end
