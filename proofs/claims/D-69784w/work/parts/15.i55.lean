/-! HOW LONG A TEXT IS: words of a line, lines of a text -/
theorem lexN_s {p : Nat → Int32} {n k : Nat} {less : Bool} : (lexN p n k less).1.2.1.length ≤ 12 := by
  unfold lexN
  dsimp only
  repeat' split
  all_goals exact Nat.zero_le _
theorem lex1_s {p : Nat → Int32} {n k : Nat} : (lex1 p n k).1.2.1.length ≤ 12 := by
  unfold lex1
  split
  · exact Nat.zero_le _
  split
  · split
    · rename_i c
      show (bytes p k (scn isW p n k)).length ≤ 12
      rw [bytes_len]; exact c
    · exact Nat.zero_le _
  split
  · exact lexN_s
  split
  · split
    · show nMake.length ≤ 12
      decide +kernel
    split
    · show nStart.length ≤ 12
      decide +kernel
    · exact Nat.zero_le _
  split
  · exact Nat.zero_le _
  · exact Nat.zero_le _
theorem tks_s {p : Nat → Int32} {n : Nat} (hp : tend p n) : ∀ d a, n + 2 - a ≤ d → a ≤ n + 1 → ∀ t ∈ tks p n a, t.2.1.length ≤ 12
  | 0, a, h1, h2 => absurd h1 (by omega)
  | d + 1, a, h1, h2 => by
    intro t ht
    rw [tks_eq hp h2] at ht
    have hl : (lex p n a).1.2.1.length ≤ 12 := lex1_s
    split at ht
    · rw [List.mem_singleton.1 ht]; exact hl
    · rename_i c
      obtain ⟨-, hx⟩ := lex_ok hp h2
      obtain ⟨x1, x2⟩ := hx (by omega)
      rcases List.mem_cons.1 ht with e | e
      · rw [e]; exact hl
      · exact tks_s hp d _ (by omega) (by omega) t e
theorem full_okS {p : Nat → Int32} {n a to : Nat} (hp : tend p n) (ha : a ≤ n + 1) : okS (full to (tks p n a)) := fun t ht => by
  rcases full_mem ht with e | e
  · exact ⟨tks_s hp _ a (Nat.le_refl _) ha t e, fun z => ((tks_ok hp _ a (Nat.le_refl _) ha t e).2.2.1 z).2.1⟩
  · rw [e]; exact ⟨Nat.zero_le _, fun z => absurd z (by show ¬ (0 = 2); omega)⟩
theorem full_lenZ {p : Nat → Int32} {n to : Nat} (hp : tend p n) (h3 : p to = 10) (hto : to ≤ n) : ∀ d a, to - a ≤ d → a ≤ to → (∀ i, a ≤ i → i < to → p i ≠ 10) → (full to (tks p n a)).length ≤ to - a + 1 := by
  intro d
  induction d with
  | zero =>
    intro a h1 h2 hi
    have ea : a = to := by omega
    subst ea
    rw [tks_eq hp (by omega)]
    have el : (lex p n a).1.1 = 0 := by
      rw [lex_word (by rw [h3]; decide)]
      unfold lex1
      rw [if_pos (Or.inr h3)]
    rw [if_pos (by omega)]
    unfold full
    rw [show ([(lex p n a).1].getLastD (0, [], 0, 0)) = (lex p n a).1 from rfl, if_neg (by omega)]
    exact Nat.le_add_left _ _
  | succ d ih =>
    intro a h1 h2 hi
    obtain ⟨x1, x2, x3, x4⟩ := lex_in hp h2 hi h3 hto
    rw [tks_eq hp (by omega)]
    by_cases c : (lex p n a).1.1 ≤ 1
    · rw [if_pos c]
      unfold full
      rw [show ([(lex p n a).1].getLastD (0, [], 0, 0)) = (lex p n a).1 from rfl]
      by_cases c1 : (lex p n a).1.1 = 1
      · rw [if_pos c1]
        have : a ≠ to := fun e => by
          subst e
          rw [lex_word (by rw [h3]; decide)] at c1
          unfold lex1 at c1
          rw [if_pos (Or.inr h3)] at c1
          exact absurd c1 (by show ¬ (0 = 1); omega)
        show 2 ≤ _
        omega
      · rw [if_neg c1]
        exact Nat.le_add_left _ _
    · rw [if_neg c]
      obtain ⟨-, hx⟩ := lex_ok hp (a := a) (by omega)
      obtain ⟨y1, y2⟩ := hx (by omega)
      rw [full_cons (tks_ne hp (by omega)), List.length_cons]
      have := ih (lex p n a).2 (by omega) x1 (fun i z1 z2 => hi i (by omega) z2)
      omega
theorem lnsF_s {p : Nat → Int32} {n : Nat} (hp : tend p n) : ∀ f a, a ≤ n → (∀ l ∈ lnsF p n f a, okS l) ∧ ((lnsF p n f a).map List.length).sum ≤ n + 1 - a
  | 0, a, h => ⟨fun l hl => (by cases hl), Nat.zero_le _⟩
  | f + 1, a, h => by
    obtain ⟨n1, n2, n3, n4⟩ := nl_ok hp h
    have hl := full_lenZ hp n3 n2 _ a (Nat.le_refl _) n1 n4
    have ho := full_okS (to := nl p n a) hp (a := a) (by omega)
    have rest : (∀ l ∈ (if nl p n a + 1 < n then lnsF p n f (nl p n a + 1) else []), okS l) ∧ ((if nl p n a + 1 < n then lnsF p n f (nl p n a + 1) else []).map List.length).sum ≤ n + 1 - (nl p n a + 1) := by
      split
      · exact lnsF_s hp f _ (by omega)
      · exact ⟨fun l hl => (by cases hl), Nat.zero_le _⟩
    unfold lnsF
    split
    · exact ⟨rest.1, Nat.le_trans rest.2 (by omega)⟩
    · refine ⟨fun l hl2 => ?_, ?_⟩
      · rcases List.mem_cons.1 hl2 with e | e
        · rw [e]; exact ho
        · exact rest.1 l e
      · rw [List.map_cons, List.sum_cons]
        have := rest.2
        omega
theorem lns_s {p : Nat → Int32} {n : Nat} (hp : tend p n) : (∀ l ∈ lns p n 0, okS l) ∧ ((lns p n 0).map List.length).sum ≤ n + 1 := lnsF_s hp _ 0 (Nat.zero_le _)
