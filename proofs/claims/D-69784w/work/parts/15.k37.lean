/-! names and signatures that a text tells: how many -/
def nmsL (l : List Tok) : List Nm := (l.filter (fun t => decide (t.1 = 2))).map (fun t => t.2.1)
def nmsT (tp : List Int32) : List Nm := (lns (pT tp) tp.length 0).flatMap nmsL
def sgL : List Tok → List (List Kd × Kd)
  | [] => []
  | t :: ts => (match pSig (t :: ts) with
    | .inl _ => []
    | .inr (x, _) => [x]) ++ sgL ts
def sgT (tp : List Int32) : List (List Kd × Kd) := (lns (pT tp) tp.length 0).flatMap sgL
theorem fm_len {α β : Type} {f : α → List β} {g : α → Nat} : ∀ l : List α, (∀ x ∈ l, (f x).length ≤ g x) → (l.flatMap f).length ≤ (l.map g).sum
  | [], _ => Nat.le_refl _
  | x :: l, h => by
    rw [List.flatMap_cons, List.length_append, List.map_cons, List.sum_cons]
    have h1 := h x List.mem_cons_self
    have h2 := fm_len l (fun y hy => h y (List.mem_cons_of_mem _ hy))
    omega
theorem fm_sum {α β : Type} {f : α → List β} {g : α → Nat} {w : β → Nat} : ∀ l : List α, (∀ x ∈ l, ((f x).map w).sum ≤ g x) → ((l.flatMap f).map w).sum ≤ (l.map g).sum
  | [], _ => Nat.le_refl _
  | x :: l, h => by
    rw [List.flatMap_cons, List.map_append, List.sum_append, List.map_cons, List.sum_cons]
    have h1 := h x List.mem_cons_self
    have h2 := fm_sum l (fun y hy => h y (List.mem_cons_of_mem _ hy))
    omega
section
variable {tp : List Int32} {BB : List Nm} {U1 : List (List Kd × Kd)} {S : List Sg}
theorem nmsT_len : (nmsT tp).length ≤ tp.length + 1 := by
  have h := (lns_s (pT_end tp)).2
  refine Nat.le_trans (fm_len (g := List.length) _ (fun l _ => ?_)) h
  unfold nmsL
  rw [List.length_map]
  exact List.length_filter_le _ _
theorem nmsT_in (h : nmsT tp ⊆ BB) : ∀ l ∈ lns (pT tp) tp.length 0, NB BB l := fun l hl t ht e => h (List.mem_flatMap.mpr ⟨l, hl, List.mem_map.mpr ⟨t, List.mem_filter.mpr ⟨ht, by simpa using e⟩, rfl⟩⟩)
theorem hd_nz {ts : List Tok} {k : Nat} (h : (hd ts).1 = k) (hk : k ≠ 1) : ∃ t, ts = t :: ts.tail ∧ t.1 = k := by
  cases ts with
  | nil => exact absurd h.symm hk
  | cons t ts => exact ⟨t, rfl, h⟩
theorem pType_one {ts t2 : List Tok} {κ : Kd} (h : pType ts = .inr (κ, t2)) : ∃ t, ts = t :: t2 ∧ t.1 = 2 := by
  unfold pType at h
  by_cases c1 : isWd nNum ts = true
  · rw [if_pos c1] at h
    cases h
    exact hd_nz (of_decide_eq_true c1).1 (by decide)
  · rw [if_neg c1] at h
    by_cases c2 : isWd nRow ts = true
    · rw [if_pos c2] at h
      cases h
      exact hd_nz (of_decide_eq_true c2).1 (by decide)
    · rw [if_neg c2] at h
      unfold pCls at h
      by_cases c3 : (hd ts).1 = 2 ∧ (hd ts).2.1 ∉ noCls
      · rw [if_pos c3] at h
        cases h
        exact hd_nz c3.1 (by decide)
      · rw [if_neg c3] at h
        cases h
theorem pTypesF_mid {s : Bool} : ∀ d acc ts ks t', pTypesF s d acc ts = .inr (ks, t') → ∃ m, ts = m ++ t' ∧ (∀ t ∈ m, t.1 ≠ 40) ∧ ks.length ≤ acc.length + m.length := by
  intro d
  induction d with
  | zero => intro acc ts ks t' h; unfold pTypesF at h; cases h
  | succ d ih =>
    intro acc ts ks t' h
    unfold pTypesF at h
    by_cases c : (hd ts).1 = 41
    · rw [if_pos c] at h
      cases h
      obtain ⟨t, e, ht⟩ := hd_nz c (by decide)
      exact ⟨[t], e, fun x hx => by rw [List.mem_singleton.mp hx, ht]; decide, Nat.le_add_right _ _⟩
    · rw [if_neg c] at h
      have fin : ∀ m0 t1, ts = m0 ++ t1 → (∀ t ∈ m0, t.1 ≠ 40) → (if s = true ∧ acc.length = 6 then (.inl (er t1) : Rz (List Kd)) else match pType t1 with
        | .inl e => .inl e
        | .inr (κ, t2) => pTypesF s d (acc ++ [κ]) t2) = .inr (ks, t') → ∃ m, ts = m ++ t' ∧ (∀ t ∈ m, t.1 ≠ 40) ∧ ks.length ≤ acc.length + m.length := fun m0 t1 e0 h0 hh => by
        by_cases c6 : s = true ∧ acc.length = 6
        · rw [if_pos c6] at hh; cases hh
        · rw [if_neg c6] at hh
          cases hp : pType t1 with
          | inl e => rw [hp] at hh; cases hh
          | inr y =>
            obtain ⟨κ, t2⟩ := y
            rw [hp] at hh
            obtain ⟨u, eu, hu⟩ := pType_one hp
            obtain ⟨m, e1, h1, h2⟩ := ih _ _ _ _ hh
            refine ⟨m0 ++ (u :: m), by rw [e0, eu, e1, List.append_assoc, List.cons_append], fun x hx => ?_, ?_⟩
            · rcases List.mem_append.mp hx with z | z
              · exact h0 x z
              · rcases List.mem_cons.mp z with z | z
                · rw [z, hu]; decide
                · exact h1 x z
            · rw [List.length_append, List.length_cons] at *
              simp only [List.length_nil, List.length_append, List.length_cons] at h2 ⊢
              omega
      by_cases c0 : acc.length = 0
      · rw [if_pos c0] at h
        exact fin [] ts rfl (fun _ z => by cases z) h
      · rw [if_neg c0] at h
        unfold pSign at h
        by_cases c4 : (hd ts).1 = 44
        · rw [if_pos c4] at h
          obtain ⟨t, e, ht⟩ := hd_nz c4 (by decide)
          exact fin [t] ts.tail e (fun x hx => by rw [List.mem_singleton.mp hx, ht]; decide) h
        · rw [if_neg c4] at h; cases h
theorem pSig_40 {t : Tok} {ts : List Tok} (h : t.1 ≠ 40) : ∃ e, pSig (t :: ts) = .inl e := by
  unfold pSig pTypes pSign
  rw [if_neg (show ¬ (hd (t :: ts)).1 = 40 from h)]
  exact ⟨_, rfl⟩
theorem sgL_mid : ∀ (m r : List Tok), (∀ t ∈ m, t.1 ≠ 40) → sgL (m ++ r) = sgL r
  | [], r, _ => rfl
  | t :: m, r, h => by
    obtain ⟨e, he⟩ := pSig_40 (t := t) (ts := m ++ r) (h t List.mem_cons_self)
    rw [List.cons_append]
    unfold sgL
    rw [he]
    exact sgL_mid m r (fun x hx => h x (List.mem_cons_of_mem _ hx))
theorem sgL_len : ∀ L : List Tok, (sgL L).length ≤ L.length
  | [] => Nat.le_refl _
  | t :: ts => by
    unfold sgL
    rw [List.length_append, List.length_cons]
    have := sgL_len ts
    split
    · simp only [List.length_nil]; omega
    · simp only [List.length_cons, List.length_nil]; omega
theorem sgL_sum : ∀ (n : Nat) (L : List Tok), L.length ≤ n → ((sgL L).map (fun x => x.1.length)).sum ≤ L.length
  | _, [], _ => Nat.le_refl _
  | 0, t :: ts, h => absurd h (by rw [List.length_cons]; omega)
  | n + 1, t :: ts, h => by
    rw [List.length_cons] at h ⊢
    unfold sgL
    rw [List.map_append, List.sum_append]
    cases hp : pSig (t :: ts) with
    | inl e =>
      have := sgL_sum n ts (by omega)
      simp only [List.map_nil, List.sum_nil]
      omega
    | inr y =>
      obtain ⟨⟨ks, κ⟩, t2⟩ := y
      have h1 : ∃ r, pTypes false (t :: ts) = .inr (ks, r) := by
        unfold pSig at hp
        cases h1 : pTypes false (t :: ts) with
        | inl e => rw [h1] at hp; cases hp
        | inr z =>
          obtain ⟨ks', r⟩ := z
          rw [h1] at hp
          dsimp only at hp
          cases h2 : pRes r with
          | inl e => rw [h2] at hp; cases hp
          | inr u =>
            obtain ⟨κ', t3⟩ := u
            rw [h2] at hp
            dsimp only at hp
            injection hp with hp
            injection hp with hp _
            injection hp with hp _
            exact ⟨r, by rw [hp]⟩
      obtain ⟨r, h1⟩ := h1
      unfold pTypes pSign at h1
      by_cases c : (hd (t :: ts)).1 = 40
      · rw [if_pos c] at h1
        have h1 : pTypesF false (ts.length + 1) [] ts = .inr (ks, r) := h1
        obtain ⟨m, e, hm, hl⟩ := pTypesF_mid _ _ _ _ _ h1
        have el : ts.length = m.length + r.length := by rw [e, List.length_append]
        have := sgL_sum n r (by omega)
        rw [show sgL ts = sgL r from by rw [e]; exact sgL_mid m r hm]
        simp only [List.map_cons, List.map_nil, List.sum_cons, List.sum_nil, List.length_nil] at hl ⊢
        omega
      · rw [if_neg c] at h1; cases h1
theorem sgL_in : ∀ (L t : List Tok) (x : List Kd × Kd) (t2 : List Tok), t <:+ L → pSig t = .inr (x, t2) → x ∈ sgL L
  | [], t, x, t2, h, e => by
    rw [List.suffix_nil.mp h] at e
    cases e
  | a :: L, t, x, t2, h, e => by
    unfold sgL
    rcases List.suffix_cons_iff.mp h with z | z
    · rw [← z, e]
      exact List.mem_append_left _ List.mem_cons_self
    · exact List.mem_append_right _ (sgL_in L t x t2 z e)
theorem sgT_len : (sgT tp).length ≤ tp.length + 1 := Nat.le_trans (fm_len (g := List.length) _ (fun l _ => sgL_len l)) (lns_s (pT_end tp)).2
theorem sgT_sum : ((sgT tp).map (fun x => x.1.length)).sum ≤ tp.length + 1 := Nat.le_trans (fm_sum (g := List.length) _ (fun l _ => sgL_sum _ l (Nat.le_refl _))) (lns_s (pT_end tp)).2
theorem sgT_in (h : sgT tp ⊆ U1) : ∀ l ∈ lns (pT tp) tp.length 0, UL (U1, S) l := fun l hl t ks κ t2 hs e => h (List.mem_flatMap.mpr ⟨l, hl, sgL_in l t (ks, κ) t2 hs e⟩)
theorem lnsF_two {p : Nat → Int32} {n : Nat} (hp : tend p n) : ∀ f a, a ≤ n → ∀ l ∈ lnsF p n f a, 2 ≤ l.length
  | 0, _, _, _, hl => by cases hl
  | f + 1, a, h, l, hl => by
    obtain ⟨n1, n2, -⟩ := nl_ok hp h
    have rest : ∀ l ∈ (if nl p n a + 1 < n then lnsF p n f (nl p n a + 1) else []), 2 ≤ l.length := fun l hl => by
      split at hl
      · exact lnsF_two hp f _ (by omega) l hl
      · cases hl
    unfold lnsF at hl
    split at hl
    · exact rest l hl
    · rename_i hz
      rcases List.mem_cons.mp hl with e | e
      · rw [e]
        exact (full_two hp (by omega)).mpr hz
      · exact rest l e
theorem sum_two {α : Type} : ∀ ls : List (List α), (∀ l ∈ ls, 2 ≤ l.length) → 2 * ls.length ≤ (ls.map List.length).sum
  | [], _ => Nat.le_refl _
  | l :: ls, h => by
    have h1 := h l List.mem_cons_self
    have h2 := sum_two ls (fun x hx => h x (List.mem_cons_of_mem _ hx))
    rw [List.length_cons, List.map_cons, List.sum_cons]
    omega
theorem lns_tk : tk (lns (pT tp) tp.length 0) ≤ tp.length + 1 ∧ 2 * (lns (pT tp) tp.length 0).length ≤ tp.length + 1 := by
  have h := (lns_s (pT_end tp)).2
  refine ⟨by rw [tk_sum]; exact h, Nat.le_trans (sum_two _ (lnsF_two (pT_end tp) _ 0 (Nat.zero_le _))) h⟩
end
