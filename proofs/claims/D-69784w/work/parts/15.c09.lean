/-! B: what breaks rule 9, in order -/
def badN (ls : List Lb) (n : Nat) (x : Nine) : Bool := decide (x.1 = 0) || ((decide (x.1 = 1) && bad9 ls n x.2.1 x.2.2.2.2) || (decide (x.1 = 2) && decide (x.2.2.1 = n)))
/-- the row of what may break rule 9 belongs to a method -/
def NLk (p : PM) (NL : List Nine) : Prop :=
  NL.Pairwise (fun x y => x.2.2.2.1 ≤ y.2.2.2.1) ∧
  (∀ x ∈ NL, (x.1 = 0 ∧ x.2.2.2.1 ∈ dupLb [] p.2.2.2.1) ∨ (x.1 = 1 ∧ ((∃ i ∈ p.2.1, x.2.1 ∈ i.2.1.2.2.1 ∧ x.2.2.2.2 = false ∧ x.2.2.2.1 = i.2.2.2) ∨ ∃ h ∈ p.2.2.1, x.2.2.2.1 = h.2.2.2.2 ∧ (x.2.2.2.2 = false ∧ (x.2.1 = h.1 ∨ x.2.1 = h.2.2.1) ∨ x.2.2.2.2 = true ∧ x.2.1 = h.2.1))) ∨ (x.1 = 2 ∧ x.2.2.2.2 = false ∧ (x.2.2.1 < p.2.1.length ∨ x.2.2.1 = p.2.1.length ∧ ∃ f, p.2.2.2.2 = some f ∧ f.2.2 = x.2.2.2.1))) ∧
  (∀ l ∈ dupLb [] p.2.2.2.1, ∃ x ∈ NL, x.1 = 0 ∧ x.2.2.2.1 = l) ∧
  (∀ i ∈ p.2.1, ∀ nm ∈ i.2.1.2.2.1, ∃ x ∈ NL, x.1 = 1 ∧ x.2.1 = nm ∧ x.2.2.2.2 = false ∧ x.2.2.2.1 = i.2.2.2) ∧
  (∀ h ∈ p.2.2.1, (∃ x ∈ NL, x.1 = 1 ∧ x.2.1 = h.1 ∧ x.2.2.2.2 = false ∧ x.2.2.2.1 = h.2.2.2.2) ∧ (∃ x ∈ NL, x.1 = 1 ∧ x.2.1 = h.2.1 ∧ x.2.2.2.2 = true ∧ x.2.2.2.1 = h.2.2.2.2) ∧ ∃ x ∈ NL, x.1 = 1 ∧ x.2.1 = h.2.2.1 ∧ x.2.2.2.2 = false ∧ x.2.2.2.1 = h.2.2.2.2) ∧
  (∀ f, p.2.2.2.2 = some f → ∃ x ∈ NL, x.1 = 2 ∧ x.2.2.1 = p.2.1.length ∧ x.2.2.2.1 = f.2.2) ∧
  p.2.2.1.Pairwise (fun a b => a.2.2.2.2 ≤ b.2.2.2.2)
theorem mem_lines9 {p : PM} {l : Nat} : l ∈ lines9 p ↔ l ∈ dupLb [] p.2.2.2.1 ∨ (∃ i ∈ p.2.1, (∃ nm ∈ i.2.1.2.2.1, bad9 p.2.2.2.1 p.2.1.length nm false = true) ∧ l = i.2.2.2) ∨ (∃ h ∈ p.2.2.1, (bad9 p.2.2.2.1 p.2.1.length h.1 false = true ∨ bad9 p.2.2.2.1 p.2.1.length h.2.1 true = true ∨ bad9 p.2.2.2.1 p.2.1.length h.2.2.1 false = true) ∧ l = h.2.2.2.2) ∨ ∃ f, p.2.2.2.2 = some f ∧ l = f.2.2 := by
  unfold lines9
  rw [List.mem_append, List.mem_append, List.mem_append]
  refine or_congr Iff.rfl (or_congr ?_ (or_congr ?_ ?_))
  · rw [List.mem_flatMap]
    constructor
    · rintro ⟨i, hi, q⟩
      split at q
      · rename_i c
        rw [List.any_eq_true] at c
        rw [List.mem_singleton] at q
        exact ⟨i, hi, c, q⟩
      · cases q
    · rintro ⟨i, hi, c, q⟩
      refine ⟨i, hi, ?_⟩
      rw [if_pos (List.any_eq_true.mpr c), q]; simp
  · rw [List.mem_flatMap]
    constructor
    · rintro ⟨h, hh, q⟩
      split at q
      · rename_i c
        rw [Bool.or_eq_true, Bool.or_eq_true] at c
        rw [List.mem_singleton] at q
        exact ⟨h, hh, c, q⟩
      · cases q
    · rintro ⟨h, hh, c, q⟩
      refine ⟨h, hh, ?_⟩
      rw [if_pos (by rw [Bool.or_eq_true, Bool.or_eq_true]; exact c), q]; simp
  · cases e : p.2.2.2.2 with
    | none => simp
    | some f => simp
theorem NLk.bad {p : PM} {NL : List Nine} (h : NLk p NL) {l : Nat} : l ∈ lines9 p ↔ ∃ x ∈ NL, badN p.2.2.2.1 p.2.1.length x = true ∧ x.2.2.2.1 = l := by
  obtain ⟨h0, h1, h2, h3, h4, h5, h6⟩ := h
  rw [mem_lines9]
  constructor
  · rintro (q | ⟨i, hi, ⟨nm, hn, c⟩, q⟩ | ⟨y, hy, c, q⟩ | ⟨f, hf, q⟩)
    · obtain ⟨x, hx, a, b⟩ := h2 l q
      exact ⟨x, hx, by unfold badN; rw [decide_eq_true a]; rfl, b⟩
    · obtain ⟨x, hx, a, b, d, e⟩ := h3 i hi nm hn
      exact ⟨x, hx, by unfold badN; rw [b, d, c, decide_eq_true a]; simp, by rw [e, q]⟩
    · obtain ⟨y1, y2, y3⟩ := h4 y hy
      rcases c with c | c | c
      · obtain ⟨x, hx, a, b, d, e⟩ := y1
        exact ⟨x, hx, by unfold badN; rw [b, d, c, decide_eq_true a]; simp, by rw [e, q]⟩
      · obtain ⟨x, hx, a, b, d, e⟩ := y2
        exact ⟨x, hx, by unfold badN; rw [b, d, c, decide_eq_true a]; simp, by rw [e, q]⟩
      · obtain ⟨x, hx, a, b, d, e⟩ := y3
        exact ⟨x, hx, by unfold badN; rw [b, d, c, decide_eq_true a]; simp, by rw [e, q]⟩
    · obtain ⟨x, hx, a, b, d⟩ := h5 f hf
      exact ⟨x, hx, by unfold badN; rw [decide_eq_true a, decide_eq_true b]; simp, by rw [d, q]⟩
  · rintro ⟨x, hx, c, e⟩
    unfold badN at c
    rcases h1 x hx with ⟨a, b⟩ | ⟨a, b⟩ | ⟨a, a', b⟩
    · left; rw [← e]; exact b
    · have c : bad9 p.2.2.2.1 p.2.1.length x.2.1 x.2.2.2.2 = true := by
        rw [decide_eq_false (by omega : ¬ x.1 = 0), decide_eq_true a, decide_eq_false (by omega : ¬ x.1 = 2)] at c
        simpa using c
      rcases b with ⟨i, hi, b1, b2, b3⟩ | ⟨y, hy, b1, b2⟩
      · right; left
        rw [b2] at c
        exact ⟨i, hi, ⟨_, b1, c⟩, by rw [← e, b3]⟩
      · right; right; left
        refine ⟨y, hy, ?_, by rw [← e, b1]⟩
        rcases b2 with ⟨d, d' | d'⟩ | ⟨d, d'⟩
        · rw [d, d'] at c; exact Or.inl c
        · rw [d, d'] at c; exact Or.inr (Or.inr c)
        · rw [d, d'] at c; exact Or.inr (Or.inl c)
    · right; right; right
      rw [decide_eq_false (by omega : ¬ x.1 = 0), decide_eq_false (by omega : ¬ x.1 = 1), decide_eq_true a] at c
      have c : x.2.2.1 = p.2.1.length := by simpa using c
      rcases b with b | ⟨-, f, b1, b2⟩
      · omega
      · exact ⟨f, b1, by rw [← e, b2]⟩
theorem minL_none {l : List Nat} : minL l = none ↔ l = [] := by
  cases l with
  | nil => simp [minL]
  | cons a l =>
    simp only [minL, reduceCtorEq, iff_false]
    split <;> simp
theorem minL_some : ∀ {l : List Nat} {m : Nat}, m ∈ l → (∀ x ∈ l, m ≤ x) → minL l = some m
  | [], m, h, _ => by cases h
  | a :: l, m, h, hm => by
    unfold minL
    have ha := hm a List.mem_cons_self
    cases e : minL l with
    | none =>
      rw [minL_none.mp e] at h
      rw [List.mem_singleton] at h
      simp [h]
    | some b =>
      have hb : b ∈ l ∧ ∀ x ∈ l, b ≤ x := by
        clear h hm ha
        induction l generalizing b with
        | nil => cases e
        | cons c l ih =>
          unfold minL at e
          cases e2 : minL l with
          | none =>
            rw [e2] at e
            have := Option.some.inj e
            subst this
            rw [minL_none.mp e2]
            exact ⟨by simp, fun x hx => by rw [List.mem_singleton] at hx; omega⟩
          | some d =>
            rw [e2] at e
            have e := Option.some.inj e
            obtain ⟨i1, i2⟩ := ih d e2
            refine ⟨?_, fun x hx => ?_⟩
            · rw [← e]
              by_cases q : c ≤ d
              · rw [Nat.min_eq_left q]; exact List.mem_cons_self
              · rw [Nat.min_eq_right (by omega)]; exact List.mem_cons_of_mem _ i1
            · rcases List.mem_cons.mp hx with q | q
              · omega
              · have := i2 x q; omega
      have hb2 := hm b (List.mem_cons_of_mem _ hb.1)
      show some (min a b) = some m
      rcases List.mem_cons.mp h with q | q
      · rw [q, Nat.min_eq_left (by omega)]
      · have := hb.2 m q
        have : b = m := by omega
        rw [this, Nat.min_eq_right ha]
theorem pw_le {α : Type} {R : α → α → Prop} {d : α} : ∀ {l : List α}, l.Pairwise R → ∀ {i j}, i < j → j < l.length → R (l.getD i d) (l.getD j d)
  | [], _, i, j, _, h => absurd h (Nat.not_lt_zero j)
  | a :: l, hp, i, j, hij, hj => by
    obtain ⟨h1, h2⟩ := List.pairwise_cons.mp hp
    cases j with
    | zero => omega
    | succ j =>
      have hj : j < l.length := by simpa using hj
      cases i with
      | zero =>
        show R a (l.getD j d)
        refine h1 _ ?_
        rw [List.getD_eq_getElem?_getD, List.getElem?_eq_getElem hj]; exact List.getElem_mem hj
      | succ i => exact pw_le h2 (by omega) hj
theorem gni_mem {NL : List Nine} {i : Nat} (h : i < NL.length) : gni NL i ∈ NL := by
  show NL.getD i _ ∈ NL
  rw [List.getD_eq_getElem?_getD, List.getElem?_eq_getElem h]; exact List.getElem_mem h
theorem mem_gni {NL : List Nine} {x : Nine} (h : x ∈ NL) : ∃ i, i < NL.length ∧ gni NL i = x := by
  obtain ⟨i, hi, e⟩ := List.mem_iff_getElem.mp h
  refine ⟨i, hi, ?_⟩
  show NL.getD i _ = x
  rw [List.getD_eq_getElem?_getD, List.getElem?_eq_getElem hi]; exact e
theorem NLk.first {p : PM} {NL : List Nine} (h : NLk p NL) {i : Nat} (hi : i < NL.length) (hb : ∀ j, j < i → badN p.2.2.2.1 p.2.1.length (gni NL j) = false) (hc : badN p.2.2.2.1 p.2.1.length (gni NL i) = true) : minL (lines9 p) = some (gni NL i).2.2.2.1 := by
  refine minL_some (h.bad.mpr ⟨_, gni_mem hi, hc, rfl⟩) (fun l hl => ?_)
  obtain ⟨x, hx, c, e⟩ := h.bad.mp hl
  obtain ⟨j, hj, ej⟩ := mem_gni hx
  rw [← e, ← ej]
  rcases Nat.lt_trichotomy i j with q | q | q
  · exact pw_le h.1 q hj
  · rw [q]; exact Nat.le_refl _
  · rw [← ej, hb j q] at c; cases c
theorem NLk.none {p : PM} {NL : List Nine} (h : NLk p NL) (hb : ∀ j, j < NL.length → badN p.2.2.2.1 p.2.1.length (gni NL j) = false) : minL (lines9 p) = none := by
  rw [minL_none]
  apply List.eq_nil_iff_forall_not_mem.mpr
  intro l hl
  obtain ⟨x, hx, c, e⟩ := h.bad.mp hl
  obtain ⟨j, hj, ej⟩ := mem_gni hx
  rw [← ej, hb j hj] at c; cases c
