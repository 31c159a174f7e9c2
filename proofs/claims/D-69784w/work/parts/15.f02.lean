/-! THE MACHINE: kinds of values -/
/-- the classes that are there from the beginning -/
def W21 : List Cls := (List.range 21).map (fun k => (A0.getD (81 + k) [], (if k = 0 then [] else if k = 1 then nThing else if k ≤ 10 then nFault else A0.getD 91 []), [], 0, [], [(nMake, [], (-4, []), 0, 0, 0, [], [])]))
def BI (W : List Cls) : Prop := 21 ≤ W.length ∧ ∀ c, c < 21 → gc W c = gc W21 c
theorem W21_inj : ∀ i, i < 21 → ∀ j, j < 21 → (gc W21 i).1 = (gc W21 j).1 → i = j := by decide
theorem W21_par : ∀ i, i < 21 → 1 ≤ i → (gc W21 i).2.1 = (gc W21 (if i = 1 then 0 else if i ≤ 10 then 1 else 10)).1 := by decide
theorem W21_fl : ∀ i, i < 21 → (gc W21 i).2.2.2.1 = 0 := by decide
section
variable {W : List Cls} {c d e : Nat}
theorem BI.fd (h : BI W) (hc : c < 21) : fnd W (gc W21 c).1 = some c := by
  have := fnd_spec (nm := (gc W21 c).1) (W := W)
  cases e : fnd W (gc W21 c).1 with
  | none =>
    rw [e] at this
    exact absurd (by rw [h.2 c hc]) (this c (by have := h.1; omega))
  | some k =>
    rw [e] at this
    by_cases ck : k < c
    · have h2 := this.2.1
      rw [h.2 k (by omega)] at h2
      rw [W21_inj k (by omega) c hc h2]
    · by_cases ck2 : c < k
      · exact absurd (by rw [h.2 c hc]) (this.2.2 c ck2)
      · rw [show k = c by omega]
theorem BI.thing (h : BI W) : fnd W nThing = some 0 := h.fd (c := 0) (by omega)
theorem BI.fault (h : BI W) : fnd W nFault = some 1 := h.fd (c := 1) (by omega)
theorem BI.nface (h : BI W) (hc : c < 21) : isFc W c = false := by
  unfold isFc
  rw [h.2 c hc, W21_fl c hc]; rfl
theorem BI.up (h : BI W) (hc : c < 21) (h1 : 1 ≤ c) : upW W c = some (if c = 1 then 0 else if c ≤ 10 then 1 else 10) := by
  unfold upW
  rw [if_neg (by omega), h.nface hc, if_neg (by decide), h.2 c hc, W21_par c hc h1]
  exact h.fd (by split <;> (try split) <;> omega)
/-- below by parents -/
abbrev PB (W : List Cls) : Nat → Nat → Prop := Reach (fun a b => upW W a = some b)
theorem PB.one (h : upW W c = some d) : PB W c d := ⟨1, d, h, rfl⟩
theorem PB.cons (h : upW W c = some d) (h2 : PB W d e) : PB W c e := h2.elim fun n q => ⟨n + 1, d, h, q⟩
theorem PB.trans (h : PB W c d) (h2 : PB W d e) : PB W c e := by
  obtain ⟨n, h⟩ := h
  induction n generalizing c with
  | zero => exact (show c = d from h) ▸ h2
  | succ n ih => obtain ⟨x, a, b⟩ := h; exact PB.cons a (ih b)
theorem BI.pb1 (h : BI W) (hc : c < 21) (h1 : 1 ≤ c) : PB W c 1 := by
  have := h.up hc h1
  by_cases c1 : c = 1
  · rw [c1]; exact Reach.rf _ _
  rw [if_neg c1] at this
  by_cases c2 : c ≤ 10
  · rw [if_pos c2] at this; exact PB.one this
  · rw [if_neg c2] at this
    exact PB.cons this (PB.one (h.up (c := 10) (by omega) (by omega)))
theorem BI.pb (h : BI W) (hc : c < 21) (hp : PB W c d) : d < 21 := by
  obtain ⟨n, hp⟩ := hp
  induction n generalizing c with
  | zero => rw [← show c = d from hp]; exact hc
  | succ n ih =>
    obtain ⟨x, a, b⟩ := hp
    refine ih ?_ b
    by_cases c0 : c = 0
    · have a : upW W c = some x := a
      unfold upW at a; rw [if_pos c0] at a; cases a
    · rw [h.up hc (by omega)] at a
      cases a
      split <;> (try split) <;> omega
theorem PB.lt (hc : c < W.length) (h : PB W c d) : d < W.length := by
  obtain ⟨n, h⟩ := h
  induction n generalizing c with
  | zero => exact (show c = d from h) ▸ hc
  | succ n ih => obtain ⟨x, a, b⟩ := h; exact ih (up_lt hc a) b
theorem PB.be (h : PB W c d) : Reach (edge false W) c d := by
  obtain ⟨n, h⟩ := h
  induction n generalizing c with
  | zero => exact ⟨0, h⟩
  | succ n ih =>
    obtain ⟨x, a, b⟩ := h
    obtain ⟨m, q⟩ := ih b
    exact ⟨m + 1, x, ⟨0, Nat.zero_le _, by unfold dirW; rw [if_pos rfl, if_neg (by decide)]; exact a⟩, q⟩
/-- a way up by names is a way up -/
theorem climb_pb (h : BI W) {b : Nm} : ∀ {n : Nat} {x : Nm} {d e : Nat}, climb W b n x = 0 → fnd W x = some d → fnd W b = some e → PB W d e
  | 0, _, _, _, h1, _, _ => absurd h1 (by unfold climb; decide)
  | n + 1, x, d, e, h1, h2, h3 => by
    unfold climb at h1
    by_cases c1 : x = b
    · subst c1
      rw [h2] at h3; cases h3; exact Reach.rf _ _
    rw [if_neg c1, h2] at h1
    dsimp only at h1
    by_cases c0 : d = 0
    · rw [if_pos c0] at h1; exact absurd h1 (by decide)
    rw [if_neg c0] at h1
    unfold upN at h1
    have hu : upW W d = if isFc W d then some 0 else fnd W (gc W d).2.1 := by unfold upW; rw [if_neg c0]
    by_cases c2 : isFc W d = true
    · rw [if_pos c2] at h1 hu
      exact PB.cons hu (climb_pb h h1 h.thing h3)
    · rw [if_neg c2] at h1 hu
      have : ∃ p, fnd W (gc W d).2.1 = some p := by
        cases ep : fnd W (gc W d).2.1 with
        | some p => exact ⟨p, rfl⟩
        | none =>
          cases n with
          | zero => exact absurd h1 (by unfold climb; decide)
          | succ n =>
            unfold climb at h1
            by_cases c3 : (gc W d).2.1 = b
            · rw [c3, h3] at ep; cases ep
            · rw [if_neg c3, ep] at h1; exact absurd h1 (show ¬ (43 : Nat) = 0 by decide)
      obtain ⟨p, hp⟩ := this
      exact PB.cons (hu.trans hp) (climb_pb h h1 hp h3)
/-- from a face, or from Thing, there is no way up to a class -/
theorem climb_face (h : BI W) {b x : Nm} {n d : Nat} (h1 : climb W b n x = 0) (h2 : fnd W x = some d) (hf : isFc W d = true ∨ d = 0) (hb : b ≠ nThing) : x = b := by
  cases n with
  | zero => exact absurd h1 (by unfold climb; decide)
  | succ n =>
    unfold climb at h1
    by_cases c1 : x = b
    · exact c1
    rw [if_neg c1, h2] at h1
    dsimp only at h1
    by_cases c0 : d = 0
    · rw [if_pos c0] at h1; exact absurd h1 (by decide)
    rw [if_neg c0] at h1
    unfold upN at h1
    rw [if_pos (hf.resolve_right c0)] at h1
    cases n with
    | zero => exact absurd h1 (by unfold climb; decide)
    | succ n =>
      unfold climb at h1
      rw [if_neg (fun z => hb z.symm), h.thing] at h1
      exact absurd h1 (show ¬ (37 : Nat) = 0 by decide)
end
/-! values -/
/-- a reference: none, an object, a row, or a fault -/
def vRf (s : Ms) (r : Int32) : Prop := ∃ n, r = Int32.ofNat n ∧ (n = 0 ∨ (n ≤ 800 ∧ (zH s).2.2.1 n = true) ∨ (800 < n ∧ n ≤ 800 + (zF s).length ∧ n < 2000000))
theorem vRf.n {s : Ms} {r : Int32} (h : vRf s r) : ∃ n, r = Int32.ofNat n ∧ r.toNatClampNeg = n ∧ (n = 0 ∨ (n ≤ 800 ∧ (zH s).2.2.1 n = true) ∨ (800 < n ∧ n ≤ 800 + (zF s).length ∧ n < 2000000)) := by
  obtain ⟨n, e, hn⟩ := h
  refine ⟨n, e, ?_, hn⟩
  rw [e, oN_tnc]
  rcases hn with z | z | z <;> omega
/-- a value is of a kind, in the code C of a class c -/
def cf (W : List Cls) (s : Ms) (c : Nat) (C : List Ins) (κ : Kd) (v : Vl) : Prop :=
  (κ.1 = 0 → v.2 = false) ∧ (κ.1 = -1 → v.2 = true ∧ v.1 = 0) ∧ (κ.1 = 1 → v.2 = true ∧ (v.1 = 0 ∨ clR s v.1 = none)) ∧
  (κ.1 = 2 → v.2 = true ∧ (v.1 = 0 ∨ ∃ d, fnd W κ.2 = some d ∧ (isFc W d = true ∨ d = 0 ∨ ∃ e, clR s v.1 = some e ∧ PB W e d))) ∧
  (κ.1 = -3 → v.2 = true ∧ v.1 ≠ 0 ∧ ∃ e, clR s v.1 = some e ∧ PB W e c) ∧
  (κ.1 ≤ -10 → v.2 = true ∧ v.1 ≠ 0 ∧ ∃ e, clR s v.1 = some e ∧ fnd W (iK (gin C (-10 - κ.1).toNat)) = some e)
section
variable {W : List Cls} {s : Ms} {c : Nat} {C : List Ins} {κ κ' : Kd} {v : Vl}
theorem cf.num (h : v.2 = false) : cf W s c C (0, []) v := ⟨fun _ => h, fun z => absurd z (by decide), fun z => absurd z (by decide), fun z => absurd z (by decide), fun z => absurd z (by decide), fun z => absurd z (by decide)⟩
theorem cf.uns {n : Nm} : cf W s c C (-2, n) v := ⟨fun z => absurd z (show ¬ (-2 : Int) = 0 by decide), fun z => absurd z (show ¬ (-2 : Int) = -1 by decide), fun z => absurd z (show ¬ (-2 : Int) = 1 by decide), fun z => absurd z (show ¬ (-2 : Int) = 2 by decide), fun z => absurd z (show ¬ (-2 : Int) = -3 by decide), fun z => absurd z (show ¬ (-2 : Int) ≤ -10 by decide)⟩
theorem cf.cls {nm : Nm} (h : v.2 = true) (h1 : v.1 = 0 ∨ ∃ d, fnd W nm = some d ∧ (isFc W d = true ∨ d = 0 ∨ ∃ e, clR s v.1 = some e ∧ PB W e d)) : cf W s c C (2, nm) v := ⟨fun z => absurd z (show ¬ (2 : Int) = 0 by decide), fun z => absurd z (show ¬ (2 : Int) = -1 by decide), fun z => absurd z (show ¬ (2 : Int) = 1 by decide), fun _ => ⟨h, h1⟩, fun z => absurd z (show ¬ (2 : Int) = -3 by decide), fun z => absurd z (show ¬ (2 : Int) ≤ -10 by decide)⟩
theorem cf.row (h : v.2 = true) (h1 : v.1 = 0 ∨ clR s v.1 = none) : cf W s c C (1, []) v := ⟨fun z => absurd z (by decide), fun z => absurd z (by decide), fun _ => ⟨h, h1⟩, fun z => absurd z (by decide), fun z => absurd z (by decide), fun z => absurd z (by decide)⟩
theorem cf.null (h : v.2 = true) (h1 : v.1 = 0) : cf W s c C (-1, []) v := ⟨fun z => absurd z (by decide), fun _ => ⟨h, h1⟩, fun z => absurd z (by decide), fun z => absurd z (by decide), fun z => absurd z (by decide), fun z => absurd z (by decide)⟩
/-- what fits is of the kind -/
theorem cf.fit (hB : BI W) (h : cf W s c C κ v) (hf : fitK W κ κ' = 0) : cf W s c C κ' v := by
  unfold fitK at hf
  by_cases c1 : κ'.1 = -2 ∨ κ = κ'
  · rcases c1 with z | z
    · obtain ⟨k1, k2⟩ := κ'
      have z : k1 = -2 := z
      rw [z]; exact cf.uns
    · rw [← z]; exact h
  rw [if_neg c1] at hf
  by_cases c2 : κ.1 = -1
  · obtain ⟨e1, e2⟩ := h.2.1 c2
    rw [if_pos c2] at hf
    by_cases c3 : κ'.1 = 1 ∨ κ'.1 = 2
    · refine ⟨fun z => ?_, fun z => ?_, fun z => ⟨e1, Or.inl e2⟩, fun z => ⟨e1, Or.inl e2⟩, fun z => ?_, fun z => ?_⟩ <;> omega
    · rw [if_neg c3] at hf; exact absurd hf (by decide)
  rw [if_neg c2] at hf
  by_cases c3 : κ.1 = 1
  · obtain ⟨e1, e2⟩ := h.2.2.1 c3
    rw [if_pos c3] at hf
    by_cases c4 : κ' = (2, nThing)
    · rw [c4]
      exact cf.cls e1 (Or.inr ⟨0, hB.thing, Or.inr (Or.inl rfl)⟩)
    · rw [if_neg c4] at hf; exact absurd hf (by decide)
  rw [if_neg c3] at hf
  by_cases c4 : κ.1 = 2 ∧ κ'.1 = 2
  · rw [if_pos c4] at hf
    obtain ⟨e1, e2⟩ := h.2.2.2.1 c4.1
    obtain ⟨k1, k2⟩ := κ'
    have z : k1 = 2 := c4.2
    rw [z]
    refine cf.cls e1 ?_
    rcases e2 with e2 | ⟨d, hd, hv⟩
    · exact Or.inl e2
    refine Or.inr ?_
    unfold fitC at hf
    dsimp only at hf
    by_cases c5 : k2 = nThing
    · rw [c5]; exact ⟨0, hB.thing, Or.inr (Or.inl rfl)⟩
    rw [if_neg c5] at hf
    cases ef : fnd W k2 with
    | none => rw [ef] at hf; exact absurd hf (show ¬ (43 : Nat) = 0 by decide)
    | some d' =>
      rw [ef] at hf
      dsimp only at hf
      refine ⟨d', rfl, ?_⟩
      by_cases c6 : isFc W d' = true
      · exact Or.inl c6
      rw [if_neg c6] at hf
      rcases hv with q | q | ⟨e, q1, q2⟩
      · have := climb_face hB hf hd (Or.inl q) c5
        rw [this, ef] at hd; cases hd; exact Or.inl q
      · have := climb_face hB hf hd (Or.inr q) c5
        rw [this, ef] at hd; cases hd; exact Or.inr (Or.inl q)
      · exact Or.inr (Or.inr ⟨e, q1, q2.trans (climb_pb hB hf hd ef)⟩)
  · rw [if_neg c4] at hf; exact absurd hf (by decide)
end
