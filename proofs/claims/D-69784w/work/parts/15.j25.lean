/-! room for a trial's text in the scratch world of the works -/
theorem tk_sum : ∀ ls : List (List Tok), tk ls = (ls.map List.length).sum
  | [] => rfl
  | l :: ls => by
    show l.length + tk ls = _
    rw [tk_sum ls, List.map_cons, List.sum_cons]
theorem bud0 {p : Nat → Int32} {n : Nat} (hp : tend p n) (hn : n ≤ 1200) (hl : (lns p n 0).length ≤ 60) : KOk 0 (60, 1201, 1201, 60, 64, 1225) ∧ Bud (60, 1201, 1201, 60, 64, 1225) (lns p n 0) 0 0 0 0 4 ∧ tk (lns p n 0) + 2 * (lns p n 0).length + 3 ≤ 3100 := by
  have h := (lns_s hp).2
  rw [← tk_sum] at h
  refine ⟨⟨by decide, by decide, by decide, fun _ => ⟨by decide, by decide⟩, fun z => absurd rfl z⟩, ⟨?_, ?_, ?_, ?_, ?_, ?_, by omega⟩, by omega⟩
  · show 0 + (lns p n 0).length ≤ 60; omega
  · show 2 * 0 + tk (lns p n 0) ≤ 1201; omega
  · show 2 * 0 + tk (lns p n 0) ≤ 1201; omega
  · show 0 + (lns p n 0).length ≤ 60; omega
  · show 4 + (lns p n 0).length ≤ 64; omega
  · show 6 * 4 + tk (lns p n 0) ≤ 1225; omega
