/-! a call's words tell it, wherever they lie -/
section
variable {ts ts' : List Tok}
theorem wds_hd (h : wds ts = wds ts') : (hd ts).1 = (hd ts').1 ∧ (hd ts).2.1 = (hd ts').2.1 ∧ (hd ts).2.2.1 = (hd ts').2.2.1 := by
  cases ts with
  | nil =>
    cases ts' with
    | nil => exact ⟨rfl, rfl, rfl⟩
    | cons b r => cases h
  | cons a l =>
    cases ts' with
    | nil => cases h
    | cons b r =>
      injection h with h1 h2
      injection h1 with h1 h3
      injection h3 with h3 h4
      exact ⟨h1, h3, h4⟩
theorem wds_tl (h : wds ts = wds ts') : wds ts.tail = wds ts'.tail := by
  cases ts with
  | nil =>
    cases ts' with
    | nil => rfl
    | cons b r => cases h
  | cons a l =>
    cases ts' with
    | nil => cases h
    | cons b r =>
      injection h with h1 h2
theorem wds_len (h : wds ts = wds ts') : ts.length = ts'.length := by
  have := congrArg List.length h
  rwa [List.length_map, List.length_map] at this
/-- both refuse, or both tell the same -/
def smR {α : Type} : Rz α → Rz α → Prop
  | .inr x, .inr y => x.1 = y.1 ∧ wds x.2 = wds y.2
  | .inl _, .inl _ => True
  | _, _ => False
def smE {α : Type} : (Nat × Nat) ⊕ α → (Nat × Nat) ⊕ α → Prop
  | .inr x, .inr y => x = y
  | .inl _, .inl _ => True
  | _, _ => False
theorem smR.if {α : Type} {c c' : Prop} [Decidable c] [Decidable c'] {x x' : Rz α} {e e' : Nat × Nat} (hc : c ↔ c') (h : smR x x') : smR (if c then x else .inl e) (if c' then x' else .inl e') := by
  by_cases z : c
  · rw [if_pos z, if_pos (hc.1 z)]; exact h
  · rw [if_neg z, if_neg (fun y => z (hc.2 y))]; trivial
theorem isWd_sh {nm : Nm} (h : wds ts = wds ts') : isWd nm ts = isWd nm ts' := by
  obtain ⟨a, b, c⟩ := wds_hd h
  unfold isWd
  rw [a, b]
theorem pSign_sh {b : Nat} (h : wds ts = wds ts') : smR (pSign b ts) (pSign b ts') := by
  unfold pSign
  exact smR.if (by rw [(wds_hd h).1]) ⟨rfl, wds_tl h⟩
theorem pName_sh (h : wds ts = wds ts') : smR (pName ts) (pName ts') := by
  unfold pName
  exact smR.if (by rw [(wds_hd h).1]) ⟨(wds_hd h).2.1, wds_tl h⟩
theorem pCls_sh (h : wds ts = wds ts') : smR (pCls ts) (pCls ts') := by
  unfold pCls
  exact smR.if (by rw [(wds_hd h).1, (wds_hd h).2.1]) ⟨(wds_hd h).2.1, wds_tl h⟩
theorem pNum_sh {lo hi : Int32} (h : wds ts = wds ts') : smR (pNum lo hi ts) (pNum lo hi ts') := by
  unfold pNum
  exact smR.if (by rw [(wds_hd h).1, (wds_hd h).2.2]) ⟨(wds_hd h).2.2, wds_tl h⟩
theorem pType_sh (h : wds ts = wds ts') : smR (pType ts) (pType ts') := by
  unfold pType
  rw [isWd_sh (nm := nNum) h, isWd_sh (nm := nRow) h]
  by_cases c1 : isWd nNum ts' = true
  · rw [if_pos c1, if_pos c1]; exact ⟨rfl, wds_tl h⟩
  rw [if_neg c1, if_neg c1]
  by_cases c2 : isWd nRow ts' = true
  · rw [if_pos c2, if_pos c2]; exact ⟨rfl, wds_tl h⟩
  rw [if_neg c2, if_neg c2]
  have g := pCls_sh h
  generalize pCls ts = x at g ⊢
  generalize pCls ts' = y at g ⊢
  cases x with
  | inl e => cases y with
    | inl e' => trivial
    | inr v => exact g.elim
  | inr u => cases y with
    | inl e' => exact g.elim
    | inr v =>
      obtain ⟨u1, u2⟩ := u
      obtain ⟨v1, v2⟩ := v
      obtain ⟨g1, g2⟩ := g
      have g1 : u1 = v1 := g1
      exact ⟨by show ((2 : Int), u1) = (2, v1); rw [g1], g2⟩
theorem pRes_sh (h : wds ts = wds ts') : smR (pRes ts) (pRes ts') := by
  unfold pRes
  rw [isWd_sh (nm := nNone) h]
  by_cases c1 : isWd nNone ts' = true
  · rw [if_pos c1, if_pos c1]; exact ⟨rfl, wds_tl h⟩
  · rw [if_neg c1, if_neg c1]; exact pType_sh h
theorem pEnd_sh (h : wds ts = wds ts') : (pEnd ts).isSome = (pEnd ts').isSome := by
  unfold pEnd
  rw [(wds_hd h).1]
  by_cases c : (hd ts').1 = 0
  · rw [if_pos c, if_pos c]
  · rw [if_neg c, if_neg c]; rfl
theorem pNumsF_sh : ∀ f j {ts ts' : List Tok}, wds ts = wds ts' → smR (pNumsF f j ts) (pNumsF f j ts')
  | 0, j, ts, ts', h => trivial
  | f + 1, j, ts, ts', h => by
    unfold pNumsF
    rw [(wds_hd h).1]
    by_cases c : (hd ts').1 = 41
    · rw [if_pos c, if_pos c]; exact ⟨rfl, wds_tl h⟩
    rw [if_neg c, if_neg c]
    have g : smR (if j = 0 then (.inr ((), ts) : Rz Unit) else pSign 44 ts) (if j = 0 then (.inr ((), ts') : Rz Unit) else pSign 44 ts') := by
      by_cases z : j = 0
      · rw [if_pos z, if_pos z]; exact ⟨rfl, h⟩
      · rw [if_neg z, if_neg z]; exact pSign_sh h
    generalize (if j = 0 then (.inr ((), ts) : Rz Unit) else pSign 44 ts) = x at g ⊢
    generalize (if j = 0 then (.inr ((), ts') : Rz Unit) else pSign 44 ts') = y at g ⊢
    cases x with
    | inl e => cases y with
      | inl e' => trivial
      | inr v => exact g.elim
    | inr u => cases y with
      | inl e' => exact g.elim
      | inr v =>
        obtain ⟨u1, u2⟩ := u
        obtain ⟨v1, v2⟩ := v
        have g2 : wds u2 = wds v2 := g.2
        show smR (if isWd nNum u2 = true ∧ j ≠ 6 then pNumsF f (j + 1) u2.tail else .inl (er u2)) (if isWd nNum v2 = true ∧ j ≠ 6 then pNumsF f (j + 1) v2.tail else .inl (er v2))
        exact smR.if (by rw [isWd_sh g2]) (pNumsF_sh f (j + 1) (wds_tl g2))
theorem pValsF_sh : ∀ f vs {ts ts' : List Tok}, wds ts = wds ts' → smR (pValsF f vs ts) (pValsF f vs ts')
  | 0, vs, ts, ts', h => ⟨rfl, h⟩
  | f + 1, vs, ts, ts', h => by
    unfold pValsF
    have g := pSign_sh (b := if vs.length = 0 then 58 else 44) h
    generalize pSign (if vs.length = 0 then 58 else 44) ts = x at g ⊢
    generalize pSign (if vs.length = 0 then 58 else 44) ts' = y at g ⊢
    cases x with
    | inl e => cases y with
      | inl e' => trivial
      | inr v => exact g.elim
    | inr u => cases y with
      | inl e' => exact g.elim
      | inr v =>
        obtain ⟨u1, u2⟩ := u
        obtain ⟨v1, v2⟩ := v
        have g2 : wds u2 = wds v2 := g.2
        have k := pNum_sh (lo := i32min) (hi := i32max) g2
        show smR (match pNum i32min i32max u2 with | .inl e => .inl e | .inr (v, t2) => pValsF f (vs ++ [v]) t2) (match pNum i32min i32max v2 with | .inl e => .inl e | .inr (v, t2) => pValsF f (vs ++ [v]) t2)
        generalize pNum i32min i32max u2 = x at k ⊢
        generalize pNum i32min i32max v2 = y at k ⊢
        cases x with
        | inl e => cases y with
          | inl e' => trivial
          | inr v => exact k.elim
        | inr u => cases y with
          | inl e' => exact k.elim
          | inr v =>
            obtain ⟨a1, a2⟩ := u
            obtain ⟨b1, b2'⟩ := v
            have k1 : a1 = b1 := k.1
            have k2 : wds a2 = wds b2' := k.2
            show smR (pValsF f (vs ++ [a1]) a2) (pValsF f (vs ++ [b1]) b2')
            rw [k1]; exact pValsF_sh f _ k2
theorem pCall2_sh {k m : Nm} {n : Nat} (h : wds ts = wds ts') : smE (pCall2 k m n ts) (pCall2 k m n ts') := by
  unfold pCall2
  have g := pRes_sh h
  generalize pRes ts = x at g ⊢
  generalize pRes ts' = y at g ⊢
  cases x with
  | inl e => cases y with
    | inl e' => trivial
    | inr v => exact g.elim
  | inr u => cases y with
    | inl e' => exact g.elim
    | inr v =>
      obtain ⟨u1, u2⟩ := u
      obtain ⟨v1, v2⟩ := v
      have g1 : u1 = v1 := g.1
      have g2 : wds u2 = wds v2 := g.2
      subst g1
      have q := pValsF_sh n [] g2
      show smE (match pValsF n [] u2 with | .inl e => .inl e | .inr (vs, t7) => (match pEnd t7 with | some e => .inl e | none => .inr (k, m, u1, vs))) (match pValsF n [] v2 with | .inl e => .inl e | .inr (vs, t7) => (match pEnd t7 with | some e => .inl e | none => .inr (k, m, u1, vs)))
      generalize pValsF n [] u2 = x at q ⊢
      generalize pValsF n [] v2 = y at q ⊢
      cases x with
      | inl e => cases y with
        | inl e' => trivial
        | inr v => exact q.elim
      | inr u => cases y with
        | inl e' => exact q.elim
        | inr v =>
          obtain ⟨a1, a2⟩ := u
          obtain ⟨b1, b2'⟩ := v
          have k1 : a1 = b1 := q.1
          have k2 : wds a2 = wds b2' := q.2
          subst k1
          have e := pEnd_sh k2
          show smE (match pEnd a2 with | some e => .inl e | none => .inr (k, m, u1, a1)) (match pEnd b2' with | some e => .inl e | none => .inr (k, m, u1, a1))
          generalize pEnd a2 = x at e ⊢
          generalize pEnd b2' = y at e ⊢
          cases x with
          | none => cases y with
            | none => rfl
            | some z => cases e
          | some w => cases y with
            | none => cases e
            | some z => trivial
theorem pC3_sh {k m : Nm} (h : wds ts = wds ts') : smE (pC3 k m ts) (pC3 k m ts') := by
  unfold pC3
  have g := pSign_sh (b := 40) h
  generalize pSign 40 ts = x at g ⊢
  generalize pSign 40 ts' = y at g ⊢
  cases x with
  | inl e => cases y with
    | inl e' => trivial
    | inr v => exact g.elim
  | inr u => cases y with
    | inl e' => exact g.elim
    | inr v =>
      obtain ⟨u1, u2⟩ := u
      obtain ⟨v1, v2⟩ := v
      have g2 : wds u2 = wds v2 := g.2
      have q := pNumsF_sh (u2.length + 1) 0 g2
      show smE (match pNumsF (u2.length + 1) 0 u2 with | .inl e => .inl e | .inr (n, t5) => pCall2 k m n t5) (match pNumsF (v2.length + 1) 0 v2 with | .inl e => .inl e | .inr (n, t5) => pCall2 k m n t5)
      rw [← wds_len g2]
      generalize pNumsF (u2.length + 1) 0 u2 = x at q ⊢
      generalize pNumsF (u2.length + 1) 0 v2 = y at q ⊢
      cases x with
      | inl e => cases y with
        | inl e' => trivial
        | inr v => exact q.elim
      | inr u => cases y with
        | inl e' => exact q.elim
        | inr v =>
          obtain ⟨a1, a2⟩ := u
          obtain ⟨b1, b2'⟩ := v
          have k1 : a1 = b1 := q.1
          subst k1
          exact pCall2_sh q.2
theorem pC2_sh {k : Nm} (h : wds ts = wds ts') : smE (pC2 k ts) (pC2 k ts') := by
  unfold pC2
  have g := pName_sh h
  generalize pName ts = x at g ⊢
  generalize pName ts' = y at g ⊢
  cases x with
  | inl e => cases y with
    | inl e' => trivial
    | inr v => exact g.elim
  | inr u => cases y with
    | inl e' => exact g.elim
    | inr v =>
      obtain ⟨u1, u2⟩ := u
      obtain ⟨v1, v2⟩ := v
      have g1 : u1 = v1 := g.1
      subst g1
      exact pC3_sh g.2
theorem pC1_sh {k : Nm} (h : wds ts = wds ts') : smE (pC1 k ts) (pC1 k ts') := by
  unfold pC1
  have g := pSign_sh (b := 46) h
  generalize pSign 46 ts = x at g ⊢
  generalize pSign 46 ts' = y at g ⊢
  cases x with
  | inl e => cases y with
    | inl e' => trivial
    | inr v => exact g.elim
  | inr u => cases y with
    | inl e' => exact g.elim
    | inr v =>
      obtain ⟨u1, u2⟩ := u
      obtain ⟨v1, v2⟩ := v
      exact pC2_sh g.2
theorem pCall_sh (h : wds ts = wds ts') : smE (pCall ts) (pCall ts') := by
  unfold pCall
  have g := pCls_sh h
  generalize pCls ts = x at g ⊢
  generalize pCls ts' = y at g ⊢
  cases x with
  | inl e => cases y with
    | inl e' => trivial
    | inr v => exact g.elim
  | inr u => cases y with
    | inl e' => exact g.elim
    | inr v =>
      obtain ⟨u1, u2⟩ := u
      obtain ⟨v1, v2⟩ := v
      have g1 : u1 = v1 := g.1
      subst g1
      exact pC1_sh g.2
end
