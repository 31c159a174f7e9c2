/-! B: a line of code in the works -/
theorem hd_tl {ts : List Tok} (h : (hd ts).1 ≠ 1) : ts.tail.length + 1 = ts.length := by
  cases ts with
  | nil => exact absurd rfl h
  | cons a l => rfl
theorem pCls_len {ts t2 : List Tok} {nm : Nm} (h : pCls ts = .inr (nm, t2)) : t2.length + 1 = ts.length := by
  unfold pCls at h
  by_cases c : (hd ts).1 = 2 ∧ (hd ts).2.1 ∉ noCls
  · rw [if_pos c] at h; cases h; exact hd_tl (by omega)
  · rw [if_neg c] at h; cases h
theorem pType_len {ts t2 : List Tok} {κ : Kd} (h : pType ts = .inr (κ, t2)) : t2.length + 1 = ts.length := by
  unfold pType at h
  by_cases c1 : isWd nNum ts = true
  · rw [if_pos c1] at h; cases h; exact hd_tl (by have := (of_decide_eq_true c1).1; omega)
  rw [if_neg c1] at h
  by_cases c2 : isWd nRow ts = true
  · rw [if_pos c2] at h; cases h; exact hd_tl (by have := (of_decide_eq_true c2).1; omega)
  rw [if_neg c2] at h
  split at h
  · cases h
  · rename_i q; cases h; exact pCls_len q
theorem pRes_len {ts t2 : List Tok} {κ : Kd} (h : pRes ts = .inr (κ, t2)) : t2.length + 1 = ts.length := by
  unfold pRes at h
  by_cases c1 : isWd nNone ts = true
  · rw [if_pos c1] at h; cases h; exact hd_tl (by have := (of_decide_eq_true c1).1; omega)
  rw [if_neg c1] at h
  exact pType_len h
theorem pTypesF_tl {s : Bool} : ∀ d acc ts ks t', pTypesF s d acc ts = .inr (ks, t') → t'.length < ts.length := by
  intro d
  induction d with
  | zero => intro acc ts ks t' h; unfold pTypesF at h; cases h
  | succ d ih =>
    intro acc ts ks t' h
    unfold pTypesF at h
    by_cases c : (hd ts).1 = 41
    · rw [if_pos c] at h; cases h
      have := hd_tl (ts := ts) (by omega)
      omega
    · rw [if_neg c] at h
      by_cases c0 : acc.length = 0
      · rw [if_pos c0] at h
        dsimp only at h
        split at h
        · cases h
        · split at h
          · cases h
          · rename_i q
            have := ih _ _ _ _ h
            have := pType_len q
            omega
      · rw [if_neg c0] at h
        unfold pSign at h
        by_cases c4 : (hd ts).1 = 44
        · rw [if_pos c4] at h
          dsimp only at h
          have := hd_tl (ts := ts) (by omega)
          split at h
          · cases h
          · split at h
            · cases h
            · rename_i q
              have := ih _ _ _ _ h
              have := pType_len q
              omega
        · rw [if_neg c4] at h; cases h
theorem pMember_len {meth : Bool} {ts t' : List Tok} {v : Nm × Nm × List Kd × Kd} (h : pMember meth ts = .inr (v, t')) : t'.length + 4 ≤ ts.length := by
  unfold pMember at h
  split at h
  · cases h
  · rename_i k t1 q1
    have e1 := pCls_len q1
    unfold pSign at h
    by_cases c46 : (hd t1).1 = 46
    · rw [if_pos c46] at h
      dsimp only at h
      have e2 := hd_tl (ts := t1) (by omega)
      by_cases c : (hd t1.tail).1 = 2 ∨ (meth = true ∧ (hd t1.tail).1 = 3 ∧ (hd t1.tail).2.1 = nMake)
      · rw [if_pos c] at h
        have e3 := hd_tl (ts := t1.tail) (by omega)
        cases meth with
        | false =>
          rw [if_neg (by decide)] at h
          split at h
          · cases h
          · rename_i q; cases h
            have := pType_len q
            omega
        | true =>
          rw [if_pos rfl] at h
          split at h
          · cases h
          · rename_i q; cases h
            unfold pSig at q
            split at q
            · cases q
            · rename_i q1
              split at q
              · cases q
              · rename_i q2; cases q
                have := pRes_len q2
                unfold pTypes pSign at q1
                by_cases c40 : (hd t1.tail.tail).1 = 40
                · rw [if_pos c40] at q1
                  have := pTypesF_tl _ _ _ _ _ q1
                  have := hd_tl (ts := t1.tail.tail) (by omega)
                  omega
                · rw [if_neg c40] at q1; cases q1
      · rw [if_neg c] at h; cases h
    · rw [if_neg c46] at h; cases h
theorem pInstr_len {ts t' : List Tok} {o : Nat} {x : Opr} (h : pInstr ts = .inr ((o, x), t')) (ht : t' ≠ []) (tr : isFo o ∨ isMo o) : 6 ≤ ts.length := by
  unfold pInstr at h
  by_cases c : opOf ts < 62
  · rw [if_pos c] at h
    split at h
    · cases h
    · rename_i x1 t1 q
      by_cases c0 : (hd t1).1 = 0
      · rw [if_pos c0] at h
        cases h
        have hop : (hd ts).1 = 2 := Classical.byContradiction fun q' => by unfold opOf at c; rw [if_neg q'] at c; omega
        have e1 := hd_tl (ts := ts) (by omega)
        have e2 := List.length_pos_iff.mpr ht
        generalize opOf ts = o at q tr
        have tr' : (46 ≤ o ∧ o ≤ 49) ∨ (50 ≤ o ∧ o ≤ 53) := tr
        have nJ : ¬ isJ o := fun z => by have : o ≤ 39 := z.2; omega
        have nN : ¬ isN o := fun z => by have : o = 41 ∨ o = 54 ∨ o = 55 := z; omega
        unfold pOpr at q
        rw [if_neg (by omega), if_neg (by omega), if_neg (by omega), if_neg nJ, if_neg (by omega), if_neg nN] at q
        by_cases cf : isFo o
        · rw [if_pos cf] at q
          split at q
          · cases q
          · rename_i q2; cases q
            have := pMember_len q2
            omega
        · rw [if_neg cf, if_pos (tr.resolve_left cf)] at q
          split at q
          · cases q
          · rename_i q2; cases q
            have := pMember_len q2
            omega
      · rw [if_neg c0] at h; cases h
  · rw [if_neg c] at h; cases h
def kCond (l : List Tok) : Bool := (isWd nField l || (isWd nMethod l || isWd nEnd l)) && decide ((hd l.tail).1 ≠ 58)
def kRest (W : List Cls) (p : PM) (l : List Tok) : (Nat × Nat) ⊕ PSt :=
  if isWd nFrame l && decide ((hd l.tail).1 ≠ 58) then (if p.2.2.2.2.isSome then .inl (er l) else match pFrame l.tail with
    | .inl e => .inl e
    | .inr ((ls, ss), _) => .inr (3, W, p.1, p.2.1, p.2.2.1, p.2.2.2.1, some (ls, ss, (hd l).2.2.2)))
  else if isWd nHandler l && decide ((hd l.tail).1 ≠ 58) then (match pHandler l.tail with
    | .inl e => .inl e
    | .inr ((a, b, g, k), _) => if p.2.2.1.length = 8 then .inl (12, (hd l).2.2.2) else .inr (3, W, p.1, p.2.1, p.2.2.1 ++ [(a, b, g, k, (hd l).2.2.2)], p.2.2.2.1, p.2.2.2.2))
  else iLine W p l
theorem kLine_eq (br : Int32) (W : List Cls) (p : PM) (l : List Tok) : kLine br W p l = if kCond l then (match endM (hd l).2.2.2 p with
    | .inl e => .inl e
    | .inr m => bLine br (addM W m) l) else kRest W p l := by
  unfold kLine kCond kRest
  rfl
theorem cPf.of {A : List Nm} {w nk : Nat} {f : Option (List Kd × List Kd × Nat)} {M M' : Mem} (h : cPf A w nk f M) (e : ∀ k, 14 ≤ k → k ≤ 21 → mI M' 3 0 k = mI M 3 0 k) (e73 : ∀ k, mI M' 73 w k = mI M 73 w k) : cPf A w nk f M' := by
  cases f with
  | none => exact (e 14 (by omega) (by omega)).trans h
  | some f =>
    obtain ⟨x, y, kf, a, b, c, d, g⟩ := h
    exact ⟨(e 14 (by omega) (by omega)).trans x, (e 15 (by omega) (by omega)).trans y, kf, a, (e 19 (by omega) (by omega)).trans b, (e 20 (by omega) (by omega)).trans c, (e 21 (by omega) (by omega)).trans d, fun i hi => by rw [e73]; exact g i hi⟩
theorem newU_len {o q pf line : Nat} {ls : List Nm} : (newU o q pf line ls).length ≤ ls.length := by
  unfold newU
  split
  · simp
  · split
    · rw [usP_len]; exact Nat.le_refl _
    · simp
/-- how the numbers grow in a line -/
def grw (len nq nk np nh nr nq' nk' np' nh' nr' : Nat) : Prop := (nq ≤ nq' ∧ nq' ≤ nq + 1) ∧ (nk ≤ nk' ∧ 2 * nk' ≤ 2 * nk + len) ∧ (np ≤ np' ∧ 2 * np' ≤ 2 * np + len) ∧ (nh ≤ nh' ∧ nh' ≤ nh + 1) ∧ nr ≤ nr' ∧ nr' ≤ nr + 1 ∧ (nr < nr' → 6 ≤ len)
