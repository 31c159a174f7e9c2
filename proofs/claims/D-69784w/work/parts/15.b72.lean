/-! B: a world of the works, whole -/
theorem addM_len (W : List Cls) (m : Mth) : (addM W m).length = W.length := by simp [addM]
theorem gc_addM {W : List Cls} {c j : Nat} {m : Mth} (hc : c + 1 = W.length) : gc (addM W m) j = if j = c then ((gc W c).1, (gc W c).2.1, (gc W c).2.2.1, (gc W c).2.2.2.1, (gc W c).2.2.2.2.1, (gc W c).2.2.2.2.2 ++ [m]) else gc W j := by
  have e : W.length - 1 = c := by omega
  show (addM W m).getD j _ = _
  unfold addM
  rw [e, List.getD_eq_getElem?_getD, List.getElem?_set]
  by_cases q : c = j
  · rw [if_pos q, if_pos (by omega), if_pos q.symm]; rfl
  · rw [if_neg q, if_neg (fun z => q z.symm)]
    show _ = W.getD j _
    rw [List.getD_eq_getElem?_getD]
theorem addM_split {W : List Cls} {c : Nat} {m : Mth} (hc : c + 1 = W.length) : W = W.take c ++ [gc W c] ∧ addM W m = W.take c ++ [((gc W c).1, (gc W c).2.1, (gc W c).2.2.1, (gc W c).2.2.2.1, (gc W c).2.2.2.2.1, (gc W c).2.2.2.2.2 ++ [m])] := by
  have h1 : W = W.take c ++ [gc W c] := by
    rw [← take_gc (by omega), hc, List.take_length]
  have hl : (W.take c).length = c := by rw [List.length_take]; omega
  refine ⟨h1, List.ext_getElem? (fun i => ?_)⟩
  unfold addM
  rw [show W.length - 1 = c by omega, List.getElem?_set]
  by_cases e : c = i
  · subst e
    rw [if_pos rfl, if_pos (by omega), List.getElem?_append_right (by omega), hl]; simp
  · rw [if_neg e]
    by_cases e2 : i < c
    · rw [List.getElem?_append_left (by omega), List.getElem?_take, if_pos e2]
    · rw [List.getElem?_eq_none (by omega), List.getElem?_eq_none (by rw [List.length_append, hl]; simp; omega)]
theorem addM_last {W : List Cls} {c : Nat} {m : Mth} (hc : c + 1 = W.length) : allM (addM W m) = allM W ++ [m] ∧ (∀ j, j ≤ c → moff (addM W m) j = moff W j) ∧ allF (addM W m) = allF W ∧ ∀ j, j ≤ c → foff (addM W m) j = foff W j := by
  obtain ⟨h1, h2⟩ := addM_split (m := m) hc
  have hl : (W.take c).length = c := by rw [List.length_take]; omega
  have ht : ∀ j, j ≤ c → (addM W m).take j = W.take j := fun j hj => by
    rw [h2, List.take_append_of_le_length (by omega), List.take_take]
    congr 1; omega
  refine ⟨?_, fun j hj => by unfold moff; rw [ht j hj], ?_, fun j hj => by unfold foff; rw [ht j hj]⟩
  · rw [h2, allM_app]
    conv => rhs; rw [h1, allM_app]
    simp [allM]
  · rw [h2, allF_app]
    conv => rhs; rw [h1, allF_app]
    simp [allF]
theorem cCl.setM {A : List Nm} {W : List Cls} {w c : Nat} {m : Mth} {M : Mem} (h : cCl A W w M) (hc : c + 1 = W.length) : cCl A (addM W m) w M := by
  obtain ⟨⟨x, x5⟩, y, y5⟩ := h
  have e : ∀ j, (gc (addM W m) j).1 = (gc W j).1 ∧ (gc (addM W m) j).2.1 = (gc W j).2.1 ∧ (gc (addM W m) j).2.2.1 = (gc W j).2.2.1 ∧ (gc (addM W m) j).2.2.2.1 = (gc W j).2.2.2.1 := fun j => by
    rw [gc_addM hc]
    by_cases q : j = c
    · rw [if_pos q, q]; exact ⟨rfl, rfl, rfl, rfl⟩
    · rw [if_neg q]; exact ⟨rfl, rfl, rfl, rfl⟩
  refine ⟨⟨by rw [addM_len]; exact x, fun j hj => ?_⟩, y, fun j hj => ?_⟩
  · rw [addM_len] at hj
    rw [(e j).1]; exact x5 j hj
  · rw [addM_len] at hj
    obtain ⟨e1, e2, e3, e4⟩ := e j
    rw [e1, e2, e4]
    have := y5 j hj
    refine ⟨this.1, ?_, this.2.2⟩
    unfold gf
    rw [e3]; exact this.2.1
theorem cFl.setM {A : List Nm} {W : List Cls} {w c : Nat} {m : Mth} {M : Mem} (h : cFl A W w M) (hc : c + 1 = W.length) : cFl A (addM W m) w M := by
  obtain ⟨-, -, e1, e2⟩ := addM_last (m := m) hc
  obtain ⟨a, b, d⟩ := h
  refine ⟨by rw [e1]; exact a, fun j hj => ?_, by rw [e1]; exact d⟩
  rw [addM_len] at hj
  have e : (gc (addM W m) j).2.2.2.2.1 = (gc W j).2.2.2.2.1 := by
    rw [gc_addM hc]
    by_cases q : j = c
    · rw [if_pos q, q]
    · rw [if_neg q]
  rw [e2 j (by omega), e]; exact b j hj
theorem cMs.fin {A : List Nm} {W : List Cls} {w c nq nk np nh nr : Nat} {x : Mth} {M : Mem} (h : cMs A W w 1 nq nk np nh nr M) (hc : c + 1 = W.length) (h21 : 21 ≤ c) (h12 : (gc W c).2.2.2.2.2.length < 12) (hH : cHd A w c (allM W).length x M) (hM : cMc A w nq nk np nh nr (allM W).length x M) : cMs A (addM W x) w 0 nq nk np nh nr M := by
  obtain ⟨e1, e2, -, -⟩ := addM_last (m := x) hc
  obtain ⟨a, b, d⟩ := h
  have hall : (allM W).length = moff W c + (gc W c).2.2.2.2.2.length := by
    have := moff_succ (W := W) (n := c) (by omega)
    rw [hc, moff_all] at this; exact this
  have el : ∀ j, (gc (addM W x) j).2.2.2.2.2 = if j = c then (gc W c).2.2.2.2.2 ++ [x] else (gc W j).2.2.2.2.2 := fun j => by
    rw [gc_addM hc]
    by_cases q : j = c
    · rw [if_pos q, if_pos q]
    · rw [if_neg q, if_neg q]
  refine ⟨a, fun j hj => ?_, fun j hj k hk => ?_⟩
  · rw [addM_len] at hj ⊢
    have := b j hj
    rw [e2 j (by omega), el]
    by_cases q : j = c
    · rw [q] at this ⊢
      rw [if_pos rfl, List.length_append, List.length_singleton]
      rw [if_pos hc] at this ⊢
      exact ⟨this.1, by omega, fun z => by omega⟩
    · rw [if_neg q]
      rw [if_neg (by omega)] at this ⊢
      exact this
  · rw [addM_len] at hj
    rw [el] at hk
    have eg : gmt (gc (addM W x) j) k = ((gc (addM W x) j).2.2.2.2.2).getD k ([], [], (0, []), 0, 0, 0, [], []) := rfl
    rw [e2 j (by omega), eg, el]
    by_cases q : j = c
    · subst q
      rw [if_pos rfl] at hk ⊢
      rw [List.length_append, List.length_singleton] at hk
      by_cases ck : k < (gc W j).2.2.2.2.2.length
      · rw [List.getD_eq_getElem?_getD, List.getElem?_append_left ck, ← List.getD_eq_getElem?_getD]; exact d j hj k ck
      · have ek : k = (gc W j).2.2.2.2.2.length := by omega
        have : ((gc W j).2.2.2.2.2 ++ [x]).getD k ([], [], (0, []), 0, 0, 0, [], []) = x := by rw [ek]; simp [List.getD_eq_getElem?_getD]
        rw [this, ek, ← hall]; exact ⟨hH, hM⟩
    · rw [if_neg q] at hk ⊢; exact d j hj k hk
/-- how much room a world has -/
def L6 (w : Nat) : Nat := if w = 0 then 434 else 27334
def L73 (w : Nat) : Nat := if w = 0 then 651 else 41001
def L75 (w : Nat) : Nat := if w = 0 then 1056 else 11520
def L76 (w : Nat) : Nat := if w = 0 then 492 else 29836
def L212 (w : Nat) : Nat := if w = 0 then 738 else 44754
theorem L_le (w : Nat) : L6 w ≤ 27334 ∧ L73 w ≤ 41001 ∧ L75 w ≤ 11520 ∧ L76 w ≤ 29836 ∧ L212 w ≤ 44754 := by
  unfold L6 L73 L75 L76 L212
  by_cases e : w = 0
  · rw [if_pos e, if_pos e, if_pos e, if_pos e, if_pos e]; omega
  · rw [if_neg e, if_neg e, if_neg e, if_neg e, if_neg e]; omega
def cRm (w : Nat) (M : Mem) : Prop := (∀ f, 66 ≤ f → f ≤ 72 → mL M f w = L6 w) ∧ mL M 73 w = L73 w ∧ mL M 74 w = L73 w ∧ mL M 75 w = L75 w ∧ mL M 76 w = L76 w ∧ (mL M 211 (2 * w + 2) = L212 w ∧ ∀ f, 45 ≤ f → f ≤ 48 → mL M f w = 51)
theorem cRm.lo {w : Nat} {b : Nat → Nat} {M M' : Mem} (h : cRm w M) (hx : Lo w b M M') : cRm w M' :=
  ⟨fun f a c => by rw [(hx.1 f (by unfold wFm; rw [Bool.or_eq_true, Bool.and_eq_true]; exact Or.inl ⟨Nat.ble_eq.mpr (by omega), Nat.ble_eq.mpr (by omega)⟩)).2]; exact h.1 f a c, ((hx.1 73 rfl).2 w).trans h.2.1, ((hx.1 74 rfl).2 w).trans h.2.2.1, ((hx.1 75 rfl).2 w).trans h.2.2.2.1, ((hx.1 76 rfl).2 w).trans h.2.2.2.2.1, (hx.2.2.2 _).trans h.2.2.2.2.2.1, fun f a c => by rw [(hx.1 f (by unfold wFm; rw [Bool.or_eq_true, Bool.and_eq_true]; exact Or.inl ⟨Nat.ble_eq.mpr (by omega), Nat.ble_eq.mpr (by omega)⟩)).2]; exact h.2.2.2.2.2.2 f a c⟩
/-- what the reader holds of its own -/
def cRd (M : Mem) : Prop := mI M 3 0 17 = 0 ∧ (∀ f, 23 ≤ f → f ≤ 29 → mL M f 0 = 3100) ∧ mL M 211 0 = 3100
theorem cRd.ez {w : Nat} {b : Nat → Nat} {M M' : Mem} (h : cRd M) (hx : Ez w b M M') : cRd M' := ⟨hx.2.1.2.1.trans h.1, fun f a c => (hx.2.2 f a c).trans (h.2.1 f a c), (hx.1.2.2.2 0).trans h.2.2⟩
/-- tokens of lines -/
def tk : List (List Tok) → Nat
  | [] => 0
  | l :: ls => l.length + tk ls
/-- room for lines to come, as the arrays have it -/
def BudW (w : Nat) (ls : List (List Tok)) (nq nk np nh nr : Nat) : Prop := nq + ls.length ≤ L6 w ∧ 2 * nk + tk ls ≤ 2 * L73 w ∧ 2 * np + tk ls ≤ 2 * L73 w ∧ (w = 0 → nr + ls.length ≤ 122 ∧ nh + ls.length ≤ 263) ∧ (w ≠ 0 → 6 * nr + tk ls ≤ 44748)
/-- and as bounds that are told -/
def Bud (K : Nat × Nat × Nat × Nat × Nat × Nat) (ls : List (List Tok)) (nq nk np nh nr : Nat) : Prop := nq + ls.length ≤ K.1 ∧ 2 * nk + tk ls ≤ K.2.1 ∧ 2 * np + tk ls ≤ K.2.2.1 ∧ nh + ls.length ≤ K.2.2.2.1 ∧ nr + ls.length ≤ K.2.2.2.2.1 ∧ 6 * nr + tk ls ≤ K.2.2.2.2.2 ∧ 4 ≤ nr
def KOk (w : Nat) (K : Nat × Nat × Nat × Nat × Nat × Nat) : Prop := K.1 ≤ L6 w ∧ K.2.1 ≤ 2 * L73 w ∧ K.2.2.1 ≤ 2 * L73 w ∧ (w = 0 → K.2.2.2.2.1 ≤ 122 ∧ K.2.2.2.1 ≤ 263) ∧ (w ≠ 0 → K.2.2.2.2.2 ≤ 44748)
theorem Bud.toW {w : Nat} {K : Nat × Nat × Nat × Nat × Nat × Nat} {ls : List (List Tok)} {nq nk np nh nr : Nat} (h : Bud K ls nq nk np nh nr) (hK : KOk w K) : BudW w ls nq nk np nh nr := by
  obtain ⟨h1, h2, h3, h4, h5, h6⟩ := h
  obtain ⟨k1, k2, k3, k4, k5⟩ := hK
  exact ⟨by omega, by omega, by omega, fun z => by have := k4 z; omega, fun z => by have := k5 z; omega⟩
theorem Bud.step {K : Nat × Nat × Nat × Nat × Nat × Nat} {l : List Tok} {ls : List (List Tok)} {nq nk np nh nr nq' nk' np' nh' nr' : Nat} (h : Bud K (l :: ls) nq nk np nh nr) (g : grw l.length nq nk np nh nr nq' nk' np' nh' nr') : Bud K ls nq' nk' np' nh' nr' := by
  obtain ⟨h1, h2, h3, h4, h5, h6⟩ := h
  obtain ⟨g1, g2, g3, g4, g5, g6, g7⟩ := g
  have e1 : (l :: ls).length = ls.length + 1 := rfl
  have e2 : tk (l :: ls) = l.length + tk ls := rfl
  rw [e1] at h1 h4 h5
  rw [e2] at h2 h3 h6
  refine ⟨by omega, by omega, by omega, by omega, by omega, ?_⟩
  by_cases c : nr < nr'
  · have := g7 c; omega
  · omega
theorem Bud.skip {K : Nat × Nat × Nat × Nat × Nat × Nat} {l : List Tok} {ls : List (List Tok)} {nq nk np nh nr : Nat} (h : Bud K (l :: ls) nq nk np nh nr) : Bud K ls nq nk np nh nr :=
  h.step ⟨⟨by omega, by omega⟩, ⟨by omega, by omega⟩, ⟨by omega, by omega⟩, ⟨by omega, by omega⟩, by omega, by omega, fun q => by omega⟩
def cCt (W : List Cls) (w e nq nk np nh nr : Nat) (M : Mem) : Prop := mI M 5 w 26 = Int32.ofNat ((allM W).length + e) ∧ mI M 5 w 39 = Int32.ofNat nq ∧ mI M 5 w 47 = Int32.ofNat nk ∧ mI M 5 w 49 = Int32.ofNat np ∧ mI M 5 w 51 = Int32.ofNat nh ∧ mI M 5 w 53 = Int32.ofNat nr
/-- a world of the works, between a class's members -/
def CW (A : List Nm) (W : List Cls) (w : Nat) (br : Int32) (nq nk np nh nr : Nat) (M : Mem) : Prop := C4 A W w (W.length - 1) br M ∧ cMs A W w 0 nq nk np nh nr M ∧ cCt W w 0 nq nk np nh nr M ∧ cRm w M ∧ cRd M ∧ nh ≤ 8 * ((allM W).length - 21)
