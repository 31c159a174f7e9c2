/-! HOW LONG A TEXT IS: what a line of words may print -/
/-- words whose names are short -/
def okS (l : List Tok) : Prop := ∀ t ∈ l, t.2.1.length ≤ 12 ∧ (t.1 = 2 → t.2.1 ≠ [])
theorem okS.tail {l : List Tok} (h : okS l) : okS l.tail := fun t ht => h t (List.mem_of_mem_tail ht)
theorem okS.h1 {l : List Tok} (h : okS l) : (hd l).2.1.length ≤ 12 := by
  cases l with
  | nil => exact Nat.zero_le _
  | cons a l => exact (h a (List.mem_cons_self ..)).1
theorem okS.h2 {l : List Tok} (h : okS l) (h2 : (hd l).1 = 2) : (hd l).2.1 ≠ [] := by
  cases l with
  | nil => exact absurd h2 (by decide)
  | cons a l => exact (h a (List.mem_cons_self ..)).2 h2
theorem hd_ne {l : List Tok} (h : (hd l).1 ≠ 1) : l.tail.length + 1 = l.length := by
  cases l with
  | nil => exact absurd rfl h
  | cons a l => rfl
theorem tail_le {l : List Tok} : l.tail.length ≤ l.length := by
  cases l with
  | nil => exact Nat.le_refl _
  | cons a l => exact Nat.le_succ _
theorem hd0_len {l : List Tok} (h : (hd l).1 = 0) : 1 ≤ l.length := by
  have := hd_ne (l := l) (by omega)
  omega
/-- the measure of kinds -/
def mK (ks : List Kd) : Nat := (ks.map (fun κ => (kdW κ).length + 2)).sum
theorem mK_app {a : List Kd} {κ : Kd} : mK (a ++ [κ]) = mK a + ((kdW κ).length + 2) := by
  unfold mK
  rw [List.map_append, List.sum_append]
  rfl
theorem txS_le {f : List Int32} (hf : f.length ≤ 2) {ks : List Kd} : ∀ k, k ≤ ks.length → (txS f ks k).length ≤ mK (ks.take k)
  | 0, _ => Nat.zero_le _
  | k + 1, h => by
    have ih := txS_le hf (ks := ks) k (by omega)
    have et : ks.take (k + 1) = ks.take k ++ [gk ks k] := by
      rw [List.take_add_one, List.getElem?_eq_getElem (by omega)]
      show _ ++ [_] = _
      congr 2
      show _ = ks.getD k (0, [])
      rw [List.getD_eq_getElem?_getD, List.getElem?_eq_getElem (by omega)]; rfl
    rw [et, mK_app]
    show (txS f ks k ++ ((if k = 0 then f else [44, 32]) ++ kdW (gk ks k))).length ≤ _
    rw [List.length_append, List.length_append]
    have : (if k = 0 then f else [44, 32]).length ≤ 2 := by
      split
      · exact hf
      · exact Nat.le_refl _
    omega
theorem txS_all {f : List Int32} (hf : f.length ≤ 2) {ks : List Kd} : (txS f ks ks.length).length ≤ mK ks := by
  have := txS_le hf (ks := ks) ks.length (Nat.le_refl _)
  rw [List.take_length] at this
  exact this
theorem txT_le {ks : List Kd} {κ : Kd} : (txT ks κ).length ≤ mK ks + (kdW κ).length + 3 := by
  unfold txT
  simp only [List.length_append, List.length_cons, List.length_nil]
  have := txS_all (f := []) (by simp) (ks := ks)
  omega
theorem txFr_le {f : List Kd × List Kd} : (txFr f).length ≤ mK f.1 + mK f.2 + 9 := by
  unfold txFr
  have e : (stW 38).length = 7 := by decide +kernel
  simp only [List.length_append, List.length_singleton, e]
  have h1 := txS_all (f := [32]) (by simp) (ks := f.1)
  have h2 := txS_all (f := [32]) (by simp) (ks := f.2)
  omega
theorem wA_12 : ∀ k, k < 102 → (wA k).length ≤ 12 := by decide +kernel
theorem kdW_n {κ : Kd} (h : κ.2.length ≤ 12) : (kdW κ).length ≤ 12 := by
  unfold kdW
  repeat' split
  · exact wA_12 1 (by omega)
  · exact wA_12 73 (by omega)
  · exact wA_12 74 (by omega)
  · exact wA_12 2 (by omega)
  · exact wA_12 75 (by omega)
  · exact wA_12 76 (by omega)
  · exact h
section
variable {ts t1 : List Tok} {κ : Kd} {nm : Nm} {v lo hi : Int32} {b : Nat} {u : Unit}
theorem isWd_k {w : Nm} (h : isWd w ts = true) : (hd ts).1 = 2 := by
  unfold isWd at h
  exact (of_decide_eq_true h).1
theorem pSign_s (hb : b ≠ 1) (h : pSign b ts = .inr (u, t1)) : t1 = ts.tail ∧ t1.length + 1 = ts.length := by
  unfold pSign at h
  split at h
  · rename_i c
    cases h
    exact ⟨rfl, hd_ne (by rw [c]; exact hb)⟩
  · cases h
theorem pName_s (ho : okS ts) (h : pName ts = .inr (nm, t1)) : t1 = ts.tail ∧ t1.length + 1 = ts.length ∧ nm.length ≤ 12 := by
  unfold pName at h
  split at h
  · rename_i c
    cases h
    exact ⟨rfl, hd_ne (by rw [c]; decide), ho.h1⟩
  · cases h
theorem pCls_s (ho : okS ts) (h : pCls ts = .inr (nm, t1)) : t1 = ts.tail ∧ t1.length + 1 = ts.length ∧ nm.length ≤ 12 := by
  unfold pCls at h
  split at h
  · rename_i c
    cases h
    exact ⟨rfl, hd_ne (by rw [c.1]; decide), ho.h1⟩
  · cases h
theorem pNum_s (h : pNum lo hi ts = .inr (v, t1)) : t1 = ts.tail ∧ t1.length + 1 = ts.length := by
  unfold pNum at h
  split at h
  · rename_i c
    cases h
    exact ⟨rfl, hd_ne (by rw [c.1]; decide)⟩
  · cases h
theorem pType_s (ho : okS ts) (h : pType ts = .inr (κ, t1)) : t1 = ts.tail ∧ t1.length + 1 = ts.length ∧ κ.2.length ≤ 12 := by
  unfold pType at h
  split at h
  · rename_i c
    cases h
    exact ⟨rfl, hd_ne (by rw [isWd_k c]; decide), Nat.zero_le _⟩
  split at h
  · rename_i c
    cases h
    exact ⟨rfl, hd_ne (by rw [isWd_k c]; decide), Nat.zero_le _⟩
  split at h
  · cases h
  · rename_i e
    cases h
    exact pCls_s ho e
theorem pRes_s (ho : okS ts) (h : pRes ts = .inr (κ, t1)) : t1 = ts.tail ∧ t1.length + 1 = ts.length ∧ κ.2.length ≤ 12 := by
  unfold pRes at h
  split at h
  · rename_i c
    cases h
    exact ⟨rfl, hd_ne (by rw [isWd_k c]; decide), Nat.zero_le _⟩
  · exact pType_s ho h
theorem pKind_s (ho : okS ts) (h : pKind ts = .inr (κ, t1)) : t1 = ts.tail ∧ t1.length + 1 = ts.length ∧ κ.2.length ≤ 12 := by
  unfold pKind at h
  split at h
  · rename_i c
    cases h
    exact ⟨rfl, hd_ne (by rw [isWd_k c]; decide), Nat.zero_le _⟩
  split at h
  · rename_i c
    cases h
    exact ⟨rfl, hd_ne (by rw [isWd_k c]; decide), Nat.zero_le _⟩
  split at h
  · rename_i c
    cases h
    exact ⟨rfl, hd_ne (by rw [isWd_k c]; decide), Nat.zero_le _⟩
  · exact pType_s ho h
end
theorem pTypesF_z {s : Bool} : ∀ (d : Nat) (acc : List Kd) (ts : List Tok) (ks : List Kd) (t' : List Tok), okS ts → pTypesF s d acc ts = .inr (ks, t') → mK ks + 16 * t'.length + 16 ≤ mK acc + 16 * ts.length ∧ okS t'
  | 0, acc, ts, ks, t', ho, h => by cases h
  | d + 1, acc, ts, ks, t', ho, h => by
    unfold pTypesF at h
    split at h
    · rename_i c
      cases h
      have := hd_ne (l := ts) (by rw [c]; decide)
      exact ⟨by omega, ho.tail⟩
    split at h
    · cases h
    rename_i u t1 e1
    have h1 : okS t1 ∧ t1.length ≤ ts.length := by
      split at e1
      · cases e1; exact ⟨ho, Nat.le_refl _⟩
      · obtain ⟨a, b⟩ := pSign_s (by decide) e1
        rw [a]; exact ⟨ho.tail, tail_le⟩
    split at h
    · cases h
    split at h
    · cases h
    rename_i κ t2 e2
    obtain ⟨a, b, c⟩ := pType_s h1.1 e2
    have ih := pTypesF_z d (acc ++ [κ]) t2 ks t' (by rw [a]; exact h1.1.tail) h
    rw [mK_app] at ih
    have := kdW_n c
    exact ⟨by omega, ih.2⟩
theorem pTypes_s {s : Bool} {ts t' : List Tok} {ks : List Kd} (ho : okS ts) (h : pTypes s ts = .inr (ks, t')) : mK ks + 16 * t'.length + 32 ≤ 16 * ts.length ∧ okS t' := by
  unfold pTypes at h
  split at h
  · cases h
  rename_i u t1 e1
  obtain ⟨a, b⟩ := pSign_s (by decide) e1
  have := pTypesF_z _ _ _ _ _ (by rw [a]; exact ho.tail) h
  have e0 : mK [] = 0 := rfl
  rw [e0] at this
  exact ⟨by omega, this.2⟩
theorem pSig_s {ts t' : List Tok} {ks : List Kd} {κ : Kd} (ho : okS ts) (h : pSig ts = .inr ((ks, κ), t')) : mK ks + 16 * t'.length + 48 ≤ 16 * ts.length ∧ okS t' ∧ (kdW κ).length ≤ 12 := by
  unfold pSig at h
  split at h
  · cases h
  rename_i ks' t1 e1
  split at h
  · cases h
  rename_i κ' t2 e2
  cases h
  obtain ⟨a, b⟩ := pTypes_s ho e1
  obtain ⟨c, d, e⟩ := pRes_s b e2
  exact ⟨by omega, by rw [c]; exact b.tail, kdW_n e⟩
theorem pKinds_s {b : Nat} : ∀ (d : Nat) (acc : List Kd) (ts : List Tok) (ks : List Kd) (t' : List Tok), okS ts → pKinds b d acc ts = .inr (ks, t') → mK ks + 16 * t'.length ≤ mK acc + 16 * ts.length ∧ okS t' ∧ (hd t').1 = b
  | 0, acc, ts, ks, t', ho, h => by cases h
  | d + 1, acc, ts, ks, t', ho, h => by
    unfold pKinds at h
    split at h
    · rename_i c
      cases h
      exact ⟨Nat.le_refl _, ho, c⟩
    split at h
    · cases h
    rename_i u t1 e1
    have h1 : okS t1 ∧ t1.length ≤ ts.length := by
      split at e1
      · cases e1; exact ⟨ho, Nat.le_refl _⟩
      · obtain ⟨a, b⟩ := pSign_s (by decide) e1
        rw [a]; exact ⟨ho.tail, tail_le⟩
    split at h
    · cases h
    rename_i κ t2 e2
    obtain ⟨a, b, c⟩ := pKind_s h1.1 e2
    have ih := pKinds_s d (acc ++ [κ]) t2 ks t' (by rw [a]; exact h1.1.tail) h
    rw [mK_app] at ih
    have := kdW_n c
    exact ⟨by omega, ih.2⟩
theorem pFrame_s {ts t' : List Tok} {ls ss : List Kd} (ho : okS ts) (h : pFrame ts = .inr ((ls, ss), t')) : mK ls + mK ss + 16 ≤ 16 * ts.length := by
  unfold pFrame at h
  split at h
  · cases h
  rename_i ls' t1 e1
  split at h
  · cases h
  rename_i ss' t2 e2
  cases h
  obtain ⟨a, b, c⟩ := pKinds_s _ _ _ _ _ ho e1
  obtain ⟨a2, -, -⟩ := pKinds_s _ _ _ _ _ b.tail e2
  have := hd_ne (l := t1) (by rw [c]; decide)
  have e0 : mK [] = 0 := rfl
  rw [e0] at a a2
  omega
theorem pPicks_s : ∀ (d : Nat) (acc : List Nm) (ts : List Tok) (ls : List Nm) (t' : List Tok), okS ts → pPicks d acc ts = .inr (ls, t') → ls.length + t'.length ≤ acc.length + ts.length
  | 0, acc, ts, ls, t', ho, h => by cases h
  | d + 1, acc, ts, ls, t', ho, h => by
    unfold pPicks at h
    split at h
    · cases h
      exact Nat.le_refl _
    split at h
    · cases h
    rename_i u t1 e1
    have h1 : okS t1 ∧ t1.length ≤ ts.length := by
      split at e1
      · cases e1; exact ⟨ho, Nat.le_refl _⟩
      · obtain ⟨a, b⟩ := pSign_s (by decide) e1
        rw [a]; exact ⟨ho.tail, tail_le⟩
    split at h
    · cases h
    rename_i nm t2 e2
    obtain ⟨a, b, -⟩ := pName_s h1.1 e2
    have ih := pPicks_s d (acc ++ [nm]) t2 ls t' (by rw [a]; exact h1.1.tail) h
    rw [List.length_append, List.length_singleton] at ih
    omega
/-- what an operation's words may print -/
def cO (o : Nat) (x : Opr) : Nat := (if o = 1 ∨ (3 ≤ o ∧ o ≤ 7) ∨ o = 40 then 14 else 0) + (if o = 7 then 14 else 0) + (if isJ o then 15 else 0) + (if o = 40 then 16 * x.2.2.1.length else 0) + (if o = 41 ∨ (46 ≤ o ∧ o ≤ 55) then 1 + x.2.2.2.1.length else 0) + (if 46 ≤ o ∧ o ≤ 53 then 1 + x.2.2.2.2.1.length else 0) + (if isFo o then 1 + (kdW x.2.2.2.2.2.2).length else 0) + (if isMo o then mK x.2.2.2.2.2.1 + (kdW x.2.2.2.2.2.2).length + 3 else 0)
theorem pMember_s {m : Bool} {ts t' : List Tok} {k n : Nm} {ks : List Kd} {κ : Kd} (ho : okS ts) (h : pMember m ts = .inr ((k, n, ks, κ), t')) : (k.length ≤ 12 ∧ n.length ≤ 12 ∧ (kdW κ).length ≤ 12) ∧ (m = true → mK ks + 16 * t'.length + 96 ≤ 16 * ts.length) ∧ (m = false → 16 * t'.length + 64 ≤ 16 * ts.length) := by
  unfold pMember at h
  split at h
  · cases h
  rename_i k' t1 e1
  obtain ⟨a1, a2, a3⟩ := pCls_s ho e1
  have o1 : okS t1 := by rw [a1]; exact ho.tail
  split at h
  · cases h
  rename_i u t2 e2
  obtain ⟨b1, b2⟩ := pSign_s (by decide) e2
  have o2 : okS t2 := by rw [b1]; exact o1.tail
  split at h
  · rename_i c
    have c1 : (hd t2).1 ≠ 1 := by rcases c with z | z <;> omega
    have c2 := hd_ne c1
    split at h
    · rename_i cm
      split at h
      · cases h
      rename_i ks' κ' t3 e3
      cases h
      obtain ⟨d1, d2, d3⟩ := pSig_s o2.tail e3
      refine ⟨⟨a3, o2.h1, d3⟩, fun _ => by omega, fun z => ?_⟩
      rw [z] at cm; cases cm
    · rename_i cm
      split at h
      · cases h
      rename_i κ' t3 e3
      cases h
      obtain ⟨d1, d2, d3⟩ := pType_s o2.tail e3
      exact ⟨⟨a3, o2.h1, kdW_n d3⟩, fun z => absurd z cm, fun _ => by omega⟩
  · cases h
theorem pOpr_s {o : Nat} {ts t1 : List Tok} {x : Opr} (ho : okS ts) (h : pOpr o ts = .inr (x, t1)) : cO o x + 16 * t1.length ≤ 16 * ts.length := by
  unfold pOpr at h
  unfold cO
  by_cases c1 : o = 1
  · rw [if_pos c1] at h
    split at h
    · cases h
    rename_i v t2 e
    cases h
    have := (pNum_s e).2
    rw [if_pos (by omega), if_neg (by omega), if_neg (by omega), if_neg (by omega), if_neg (by omega), if_neg (by omega), if_neg (by omega), if_neg (by omega)]
    omega
  rw [if_neg c1] at h
  by_cases c2 : 3 ≤ o ∧ o ≤ 6
  · rw [if_pos c2] at h
    split at h
    · cases h
    rename_i v t2 e
    cases h
    have := (pNum_s e).2
    rw [if_pos (by omega), if_neg (by omega), if_neg (by omega), if_neg (by omega), if_neg (by omega), if_neg (by omega), if_neg (by omega), if_neg (by omega)]
    omega
  rw [if_neg c2] at h
  by_cases c3 : o = 7
  · rw [if_pos c3] at h
    split at h
    · cases h
    rename_i v t2 e
    split at h
    · cases h
    rename_i v2 t3 e2
    cases h
    have := (pNum_s e).2
    have := (pNum_s e2).2
    rw [if_pos (by omega), if_pos (by omega), if_neg (by omega), if_neg (by omega), if_neg (by omega), if_neg (by omega), if_neg (by omega), if_neg (by omega)]
    omega
  rw [if_neg c3] at h
  by_cases c4 : isJ o
  · rw [if_pos c4] at h
    split at h
    · cases h
    rename_i nm t2 e
    cases h
    have := (pName_s ho e).2.1
    rw [if_neg (by omega), if_neg (by omega), if_pos c4, if_neg (by omega), if_neg (by omega), if_neg (by omega), if_neg (by omega), if_neg (by omega)]
    omega
  rw [if_neg c4] at h
  by_cases c5 : o = 40
  · rw [if_pos c5] at h
    split at h
    · cases h
    rename_i v t2 e
    split at h
    · cases h
    rename_i ls t3 e2
    cases h
    obtain ⟨a1, a2⟩ := pNum_s e
    have := pPicks_s _ _ _ _ _ (by rw [a1]; exact ho.tail) e2
    rw [List.length_nil] at this
    rw [if_pos (by omega), if_neg (by omega), if_neg c4, if_pos c5, if_neg (by omega), if_neg (by omega), if_neg (by omega), if_neg (by omega)]
    show 14 + 0 + 0 + 16 * ls.length + 0 + 0 + 0 + 0 + 16 * t1.length ≤ _
    omega
  rw [if_neg c5] at h
  by_cases c6 : isN o
  · rw [if_pos c6] at h
    split at h
    · cases h
    rename_i nm t2 e
    cases h
    obtain ⟨a1, a2, a3⟩ := pCls_s ho e
    unfold isN at c6
    rw [if_neg (by omega), if_neg c3, if_neg c4, if_neg c5, if_pos (by omega), if_neg (by omega), if_neg (by omega), if_neg (by omega)]
    show 0 + 0 + 0 + 0 + (1 + nm.length) + 0 + 0 + 0 + 16 * t1.length ≤ _
    omega
  rw [if_neg c6] at h
  by_cases c7 : isFo o
  · rw [if_pos c7] at h
    split at h
    · cases h
    rename_i k m ks κ t2 e
    cases h
    obtain ⟨⟨a1, a2, a3⟩, -, a4⟩ := pMember_s ho e
    have a4 := a4 rfl
    rw [if_neg (by omega), if_neg c3, if_neg c4, if_neg c5, if_pos (by omega), if_pos (by omega), if_pos c7, if_neg (by omega)]
    show 0 + 0 + 0 + 0 + (1 + k.length) + (1 + m.length) + (1 + (kdW κ).length) + 0 + 16 * t1.length ≤ _
    omega
  rw [if_neg c7] at h
  by_cases c8 : isMo o
  · rw [if_pos c8] at h
    split at h
    · cases h
    rename_i k m ks κ t2 e
    cases h
    obtain ⟨⟨a1, a2, a3⟩, a4, -⟩ := pMember_s ho e
    have a4 := a4 rfl
    rw [if_neg (by omega), if_neg c3, if_neg c4, if_neg c5, if_pos (by omega), if_pos (by omega), if_neg c7, if_pos c8]
    show 0 + 0 + 0 + 0 + (1 + k.length) + (1 + m.length) + 0 + (mK ks + (kdW κ).length + 3) + 16 * t1.length ≤ _
    omega
  rw [if_neg c8] at h
  cases h
  unfold isN at c6
  rw [if_neg (by omega), if_neg c3, if_neg c4, if_neg c5, if_neg (by omega), if_neg (by omega), if_neg c7, if_neg c8]
  omega
theorem pInstr_s {o : Nat} {ts t1 : List Tok} {x : Opr} (ho : okS ts) (h : pInstr ts = .inr ((o, x), t1)) : cO o x + 32 ≤ 16 * ts.length ∧ o < 62 := by
  unfold pInstr at h
  split at h
  · rename_i c
    split at h
    · cases h
    rename_i x' t2 e
    split at h
    · rename_i c2
      cases h
      have h2 : (hd ts).1 = 2 := by
        unfold opOf at c
        split at c
        · assumption
        · omega
      have := hd_ne (l := ts) (by rw [h2]; decide)
      have h3 := pOpr_s ho.tail e
      have := hd0_len c2
      exact ⟨by omega, c⟩
    · cases h
  · cases h
theorem pLabels_s : ∀ (d : Nat) (acc : List Nm) (ts : List Tok), okS ts → (pLabels d acc ts).1.length * 2 + (pLabels d acc ts).2.length ≤ acc.length * 2 + ts.length ∧ okS (pLabels d acc ts).2
  | 0, acc, ts, ho => ⟨Nat.le_refl _, ho⟩
  | d + 1, acc, ts, ho => by
    unfold pLabels
    split
    · rename_i c
      have h1 := hd_ne (l := ts) (by rw [c.1]; decide)
      have h2 := hd_ne (l := ts.tail) (by rw [c.2]; decide)
      have ih := pLabels_s d (acc ++ [(hd ts).2.1]) ts.tail.tail ho.tail.tail
      rw [List.length_append, List.length_singleton] at ih
      exact ⟨by omega, ih.2⟩
    · exact ⟨Nat.le_refl _, ho⟩
theorem pHandler_s {ts t1 : List Tok} {a b g k : Nm} (ho : okS ts) (h : pHandler ts = .inr ((a, b, g, k), t1)) : 5 ≤ ts.length ∧ k.length ≤ 12 := by
  unfold pHandler at h
  split at h
  · cases h
  rename_i a' t2 e1
  obtain ⟨a1, a2, -⟩ := pName_s ho e1
  have o2 : okS t2 := by rw [a1]; exact ho.tail
  split at h
  · cases h
  rename_i b' t3 e2
  obtain ⟨b1, b2, -⟩ := pName_s o2 e2
  have o3 : okS t3 := by rw [b1]; exact o2.tail
  split at h
  · cases h
  rename_i g' t4 e3
  obtain ⟨c1, c2, -⟩ := pName_s o3 e3
  have o4 : okS t4 := by rw [c1]; exact o3.tail
  split at h
  · cases h
  rename_i k' t5 e4
  have h5 : t5.length + 1 = t4.length ∧ k'.length ≤ 12 := by
    split at e4
    · rename_i c
      cases e4
      exact ⟨hd_ne (by rw [isWd_k c]; decide), by decide +kernel⟩
    · obtain ⟨d1, d2, d3⟩ := pCls_s o4 e4
      exact ⟨d2, d3⟩
  split at h
  · rename_i c
    cases h
    have := hd0_len c
    exact ⟨by omega, h5.2⟩
  · cases h
