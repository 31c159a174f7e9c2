/-! change: what comes of a trial (SPEC) -/
section
variable {L L' : Trl} {w i j k n r : Nat}
abbrev szL (L : Trl) (k : Nat) : Nat := (glL L k).length + 1
theorem txt_1 (l : List Int32) : (txt [l]).length = l.length + 1 := by
  show ((l ++ [10]) ++ []).length = _
  rw [List.append_nil, List.length_append, List.length_singleton]
theorem chF_s : txt (chF w i j L (k + 1)) = txt (chF w i j L k) ++ txt (chP w i j k L) := txt_app _ _
theorem chP_len : (txt (chP w i j k L)).length = if w = 0 ∧ k = i then 0 else if w = 1 ∧ k = i then szL L k + szL L k else szL L (if (w = 2 ∨ w = 3) ∧ k = i then j else if w = 2 ∧ k = j then i else k) := by
  unfold chP
  by_cases c1 : w = 0 ∧ k = i
  · rw [if_pos c1, if_pos c1]; rfl
  rw [if_neg c1, if_neg c1]
  by_cases c2 : w = 1 ∧ k = i
  · rw [if_pos c2, if_pos c2]
    show ((glL L k ++ [10]) ++ ((glL L k ++ [10]) ++ [])).length = _
    simp only [List.append_nil, List.length_append, List.length_singleton]
  · rw [if_neg c2, if_neg c2, txt_1]
theorem ch_mono {m : Nat} (h : k ≤ m) : (txt (chF w i j L k)).length ≤ (txt (chF w i j L m)).length := by
  induction m with
  | zero => rw [show k = 0 by omega]; exact Nat.le_refl _
  | succ m ih =>
    by_cases e : k = m + 1
    · rw [e]; exact Nat.le_refl _
    · rw [chF_s, List.length_append]
      have := ih (by omega)
      omega
theorem ch_0 : ∀ k, k ≤ L.length → (txt (chF 0 i j L k)).length + (if i < k then szL L i else 0) = (txt (L.take k)).length
  | 0, _ => rfl
  | k + 1, h => by
    have ih := ch_0 k (by omega)
    rw [chF_s, List.length_append, chP_len, len_ln (show k < L.length by omega)]
    by_cases e : k = i
    · subst e
      rw [if_pos ⟨rfl, rfl⟩, if_pos (show k < k + 1 by omega)]
      rw [if_neg (show ¬ k < k by omega)] at ih
      show _ + 0 + ((glL L k).length + 1) = _
      omega
    · rw [if_neg (fun z => e z.2), if_neg (fun z => e z.2), if_neg (fun z => e z.2), if_neg (fun z => absurd z.1 (by decide))]
      by_cases c : i < k
      · rw [if_pos c] at ih; rw [if_pos (show i < k + 1 by omega)]; show _ + ((glL L k).length + 1) + _ = _; omega
      · rw [if_neg c] at ih; rw [if_neg (show ¬ i < k + 1 by omega)]; show _ + ((glL L k).length + 1) + _ = _; omega
theorem ch_1 : ∀ k, k ≤ L.length → (txt (chF 1 i j L k)).length = (txt (L.take k)).length + (if i < k then szL L i else 0)
  | 0, _ => rfl
  | k + 1, h => by
    have ih := ch_1 k (by omega)
    rw [chF_s, List.length_append, chP_len, len_ln (show k < L.length by omega), if_neg (fun z => absurd z.1 (by decide))]
    by_cases e : k = i
    · subst e
      rw [if_pos ⟨rfl, rfl⟩, if_pos (show k < k + 1 by omega)]
      rw [if_neg (show ¬ k < k by omega)] at ih
      show _ + (((glL L k).length + 1) + ((glL L k).length + 1)) = _ + ((glL L k).length + 1)
      omega
    · rw [if_neg (fun z => e z.2), if_neg (fun z => e z.2), if_neg (fun z => absurd z.1 (by decide))]
      by_cases c : i < k
      · rw [if_pos c] at ih; rw [if_pos (show i < k + 1 by omega)]; show _ + ((glL L k).length + 1) = _; omega
      · rw [if_neg c] at ih; rw [if_neg (show ¬ i < k + 1 by omega)]; show _ + ((glL L k).length + 1) = _; omega
theorem ch_3 : ∀ k, k ≤ L.length → (txt (chF 3 i j L k)).length + (if i < k then szL L i else 0) = (txt (L.take k)).length + (if i < k then szL L j else 0)
  | 0, _ => rfl
  | k + 1, h => by
    have ih := ch_3 k (by omega)
    rw [chF_s, List.length_append, chP_len, len_ln (show k < L.length by omega), if_neg (fun z => absurd z.1 (by decide)), if_neg (fun z => absurd z.1 (by decide))]
    by_cases e : k = i
    · subst e
      rw [if_pos ⟨Or.inr rfl, rfl⟩, if_pos (show k < k + 1 by omega), if_pos (show k < k + 1 by omega)]
      rw [if_neg (show ¬ k < k by omega), if_neg (show ¬ k < k by omega)] at ih
      show _ + ((glL L j).length + 1) + ((glL L k).length + 1) = _ + ((glL L j).length + 1)
      omega
    · rw [if_neg (fun z => e z.2), if_neg (fun z => absurd z.1 (by decide))]
      by_cases c : i < k
      · rw [if_pos c, if_pos c] at ih; rw [if_pos (show i < k + 1 by omega), if_pos (show i < k + 1 by omega)]; show _ + ((glL L k).length + 1) + _ = _; omega
      · rw [if_neg c, if_neg c] at ih; rw [if_neg (show ¬ i < k + 1 by omega), if_neg (show ¬ i < k + 1 by omega)]; show _ + ((glL L k).length + 1) + _ = _; omega
theorem ch_2 : ∀ k, k ≤ L.length → (txt (chF 2 i j L k)).length + (if i < k then szL L i else 0) + (if j < k ∧ j ≠ i then szL L j else 0) = (txt (L.take k)).length + (if i < k then szL L j else 0) + (if j < k ∧ j ≠ i then szL L i else 0)
  | 0, _ => by rw [if_neg (by omega), if_neg (by omega), if_neg (by omega), if_neg (by omega)]; rfl
  | k + 1, h => by
    have ih := ch_2 k (by omega)
    rw [chF_s, List.length_append, chP_len, len_ln (show k < L.length by omega), if_neg (fun z => absurd z.1 (by decide)), if_neg (fun z => absurd z.1 (by decide))]
    by_cases e : k = i
    · subst e
      rw [if_pos ⟨Or.inl rfl, rfl⟩, if_pos (show k < k + 1 by omega), if_pos (show k < k + 1 by omega)]
      rw [if_neg (show ¬ k < k by omega), if_neg (show ¬ k < k by omega)] at ih
      by_cases c : j < k
      · rw [if_pos ⟨c, by omega⟩, if_pos ⟨c, by omega⟩] at ih
        rw [if_pos ⟨by omega, by omega⟩, if_pos ⟨by omega, by omega⟩]
        show _ + ((glL L j).length + 1) + ((glL L k).length + 1) + _ = _ + ((glL L j).length + 1) + _
        omega
      · rw [if_neg (fun z => c z.1), if_neg (fun z => c z.1)] at ih
        rw [if_neg (by omega), if_neg (by omega)]
        show _ + ((glL L j).length + 1) + ((glL L k).length + 1) + _ = _ + ((glL L j).length + 1) + _
        omega
    · rw [if_neg (fun z => e z.2)]
      have ci : (i < k) ↔ (i < k + 1) := by omega
      by_cases ej : k = j
      · subst ej
        rw [if_pos ⟨rfl, rfl⟩, if_pos (show k < k + 1 ∧ k ≠ i from ⟨by omega, e⟩), if_pos (show k < k + 1 ∧ k ≠ i from ⟨by omega, e⟩)]
        rw [if_neg (show ¬ (k < k ∧ k ≠ i) by omega), if_neg (show ¬ (k < k ∧ k ≠ i) by omega)] at ih
        by_cases c : i < k
        · rw [if_pos c, if_pos c] at ih
          rw [if_pos (ci.mp c), if_pos (ci.mp c)]
          show _ + ((glL L i).length + 1) + _ + ((glL L k).length + 1) = _ + _ + ((glL L i).length + 1)
          omega
        · rw [if_neg c, if_neg c] at ih
          rw [if_neg (fun z => c (ci.mpr z)), if_neg (fun z => c (ci.mpr z))]
          show _ + ((glL L i).length + 1) + _ + ((glL L k).length + 1) = _ + _ + ((glL L i).length + 1)
          omega
      · rw [if_neg (fun z => ej z.2)]
        have cj : (j < k ∧ j ≠ i) ↔ (j < k + 1 ∧ j ≠ i) := by omega
        by_cases c : i < k
        · rw [if_pos c, if_pos c] at ih
          rw [if_pos (ci.mp c), if_pos (ci.mp c)]
          by_cases c2 : j < k ∧ j ≠ i
          · rw [if_pos c2, if_pos c2] at ih
            rw [if_pos (cj.mp c2), if_pos (cj.mp c2)]
            show _ + ((glL L k).length + 1) + _ + _ = _
            omega
          · rw [if_neg c2, if_neg c2] at ih
            rw [if_neg (fun z => c2 (cj.mpr z)), if_neg (fun z => c2 (cj.mpr z))]
            show _ + ((glL L k).length + 1) + _ + _ = _
            omega
        · rw [if_neg c, if_neg c] at ih
          rw [if_neg (fun z => c (ci.mpr z)), if_neg (fun z => c (ci.mpr z))]
          by_cases c2 : j < k ∧ j ≠ i
          · rw [if_pos c2, if_pos c2] at ih
            rw [if_pos (cj.mp c2), if_pos (cj.mp c2)]
            show _ + ((glL L k).length + 1) + _ + _ = _
            omega
          · rw [if_neg c2, if_neg c2] at ih
            rw [if_neg (fun z => c2 (cj.mpr z)), if_neg (fun z => c2 (cj.mpr z))]
            show _ + ((glL L k).length + 1) + _ + _ = _
            omega
theorem take_all : L.take L.length = L := List.take_length
theorem chL_0 (hi : i < L.length) : (txt (chL 0 i j L)).length + szL L i = (txt L).length := by
  have := ch_0 (i := i) (j := j) L.length (Nat.le_refl _)
  rw [if_pos hi, take_all] at this
  exact this
theorem chL_1 (hi : i < L.length) : (txt (chL 1 i j L)).length = (txt L).length + szL L i := by
  have := ch_1 (i := i) (j := j) L.length (Nat.le_refl _)
  rw [if_pos hi, take_all] at this
  exact this
theorem chL_3 (hi : i < L.length) : (txt (chL 3 i j L)).length + szL L i = (txt L).length + szL L j := by
  have := ch_3 (i := i) (j := j) L.length (Nat.le_refl _)
  rw [if_pos hi, if_pos hi, take_all] at this
  exact this
theorem chL_2 (hi : i < L.length) (hj : j < L.length) : (txt (chL 2 i j L)).length = (txt L).length := by
  have := ch_2 (i := i) (j := j) L.length (Nat.le_refl _)
  rw [if_pos hi, if_pos hi, take_all] at this
  have this : (txt (chL 2 i j L)).length + szL L i + (if j < L.length ∧ j ≠ i then szL L j else 0) = (txt L).length + szL L j + (if j < L.length ∧ j ≠ i then szL L i else 0) := this
  by_cases e : j = i
  · subst e
    rw [if_neg (by omega)] at this
    omega
  · rw [if_pos ⟨hj, e⟩, if_pos ⟨hj, e⟩] at this
    omega
theorem ch_mem (hi : i < L.length) (hj : j < L.length ∨ w ≤ 1) : ∀ k, k ≤ L.length → ∀ l ∈ chF w i j L k, l ∈ L
  | 0, _, l, h => by cases h
  | k + 1, hk, l, h => by
    rcases List.mem_append.mp h with z | z
    · exact ch_mem hi hj k (by omega) l z
    · have gm : ∀ x, x < L.length → glL L x ∈ L := fun x hx => getD_mem hx
      unfold chP at z
      split at z
      · cases z
      split at z
      · rcases List.mem_cons.mp z with q | q
        · rw [q]; exact gm k (by omega)
        · rw [List.mem_singleton.mp q]; exact gm k (by omega)
      · rw [List.mem_singleton.mp z]
        split
        · rename_i c
          exact gm j (hj.resolve_right (by rcases c.1 with q | q <;> omega))
        split
        · exact gm i hi
        · exact gm k (by omega)
theorem ch_cnt : ∀ k, (chF w i j L k).length ≤ k + (if w = 1 ∧ i < k then 1 else 0)
  | 0 => Nat.zero_le _
  | k + 1 => by
    have ih := ch_cnt k
    show (chF w i j L k ++ chP w i j k L).length ≤ _
    rw [List.length_append]
    have hp : (chP w i j k L).length ≤ 1 + (if w = 1 ∧ k = i then 1 else 0) := by
      unfold chP
      split
      · exact Nat.zero_le _
      split
      · exact Nat.le_refl _
      · exact Nat.le_add_right _ _
    by_cases c1 : w = 1
    · by_cases c2 : k = i
      · rw [if_pos ⟨c1, c2⟩] at hp
        rw [if_neg (by omega)] at ih
        rw [if_pos ⟨c1, by omega⟩]
        omega
      · rw [if_neg (fun z => c2 z.2)] at hp
        by_cases c3 : i < k
        · rw [if_pos ⟨c1, c3⟩] at ih; rw [if_pos ⟨c1, by omega⟩]; omega
        · rw [if_neg (fun z => c3 z.2)] at ih; rw [if_neg (fun z => absurd z.2 (by omega))]; omega
    · rw [if_neg (fun z => c1 z.1)] at hp ih
      rw [if_neg (fun z => c1 z.1)]
      omega
theorem gl_last (h : L ≠ []) : glL L (L.length - 1) = L.getLastD [] := by
  rcases List.eq_nil_or_concat L with e | ⟨l, a, e⟩
  · exact absurd e h
  · rw [List.concat_eq_append] at e
    subst e
    show (l ++ [a]).getD _ [] = _
    rw [List.getLastD_concat, List.length_append, List.length_singleton, Nat.add_sub_cancel, List.getD_eq_getElem?_getD, List.getElem?_append_right (Nat.le_refl _), Nat.sub_self]; rfl
/-- a changed trial is a trial -/
theorem TrO.ch (h : TrO L) (hi : i + 1 < L.length) (hj : j + 1 < L.length ∨ w ≤ 1) (h60 : w = 1 → L.length ≠ 60) (hl : (txt (chL w i j L)).length ≤ 1200) : TrO (chL w i j L) := by
  obtain ⟨⟨h1, h2⟩, h3, h4, x, hx⟩ := h
  obtain ⟨n, hn⟩ : ∃ n, L.length = n + 1 := ⟨L.length - 1, by omega⟩
  have e : chL w i j L = chF w i j L n ++ [glL L n] := by
    show chF w i j L L.length = _
    rw [hn]
    show chF w i j L n ++ chP w i j n L = _
    unfold chP
    rw [if_neg (by omega), if_neg (by omega), if_neg (by omega)]
    congr 2
    rw [if_neg (fun z => by
      rcases hj with q | q
      · omega
      · omega)]
  have el : (chL w i j L).getLastD [] = L.getLastD [] := by
    rw [e, List.getLastD_concat, ← gl_last h1, hn, Nat.add_sub_cancel]
  refine ⟨⟨by rw [e]; simp, ?_⟩, by omega, fun l hl => h4 l (ch_mem (by omega) (hj.imp (fun z => by omega) id) _ (Nat.le_refl _) l hl), x, by rw [el]; exact hx⟩
  have := ch_cnt (w := w) (i := i) (j := j) (L := L) L.length
  by_cases c : w = 1
  · rw [if_pos ⟨c, by omega⟩] at this
    have := h60 c
    show (chF w i j L L.length).length ≤ 60
    omega
  · rw [if_neg (fun z => c z.1)] at this
    show (chF w i j L L.length).length ≤ 60
    omega
end
