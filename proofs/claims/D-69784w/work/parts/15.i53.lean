/-! HOW LONG A TEXT IS: methods and classes -/
theorem take_s {α : Type} {l : List α} {k : Nat} {d : α} (h : k < l.length) : l.take (k + 1) = l.take k ++ [l.getD k d] := by
  rw [List.take_add_one, List.getElem?_eq_getElem h]
  show _ ++ [_] = _
  congr 2
  rw [List.getD_eq_getElem?_getD, List.getElem?_eq_getElem h]; rfl
noncomputable def costC (c : Cls) : Nat := (txHe c).length + (txFc c c.2.2.1.length).length + 5 + (c.2.2.2.2.1.map (fun f => (txFd f).length)).sum + (c.2.2.2.2.2.map (fun m => (txM m).length)).sum
theorem txFds_len {c : Cls} : ∀ k, k ≤ c.2.2.2.2.1.length → (txFds c k).length = ((c.2.2.2.2.1.take k).map (fun f => (txFd f).length)).sum
  | 0, _ => rfl
  | k + 1, h => by
    rw [take_s (d := ([], (0, []), 0, 0, false)) (by omega), List.map_append, List.sum_append, ← txFds_len k (by omega)]
    show (txFds c k ++ txFd (gfl c k)).length = _
    rw [List.length_append]; rfl
theorem txMs_len {c : Cls} : ∀ k, k ≤ c.2.2.2.2.2.length → (txMs c k).length = ((c.2.2.2.2.2.take k).map (fun m => (txM m).length)).sum
  | 0, _ => rfl
  | k + 1, h => by
    rw [take_s (d := ([], [], (0, []), 0, 0, 0, [], [])) (by omega), List.map_append, List.sum_append, ← txMs_len k (by omega)]
    show (txMs c k ++ txM (gmt c k)).length = _
    rw [List.length_append]; rfl
theorem txC_len {c : Cls} : (txC c).length = costC c := by
  have h1 := txFds_len (c := c) _ (Nat.le_refl _)
  have h2 := txMs_len (c := c) _ (Nat.le_refl _)
  rw [List.take_length] at h1 h2
  have e : (stW 14).length = 3 := by decide +kernel
  unfold txC costC
  simp only [List.length_append, List.length_singleton, h1, h2, e]
  omega
theorem txFc_cg {c c' : Cls} (h : c.2.2.1 = c'.2.2.1) : ∀ k, txFc c k = txFc c' k
  | 0 => rfl
  | k + 1 => by
    show txFc c k ++ ([44, 32] ++ c.2.2.1.getD k []) = txFc c' k ++ ([44, 32] ++ c'.2.2.1.getD k [])
    rw [txFc_cg h k, h]
theorem cost_F {a b : Nm} {fs : List Nm} {fl : Int32} {F : List Fld} {m : List Mth} {f : Fld} : costC (a, b, fs, fl, F ++ [f], m) = costC (a, b, fs, fl, F, m) + (txFd f).length := by
  unfold costC
  rw [txFc_cg (c := (a, b, fs, fl, F ++ [f], m)) (c' := (a, b, fs, fl, F, m)) rfl]
  show (txHe (a, b, fs, fl, F, m)).length + _ + 5 + ((F ++ [f]).map (fun f => (txFd f).length)).sum + _ = (txHe (a, b, fs, fl, F, m)).length + _ + 5 + (F.map (fun f => (txFd f).length)).sum + _ + _
  rw [List.map_append, List.sum_append]
  simp only [List.map_cons, List.map_nil, List.sum_cons, List.sum_nil]
  omega
theorem cost_M {a b : Nm} {fs : List Nm} {fl : Int32} {F : List Fld} {m : List Mth} {x : Mth} : costC (a, b, fs, fl, F, m ++ [x]) = costC (a, b, fs, fl, F, m) + (txM x).length := by
  unfold costC
  rw [txFc_cg (c := (a, b, fs, fl, F, m ++ [x])) (c' := (a, b, fs, fl, F, m)) rfl]
  show (txHe (a, b, fs, fl, F, m)).length + _ + 5 + _ + ((m ++ [x]).map (fun m => (txM m).length)).sum = (txHe (a, b, fs, fl, F, m)).length + _ + 5 + _ + (m.map (fun m => (txM m).length)).sum + _
  rw [List.map_append, List.sum_append]
  simp only [List.map_cons, List.map_nil, List.sum_cons, List.sum_nil]
  omega
theorem fl1_le {b c : Int32} {n : Nm} : (fl1 b c n).length ≤ n.length + 1 := by
  unfold fl1
  split
  · exact Nat.zero_le _
  · rw [List.length_append]; exact Nat.le_refl _
theorem txF_le {b : Int32} : (txF b).length ≤ 30 := by
  unfold txF
  simp only [List.length_append]
  have h1 := fl1_le (b := b) (c := 1) (n := wA 52)
  have h2 := fl1_le (b := b) (c := 2) (n := wA 69)
  have h3 := fl1_le (b := b) (c := 4) (n := wA 72)
  have h4 := fl1_le (b := b) (c := 8) (n := wA 70)
  have e1 : (wA 52).length = 6 := by decide +kernel
  have e2 : (wA 69).length = 5 := by decide +kernel
  have e3 : (wA 72).length = 7 := by decide +kernel
  have e4 : (wA 70).length = 8 := by decide +kernel
  omega
theorem txMh_le {x : Mth} : (txMh x).length ≤ 39 + x.1.length + mK x.2.1 + (kdW x.2.2.1).length + 3 := by
  unfold txMh
  have e : (stW 34).length = 8 := by decide +kernel
  simp only [List.length_append, List.length_singleton, e]
  have h1 := txF_le (b := x.2.2.2.1)
  have h2 := txT_le (ks := x.2.1) (κ := x.2.2.1)
  omega
theorem txRm_le {x : Mth} : (txRm x).length ≤ 35 := by
  unfold txRm
  have e : (stW 37).length = 7 := by decide +kernel
  simp only [List.length_append, List.length_singleton, e]
  have h1 := dgi_len (v := x.2.2.2.2.1)
  have h2 := dgi_len (v := x.2.2.2.2.2.1)
  omega
theorem txFd_le {x : Fld} : (txFd x).length ≤ 39 + x.1.length + (kdW x.2.1).length + (if x.2.2.2.2 = true then 16 else 0) := by
  unfold txFd
  have e : (stW 29).length = 7 := by decide +kernel
  have e2 : (stW 33).length = 3 := by decide +kernel
  have h1 := txF_le (b := x.2.2.1)
  have h2 := dgi_len (v := x.2.2.2.1)
  simp only [List.length_append, List.length_singleton, e]
  split
  · rw [List.length_append, e2]; omega
  · rw [List.length_nil]; omega
theorem txL_le {x : Mth} {k : Nat} : (txL x k).length ≤ 14 := by
  unfold txL
  rw [List.length_append, List.length_singleton]
  have := dgi_len (v := Int32.ofNat (rnk (tls x) k))
  omega
theorem txP_le {x : Mth} {l : List Nat} : ∀ k, (txP x l k).length ≤ 16 * k
  | 0 => Nat.le_refl _
  | k + 1 => by
    have ih := txP_le (x := x) (l := l) k
    show (txP x l k ++ ((if k = 0 then [32] else [44, 32]) ++ txL x (gtn l k))).length ≤ _
    rw [List.length_append, List.length_append]
    have h1 := txL_le (x := x) (k := gtn l k)
    have h2 : (if k = 0 then [(32 : Int32)] else [44, 32]).length ≤ 2 := by split <;> decide
    omega
/-- what an instruction may print -/
def cFo (o : Option (List Kd × List Kd)) : Nat := match o with
  | none => 0
  | some f => mK f.1 + mK f.2 + 9
def cPI (i : PI) : Nat := cFo i.2.2.1 + 3 + (wA i.1).length + cO i.1 i.2.1
theorem txFo_le {o : Option (List Kd × List Kd)} : (txFo o).length ≤ cFo o := by
  cases o with
  | none => exact Nat.le_refl _
  | some f => exact txFr_le
theorem txIn_le {x : Mth} {ls : List Lb} {i : PI} : (txIn x (insOf ls i)).length ≤ (wA i.1).length + cO i.1 i.2.1 := by
  unfold txIn cO
  simp only [List.length_append]
  show (wA i.1).length + (tI1 (insOf ls i)).length + _ + _ + _ + _ + _ + _ + _ ≤ _
  have h1 : (tI1 (insOf ls i)).length ≤ if i.1 = 1 ∨ (3 ≤ i.1 ∧ i.1 ≤ 7) ∨ i.1 = 40 then 14 else 0 := by
    unfold tI1
    show (if i.1 = 1 ∨ (3 ≤ i.1 ∧ i.1 ≤ 7) ∨ i.1 = 40 then _ else _ : List Int32).length ≤ _
    have := dgi_len (v := iV (insOf ls i))
    split
    · rw [List.length_append, List.length_singleton]; omega
    · exact Nat.le_refl _
  have h2 : (tI2 (insOf ls i)).length ≤ if i.1 = 7 then 14 else 0 := by
    unfold tI2
    show (if i.1 = 7 then _ else _ : List Int32).length ≤ _
    have := dgi_len (v := (insOf ls i).2.2.1)
    split
    · rw [List.length_append, List.length_singleton]; omega
    · exact Nat.le_refl _
  have h3 : (tI3 x (insOf ls i)).length ≤ if isJ i.1 then 15 else 0 := by
    unfold tI3
    show (if isJ i.1 then _ else _ : List Int32).length ≤ _
    have := txL_le (x := x) (k := gtn (iT (insOf ls i)) 0)
    split
    · rw [List.length_append, List.length_singleton]; omega
    · exact Nat.le_refl _
  have h4 : (tI4 x (insOf ls i)).length ≤ if i.1 = 40 then 16 * i.2.1.2.2.1.length else 0 := by
    unfold tI4
    show (if i.1 = 40 then _ else _ : List Int32).length ≤ _
    have := txP_le (x := x) (l := iT (insOf ls i)) (iT (insOf ls i)).length
    have e : (iT (insOf ls i)).length = i.2.1.2.2.1.length := by
      show (i.2.1.2.2.1.map _).length = _
      rw [List.length_map]
    split
    · rw [← e]; exact this
    · exact Nat.le_refl _
  have h5 : (tI5 (insOf ls i)).length ≤ if i.1 = 41 ∨ (46 ≤ i.1 ∧ i.1 ≤ 55) then 1 + i.2.1.2.2.2.1.length else 0 := by
    unfold tI5
    show (if i.1 = 41 ∨ (46 ≤ i.1 ∧ i.1 ≤ 55) then [32] ++ i.2.1.2.2.2.1 else _ : List Int32).length ≤ _
    split
    · rw [List.length_append, List.length_singleton]; exact Nat.le_refl _
    · exact Nat.le_refl _
  have h6 : (tI6 (insOf ls i)).length ≤ if 46 ≤ i.1 ∧ i.1 ≤ 53 then 1 + i.2.1.2.2.2.2.1.length else 0 := by
    unfold tI6
    show (if 46 ≤ i.1 ∧ i.1 ≤ 53 then [46] ++ i.2.1.2.2.2.2.1 else _ : List Int32).length ≤ _
    split
    · rw [List.length_append, List.length_singleton]; exact Nat.le_refl _
    · exact Nat.le_refl _
  have h7 : (tI7 (insOf ls i)).length ≤ if isFo i.1 then 1 + (kdW i.2.1.2.2.2.2.2.2).length else 0 := by
    unfold tI7
    show (if isFo i.1 then [32] ++ kdW i.2.1.2.2.2.2.2.2 else _ : List Int32).length ≤ _
    split
    · rw [List.length_append, List.length_singleton]; exact Nat.le_refl _
    · exact Nat.le_refl _
  have h8 : (tI8 (insOf ls i)).length ≤ if isMo i.1 then mK i.2.1.2.2.2.2.2.1 + (kdW i.2.1.2.2.2.2.2.2).length + 3 else 0 := by
    unfold tI8
    show (if isMo i.1 then txT i.2.1.2.2.2.2.2.1 i.2.1.2.2.2.2.2.2 else _ : List Int32).length ≤ _
    split
    · exact txT_le
    · exact Nat.le_refl _
  omega
def cFp (f : Option (List Kd × List Kd × Nat)) : Nat := match f with
  | none => 0
  | some f => mK f.1 + mK f.2.1 + 9
/-- what a method may print while its lines come -/
def muP (p : PM) : Nat := (txMh p.1).length + 35 + (p.2.1.map cPI).sum + 68 * p.2.2.1.length + 18 * p.2.2.2.1.length + cFp p.2.2.2.2
theorem cnt_s (m : Nat) : ∀ L : List Lb, (L.filter (fun l => decide (l.2.1 < m + 1))).length = (L.filter (fun l => decide (l.2.1 < m))).length + (L.filter (fun l => decide (l.2.1 = m))).length
  | [] => rfl
  | a :: L => by
    have ih := cnt_s m L
    simp only [List.filter_cons]
    by_cases c1 : a.2.1 < m
    · rw [if_pos (decide_eq_true (show a.2.1 < m + 1 by omega)), if_pos (decide_eq_true c1), if_neg (by simp; omega), List.length_cons, List.length_cons]
      omega
    by_cases c2 : a.2.1 = m
    · rw [if_pos (decide_eq_true (show a.2.1 < m + 1 by omega)), if_neg (by simp; omega), if_pos (decide_eq_true c2), List.length_cons, List.length_cons]
      omega
    · rw [if_neg (by simp; omega), if_neg (by simp; omega), if_neg (by simp; omega)]
      exact ih
theorem rnk_cnt {T : Nat → Bool} {L : List Lb} (h : ∀ k, T k = true → ∃ l ∈ L, l.2.1 = k) : ∀ m, rnk T m ≤ (L.filter (fun l => decide (l.2.1 < m))).length
  | 0 => Nat.zero_le _
  | m + 1 => by
    have ih := rnk_cnt h m
    rw [cnt_s]
    show rnk T m + (if T m = true then 1 else 0) ≤ _
    split
    · rename_i c
      obtain ⟨l, hl, e⟩ := h m c
      have : 0 < (L.filter (fun l => decide (l.2.1 = m))).length := List.length_pos_of_mem (List.mem_filter.2 ⟨hl, decide_eq_true e⟩)
      omega
    · omega
theorem rnk_len {T : Nat → Bool} {L : List Lb} (h : ∀ k, T k = true → ∃ l ∈ L, l.2.1 = k) (m : Nat) : rnk T m ≤ L.length := Nat.le_trans (rnk_cnt h m) (List.length_filter_le _ _)
theorem txCs_le {x : Mth} {ls : List Lb} {I : List PI} (hc : co x = I.map (insOf ls)) : ∀ k, k ≤ I.length → (txCs x k).length ≤ ((I.take k).map cPI).sum + 18 * rnk (tls x) k
  | 0, _ => Nat.zero_le _
  | k + 1, h => by
    have ih := txCs_le hc k (by omega)
    rw [take_s (d := (0, noO, none, 0)) (by omega), List.map_append, List.sum_append]
    show (txCs x k ++ txC1 x k).length ≤ _
    have er : rnk (tls x) (k + 1) = rnk (tls x) k + (if tls x k = true then 1 else 0) := rfl
    have eg : gin (co x) k = insOf ls (I.getD k (0, noO, none, 0)) := by
      show (co x).getD k _ = _
      rw [hc, List.getD_eq_getElem?_getD, List.getElem?_map, List.getD_eq_getElem?_getD, List.getElem?_eq_getElem (by omega)]; rfl
    generalize I.getD k (0, noO, none, 0) = i at eg ⊢
    have h1 : (txC1 x k).length ≤ cPI i + 18 * (if tls x k = true then 1 else 0) := by
      unfold txC1 txHd cPI
      rw [eg]
      have a1 := txFo_le (o := iF (insOf ls i))
      have a2 := txIn_le (x := x) (ls := ls) (i := i)
      have a3 := txL_le (x := x) (k := k)
      have a1 : (txFo (iF (insOf ls i))).length ≤ cFo i.2.2.1 := a1
      simp only [List.length_append, List.length_cons, List.length_nil]
      split
      · simp only [List.length_append, List.length_cons, List.length_nil]; omega
      · rw [List.length_nil]; omega
    rw [List.length_append, er]
    simp only [List.map_cons, List.map_nil, List.sum_cons, List.sum_nil]
    omega
theorem txHs_le {x : Mth} (h : ∀ y ∈ hs x, y.2.2.2.length ≤ 12) : ∀ k, k ≤ (hs x).length → (txHs x k).length ≤ 68 * k
  | 0, _ => Nat.le_refl _
  | k + 1, hk => by
    have ih := txHs_le h k (by omega)
    show (txHs x k ++ txHn x (ghn (hs x) k)).length ≤ _
    have h1 := txL_le (x := x) (k := (ghn (hs x) k).1)
    have h2 := txL_le (x := x) (k := (ghn (hs x) k).2.1)
    have h3 := txL_le (x := x) (k := (ghn (hs x) k).2.2.1)
    have h4 := h (ghn (hs x) k) (getD_mem (by omega))
    have e : (stW 41).length = 10 := by decide +kernel
    unfold txHn
    simp only [List.length_append, List.length_singleton, e]
    omega
theorem told_ex {p : PM} {line : Nat} {m : Mth} (he : endM line p = .inr m) : m = mthOf p ∧ ∀ k, tls m k = true → ∃ l ∈ p.2.2.2.1, l.2.1 = k := by
  unfold endM at he
  split at he
  · cases he
  rename_i e9
  split at he
  · cases he
  by_cases c0 : p.2.1.length = 0
  · rw [if_pos c0] at he; cases he
  rw [if_neg c0] at he
  cases he
  refine ⟨rfl, fun k hk => ?_⟩
  rw [minL_none] at e9
  unfold lines9 at e9
  have e9b := (List.append_eq_nil_iff.mp e9).2
  have e9i := (List.append_eq_nil_iff.mp e9b).1
  have e9c := (List.append_eq_nil_iff.mp e9b).2
  have e9h := (List.append_eq_nil_iff.mp e9c).1
  have ex : ∀ nm may, bad9 p.2.2.2.1 p.2.1.length nm may = false → ∃ l ∈ p.2.2.2.1, l.2.1 = lbN p.2.2.2.1 nm := fun nm may hb => by
    unfold bad9 at hb
    unfold lbN
    cases e : lbl p.2.2.2.1 nm with
    | none => rw [e] at hb; cases hb
    | some k => exact lblm_ex e
  rcases tls_iff.1 hk with ⟨i, hi, hm⟩ | ⟨i, hi, hm⟩
  · have hi2 : gin (co (mthOf p)) i ∈ co (mthOf p) := getD_mem hi
    obtain ⟨j, hj, e⟩ := List.mem_map.mp (show gin (co (mthOf p)) i ∈ p.2.1.map (insOf p.2.2.2.1) from hi2)
    rw [← e] at hm
    obtain ⟨nm, hn, e2⟩ := List.mem_map.mp (show k ∈ j.2.1.2.2.1.map (lbN p.2.2.2.1) from hm)
    have hb := flat_nil e9i j hj
    have hb2 : ¬ (j.2.1.2.2.1.any (fun nm => bad9 p.2.2.2.1 p.2.1.length nm false)) = true := fun q => by
      rw [if_pos q] at hb; cases hb
    have hb3 : bad9 p.2.2.2.1 p.2.1.length nm false = false := by
      cases q : bad9 p.2.2.2.1 p.2.1.length nm false with
      | false => rfl
      | true => exact absurd (List.any_eq_true.mpr ⟨nm, hn, q⟩) hb2
    rw [← e2]; exact ex nm false hb3
  · have hi2 : ghn (hs (mthOf p)) i ∈ hs (mthOf p) := getD_mem hi
    obtain ⟨j, hj, e⟩ := List.mem_map.mp (show ghn (hs (mthOf p)) i ∈ p.2.2.1.map (hndOf p.2.2.2.1) from hi2)
    rw [← e] at hm
    have hb := flat_nil e9h j hj
    have hb2 : (bad9 p.2.2.2.1 p.2.1.length j.1 false || (bad9 p.2.2.2.1 p.2.1.length j.2.1 true || bad9 p.2.2.2.1 p.2.1.length j.2.2.1 false)) = false := by
      cases q : (bad9 p.2.2.2.1 p.2.1.length j.1 false || (bad9 p.2.2.2.1 p.2.1.length j.2.1 true || bad9 p.2.2.2.1 p.2.1.length j.2.2.1 false)) with
      | false => rfl
      | true => rw [if_pos q] at hb; cases hb
    rw [Bool.or_eq_false_iff, Bool.or_eq_false_iff] at hb2
    rcases hm with z | z | z
    · rw [z]; exact ex _ _ hb2.1
    · rw [z]; exact ex _ _ hb2.2.1
    · rw [z]; exact ex _ _ hb2.2.2
/-- a method that is finished prints no more than its lines -/
theorem txM_mu {p : PM} {line : Nat} {m : Mth} (hk : ∀ h ∈ p.2.2.1, h.2.2.2.1.length ≤ 12) (he : endM line p = .inr m) : (txM m).length ≤ muP p := by
  obtain ⟨em, ht⟩ := told_ex he
  subst em
  unfold txM muP
  rw [List.length_append]
  have e0 : txMh (mthOf p) = txMh p.1 := rfl
  rw [e0]
  split
  · have lc : (co (mthOf p)).length = p.2.1.length := List.length_map _
    have lh : (hs (mthOf p)).length = p.2.2.1.length := List.length_map _
    have h1 := txCs_le (x := mthOf p) (ls := p.2.2.2.1) (I := p.2.1) rfl p.2.1.length (Nat.le_refl _)
    rw [List.take_length] at h1
    have h2 := txHs_le (x := mthOf p) (fun y hy => by
      obtain ⟨j, hj, e⟩ := List.mem_map.mp (show y ∈ p.2.2.1.map (hndOf p.2.2.2.1) from hy)
      rw [← e]; exact hk j hj) (hs (mthOf p)).length (Nat.le_refl _)
    have h3 := rnk_len ht (p.2.1.length + 1)
    have er : rnk (tls (mthOf p)) (p.2.1.length + 1) = rnk (tls (mthOf p)) p.2.1.length + (if tls (mthOf p) p.2.1.length = true then 1 else 0) := rfl
    have h4 : (txEl (mthOf p)).length ≤ 18 * (if tls (mthOf p) p.2.1.length = true then 1 else 0) := by
      unfold txEl
      rw [lc]
      have := txL_le (x := mthOf p) (k := p.2.1.length)
      split
      · simp only [List.length_append, List.length_cons, List.length_nil]; omega
      · exact Nat.le_refl _
    have h5 := txRm_le (x := mthOf p)
    simp only [List.length_append]
    rw [lc]
    rw [lh] at h2 ⊢
    omega
  · rw [List.length_nil]; omega
