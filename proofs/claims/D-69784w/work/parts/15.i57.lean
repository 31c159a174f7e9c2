/-! WHAT IS WRITTEN TELLS WHAT IT IS: kinds, labels -/
/-- kinds as they come out of a text -/
def kNf (κ : Kd) : Prop := κ = (0, []) ∨ κ = (1, []) ∨ κ = (-4, []) ∨ κ = (-1, []) ∨ κ = (-2, []) ∨ κ = (-3, []) ∨ (κ.1 = 2 ∧ κ.2 ∉ noCls ∧ wcL κ.2)
theorem kdW_two {κ : Kd} (h : κ.1 = 2) : kdW κ = κ.2 := by
  unfold kdW
  rw [h, if_neg (by decide), if_neg (by decide), if_neg (by decide), if_neg (by decide), if_neg (by decide), if_neg (by decide)]
theorem kdW_in {κ : Kd} (h : kNf κ) : (κ.1 ≠ 2 ∧ kdW κ ∈ noCls) ∨ (κ.1 = 2 ∧ kdW κ = κ.2 ∧ κ.2 ∉ noCls) := by
  rcases h with e | e | e | e | e | e | e
  · exact Or.inl ⟨by rw [e]; decide, by rw [e]; decide +kernel⟩
  · exact Or.inl ⟨by rw [e]; decide, by rw [e]; decide +kernel⟩
  · exact Or.inl ⟨by rw [e]; decide, by rw [e]; decide +kernel⟩
  · exact Or.inl ⟨by rw [e]; decide, by rw [e]; decide +kernel⟩
  · exact Or.inl ⟨by rw [e]; decide, by rw [e]; decide +kernel⟩
  · exact Or.inl ⟨by rw [e]; decide, by rw [e]; decide +kernel⟩
  · exact Or.inr ⟨e.1, kdW_two e.1, e.2.1⟩
theorem kd6 : ∀ a ∈ ([(0, []), (1, []), (-4, []), (-1, []), (-2, []), (-3, [])] : List Kd), ∀ b ∈ ([(0, []), (1, []), (-4, []), (-1, []), (-2, []), (-3, [])] : List Kd), kdW a = kdW b → a = b := by decide +kernel
theorem kNf_6 {κ : Kd} (h : kNf κ) (h2 : κ.1 ≠ 2) : κ ∈ ([(0, []), (1, []), (-4, []), (-1, []), (-2, []), (-3, [])] : List Kd) := by
  rcases h with e | e | e | e | e | e | e
  · rw [e]; simp
  · rw [e]; simp
  · rw [e]; simp
  · rw [e]; simp
  · rw [e]; simp
  · rw [e]; simp
  · exact absurd e.1 h2
theorem kdW_inj {a b : Kd} (ha : kNf a) (hb : kNf b) (h : kdW a = kdW b) : a = b := by
  rcases kdW_in ha with ⟨a1, a2⟩ | ⟨a1, a2, a3⟩ <;> rcases kdW_in hb with ⟨b1, b2'⟩ | ⟨b1, b2', b3⟩
  · exact kd6 a (kNf_6 ha a1) b (kNf_6 hb b1) h
  · rw [h, b2'] at a2; exact absurd a2 b3
  · rw [← h, a2] at b2'; exact absurd b2' a3
  · obtain ⟨x, y⟩ := a
    obtain ⟨x', y'⟩ := b
    have a1 : x = 2 := a1
    have b1 : x' = 2 := b1
    rw [a2, b2'] at h
    have h : y = y' := h
    rw [a1, b1, h]
theorem noCls_wc : ∀ w ∈ noCls, wcL w := by
  have h1 : ∀ w ∈ noCls, w ≠ [] := by decide +kernel
  have h2 : ∀ w ∈ noCls, ∀ c ∈ w, wc c = true := by decide +kernel
  exact fun w hw => ⟨h1 w hw, h2 w hw⟩
theorem kdW_wc {κ : Kd} (h : kNf κ) : wcL (kdW κ) := by
  rcases kdW_in h with ⟨a1, a2⟩ | ⟨a1, a2, a3⟩
  · exact noCls_wc _ a2
  · rw [a2]
    rcases h with e | e | e | e | e | e | e
    · rw [e] at a1; exact absurd a1 (by decide)
    · rw [e] at a1; exact absurd a1 (by decide)
    · rw [e] at a1; exact absurd a1 (by decide)
    · rw [e] at a1; exact absurd a1 (by decide)
    · rw [e] at a1; exact absurd a1 (by decide)
    · rw [e] at a1; exact absurd a1 (by decide)
    · exact e.2.2
/-- words with commas between -/
def aW : List (List Int32) → List Atm
  | [] => []
  | w :: r => .inl w :: r.flatMap (fun w => [.inr 44, .inr 32, .inl w])
def tW (f : List Int32) : List (List Int32) → List Int32
  | [] => []
  | w :: r => f ++ w ++ r.flatMap (fun w => [44, 32] ++ w)
theorem tX_fm : ∀ r : List (List Int32), tX (r.flatMap (fun w => [.inr 44, .inr 32, .inl w])) = r.flatMap (fun w => [44, 32] ++ w)
  | [] => rfl
  | w :: r => by
    rw [List.flatMap_cons, List.flatMap_cons, tX_app, tX_fm r]
    show (44 :: 32 :: (w ++ [])) ++ _ = _
    rw [List.append_nil]; rfl
theorem tX_aW {f : List Atm} {ws : List (List Int32)} (h : ws ≠ []) : tX (f ++ aW ws) = tW (tX f) ws := by
  cases ws with
  | nil => exact absurd rfl h
  | cons w r =>
    rw [tX_app]
    show tX f ++ (w ++ tX (r.flatMap _)) = tX f ++ w ++ r.flatMap _
    rw [tX_fm, List.append_assoc]
theorem tW_app {f : List Int32} {ws : List (List Int32)} {w : List Int32} : tW f (ws ++ [w]) = tW f ws ++ ((if ws = [] then f else [44, 32]) ++ w) := by
  cases ws with
  | nil =>
    rw [if_pos rfl]
    show f ++ w ++ [] = [] ++ (f ++ w)
    rw [List.append_nil, List.nil_append]
  | cons a r =>
    rw [if_neg (by simp)]
    show f ++ a ++ (r ++ [w]).flatMap (fun w => [44, 32] ++ w) = f ++ a ++ r.flatMap (fun w => [44, 32] ++ w) ++ ([44, 32] ++ w)
    rw [List.flatMap_append, ← List.append_assoc]
    congr 1
    show ([44, 32] ++ w) ++ [] = _
    rw [List.append_nil]
theorem txS_tW {f : List Int32} {ks : List Kd} : ∀ k, k ≤ ks.length → txS f ks k = tW f ((ks.take k).map kdW)
  | 0, _ => rfl
  | k + 1, h => by
    rw [take_s (d := (0, [])) (by omega), List.map_append]
    show txS f ks k ++ ((if k = 0 then f else [44, 32]) ++ kdW (gk ks k)) = tW f ((ks.take k).map kdW ++ [kdW (gk ks k)])
    rw [tW_app, txS_tW k (by omega)]
    have e : (ks.take k).map kdW = [] ↔ k = 0 := by
      rw [List.map_eq_nil_iff, List.take_eq_nil_iff]
      constructor
      · rintro (z | z)
        · exact z
        · rw [z] at h; exact absurd h (by simp)
      · exact Or.inl
    by_cases c : k = 0
    · rw [if_pos c, if_pos (e.2 c)]
    · rw [if_neg c, if_neg (fun z => c (e.1 z))]
theorem txS_all' {f : List Int32} {ks : List Kd} : txS f ks ks.length = tW f (ks.map kdW) := by
  have := txS_tW (f := f) (ks := ks) ks.length (Nat.le_refl _)
  rw [List.take_length] at this
  exact this
theorem txP_tW {x : Mth} {l : List Nat} : ∀ k, k ≤ l.length → txP x l k = tW [32] ((l.take k).map (txL x))
  | 0, _ => rfl
  | k + 1, h => by
    rw [take_s (d := 0) (by omega), List.map_append]
    show txP x l k ++ ((if k = 0 then [32] else [44, 32]) ++ txL x (gtn l k)) = tW [32] ((l.take k).map (txL x) ++ [txL x (gtn l k)])
    rw [tW_app, txP_tW k (by omega)]
    have e : (l.take k).map (txL x) = [] ↔ k = 0 := by
      rw [List.map_eq_nil_iff, List.take_eq_nil_iff]
      constructor
      · rintro (z | z)
        · exact z
        · rw [z] at h; exact absurd h (by simp)
      · exact Or.inl
    by_cases c : k = 0
    · rw [if_pos c, if_pos (e.2 c)]
    · rw [if_neg c, if_neg (fun z => c (e.1 z))]
theorem txP_all' {x : Mth} {l : List Nat} : txP x l l.length = tW [32] (l.map (txL x)) := by
  have := txP_tW (x := x) (l := l) l.length (Nat.le_refl _)
  rw [List.take_length] at this
  exact this
theorem aW_ok : ∀ {ws : List (List Int32)}, (∀ w ∈ ws, wcL w) → okA false (aW ws)
  | [], _ => trivial
  | w :: r, h => by
    refine ⟨⟨rfl, h w (List.mem_cons_self ..)⟩, ?_⟩
    have : ∀ (r : List (List Int32)) (p : Bool), (∀ w ∈ r, wcL w) → okA p (r.flatMap (fun w => [.inr 44, .inr 32, .inl w])) := by
      intro r
      induction r with
      | nil => intro p h; trivial
      | cons a r ih =>
        intro p h
        exact ⟨by decide, by decide, ⟨rfl, h a (List.mem_cons_self ..)⟩, ih true (fun w hw => h w (List.mem_cons_of_mem _ hw))⟩
    exact this r true (fun w hw => h w (List.mem_cons_of_mem _ hw))
theorem aW_10 : ∀ {ws : List (List Int32)}, (Sum.inr 10 : Atm) ∉ aW ws
  | [], h => by cases h
  | w :: r, h => by
    rcases List.mem_cons.1 h with e | e
    · cases e
    · obtain ⟨a, ha, hb⟩ := List.mem_flatMap.1 e
      simp at hb
/-- a sign that ends words with commas -/
def eSg (s : List Atm) : Prop := s = [] ∨ ∃ c r, s = .inr c :: r ∧ c ≠ 44
theorem fm_inj : ∀ (r r' : List (List Int32)) (s s' : List Atm), eSg s → eSg s' → r.flatMap (fun w => [.inr 44, .inr 32, .inl w]) ++ s = r'.flatMap (fun w => [.inr 44, .inr 32, .inl w]) ++ s' → r = r' ∧ s = s'
  | [], [], s, s', _, _, h => ⟨rfl, h⟩
  | [], a :: r', s, s', h1, _, h => by
    rcases h1 with e | ⟨c, t, e, hc⟩
    · rw [e] at h; cases h
    · rw [e] at h
      have h : (.inr c :: t : List Atm) = .inr 44 :: _ := h
      injection h with e1 _
      injection e1 with e1
      exact absurd e1 hc
  | a :: r, [], s, s', _, h2, h => by
    rcases h2 with e | ⟨c, t, e, hc⟩
    · rw [e] at h; cases h
    · rw [e] at h
      have h : (.inr 44 :: _ : List Atm) = .inr c :: t := h
      injection h with e1 _
      injection e1 with e1
      exact absurd e1.symm hc
  | a :: r, a' :: r', s, s', h1, h2, h => by
    have h : (.inr 44 :: .inr 32 :: .inl a :: (r.flatMap (fun w => [.inr 44, .inr 32, .inl w]) ++ s) : List Atm) = .inr 44 :: .inr 32 :: .inl a' :: (r'.flatMap (fun w => [.inr 44, .inr 32, .inl w]) ++ s') := h
    injection h with _ h
    injection h with _ h
    injection h with e1 h
    injection e1 with e1
    obtain ⟨e2, e3⟩ := fm_inj r r' s s' h1 h2 h
    exact ⟨by rw [e1, e2], e3⟩
theorem aW_inj {ws ws' : List (List Int32)} {s s' : List Atm} (h1 : eSg s) (h2 : eSg s') (h : aW ws ++ s = aW ws' ++ s') : ws = ws' ∧ s = s' := by
  cases ws with
  | nil =>
    cases ws' with
    | nil => exact ⟨rfl, h⟩
    | cons a r =>
      rcases h1 with e | ⟨c, t, e, hc⟩
      · rw [e] at h; cases h
      · rw [e] at h
        have h : (.inr c :: t : List Atm) = .inl a :: _ := h
        injection h with e1 _
        cases e1
  | cons a r =>
    cases ws' with
    | nil =>
      rcases h2 with e | ⟨c, t, e, hc⟩
      · rw [e] at h; cases h
      · rw [e] at h
        have h : (.inl a :: _ : List Atm) = .inr c :: t := h
        injection h with e1 _
        cases e1
    | cons a' r' =>
      have h : (.inl a :: (r.flatMap (fun w => [.inr 44, .inr 32, .inl w]) ++ s) : List Atm) = .inl a' :: (r'.flatMap (fun w => [.inr 44, .inr 32, .inl w]) ++ s') := h
      injection h with e1 h
      injection e1 with e1
      obtain ⟨e2, e3⟩ := fm_inj r r' s s' h1 h2 h
      exact ⟨by rw [e1, e2], e3⟩
theorem map_kdW {a b : List Kd} (ha : ∀ κ ∈ a, kNf κ) (hb : ∀ κ ∈ b, kNf κ) (h : a.map kdW = b.map kdW) : a = b := by
  induction a generalizing b with
  | nil =>
    cases b with
    | nil => rfl
    | cons y b => cases h
  | cons x a ih =>
    cases b with
    | nil => cases h
    | cons y b =>
      have h : kdW x :: a.map kdW = kdW y :: b.map kdW := h
      injection h with e1 e2
      rw [kdW_inj (ha x (List.mem_cons_self ..)) (hb y (List.mem_cons_self ..)) e1, ih (fun κ hκ => ha κ (List.mem_cons_of_mem _ hκ)) (fun κ hκ => hb κ (List.mem_cons_of_mem _ hκ)) e2]
