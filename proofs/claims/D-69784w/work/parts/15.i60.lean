/-! WHAT IS WRITTEN TELLS WHAT IT IS: lines of a method -/
theorem aKk_ok {ks : List Kd} (h : ∀ κ ∈ ks, kNf κ) : pcA (aKk ks) := by
  unfold aKk
  by_cases e : ks = []
  · rw [if_pos e]; exact pcA.nil
  · rw [if_neg e]
    have hw : ∀ w ∈ ks.map kdW, wcL w := fun w hw => by
      obtain ⟨a, ha, e⟩ := List.mem_map.1 hw
      rw [← e]; exact kdW_wc (h a ha)
    refine ⟨⟨⟨by decide, aW_ok hw⟩, lsA_aW (by rw [ne_eq, List.map_eq_nil_iff]; exact e) false⟩, fun z => ?_⟩
    rcases List.mem_cons.1 z with e | e
    · injection e with e; exact absurd e (by decide)
    · exact aW_10 e
/-- a line that is in order -/
def lnA (l : List Atm) : Prop := okA false l ∧ (Sum.inr 10 : Atm) ∉ l
theorem lnA.ww {w : List Int32} {r : List Atm} (hw : wcL w) (hr : okA true r) (h10 : (Sum.inr 10 : Atm) ∉ r) : lnA (.inr 32 :: .inr 32 :: .inl w :: r) := by
  refine ⟨⟨by decide, by decide, ⟨rfl, hw⟩, hr⟩, fun z => ?_⟩
  rcases List.mem_cons.1 z with e | z
  · injection e with e; exact absurd e (by decide)
  rcases List.mem_cons.1 z with e | z
  · injection e with e; exact absurd e (by decide)
  rcases List.mem_cons.1 z with e | z
  · cases e
  · exact h10 z
theorem aFr_ok {f : List Kd × List Kd} (h1 : ∀ κ ∈ f.1, kNf κ) (h2 : ∀ κ ∈ f.2, kNf κ) : lnA (aFr f) := by
  have a := aKk_ok h1
  have b := aKk_ok h2
  have hb : okA false (aKk f.2) := by
    unfold aKk at b ⊢
    split
    · trivial
    · rename_i e
      rw [if_neg e] at b
      exact b.1.1
  refine lnA.ww (wA_wc 66 (by omega)) (okA_app _ _ _ a.1.1 ⟨by decide, hb⟩) (fun z => ?_)
  rcases List.mem_append.1 z with e | e
  · exact a.2 e
  · rcases List.mem_cons.1 e with e | e
    · injection e with e; exact absurd e (by decide)
    · exact b.2 e
theorem aHI_ok {x : Mth} {k : Nat} {i : Ins} (h : nfI i) : lnA (aHd x k ++ aIn x i) := by
  obtain ⟨r, e, hp⟩ := aIn_ok (x := x) h
  have h62 := wA_wc i.1 (by have := h.1; omega)
  unfold aHd
  rw [e]
  split
  · refine lnA.ww (r := .inr 58 :: .inr 32 :: .inl (wA i.1) :: r) txL_wc ⟨by decide, by decide, ⟨rfl, h62⟩, hp.1.1⟩ (fun z => ?_)
    rcases List.mem_cons.1 z with e | z
    · injection e with e; exact absurd e (by decide)
    rcases List.mem_cons.1 z with e | z
    · injection e with e; exact absurd e (by decide)
    rcases List.mem_cons.1 z with e | z
    · cases e
    · exact hp.2 z
  · exact lnA.ww (r := r) h62 hp.1.1 hp.2
theorem lC_ok {x : Mth} : ∀ (I : List Ins) (k : Nat), (∀ i ∈ I, nfI i) → ∀ l ∈ lC x k I, lnA l
  | [], k, h, l, hl => by cases hl
  | i :: I, k, h, l, hl => by
    have hi := h i (List.mem_cons_self ..)
    rcases List.mem_append.1 hl with e | e
    · cases ef : iF i with
      | none => rw [ef] at e; cases e
      | some f =>
        rw [ef] at e
        rw [List.mem_singleton.1 e]
        obtain ⟨a, b⟩ := hi.2.2.2.2.2.2.2 f ef
        exact aFr_ok a b
    · rcases List.mem_cons.1 e with e | e
      · rw [e]; exact aHI_ok hi
      · exact lC_ok I (k + 1) (fun j hj => h j (List.mem_cons_of_mem _ hj)) l e
theorem lE_ok {x : Mth} : ∀ l ∈ lE x, lnA l := fun l hl => by
  unfold lE at hl
  split at hl
  · rw [List.mem_singleton.1 hl]
    exact lnA.ww (r := [.inr 58]) txL_wc ⟨by decide, trivial⟩ (by simp)
  · cases hl
theorem aHn_ok {x : Mth} {y : Hnd} (h : wcL y.2.2.2) : lnA (aHn x y) := by
  refine lnA.ww (r := [.inr 32, .inl (txL x y.1), .inr 32, .inl (txL x y.2.1), .inr 32, .inl (txL x y.2.2.1), .inr 32, .inl y.2.2.2]) (wA_wc 67 (by omega)) ⟨by decide, ⟨rfl, txL_wc⟩, by decide, ⟨rfl, txL_wc⟩, by decide, ⟨rfl, txL_wc⟩, by decide, ⟨rfl, h⟩, trivial⟩ (by simp)
theorem aF1_ok {b c : Int32} {n : Nm} (h : wcL n) : okA false (aF1 b c n) ∧ lsA false (aF1 b c n) = false ∧ (Sum.inr 10 : Atm) ∉ aF1 b c n := by
  unfold aF1
  split
  · exact ⟨trivial, rfl, by simp⟩
  · exact ⟨⟨⟨rfl, h⟩, by decide, trivial⟩, rfl, by simp⟩
theorem lMt_ok {x : Mth} (h : nfM x) : ∀ l ∈ lMt x, lnA l := fun l hl => by
  rcases List.mem_cons.1 hl with e | e
  · rw [e]
    obtain ⟨a1, a2, a3⟩ := aF1_ok (b := x.2.2.2.1) (c := 1) (wA_wc 52 (by omega))
    obtain ⟨b1, b2', b3⟩ := aF1_ok (b := x.2.2.2.1) (c := 2) (wA_wc 69 (by omega))
    obtain ⟨c1, c2, c3⟩ := aF1_ok (b := x.2.2.2.1) (c := 4) (wA_wc 72 (by omega))
    obtain ⟨d1, d2, d3⟩ := aF1_ok (b := x.2.2.2.1) (c := 8) (wA_wc 70 (by omega))
    have ht := pcA.aT h.1.2.1 h.1.2.2
    have t5 : okA false (.inl x.1 :: aT x.2.1 x.2.2.1) := ⟨⟨rfl, h.1.1⟩, ht.1.1⟩
    have t4 := okA_app _ _ _ d1 (by rw [d2]; exact t5)
    have t3 := okA_app _ _ _ c1 (by rw [c2]; exact t4)
    have t2 := okA_app _ _ _ b1 (by rw [b2']; exact t3)
    have t1 := okA_app _ _ _ a1 (by rw [a2]; exact t2)
    refine ⟨⟨by decide, ⟨rfl, wA_wc 64 (by omega)⟩, by decide, t1⟩, fun z => ?_⟩
    rcases List.mem_cons.1 z with e | z
    · injection e with e; exact absurd e (by decide)
    rcases List.mem_cons.1 z with e | z
    · cases e
    rcases List.mem_cons.1 z with e | z
    · injection e with e; exact absurd e (by decide)
    rcases List.mem_append.1 z with e | z
    · exact a3 e
    rcases List.mem_append.1 z with e | z
    · exact b3 e
    rcases List.mem_append.1 z with e | z
    · exact c3 e
    rcases List.mem_append.1 z with e | z
    · exact d3 e
    rcases List.mem_cons.1 z with e | z
    · cases e
    · exact ht.2 z
  · split at e
    · rcases List.mem_cons.1 e with e | e
      · rw [e]
        exact lnA.ww (r := [.inr 32, .inl (dgi x.2.2.2.2.1), .inr 32, .inl (dgi x.2.2.2.2.2.1)]) (wA_wc 65 (by omega)) ⟨by decide, ⟨rfl, dgi_wc⟩, by decide, ⟨rfl, dgi_wc⟩, trivial⟩ (by simp)
      · rcases List.mem_append.1 e with e | e
        · exact lC_ok _ _ h.2.1 l e
        · rcases List.mem_append.1 e with e | e
          · exact lE_ok l e
          · obtain ⟨y, hy, e⟩ := List.mem_map.1 e
            rw [← e]; exact aHn_ok (h.2.2 y hy)
    · cases e
/-! kinds of lines -/
theorem wA_66 : ∀ o, o < 62 → wA o ≠ wA 66 ∧ wA o ≠ wA 67 ∧ (wA o).head? ≠ some 76 := by decide +kernel
theorem wA_L : wA 66 ≠ wA 67 ∧ (wA 66).head? ≠ some 76 ∧ (wA 67).head? ≠ some 76 := by decide +kernel
/-- the word of a line -/
def lw (l : List Atm) : List Int32 := match l with
  | _ :: _ :: .inl w :: _ => w
  | _ => []
theorem lw_fr {f : List Kd × List Kd} : lw (aFr f) = wA 66 := rfl
theorem lw_hn {x : Mth} {y : Hnd} : lw (aHn x y) = wA 67 := rfl
theorem lw_hi {x : Mth} {k : Nat} {i : Ins} : lw (aHd x k ++ aIn x i) = if tls x k = true then txL x k else wA i.1 := by
  unfold aHd aIn
  split <;> rfl
theorem aHI_len {x : Mth} {k : Nat} {i : Ins} (h : tls x k = true) : 6 ≤ (aHd x k ++ aIn x i).length := by
  unfold aHd aIn
  rw [if_pos h, List.length_append, List.length_cons]
  simp only [List.length_cons, List.length_nil]
  omega
/-- behind the code: a label at the end, handlers -/
def tlE (R : List (List Atm)) : Prop := ∀ l ∈ R, lw l = wA 67 ∨ ((lw l).head? = some 76 ∧ l.length = 4)
theorem tlE_E {x : Mth} : tlE (lE x ++ (hs x).map (aHn x)) := fun l hl => by
  rcases List.mem_append.1 hl with e | e
  · unfold lE at e
    split at e
    · rw [List.mem_singleton.1 e]; exact Or.inr ⟨rfl, rfl⟩
    · cases e
  · obtain ⟨y, -, e⟩ := List.mem_map.1 e
    rw [← e]; exact Or.inl lw_hn
theorem hi_no {x : Mth} {k : Nat} {i : Ins} (h : nfI i) : ¬ (lw (aHd x k ++ aIn x i) = wA 67 ∨ ((lw (aHd x k ++ aIn x i)).head? = some 76 ∧ (aHd x k ++ aIn x i).length = 4)) := by
  obtain ⟨w1, w2, w3⟩ := wA_66 i.1 h.1
  rw [lw_hi]
  by_cases c : tls x k = true
  · rw [if_pos c]
    have := aHI_len (i := i) c
    rintro (z | ⟨-, z⟩)
    · have : (txL x k).head? = some 76 := rfl
      rw [z] at this; exact wA_L.2.2 this
    · omega
  · rw [if_neg c]
    rintro (z | ⟨z, -⟩)
    · exact w2 z
    · exact w3 z
theorem fr_no {f : List Kd × List Kd} : ¬ (lw (aFr f) = wA 67 ∨ ((lw (aFr f)).head? = some 76 ∧ (aFr f).length = 4)) := by
  rw [lw_fr]
  rintro (z | ⟨z, -⟩)
  · exact wA_L.1 z
  · exact wA_L.2.1 z
theorem fr_hi {f : List Kd × List Kd} {x : Mth} {k : Nat} {i : Ins} (h : nfI i) : aFr f ≠ aHd x k ++ aIn x i := fun e => by
  obtain ⟨w1, w2, w3⟩ := wA_66 i.1 h.1
  have e2 := congrArg lw e
  rw [lw_fr, lw_hi] at e2
  split at e2
  · have : (txL x k).head? = some 76 := rfl
    rw [← e2] at this; exact wA_L.2.1 this
  · exact w1 e2.symm
theorem aKk_inj {a b a' b' : List Kd} (ha : ∀ κ ∈ a, kNf κ) (hb : ∀ κ ∈ b, kNf κ) (ha' : ∀ κ ∈ a', kNf κ) (hb' : ∀ κ ∈ b', kNf κ) (h : aKk a ++ (.inr 59 :: aKk b) = aKk a' ++ (.inr 59 :: aKk b')) : a = a' ∧ b = b' := by
  have one : ∀ (c d : List Kd) (s s' : List Atm), eSg s → eSg s' → (∀ r, s ≠ .inr 32 :: r) → (∀ r, s' ≠ .inr 32 :: r) → aKk c ++ s = aKk d ++ s' → c.map kdW = d.map kdW ∧ s = s' := fun c d s s' h1 h2 h3 h4 h => by
    unfold aKk at h
    by_cases e1 : c = [] <;> by_cases e2 : d = []
    · rw [if_pos e1, if_pos e2] at h; rw [e1, e2]; exact ⟨rfl, h⟩
    · rw [if_pos e1, if_neg e2] at h; exact absurd h (h3 _)
    · rw [if_neg e1, if_pos e2] at h; exact absurd h.symm (h4 _)
    · rw [if_neg e1, if_neg e2] at h
      injection h with _ h
      exact aW_inj h1 h2 h
  have n59 : ∀ (t r : List Atm), (.inr 59 :: t : List Atm) ≠ .inr 32 :: r := fun t r e => by
    injection e with e _
    injection e with e
    exact absurd e (by decide)
  obtain ⟨e1, e2⟩ := one a a' _ _ (Or.inr ⟨59, _, rfl, by decide⟩) (Or.inr ⟨59, _, rfl, by decide⟩) (n59 _) (n59 _) h
  injection e2 with _ e2
  obtain ⟨e3, -⟩ := one b b' [] [] eSg.nil eSg.nil (fun r e => by cases e) (fun r e => by cases e) (by rw [List.append_nil, List.append_nil]; exact e2)
  exact ⟨map_kdW ha ha' e1, map_kdW hb hb' e3⟩
theorem aFr_inj {f g : List Kd × List Kd} (h1 : ∀ κ ∈ f.1, kNf κ) (h2 : ∀ κ ∈ f.2, kNf κ) (h3 : ∀ κ ∈ g.1, kNf κ) (h4 : ∀ κ ∈ g.2, kNf κ) (h : aFr f = aFr g) : f = g := by
  unfold aFr at h
  injection h with _ h
  injection h with _ h
  injection h with _ h
  obtain ⟨e1, e2⟩ := aKk_inj h1 h2 h3 h4 h
  obtain ⟨a, b⟩ := f
  obtain ⟨c, d⟩ := g
  have e1 : a = c := e1
  have e2 : b = d := e2
  rw [e1, e2]
theorem aHI_inj {x y : Mth} {k : Nat} {i j : Ins} (hi : nfI i) (hj : nfI j) (h : aHd x k ++ aIn x i = aHd y k ++ aIn y j) : tls x k = tls y k ∧ (tls x k = true → lbJ x k = lbJ y k) ∧ ri x i = ri y j := by
  have hw := congrArg lw h
  rw [lw_hi, lw_hi] at hw
  unfold aHd at h
  have bad : ∀ (z : Mth) (o : Nat), o < 62 → txL z k ≠ wA o := fun z o ho e => by
    have : (txL z k).head? = some 76 := rfl
    rw [e] at this; exact (wA_66 o ho).2.2 this
  cases c1 : tls x k with
  | true =>
    cases c2 : tls y k with
    | true =>
      rw [c1, c2, if_pos rfl, if_pos rfl] at hw h
      refine ⟨rfl, fun _ => txL_inj hw, ?_⟩
      have h : (.inr 32 :: .inr 32 :: .inl (txL x k) :: .inr 58 :: .inr 32 :: aIn x i : List Atm) = .inr 32 :: .inr 32 :: .inl (txL y k) :: .inr 58 :: .inr 32 :: aIn y j := h
      injection h with _ h
      injection h with _ h
      injection h with _ h
      injection h with _ h
      injection h with _ h
      exact aIn_inj hi hj h
    | false =>
      rw [c1, c2, if_pos rfl, if_neg (by decide)] at hw
      exact absurd hw (bad x j.1 hj.1)
  | false =>
    cases c2 : tls y k with
    | true =>
      rw [c1, c2, if_neg (by decide), if_pos rfl] at hw
      exact absurd hw.symm (bad y i.1 hi.1)
    | false =>
      rw [c1, c2, if_neg (by decide), if_neg (by decide)] at h
      refine ⟨rfl, fun z => (by cases z), ?_⟩
      have h : (.inr 32 :: .inr 32 :: aIn x i : List Atm) = .inr 32 :: .inr 32 :: aIn y j := h
      injection h with _ h
      injection h with _ h
      exact aIn_inj hi hj h
/-- code that is written alike -/
def alC (x y : Mth) : Nat → List Ins → List Ins → Prop
  | _, [], [] => True
  | k, i :: I, j :: J => (tls x k = tls y k ∧ (tls x k = true → lbJ x k = lbJ y k) ∧ ri x i = ri y j ∧ iF i = iF j) ∧ alC x y (k + 1) I J
  | _, _, _ => False
theorem lC_inj {x y : Mth} : ∀ (I J : List Ins) (k : Nat) (R R' : List (List Atm)), (∀ i ∈ I, nfI i) → (∀ j ∈ J, nfI j) → tlE R → tlE R' → lC x k I ++ R = lC y k J ++ R' → alC x y k I J ∧ R = R'
  | [], [], k, R, R', _, _, _, _, h => ⟨trivial, h⟩
  | [], j :: J, k, R, R', _, hJ, hR, _, h => by
    have h : R = (lFr (iF j) ++ ((aHd y k ++ aIn y j) :: lC y (k + 1) J)) ++ R' := h
    have hj := hJ j (List.mem_cons_self ..)
    cases ef : iF j with
    | none =>
      rw [ef] at h
      exact absurd (hR (aHd y k ++ aIn y j) (by rw [h]; exact List.mem_append_left _ (List.mem_cons_self ..))) (hi_no hj)
    | some f =>
      rw [ef] at h
      exact absurd (hR (aFr f) (by rw [h]; exact List.mem_append_left _ (List.mem_cons_self ..))) fr_no
  | i :: I, [], k, R, R', hI, _, _, hR', h => by
    have h : (lFr (iF i) ++ ((aHd x k ++ aIn x i) :: lC x (k + 1) I)) ++ R = R' := h
    have hi := hI i (List.mem_cons_self ..)
    cases ef : iF i with
    | none =>
      rw [ef] at h
      exact absurd (hR' (aHd x k ++ aIn x i) (by rw [← h]; exact List.mem_append_left _ (List.mem_cons_self ..))) (hi_no hi)
    | some f =>
      rw [ef] at h
      exact absurd (hR' (aFr f) (by rw [← h]; exact List.mem_append_left _ (List.mem_cons_self ..))) fr_no
  | i :: I, j :: J, k, R, R', hI, hJ, hR, hR', h => by
    have hi := hI i (List.mem_cons_self ..)
    have hj := hJ j (List.mem_cons_self ..)
    have h : (lFr (iF i) ++ ((aHd x k ++ aIn x i) :: lC x (k + 1) I)) ++ R = (lFr (iF j) ++ ((aHd y k ++ aIn y j) :: lC y (k + 1) J)) ++ R' := h
    have rest : ((aHd x k ++ aIn x i) :: (lC x (k + 1) I ++ R)) = ((aHd y k ++ aIn y j) :: (lC y (k + 1) J ++ R')) → iF i = iF j → alC x y k (i :: I) (j :: J) ∧ R = R' := fun h e => by
      injection h with e1 e2
      obtain ⟨a1, a2, a3⟩ := aHI_inj hi hj e1
      obtain ⟨b1, b2'⟩ := lC_inj I J (k + 1) R R' (fun z hz => hI z (List.mem_cons_of_mem _ hz)) (fun z hz => hJ z (List.mem_cons_of_mem _ hz)) hR hR' e2
      exact ⟨⟨⟨a1, a2, a3, e⟩, b1⟩, b2'⟩
    cases e1 : iF i with
    | none =>
      cases e2 : iF j with
      | none =>
        rw [e1, e2] at h
        exact rest h (by rw [e1, e2])
      | some g =>
        rw [e1, e2] at h
        have h : (aHd x k ++ aIn x i) :: (lC x (k + 1) I ++ R) = aFr g :: _ := h
        injection h with e _
        exact absurd e.symm (fr_hi hi)
    | some f =>
      cases e2 : iF j with
      | none =>
        rw [e1, e2] at h
        have h : aFr f :: _ = (aHd y k ++ aIn y j) :: (lC y (k + 1) J ++ R') := h
        injection h with e _
        exact absurd e (fr_hi hj)
      | some g =>
        rw [e1, e2] at h
        have h : aFr f :: ((aHd x k ++ aIn x i) :: (lC x (k + 1) I ++ R)) = aFr g :: ((aHd y k ++ aIn y j) :: (lC y (k + 1) J ++ R')) := h
        injection h with e h
        obtain ⟨f1, f2⟩ := hi.2.2.2.2.2.2.2 f e1
        obtain ⟨g1, g2⟩ := hj.2.2.2.2.2.2.2 g e2
        exact rest h (by rw [e1, e2, aFr_inj f1 f2 g1 g2 e])
