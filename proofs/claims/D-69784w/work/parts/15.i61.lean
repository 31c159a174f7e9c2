/-! WHAT IS WRITTEN TELLS WHAT IT IS: methods that are written alike are alike -/
def f16 : List Int32 := [0, 1, 2, 3, 4, 5, 6, 7, 8, 9, 10, 11, 12, 13, 14, 15]
theorem f16_inj : ∀ b ∈ f16, ∀ c ∈ f16, (b &&& 1 = 0 ↔ c &&& 1 = 0) → (b &&& 2 = 0 ↔ c &&& 2 = 0) → (b &&& 4 = 0 ↔ c &&& 4 = 0) → (b &&& 8 = 0 ↔ c &&& 8 = 0) → b = c := by decide +kernel
theorem aF1_mem {b c : Int32} {n w : Nm} : (Sum.inl w : Atm) ∈ aF1 b c n ↔ (¬ b &&& c = 0 ∧ w = n) := by
  unfold aF1
  by_cases h : b &&& c = 0
  · rw [if_pos h]
    exact ⟨fun z => (by cases z), fun z => absurd h z.1⟩
  · rw [if_neg h]
    constructor
    · intro z
      rcases List.mem_cons.1 z with e | e
      · injection e with e; exact ⟨h, e⟩
      · rcases List.mem_cons.1 e with e | e
        · cases e
        · cases e
    · intro z
      rw [z.2]; exact List.mem_cons_self ..
theorem w4_ne : (wA 52 ≠ wA 69 ∧ wA 52 ≠ wA 72 ∧ wA 52 ≠ wA 70) ∧ (wA 69 ≠ wA 72 ∧ wA 69 ≠ wA 70) ∧ wA 72 ≠ wA 70 := by decide +kernel
def aF4 (b : Int32) : List Atm := aF1 b 1 (wA 52) ++ (aF1 b 2 (wA 69) ++ (aF1 b 4 (wA 72) ++ aF1 b 8 (wA 70)))
theorem aF4_inj {b c : Int32} (hb : b ∈ f16) (hc : c ∈ f16) (h : aF4 b = aF4 c) : b = c := by
  obtain ⟨⟨n1, n2, n3⟩, ⟨n4, n5⟩, n6⟩ := w4_ne
  have mem : ∀ (w : Nm), (Sum.inl w : Atm) ∈ aF4 b ↔ (Sum.inl w : Atm) ∈ aF4 c := fun w => by rw [h]
  have e : ∀ (b : Int32) (w : Nm), (Sum.inl w : Atm) ∈ aF4 b ↔ ((¬ b &&& 1 = 0 ∧ w = wA 52) ∨ (¬ b &&& 2 = 0 ∧ w = wA 69) ∨ (¬ b &&& 4 = 0 ∧ w = wA 72) ∨ (¬ b &&& 8 = 0 ∧ w = wA 70)) := fun b w => by
    unfold aF4
    rw [List.mem_append, List.mem_append, List.mem_append, aF1_mem, aF1_mem, aF1_mem, aF1_mem]
  have m1 := mem (wA 52)
  have m2 := mem (wA 69)
  have m3 := mem (wA 72)
  have m4 := mem (wA 70)
  rw [e, e] at m1 m2 m3 m4
  refine f16_inj b hb c hc ?_ ?_ ?_ ?_
  · simp only [n1, n2, n3, and_false, or_false, and_true] at m1
    exact Decidable.not_iff_not.1 m1
  · simp only [n1.symm, n4, n5, and_false, or_false, false_or, and_true] at m2
    exact Decidable.not_iff_not.1 m2
  · simp only [n2.symm, n4.symm, n6, and_false, or_false, false_or, and_true] at m3
    exact Decidable.not_iff_not.1 m3
  · simp only [n3.symm, n5.symm, n6.symm, and_false, or_false, false_or, and_true] at m4
    exact Decidable.not_iff_not.1 m4
/-- numbers of labels tell the labels -/
theorem rnk_same {T U : Nat → Bool} {n : Nat} (h : ∀ k, k < n → T k = U k) : ∀ k, k ≤ n → rnk T k = rnk U k
  | 0, _ => rfl
  | k + 1, hk => by
    show rnk T k + (if T k = true then 1 else 0) = rnk U k + (if U k = true then 1 else 0)
    rw [rnk_same h k (by omega), h k (by omega)]
theorem rnk_mono {T : Nat → Bool} {a : Nat} : ∀ {b : Nat}, a ≤ b → rnk T a ≤ rnk T b
  | 0, h => by rw [show a = 0 by omega]; exact Nat.le_refl _
  | b + 1, h => by
    by_cases e : a = b + 1
    · rw [e]; exact Nat.le_refl _
    · exact Nat.le_trans (rnk_mono (b := b) (by omega)) (Nat.le_add_right _ _)
theorem rnk_inj {T : Nat → Bool} {a b : Nat} (ha : T a = true) (hb : T b = true) (h : rnk T a = rnk T b) : a = b := by
  have st : ∀ c d, T c = true → c < d → rnk T c < rnk T d := fun c d hc hd => by
    have h1 : rnk T (c + 1) = rnk T c + 1 := by
      show rnk T c + (if T c = true then 1 else 0) = _
      rw [if_pos hc]
    have := rnk_mono (T := T) (a := c + 1) (b := d) (by omega)
    omega
  by_cases e : a = b
  · exact e
  · by_cases c : a < b
    · have := st a b ha c; omega
    · have := st b a hb (by omega); omega
theorem lb_same {x y : Mth} {n t u : Nat} (hn : n ≤ 80) (hT : ∀ k, k ≤ n → tls x k = tls y k) (ht : t ≤ n ∧ tls x t = true) (hu : u ≤ n ∧ tls y u = true) (h : lbJ x t = lbJ y u) : t = u := by
  have r1 := rnk_le (T := tls x) t
  have r2 := rnk_le (T := tls y) u
  have h : rnk (tls x) t = rnk (tls y) u := (oN_inj (by omega) (by omega)).1 h
  rw [← rnk_same (T := tls x) (U := tls y) (n := n + 1) (fun k hk => hT k (by omega)) u (by omega)] at h
  exact rnk_inj ht.2 (by rw [hT u hu.1]; exact hu.2) h
theorem map_same {x y : Mth} {n : Nat} (hn : n ≤ 80) (hT : ∀ k, k ≤ n → tls x k = tls y k) : ∀ {a b : List Nat}, (∀ t ∈ a, t ≤ n ∧ tls x t = true) → (∀ t ∈ b, t ≤ n ∧ tls y t = true) → a.map (lbJ x) = b.map (lbJ y) → a = b
  | [], [], _, _, _ => rfl
  | [], b :: l, _, _, h => by cases h
  | a :: l, [], _, _, h => by cases h
  | a :: l, b :: m, ha, hb, h => by
    have h : lbJ x a :: l.map (lbJ x) = lbJ y b :: m.map (lbJ y) := h
    injection h with e1 e2
    rw [lb_same hn hT (ha a (List.mem_cons_self ..)) (hb b (List.mem_cons_self ..)) e1, map_same hn hT (fun t ht => ha t (List.mem_cons_of_mem _ ht)) (fun t ht => hb t (List.mem_cons_of_mem _ ht)) e2]
theorem alC_len {x y : Mth} : ∀ {k : Nat} {I J : List Ins}, alC x y k I J → I.length = J.length ∧ ∀ j, j < I.length → tls x (k + j) = tls y (k + j)
  | k, [], [], _ => ⟨rfl, fun j hj => absurd hj (by simp)⟩
  | k, [], j :: J, h => h.elim
  | k, i :: I, [], h => h.elim
  | k, i :: I, j :: J, h => by
    obtain ⟨e1, e2⟩ := alC_len h.2
    refine ⟨by rw [List.length_cons, List.length_cons, e1], fun a ha => ?_⟩
    rw [List.length_cons] at ha
    cases a with
    | zero => exact h.1.1
    | succ a =>
      have := e2 a (by omega)
      rw [show k + (a + 1) = k + 1 + a by omega]; exact this
theorem alC_eq {x y : Mth} {n : Nat} (hn : n ≤ 80) (hT : ∀ k, k ≤ n → tls x k = tls y k) : ∀ {k : Nat} {I J : List Ins}, (∀ i ∈ I, ∀ t ∈ iT i, t ≤ n ∧ tls x t = true) → (∀ j ∈ J, ∀ t ∈ iT j, t ≤ n ∧ tls y t = true) → alC x y k I J → I = J
  | k, [], [], _, _, _ => rfl
  | k, [], j :: J, _, _, h => h.elim
  | k, i :: I, [], _, _, h => h.elim
  | k, i :: I, j :: J, hI, hJ, h => by
    have e2 := alC_eq hn hT (fun z hz => hI z (List.mem_cons_of_mem _ hz)) (fun z hz => hJ z (List.mem_cons_of_mem _ hz)) h.2
    obtain ⟨⟨-, -, hr, hf⟩, -⟩ := h
    unfold ri at hr
    have ht := map_same hn hT (hI i (List.mem_cons_self ..)) (hJ j (List.mem_cons_self ..)) (congrArg (fun z => z.2.2.2.1) hr)
    have q1 : i.1 = j.1 := congrArg (fun z => z.1) hr
    have q2 : i.2.1 = j.2.1 := congrArg (fun z => z.2.1) hr
    have q3 : i.2.2.1 = j.2.2.1 := congrArg (fun z => z.2.2.1) hr
    have q5 : i.2.2.2.2.1 = j.2.2.2.2.1 := congrArg (fun z => z.2.2.2.2.1) hr
    have q6 : i.2.2.2.2.2.1 = j.2.2.2.2.2.1 := congrArg (fun z => z.2.2.2.2.2.1) hr
    have q7 : i.2.2.2.2.2.2.1 = j.2.2.2.2.2.2.1 := congrArg (fun z => z.2.2.2.2.2.2.1) hr
    have q8 : i.2.2.2.2.2.2.2.1 = j.2.2.2.2.2.2.2.1 := congrArg (fun z => z.2.2.2.2.2.2.2) hr
    have e1 : i = j := Prod.ext q1 (Prod.ext q2 (Prod.ext q3 (Prod.ext ht (Prod.ext q5 (Prod.ext q6 (Prod.ext q7 (Prod.ext q8 hf)))))))
    rw [e1, e2]
theorem aHn_inj {x y : Mth} {a b : Hnd} (h : aHn x a = aHn y b) : lbJ x a.1 = lbJ y b.1 ∧ lbJ x a.2.1 = lbJ y b.2.1 ∧ lbJ x a.2.2.1 = lbJ y b.2.2.1 ∧ a.2.2.2 = b.2.2.2 := by
  unfold aHn at h
  injection h with _ h
  injection h with _ h
  injection h with _ h
  injection h with _ h
  injection h with e1 h
  injection h with _ h
  injection h with e2 h
  injection h with _ h
  injection h with e3 h
  injection h with _ h
  injection h with e4 _
  injection e1 with e1
  injection e2 with e2
  injection e3 with e3
  injection e4 with e4
  exact ⟨txL_inj e1, txL_inj e2, txL_inj e3, e4⟩
theorem hs_eq {x y : Mth} {n : Nat} (hn : n ≤ 80) (hT : ∀ k, k ≤ n → tls x k = tls y k) : ∀ {A B : List Hnd}, (∀ a ∈ A, (a.1 ≤ n ∧ tls x a.1 = true) ∧ (a.2.1 ≤ n ∧ tls x a.2.1 = true) ∧ (a.2.2.1 ≤ n ∧ tls x a.2.2.1 = true)) → (∀ a ∈ B, (a.1 ≤ n ∧ tls y a.1 = true) ∧ (a.2.1 ≤ n ∧ tls y a.2.1 = true) ∧ (a.2.2.1 ≤ n ∧ tls y a.2.2.1 = true)) → A.map (aHn x) = B.map (aHn y) → A = B
  | [], [], _, _, _ => rfl
  | [], b :: l, _, _, h => by cases h
  | a :: l, [], _, _, h => by cases h
  | a :: l, b :: m, ha, hb, h => by
    have h : aHn x a :: l.map (aHn x) = aHn y b :: m.map (aHn y) := h
    injection h with e1 e2
    obtain ⟨a1, a2, a3, a4⟩ := aHn_inj e1
    obtain ⟨p1, p2, p3⟩ := ha a (List.mem_cons_self ..)
    obtain ⟨q1, q2, q3⟩ := hb b (List.mem_cons_self ..)
    have e : a = b := Prod.ext (lb_same hn hT p1 q1 a1) (Prod.ext (lb_same hn hT p2 q2 a2) (Prod.ext (lb_same hn hT p3 q3 a3) a4))
    rw [e, hs_eq hn hT (fun z hz => ha z (List.mem_cons_of_mem _ hz)) (fun z hz => hb z (List.mem_cons_of_mem _ hz)) e2]
/-- a method of a text, as far as writing asks -/
def nwM (x : Mth) : Prop := nfM x ∧ wfQ x ∧ x.2.2.2.1 ∈ f16 ∧ (¬ x.2.2.2.1 &&& 8 = 0 → x.2.2.2.2 = (0, 0, [], []))
theorem nwM.c {x : Mth} (h : nwM x) : ∀ i ∈ co x, ∀ t ∈ iT i, t ≤ (co x).length ∧ tls x t = true := fun i hi t ht => by
  obtain ⟨j, hj, e⟩ := List.mem_iff_getElem.1 hi
  have eg : gin (co x) j = i := by
    show (co x).getD j _ = i
    rw [List.getD_eq_getElem?_getD, List.getElem?_eq_getElem hj, e]; rfl
  exact ⟨Nat.le_of_lt ((h.2.1.2.2.1.2 i hi).2.2.1 t ht), tls_iff.2 (Or.inl ⟨j, hj, by rw [eg]; exact ht⟩)⟩
theorem nwM.h {x : Mth} (h : nwM x) : ∀ a ∈ hs x, (a.1 ≤ (co x).length ∧ tls x a.1 = true) ∧ (a.2.1 ≤ (co x).length ∧ tls x a.2.1 = true) ∧ (a.2.2.1 ≤ (co x).length ∧ tls x a.2.2.1 = true) := fun a ha => by
  obtain ⟨j, hj, e⟩ := List.mem_iff_getElem.1 ha
  have eg : ghn (hs x) j = a := by
    show (hs x).getD j _ = a
    rw [List.getD_eq_getElem?_getD, List.getElem?_eq_getElem hj, e]; rfl
  have := tls_hQ h.2.1 hj
  rw [eg] at this
  exact this
/-- written alike is alike -/
theorem txM_inj {x y : Mth} (hx : nwM x) (hy : nwM y) (e1 : x.1 = y.1) (e2 : x.2.1 = y.2.1) (e3 : x.2.2.1 = y.2.2.1) (h : txM x = txM y) : x = y := by
  have hl : lMt x = lMt y := lines_inj (lMt_ok hx.1) (lMt_ok hy.1) (by rw [tX_lMt hx.1, tX_lMt hy.1, h])
  unfold lMt at hl
  injection hl with hh hl
  have ef : x.2.2.2.1 = y.2.2.2.1 := by
    unfold aMh at hh
    injection hh with _ hh
    injection hh with _ hh
    injection hh with _ hh
    rw [e1, e2, e3] at hh
    refine aF4_inj hx.2.2.1 hy.2.2.1 ?_
    have hh : aF4 x.2.2.2.1 ++ (.inl y.1 :: aT y.2.1 y.2.2.1) = aF4 y.2.2.2.1 ++ (.inl y.1 :: aT y.2.1 y.2.2.1) := by
      unfold aF4
      simpa only [List.append_assoc] using hh
    exact List.append_cancel_right hh
  have fin : x.2.2.2.2 = y.2.2.2.2 → x = y := fun e => Prod.ext e1 (Prod.ext e2 (Prod.ext e3 (Prod.ext ef e)))
  by_cases c8 : x.2.2.2.1 &&& 8 = 0
  · rw [if_pos c8, if_pos (by rw [← ef]; exact c8)] at hl
    injection hl with hr hl
    have es : x.2.2.2.2.1 = y.2.2.2.2.1 ∧ x.2.2.2.2.2.1 = y.2.2.2.2.2.1 := by
      unfold aRm at hr
      injection hr with _ hr
      injection hr with _ hr
      injection hr with _ hr
      injection hr with _ hr
      injection hr with e5 hr
      injection hr with _ hr
      injection hr with e6 _
      injection e5 with e5
      injection e6 with e6
      exact ⟨dgi_inj e5, dgi_inj e6⟩
    obtain ⟨ha, hR⟩ := lC_inj (co x) (co y) 0 _ _ hx.1.2.1 hy.1.2.1 tlE_E tlE_E hl
    obtain ⟨hn, ht⟩ := alC_len ha
    have h80 := hx.2.1.2.2.1.1
    have bad : ∀ (z : Mth) (k : Nat) (l : List Atm), lw l = wA 67 → ([.inr 32, .inr 32, .inl (txL z k), .inr 58] : List Atm) ≠ l := fun z k l e q => by
      have : lw ([.inr 32, .inr 32, .inl (txL z k), .inr 58] : List Atm) = txL z k := rfl
      rw [q, e] at this
      have h76 : (txL z k).head? = some 76 := rfl
      rw [← this] at h76
      exact wA_L.2.2 h76
    have hd : tls x (co x).length = tls y (co x).length ∧ (hs x).map (aHn x) = (hs y).map (aHn y) := by
      unfold lE at hR
      rw [← hn] at hR
      cases c1 : tls x (co x).length with
      | true =>
        cases c2 : tls y (co x).length with
        | true =>
          rw [c1, c2, if_pos rfl, if_pos rfl] at hR
          injection hR with _ hR
          exact ⟨rfl, hR⟩
        | false =>
          rw [c1, c2, if_pos rfl, if_neg (by decide)] at hR
          cases eh : hs y with
          | nil => rw [eh] at hR; cases hR
          | cons b l =>
            rw [eh] at hR
            injection hR with q _
            exact absurd q (bad x _ _ lw_hn)
      | false =>
        cases c2 : tls y (co x).length with
        | true =>
          rw [c1, c2, if_neg (by decide), if_pos rfl] at hR
          cases eh : hs x with
          | nil => rw [eh] at hR; cases hR
          | cons b l =>
            rw [eh] at hR
            injection hR with q _
            exact absurd q.symm (bad y _ _ lw_hn)
        | false =>
          rw [c1, c2, if_neg (by decide), if_neg (by decide)] at hR
          exact ⟨rfl, hR⟩
    have hT : ∀ k, k ≤ (co x).length → tls x k = tls y k := fun k hk => by
      by_cases e : k = (co x).length
      · rw [e]; exact hd.1
      · have := ht k (by omega)
        rw [Nat.zero_add] at this; exact this
    have ec : co x = co y := alC_eq h80 hT hx.c (by rw [hn]; exact hy.c) ha
    have eh : hs x = hs y := hs_eq h80 hT hx.h (by rw [hn]; exact hy.h) hd.2
    exact fin (Prod.ext es.1 (Prod.ext es.2 (Prod.ext ec eh)))
  · have c8' : ¬ y.2.2.2.1 &&& 8 = 0 := by rw [← ef]; exact c8
    exact fin (by rw [hx.2.2.2 c8, hy.2.2.2 c8'])
