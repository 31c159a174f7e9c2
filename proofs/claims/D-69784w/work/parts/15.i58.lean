/-! WHAT IS WRITTEN TELLS WHAT IT IS: an instruction -/
noncomputable def lbJ (x : Mth) (t : Nat) : Int32 := Int32.ofNat (rnk (tls x) t)
theorem txL_eq {x : Mth} {t : Nat} : txL x t = 76 :: dgi (lbJ x t) := rfl
theorem txL_wc {x : Mth} {t : Nat} : wcL (txL x t) := by
  refine ⟨by rw [txL_eq]; simp, fun c hc => ?_⟩
  rw [txL_eq] at hc
  rcases List.mem_cons.1 hc with e | e
  · rw [e]; decide
  · exact dgi_wc.2 c e
theorem txL_inj {x y : Mth} {t u : Nat} (h : txL x t = txL y u) : lbJ x t = lbJ y u := by
  rw [txL_eq, txL_eq] at h
  injection h with _ e
  exact dgi_inj e
/-- an instruction as it comes out of a text -/
def nfI (i : Ins) : Prop := i.1 < 62 ∧ ((¬ (i.1 = 1 ∨ (3 ≤ i.1 ∧ i.1 ≤ 7) ∨ i.1 = 40) → iV i = 0) ∧ (i.1 ≠ 7 → i.2.2.1 = 0)) ∧ ((isJ i.1 → (iT i).length = 1) ∧ (¬ isJ i.1 → i.1 ≠ 40 → iT i = []) ∧ (i.1 = 40 → iT i ≠ [])) ∧ ((¬ (i.1 = 41 ∨ (46 ≤ i.1 ∧ i.1 ≤ 55)) → iK i = []) ∧ ((i.1 = 41 ∨ (46 ≤ i.1 ∧ i.1 ≤ 55)) → wcL (iK i))) ∧ ((¬ (46 ≤ i.1 ∧ i.1 ≤ 53) → iM i = []) ∧ ((46 ≤ i.1 ∧ i.1 ≤ 53) → wcL (iM i))) ∧ ((¬ isMo i.1 → iA i = []) ∧ ∀ κ ∈ iA i, kNf κ) ∧ ((¬ (isFo i.1 ∨ isMo i.1) → iR i = (0, [])) ∧ kNf (iR i)) ∧ ∀ f, iF i = some f → (∀ κ ∈ f.1, kNf κ) ∧ ∀ κ ∈ f.2, kNf κ
def aI1 (i : Ins) : List Atm := if i.1 = 1 ∨ (3 ≤ i.1 ∧ i.1 ≤ 7) ∨ i.1 = 40 then [.inr 32, .inl (dgi (iV i))] else []
def aI2 (i : Ins) : List Atm := if i.1 = 7 then [.inr 32, .inl (dgi i.2.2.1)] else []
noncomputable def aI3 (x : Mth) (i : Ins) : List Atm := if isJ i.1 then [.inr 32, .inl (txL x (gtn (iT i) 0))] else []
noncomputable def aI4 (x : Mth) (i : Ins) : List Atm := if i.1 = 40 then .inr 32 :: aW ((iT i).map (txL x)) else []
def aI5 (i : Ins) : List Atm := if i.1 = 41 ∨ (46 ≤ i.1 ∧ i.1 ≤ 55) then [.inr 32, .inl (iK i)] else []
def aI6 (i : Ins) : List Atm := if 46 ≤ i.1 ∧ i.1 ≤ 53 then [.inr 46, .inl (iM i)] else []
def aI7 (i : Ins) : List Atm := if isFo i.1 then [.inr 32, .inl (kdW (iR i))] else []
def aT (ks : List Kd) (κ : Kd) : List Atm := .inr 40 :: (aW (ks.map kdW) ++ [.inr 41, .inr 32, .inl (kdW κ)])
def aI8 (i : Ins) : List Atm := if isMo i.1 then aT (iA i) (iR i) else []
noncomputable def aIn (x : Mth) (i : Ins) : List Atm := .inl (wA i.1) :: (aI1 i ++ (aI2 i ++ (aI3 x i ++ (aI4 x i ++ (aI5 i ++ (aI6 i ++ (aI7 i ++ aI8 i)))))))
theorem tX_w {c : Int32} {w : List Int32} : tX [.inr c, .inl w] = [c] ++ w := by
  show c :: (w ++ []) = c :: w
  rw [List.append_nil]
theorem tX_aT {ks : List Kd} {κ : Kd} : tX (aT ks κ) = txT ks κ := by
  unfold aT txT
  show 40 :: tX (aW (ks.map kdW) ++ [.inr 41, .inr 32, .inl (kdW κ)]) = _
  rw [tX_app, txS_all']
  have e : tX (aW (ks.map kdW)) = tW [] (ks.map kdW) := by
    cases ks with
    | nil => rfl
    | cons a r => exact tX_aW (f := []) (ws := (a :: r).map kdW) (by simp)
  rw [e]
  show 40 :: (tW [] (ks.map kdW) ++ (41 :: 32 :: (kdW κ ++ []))) = _
  rw [List.append_nil]
  simp only [List.append_assoc, List.cons_append, List.nil_append]
theorem tX_aIn {x : Mth} {i : Ins} (h : nfI i) : tX (aIn x i) = txIn x i := by
  unfold aIn txIn
  show wA i.1 ++ tX _ = _
  simp only [tX_app]
  have h1 : tX (aI1 i) = tI1 i := by unfold aI1 tI1; split; exact tX_w; rfl
  have h2 : tX (aI2 i) = tI2 i := by unfold aI2 tI2; split; exact tX_w; rfl
  have h3 : tX (aI3 x i) = tI3 x i := by unfold aI3 tI3; split; exact tX_w; rfl
  have h4 : tX (aI4 x i) = tI4 x i := by
    unfold aI4 tI4
    split
    · rename_i c
      rw [txP_all']
      exact tX_aW (f := [.inr 32]) (by rw [ne_eq, List.map_eq_nil_iff]; exact h.2.2.1.2.2 c)
    · rfl
  have h5 : tX (aI5 i) = tI5 i := by unfold aI5 tI5; split; exact tX_w; rfl
  have h6 : tX (aI6 i) = tI6 i := by unfold aI6 tI6; split; exact tX_w; rfl
  have h7 : tX (aI7 i) = tI7 i := by unfold aI7 tI7; split; exact tX_w; rfl
  have h8 : tX (aI8 i) = tI8 i := by unfold aI8 tI8; split; exact tX_aT; rfl
  rw [h1, h2, h3, h4, h5, h6, h7, h8]
  simp only [List.append_assoc]
/-- a piece behind a word -/
def pcA (a : List Atm) : Prop := (okA true a ∧ lsA true a = true) ∧ (Sum.inr 10 : Atm) ∉ a
theorem pcA.nil : pcA [] := ⟨⟨trivial, rfl⟩, by simp⟩
theorem pcA.app {a b : List Atm} (ha : pcA a) (hb : pcA b) : pcA (a ++ b) := ⟨⟨okA_app _ _ _ ha.1.1 (by rw [ha.1.2]; exact hb.1.1), by rw [lsA_app, ha.1.2]; exact hb.1.2⟩, fun h => (List.mem_append.1 h).elim ha.2 hb.2⟩
theorem pcA.w {c : Int32} {w : List Int32} (hc : wc c = false) (h10 : c ≠ 10) (hw : wcL w) : pcA [.inr c, .inl w] := ⟨⟨⟨hc, ⟨rfl, hw⟩, trivial⟩, rfl⟩, by simp; exact fun e => h10 e.symm⟩
theorem lsA_fm : ∀ (r : List (List Int32)) , lsA true (r.flatMap (fun w => [.inr 44, .inr 32, .inl w])) = true
  | [] => rfl
  | a :: r => lsA_fm r
theorem lsA_aW {ws : List (List Int32)} (h : ws ≠ []) (p : Bool) : lsA p (aW ws) = true := by
  cases ws with
  | nil => exact absurd rfl h
  | cons a r => exact lsA_fm r
theorem pcA.aT {ks : List Kd} {κ : Kd} (hk : ∀ κ ∈ ks, kNf κ) (h : kNf κ) : pcA (aT ks κ) := by
  have hw : ∀ w ∈ ks.map kdW, wcL w := fun w hw => by
    obtain ⟨a, ha, e⟩ := List.mem_map.1 hw
    rw [← e]; exact kdW_wc (hk a ha)
  refine ⟨⟨⟨by decide, okA_app _ _ _ (aW_ok hw) ⟨by decide, by decide, ⟨rfl, kdW_wc h⟩, trivial⟩⟩, ?_⟩, fun z => ?_⟩
  · show lsA false (aW (ks.map kdW) ++ [.inr 41, .inr 32, .inl (kdW κ)]) = true
    rw [lsA_app]; rfl
  · rcases List.mem_cons.1 z with e | e
    · injection e with e; exact absurd e (by decide)
    · rcases List.mem_append.1 e with e | e
      · exact aW_10 e
      · simp at e
theorem wA_wc : ∀ o, o < 102 → wcL (wA o) := by
  have h1 : ∀ o, o < 102 → wA o ≠ [] := by decide +kernel
  have h2 : ∀ o, o < 102 → ∀ c ∈ wA o, wc c = true := by decide +kernel
  exact fun o h => ⟨h1 o h, h2 o h⟩
theorem aIn_ok {x : Mth} {i : Ins} (h : nfI i) : ∃ r, aIn x i = .inl (wA i.1) :: r ∧ pcA r := by
  obtain ⟨h62, -, ⟨-, -, hp⟩, ⟨-, hk⟩, ⟨-, hm⟩, ⟨-, ha⟩, ⟨-, hr⟩, -⟩ := id h
  refine ⟨_, rfl, ?_⟩
  have h1 : pcA (aI1 i) := by unfold aI1; split; exact pcA.w (by decide) (by decide) dgi_wc; exact pcA.nil
  have h2 : pcA (aI2 i) := by unfold aI2; split; exact pcA.w (by decide) (by decide) dgi_wc; exact pcA.nil
  have h3 : pcA (aI3 x i) := by unfold aI3; split; exact pcA.w (by decide) (by decide) txL_wc; exact pcA.nil
  have h4 : pcA (aI4 x i) := by
    unfold aI4
    split
    · rename_i c
      have hne : (iT i).map (txL x) ≠ [] := by rw [ne_eq, List.map_eq_nil_iff]; exact hp c
      refine ⟨⟨⟨by decide, aW_ok (fun w hw => ?_)⟩, lsA_aW hne false⟩, fun z => ?_⟩
      · obtain ⟨a, -, e⟩ := List.mem_map.1 hw
        rw [← e]; exact txL_wc
      · rcases List.mem_cons.1 z with e | e
        · injection e with e; exact absurd e (by decide)
        · exact aW_10 e
    · exact pcA.nil
  have h5 : pcA (aI5 i) := by
    unfold aI5
    split
    · rename_i c; exact pcA.w (by decide) (by decide) (hk c)
    · exact pcA.nil
  have h6 : pcA (aI6 i) := by
    unfold aI6
    split
    · rename_i c; exact pcA.w (by decide) (by decide) (hm c)
    · exact pcA.nil
  have h7 : pcA (aI7 i) := by unfold aI7; split; exact pcA.w (by decide) (by decide) (kdW_wc hr); exact pcA.nil
  have h8 : pcA (aI8 i) := by unfold aI8; split; exact pcA.aT ha hr; exact pcA.nil
  exact h1.app (h2.app (h3.app (h4.app (h5.app (h6.app (h7.app h8))))))
/-- all of an instruction but its frame, labels by their numbers -/
noncomputable def ri (x : Mth) (i : Ins) : Nat × Int32 × Int32 × List Int32 × Nm × Nm × List Kd × Kd := (i.1, iV i, i.2.2.1, (iT i).map (lbJ x), iK i, iM i, iA i, iR i)
theorem wA_inj : ∀ o, o < 62 → ∀ o', o' < 62 → wA o = wA o' → o = o' := by decide +kernel
theorem map_txL {x y : Mth} : ∀ {a b : List Nat}, a.map (txL x) = b.map (txL y) → a.map (lbJ x) = b.map (lbJ y)
  | [], [], _ => rfl
  | [], b :: l, h => by cases h
  | a :: l, [], h => by cases h
  | a :: l, b :: m, h => by
    have h : txL x a :: l.map (txL x) = txL y b :: m.map (txL y) := h
    injection h with e1 e2
    show lbJ x a :: l.map (lbJ x) = lbJ y b :: m.map (lbJ y)
    rw [txL_inj e1, map_txL e2]
theorem eSg.nil : eSg [] := Or.inl rfl
theorem aT_inj {ks ks' : List Kd} {κ κ' : Kd} (hk : ∀ κ ∈ ks, kNf κ) (hk' : ∀ κ ∈ ks', kNf κ) (h1 : kNf κ) (h2 : kNf κ') (h : aT ks κ = aT ks' κ') : ks = ks' ∧ κ = κ' := by
  unfold aT at h
  injection h with _ h
  obtain ⟨e1, e2⟩ := aW_inj (Or.inr ⟨41, _, rfl, by decide⟩) (Or.inr ⟨41, _, rfl, by decide⟩) h
  injection e2 with _ e2
  injection e2 with _ e2
  injection e2 with e2 _
  injection e2 with e2
  exact ⟨map_kdW hk hk' e1, kdW_inj h1 h2 e2⟩
theorem w_inj {c : Int32} {a b : List Int32} {s s' : List Atm} (h : ([.inr c, .inl a] : List Atm) ++ s = [.inr c, .inl b] ++ s') : a = b ∧ s = s' := by
  have h : (.inr c :: .inl a :: s : List Atm) = .inr c :: .inl b :: s' := h
  injection h with _ h
  injection h with e h
  injection e with e
  exact ⟨e, h⟩
theorem aW_inj0 {ws ws' : List (List Int32)} (h : aW ws = aW ws') : ws = ws' := (aW_inj (ws := ws) (ws' := ws') (s := []) (s' := []) eSg.nil eSg.nil (by rw [h])).1
theorem w_inj0 {c : Int32} {a b : List Int32} (h : ([.inr c, .inl a] : List Atm) = [.inr c, .inl b]) : a = b := by
  injection h with _ h
  injection h with e _
  injection e with e
theorem aIn_inj {x y : Mth} {i j : Ins} (hi : nfI i) (hj : nfI j) (h : aIn x i = aIn y j) : ri x i = ri y j := by
  unfold aIn at h
  injection h with e0 h
  injection e0 with e0
  have eo := wA_inj i.1 hi.1 j.1 hj.1 e0
  obtain ⟨o, v, u, T, k, m, ks, κ, f⟩ := i
  obtain ⟨o', v', u', T', k', m', ks', κ', f'⟩ := j
  have eo : o = o' := eo
  subst eo
  unfold nfI at hi hj
  obtain ⟨h62, ⟨v1, u1⟩, ⟨t1, t2, t3⟩, ⟨k1, k2⟩, ⟨m1, m2⟩, ⟨a1, a2⟩, ⟨r1, r2⟩, -⟩ := hi
  obtain ⟨-, ⟨v1', u1'⟩, ⟨t1', t2', t3'⟩, ⟨k1', k2'⟩, ⟨m1', m2'⟩, ⟨a1', a2'⟩, ⟨r1', r2'⟩, -⟩ := hj
  unfold aI1 aI2 aI3 aI4 aI5 aI6 aI7 aI8 at h
  dsimp only [iV, iT, iK, iM, iA, iR] at *
  unfold ri
  dsimp only [iV, iT, iK, iM, iA, iR]
  by_cases c1 : o = 1 ∨ (3 ≤ o ∧ o ≤ 7)
  · have nJ : ¬ isJ o := by omega
    have n40 : ¬ o = 40 := by omega
    have n41 : ¬ (o = 41 ∨ (46 ≤ o ∧ o ≤ 55)) := by omega
    have n46 : ¬ (46 ≤ o ∧ o ≤ 53) := by omega
    have nF : ¬ isFo o := by omega
    have nM : ¬ isMo o := by omega
    have y1 : o = 1 ∨ (3 ≤ o ∧ o ≤ 7) ∨ o = 40 := by omega
    simp only [if_pos y1, if_neg nJ, if_neg n40, if_neg n41, if_neg n46, if_neg nF, if_neg nM, List.append_nil] at h
    rw [t2 nJ n40, t2' nJ n40, k1 n41, k1' n41, m1 n46, m1' n46, a1 nM, a1' nM, r1 (fun z => z.elim nF nM), r1' (fun z => z.elim nF nM)]
    by_cases c7 : o = 7
    · rw [if_pos c7, if_pos c7] at h
      obtain ⟨e1, e2⟩ := w_inj h
      have e2 := w_inj0 e2
      rw [dgi_inj e1, dgi_inj e2]
      rfl
    · rw [if_neg c7, if_neg c7, List.append_nil, List.append_nil] at h
      have e1 := w_inj0 h
      rw [dgi_inj e1, u1 c7, u1' c7]
      rfl
  have n7 : ¬ o = 7 := by omega
  rw [u1 n7, u1' n7]
  simp only [if_neg n7] at h
  by_cases cJ : isJ o
  · have n1 : ¬ (o = 1 ∨ (3 ≤ o ∧ o ≤ 7) ∨ o = 40) := by omega
    have n40 : ¬ o = 40 := by omega
    have n41 : ¬ (o = 41 ∨ (46 ≤ o ∧ o ≤ 55)) := by omega
    have n46 : ¬ (46 ≤ o ∧ o ≤ 53) := by omega
    have nF : ¬ isFo o := by omega
    have nM : ¬ isMo o := by omega
    simp only [if_neg n1, if_pos cJ, if_neg n40, if_neg n41, if_neg n46, if_neg nF, if_neg nM, List.append_nil, List.nil_append] at h
    have e1 := w_inj0 h
    have e1 := txL_inj e1
    have eT : T.map (lbJ x) = T'.map (lbJ y) := by
      have l1 := t1 cJ
      have l2 := t1' cJ
      match T, T', l1, l2, e1 with
      | [a], [b], _, _, e1 => show [lbJ x a] = [lbJ y b]; rw [show lbJ x a = lbJ y b from e1]
    rw [eT, v1 n1, v1' n1, k1 n41, k1' n41, m1 n46, m1' n46, a1 nM, a1' nM, r1 (fun z => z.elim nF nM), r1' (fun z => z.elim nF nM)]
  simp only [if_neg cJ] at h
  by_cases c40 : o = 40
  · have y1 : o = 1 ∨ (3 ≤ o ∧ o ≤ 7) ∨ o = 40 := by omega
    have n41 : ¬ (o = 41 ∨ (46 ≤ o ∧ o ≤ 55)) := by omega
    have n46 : ¬ (46 ≤ o ∧ o ≤ 53) := by omega
    have nF : ¬ isFo o := by omega
    have nM : ¬ isMo o := by omega
    simp only [if_pos y1, if_pos c40, if_neg n41, if_neg n46, if_neg nF, if_neg nM, List.append_nil, List.nil_append] at h
    obtain ⟨e1, e2⟩ := w_inj h
    injection e2 with _ e2
    have e2 := aW_inj0 e2
    rw [dgi_inj e1, map_txL e2, k1 n41, k1' n41, m1 n46, m1' n46, a1 nM, a1' nM, r1 (fun z => z.elim nF nM), r1' (fun z => z.elim nF nM)]
  have n1 : ¬ (o = 1 ∨ (3 ≤ o ∧ o ≤ 7) ∨ o = 40) := by omega
  rw [v1 n1, v1' n1, t2 cJ c40, t2' cJ c40]
  simp only [if_neg n1, if_neg c40, List.nil_append] at h
  by_cases c41 : o = 41 ∨ (46 ≤ o ∧ o ≤ 55)
  · simp only [if_pos c41] at h
    obtain ⟨ek, h⟩ := w_inj h
    rw [ek]
    by_cases c46 : 46 ≤ o ∧ o ≤ 53
    · simp only [if_pos c46] at h
      obtain ⟨em, h⟩ := w_inj h
      rw [em]
      by_cases cF : isFo o
      · have nM : ¬ isMo o := by omega
        simp only [if_pos cF, if_neg nM, List.append_nil] at h
        have e1 := w_inj0 h
        rw [a1 nM, a1' nM, kdW_inj r2 r2' e1]
        rfl
      · have cM : isMo o := ⟨by omega, c46.2⟩
        simp only [if_neg cF, if_pos cM, List.nil_append] at h
        obtain ⟨e1, e2⟩ := aT_inj a2 a2' r2 r2' h
        rw [e1, e2]
        rfl
    · have nF : ¬ isFo o := by omega
      have nM : ¬ isMo o := by omega
      rw [m1 c46, m1' c46, a1 nM, a1' nM, r1 (fun z => z.elim nF nM), r1' (fun z => z.elim nF nM)]
      rfl
  · have n46 : ¬ (46 ≤ o ∧ o ≤ 53) := by omega
    have nF : ¬ isFo o := by omega
    have nM : ¬ isMo o := by omega
    rw [k1 c41, k1' c41, m1 n46, m1' n46, a1 nM, a1' nM, r1 (fun z => z.elim nF nM), r1' (fun z => z.elim nF nM)]
    rfl
