/-! B: methods of a world, as the works hold them -/
def kdOk (κ : Kd) : Prop := κ = (0, []) ∨ κ = (1, []) ∨ κ = (-4, []) ∨ κ.1 = 2
theorem kC_inj {A : List Nm} {a b : Kd} (ha : kdOk a) (hb : kdOk b) (ka : kok A a) (kb : kok A b) (hA : A.length < 1000000) : kC A a = kC A b ↔ a = b := by
  refine ⟨fun h => ?_, fun h => by rw [h]⟩
  have big : ∀ {κ : Kd}, κ.1 = 2 → kok A κ → kC A κ = Int32.ofNat (A.idxOf κ.2 + 2) ∧ A.idxOf κ.2 < A.length := fun {κ} h1 h2 => by
    refine ⟨by unfold kC; rw [if_pos h1], List.idxOf_lt_length_iff.mpr (h2 h1)⟩
  have sm : ∀ {κ : Kd}, (κ = (0, []) ∨ κ = (1, []) ∨ κ = (-4, [])) → ∀ j, 2 ≤ j → j < 2000000 → kC A κ ≠ Int32.ofNat j := fun {κ} h1 j j1 j2 q => by
    rcases h1 with e | e | e
    · subst e
      exact absurd ((oN_inj (a := 0) (b := j) (by omega) (by omega)).mp q) (by omega)
    · subst e
      exact absurd ((oN_inj (a := 1) (b := j) (by omega) (by omega)).mp q) (by omega)
    · subst e
      have q' : (-4 : Int32) = Int32.ofNat j := q
      have := congrArg Int32.toInt q'
      rw [oN_toInt (by omega)] at this
      have e4 : (-4 : Int32).toInt = -4 := by decide
      rw [e4] at this; omega
  by_cases a2 : a.1 = 2
  · obtain ⟨a3, a4⟩ := big a2 ka
    by_cases b2' : b.1 = 2
    · obtain ⟨b3, b4⟩ := big b2' kb
      rw [a3, b3] at h
      have := (oN_inj (by omega) (by omega)).mp h
      have e1 : A[A.idxOf a.2]? = some a.2 := by rw [List.getElem?_eq_getElem a4, List.getElem_idxOf a4]
      have e2 : A[A.idxOf b.2]? = some b.2 := by rw [List.getElem?_eq_getElem b4, List.getElem_idxOf b4]
      rw [show A.idxOf a.2 = A.idxOf b.2 by omega, e2] at e1
      exact Prod.ext (a2.trans b2'.symm) (Option.some.inj e1).symm
    · rw [a3] at h
      refine absurd h.symm (sm ?_ _ (by omega) (by omega))
      rcases hb with q | q | q | q
      · exact Or.inl q
      · exact Or.inr (Or.inl q)
      · exact Or.inr (Or.inr q)
      · exact absurd q b2'
  · have ha' : a = (0, []) ∨ a = (1, []) ∨ a = (-4, []) := by
      rcases ha with q | q | q | q
      · exact Or.inl q
      · exact Or.inr (Or.inl q)
      · exact Or.inr (Or.inr q)
      · exact absurd q a2
    by_cases b2' : b.1 = 2
    · obtain ⟨b3, b4⟩ := big b2' kb
      rw [b3] at h
      exact absurd h (sm ha' _ (by omega) (by omega))
    · have hb' : b = (0, []) ∨ b = (1, []) ∨ b = (-4, []) := by
        rcases hb with q | q | q | q
        · exact Or.inl q
        · exact Or.inr (Or.inl q)
        · exact Or.inr (Or.inr q)
        · exact absurd q b2'
      have d1 : ¬ (0 : Int32) = 1 := by decide
      have d2 : ¬ (0 : Int32) = -4 := by decide
      have d3 : ¬ (1 : Int32) = -4 := by decide
      rcases ha' with e | e | e <;> rcases hb' with e' | e' | e' <;> (subst e e')
      · rfl
      · exact absurd h d1
      · exact absurd h d2
      · exact absurd h.symm d1
      · rfl
      · exact absurd h d3
      · exact absurd h.symm d2
      · exact absurd h.symm d3
      · rfl
theorem pType_kd {ts t2 : List Tok} {κ : Kd} (h : pType ts = .inr (κ, t2)) : kdOk κ := by
  rcases pType_kind h with q | q | q
  · exact Or.inl q
  · exact Or.inr (Or.inl q)
  · exact Or.inr (Or.inr (Or.inr q))
theorem pRes_kd {ts t2 : List Tok} {κ : Kd} (h : pRes ts = .inr (κ, t2)) : kdOk κ := by
  unfold pRes at h
  split at h
  · cases h; exact Or.inr (Or.inr (Or.inl rfl))
  · exact pType_kd h
theorem pTypesF_kd {s : Bool} : ∀ d acc ts ks t', pTypesF s d acc ts = .inr (ks, t') → (∀ κ ∈ acc, kdOk κ) → ∀ κ ∈ ks, kdOk κ := by
  intro d
  induction d with
  | zero => intro acc ts ks t' h; unfold pTypesF at h; cases h
  | succ d ih =>
    intro acc ts ks t' h ha
    unfold pTypesF at h
    by_cases c : (hd ts).1 = 41
    · rw [if_pos c] at h; cases h; exact ha
    · rw [if_neg c] at h
      split at h
      · cases h
      · split at h
        · cases h
        · split at h
          · cases h
          · rename_i q
            refine ih _ _ _ _ h (fun κ hκ => ?_)
            rcases List.mem_append.mp hκ with z | z
            · exact ha κ z
            · simp at z; rw [z]; exact pType_kd q
theorem pTypes_kd {s : Bool} {ts t' : List Tok} {ks : List Kd} (h : pTypes s ts = .inr (ks, t')) : ∀ κ ∈ ks, kdOk κ := by
  unfold pTypes pSign at h
  by_cases c : (hd ts).1 = 40
  · rw [if_pos c] at h
    exact pTypesF_kd _ _ _ _ _ h (fun κ hκ => by cases hκ)
  · rw [if_neg c] at h; cases h
/-- a method's head -/
def cHd (A : List Nm) (w c m : Nat) (x : Mth) (M : Mem) : Prop := mI M 55 w m = Int32.ofNat c ∧ (mI M 56 w m = nc A x.1 ∧ x.1 ∈ A) ∧ mI M 57 w m = x.2.2.2.1 ∧ (mI M 58 w m = Int32.ofNat x.2.1.length ∧ x.2.1.length ≤ 6 ∧ ∀ i, i < x.2.1.length → mI M 211 (2 * w + 1) (6 * m + i) = kC A (gk x.2.1 i) ∧ kok A (gk x.2.1 i) ∧ kdOk (gk x.2.1 i)) ∧ (mI M 59 w m = kC A x.2.2.1 ∧ kok A x.2.2.1 ∧ kdOk x.2.2.1) ∧ mI M 60 w m = x.2.2.2.2.1 ∧ mI M 61 w m = x.2.2.2.2.2.1
theorem cHd.pre {A A' : List Nm} {w c m : Nat} {x : Mth} {M : Mem} (h : cHd A w c m x M) (hp : A <+: A') : cHd A' w c m x M :=
  ⟨h.1, ⟨h.2.1.1.trans (nc_pre hp h.2.1.2).symm, hp.subset h.2.1.2⟩, h.2.2.1, ⟨h.2.2.2.1.1, h.2.2.2.1.2.1, fun i hi => ⟨(h.2.2.2.1.2.2 i hi).1.trans (kC_pre hp (h.2.2.2.1.2.2 i hi).2.1).symm, kok_pre hp (h.2.2.2.1.2.2 i hi).2.1, (h.2.2.2.1.2.2 i hi).2.2⟩⟩, ⟨h.2.2.2.2.1.1.trans (kC_pre hp h.2.2.2.2.1.2.1).symm, kok_pre hp h.2.2.2.2.1.2.1, h.2.2.2.2.1.2.2⟩, h.2.2.2.2.2⟩
theorem cHd.lo {A : List Nm} {w c m : Nat} {x : Mth} {b : Nat → Nat} {M M' : Mem} (h : cHd A w c m x M) (hx : Lo w b M M') (hb : ∀ f, 55 ≤ f → f ≤ 61 → m < b f) (hb2 : 6 * m + 6 ≤ b 211) : cHd A w c m x M' := by
  have e : ∀ f, 55 ≤ f → f ≤ 61 → mI M' f w m = mI M f w m := fun f a c => (hx.1 f (by
    unfold wFm; rw [Bool.or_eq_true, Bool.and_eq_true]; exact Or.inl ⟨Nat.ble_eq.mpr (by omega), Nat.ble_eq.mpr (by omega)⟩)).1 w m (Or.inr (hb f a c))
  have e2 : ∀ j, j < b 211 → mI M' 211 (2 * w + 1) j = mI M 211 (2 * w + 1) j := fun j hj => hx.2.2.1 (2 * w + 1) j (by omega) (fun _ => hj) (fun q => by omega)
  obtain ⟨h1, h2, h3, ⟨h4, h5, h6⟩, h7, h8, h9⟩ := h
  unfold cHd
  rw [e 55 (by omega) (by omega), e 56 (by omega) (by omega), e 57 (by omega) (by omega), e 58 (by omega) (by omega), e 59 (by omega) (by omega), e 60 (by omega) (by omega), e 61 (by omega) (by omega)]
  exact ⟨h1, h2, h3, ⟨h4, h5, fun i hi => by rw [e2 _ (by omega)]; exact h6 i hi⟩, h7, h8, h9⟩
theorem cFi.pre {A A' : List Nm} {w nk np nr q : Nat} {x : Ins} {M : Mem} (h : cFi A w nk np nr q x M) (hp : A <+: A') : cFi A' w nk np nr q x M := by
  obtain ⟨h1, ⟨pf, h2, h3⟩, h4, h5, h6⟩ := h
  exact ⟨h1, ⟨pf, h2.pre hp, h3⟩, h4, h5.pre hp, h6⟩
theorem cFi.mono {A : List Nm} {w nk nk' np np' nr nr' q : Nat} {x : Ins} {M : Mem} (h : cFi A w nk np nr q x M) (hk : nk ≤ nk') (hn : np ≤ np') (hr : nr ≤ nr') : cFi A w nk' np' nr' q x M := by
  obtain ⟨h1, ⟨pf, h2, h3⟩, h4, h5, h6⟩ := h
  exact ⟨h1, ⟨pf, h2.mono hr, fun q => ⟨by have := (h3 q).1; omega, (h3 q).2⟩⟩, h4, h5.mono hk, h6⟩
theorem cFi.lo {A : List Nm} {w nk np nr q nq : Nat} {x : Ins} {b : Nat → Nat} {M M' : Mem} (h : cFi A w nk np nr q x M) (hx : Lo w b M M') (hq : q < nq) (hb : ∀ f, 66 ≤ f → f ≤ 72 → nq ≤ b f) (h73 : nk ≤ b 73) (h74 : np ≤ b 74) (h76 : 4 * nr ≤ b 76) (h212 : 6 * nr ≤ b 212) : cFi A w nk np nr q x M' := by
  obtain ⟨h1, ⟨pf, h2, h3⟩, h4, h5, h6⟩ := h
  have hb' : ∀ f, 66 ≤ f → f ≤ 72 → q < b f := fun f a c => by have := hb f a c; omega
  refine ⟨⟨((hx.1 66 rfl).1 w q (Or.inr (hb' 66 (by omega) (by omega)))).trans h1.1, h1.2⟩, ⟨pf, h2.lo hx (Or.inl (hb' 67 (by omega) (by omega))) (hb' 68 (by omega) (by omega)) (hb' 69 (by omega) (by omega)) h76 h212, fun q' => ⟨(h3 q').1, fun j hj => ?_⟩⟩, fun q' => ((hx.1 67 rfl).1 w q (Or.inr (hb' 67 (by omega) (by omega)))).trans (h4 q'), h5.lo hx (hb' 70 (by omega) (by omega)) (hb' 71 (by omega) (by omega)) (hb' 72 (by omega) (by omega)) h73, h6⟩
  rw [(hx.1 74 rfl).1 w _ (Or.inr (by have := (h3 q').1; omega))]
  exact (h3 q').2 j hj
theorem cFh.pre {A A' : List Nm} {w h : Nat} {x : Hnd} {M : Mem} (c : cFh A w h x M) (hp : A <+: A') : cFh A' w h x M := ⟨c.1, c.2.1, c.2.2.1, c.2.2.2.1.trans (nc_pre hp c.2.2.2.2).symm, hp.subset c.2.2.2.2⟩
theorem cFh.lo {A : List Nm} {w h : Nat} {x : Hnd} {b : Nat → Nat} {M M' : Mem} (c : cFh A w h x M) (hx : Lo w b M M') (hb : 4 * h + 4 ≤ b 75) : cFh A w h x M' := by
  have e : ∀ j, j < b 75 → mI M' 75 w j = mI M 75 w j := fun j hj => (hx.1 75 rfl).1 w j (Or.inr hj)
  unfold cFh
  rw [e _ (by omega), e _ (by omega), e _ (by omega), e _ (by omega)]; exact c
theorem cMc.pre {A A' : List Nm} {w nq nk np nh nr m : Nat} {x : Mth} {M : Mem} (h : cMc A w nq nk np nh nr m x M) (hp : A <+: A') : cMc A' w nq nk np nh nr m x M := by
  obtain ⟨q0, h0, a, b, c⟩ := h
  exact ⟨q0, h0, a, fun i hi => (b i hi).pre hp, fun i hi => (c i hi).pre hp⟩
theorem cMc.mono {A : List Nm} {w nq nk np nh nr nq' nk' np' nh' nr' m : Nat} {x : Mth} {M : Mem} (h : cMc A w nq nk np nh nr m x M) (h1 : nq ≤ nq') (h2 : nk ≤ nk') (h3 : np ≤ np') (h4 : nh ≤ nh') (h5 : nr ≤ nr') : cMc A w nq' nk' np' nh' nr' m x M := by
  obtain ⟨q0, h0, ⟨a1, a2, a3, a4, a5, a6, a7, a8⟩, b, c⟩ := h
  exact ⟨q0, h0, ⟨a1, a2, by omega, a4, a5, a6, by omega, a8⟩, fun i hi => (b i hi).mono h2 h3 h5, c⟩
/-- bounds of all that finished methods hold -/
def bM (nm nq nk np nh nr : Nat) (b : Nat → Nat) : Prop := (∀ f, 55 ≤ f → f ≤ 65 → nm ≤ b f) ∧ 6 * nm ≤ b 211 ∧ (∀ f, 66 ≤ f → f ≤ 72 → nq ≤ b f) ∧ nk ≤ b 73 ∧ np ≤ b 74 ∧ 4 * nh ≤ b 75 ∧ 4 * nr ≤ b 76 ∧ 6 * nr ≤ b 212
theorem cMc.lo {A : List Nm} {w nm nq nk np nh nr m : Nat} {x : Mth} {b : Nat → Nat} {M M' : Mem} (h : cMc A w nq nk np nh nr m x M) (hx : Lo w b M M') (hm : m < nm) (hb : bM nm nq nk np nh nr b) : cMc A w nq nk np nh nr m x M' := by
  obtain ⟨q0, h0, ⟨a1, a2, a3, a4, a5, a6, a7, a8⟩, b', c⟩ := h
  obtain ⟨k1, k2, k3, k4, k5, k6, k7, k8⟩ := hb
  have e : ∀ f, 62 ≤ f → f ≤ 65 → mI M' f w m = mI M f w m := fun f a c => (hx.1 f (by
    unfold wFm; rw [Bool.or_eq_true, Bool.and_eq_true]; exact Or.inl ⟨Nat.ble_eq.mpr (by omega), Nat.ble_eq.mpr (by omega)⟩)).1 w m (Or.inr (by have := k1 f (by omega) (by omega); omega))
  refine ⟨q0, h0, ⟨(e 62 (by omega) (by omega)).trans a1, (e 63 (by omega) (by omega)).trans a2, a3, a4, (e 64 (by omega) (by omega)).trans a5, (e 65 (by omega) (by omega)).trans a6, a7, a8⟩, fun i hi => (b' i hi).lo hx (by omega : q0 + i < nq) k3 k4 k5 k7 k8, fun i hi => (c i hi).lo hx (by omega)⟩
def allM (W : List Cls) : List Mth := W.flatMap (fun c => c.2.2.2.2.2)
abbrev moff (W : List Cls) (c : Nat) : Nat := (allM (W.take c)).length
abbrev gmt (c : Cls) (k : Nat) : Mth := c.2.2.2.2.2.getD k ([], [], (0, []), 0, 0, 0, [], [])
theorem allM_app (X Y : List Cls) : allM (X ++ Y) = allM X ++ allM Y := by simp [allM]
theorem moff_succ {W : List Cls} {n : Nat} (h : n < W.length) : moff W (n + 1) = moff W n + (gc W n).2.2.2.2.2.length := by
  unfold moff
  rw [take_gc h, allM_app, List.length_append]
  simp [allM]
theorem moff_all (W : List Cls) : moff W W.length = (allM W).length := by unfold moff; rw [List.take_length]
theorem moff_mono {W : List Cls} {a b : Nat} (h : a ≤ b) (hb : b ≤ W.length) : moff W a ≤ moff W b := by
  induction b with
  | zero => rw [show a = 0 by omega]; exact Nat.le_refl _
  | succ b ih =>
    by_cases e : a = b + 1
    · rw [e]; exact Nat.le_refl _
    · have := ih (by omega) (by omega)
      rw [moff_succ (by omega)]; omega
theorem moff_at {W : List Cls} {c k : Nat} (hc : c < W.length) (hk : k < (gc W c).2.2.2.2.2.length) : moff W c + k < (allM W).length := by
  have h1 := moff_succ hc
  have h2 := moff_mono (W := W) (a := c + 1) (b := W.length) (by omega) (Nat.le_refl _)
  rw [moff_all] at h2; omega
/-- methods of a world; e = 1 while one is not finished -/
def cMs (A : List Nm) (W : List Cls) (w e nq nk np nh nr : Nat) (M : Mem) : Prop := ((mL M 43 w = 51 ∧ mL M 44 w = 51) ∧ (∀ f, 55 ≤ f → f ≤ 65 → mL M f w = 381) ∧ mL M 211 (2 * w + 1) = 2286) ∧
  (∀ c, c < W.length → (mI M 43 w c = Int32.ofNat (moff W c) ∧ mI M 44 w c = Int32.ofNat ((gc W c).2.2.2.2.2.length + if c + 1 = W.length then e else 0)) ∧ (gc W c).2.2.2.2.2.length ≤ 12 ∧ (c < 21 → (gc W c).2.2.2.2.2.length = 1)) ∧
  ∀ c, c < W.length → ∀ k, k < (gc W c).2.2.2.2.2.length → cHd A w c (moff W c + k) (gmt (gc W c) k) M ∧ cMc A w nq nk np nh nr (moff W c + k) (gmt (gc W c) k) M
theorem moff_le {W : List Cls} (h : ∀ c, c < W.length → (gc W c).2.2.2.2.2.length ≤ 12 ∧ (c < 21 → (gc W c).2.2.2.2.2.length = 1)) : ∀ n, n ≤ W.length → moff W n ≤ min n 21 + 12 * (n - 21)
  | 0, _ => by simp [moff, allM]
  | n + 1, hn => by
    have ih := moff_le h n (by omega)
    have h1 := h n (by omega)
    rw [moff_succ (by omega)]
    by_cases c : n < 21
    · rw [h1.2 c]; omega
    · omega
theorem cMs.pre {A A' : List Nm} {W : List Cls} {w e nq nk np nh nr : Nat} {M : Mem} (h : cMs A W w e nq nk np nh nr M) (hp : A <+: A') : cMs A' W w e nq nk np nh nr M := ⟨h.1, h.2.1, fun c hc k hk => ⟨(h.2.2 c hc k hk).1.pre hp, (h.2.2 c hc k hk).2.pre hp⟩⟩
theorem cMs.mono {A : List Nm} {W : List Cls} {w e nq nk np nh nr nq' nk' np' nh' nr' : Nat} {M : Mem} (h : cMs A W w e nq nk np nh nr M) (h1 : nq ≤ nq') (h2 : nk ≤ nk') (h3 : np ≤ np') (h4 : nh ≤ nh') (h5 : nr ≤ nr') : cMs A W w e nq' nk' np' nh' nr' M := ⟨h.1, h.2.1, fun c hc k hk => ⟨(h.2.2 c hc k hk).1, (h.2.2 c hc k hk).2.mono h1 h2 h3 h4 h5⟩⟩
theorem cMs.lo {A : List Nm} {W : List Cls} {w e nq nk np nh nr : Nat} {b : Nat → Nat} {M M' : Mem} (h : cMs A W w e nq nk np nh nr M) (hx : Lo w b M M') (h43 : W.length ≤ b 43) (h44 : W.length ≤ b 44) (hb : bM (allM W).length nq nk np nh nr b) : cMs A W w e nq nk np nh nr M' := by
  obtain ⟨⟨⟨a1, a2⟩, a3, a4⟩, c1, c2⟩ := h
  refine ⟨⟨⟨((hx.1 43 rfl).2 w).trans a1, ((hx.1 44 rfl).2 w).trans a2⟩, fun f x y => ?_, (hx.2.2.2 _).trans a4⟩, fun c hc => ?_, fun c hc k hk => ?_⟩
  · rw [(hx.1 f (by unfold wFm; rw [Bool.or_eq_true, Bool.and_eq_true]; exact Or.inl ⟨Nat.ble_eq.mpr (by omega), Nat.ble_eq.mpr (by omega)⟩)).2]; exact a3 f x y
  · rw [(hx.1 43 rfl).1 w c (Or.inr (by omega)), (hx.1 44 rfl).1 w c (Or.inr (by omega))]; exact c1 c hc
  · have hlt := moff_at hc hk
    exact ⟨(c2 c hc k hk).1.lo hx (fun f x y => by have := hb.1 f (by omega) (by omega); omega) (by have := hb.2.1; omega), (c2 c hc k hk).2.lo hx hlt hb⟩
