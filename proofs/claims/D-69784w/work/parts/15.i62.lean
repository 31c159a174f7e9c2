/-! METHODS OUT OF A TEXT ARE AS WRITING ASKS -/
def okN (l : List Tok) : Prop := ∀ t ∈ l, (t.1 = 2 ∨ t.1 = 3) → wcL t.2.1
theorem okN.tail {l : List Tok} (h : okN l) : okN l.tail := fun t ht => h t (List.mem_of_mem_tail ht)
theorem okN.h1 {l : List Tok} (h : okN l) (h2 : (hd l).1 = 2 ∨ (hd l).1 = 3) : wcL (hd l).2.1 := by
  cases l with
  | nil => exact absurd h2 (by decide)
  | cons a l => exact h a (List.mem_cons_self ..) h2
section
variable {ts t1 : List Tok} {κ : Kd} {nm : Nm} {v lo hi : Int32} {b : Nat} {u : Unit}
theorem pSign_n (ho : okN ts) (h : pSign b ts = .inr (u, t1)) : okN t1 := by
  unfold pSign at h
  split at h
  · cases h; exact ho.tail
  · cases h
theorem pName_n (ho : okN ts) (h : pName ts = .inr (nm, t1)) : wcL nm ∧ okN t1 := by
  unfold pName at h
  split at h
  · rename_i c
    cases h
    exact ⟨ho.h1 (Or.inl c), ho.tail⟩
  · cases h
theorem pNum_n (ho : okN ts) (h : pNum lo hi ts = .inr (v, t1)) : okN t1 := by
  unfold pNum at h
  split at h
  · cases h; exact ho.tail
  · cases h
theorem pCls_n (ho : okN ts) (h : pCls ts = .inr (nm, t1)) : wcL nm ∧ nm ∉ noCls ∧ okN t1 := by
  unfold pCls at h
  split at h
  · rename_i c
    cases h
    exact ⟨ho.h1 (Or.inl c.1), c.2, ho.tail⟩
  · cases h
theorem pType_n (ho : okN ts) (h : pType ts = .inr (κ, t1)) : kNf κ ∧ okN t1 := by
  unfold pType at h
  split at h
  · cases h; exact ⟨Or.inl rfl, ho.tail⟩
  split at h
  · cases h; exact ⟨Or.inr (Or.inl rfl), ho.tail⟩
  split at h
  · cases h
  · rename_i e
    cases h
    obtain ⟨a, b, c⟩ := pCls_n ho e
    exact ⟨Or.inr (Or.inr (Or.inr (Or.inr (Or.inr (Or.inr ⟨rfl, b, a⟩))))), c⟩
theorem pRes_n (ho : okN ts) (h : pRes ts = .inr (κ, t1)) : kNf κ ∧ okN t1 := by
  unfold pRes at h
  split at h
  · cases h; exact ⟨Or.inr (Or.inr (Or.inl rfl)), ho.tail⟩
  · exact pType_n ho h
theorem pKind_n (ho : okN ts) (h : pKind ts = .inr (κ, t1)) : kNf κ ∧ okN t1 := by
  unfold pKind at h
  split at h
  · cases h; exact ⟨Or.inr (Or.inr (Or.inr (Or.inl rfl))), ho.tail⟩
  split at h
  · cases h; exact ⟨Or.inr (Or.inr (Or.inr (Or.inr (Or.inl rfl)))), ho.tail⟩
  split at h
  · cases h; exact ⟨Or.inr (Or.inr (Or.inr (Or.inr (Or.inr (Or.inl rfl))))), ho.tail⟩
  · exact pType_n ho h
end
theorem kNf_app {acc : List Kd} {κ : Kd} (h : ∀ κ ∈ acc, kNf κ) (hk : kNf κ) : ∀ a ∈ acc ++ [κ], kNf a := fun a ha => by
  rcases List.mem_append.1 ha with z | z
  · exact h a z
  · rw [List.mem_singleton.1 z]; exact hk
theorem pTypesF_n {s : Bool} : ∀ (d : Nat) (acc : List Kd) (ts : List Tok) (ks : List Kd) (t' : List Tok), okN ts → (∀ κ ∈ acc, kNf κ) → pTypesF s d acc ts = .inr (ks, t') → (∀ κ ∈ ks, kNf κ) ∧ okN t'
  | 0, acc, ts, ks, t', ho, ha, h => by cases h
  | d + 1, acc, ts, ks, t', ho, ha, h => by
    unfold pTypesF at h
    split at h
    · cases h; exact ⟨ha, ho.tail⟩
    split at h
    · cases h
    rename_i u t1 e1
    have h1 : okN t1 := by
      split at e1
      · cases e1; exact ho
      · exact pSign_n ho e1
    split at h
    · cases h
    split at h
    · cases h
    rename_i κ t2 e2
    obtain ⟨a, b⟩ := pType_n h1 e2
    exact pTypesF_n d (acc ++ [κ]) t2 ks t' b (kNf_app ha a) h
theorem pSig_n {ts t' : List Tok} {ks : List Kd} {κ : Kd} (ho : okN ts) (h : pSig ts = .inr ((ks, κ), t')) : (∀ κ ∈ ks, kNf κ) ∧ kNf κ ∧ okN t' := by
  unfold pSig at h
  split at h
  · cases h
  rename_i ks' t1 e1
  split at h
  · cases h
  rename_i κ' t2 e2
  cases h
  unfold pTypes at e1
  split at e1
  · cases e1
  rename_i u t3 e3
  obtain ⟨a, b⟩ := pTypesF_n _ _ _ _ _ (pSign_n ho e3) (by simp) e1
  obtain ⟨c, d⟩ := pRes_n b e2
  exact ⟨a, c, d⟩
theorem pKinds_n {b : Nat} : ∀ (d : Nat) (acc : List Kd) (ts : List Tok) (ks : List Kd) (t' : List Tok), okN ts → (∀ κ ∈ acc, kNf κ) → pKinds b d acc ts = .inr (ks, t') → (∀ κ ∈ ks, kNf κ) ∧ okN t'
  | 0, acc, ts, ks, t', ho, ha, h => by cases h
  | d + 1, acc, ts, ks, t', ho, ha, h => by
    unfold pKinds at h
    split at h
    · cases h; exact ⟨ha, ho⟩
    split at h
    · cases h
    rename_i u t1 e1
    have h1 : okN t1 := by
      split at e1
      · cases e1; exact ho
      · exact pSign_n ho e1
    split at h
    · cases h
    rename_i κ t2 e2
    obtain ⟨a, b⟩ := pKind_n h1 e2
    exact pKinds_n d (acc ++ [κ]) t2 ks t' b (kNf_app ha a) h
theorem pFrame_n {ts t' : List Tok} {ls ss : List Kd} (ho : okN ts) (h : pFrame ts = .inr ((ls, ss), t')) : (∀ κ ∈ ls, kNf κ) ∧ ∀ κ ∈ ss, kNf κ := by
  unfold pFrame at h
  split at h
  · cases h
  rename_i ls' t1 e1
  split at h
  · cases h
  rename_i ss' t2 e2
  cases h
  obtain ⟨a, b⟩ := pKinds_n _ _ _ _ _ ho (by simp) e1
  obtain ⟨c, -⟩ := pKinds_n _ _ _ _ _ b.tail (by simp) e2
  exact ⟨a, c⟩
theorem pMember_n {m : Bool} {ts t' : List Tok} {k n : Nm} {ks : List Kd} {κ : Kd} (ho : okN ts) (h : pMember m ts = .inr ((k, n, ks, κ), t')) : (wcL k ∧ wcL n) ∧ ((m = false → ks = []) ∧ ∀ κ ∈ ks, kNf κ) ∧ kNf κ := by
  unfold pMember at h
  split at h
  · cases h
  rename_i k' t1 e1
  obtain ⟨a1, a2, o1⟩ := pCls_n ho e1
  split at h
  · cases h
  rename_i u t2 e2
  have o2 := pSign_n o1 e2
  split at h
  · rename_i c
    have c1 : wcL (hd t2).2.1 := o2.h1 (by rcases c with z | z; exact Or.inl z; exact Or.inr z.2.1)
    split at h
    · rename_i cm
      split at h
      · cases h
      rename_i ks' κ' t3 e3
      cases h
      obtain ⟨d1, d2, -⟩ := pSig_n o2.tail e3
      refine ⟨⟨a1, c1⟩, ⟨fun z => ?_, d1⟩, d2⟩
      rw [z] at cm; cases cm
    · split at h
      · cases h
      rename_i κ' t3 e3
      cases h
      obtain ⟨d1, -⟩ := pType_n o2.tail e3
      exact ⟨⟨a1, c1⟩, ⟨fun _ => rfl, fun κ hκ => by cases hκ⟩, d1⟩
  · cases h
theorem pPicks_nn : ∀ (d : Nat) (acc : List Nm) (ts : List Tok) (ls : List Nm) (t' : List Tok), pPicks d acc ts = .inr (ls, t') → ls ≠ []
  | 0, acc, ts, ls, t', h => by cases h
  | d + 1, acc, ts, ls, t', h => by
    unfold pPicks at h
    split at h
    · rename_i c
      cases h
      intro e
      rw [e] at c; exact c.1 rfl
    split at h
    · cases h
    split at h
    · cases h
    exact pPicks_nn d _ _ ls t' h
/-- an instruction while lines come -/
def nfPI (i : PI) : Prop := ∀ ls, nfI (insOf ls i)
theorem nf_mk {o : Nat} {v u : Int32} {T : List Nat} {k m : Nm} {ks : List Kd} {κ : Kd} {fr : Option (List Kd × List Kd)} (h62 : o < 62) (hv : ¬ (o = 1 ∨ (3 ≤ o ∧ o ≤ 7) ∨ o = 40) → v = 0) (hu : o ≠ 7 → u = 0) (t1 : isJ o → T.length = 1) (t2 : ¬ isJ o → o ≠ 40 → T = []) (t3 : o = 40 → T ≠ []) (k1 : ¬ (o = 41 ∨ (46 ≤ o ∧ o ≤ 55)) → k = []) (k2 : (o = 41 ∨ (46 ≤ o ∧ o ≤ 55)) → wcL k) (m1 : ¬ (46 ≤ o ∧ o ≤ 53) → m = []) (m2 : (46 ≤ o ∧ o ≤ 53) → wcL m) (a1 : ¬ isMo o → ks = []) (a2 : ∀ κ ∈ ks, kNf κ) (r1 : ¬ (isFo o ∨ isMo o) → κ = (0, [])) (r2 : kNf κ) (hf : ∀ f, fr = some f → (∀ κ ∈ f.1, kNf κ) ∧ ∀ κ ∈ f.2, kNf κ) : nfI (o, v, u, T, k, m, ks, κ, fr) :=
  ⟨h62, ⟨hv, hu⟩, ⟨t1, t2, t3⟩, ⟨k1, k2⟩, ⟨m1, m2⟩, ⟨a1, a2⟩, ⟨r1, r2⟩, hf⟩
theorem pOpr_nf {o : Nat} {ts t1 : List Tok} {x : Opr} {fr : Option (List Kd × List Kd)} {n : Nat} (ho : okN ts) (h62 : o < 62) (hf : ∀ f, fr = some f → (∀ κ ∈ f.1, kNf κ) ∧ ∀ κ ∈ f.2, kNf κ) (h : pOpr o ts = .inr (x, t1)) : nfPI (o, x, fr, n) := by
  intro ls
  have k0 : kNf (0, []) := Or.inl rfl
  have n0 : ∀ κ ∈ ([] : List Kd), kNf κ := fun κ hκ => by cases hκ
  unfold pOpr at h
  by_cases c1 : o = 1
  · rw [if_pos c1] at h
    split at h
    · cases h
    cases h
    exact nf_mk h62 (fun z => absurd (Or.inl c1) z) (fun _ => rfl) (fun z => by omega) (fun _ _ => rfl) (fun z => by omega) (fun _ => rfl) (fun z => by omega) (fun _ => rfl) (fun z => by omega) (fun _ => rfl) n0 (fun _ => rfl) k0 hf
  rw [if_neg c1] at h
  by_cases c2 : 3 ≤ o ∧ o ≤ 6
  · rw [if_pos c2] at h
    split at h
    · cases h
    cases h
    exact nf_mk h62 (fun z => by omega) (fun _ => rfl) (fun z => by omega) (fun _ _ => rfl) (fun z => by omega) (fun _ => rfl) (fun z => by omega) (fun _ => rfl) (fun z => by omega) (fun _ => rfl) n0 (fun _ => rfl) k0 hf
  rw [if_neg c2] at h
  by_cases c3 : o = 7
  · rw [if_pos c3] at h
    split at h
    · cases h
    split at h
    · cases h
    cases h
    exact nf_mk h62 (fun z => by omega) (fun z => absurd c3 z) (fun z => by omega) (fun _ _ => rfl) (fun z => by omega) (fun _ => rfl) (fun z => by omega) (fun _ => rfl) (fun z => by omega) (fun _ => rfl) n0 (fun _ => rfl) k0 hf
  rw [if_neg c3] at h
  by_cases c4 : isJ o
  · rw [if_pos c4] at h
    split at h
    · cases h
    cases h
    exact nf_mk h62 (fun _ => rfl) (fun _ => rfl) (fun _ => rfl) (fun z => absurd c4 z) (fun z => by omega) (fun _ => rfl) (fun z => by omega) (fun _ => rfl) (fun z => by omega) (fun _ => rfl) n0 (fun _ => rfl) k0 hf
  rw [if_neg c4] at h
  by_cases c5 : o = 40
  · rw [if_pos c5] at h
    split at h
    · cases h
    split at h
    · cases h
    rename_i ls' t3 e2
    cases h
    have := pPicks_nn _ _ _ _ _ e2
    exact nf_mk h62 (fun z => by omega) (fun _ => rfl) (fun z => by omega) (fun _ z => absurd c5 z) (fun _ z => this (List.map_eq_nil_iff.1 z)) (fun _ => rfl) (fun z => by omega) (fun _ => rfl) (fun z => by omega) (fun _ => rfl) n0 (fun _ => rfl) k0 hf
  rw [if_neg c5] at h
  by_cases c6 : isN o
  · rw [if_pos c6] at h
    split at h
    · cases h
    rename_i nm t2 e
    cases h
    obtain ⟨a1, -, -⟩ := pCls_n ho e
    unfold isN at c6
    exact nf_mk h62 (fun _ => rfl) (fun _ => rfl) (fun z => by omega) (fun _ _ => rfl) (fun z => by omega) (fun z => by omega) (fun _ => a1) (fun _ => rfl) (fun z => by omega) (fun _ => rfl) n0 (fun _ => rfl) k0 hf
  rw [if_neg c6] at h
  by_cases c7 : isFo o
  · rw [if_pos c7] at h
    split at h
    · cases h
    rename_i k m ks κ t2 e
    cases h
    obtain ⟨⟨a1, a2⟩, ⟨a3, a4⟩, a5⟩ := pMember_n ho e
    exact nf_mk h62 (fun _ => rfl) (fun _ => rfl) (fun z => by omega) (fun _ _ => rfl) (fun z => by omega) (fun z => by omega) (fun _ => a1) (fun z => by omega) (fun _ => a2) (fun _ => a3 rfl) a4 (fun z => absurd (Or.inl c7) z) a5 hf
  rw [if_neg c7] at h
  by_cases c8 : isMo o
  · rw [if_pos c8] at h
    split at h
    · cases h
    rename_i k m ks κ t2 e
    cases h
    obtain ⟨⟨a1, a2⟩, ⟨a3, a4⟩, a5⟩ := pMember_n ho e
    exact nf_mk h62 (fun _ => rfl) (fun _ => rfl) (fun z => by omega) (fun _ _ => rfl) (fun z => by omega) (fun z => by omega) (fun _ => a1) (fun z => by omega) (fun _ => a2) (fun z => absurd c8 z) a4 (fun z => absurd (Or.inr c8) z) a5 hf
  rw [if_neg c8] at h
  cases h
  unfold isN at c6
  exact nf_mk h62 (fun _ => rfl) (fun _ => rfl) (fun z => absurd z c4) (fun _ _ => rfl) (fun z => absurd z c5) (fun _ => rfl) (fun z => by omega) (fun _ => rfl) (fun z => by omega) (fun _ => rfl) n0 (fun _ => rfl) k0 hf
theorem or16 : ∀ b ∈ f16, ∀ f ∈ ([1, 2, 4, 8] : List Int32), b ||| f ∈ f16 := by decide
theorem flg_4 {w1 w2 w3 w4 nm : Nm} (h : flg w1 w2 w3 (some w4) nm ≠ 0) : flg w1 w2 w3 (some w4) nm ∈ ([1, 2, 4, 8] : List Int32) := by
  unfold flg at h ⊢
  by_cases c1 : nm = w1
  · rw [if_pos c1]; decide
  by_cases c2 : nm = w2
  · rw [if_neg c1, if_pos c2]; decide
  by_cases c3 : nm = w3
  · rw [if_neg c1, if_neg c2, if_pos c3]; decide
  by_cases c4 : some nm = some w4
  · rw [if_neg c1, if_neg c2, if_neg c3, if_pos c4]; decide
  · rw [if_neg c1, if_neg c2, if_neg c3, if_neg c4] at h
    exact absurd rfl h
theorem pFlags_n {f : Nm → Int32} : ∀ (d : Nat) (b : Int32) (ts : List Tok), okN ts → okN (pFlags f d b ts).2
  | 0, b, ts, h => h
  | d + 1, b, ts, h => by
    unfold pFlags
    split
    · exact pFlags_n d _ _ h.tail
    · exact h
theorem pFlags_16 {w1 w2 w3 w4 : Nm} : ∀ (d : Nat) (b : Int32) (ts : List Tok), b ∈ f16 → (pFlags (flg w1 w2 w3 (some w4)) d b ts).1 ∈ f16
  | 0, b, ts, h => h
  | d + 1, b, ts, h => by
    unfold pFlags
    split
    · rename_i c
      exact pFlags_16 d _ _ (or16 b h _ (flg_4 c.2.1))
    · exact h
theorem pMethod_n {l t' : List Tok} {bits : Int32} {own : Nm} {ks : List Kd} {κ : Kd} (ho : okN l) (h : pMethod l = .inr ((bits, own, ks, κ), t')) : bits ∈ f16 ∧ wcL own ∧ (∀ κ ∈ ks, kNf κ) ∧ kNf κ := by
  unfold pMethod at h
  have h7 := pFlags_16 (w1 := nStatic) (w2 := nFinal) (w3 := nPrivate) (w4 := nAbstract) (l.length + 1) 0 l (by decide)
  have hf2 := pFlags_n (f := flg nStatic nFinal nPrivate (some nAbstract)) (l.length + 1) 0 l ho
  generalize pFlags (flg nStatic nFinal nPrivate (some nAbstract)) (l.length + 1) 0 l = y at h h7 hf2
  obtain ⟨b, t1⟩ := y
  dsimp only at h h7 hf2
  split at h
  · cases h
  rename_i own' ks' κ' t5 e
  cases h
  unfold pMethodT at e
  split at e
  · rename_i c
    split at e
    · cases e
    rename_i ks1 κ1 t3 e1
    cases e
    unfold pSigE at e1
    split at e1
    · cases e1
    rename_i v2 t2 e2
    obtain ⟨ks3, κ3⟩ := v2
    split at e1
    · cases e1
      obtain ⟨a1, a2, -⟩ := pSig_n hf2.tail e2
      exact ⟨h7, hf2.h1 c, a1, a2⟩
    · cases e1
  · cases e
theorem pHandler_n {ts t1 : List Tok} {a b g k : Nm} (ho : okN ts) (h : pHandler ts = .inr ((a, b, g, k), t1)) : wcL k := by
  unfold pHandler at h
  split at h
  · cases h
  rename_i a' t2 e1
  obtain ⟨-, o2⟩ := pName_n ho e1
  split at h
  · cases h
  rename_i b' t3 e2
  obtain ⟨-, o3⟩ := pName_n o2 e2
  split at h
  · cases h
  rename_i g' t4 e3
  obtain ⟨-, o4⟩ := pName_n o3 e3
  split at h
  · cases h
  rename_i k' t5 e4
  have h5 : wcL k' := by
    split at e4
    · cases e4
      exact noCls_wc nAny (by decide +kernel)
    · exact (pCls_n o4 e4).1
  split at h
  · cases h; exact h5
  · cases h
