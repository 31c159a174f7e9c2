/-! words of the lines of a trial, wherever they lie -/
section
variable {ts ts' : List Tok} {L : Trl} {BB : List Nm} {U1 : List (List Kd × Kd)}
theorem pTypesF_sh {s : Bool} : ∀ n acc {ts ts' : List Tok}, wds ts = wds ts' → smR (pTypesF s n acc ts) (pTypesF s n acc ts')
  | 0, acc, ts, ts', h => by unfold pTypesF; exact trivial
  | n + 1, acc, ts, ts', h => by
    obtain ⟨h1, h2, h3⟩ := wds_hd h
    unfold pTypesF
    rw [h1]
    by_cases c : (hd ts').1 = 41
    · rw [if_pos c, if_pos c]; exact ⟨rfl, wds_tl h⟩
    rw [if_neg c, if_neg c]
    have go : ∀ t1 t1', wds t1 = wds t1' → smR (if s = true ∧ acc.length = 6 then .inl (er t1) else match pType t1 with
        | .inl e => .inl e
        | .inr (κ, t2) => pTypesF s n (acc ++ [κ]) t2) (if s = true ∧ acc.length = 6 then .inl (er t1') else match pType t1' with
        | .inl e => .inl e
        | .inr (κ, t2) => pTypesF s n (acc ++ [κ]) t2) := fun t1 t1' h4 => by
      split
      · exact trivial
      · have := pType_sh h4
        cases e : pType t1 with
        | inl x =>
          cases e' : pType t1' with
          | inl y => exact trivial
          | inr y => rw [e, e'] at this; exact this.elim
        | inr x =>
          cases e' : pType t1' with
          | inl y => rw [e, e'] at this; exact this.elim
          | inr y =>
            rw [e, e'] at this
            obtain ⟨κ, t2⟩ := x
            obtain ⟨κ', t2'⟩ := y
            have h5 : κ = κ' := this.1
            subst h5
            exact pTypesF_sh n _ this.2
    by_cases c0 : acc.length = 0
    · rw [if_pos c0, if_pos c0]
      exact go ts ts' h
    · rw [if_neg c0, if_neg c0]
      have := pSign_sh (b := 44) h
      cases e : pSign 44 ts with
      | inl x =>
        cases e' : pSign 44 ts' with
        | inl y => exact trivial
        | inr y => rw [e, e'] at this; exact this.elim
      | inr x =>
        cases e' : pSign 44 ts' with
        | inl y => rw [e, e'] at this; exact this.elim
        | inr y =>
          rw [e, e'] at this
          exact go _ _ this.2
theorem pSig_sh (h : wds ts = wds ts') : smR (pSig ts) (pSig ts') := by
  have ht : smR (pTypes false ts) (pTypes false ts') := by
    unfold pTypes
    have := pSign_sh (b := 40) h
    cases e : pSign 40 ts with
    | inl x =>
      cases e' : pSign 40 ts' with
      | inl y => exact trivial
      | inr y => rw [e, e'] at this; exact this.elim
    | inr x =>
      cases e' : pSign 40 ts' with
      | inl y => rw [e, e'] at this; exact this.elim
      | inr y =>
        rw [e, e'] at this
        obtain ⟨u, t1⟩ := x
        obtain ⟨u', t1'⟩ := y
        have h2 : wds t1 = wds t1' := this.2
        show smR (pTypesF false (t1.length + 1) [] t1) (pTypesF false (t1'.length + 1) [] t1')
        rw [wds_len h2]
        exact pTypesF_sh _ _ h2
  unfold pSig
  cases e : pTypes false ts with
  | inl x =>
    cases e' : pTypes false ts' with
    | inl y => exact trivial
    | inr y => rw [e, e'] at ht; exact ht.elim
  | inr x =>
    cases e' : pTypes false ts' with
    | inl y => rw [e, e'] at ht; exact ht.elim
    | inr y =>
      rw [e, e'] at ht
      obtain ⟨ks, t1⟩ := x
      obtain ⟨ks', t1'⟩ := y
      have h5 : ks = ks' := ht.1
      subst h5
      have hr := pRes_sh (ts := t1) (ts' := t1') ht.2
      dsimp only
      cases e2 : pRes t1 with
      | inl x =>
        cases e2' : pRes t1' with
        | inl y => exact trivial
        | inr y => rw [e2, e2'] at hr; exact hr.elim
      | inr x =>
        cases e2' : pRes t1' with
        | inl y => rw [e2, e2'] at hr; exact hr.elim
        | inr y =>
          rw [e2, e2'] at hr
          obtain ⟨κ, t2⟩ := x
          obtain ⟨κ', t2'⟩ := y
          have h6 : κ = κ' := hr.1
          subst h6
          exact ⟨rfl, hr.2⟩
theorem NB_sh (h : wds ts = wds ts') (hn : NB BB ts') : NB BB ts := fun t ht h2 => by
  have : (t.1, t.2.1, t.2.2.1) ∈ wds ts' := by rw [← h]; exact List.mem_map_of_mem ht
  obtain ⟨u, hu, e⟩ := List.mem_map.mp this
  have e1 : u.1 = t.1 := congrArg (·.1) e
  have e2 : u.2.1 = t.2.1 := congrArg (·.2.1) e
  rw [← e2]
  exact hn u hu (e1.trans h2)
theorem UL_sh {US US' : UST} (hU : US.1 = US'.1) (h : wds ts = wds ts') (hn : UL US' ts') : UL US ts := fun t ks κ t2 hs hp => by
  obtain ⟨X, e⟩ := hs
  have hd : wds (ts'.drop X.length) = wds t := by
    show (ts'.drop X.length).map _ = _
    rw [List.map_drop]
    have : wds ts' = wds (X ++ t) := by rw [e, h]
    show (wds ts').drop X.length = wds t
    rw [this]
    show ((X ++ t).map _).drop X.length = _
    rw [List.map_append, List.drop_append_of_le_length (by rw [List.length_map]; exact Nat.le_refl _), List.drop_eq_nil_of_le (by rw [List.length_map]; exact Nat.le_refl _)]; rfl
  have := pSig_sh (ts := t) (ts' := ts'.drop X.length) hd.symm
  rw [hp] at this
  cases e2 : pSig (ts'.drop X.length) with
  | inl x => rw [e2] at this; exact this.elim
  | inr x =>
    obtain ⟨⟨ks', κ'⟩, t3⟩ := x
    rw [e2] at this
    have h5 : (ks, κ) = (ks', κ') := this.1
    rw [hU, h5]
    exact hn _ ks' κ' t3 (List.drop_suffix _ _) e2
theorem smL_in {L0 R : Trl} {l : List Int32} : smL l.length (pT (txt (L0 ++ l :: R))) (pT l) (txt L0).length 0 := by
  have hl : (txt (L0 ++ l :: R)).length = (txt L0).length + (l.length + 1 + (txt R).length) := by
    rw [txt_at]; simp only [List.length_append, List.length_singleton]
  have at0 : ∀ i, i ≤ l.length → pT (txt (L0 ++ l :: R)) ((txt L0).length + i) = gi (l ++ [10]) i := fun i hi => by
    rw [pT_in (by omega), txt_at, gi_r, gi_l (by simp only [List.length_append, List.length_singleton]; omega)]
  have end0 : gi (l ++ [10]) l.length = 10 := by
    have := gi_r l [10] 0
    rw [Nat.add_zero] at this
    rw [this]; rfl
  refine ⟨fun i hi => ?_, ?_⟩
  · rw [at0 i hi, Nat.zero_add]
    by_cases c : i < l.length
    · rw [pT_in c, gi_l c]
    · have : i = l.length := by omega
      rw [this, end0, pT_end l _ (Nat.le_refl _)]
  · rw [at0 _ (Nat.le_refl _)]; exact end0
theorem wds_in {L0 R : Trl} {l : List Int32} {to : Nat} : wds (full to (tks (pT (txt (L0 ++ l :: R))) (txt (L0 ++ l :: R)).length (txt L0).length)) = wds (ltk l) := by
  have hl : (txt (L0 ++ l :: R)).length = (txt L0).length + (l.length + 1 + (txt R).length) := by
    rw [txt_at]; simp only [List.length_append, List.length_singleton]
  have k := tks_sh (pT_end (txt (L0 ++ l :: R))) (pT_end l) (smL_in (L0 := L0) (R := R) (l := l)) (by omega) (by omega) (l.length + 1) 0 (by omega) (Nat.zero_le _)
  rw [Nat.add_zero, Nat.add_zero] at k
  exact full_sh k
theorem lns_in : ∀ (R L0 : Trl), (∀ l ∈ R, (10 : Int32) ∉ l) → R ≠ [] → ∀ x ∈ lns (pT (txt (L0 ++ R))) (txt (L0 ++ R)).length (txt L0).length, ∃ l ∈ R, wds x = wds (ltk l)
  | [], _, _, h => absurd rfl h
  | l :: R, L0, h, _ => by
    have hl : (txt (L0 ++ l :: R)).length = (txt L0).length + (l.length + 1 + (txt R).length) := by
      rw [txt_at]; simp only [List.length_append, List.length_singleton]
    have e1 := nl_txt (L0 := L0) (R := R) (h l (List.mem_cons_self ..))
    rw [lns_eq (pT_end _) (by omega), e1]
    have hr : ∀ x ∈ rln (pT (txt (L0 ++ l :: R))) (txt (L0 ++ l :: R)).length ((txt L0).length + l.length), ∃ l' ∈ l :: R, wds x = wds (ltk l') := by
      unfold rln
      split
      · rename_i c
        have hne : R ≠ [] := fun z => by
          rw [hl, z] at c
          have : (txt ([] : Trl)).length = 0 := rfl
          omega
        have ih := lns_in R (L0 ++ [l]) (fun x hx => h x (List.mem_cons_of_mem _ hx)) hne
        have ea : (L0 ++ [l]) ++ R = L0 ++ l :: R := by rw [List.append_assoc]; rfl
        have eb : (txt (L0 ++ [l])).length = (txt L0).length + l.length + 1 := by
          rw [txt_app]; show (_ ++ ((l ++ [10]) ++ [])).length = _
          simp only [List.length_append, List.length_singleton, List.length_nil]; omega
        rw [ea, eb] at ih
        intro x hx
        obtain ⟨l', a, b⟩ := ih x hx
        exact ⟨l', List.mem_cons_of_mem _ a, b⟩
      · intro x hx; cases hx
    split
    · exact hr
    · intro x hx
      rcases List.mem_cons.mp hx with z | z
      · rw [z]; exact ⟨l, List.mem_cons_self .., wds_in⟩
      · exact hr x z
/-- names, and signatures, of the lines of a trial -/
def nmL (BB : List Nm) (L : Trl) : Prop := ∀ l ∈ L, NB BB (ltk l)
def ulL (U1 : List (List Kd × Kd)) (L : Trl) : Prop := ∀ l ∈ L, UL (U1, []) (ltk l)
def nmT (BB : List Nm) (L : Trl) : Prop := (∀ l ∈ lns (pT (txt L.dropLast)) (txt L.dropLast).length 0, NB BB l) ∧ NB BB (full (nl (pT (txt L)) (txt L).length (txt L.dropLast).length) (tks (pT (txt L)) (txt L).length (txt L.dropLast).length))
def ulT (U1 : List (List Kd × Kd)) (L : Trl) : Prop := (∀ l ∈ lns (pT (txt L.dropLast)) (txt L.dropLast).length 0, UL (U1, []) l) ∧ UL (U1, []) (full (nl (pT (txt L)) (txt L).length (txt L.dropLast).length) (tks (pT (txt L)) (txt L).length (txt L.dropLast).length))
theorem lns_nil : ∀ x ∈ lns (pT (txt ([] : Trl))) (txt ([] : Trl)).length 0, wds x = wds (ltk []) := by
  rw [lns_eq (a := 0) (pT_end _) (Nat.zero_le _)]
  have hr : rln (pT (txt ([] : Trl))) (txt ([] : Trl)).length (nl (pT (txt ([] : Trl))) (txt ([] : Trl)).length 0) = [] := if_neg (show ¬ _ + 1 < 0 by omega)
  rw [hr]
  split
  · intro x hx; cases hx
  · intro x hx
    rw [List.mem_singleton.mp hx]
    exact full_sh rfl
theorem ltk_nil : (hd (ltk [])).1 = 0 := by decide
theorem dl_in (hL : TrO L) : ∀ x ∈ lns (pT (txt L.dropLast)) (txt L.dropLast).length 0, ∃ l ∈ L, wds x = wds (ltk l) := fun x hx => by
  by_cases e : L.dropLast = []
  · rw [e] at hx
    rw [lns_eq (a := 0) (pT_end _) (Nat.zero_le _)] at hx
    have h0 : (hd (full (nl (pT (txt ([] : Trl))) (txt ([] : Trl)).length 0) (tks (pT (txt ([] : Trl))) (txt ([] : Trl)).length 0))).1 = 0 := by
      have w : wds (full (nl (pT (txt ([] : Trl))) (txt ([] : Trl)).length 0) (tks (pT (txt ([] : Trl))) (txt ([] : Trl)).length 0)) = wds (ltk []) := full_sh rfl
      rw [(wds_hd w).1]; exact ltk_nil
    rw [if_pos h0, show rln (pT (txt ([] : Trl))) (txt ([] : Trl)).length (nl (pT (txt ([] : Trl))) (txt ([] : Trl)).length 0) = [] from if_neg (show ¬ _ + 1 < 0 by omega)] at hx
    cases hx
  · have hd10 : ∀ l ∈ L.dropLast, (10 : Int32) ∉ l := fun l h => hL.2.2.1 l (List.dropLast_subset _ h)
    obtain ⟨l, a, b⟩ := lns_in L.dropLast [] hd10 e x hx
    exact ⟨l, List.dropLast_subset _ a, b⟩
theorem last_in (hL : TrO L) : L.getLastD [] ∈ L := by
  rcases List.eq_nil_or_concat L with e | ⟨l, a, e⟩
  · exact absurd e hL.1.1
  · rw [e, List.concat_eq_append, List.getLastD_concat]; simp
theorem nmT_of (hL : TrO L) (h : nmL BB L) : nmT BB L := ⟨fun x hx => by
  obtain ⟨l, a, b⟩ := dl_in hL x hx
  exact NB_sh b (h l a), NB_sh (last_w hL.1.1) (h _ (last_in hL))⟩
theorem ulT_of (hL : TrO L) (h : ulL U1 L) : ulT U1 L := ⟨fun x hx => by
  obtain ⟨l, a, b⟩ := dl_in hL x hx
  exact UL_sh rfl b (h l a), UL_sh rfl (last_w hL.1.1) (h _ (last_in hL))⟩
end
