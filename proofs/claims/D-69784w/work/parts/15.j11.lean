/-! what belongs to other worlds: works -/
/-- rows of the works' worlds other than w -/
def DC (w : Nat) (M : Mem) (f j : Nat) : Prop := (f = 211 ∧ ∃ v, v < 4 ∧ v ≠ w ∧ (j = 2 * v + 1 ∨ j = 2 * v + 2)) ∨ (f = 301 ∧ ∃ v, v < 4 ∧ v ≠ w ∧ (j = 6 * v + 0 ∨ j = 6 * v + 1 ∨ ∃ k, k < 4 ∧ mR M 6 v (22 + k) = some (301, j)))
/-- what holds of the memory as a whole -/
def GM (M : Mem) : Prop := Ty M ∧ ((∀ j, j < 24 ∧ j % 6 < 2 → (301, j) ∈ mN M) ∧ ∀ j, j < 9 → (211, j) ∈ mN M) ∧ ((∀ v k g j, mR M 700 v k = some (g, j) → j / 3 = v) ∧ (∀ v k g j, mR M 704 v k = some (g, j) → j / 3 = v) ∧ ∀ v g j, v < 4 → mR M 6 v 2 = some (g, j) → j / 3 = v) ∧ (∀ v k g j, v < 4 → k < 4 → mR M 6 v (22 + k) = some (g, j) → 24 ≤ j ∧ (301, j) ∈ mN M) ∧ ∀ v v' k k' g g' j, v < 4 → v' < 4 → k < 4 → k' < 4 → mR M 6 v (22 + k) = some (g, j) → mR M 6 v' (22 + k') = some (g', j) → v = v'
section
variable {w v : Nat} {D : Nat → Nat → Prop} {T : Nat → Prop} {h : Hot} {M M' : Mem} {f g j i k S : Nat}
theorem rs1_6 (h : rs1 6 k = true) : k = 2 ∨ ∃ k', k' < 4 ∧ k = 22 + k' := by
  unfold rs1 at h
  simp only [Bool.or_eq_true, Bool.and_eq_true, Nat.beq_eq] at h
  rcases h with ((h | h) | h) | h
  · exact absurd h (by decide)
  · exact absurd h (by decide)
  · rcases h.2 with (((h | h) | h) | h) | h
    · exact Or.inl h
    · exact Or.inr ⟨0, by omega, h⟩
    · exact Or.inr ⟨1, by omega, h⟩
    · exact Or.inr ⟨2, by omega, h⟩
    · exact Or.inr ⟨3, by omega, h⟩
  · exact absurd h.1 (by decide)
theorem rs1_f (h : rs1 f k = true) : f = 700 ∨ f = 704 ∨ f = 6 ∨ f = 12 := by
  unfold rs1 at h
  simp only [Bool.or_eq_true, Bool.and_eq_true, Nat.beq_eq] at h
  rcases h with ((h | h) | h) | h
  · exact Or.inl h
  · exact Or.inr (Or.inl h)
  · exact Or.inr (Or.inr (Or.inl h.1))
  · exact Or.inr (Or.inr (Or.inr h.1))
theorem ty_700 (h : ty 700 k g = true) : g = 7 := by
  have h : Nat.beq g 7 = true := h
  exact Nat.eq_of_beq_eq_true h
theorem ty_704 (h : ty 704 k g = true) : g = 13 := by
  have h : Nat.beq g 13 = true := h
  exact Nat.eq_of_beq_eq_true h
theorem ty_62 (h : ty 6 2 g = true) : g = 7 := by
  have h : Nat.beq g 7 = true := h
  exact Nat.eq_of_beq_eq_true h
theorem ty_ft (hk : k < 4) (h : ty 6 (22 + k) g = true) : g = 301 := by
  have : k = 0 ∨ k = 1 ∨ k = 2 ∨ k = 3 := by omega
  rcases this with e | e | e | e <;> subst e <;> exact Nat.eq_of_beq_eq_true h
theorem any_in {l : List Nat} (h : l.any (fun x => Nat.beq k x) = true) : k ∈ l := by
  obtain ⟨x, hx, e⟩ := List.any_eq_true.mp h
  rw [Nat.eq_of_beq_eq_true e]; exact hx
theorem ty_12 (h1 : rs1 12 k = true) (h : ty 12 k g = true) : g = 300 ∨ g = 401 := by
  have hk : k ∈ [30, 31, 32, 33, 34, 36, 38, 39, 40, 42, 53, 54, 55, 58] := by
    unfold rs1 at h1
    simp only [Bool.or_eq_true, Bool.and_eq_true, Nat.beq_eq] at h1
    rcases h1 with ((h1 | h1) | h1) | h1
    · exact absurd h1 (by decide)
    · exact absurd h1 (by decide)
    · exact absurd h1.1 (by decide)
    · exact any_in h1.2
  simp only [List.mem_cons, List.not_mem_nil, or_false] at hk
  rcases hk with e | e | e | e | e | e | e | e | e | e | e | e | e | e <;> subst e <;> first | exact Or.inl (Nat.eq_of_beq_eq_true h) | exact Or.inr (Nat.eq_of_beq_eq_true h)
theorem ty_11 (h1 : rs0 k = true) (h : ty 11 k g = true) : g = 300 ∨ g = 401 ∨ g = 501 := by
  have hk := any_in h1
  simp only [List.mem_cons, List.not_mem_nil, or_false] at hk
  rcases hk with e | e | e | e | e | e | e | e | e | e | e | e | e | e | e | e | e | e <;> subst e <;> first | exact Or.inl (Nat.eq_of_beq_eq_true h) | exact Or.inr (Or.inl (Nat.eq_of_beq_eq_true h)) | exact Or.inr (Or.inr (Nat.eq_of_beq_eq_true h))
theorem ow3 (e : grp f = 3) (n : ¬ D f i) : ow w D f i := ⟨fun z => absurd (e.symm.trans z) (by decide), fun z => absurd (e.symm.trans z) (by decide), fun _ => n, fun z => absurd (e.symm.trans z) (by decide), fun z => absurd (e.symm.trans z) (by decide)⟩
theorem ow2 (e : grp f = 2) (n : i / 3 = w) : ow w D f i := ⟨fun z => absurd (e.symm.trans z) (by decide), fun _ => n, fun z => absurd (e.symm.trans z) (by decide), fun z => absurd (e.symm.trans z) (by decide), fun z => absurd (e.symm.trans z) (by decide)⟩
theorem ow1 (e : grp f = 1) (n : i = w) : ow w D f i := ⟨fun _ => n, fun z => absurd (e.symm.trans z) (by decide), fun z => absurd (e.symm.trans z) (by decide), fun z => absurd (e.symm.trans z) (by decide), fun z => absurd (e.symm.trans z) (by decide)⟩
theorem DC_no (h1 : f ≠ 211) (h2 : f ≠ 301) : ¬ DC w M f j := fun z => z.elim (fun y => h1 y.1) (fun y => h2 y.1)
theorem DC_ft (hG : GM M) (hw : w < 4) (hk : k < 4) (e : mR M 6 w (22 + k) = some (301, j)) : ¬ DC w M 301 j := fun z => by
  rcases z with z | ⟨-, v, hv, hne, z⟩
  · exact absurd z.1 (by decide)
  · have h24 := (hG.2.2.2.1 w k 301 j hw hk e).1
    rcases z with z | z | ⟨k', hk', z⟩
    · omega
    · omega
    · exact hne (hG.2.2.2.2 v w k' k 301 301 j hv hw hk' hk z e)
theorem Dok_C (hG : GM M) (hw : w < 4) : Dok w (DC w M) := by
  have n3 : ∀ c, c < 2 → ¬ DC w M 301 (6 * w + c) := fun c hc z => by
    rcases z with z | ⟨-, v, hv, hne, z⟩
    · exact absurd z.1 (by decide)
    · rcases z with z | z | ⟨k', hk', z⟩
      · omega
      · omega
      · have := (hG.2.2.2.1 v k' 301 _ hv hk' z).1
        omega
  have n2 : ∀ c, c = 1 ∨ c = 2 → ¬ DC w M 211 (2 * w + c) := fun c hc z => by
    rcases z with ⟨-, v, hv, hne, z⟩ | z
    · omega
    · exact absurd z.1 (by decide)
  refine ⟨ow3 rfl (fun z => ?_), fun o => ?_, fun o => ?_, fun o => ?_, fun o => ?_⟩
  · rcases z with ⟨-, v, hv, hne, z⟩ | z
    · omega
    · exact absurd z.1 (by decide)
  · rw [o.1 rfl]; exact ow3 rfl (n2 1 (Or.inl rfl))
  · rw [o.1 rfl]; exact ow3 rfl (n2 2 (Or.inr rfl))
  · rw [o.1 rfl]; exact ow3 rfl (n3 0 (by omega))
  · rw [o.1 rfl]; exact ow3 rfl (n3 1 (by omega))
/-- the state in which an operation of the works on world w begins -/
theorem StC (hG : GM M) (hw : w < 4) (hh : ∀ f i k g j, hpt f k = true → h (f, i, k) = true → mR M f i k = some (g, j) → ow w (DC w M) g j) (hT : ∀ f k g j, (f = 702 ∨ f = 703) → T (tn f k) → mR M f 0 k = some (g, j) → ow w (DC w M) g j) : St w (DC w M) T h M := by
  refine ⟨fun f j z => ?_, fun f i k g j r e => ?_⟩
  · rcases z with ⟨e, v, hv, -, z⟩ | ⟨e, v, hv, -, z⟩
    · rw [e]; exact hG.2.1.2 j (by omega)
    · rw [e]
      rcases z with z | z | ⟨k, hk, z⟩
      · exact hG.2.1.1 j (by omega)
      · exact hG.2.1.1 j (by omega)
      · exact (hG.2.2.2.1 v k 301 j hv hk z).2
  · have t := hG.1 f i k g j e
    rcases r with ⟨r, ei⟩ | ⟨e1, e2, r⟩ | ⟨r1, r2⟩ | ⟨r1, e2, r2⟩
    · subst ei
      rcases rs1_f r with ef | ef | ef | ef <;> subst ef
      · rw [ty_700 t]; exact ow2 rfl (hG.2.2.1.1 i k g j e)
      · rw [ty_704 t]; exact ow2 rfl (hG.2.2.1.2.1 i k g j e)
      · rcases rs1_6 r with ek | ⟨k', hk', ek⟩ <;> subst ek
        · rw [ty_62 t]; exact ow2 rfl (hG.2.2.1.2.2 i g j hw e)
        · have eg := ty_ft hk' t
          subst eg
          exact ow3 rfl (DC_ft hG hw hk' e)
      · rcases ty_12 r t with eg | eg <;> rw [eg] <;> exact ow3 rfl (DC_no (by decide) (by decide))
    · subst e1
      rcases ty_11 r t with eg | eg | eg <;> rw [eg] <;> exact ow3 rfl (DC_no (by decide) (by decide))
    · exact hh f i k g j r1 r2 e
    · subst e2; exact hT f k g j r1 r2 e
def gmOk (S : Nat) : Bool := !S.testBit 700 && (!S.testBit 704 && !S.testBit 5211)
/-- what an operation of the works on world w leaves -/
theorem GM.next (hG : GM M) (hw : w < 4) (ho : Ow w (DC w M) T h M M') (hf : Fr S M M') (hr : ∀ k, k < 4 → ∃ j, mR M' 6 w (22 + k) = some (301, j) ∧ 24 ≤ j ∧ (301, j) ∈ mN M') (hS : gmOk S = true := by rfl) : GM M' ∧ ∀ v, v < 4 → v ≠ w → SmC v M M' := by
  unfold gmOk at hS
  simp only [Bool.and_eq_true, Bool.not_eq_true'] at hS
  obtain ⟨s1, s2, s3⟩ := hS
  obtain ⟨st, uc, tt⟩ := ho
  have far : ∀ v f, v ≠ w → grp f = 1 → ¬ ow w (DC w M) f v := fun v f hv hg o => hv (o.1 hg)
  have r6 : ∀ v k, v ≠ w → mR M' 6 v k = mR M 6 v k := fun v k hv => ((uc 6 v (far v 6 hv rfl)).1 k).2.2
  refine ⟨⟨tt hG.1, ⟨fun j hj => hf.N (hG.2.1.1 j hj), fun j hj => hf.N (hG.2.1.2 j hj)⟩, ⟨fun v k g j e => hG.2.2.1.1 v k g j (by rw [← hf.Ra rfl s1]; exact e), fun v k g j e => hG.2.2.1.2.1 v k g j (by rw [← hf.Ra rfl s2]; exact e), fun v g j hv e => ?_⟩, fun v k g j hv hk e => ?_, ?_⟩, fun v hv hne => ⟨fun f hg => ?_, fun f t hg ht => ?_, fun j hj k => ?_, fun i => hf.L s3 i, fun j hj => ?_⟩⟩
  · by_cases c : v = w
    · subst c
      have t := tt hG.1 6 v 2 g j e
      have o := st.2 6 v 2 g j (Or.inl ⟨rfl, rfl⟩) e
      rw [ty_62 t] at o
      exact o.2.1 rfl
    · rw [r6 v 2 c] at e; exact hG.2.2.1.2.2 v g j hv e
  · by_cases c : v = w
    · subst c
      obtain ⟨j', e', h1, h2⟩ := hr k hk
      rw [e'] at e; cases e; exact ⟨h1, h2⟩
    · rw [r6 v _ c] at e
      have := hG.2.2.2.1 v k g j hv hk e
      exact ⟨this.1, hf.N this.2⟩
  · have key : ∀ v k k' g' j, v < 4 → v ≠ w → k < 4 → k' < 4 → mR M' 6 w (22 + k) = some (301, j) → mR M' 6 v (22 + k') = some (g', j) → False := fun v k k' g' j hv hne hk hk' e e' => by
      rw [r6 v _ hne] at e'
      have t := hG.1 6 v _ g' j e'
      rw [ty_ft hk' t] at e'
      have rs : rs1 6 (22 + k) = true := by
        have : k = 0 ∨ k = 1 ∨ k = 2 ∨ k = 3 := by omega
        rcases this with q | q | q | q <;> subst q <;> rfl
      have o := st.2 6 w (22 + k) 301 j (Or.inl ⟨rs, rfl⟩) e
      exact o.2.2.1 rfl (Or.inr ⟨rfl, v, hv, hne, Or.inr (Or.inr ⟨k', hk', e'⟩)⟩)
    have fam : ∀ v k g j, k < 4 → mR M' 6 v (22 + k) = some (g, j) → g = 301 := fun v k g j hk e => ty_ft hk (tt hG.1 6 v _ g j e)
    intro v v' k k' g g' j hv hv' hk hk' e e'
    have eg := fam v k g j hk e
    have eg' := fam v' k' g' j hk' e'
    subst eg
    subst eg'
    by_cases c : v = w
    · by_cases c' : v' = w
      · rw [c, c']
      · exact (key v' k k' 301 j hv' c' hk hk' (c ▸ e) e').elim
    · by_cases c' : v' = w
      · exact (key v k' k 301 j hv c hk' hk (c' ▸ e') e).elim
      · rw [r6 v _ c] at e
        rw [r6 v' _ c'] at e'
        exact hG.2.2.2.2 v v' k k' 301 301 j hv hv' hk hk' e e'
  · have := uc f v (far v f hne hg)
    exact ⟨fun k => ⟨(this.1 k).1, (this.1 k).2.2⟩, this.2⟩
  · have := uc f (3 * v + t) (fun o => hne (by have := o.2.1 hg; omega))
    exact ⟨fun k => (this.1 k).1, this.2⟩
  · exact ((uc 211 j (fun o => o.2.2.1 rfl (Or.inl ⟨rfl, v, hv, hne, hj⟩))).1 k).1
  · have u := uc 301 j (fun o => o.2.2.1 rfl (Or.inr ⟨rfl, v, hv, hne, hj⟩))
    exact ⟨⟨fun k => (u.1 k).1, u.2⟩, fun z => hf.N z⟩
end
