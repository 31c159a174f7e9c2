/-! THE WHOLE OF THE WORKS: worlds -/
/-- a world: classes, rules off, machine, the twin's turn, calls, room for faults, words told -/
abbrev Wld : Type := List Cls × Int32 × Ms × Int32 × Nat × Nat × Nat
abbrev dW (d : Wld) : List Cls := d.1
abbrev dB (d : Wld) : Int32 := d.2.1
abbrev dS (d : Wld) : Ms := d.2.2.1
abbrev dX (d : Wld) : Int32 := d.2.2.2.1
abbrev dK (d : Wld) : Nat := d.2.2.2.2.1
abbrev dF (d : Wld) : Nat := d.2.2.2.2.2.1
abbrev dD (d : Wld) : Nat := d.2.2.2.2.2.2
def BdC (D nq nk np nh nr : Nat) : Prop := nq ≤ D ∧ 2 * nk ≤ D ∧ 2 * np ≤ D ∧ nh ≤ D ∧ nr ≤ D + 4 ∧ 6 * nr ≤ D + 24 ∧ 4 ≤ nr
/-- a world that is on, in the works -/
def WdC (A : List Nm) (lf k : Nat) (d : Wld) (M : Mem) : Prop := ∃ nq nk np nh nr B, RA A (dW d) (k + 1) (dB d) nq nk np nh nr (zK (dS d) + lf) B (dF d) (dS d) M ∧ BdC (dD d) nq nk np nh nr
/-- worlds of the works -/
def WWC (A : List Nm) (on : Nat → Bool) (ws : Nat → Wld) (lf : Nat) (M : Mem) : Prop := (GM M ∧ cOn on M) ∧ (mI M 10 0 8 = Int32.ofNat lf ∧ ∀ k, k < 3 → mI M 6 (k + 1) 35 = 0) ∧ ∀ k, k < 3 → (on k = true → WdC A lf k (ws k) M) ∧ (on k = false → ∃ B, rmC (k + 1) B (dF (ws k)) M)
theorem BdC.kb {D nq nk np nh nr k : Nat} (h : BdC D nq nk np nh nr) (hD : D ≤ 2800) : KB (k + 1) nq nk np nh nr := by
  unfold KB L6 L73 L75 L76 L212
  rw [if_neg (by omega), if_neg (by omega), if_neg (by omega), if_neg (by omega), if_neg (by omega)]
  obtain ⟨h1, h2, h3, h4, h5, h6, h7⟩ := h
  omega
theorem BdC.bud {D nq nk np nh nr : Nat} {ls : List (List Tok)} {n : Nat} (h : BdC D nq nk np nh nr) (hn : tk ls ≤ n) (hl : ls.length ≤ n) : Bud (D + n, D + n, D + n, D + n, D + n + 4, D + n + 24) ls nq nk np nh nr := by
  obtain ⟨h1, h2, h3, h4, h5, h6, h7⟩ := h
  exact ⟨by show nq + ls.length ≤ D + n; omega, by show 2 * nk + tk ls ≤ D + n; omega, by show 2 * np + tk ls ≤ D + n; omega, by show nh + ls.length ≤ D + n; omega, by show nr + ls.length ≤ D + n + 4; omega, by show 6 * nr + tk ls ≤ D + n + 24; omega, h7⟩
theorem BdC.of {D nq nk np nh nr : Nat} (h : Bud (D, D, D, D, D + 4, D + 24) [] nq nk np nh nr) : BdC D nq nk np nh nr := by
  obtain ⟨h1, h2, h3, h4, h5, h6, h7⟩ := h
  have h1 : nq + 0 ≤ D := h1
  have h2 : 2 * nk + 0 ≤ D := h2
  have h3 : 2 * np + 0 ≤ D := h3
  have h4 : nh + 0 ≤ D := h4
  have h5 : nr + 0 ≤ D + 4 := h5
  have h6 : 6 * nr + 0 ≤ D + 24 := h6
  exact ⟨by omega, by omega, by omega, by omega, by omega, by omega, h7⟩
theorem KOk_D {D k : Nat} (hD : D ≤ 2800) : KOk (k + 1) (D, D, D, D, D + 4, D + 24) := by
  unfold KOk L6 L73
  rw [if_neg (by omega), if_neg (by omega)]
  refine ⟨by show D ≤ _; omega, by show D ≤ _; omega, by show D ≤ _; omega, fun z => absurd z (by omega), fun _ => by show D + 24 ≤ _; omega⟩
section
variable {A A' : List Nm} {on : Nat → Bool} {ws : Nat → Wld} {lf lf' k v B F : Nat} {M M' : Mem} {d : Wld} {T : Nat → Prop} {h0 : Hot} {S : Nat}
/-- a world beside the one that changes -/
theorem WdC.sm (h : WdC A lf v d M) (e : SmC (v + 1) M M') (hp : A <+: A') (hl : A'.length ≤ 200000) (hL : cLk M') (h35 : mI M 6 (v + 1) 35 = 0) (h8 : mI M' 10 0 8 = Int32.ofNat lf') : WdC A' lf' v d M' := by
  obtain ⟨nq, nk, np, nh, nr, B, h, hb⟩ := h
  refine ⟨nq, nk, np, nh, nr, B + (mS M' - mS M), h.eq e hp hl hL (Or.inr ⟨(((e.1 6 rfl).1 35).1).trans h35, Nat.le_add_right _ _, by rw [Nat.add_sub_cancel_left]; exact h8⟩) (fun n z => by omega), hb⟩
theorem WdC.lk (h : WdC A lf v d M) : cLk M := by
  obtain ⟨nq, nk, np, nh, nr, B, h, -⟩ := h
  exact h.1.1.2.2.2.2
theorem WdC.rows (h : WdC A lf v d M) : ∀ i, i < 4 → ∃ j, mR M 6 (v + 1) (22 + i) = some (301, j) ∧ 24 ≤ j ∧ (301, j) ∈ mN M := by
  obtain ⟨nq, nk, np, nh, nr, B, h, -⟩ := h
  obtain ⟨-, -, ⟨-, -, x, n, -, z4, -⟩, -⟩ := h
  exact fun i hi => ⟨x i, (z4 i hi).1, (z4 i hi).2.2.1, (z4 i hi).2.2.2⟩
/-- an operation on world k of the works -/
theorem WWC.next (h : WWC A on ws lf M) (hk : k < 3) (ho : Ow (k + 1) (DC (k + 1) M) T h0 M M') (hf : Fr S M M') (hp : A <+: A') (hl : A'.length ≤ 200000) (hd : WdC A' lf' k d M') (hon : on k = true) (hO : cOn on M') (h8 : mI M' 10 0 8 = Int32.ofNat lf') (h35 : mI M' 6 (k + 1) 35 = 0) (hS : gmOk S = true := by rfl) : WWC A' on (up1 ws k d) lf' M' ∧ (∀ B F, rmC 0 B F M → ∃ B', rmC 0 B' F M') ∧ (mI M' 6 0 35 = mI M 6 0 35) ∧ ∀ v, v < 4 → v ≠ k + 1 → SmC v M M' := by
  obtain ⟨⟨hG, hO0⟩, ⟨-, h35a⟩, hw⟩ := h
  obtain ⟨hG', hsm⟩ := hG.next (by omega) ho hf hd.rows hS
  have hL := hd.lk
  have sm : ∀ v, v < 3 → v ≠ k → SmC (v + 1) M M' := fun v hv hne => hsm (v + 1) (by omega) (by omega)
  have sm0 : SmC 0 M M' := hsm 0 (by omega) (by omega)
  refine ⟨⟨⟨hG', hO⟩, ⟨h8, fun v hv => ?_⟩, fun v hv => ?_⟩, fun B F hr => ⟨B + (mS M' - mS M), hr.sm sm0 (fun n z => by omega)⟩, ((sm0.1 6 rfl).1 35).1, hsm⟩
  · by_cases e : v = k
    · rw [e]; exact h35
    · exact ((((sm v hv e).1 6 rfl).1 35).1).trans (h35a v hv)
  · unfold up1
    by_cases e : v = k
    · subst e
      rw [if_pos rfl]
      exact ⟨fun _ => hd, fun z => by rw [hon] at z; cases z⟩
    · rw [if_neg e]
      refine ⟨fun z => ((hw v hv).1 z).sm (sm v hv e) hp hl hL (h35a v hv) h8, fun z => ?_⟩
      obtain ⟨B, hr⟩ := (hw v hv).2 z
      exact ⟨B + (mS M' - mS M), hr.sm (sm v hv e) (fun n z => by omega)⟩
/-- the state in which an operation on world k begins -/
theorem WWC.st (h : WWC A on ws lf M) (hk : k < 3) (hon : on k = true) : Dok (k + 1) (DC (k + 1) M) ∧ St (k + 1) (DC (k + 1) M) (fun q => q = k) (fun _ => false) M := by
  obtain ⟨⟨hG, hO⟩, -⟩ := h
  refine ⟨Dok_C hG (by omega), StC hG (by omega) (fun f i q g j _ z => by cases z) (fun f q g j hf hT e => ?_)⟩
  rcases hf with z | z
  · subst z
    have hq : q = k := hT
    subst hq
    rw [hO.2 q hk, hon] at e
    cases e
    exact ow1 rfl rfl
  · subst z
    have hq : 1000 + q = k := hT
    omega
/-- what a works' world asks to be begun, or dropped -/
theorem WWC.fr (h : WWC A on ws lf M) (hf : Fr S M M') (hO : cOn on M') (hG : GM M') (hsm : ∀ v, v < 4 → SmC v M M') (hp : A <+: A') (hl : A'.length ≤ 200000) (hL : cLk M') (h8 : mI M' 10 0 8 = Int32.ofNat lf') : WWC A' on ws lf' M' := by
  obtain ⟨-, ⟨-, h35a⟩, hw⟩ := h
  refine ⟨⟨hG, hO⟩, ⟨h8, fun v hv => ((((hsm (v + 1) (by omega)).1 6 rfl).1 35).1).trans (h35a v hv)⟩, fun v hv => ⟨fun z => ((hw v hv).1 z).sm (hsm (v + 1) (by omega)) hp hl hL (h35a v hv) h8, fun z => ?_⟩⟩
  obtain ⟨B, hr⟩ := (hw v hv).2 z
  exact ⟨B + (mS M' - mS M), hr.sm (hsm (v + 1) (by omega)) (fun n z => by omega)⟩
end
