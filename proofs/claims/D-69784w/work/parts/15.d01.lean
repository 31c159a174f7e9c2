/-! B: kinds while code is checked; what fits what -/
/-- a kind that checking has at hand, in a code -/
def kwf (A : List Nm) (co : List Ins) (κ : Kd) : Prop := (κ.1 = 2 ∧ κ.2 ∈ A) ∨ (κ.2 = [] ∧ ((-4 ≤ κ.1 ∧ κ.1 ≤ 1) ∨ ∃ j : Nat, κ.1 = -10 - (j : Int) ∧ j < co.length ∧ j < 80 ∧ (gin co j).1 = 41))
theorem kwf.ok {A : List Nm} {co : List Ins} {κ : Kd} (h : kwf A co κ) : kok A κ := fun e => by
  rcases h with ⟨-, m⟩ | ⟨-, h⟩
  · exact m
  · rcases h with h | ⟨j, h, -⟩ <;> omega
theorem kwf.rg {A : List Nm} {co : List Ins} {κ : Kd} (h : kwf A co κ) : κ.1 = 2 ∨ (κ.2 = [] ∧ -100 ≤ κ.1 ∧ κ.1 ≤ 1 ∧ (κ.1 ≤ -10 ∨ -4 ≤ κ.1)) := by
  rcases h with ⟨e, -⟩ | ⟨e, h⟩
  · exact Or.inl e
  · rcases h with h | ⟨j, h, -, h2, -⟩
    · exact Or.inr ⟨e, by omega, by omega, by omega⟩
    · exact Or.inr ⟨e, by omega, by omega, by omega⟩
theorem kwf.pre {A A' : List Nm} {co : List Ins} {κ : Kd} (h : kwf A co κ) (hp : A <+: A') : kwf A' co κ := by
  rcases h with ⟨e, m⟩ | h
  · exact Or.inl ⟨e, hp.subset m⟩
  · exact Or.inr h
theorem kwf_cls {A : List Nm} {co : List Ins} {nm : Nm} (h : nm ∈ A) : kwf A co (2, nm) := Or.inl ⟨rfl, h⟩
theorem kwf_fk {A : List Nm} {co : List Ins} {κ : Kd} (h : fkOk κ) (hk : kok A κ) : kwf A co κ := by
  rcases h with e | e | e | e | e | e
  · rw [e]; exact Or.inr ⟨rfl, Or.inl ⟨by decide, by decide⟩⟩
  · rw [e]; exact Or.inr ⟨rfl, Or.inl ⟨by decide, by decide⟩⟩
  · rw [e]; exact Or.inr ⟨rfl, Or.inl ⟨by decide, by decide⟩⟩
  · rw [e]; exact Or.inr ⟨rfl, Or.inl ⟨by decide, by decide⟩⟩
  · rw [e]; exact Or.inr ⟨rfl, Or.inl ⟨by decide, by decide⟩⟩
  · exact Or.inl ⟨e, hk e⟩
theorem kwf_kd {A : List Nm} {co : List Ins} {κ : Kd} (h : kdOk κ) (hk : kok A κ) : kwf A co κ := by
  rcases h with e | e | e | e
  · rw [e]; exact Or.inr ⟨rfl, Or.inl ⟨by decide, by decide⟩⟩
  · rw [e]; exact Or.inr ⟨rfl, Or.inl ⟨by decide, by decide⟩⟩
  · rw [e]; exact Or.inr ⟨rfl, Or.inl ⟨by decide, by decide⟩⟩
  · exact Or.inl ⟨e, hk e⟩
/-- the number of a kind in the works -/
theorem kC_int {A : List Nm} {co : List Ins} {κ : Kd} (h : kwf A co κ) (hl : A.length ≤ 200000) : (kC A κ).toInt = if κ.1 = 2 then (A.idxOf κ.2 : Int) + 2 else κ.1 := by
  unfold kC
  rcases h with ⟨e, m⟩ | ⟨e, h⟩
  · rw [if_pos e, if_pos e, oN_toInt]
    · exact Int.natCast_add _ _
    · have := List.idxOf_lt_length_of_mem m
      omega
  · have h2 : κ.1 ≠ 2 ∧ -100 ≤ κ.1 ∧ κ.1 ≤ 1 := by
      rcases h with h | ⟨j, h, -, h2, -⟩ <;> omega
    rw [if_neg h2.1, if_neg h2.1, Int32.toInt_ofInt_of_le (by omega) (by omega)]
/-- the number of a kind in the twin -/
theorem kt_int {A : List Nm} {co : List Ins} {κ : Kd} (h : kwf A co κ) (hl : A.length ≤ 200000) : (kt A κ).toInt = if κ.1 = 2 then (A.idxOf κ.2 : Int) + 16 else if κ.1 = 0 then 1 else if κ.1 = 1 then 2 else if κ.1 = -1 then 3 else if κ.1 = -2 then 4 else if κ.1 = -3 then 5 else if κ.1 = -4 then 0 else κ.1 + 9 := by
  unfold kt
  rcases h with ⟨e, m⟩ | ⟨e, h⟩
  · rw [if_pos e, if_pos e, oN_toInt]
    · exact Int.natCast_add _ _
    · have := List.idxOf_lt_length_of_mem m
      omega
  · have h2 : κ.1 ≠ 2 ∧ -100 ≤ κ.1 ∧ κ.1 ≤ 1 := by
      rcases h with h | ⟨j, h, -, h2, -⟩ <;> omega
    rw [if_neg h2.1, if_neg h2.1]
    by_cases c0 : κ.1 = 0
    · rw [if_pos c0, if_pos c0]; rfl
    rw [if_neg c0, if_neg c0]
    by_cases c1 : κ.1 = 1
    · rw [if_pos c1, if_pos c1]; rfl
    rw [if_neg c1, if_neg c1]
    by_cases c2 : κ.1 = -1
    · rw [if_pos c2, if_pos c2]; rfl
    rw [if_neg c2, if_neg c2]
    by_cases c3 : κ.1 = -2
    · rw [if_pos c3, if_pos c3]; rfl
    rw [if_neg c3, if_neg c3]
    by_cases c4 : κ.1 = -3
    · rw [if_pos c4, if_pos c4]; rfl
    rw [if_neg c4, if_neg c4]
    by_cases c5 : κ.1 = -4
    · rw [if_pos c5, if_pos c5]; rfl
    rw [if_neg c5, if_neg c5, Int32.toInt_ofInt_of_le (by omega) (by omega)]
theorem kd_ext {a b : Kd} (h1 : a.1 = b.1) (h2 : a.2 = b.2) : a = b := Prod.ext h1 h2
theorem kC_inw {A : List Nm} {co : List Ins} {a b : Kd} (ha : kwf A co a) (hb : kwf A co b) (hl : A.length ≤ 200000) : kC A a = kC A b ↔ a = b := by
  refine ⟨fun e => ?_, fun e => by rw [e]⟩
  have e2 := congrArg Int32.toInt e
  rw [kC_int ha hl, kC_int hb hl] at e2
  have ra := ha.rg
  have rb := hb.rg
  by_cases ca : a.1 = 2
  · by_cases cb : b.1 = 2
    · rw [if_pos ca, if_pos cb] at e2
      have e3 : nc A a.2 = nc A b.2 := by unfold nc; rw [show A.idxOf a.2 = A.idxOf b.2 by omega]
      exact kd_ext (ca.trans cb.symm) ((nc_inj (by omega) (ha.ok ca) (hb.ok cb)).mp e3)
    · rw [if_pos ca, if_neg cb] at e2; omega
  · by_cases cb : b.1 = 2
    · rw [if_neg ca, if_pos cb] at e2; omega
    · rw [if_neg ca, if_neg cb] at e2
      rcases ra with ra | ra
      · exact absurd ra ca
      rcases rb with rb | rb
      · exact absurd rb cb
      exact kd_ext e2 (ra.1.trans rb.1.symm)
theorem kt_inw {A : List Nm} {co : List Ins} {a b : Kd} (ha : kwf A co a) (hb : kwf A co b) (hl : A.length ≤ 200000) : kt A a = kt A b ↔ a = b := by
  refine ⟨fun e => ?_, fun e => by rw [e]⟩
  have e2 := congrArg Int32.toInt e
  rw [kt_int ha hl, kt_int hb hl] at e2
  have ra := ha.rg
  have rb := hb.rg
  by_cases ca : a.1 = 2
  · by_cases cb : b.1 = 2
    · rw [if_pos ca, if_pos cb] at e2
      have e3 : nc A a.2 = nc A b.2 := by unfold nc; rw [show A.idxOf a.2 = A.idxOf b.2 by omega]
      exact kd_ext (ca.trans cb.symm) ((nc_inj (by omega) (ha.ok ca) (hb.ok cb)).mp e3)
    · exfalso
      rw [if_pos ca, if_neg cb] at e2
      have := Int.natCast_nonneg (A.idxOf a.2)
      repeat' split at e2
      all_goals omega
  · rcases ra with ra | ra
    · exact absurd ra ca
    by_cases cb : b.1 = 2
    · exfalso
      rw [if_neg ca, if_pos cb] at e2
      have := Int.natCast_nonneg (A.idxOf b.2)
      repeat' split at e2
      all_goals omega
    · rcases rb with rb | rb
      · exact absurd rb cb
      refine kd_ext ?_ (ra.1.trans rb.1.symm)
      rw [if_neg ca, if_neg cb] at e2
      repeat' split at e2
      all_goals omega
/-- against numbers of the works -/
theorem kC_eq {A : List Nm} {co : List Ins} {κ : Kd} {n : Int} (h : kwf A co κ) (hl : A.length ≤ 200000) (hn : -100 ≤ n ∧ n ≤ 1) : kC A κ = Int32.ofInt n ↔ κ.1 = n := by
  rw [← Int32.toInt_inj, kC_int h hl, Int32.toInt_ofInt_of_le (by omega) (by omega)]
  have := Int.natCast_nonneg (A.idxOf κ.2)
  split <;> omega
theorem kC_le {A : List Nm} {co : List Ins} {κ : Kd} {n : Int} (h : kwf A co κ) (hl : A.length ≤ 200000) (hn : -100 ≤ n ∧ n ≤ 1) : kC A κ ≤ Int32.ofInt n ↔ κ.1 ≤ n := by
  rw [Int32.le_iff_toInt_le, kC_int h hl, Int32.toInt_ofInt_of_le (by omega) (by omega)]
  have := Int.natCast_nonneg (A.idxOf κ.2)
  split <;> omega
theorem kC_ge {A : List Nm} {co : List Ins} {κ : Kd} {n : Int} (h : kwf A co κ) (hl : A.length ≤ 200000) (hn : -100 ≤ n ∧ n ≤ 2) : Int32.ofInt n ≤ kC A κ ↔ n ≤ κ.1 := by
  rw [Int32.le_iff_toInt_le, kC_int h hl, Int32.toInt_ofInt_of_le (by omega) (by omega)]
  have := Int.natCast_nonneg (A.idxOf κ.2)
  split <;> omega
theorem kC_gt {A : List Nm} {co : List Ins} {κ : Kd} {n : Int} (h : kwf A co κ) (hl : A.length ≤ 200000) (hn : -100 ≤ n ∧ n ≤ 1) : Int32.ofInt n < kC A κ ↔ n < κ.1 := by
  rw [Int32.lt_iff_toInt_lt, kC_int h hl, Int32.toInt_ofInt_of_le (by omega) (by omega)]
  have := Int.natCast_nonneg (A.idxOf κ.2)
  split <;> omega
/-- a reference that is made -/
def rfK (κ : Kd) : Bool := decide (κ.1 = -1) || (decide (κ.1 = 1) || decide (κ.1 = 2))
/-- not made yet -/
def umK (κ : Kd) : Bool := decide (κ.1 = -3) || decide (κ.1 ≤ -10)
/-- the name above a class -/
def upN (W : List Cls) (c : Nat) : Nm := if isFc W c then nThing else (gc W c).2.1
/-- from a name up to another one: 0, or 37, or 43 when a class is not there -/
def climb (W : List Cls) (b : Nm) : Nat → Nm → Nat
  | 0, _ => 37
  | n + 1, x => if x = b then 0 else match fnd W x with
    | none => 43
    | some c => if c = 0 then 37 else climb W b n (upN W c)
def fitC (W : List Cls) (a b : Nm) : Nat := if b = nThing then 0 else match fnd W b with
  | none => 43
  | some d => if isFc W d then 0 else climb W b 52 a
/-- 0 when a fits b, 37 when not, 43 when a class is not there -/
def fitK (W : List Cls) (a b : Kd) : Nat :=
  if b.1 = -2 ∨ a = b then 0 else if a.1 = -1 then (if b.1 = 1 ∨ b.1 = 2 then 0 else 37)
  else if a.1 = 1 then (if b = (2, nThing) then 0 else 37)
  else if a.1 = 2 ∧ b.1 = 2 then fitC W a.2 b.2 else 37
theorem fnd_name {W : List Cls} {x : Nm} {c : Nat} (h : fnd W x = some c) : (gc W c).1 = x := by
  have := @fnd_spec x W
  rw [h] at this
  exact this.2.1
theorem nd_leN : ∀ {A B : List Nat}, A.Nodup → A ⊆ B → A.length ≤ B.length := by
  intro A
  induction A with
  | nil => intro B _ _; simp
  | cons a A ih =>
    intro B hn hs
    have ha := hs List.mem_cons_self
    obtain ⟨hn1, hn2⟩ := List.nodup_cons.mp hn
    have h1 : A ⊆ B.erase a := fun x hx => (List.mem_erase_of_ne (fun (e : x = a) => hn1 (e ▸ hx))).mpr (hs (List.mem_cons_of_mem _ hx))
    have := ih hn2 h1
    rw [List.length_erase_of_mem ha] at this
    have := List.length_pos_of_mem ha
    simp; omega
/-- a way up stops behind m steps -/
def stops (W : List Cls) (b : Nm) : Nat → Nm → Prop
  | 0, x => x = b ∨ fnd W x = none ∨ fnd W x = some 0
  | m + 1, x => x ≠ b ∧ ∃ c, fnd W x = some (c + 1) ∧ stops W b m (upN W (c + 1))
theorem stops_det {W : List Cls} {b : Nm} : ∀ {m m' : Nat} {x : Nm}, stops W b m x → stops W b m' x → m = m'
  | 0, 0, _, _, _ => rfl
  | 0, m' + 1, x, h, h' => by
    obtain ⟨n, c, e, -⟩ := h'
    rcases h with h | h | h
    · exact absurd h n
    · rw [h] at e; cases e
    · rw [h] at e; cases e
  | m + 1, 0, x, h', h => by
    obtain ⟨n, c, e, -⟩ := h'
    rcases h with h | h | h
    · exact absurd h n
    · rw [h] at e; cases e
    · rw [h] at e; cases e
  | m + 1, m' + 1, x, h, h' => by
    obtain ⟨-, c, e, q⟩ := h
    obtain ⟨-, c', e', q'⟩ := h'
    rw [e] at e'
    have : c = c' := by injection e' with e'; omega
    subst this
    rw [stops_det q q']
theorem climb_stops {W : List Cls} {b : Nm} : ∀ {m n : Nat} {x : Nm}, stops W b m x → m < n → climb W b n x = climb W b (m + 1) x
  | 0, 0, _, _, hn => absurd hn (by omega)
  | 0, n + 1, x, h, _ => by
    show (if x = b then 0 else _) = (if x = b then 0 else _)
    by_cases c : x = b
    · rw [if_pos c, if_pos c]
    rw [if_neg c, if_neg c]
    rcases h with h | h | h
    · exact absurd h c
    · rw [h]
    · rw [h]; rfl
  | m + 1, 0, _, _, hn => absurd hn (by omega)
  | m + 1, n + 1, x, h, hn => by
    obtain ⟨c, d, e, q⟩ := h
    show (if x = b then 0 else _) = (if x = b then 0 else _)
    rw [if_neg c, if_neg c, e]
    show (if d + 1 = 0 then 37 else climb W b n _) = (if d + 1 = 0 then 37 else climb W b (m + 1) _)
    rw [if_neg (by omega), if_neg (by omega), climb_stops q (by omega)]
theorem climb_37 {W : List Cls} {b : Nm} : ∀ {n : Nat} {x : Nm}, (∀ m, m < n → ¬ stops W b m x) → climb W b n x = 37
  | 0, _, _ => rfl
  | n + 1, x, h => by
    have h0 := h 0 (by omega)
    show (if x = b then 0 else _) = 37
    rw [if_neg (fun q => h0 (Or.inl q))]
    cases e : fnd W x with
    | none => exact absurd (Or.inr (Or.inl e)) h0
    | some d =>
      show (if d = 0 then 37 else climb W b n _) = 37
      by_cases c : d = 0
      · rw [if_pos c]
      · rw [if_neg c]
        refine climb_37 (fun m hm q => h (m + 1) (by omega) ⟨fun z => h0 (Or.inl z), d - 1, ?_, ?_⟩)
        · rw [e]; congr 1; omega
        · rw [show d - 1 + 1 = d by omega]; exact q
theorem stops_way {W : List Cls} {b : Nm} : ∀ {m : Nat} {x : Nm}, stops W b m x → ∃ V : List Nat, V.length = m ∧ V.Nodup ∧ (∀ v ∈ V, v < W.length ∧ ∃ j, j ≤ m ∧ 0 < j ∧ stops W b j (gc W v).1)
  | 0, _, _ => ⟨[], rfl, List.nodup_nil, fun v hv => absurd hv (by simp)⟩
  | m + 1, x, h => by
    obtain ⟨c, d, e, q⟩ := id h
    obtain ⟨V, v1, v2, v3⟩ := stops_way q
    have ex := fnd_name e
    refine ⟨(d + 1) :: V, by simp [v1], List.nodup_cons.mpr ⟨fun hm => ?_, v2⟩, fun v hv => ?_⟩
    · obtain ⟨-, j, hj, h0, s⟩ := v3 _ hm
      rw [ex] at s
      have := stops_det s h
      omega
    · rcases List.mem_cons.mp hv with z | z
      · subst z
        exact ⟨fnd_lt e, m + 1, Nat.le_refl _, by omega, by rw [ex]; exact h⟩
      · obtain ⟨a, j, hj, h0, s⟩ := v3 _ z
        exact ⟨a, j, by omega, h0, s⟩
theorem stops_le {W : List Cls} {b : Nm} {m : Nat} {x : Nm} (h : stops W b m x) : m ≤ W.length := by
  obtain ⟨V, v1, v2, v3⟩ := stops_way h
  have := nd_leN v2 (B := List.range W.length) (fun v hv => List.mem_range.mpr (v3 v hv).1)
  rw [List.length_range, v1] at this
  exact this
/-- behind as many steps as there are classes nothing comes any more -/
theorem climb_eq {W : List Cls} {b : Nm} {n n' : Nat} {x : Nm} (h : W.length < n) (h' : W.length < n') : climb W b n x = climb W b n' x := by
  by_cases c : ∃ m, stops W b m x
  · obtain ⟨m, hm⟩ := c
    have := stops_le hm
    rw [climb_stops hm (by omega), climb_stops hm (show m < n' by omega)]
  · rw [climb_37 (fun m _ q => c ⟨m, q⟩), climb_37 (fun m _ q => c ⟨m, q⟩)]
theorem climb_val {W : List Cls} {b : Nm} : ∀ {n : Nat} {x : Nm}, climb W b n x = 0 ∨ climb W b n x = 37 ∨ climb W b n x = 43
  | 0, _ => Or.inr (Or.inl rfl)
  | n + 1, x => by
    show (if x = b then 0 else _) = 0 ∨ (if x = b then 0 else _) = 37 ∨ (if x = b then 0 else _) = 43
    by_cases c : x = b
    · simp only [if_pos c, true_or]
    · simp only [if_neg c]
      cases fnd W x with
      | none => exact Or.inr (Or.inr rfl)
      | some d =>
        show (if d = 0 then 37 else climb W b n _) = 0 ∨ (if d = 0 then 37 else climb W b n _) = 37 ∨ (if d = 0 then 37 else climb W b n _) = 43
        by_cases c : d = 0
        · rw [if_pos c]; exact Or.inr (Or.inl rfl)
        · rw [if_neg c]; exact climb_val
theorem fitK_val {W : List Cls} {a b : Kd} : fitK W a b = 0 ∨ fitK W a b = 37 ∨ fitK W a b = 43 := by
  unfold fitK
  by_cases c1 : b.1 = -2 ∨ a = b
  · rw [if_pos c1]; exact Or.inl rfl
  rw [if_neg c1]
  by_cases c2 : a.1 = -1
  · rw [if_pos c2]
    by_cases c3 : b.1 = 1 ∨ b.1 = 2
    · rw [if_pos c3]; exact Or.inl rfl
    · rw [if_neg c3]; exact Or.inr (Or.inl rfl)
  rw [if_neg c2]
  by_cases c4 : a.1 = 1
  · rw [if_pos c4]
    by_cases c3 : b = (2, nThing)
    · rw [if_pos c3]; exact Or.inl rfl
    · rw [if_neg c3]; exact Or.inr (Or.inl rfl)
  rw [if_neg c4]
  by_cases c5 : a.1 = 2 ∧ b.1 = 2
  · rw [if_pos c5]
    unfold fitC
    by_cases c6 : b.2 = nThing
    · rw [if_pos c6]; exact Or.inl rfl
    rw [if_neg c6]
    cases fnd W b.2 with
    | none => exact Or.inr (Or.inr rfl)
    | some d =>
      show (if isFc W d = true then 0 else climb W b.2 52 a.2) = 0 ∨ (if isFc W d = true then 0 else climb W b.2 52 a.2) = 37 ∨ (if isFc W d = true then 0 else climb W b.2 52 a.2) = 43
      by_cases c7 : isFc W d = true
      · rw [if_pos c7]; exact Or.inl rfl
      · rw [if_neg c7]; exact climb_val
  · rw [if_neg c5]; exact Or.inr (Or.inl rfl)
