/-! KINDS, SPEC: what two kinds are together; the told table; inference -/
/-- the class above a class -/
def upC (W : List Cls) (c : Nat) : Option Nat := if c = 0 then none else fnd W (upN W c)
def srch (W : List Cls) (P : Nat → Bool) : Nat → Nat → Option Nat
  | 0, _ => none
  | n + 1, x => if P x = true then some x else match upC W x with
    | none => none
    | some y => srch W P n y
/-- a way up comes to its end behind m steps -/
def stpP (W : List Cls) (P : Nat → Bool) : Nat → Nat → Prop
  | 0, x => P x = true ∨ upC W x = none
  | m + 1, x => P x = false ∧ ∃ y, upC W x = some y ∧ stpP W P m y
theorem upC_lt {W : List Cls} {c d : Nat} (h : upC W c = some d) : d < W.length := by
  unfold upC at h
  split at h
  · cases h
  · exact fnd_lt h
theorem stpP_det {W : List Cls} {P : Nat → Bool} : ∀ {m m' : Nat} {x : Nat}, stpP W P m x → stpP W P m' x → m = m'
  | 0, 0, _, _, _ => rfl
  | 0, m' + 1, x, h, h' => by
    obtain ⟨n, y, e, -⟩ := h'
    rcases h with h | h
    · rw [h] at n; cases n
    · rw [h] at e; cases e
  | m + 1, 0, x, h', h => by
    obtain ⟨n, y, e, -⟩ := h'
    rcases h with h | h
    · rw [h] at n; cases n
    · rw [h] at e; cases e
  | m + 1, m' + 1, x, h, h' => by
    obtain ⟨-, y, e, q⟩ := h
    obtain ⟨-, y', e', q'⟩ := h'
    rw [e] at e'
    have : y = y' := Option.some.inj e'
    subst this
    rw [stpP_det q q']
theorem stpP_way {W : List Cls} {P : Nat → Bool} : ∀ {m x : Nat}, x < W.length → stpP W P m x → ∃ V : List Nat, V.length = m + 1 ∧ V.Nodup ∧ ∀ v ∈ V, v < W.length ∧ ∃ j, j ≤ m ∧ stpP W P j v
  | 0, x, hx, h => ⟨[x], rfl, by simp, fun v hv => by rw [List.mem_singleton.mp hv]; exact ⟨hx, 0, Nat.le_refl _, h⟩⟩
  | m + 1, x, hx, h => by
    obtain ⟨c, y, e, q⟩ := id h
    obtain ⟨V, v1, v2, v3⟩ := stpP_way (upC_lt e) q
    refine ⟨x :: V, by simp [v1], List.nodup_cons.mpr ⟨fun hm => ?_, v2⟩, fun v hv => ?_⟩
    · obtain ⟨-, j, hj, s⟩ := v3 _ hm
      have := stpP_det s h
      omega
    · rcases List.mem_cons.mp hv with z | z
      · subst z; exact ⟨hx, m + 1, Nat.le_refl _, h⟩
      · obtain ⟨a, j, hj, s⟩ := v3 _ z
        exact ⟨a, j, by omega, s⟩
theorem stpP_le {W : List Cls} {P : Nat → Bool} {m x : Nat} (hx : x < W.length) (h : stpP W P m x) : m < W.length := by
  obtain ⟨V, v1, v2, v3⟩ := stpP_way hx h
  have := nd_leN v2 (B := List.range W.length) (fun v hv => List.mem_range.mpr (v3 v hv).1)
  rw [List.length_range, v1] at this
  omega
theorem srch_stp {W : List Cls} {P : Nat → Bool} : ∀ {m n x : Nat}, stpP W P m x → m < n → srch W P n x = srch W P (m + 1) x
  | 0, 0, _, _, hn => absurd hn (by omega)
  | 0, n + 1, x, h, _ => by
    show (if P x = true then some x else _) = (if P x = true then some x else _)
    rcases h with h | h
    · rw [if_pos h, if_pos h]
    · by_cases c : P x = true
      · rw [if_pos c, if_pos c]
      · rw [if_neg c, if_neg c, h]
  | m + 1, 0, _, _, hn => absurd hn (by omega)
  | m + 1, n + 1, x, h, hn => by
    obtain ⟨c, y, e, q⟩ := h
    show (if P x = true then some x else _) = (if P x = true then some x else _)
    rw [if_neg (by rw [c]; decide), if_neg (by rw [c]; decide), e]
    exact srch_stp q (by omega)
theorem srch_no {W : List Cls} {P : Nat → Bool} : ∀ {n x : Nat}, (∀ m, m < n → ¬ stpP W P m x) → srch W P n x = none
  | 0, _, _ => rfl
  | n + 1, x, h => by
    have h0 := h 0 (by omega)
    have c : ¬ P x = true := fun q => h0 (Or.inl q)
    show (if P x = true then some x else _) = none
    rw [if_neg c]
    cases e : upC W x with
    | none => rfl
    | some y => exact srch_no (fun m hm q => h (m + 1) (by omega) ⟨by simpa using c, y, e, q⟩)
/-- behind as many steps as there are classes nothing comes any more -/
theorem srch_eq {W : List Cls} {P : Nat → Bool} {n n' x : Nat} (hx : x < W.length) (h : W.length ≤ n) (h' : W.length ≤ n') : srch W P n x = srch W P n' x := by
  by_cases c : ∃ m, stpP W P m x
  · obtain ⟨m, hm⟩ := c
    have := stpP_le hx hm
    rw [srch_stp hm (by omega), srch_stp hm (show m < n' by omega)]
  · rw [srch_no (fun m _ q => c ⟨m, q⟩), srch_no (fun m _ q => c ⟨m, q⟩)]
/-- whether one class is another, or above it by parents -/
def isUpB (W : List Cls) (x y : Nat) : Bool := (srch W (fun z => decide (z = x)) 51 y).isSome
def jnC (W : List Cls) (x y : Nat) : Nm := match srch W (fun z => isUpB W z y) 51 x with
  | some z => (gc W z).1
  | none => nThing
/-- what two kinds are together; unset when nothing -/
def jnK (W : List Cls) (a b : Kd) : Kd := if a = b then a else if rfK a = false ∨ rfK b = false then uns else if a.1 = -1 then b else if b.1 = -1 then a else if a.1 = 1 ∨ b.1 = 1 then (2, nThing) else match fnd W a.2, fnd W b.2 with
  | some x, some y => (2, jnC W x y)
  | _, _ => (2, nThing)
/-- what is known at instructions -/
abbrev Tr : Type := List (Option (List Kd × List Kd))
abbrev Ti : Type := Tr × Bool
def gR (R : Tr) (i : Nat) : Option (List Kd × List Kd) := R.getD i none
abbrev zJ (W : List Cls) (l l' : List Kd) : List Kd := List.zipWith (jnK W) l l'
/-- the state comes to an instruction -/
def jnS (W : List Cls) (s : Ti) (to : Nat) (lo st : List Kd) : Nat × Ti := match gR s.1 to with
  | none => (0, s.1.set to (some (lo, st)), true)
  | some (l, t) => if t.length ≠ st.length then (37, s) else if uns ∈ zJ W t st then (37, s) else (0, s.1.set to (some (zJ W l lo, zJ W t st)), s.2 || !(decide (l = zJ W l lo) && decide (t = zJ W t st)))
def handI (W : List Cls) (x : Mth) (lo : List Kd) (a : Nat) : List Hnd → Ti → Nat × Ti
  | [], s => (0, s)
  | h :: l, s => if a < h.1 ∨ h.2.1 ≤ a then handI W x lo a l s else if sr x = 0 then (30, s) else
    if (jnS W s h.2.2.1 lo [(2, if h.2.2.2 = nAny then nFault else h.2.2.2)]).1 = 0 then handI W x lo a l (jnS W s h.2.2.1 lo [(2, if h.2.2.2 = nAny then nFault else h.2.2.2)]).2 else jnS W s h.2.2.1 lo [(2, if h.2.2.2 = nAny then nFault else h.2.2.2)]
def pickI (W : List Cls) (lo st : List Kd) : List Nat → Ti → Nat × Ti
  | [], s => (0, s)
  | t :: l, s => if (jnS W s t lo st).1 = 0 then pickI W lo st l (jnS W s t lo st).2 else jnS W s t lo st
/-- where it goes -/
def folI (W : List Cls) (x : Mth) (i : Ins) (a : Nat) (lo st : List Kd) (s : Ti) : Nat × Ti :=
  if (pickI W lo st (if isJ i.1 then [gtn (iT i) 0] else if i.1 = 40 then iT i else []) s).1 ≠ 0 then pickI W lo st (if isJ i.1 then [gtn (iT i) 0] else if i.1 = 40 then iT i else []) s
  else if ¬ goesOn i.1 then pickI W lo st (if isJ i.1 then [gtn (iT i) 0] else if i.1 = 40 then iT i else []) s
  else if a + 1 = (co x).length then (35, (pickI W lo st (if isJ i.1 then [gtn (iT i) 0] else if i.1 = 40 then iT i else []) s).2)
  else jnS W (pickI W lo st (if isJ i.1 then [gtn (iT i) 0] else if i.1 = 40 then iT i else []) s).2 (a + 1) lo st
/-- the rule that an instruction's own work breaks -/
def preI (W : List Cls) (c : Nat) (x : Mth) (a : Nat) (lo st : List Kd) : Nat :=
  if takenS W c x (gin (co x) a) lo st ≠ 0 then takenS W c x (gin (co x) a) lo st else if ownS W c x (gin (co x) a) lo st ≠ 0 then ownS W c x (gin (co x) a) lo st
  else if sr x < (stS W c x (gin (co x) a) a lo st).length then 30 else 0
abbrev isH (i : Ins) : Prop := i.1 = 5 ∨ i.1 = 6 ∨ isMk i
/-- behind the handlers -/
def actI (W : List Cls) (c : Nat) (x : Mth) (a : Nat) (lo st : List Kd) (s : Ti) : Nat × Ti :=
  if preI W c x a lo st ≠ 0 then (preI W c x a lo st, s)
  else if isH (gin (co x) a) then handI W x (loS W c (gin (co x) a) lo st) a (hs x) s else (0, s)
def stpI (W : List Cls) (c : Nat) (x : Mth) (a : Nat) (lo st : List Kd) (s : Ti) : Nat × Ti :=
  if (handI W x lo a (hs x) s).1 ≠ 0 then handI W x lo a (hs x) s
  else if (actI W c x a lo st (handI W x lo a (hs x) s).2).1 ≠ 0 then actI W c x a lo st (handI W x lo a (hs x) s).2
  else folI W x (gin (co x) a) a (loS W c (gin (co x) a) lo st) (stS W c x (gin (co x) a) a lo st) (actI W c x a lo st (handI W x lo a (hs x) s).2).2
/-- a round: the rule, where, what is known -/
def rndI (W : List Cls) (c : Nat) (x : Mth) : Nat → Nat → Ti → Nat × Nat × Ti
  | 0, a, s => (0, a, s)
  | n + 1, a, s => match gR s.1 a with
    | none => rndI W c x n (a + 1) s
    | some (lo, st) => if (stpI W c x a lo st s).1 ≠ 0 then ((stpI W c x a lo st s).1, a, (stpI W c x a lo st s).2) else rndI W c x n (a + 1) (stpI W c x a lo st s).2
/-- rounds until nothing changes: n of 100 are left -/
def infI (W : List Cls) (c : Nat) (x : Mth) : Nat → Tr → (Nat × Nat) × Tr
  | 0, R => ((44, 0), R)
  | n + 1, R => if (rndI W c x (co x).length 0 (R, false)).1 ≠ 0 then (((rndI W c x (co x).length 0 (R, false)).1, (rndI W c x (co x).length 0 (R, false)).2.1), (rndI W c x (co x).length 0 (R, false)).2.2.1)
    else if (rndI W c x (co x).length 0 (R, false)).2.2.2 = false then ((0, 0), (rndI W c x (co x).length 0 (R, false)).2.2.1) else infI W c x n (rndI W c x (co x).length 0 (R, false)).2.2.1
def noR (x : Mth) : Tr := List.replicate (co x).length none
def infS (W : List Cls) (c : Nat) (x : Mth) : (Nat × Nat) × Tr := infI W c x 100 ((noR x).set 0 (some (padL x (begL W c x), [])))
/-! with frames -/
def entS (W : List Cls) (x : Mth) (a : Nat) (s : KSt) : Nat ⊕ (List Kd × List Kd) := match frOf x a with
  | none => if s.2.2 then .inr (s.1, s.2.1) else .inl 36
  | some (fl, fs) => if wrongF x fl fs then .inl 38 else if s.2.2 = true ∧ fitS W s.1 s.2.1 fl fs ≠ 0 then .inl (fitS W s.1 s.2.1 fl fs) else .inr (padL x fl, fs)
theorem oneS_ent {W : List Cls} {c : Nat} {x : Mth} {a : Nat} {s : KSt} : oneS W c x a s = match entS W x a s with
  | .inl r => .inl r
  | .inr y => stepS W c x a y.1 y.2 := by
  unfold oneS entS
  cases frOf x a with
  | none => cases e : s.2.2 <;> rfl
  | some f =>
    obtain ⟨fl, fs⟩ := f
    show (if wrongF x fl fs = true then _ else _) = _
    by_cases c1 : wrongF x fl fs = true
    · simp only [if_pos c1]
    · simp only [if_neg c1]
      by_cases c2 : s.2.2 = true ∧ fitS W s.1 s.2.1 fl fs ≠ 0
      · simp only [if_pos c2]
      · simp only [if_neg c2]
def recS (W : List Cls) (c : Nat) (x : Mth) : Nat → Nat → KSt → Tr → Tr
  | 0, _, _, R => R
  | n + 1, a, s, R => match entS W x a s with
    | .inl _ => R
    | .inr y => match stepS W c x a y.1 y.2 with
      | .inl _ => R.set a (some y)
      | .inr s' => recS W c x n (a + 1) s' (R.set a (some y))
def frmS (W : List Cls) (c : Nat) (x : Mth) : Tr := recS W c x (co x).length 0 (padL x (begL W c x), [], true) (noR x)
/-! what is told -/
def tlK (W : List Cls) (κ : Kd) : Int32 := if κ.1 = 2 then (match fnd W κ.2 with
  | some c => Int32.ofNat (100 + c)
  | none => 99) else if κ.1 = 0 then 0 else if κ.1 = 1 then 1 else if κ.1 = -1 then 2 else if κ.1 = -2 then 3 else if κ.1 = -3 then 4 else 5
/-- told: locals and stack at every instruction -/
abbrev Tl : Type := List (Option (List Int32 × List Int32))
def tlR (W : List Cls) (R : Tr) : Tl := R.map (fun o => o.map (fun y => (y.1.map (tlK W), y.2.map (tlK W))))
def tlG (L : Tl) (i : Nat) : Option (List Int32 × List Int32) := L.getD i none
def kndO (L : Tl) (i k : Int32) : Int32 := if i < 0 then -1 else match tlG L i.toNatClampNeg with
  | none => -1
  | some y => if k = -1 then Int32.ofNat y.2.length else if k < 0 ∨ 39 < k then -1 else if k < 20 then (if k.toNatClampNeg < y.1.length then gi y.1 k.toNatClampNeg else -1) else (if k.toNatClampNeg - 20 < y.2.length then gi y.2 (k.toNatClampNeg - 20) else -1)
/-- the operation kinds: what it answers and what is told from then on -/
def kdsO (W : List Cls) (c : Nat) (x : Mth) (inf : Bool) : Int32 × Tl :=
  (if inf then (if (infS W c x).1.1 = 0 then 0 else 1000 * Int32.ofNat (infS W c x).1.1 + Int32.ofNat (infS W c x).1.2) else (if (chkM W c x).1 = 0 then 0 else 1000 * Int32.ofNat (chkM W c x).1 + Int32.ofNat (chkM W c x).2), tlR W (if inf then (infS W c x).2 else frmS W c x))
