/-! THE CORE: an abstract memory, and a judgement over it that hides the machine -/
def gword : Cond → Bool
  | .fieldLinkNest .. => true
  | .methodLinkNest .. => true
  | .castable .. => true
  | .declares .. => true
  | .privateMethod .. => true
  | w => goodWord w
theorem gword_at {args a' : Array Value} {s U : State} (hW : s.WarmedH U.vm) {w : Cond} (hg : gword w = true) (h : w.before args s = true) : w.before a' U = true := by
  cases w with
  | fieldLinkNest a i b n d hh => exact va_Nw.use rfl (va_Nw.warmF hW (va_Nw.of rfl h))
  | methodLinkNest a i x hh => exact va_Nw.use rfl (va_Nw.warmM hW (va_Nw.of rfl h))
  | castable C T => exact va_Nw.use rfl (va_Nw.warmC hW (va_Nw.of rfl h))
  | declares x => exact va_Nw.use rfl (va_Nw.warmD hW (va_Nw.of rfl h))
  | privateMethod x => exact va_Nw.use rfl (va_tabs rfl (rfl : (s.setVm U.vm).vm = U.vm) (by rw [Cond.privateMethod_setVm hW.alike]; exact va_Nw.of (A := args) rfl h))
  | _ => exact word_at hW (good_of_word hg) h
-- values
abbrev AV : Type := Int32 ⊕ (Int64 ⊕ Option (Nat × Nat))
abbrev vi (x : Int32) : AV := .inl x
abbrev vl (x : Int64) : AV := .inr (.inl x)
abbrev vr (r : Option (Nat × Nat)) : AV := .inr (.inr r)
-- memory: ints, longs, references by family, instance, place; lengths; the names in the order in which they were made; slots made
abbrev Mem : Type := (Nat → Nat → Nat → Int32) × (Nat → Nat → Nat → Int64) × (Nat → Nat → Nat → Option (Nat × Nat)) × (Nat → Nat → Nat) × List (Nat × Nat) × Nat
def mI (M : Mem) (f i k : Nat) : Int32 := M.1 f i k
def mJ (M : Mem) (f i k : Nat) : Int64 := M.2.1 f i k
def mR (M : Mem) (f i k : Nat) : Option (Nat × Nat) := M.2.2.1 f i k
def mL (M : Mem) (f i : Nat) : Nat := M.2.2.2.1 f i
def mN (M : Mem) : List (Nat × Nat) := M.2.2.2.2.1
def mS (M : Mem) : Nat := M.2.2.2.2.2
def sI (M : Mem) (f i k : Nat) (v : Int32) : Mem := (fun f' i' k' => if f' = f ∧ i' = i ∧ k' = k then v else M.1 f' i' k', M.2)
def sJ (M : Mem) (f i k : Nat) (v : Int64) : Mem := (M.1, fun f' i' k' => if f' = f ∧ i' = i ∧ k' = k then v else M.2.1 f' i' k', M.2.2)
def sR (M : Mem) (f i k : Nat) (v : Option (Nat × Nat)) : Mem := (M.1, M.2.1, fun f' i' k' => if f' = f ∧ i' = i ∧ k' = k then v else M.2.2.1 f' i' k', M.2.2.2)
/-- a cell is made: of family f, instance i, n slots, all 0 and null -/
def mk (M : Mem) (f i n : Nat) : Mem := (fun f' i' k' => if f' = f ∧ i' = i then 0 else M.1 f' i' k', fun f' i' k' => if f' = f ∧ i' = i then 0 else M.2.1 f' i' k', fun f' i' k' => if f' = f ∧ i' = i then none else M.2.2.1 f' i' k', fun f' i' => if f' = f ∧ i' = i then n else M.2.2.2.1 f' i', M.2.2.2.2.1 ++ [(f, i)], M.2.2.2.2.2 + n)
/-- places dp .. dp + n of one row become those of another one -/
def cpI (M : Mem) (f i sp g j dp n : Nat) : Mem := (fun f' i' k' => if f' = g ∧ i' = j then va_cpy (fun k => M.1 f i k) (fun k => M.1 g j k) sp dp n k' else M.1 f' i' k', M.2)
-- what is fixed over the run: launch, first state, all names, classes' numbers, slots' numbers, array classes' numbers, addresses of what was there before
abbrev Gm : Type := Launch × State × List (Nat × Nat) × (Nat → ClassId) × (Nat → Nat → Nat) × (Nat → ClassId) × (Nat → Nat) × List (Nat × Nat × Nat × Nat × Nat)
abbrev gl (γ : Gm) : Launch := γ.1
abbrev gs (γ : Gm) : State := γ.2.1
abbrev gN (γ : Gm) : List (Nat × Nat) := γ.2.2.1
abbrev gC (γ : Gm) : Nat → ClassId := γ.2.2.2.1
abbrev gI (γ : Gm) : Nat → Nat → Nat := γ.2.2.2.2.1
abbrev gA (γ : Gm) : Nat → ClassId := γ.2.2.2.2.2.1
abbrev gX (γ : Gm) : Nat → Nat := γ.2.2.2.2.2.2.1
/-- the instance out of the object's own: a * i + c -/
def inst (a c i : Nat) : Nat := if a = 0 then c else if a = 1 then i + c else a * i + c
/-- fields that are final, and known: class, field, family, instance -/
abbrev gF (γ : Gm) : List (Nat × Nat × Nat × Nat × Nat) := γ.2.2.2.2.2.2.2
abbrev gb (γ : Gm) : Nat := (gs γ).heap.size
/-- the address of a name; family 0: what was there before -/
def ra (γ : Gm) (q : Nat × Nat) : Nat := if q.1 = 0 then gX γ q.2 else gb γ + (gN γ).idxOf q
def rv (γ : Gm) : AV → Value
  | .inl x => .int x
  | .inr (.inl x) => .long x
  | .inr (.inr none) => .null
  | .inr (.inr (some q)) => .ref (ra γ q)
-- families 1 .. 14: objects of the classes; 20 and more: arrays, their kind told by ka: 0 int, 1 byte, 2 boolean, 3 long, 4 and more references
def KLs : List (List Nat) := [KL_Names, KL_Words, KL_Reader, KL_Checker, KL_World, KL_Machine, KL_Line, KL_Writer, KL_Refusal, KL_Works, KL_Model, KL_MWorld, KL_Run, KL_Stop]
/-- the kind of a class's field: 0 int, 1 long, 2 a reference -/
def kd (f k : Nat) : Nat := (KLs.getD (f - 1) []).getD k 0
def TLs : List (List FieldType) := [TL_Names, TL_Words, TL_Reader, TL_Checker, TL_World, TL_Machine, TL_Line, TL_Writer, TL_Refusal, TL_Works, TL_Model, TL_MWorld, TL_Run, TL_Stop]
def tyf (f k : Nat) : FieldType := (TLs.getD (f - 1) []).getD k .int
def isZ : FieldType → Bool
  | .boolean => true
  | _ => false
def zb (f k : Nat) : Bool := isZ (tyf f k)
def ka (f : Nat) : Nat := if f < 400 then 0 else if f < 500 then 1 else if f < 600 then 2 else if f < 700 then 3 else f - 696
def fv (γ : Gm) (M : Mem) (f i k : Nat) : Value := if kd f k = 0 then .int (mI M f i k) else if kd f k = 1 then .long (mJ M f i k) else rv γ (vr (mR M f i k))
def aty : List FieldType := [.int, .byte, .boolean, .long, .object "ClassWorks$Line", .array .byte, .object "ClassWorks$World", .object "ClassWorksModel$World", .object "ClassWorksModel$Run"]
def xv (γ : Gm) (M : Mem) (f i k : Nat) : Value := if ka f < 3 then .int (mI M f i k) else if ka f = 3 then .long (mJ M f i k) else rv γ (vr (mR M f i k))
/-- nobody is in the cell's monitor -/
def Mz (a : Nat) (H : Heap) : Prop := ∀ cell : Cell, H[a]? = some cell → cell.monitor = {}
/-- the heap holds a named cell -/
def holds (γ : Gm) (M : Mem) (q : Nat × Nat) (H : Heap) : Prop :=
  if q.1 < 20 then ∃ r : vw_C, cls[q.1 - 1]? = some r ∧ t_OB (ra γ q) (gC γ (q.1 - 1)) r.2.2 (gI γ (q.1 - 1)) H (fv γ M q.1 q.2) ∧ Mz (ra γ q) H
  else H[ra γ q]? = some (arrV (gA γ (ka q.1)) (mL M q.1 q.2) (xv γ M q.1 q.2))
abbrev Aq (γ : Gm) : Nat → Prop := fun q => gb γ ≤ q
def tys (γ : Gm) : List (ClassId × FieldType) := aty.mapIdx (fun i t => (gA γ i, t))
/-- the real heap holds the memory -/
def Rl (γ : Gm) (M : Mem) (H : Heap) : Prop := (∀ q ∈ mN M, q.1 ≠ 0 ∧ holds γ M q H) ∧ H.size = gb γ + (mN M).length ∧ ∀ q, q < gb γ → H[q]? = (gs γ).heap[q]?
/-- one memory comes behind another one -/
def Le (M M' : Mem) : Prop := (∃ x, mN M' = mN M ++ x) ∧ ((mN M).Nodup → (mN M').Nodup) ∧ mS M ≤ mS M'
theorem Le.rf (M : Mem) : Le M M := ⟨⟨[], (List.append_nil _).symm⟩, id, Nat.le_refl _⟩
theorem Le.trans {M M1 M2 : Mem} (h : Le M M1) (h1 : Le M1 M2) : Le M M2 := by
  obtain ⟨⟨x, e⟩, n, s⟩ := h
  obtain ⟨⟨y, e'⟩, n', s'⟩ := h1
  exact ⟨⟨x ++ y, by rw [e', e, List.append_assoc]⟩, fun q => n' (n q), Nat.le_trans s s'⟩
theorem Le.len {M M1 : Mem} (h : Le M M1) : (mN M).length ≤ (mN M1).length := by
  obtain ⟨⟨x, e⟩, -⟩ := h
  rw [e, List.length_append]; omega
-- methods: name, code, locals, result, handlers
abbrev Kp : Type := MethodName × ByteArray × Nat × Option FieldType × List (Nat × Nat × Nat × Nat)
abbrev ky (κ : Kp) : MethodName := κ.1
abbrev kc (κ : Kp) : ByteArray := κ.2.1
abbrev kl (κ : Kp) : Nat := κ.2.2.1
abbrev kr (κ : Kp) : Option FieldType := κ.2.2.2.1
abbrev kh (κ : Kp) : List (Nat × Nat × Nat × Nat) := κ.2.2.2.2
/-- what a method's body may lean on -/
def Cx (γ : Gm) (κ : Kp) (p : Program) (s : State) (m : MethodId) (args : Array Value) (meth : Method) (c : Code) : Prop :=
  p.tables.exec = Jvm.exec ∧ c.code = kc κ ∧ c.maxLocals = kl κ ∧ s.vm.findClass (ky κ).cls = some m.cls ∧ (∀ w ∈ tables_1, gword w = true → w.before args s = true) ∧ meth.locks = false ∧ meth.sig.returnType = kr κ ∧ meth.name = (ky κ).name ∧
    c.exceptionTable.toList.map (fun h => (h.startPc, h.endPc, h.handlerPc, h.catchType)) = kh κ ∧ (gs γ).WarmedH s.vm
-- references that are there
def vok (M : Mem) : AV → Prop
  | .inr (.inr (some q)) => q.1 = 0 ∨ q ∈ mN M
  | _ => True
def vls (M : Mem) (lv : List (Option AV)) (st : List AV) : Prop := (∀ v ∈ st, vok M v) ∧ ∀ v, some v ∈ lv → vok M v
/-- what references hold is there; bytes and booleans are -/
def Cl (M : Mem) : Prop := ∀ q ∈ mN M, (∀ k, vok M (vr (mR M q.1 q.2 k))) ∧ (ka q.1 = 1 → ∀ k, fits .byte (.int (mI M q.1 q.2 k)) = true) ∧ (ka q.1 = 2 → ∀ k, fits .boolean (.int (mI M q.1 q.2 k)) = true)
def Lay (γ : Gm) (M : Mem) : Prop := ∀ x ∈ gF γ, ∀ i, (x.1, i) ∈ mN M → mR M x.1 i x.2.1 = some (x.2.2.1, inst x.2.2.2.1 x.2.2.2.2 i)
/-- the world at a place of a method's body -/
def Wd (γ : Gm) (M : Mem) (s : State) (H : Heap) (locs : List Loc) : Prop := Rl γ M H ∧ va_K (gC γ, gI γ) cls (tys γ) s ∧ gb γ ≤ s.heap.size ∧ (∀ q ∈ locs, Aq γ q.base) ∧ Cl M ∧ Lay γ M
-- locals: a place each, none where nothing is known
def lvl (γ : Gm) (lv : List (Option AV)) : List (Nat × Value) := (lv.mapIdx (fun i v => v.map (fun a => (i, rv γ a)))).filterMap id
theorem mem_lvl {γ : Gm} {lv : List (Option AV)} {i : Nat} {x : Value} : (i, x) ∈ lvl γ lv ↔ ∃ a, lv[i]? = some (some a) ∧ x = rv γ a := by
  unfold lvl
  simp only [List.mem_filterMap, List.mem_mapIdx, id]
  constructor
  · rintro ⟨_, ⟨j, hj, rfl⟩, h⟩
    cases ho : lv[j] with
    | none => rw [ho] at h; simp at h
    | some a =>
      rw [ho] at h
      simp only [Option.map_some, Option.some.injEq, Prod.mk.injEq] at h
      obtain ⟨rfl, rfl⟩ := h
      exact ⟨a, by rw [List.getElem?_eq_getElem hj, ho], rfl⟩
  · rintro ⟨a, h, rfl⟩
    obtain ⟨hj, e⟩ := List.getElem?_eq_some_iff.mp h
    exact ⟨some (i, rv γ a), ⟨i, hj, by rw [e]; rfl⟩, rfl⟩
-- outcomes: none for void; thrown: the reference
abbrev Out : Type := Option AV ⊕ (Nat × Nat)
def ro (γ : Gm) : Out → Outcome
  | .inl v => .returned (v.map (rv γ))
  | .inr q => .threw (ra γ q)
def ook (M : Mem) : Out → Prop
  | .inl (some v) => vok M v
  | .inl none => True
  | .inr q => q ∈ mN M
def Zq (γ : Gm) (s : State) (below : List Frame) (out : Out) (M' : Mem) (k n : Nat) : State → Prop := fun t =>
  t.status = .running ∧ Ended t below (ro γ out) ∧ s.WarmedH t.vm ∧ (∃ L, s.sameButNew ({ t with vm := s.vm } : State) L k n ∧ ∀ q ∈ L, Aq γ q.base) ∧ Rl γ M' t.heap ∧ Cl M' ∧ Lay γ M' ∧ ook M' out
def J (γ : Gm) (κ : Kp) (d pc : Nat) (lv : List (Option AV)) (st : List AV) (M : Mem) (out : Out) (M' : Mem) : Prop :=
  Le M M' ∧ ∀ (p : Program) (e : Env) (R : Room) (s : State) (m : MethodId) (args : Array Value) (below : List Frame) (meth : Method) (c : Code) (H : Heap) (locs : List Loc) (cells slots : Nat) (ls : Array Slot),
    Cx γ κ p s m args meth c → Wd γ M s H locs → lv_has ls (kl κ) (lvl γ lv) → vls M lv st → (∃ x, gN γ = mN M' ++ x) → (gN γ).Nodup → d ≤ R.frames → 100 * d ≤ R.locals → cells + ((mN M').length - (mN M).length) ≤ R.cells → slots + (mS M' - mS M) ≤ R.slots →
      W p (gl γ) e R s m args below meth c H locs cells slots (Zq γ s below out M' (cells + ((mN M').length - (mN M).length)) (slots + (mS M' - mS M))) (F0 m pc ls (st.map (rv γ)))
/-- a step that moves the operand stack alone -/
theorem J.pure {γ : Gm} {κ : Kp} {d pc pc' : Nat} {lv : List (Option AV)} {st st' : List AV} {M M' : Mem} {out : Out} (hv : Cl M → Lay γ M → vls M lv st → ∀ v ∈ st', vok M v)
    (hs : ∀ (p : Program) (e : Env) (R : Room) (s : State) (m : MethodId) (args : Array Value) (below : List Frame) (meth : Method) (c : Code) (H : Heap) (locs : List Loc) (cells slots : Nat) (ls : Array Slot) (Q : State → Prop),
      Cx γ κ p s m args meth c → Wd γ M s H locs → lv_has ls (kl κ) (lvl γ lv) → vls M lv st → W p (gl γ) e R s m args below meth c H locs cells slots Q (F0 m pc' ls (st'.map (rv γ))) → W p (gl γ) e R s m args below meth c H locs cells slots Q (F0 m pc ls (st.map (rv γ))))
    (h : J γ κ d pc' lv st' M out M') : J γ κ d pc lv st M out M' :=
  ⟨h.1, fun p e R s m args below meth c H locs cells slots ls a1 a2 a3 a4 a5 a6 a7 a8 a9 a10 =>
    hs p e R s m args below meth c H locs cells slots ls _ a1 a2 a3 a4 (h.2 p e R s m args below meth c H locs cells slots ls a1 a2 a3 ⟨hv a2.2.2.2.2.1 a2.2.2.2.2.2 a4, a4.2⟩ a5 a6 a7 a8 a9 a10)⟩
theorem vok_i (M : Mem) (x : Int32) : vok M (vi x) := trivial
theorem vok_l (M : Mem) (x : Int64) : vok M (vl x) := trivial
theorem vls_loc {M : Mem} {lv : List (Option AV)} {st : List AV} (h : vls M lv st) {n : Nat} {v : AV} (e : lv[n]? = some (some v)) : vok M v := h.2 v (List.mem_of_getElem? e)
-- stores into locals
def isL : Option (Option AV) → Bool
  | some (some (.inr (.inl _))) => true
  | _ => false
def pre1 (lv : List (Option AV)) (n : Nat) : List (Option AV) := match n with
  | 0 => lv
  | k + 1 => if isL lv[k]? = true then lv.set k none else lv
def st1 (lv : List (Option AV)) (n : Nat) (v : AV) : List (Option AV) := (pre1 lv n).set n (some v)
def st2 (lv : List (Option AV)) (n : Nat) (v : AV) : List (Option AV) := ((pre1 lv n).set n (some v)).set (n + 1) none
theorem pre1_get {lv : List (Option AV)} {n i : Nat} {a : AV} (h : (pre1 lv n)[i]? = some (some a)) : lv[i]? = some (some a) ∧ (i + 1 = n → isL (some (some a)) = false) := by
  cases n with
  | zero => exact ⟨h, fun e => by omega⟩
  | succ k =>
    simp only [pre1] at h
    by_cases hL : isL lv[k]? = true
    · rw [if_pos hL, List.getElem?_set] at h
      split at h
      · split at h <;> simp at h
      · exact ⟨h, fun e => by omega⟩
    · rw [if_neg hL] at h
      refine ⟨h, fun e => ?_⟩
      have : i = k := by omega
      subst this
      rw [h] at hL
      simpa using hL
theorem cat_isL {γ : Gm} {a : AV} (h : isL (some (some a)) = false) : (rv γ a).category = 1 := by
  match a, h with
  | .inl _, _ => rfl
  | .inr (.inl _), h => cases h
  | .inr (.inr none), _ => rfl
  | .inr (.inr (some _)), _ => rfl
theorem lv_more {ls : Array Slot} {n : Nat} {l l' : List (Nat × Value)} (h : lv_has ls n l) (hs : ∀ q ∈ l', q ∈ l) : lv_has ls n l' := ⟨h.1, h.2.1, fun q hq => h.2.2 q (hs q hq)⟩
theorem st1_lvl {γ : Gm} {lv : List (Option AV)} {n : Nat} {v : AV} : ∀ q ∈ lvl γ (st1 lv n v), q ∈ (n, rv γ v) :: (lvl γ lv).filter (fun q => !(q.1 == n) && !(q.1 + 1 == n && q.2.category == 2)) := by
  rintro ⟨i, x⟩ hq
  obtain ⟨a, h, rfl⟩ := mem_lvl.mp hq
  unfold st1 at h
  rw [List.getElem?_set] at h
  split at h
  · rename_i e
    split at h
    · simp only [Option.some.injEq] at h
      subst h; subst e
      exact List.mem_cons_self
    · simp at h
  · rename_i e
    obtain ⟨h1, h2⟩ := pre1_get h
    refine List.mem_cons_of_mem _ (List.mem_filter.mpr ⟨mem_lvl.mpr ⟨a, h1, rfl⟩, ?_⟩)
    simp only [Bool.and_eq_true, Bool.not_eq_true', beq_eq_false_iff_ne, ne_eq, Bool.and_eq_false_iff]
    refine ⟨fun q => e q.symm, ?_⟩
    by_cases h3 : i + 1 = n
    · exact Or.inr (by rw [cat_isL (h2 h3)]; decide)
    · exact Or.inl h3
theorem st2_lvl {γ : Gm} {lv : List (Option AV)} {n : Nat} {v : AV} : ∀ q ∈ lvl γ (st2 lv n v), q ∈ (n, rv γ v) :: (lvl γ lv).filter (fun q => !(q.1 == n) && (!(q.1 == n + 1) && !(q.1 + 1 == n && q.2.category == 2))) := by
  rintro ⟨i, x⟩ hq
  obtain ⟨a, h, rfl⟩ := mem_lvl.mp hq
  unfold st2 at h
  rw [List.getElem?_set] at h
  split at h
  · split at h <;> simp at h
  · rename_i e0
    have h' := st1_lvl (γ := γ) (i, rv γ a) (mem_lvl.mpr ⟨a, h, rfl⟩)
    rcases List.mem_cons.mp h' with h1 | h1
    · rw [h1]; exact List.mem_cons_self
    · obtain ⟨h2, h3⟩ := List.mem_filter.mp h1
      refine List.mem_cons_of_mem _ (List.mem_filter.mpr ⟨h2, ?_⟩)
      simp only [Bool.and_eq_true, Bool.not_eq_true', beq_eq_false_iff_ne, ne_eq] at h3 ⊢
      exact ⟨h3.1, fun q => e0 q.symm, h3.2⟩
theorem st1_some {lv : List (Option AV)} {n : Nat} {v w : AV} (h : some w ∈ st1 lv n v) : w = v ∨ some w ∈ lv := by
  obtain ⟨i, hi⟩ := List.getElem?_of_mem h
  unfold st1 at hi
  rw [List.getElem?_set] at hi
  split at hi
  · split at hi
    · simp only [Option.some.injEq] at hi
      exact Or.inl hi.symm
    · simp at hi
  · exact Or.inr (List.mem_of_getElem? (pre1_get hi).1)
theorem st2_some {lv : List (Option AV)} {n : Nat} {v w : AV} (h : some w ∈ st2 lv n v) : w = v ∨ some w ∈ lv := by
  obtain ⟨i, hi⟩ := List.getElem?_of_mem h
  unfold st2 at hi
  rw [List.getElem?_set] at hi
  split at hi
  · split at hi <;> simp at hi
  · exact st1_some (List.mem_of_getElem? hi)
/-- a step that moves a local too -/
theorem J.loc {γ : Gm} {κ : Kp} {d pc pc' : Nat} {lv lv' : List (Option AV)} {st st' : List AV} {M M' : Mem} {out : Out} (hv : Cl M → Lay γ M → vls M lv st → vls M lv' st')
    (hs : ∀ (p : Program) (e : Env) (R : Room) (s : State) (m : MethodId) (args : Array Value) (below : List Frame) (meth : Method) (c : Code) (H : Heap) (locs : List Loc) (cells slots : Nat) (ls : Array Slot) (Q : State → Prop),
      Cx γ κ p s m args meth c → Wd γ M s H locs → lv_has ls (kl κ) (lvl γ lv) → vls M lv st → (∀ ls', lv_has ls' (kl κ) (lvl γ lv') → W p (gl γ) e R s m args below meth c H locs cells slots Q (F0 m pc' ls' (st'.map (rv γ)))) → W p (gl γ) e R s m args below meth c H locs cells slots Q (F0 m pc ls (st.map (rv γ))))
    (h : J γ κ d pc' lv' st' M out M') : J γ κ d pc lv st M out M' :=
  ⟨h.1, fun p e R s m args below meth c H locs cells slots ls a1 a2 a3 a4 a5 a6 a7 a8 a9 a10 =>
    hs p e R s m args below meth c H locs cells slots ls _ a1 a2 a3 a4 (fun ls' hl => h.2 p e R s m args below meth c H locs cells slots ls' a1 a2 hl (hv a2.2.2.2.2.1 a2.2.2.2.2.2 a4) a5 a6 a7 a8 a9 a10)⟩
