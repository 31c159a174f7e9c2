/-- the locals at a method's entry -/
def entL : List AV → List (Option AV)
  | [] => []
  | .inr (.inl x) :: l => some (vl x) :: none :: entL l
  | .inl x :: l => some (vi x) :: entL l
  | .inr (.inr x) :: l => some (vr x) :: entL l
def ent (n : Nat) (As : List AV) : List (Option AV) := entL As ++ List.replicate (n - (entL As).length) none
theorem entL_args {γ : Gm} : ∀ (As : List AV) (b i : Nat) (a : AV), (entL As)[i]? = some (some a) → (b + i, rv γ a) ∈ lv_args b (As.map (rv γ))
  | [], _, i, a, h => by simp [entL] at h
  | .inl x :: l, b, i, a, h => by
    cases i with
    | zero => simp [entL] at h; subst h; exact List.mem_cons_self
    | succ i =>
      simp only [entL, List.getElem?_cons_succ] at h
      have := entL_args (γ := γ) l (b + 1) i a h
      rw [show b + (i + 1) = b + 1 + i by omega]
      exact List.mem_cons_of_mem _ this
  | .inr (.inr x) :: l, b, i, a, h => by
    have hc : (rv γ (.inr (.inr x))).category = 1 := by cases x <;> rfl
    cases i with
    | zero => simp [entL] at h; subst h; exact List.mem_cons_self
    | succ i =>
      simp only [entL, List.getElem?_cons_succ] at h
      have := entL_args (γ := γ) l (b + 1) i a h
      rw [show b + (i + 1) = b + 1 + i by omega]
      refine List.mem_cons_of_mem _ ?_
      rw [if_neg (by rw [hc]; decide)]
      exact this
  | .inr (.inl x) :: l, b, i, a, h => by
    match i, h with
    | 0, h => simp [entL] at h; subst h; exact List.mem_cons_self
    | 1, h => simp [entL] at h
    | i + 2, h =>
      simp only [entL, List.getElem?_cons_succ] at h
      have := entL_args (γ := γ) l (b + 2) i a h
      rw [show b + (i + 2) = b + 2 + i by omega]
      exact List.mem_cons_of_mem _ this
theorem ent_get {n : Nat} {As : List AV} {i : Nat} {a : AV} (h : (ent n As)[i]? = some (some a)) : (entL As)[i]? = some (some a) := by
  unfold ent at h
  by_cases hi : i < (entL As).length
  · rw [List.getElem?_append_left hi] at h; exact h
  · rw [List.getElem?_append_right (by omega), List.getElem?_replicate] at h
    split at h <;> simp at h
theorem entL_mem : ∀ {As : List AV} {a : AV}, some a ∈ entL As → a ∈ As
  | [], a, h => by simp [entL] at h
  | .inl x :: l, a, h => by
    simp only [entL, List.mem_cons, Option.some.injEq] at h
    rcases h with rfl | h
    · exact List.mem_cons_self
    · exact List.mem_cons_of_mem _ (entL_mem h)
  | .inr (.inr x) :: l, a, h => by
    simp only [entL, List.mem_cons, Option.some.injEq] at h
    rcases h with rfl | h
    · exact List.mem_cons_self
    · exact List.mem_cons_of_mem _ (entL_mem h)
  | .inr (.inl x) :: l, a, h => by
    simp only [entL, List.mem_cons, Option.some.injEq] at h
    rcases h with rfl | h | h
    · exact List.mem_cons_self
    · cases h
    · exact List.mem_cons_of_mem _ (entL_mem h)
theorem ent_mem {n : Nat} {As : List AV} {a : AV} (h : some a ∈ ent n As) : a ∈ As := by
  obtain ⟨i, hi⟩ := List.getElem?_of_mem h
  exact entL_mem (List.mem_of_getElem? (ent_get hi))
theorem slL {γ : Gm} : ∀ As : List AV, (lg_sl (As.map (rv γ))).length = (entL As).length
  | [] => rfl
  | .inl x :: l => by
    have := slL (γ := γ) l
    simp [lg_sl, entL, rv, Value.category] at this ⊢; exact this
  | .inr (.inr none) :: l => by
    have := slL (γ := γ) l
    simp [lg_sl, entL, rv, Value.category] at this ⊢; exact this
  | .inr (.inr (some q)) :: l => by
    have := slL (γ := γ) l
    simp [lg_sl, entL, rv, Value.category] at this ⊢; exact this
  | .inr (.inl x) :: l => by
    have := slL (γ := γ) l
    simp [lg_sl, entL, rv, Value.category] at this ⊢; omega
section Calls
variable {γ : Gm} {κ κ' : Kp} {d pc : Nat} {lv : List (Option AV)} {st : List AV} {M M1 M' : Mem} {out o : Out}
variable {p : Program} {e : Env} {R : Room} {s : State} {m : MethodId} {args : Array Value} {below : List Frame} {meth : Method} {c : Code} {T : State} {locs : List Loc} {cells slots : Nat}
theorem call_core (X : Stand p (gl γ) e R s m args below meth c T locs cells slots) (hx : p.tables.exec = Jvm.exec) (hts : ∀ w ∈ tables_1, gword w = true → w.before args s = true) (hwm : (gs γ).WarmedH s.vm) (hWd : Wd γ M s T.heap locs)
    {g : JFrame} (hg : g.method = m) (hsize : g.locals.size = c.maxLocals) {ig : Instr} {len : Nat} (hdg : decode c.code g.pc = .ok (ig, len))
    (hcode : (Cond.codeWith (ky κ') (kc κ') (kl κ') (kr κ') (kh κ')).before args s = true) (hpl : plainFor (ky κ') = true) {mk : MethodId} (hnamed : s.methodNamed? (ky κ') = some mk) {As : List AV}
    (hJ : J γ κ' d 0 (ent (kl κ') As) [] M o M1) (hval : ∀ v ∈ As, vok M v) (hlen : (entL As).length ≤ kl κ') (hpx : ∃ x, gN γ = mN M1 ++ x) (hnd : (gN γ).Nodup)
    (hfr : d + 1 ≤ R.frames) (hlo : 2 * g.monitorRoom + (g.stack.map fun v => v.category).sum + (kl κ' + 11) + 100 * d ≤ R.locals) (hce : cells + ((mN M1).length - (mN M).length) ≤ R.cells) (hsl : slots + (mS M1 - mS M) ≤ R.slots) :
    ∃ (T' : State) (L : List Loc), Stand p (gl γ) e R s m args below meth c T' (locs ++ L) (cells + ((mN M1).length - (mN M).length)) (slots + (mS M1 - mS M)) ∧ Wd γ M1 s T'.heap (locs ++ L) ∧ ook M1 o ∧
      (∀ v, o = .inl v → ∀ acts, Steps p.tables e below (doInvoke e (T.setTop g) acts mk (As.map (rv γ)).toArray).1 (T'.setTop { g with pc := g.pc + len, stack := (v.map (rv γ)).toList ++ g.stack })) ∧
      (∀ q, o = .inr q → ∀ acts, Steps p.tables e below (doInvoke e (T.setTop g) acts mk (As.map (rv γ)).toArray).1 ((T'.setTop g).pushFrame (.throwing (ra γ q)))) := by
  obtain ⟨m9, methk, ck, hn9, hmk, hck, hby, hml, hex, hret, hlk, hsig⟩ := Cond.codeWith_spec hcode
  cases hnamed.symm.trans hn9
  obtain ⟨c1, c2, c3, c4, c5, c6⟩ := hWd
  have hmk' : T.vm.method? mk = some methk := by rw [X.warmed.alike.method?]; exact hmk
  have hpk : T.plainMethod mk := State.plainMethod.of_named hpl (X.named hnamed) hmk'
  obtain ⟨Y₀, hin⟩ := X.into hg hsize hdg (As.map (rv γ)).toArray (R' := { frames := d, cells := (mN M1).length - (mN M).length, slots := mS M1 - mS M, locals := 100 * d }) hmk' hck hlk hpk hfr (by rw [hml]; exact hlo) hce hsl
  generalize hU : (T.setTop g).pushFrame (.java (entryFrame mk (As.map (rv γ)).toArray ck.maxLocals)) = U at Y₀ hin
  have hUh : U.heap = T.heap := by rw [← hU]; rfl
  have hsv : (T.calling g mk (As.map (rv γ)).toArray).vm = T.vm := rfl
  have hsh : (T.calling g mk (As.map (rv γ)).toArray).heap = T.heap := rfl
  have hCx : Cx γ κ' p (T.calling g mk (As.map (rv γ)).toArray) mk (As.map (rv γ)).toArray methk ck := by
    refine ⟨hx, hby, hml, ?_, fun w hw hgw => gword_at (s := s) (U := T.calling g mk (As.map (rv γ)).toArray) X.warmed hgw (hts w hw hgw), hlk, hret, (name_of_methodNamed hnamed hmk).1, hex, State.WarmedH.trans hwm X.warmed⟩
    rw [hsv, X.warmed.alike.findClass]; exact findClass_of_methodNamed hnamed
  have hW9 : Wd γ M (T.calling g mk (As.map (rv γ)).toArray) T.heap [] := ⟨c1, va_K.moved X.warmed.alike c2, by rw [hsh, c1.2.1]; omega, fun q h => (by cases h), c5, c6⟩
  have hle := slL (γ := γ) As
  have hl := lv_entry (As.map (rv γ)) (n := kl κ') (by rw [hle]; exact hlen)
  have key := hJ.2 p e ({ frames := d, cells := (mN M1).length - (mN M).length, slots := mS M1 - mS M, locals := 100 * d }) _ mk (As.map (rv γ)).toArray (.java g :: below) methk ck T.heap [] 0 0 _ hCx hW9 (lv_more hl (fun q hq => by
    obtain ⟨i, x⟩ := q
    obtain ⟨a, h1, rfl⟩ := mem_lvl.mp hq
    have := entL_args (γ := γ) As 0 i a (ent_get h1)
    rw [Nat.zero_add] at this; exact this)) ⟨fun v h => (by cases h), fun v hv => hval v (ent_mem hv)⟩ hpx hnd (Nat.le_refl _) (Nat.le_refl _) (by rw [Nat.zero_add]; exact Nat.le_refl _) (by rw [Nat.zero_add]; exact Nat.le_refl _)
  obtain ⟨t, hst, hrun, hended, hWe, ⟨L, hsame, hL⟩, hRl, hCl, hLy, hok⟩ := key U hUh Y₀
  rw [Nat.zero_add, Nat.zero_add] at hsame
  have hst' : ∀ acts, Steps p.tables e below (doInvoke e (T.setTop g) acts mk (As.map (rv γ)).toArray).1 t := fun acts => by
    rw [hin acts]
    refine Steps.weaken (mid := [.java g]) ?_
    rw [hml, lg_entry_eq]
    exact hst
  have hloc : ∀ q ∈ locs ++ L, Aq γ q.base := fun q hq => by
    rcases List.mem_append.mp hq with h | h
    · exact c4 q h
    · exact hL q h
  cases o with
  | inl v =>
    obtain ⟨T', X', hW', -, ht⟩ := X.outOf hg hdg hended hWe hsame
    have hh : T'.heap = t.heap := by rw [ht]; rfl
    refine ⟨T', L, X', ⟨by rw [hh]; exact hRl, c2, c3, hloc, hCl, hLy⟩, hok, fun v' e' acts => ?_, fun q e' => by cases e'⟩
    cases e'
    rw [← ht]; exact hst' acts
  | inr q =>
    obtain ⟨T', X', hW', -, ht⟩ := X.outOfThrown hg hended hWe hsame
    have hh : T'.heap = t.heap := by rw [ht]; rfl
    refine ⟨T', L, X', ⟨by rw [hh]; exact hRl, c2, c3, hloc, hCl, hLy⟩, hok, fun v' e' => (by cases e'), fun q' e' acts => ?_⟩
    cases e'
    rw [← ht]; exact hst' acts
end Calls
def codeIn (κ : Kp) : Prop := (kh κ = [] ∧ Cond.code (ky κ) (kc κ) (kl κ) (kr κ) ∈ tables_1) ∨ Cond.codeWith (ky κ) (kc κ) (kl κ) (kr κ) (kh κ) ∈ tables_1
section Calls2
variable {γ : Gm} {κ κ' : Kp} {d pc : Nat} {lv : List (Option AV)} {st stk : List AV} {M M1 M' : Mem} {out o : Out}
theorem code_at {args : Array Value} {s : State} (hts : ∀ w ∈ tables_1, gword w = true → w.before args s = true) (h : codeIn κ') : (Cond.codeWith (ky κ') (kc κ') (kl κ') (kr κ') (kh κ')).before args s = true := by
  rcases h with ⟨e, h⟩ | h
  · have h1 := hts _ h rfl
    rw [e]
    unfold Cond.before Cond.holds at h1 ⊢
    rw [← Cond.code_iff_codeWith_nil]; exact h1
  · exact hts _ h rfl
theorem cat_sum {γ : Gm} : ∀ st : List AV, ((st.map (rv γ)).map fun v => v.category).sum ≤ 2 * st.length
  | [] => Nat.zero_le _
  | v :: l => by
    have h1 := cat_sum (γ := γ) l
    have h2 : (rv γ v).category ≤ 2 := by rcases lv_cat (rv γ v) with h | h <;> omega
    simp only [List.map_cons, List.sum_cons, List.length_cons]
    omega
/-- how a call's instruction comes to its callee -/
def Front (γ : Gm) (κ κ' : Kp) (pc : Nat) (lv : List (Option AV)) (stk st Bs : List AV) (M : Mem) : Prop :=
  ∀ (p : Program) (e : Env) (R : Room) (s : State) (m : MethodId) (args : Array Value) (below : List Frame) (meth : Method) (c : Code) (locs : List Loc) (cells slots : Nat) (ls : Array Slot) (T : State),
    Cx γ κ p s m args meth c → Wd γ M s T.heap locs → lv_has ls (kl κ) (lvl γ lv) → vls M lv stk → Stand p (gl γ) e R s m args below meth c T locs cells slots →
    ∃ (vm₁ : Vm) (mk : MethodId), Stand p (gl γ) e R s m args below meth c (T.setVm vm₁) locs cells slots ∧ s.methodNamed? (ky κ') = some mk ∧
      ∀ target, (∀ acts, Steps p.tables e below (doInvoke e ((T.setVm vm₁).setTop (F0 m pc ls (st.map (rv γ)))) acts mk (Bs.map (rv γ)).toArray).1 target) → Steps p.tables e below (T.setTop (F0 m pc ls (stk.map (rv γ)))) target
theorem J_call {Bs : List AV} {v : Option AV} {ig : Instr} (front : Front γ κ κ' pc lv stk st Bs M) (hdg : decode (kc κ) pc = .ok (ig, 3)) (hco : codeIn κ') (hpl : plainFor (ky κ') = true) (hB : ∀ v ∈ Bs, v ∈ stk) (hS : ∀ v ∈ st, v ∈ stk) (hlen : (entL Bs).length ≤ kl κ') (hkl : kl κ' ≤ 40) (hst : st.length ≤ 15)
    (hJ : J γ κ' d 0 (ent (kl κ') Bs) [] M (.inl v) M1) (h : J γ κ (d + 1) (pc + 3) lv (v.toList ++ st) M1 out M') : J γ κ (d + 1) pc lv stk M out M' := by
  have hle := hJ.1.trans h.1
  have l1 := hJ.1.len
  have l2 := h.1.len
  have z1 := hJ.1.2.2
  have z2 := h.1.2.2
  refine ⟨hle, fun p e R s m args below meth c H locs cells slots ls a1 a2 a3 a4 a5 a6 a7 a8 a9 a10 => ?_⟩
  intro T hT X
  subst hT
  obtain ⟨vm₁, mk, X₁, hnamed, hstep⟩ := front p e R s m args below meth c locs cells slots ls T a1 a2 a3 a4 X
  obtain ⟨b1, b2, b3, b4, b5, b6, b7, b8, b9, b10⟩ := id a1
  have hpx : ∃ x, gN γ = mN M1 ++ x := by
    obtain ⟨x, e1⟩ := a5
    obtain ⟨⟨y, e2⟩, -⟩ := h.1
    exact ⟨y ++ x, by rw [e1, e2, List.append_assoc]⟩
  obtain ⟨T', L, X', hW', hok, hret, -⟩ := call_core (T := T.setVm vm₁) (g := F0 m pc ls (st.map (rv γ))) X₁ b1 b5 b10 a2 rfl (by rw [b3]; exact a3.1) (by rw [b2]; exact hdg) (code_at b5 hco) hpl hnamed hJ (fun v hv => a4.1 v (hB v hv)) hlen hpx a6 a7 (by
    have := cat_sum (γ := γ) st
    have e0 : (F0 m pc ls (st.map (rv γ))).monitorRoom = 0 := rfl
    rw [e0]
    show 2 * 0 + ((st.map (rv γ)).map fun v => v.category).sum + (kl κ' + 11) + 100 * d ≤ R.locals
    omega) (by omega) (by omega)
  have hmem : ∀ q, q ∈ mN M → q ∈ mN M1 := fun q hq => by
    obtain ⟨⟨y, e2⟩, -⟩ := hJ.1
    rw [e2]; exact List.mem_append_left _ hq
  have hvok : ∀ w, vok M w → vok M1 w := fun w hw => by
    unfold vok at hw ⊢
    split
    · rcases hw with q | q
      · exact Or.inl q
      · exact Or.inr (hmem _ q)
    · trivial
  have k2 := h.2 p e R s m args below meth c T'.heap (locs ++ L) (cells + ((mN M1).length - (mN M).length)) (slots + (mS M1 - mS M)) ls a1 hW' a3 ⟨fun w hw => ?_, fun w hw => hvok w (a4.2 w hw)⟩ a5 a6 a7 a8 (by omega) (by omega)
  · rw [show cells + ((mN M1).length - (mN M).length) + ((mN M').length - (mN M1).length) = cells + ((mN M').length - (mN M).length) by omega, show slots + (mS M1 - mS M) + (mS M' - mS M1) = slots + (mS M' - mS M) by omega] at k2
    obtain ⟨t, s1, s2⟩ := k2 T' rfl X'
    refine ⟨t, hstep t fun acts => (hret v rfl acts).trans ?_, s2⟩
    have e3 : (v.map (rv γ)).toList ++ (F0 m pc ls (st.map (rv γ))).stack = (v.toList ++ st).map (rv γ) := by cases v <;> simp
    rw [e3]
    exact s1
  · cases v with
    | none => exact hvok w (a4.1 w (hS w hw))
    | some v =>
      rcases List.mem_cons.mp hw with rfl | hw
      · exact hok
      · exact hvok w (a4.1 w (hS w hw))
/-- what the tables say of a method that is called by a reference -/
def MV (κ : Kp) (f n : Nat) : Prop := (∃ r : vw_C, cls[f - 1]? = some r ∧ r.1 = (ky κ).cls) ∧ 1 ≤ f ∧ Cond.instanceMethod (ky κ) ∈ tables_1 ∧ (Cond.selects (ky κ).cls (ky κ) (ky κ) ∈ tables_1 ∨ (Cond.privateMethod (ky κ) ∈ tables_1 ∧ ∃ k, Cond.instantiable (ky κ).cls k ∈ tables_1)) ∧ codeIn κ ∧
  ((ky κ).cls ≠ "java/lang/invoke/MethodHandle" ∧ (ky κ).cls ≠ "java/lang/invoke/VarHandle") ∧ plainFor (ky κ) = true ∧ (parseMethodDescriptor (ky κ).desc).map (fun d => d.parameters.length) = some n ∧ kl κ ≤ 40
def MSt (κ : Kp) (n : Nat) : Prop := Cond.static (ky κ) ∈ tables_1 ∧ Cond.initialized (ky κ).cls ∈ tables_1 ∧ codeIn κ ∧ ((ky κ).cls ≠ "java/lang/invoke/MethodHandle" ∧ (ky κ).cls ≠ "java/lang/invoke/VarHandle") ∧ plainFor (ky κ) = true ∧ (parseMethodDescriptor (ky κ).desc).map (fun d => d.parameters.length) = some n ∧ kl κ ≤ 40
def lnk (own : String) (idx : Nat) (y : MethodName) : Prop := Cond.methodLink own idx y ∈ tables_1 ∨ ∃ host, Cond.methodLinkNest own idx y host ∈ tables_1
theorem front_V {f i n idx : Nat} {As : List AV} (hm : MV κ' f n) (hl : lnk (ky κ).cls idx (ky κ')) (hn : As.length = n) (hdg : decode (kc κ) pc = .ok (.invokevirtual idx, 3)) : Front γ κ κ' pc lv (As.reverse ++ vr (some (f, i)) :: st) st (vr (some (f, i)) :: As) M := by
  intro p e R s m args below meth c locs cells slots ls T a1 a2 a3 a4 X
  obtain ⟨⟨r, h1, h2⟩, h3, h4, h5, h6, hy, h7, h8, h9⟩ := hm
  obtain ⟨b1, b2, b3, b4, b5, b6, b7, b8, b9, b10⟩ := id a1
  obtain ⟨c1, c2, c3, c4, c5, c6⟩ := a2
  have hin := b5 _ h4 rfl
  have hi : (f, i) ∈ mN M := by
    rcases a4.1 (vr (some (f, i))) (List.mem_append_right _ List.mem_cons_self) with x | x
    · dsimp only at x; omega
    · exact x
  obtain ⟨-, hh⟩ := c1.1 _ hi
  unfold holds at hh
  rw [if_pos (cls_lt h1 h3)] at hh
  obtain ⟨r', e1, hOB⟩ := hh
  have hr : r' = r := Option.some.inj (e1.symm.trans h1)
  subst hr
  obtain ⟨⟨cell, q1, q2, q3, -⟩, -⟩ := hOB
  have hfc : s.vm.findClass (ky κ').cls = some cell.cls := by rw [← h2, q2]; exact (c2.1 (f - 1) _ h1).2.1
  have hsel : (Cond.selects (ky κ').cls (ky κ') (ky κ')).before args s = true := by
    rcases h5 with h5 | ⟨h5, k, h5'⟩
    · exact b5 _ h5 rfl
    · exact k2_selects_private hy (b5 _ h5' rfl) (b5 _ h5 rfl) hin
  obtain ⟨mk, methM, hnamed, hmethM, hstM, habM⟩ := Cond.instanceMethod_spec hin
  obtain ⟨m9, methM', cM, hn9, hmethM', -, -, -, -, -, -, hsigM⟩ := Cond.codeWith_spec (code_at b5 h6)
  cases hnamed.symm.trans hn9
  cases hmethM.symm.trans hmethM'
  obtain ⟨c2', r2, m2, z1, z2, z3, z4, kP, hkP, hkPi⟩ := Cond.selects_spec hsel
  cases hfc.symm.trans z1
  cases (State.methodFound?_of_named hnamed hy).symm.trans z2
  cases hnamed.symm.trans z3
  have hselP : selectMethod e.platform s.vm cell.cls mk = .method mk := by rw [Launch.admits_selectMethod X.admits]; exact z4
  have hlen : (As.map (rv γ)).length = methM.sig.parameters.length := by
    rw [hsigM] at h8
    simp only [Option.map_some, Option.some.injEq] at h8
    rw [List.length_map, hn, h8]
  have hstack : (F0 m pc ls ((As.reverse ++ vr (some (f, i)) :: st).map (rv γ))).stack = (As.map (rv γ)).reverse ++ .ref (ra γ (f, i)) :: st.map (rv γ) := by
    show (As.reverse ++ vr (some (f, i)) :: st).map (rv γ) = _
    simp [rv]
  have hobj : ∀ z, cell.vm ≠ .statics z := fun z h => by rw [q3] at h; cases h
  rcases hl with hl | ⟨host, hl⟩
  · obtain ⟨vm₁, X₁, hstep₁⟩ := X.invokevirtual b1 b4 (b5 _ hl rfl) hnamed hmethM hstM hkP hkPi hy (a := ra γ (f, i)) (cell := cell) q1 hobj hselP hmethM habM hkP hkPi (g := F0 m pc ls ((As.reverse ++ vr (some (f, i)) :: st).map (rv γ))) rfl hlen hstack (by rw [b2]; exact hdg)
    exact ⟨vm₁, mk, X₁, hnamed, hstep₁⟩
  · obtain ⟨vm₁, X₁, hstep₁⟩ := X.invokevirtualNest b1 b4 (b5 _ hl rfl) hnamed hmethM hstM hkP hkPi hy (a := ra γ (f, i)) (cell := cell) q1 hobj hselP hmethM habM hkP hkPi (g := F0 m pc ls ((As.reverse ++ vr (some (f, i)) :: st).map (rv γ))) rfl hlen hstack (by rw [b2]; exact hdg)
    exact ⟨vm₁, mk, X₁, hnamed, hstep₁⟩
theorem front_S {n idx : Nat} {As : List AV} (hm : MSt κ' n) (hl : lnk (ky κ).cls idx (ky κ')) (hn : As.length = n) (hdg : decode (kc κ) pc = .ok (.invokestatic idx, 3)) : Front γ κ κ' pc lv (As.reverse ++ st) st As M := by
  intro p e R s m args below meth c locs cells slots ls T a1 a2 a3 a4 X
  obtain ⟨h4, h5, h6, hy, h7, h8, h9⟩ := hm
  obtain ⟨b1, b2, b3, b4, b5, b6, b7, b8, b9, b10⟩ := id a1
  obtain ⟨mk, methM, cM, hnamed, hmethM, -, -, -, -, -, -, hsigM⟩ := Cond.codeWith_spec (code_at b5 h6)
  have hstatic : methM.isStatic = true := Cond.static_spec hnamed hmethM (b5 _ h4 rfl)
  obtain ⟨kP, hkP, -⟩ := className_of_methodNamed hnamed
  have hinitP : kP.init = .initialized := Cond.initialized_spec (findClass_of_methodNamed hnamed) hkP (b5 _ h5 rfl)
  have hlen : (As.map (rv γ)).length = methM.sig.parameters.length := by
    rw [hsigM] at h8
    simp only [Option.map_some, Option.some.injEq] at h8
    rw [List.length_map, hn, h8]
  have hstack : (F0 m pc ls ((As.reverse ++ st).map (rv γ))).stack = (As.map (rv γ)).reverse ++ st.map (rv γ) := by
    show (As.reverse ++ st).map (rv γ) = _
    simp
  rcases hl with hl | ⟨host, hl⟩
  · obtain ⟨vm₁, X₁, hstep₁⟩ := X.invokestatic b1 b4 (b5 _ hl rfl) hnamed hmethM hstatic hkP hinitP hy (g := F0 m pc ls ((As.reverse ++ st).map (rv γ))) rfl hlen hstack (by rw [b2]; exact hdg)
    exact ⟨vm₁, mk, X₁, hnamed, hstep₁⟩
  · obtain ⟨vm₁, X₁, hstep₁⟩ := X.invokestaticNest b1 b4 (b5 _ hl rfl) hnamed hmethM hstatic hkP hinitP hy (g := F0 m pc ls ((As.reverse ++ st).map (rv γ))) rfl hlen hstack (by rw [b2]; exact hdg)
    exact ⟨vm₁, mk, X₁, hnamed, hstep₁⟩
/-- invokevirtual -/
theorem J_callV {f i n idx : Nat} {As : List AV} {v : Option AV} (hm : MV κ' f n) (hl : lnk (ky κ).cls idx (ky κ')) (hn : As.length = n) (hdg : decode (kc κ) pc = .ok (.invokevirtual idx, 3)) (hlen : (entL (vr (some (f, i)) :: As)).length ≤ kl κ') (hst : st.length ≤ 15) (hs : stk = As.reverse ++ vr (some (f, i)) :: st)
    (hJ : J γ κ' d 0 (ent (kl κ') (vr (some (f, i)) :: As)) [] M (.inl v) M1) (h : J γ κ (d + 1) (pc + 3) lv (v.toList ++ st) M1 out M') : J γ κ (d + 1) pc lv stk M out M' := by
  subst hs
  refine J_call (front_V hm hl hn hdg) hdg hm.2.2.2.2.1 hm.2.2.2.2.2.2.1 (fun w hw => ?_) (fun w hw => List.mem_append_right _ (List.mem_cons_of_mem _ hw)) hlen hm.2.2.2.2.2.2.2.2 hst hJ h
  rcases List.mem_cons.mp hw with rfl | hw
  · exact List.mem_append_right _ List.mem_cons_self
  · exact List.mem_append_left _ (List.mem_reverse.mpr hw)
/-- invokestatic -/
theorem J_callS {n idx : Nat} {As : List AV} {v : Option AV} (hm : MSt κ' n) (hl : lnk (ky κ).cls idx (ky κ')) (hn : As.length = n) (hdg : decode (kc κ) pc = .ok (.invokestatic idx, 3)) (hlen : (entL As).length ≤ kl κ') (hst : st.length ≤ 15) (hs : stk = As.reverse ++ st)
    (hJ : J γ κ' d 0 (ent (kl κ') As) [] M (.inl v) M1) (h : J γ κ (d + 1) (pc + 3) lv (v.toList ++ st) M1 out M') : J γ κ (d + 1) pc lv stk M out M' := by
  subst hs
  exact J_call (front_S hm hl hn hdg) hdg hm.2.2.1 hm.2.2.2.2.1 (fun w hw => List.mem_append_left _ (List.mem_reverse.mpr hw)) (fun w hw => List.mem_append_right _ hw) hlen hm.2.2.2.2.2.2 hst hJ h
end Calls2
