section CatchCold
variable {e : Env} {s T target : State} {f g : JFrame} {a : Addr}
theorem go_cold {Q : Handler → Pre} {E : CtlPost} {d : Bool} {acts : List Action} {x : ExceptionTableEntry} {t : List ExceptionTableEntry} {c : ClassId} {cell : Cell} {vm' : Vm} (hx : covers x f.pc = true) (h0 : x.catchType ≠ 0)
    (hg : (Jvm.resolveClass f.method.cls x.catchType).Gives e.toSetting s.vm (.ok c) vm') (hsz : vm'.classes.size ≤ s.vm.classes.size) (hcell : s.heap[a]? = some cell) (hobj : ∀ k, cell.vm ≠ .statics k)
    (hk : ∃ k, vm'.classes[cell.cls]? = some k) (hc : ∃ k, vm'.classes[c]? = some k) (hfit : vm'.assignable cell.cls c = true) :
    wp (findHandler.go f a (x :: t)) Q E e d acts s ↔ Q (.found x.handlerPc) d acts (s.setVm vm') := by
  simp only [covers] at hx
  obtain ⟨ha, ht⟩ := hg.op (op := VmOp.resolveClass f.method.cls x.catchType) rfl
  simp [findHandler.go, hx, h0, ha, ht, hsz, hcell, hobj, hk, hc, hfit, VmOp.dirties, VmOp.acts]
/-- what a search finds, the tables' entry noted -/
def FindsC (e : Env) (s : State) (f : JFrame) (a : Addr) (h : Handler) (vm' : Vm) : Prop :=
  ∀ (Q : Handler → Pre) (E : CtlPost) (d : Bool) (acts : List Action), wp (findHandler f a) Q E e d acts s ↔ Q h d acts (s.setVm vm')
theorem catch_step {r : List Frame} {pc : Nat} {vm' : Vm} (hfind : FindsC e s f a (.found pc) vm') :
    (stepThrowing e s a (.java f :: r)).Is ((s.setVm vm').setFrames (.java { f with pc := pc, stack := [.ref a] } :: r)) [] := by
  simp only [stepThrowing, searchFrame, vmDo]
  generalize hr : Sem.go _ e false [] s = res
  obtain ⟨as, rfl, ha⟩ := Sem.eq_ok_of hr (a := Handler.found pc) (s' := s.setVm vm') (acts' := []) (by simp [hfind _ _ _ _])
  exact ⟨rfl, ha⟩
theorem caughtC {tb : Tables} {c : Code} {below : List Frame} (h : At s g.method c below) {pc : Nat} {vm' : Vm} (hfind : FindsC e ((s.setTop g).pushFrame (.throwing a)) g a (.found pc) vm')
    (hrest : Steps tb e below ((s.setVm vm').setTop { g with pc := pc, stack := [.ref a] }) target) : Steps tb e below ((s.setTop g).pushFrame (.throwing a)) target := by
  obtain ⟨hgo, hw⟩ := h.throwing a
  refine Steps.head hgo hw ?_
  rw [stepThread_throwing (frames_entered h.top _), (catch_step (s := (s.setTop g).pushFrame (.throwing a)) hfind).1]
  obtain ⟨g₀, hg⟩ := Option.isSome_iff_exists.mp h.top
  obtain ⟨r, hr⟩ := State.topJava?_eq_some.mp hg
  have hr' : (s.setVm vm').frames = .java g₀ :: r := hr
  rw [State.setTop_of_frames _ hr'] at hrest
  rw [State.pushFrame, State.setTop_of_frames _ hr, State.setFrames_setFrames]
  have e1 : ((s.setFrames (.throwing a :: (s.setFrames (.java g :: r)).frames)).setVm vm').setFrames (.java { g with pc := pc, stack := [.ref a] } :: s.frames.tail) = (s.setVm vm').setFrames (.java { g with pc := pc, stack := [.ref a] } :: r) := by
    rw [hr]
    show ((s.setVm vm').setFrames _).setFrames _ = _
    rw [State.setFrames_setFrames]; rfl
  rw [e1]
  exact hrest
end CatchCold
section CatchJ
variable {p : Program} {l : Launch} {e : Env} {R : Room} {s T : State} {m : MethodId} {args : Array Value} {below : List Frame} {meth : Method} {c : Code} {locs : List Loc} {cells slots : Nat} {g : JFrame}
theorem assign_self (vm : Vm) (c : ClassId) : vm.assignable c c = true := by
  show vm.assignableAux (255 + 1) c c = true
  rw [Vm.assignableAux, beq_self_eq_true, Bool.true_or]
theorem stand_catch (X : Stand p l e R s m args below meth c T locs cells slots) (a : Addr) (hg : g.method = m) {pre rest : List ExceptionTableEntry} {x : ExceptionTableEntry} (hsplit : c.exceptionTable.toList = pre ++ x :: rest) (hskip : ∀ y ∈ pre, covers y g.pc = false) (hx : covers x g.pc = true)
    {own C : String} (hct : x.catchType = 0 ∨ (x.catchType ≠ 0 ∧ s.vm.findClass own = some m.cls ∧ (Cond.classLink own x.catchType C).before args s = true ∧ ∃ (cC : ClassId) (cell : Cell), s.vm.findClass C = some cC ∧ T.heap[a]? = some cell ∧ cell.cls = cC ∧ ∀ k, cell.vm ≠ .statics k)) :
    ∃ vm₁, Stand p l e R s m args below meth c (T.setVm vm₁) locs cells slots ∧ ∀ target, Steps p.tables e below ((T.setVm vm₁).setTop { g with pc := x.handlerPc, stack := [.ref a] }) target → Steps p.tables e below ((T.setTop g).pushFrame (.throwing a)) target := by
  have hmv : ((T.setTop g).pushFrame (.throwing a)).vm = T.vm := Stand.throwing_vm T g a
  have hmh : ((T.setTop g).pushFrame (.throwing a)).heap = T.heap := Stand.throwing_heap T g a
  have hmeth : ((T.setTop g).pushFrame (.throwing a)).vm.method? g.method = some meth := by rw [hmv, hg]; exact X.method'
  rcases hct with h0 | ⟨h0, hown, hcl, cC, cell, hfc, hcell, hcls, hobj⟩
  · exact ⟨T.vm, X, fun target hr => X.catchAt a hg (Finds.catchAny hmeth X.code pre x rest hsplit hskip hx h0) hr⟩
  · have hpl : e.platform.magicAccessors = ({} : Platform).magicAccessors := by rw [X.admits.platform]
    obtain ⟨cC', hfc', hcl'⟩ := Cond.classLink_spec hown hcl e.platform hpl
    cases hfc.symm.trans hfc'
    obtain ⟨hg₁, hwarm₁, hready₁⟩ := State.classEntry (e := e) X.warmed hcl'
    generalize T.vm.noted m.cls x.catchType (.cls cC) = vm₁ at hg₁ hwarm₁ hready₁
    have X₁ := X.noted hwarm₁
    refine ⟨vm₁, X₁, fun target hr => ?_⟩
    have hA : At T g.method c below := by rw [hg]; exact X.here
    have hsz : vm₁.classes.size ≤ T.vm.classes.size := by no_record
    have hc1 : ∃ k, vm₁.classes[cC]? = some k := by
      obtain ⟨k, hk⟩ := Vm.classAt_of_findClass hfc
      obtain ⟨k₁, hk₁, -⟩ := hwarm₁.alike.2.2 _ _ hk
      exact ⟨k₁, hk₁⟩
    refine caughtC hA (pc := x.handlerPc) (vm' := vm₁) ?_ hr
    intro Q E d acts
    rw [W.findHandler_eq hmeth X.code, hsplit]
    clear hsplit
    induction pre with
    | nil =>
      rw [List.nil_append]
      exact go_cold hx h0 (by rw [hmv, hg]; exact hg₁) (by rw [hmv]; exact hsz) (by rw [hmh]; exact hcell) hobj (by rw [hcls]; exact hc1) hc1 (by rw [hcls]; exact assign_self _ _)
    | cons y t ih =>
      rw [List.cons_append, W.findHandler_go_skip (hskip y (List.mem_cons_self ..))]
      exact ih (fun z hz => hskip z (List.mem_cons_of_mem _ hz))
end CatchJ
/-- the first handler that covers a place: where it begins, its catch type -/
def hlf : List (Nat × Nat × Nat × Nat) → Nat → Option (Nat × Nat)
  | [], _ => none
  | h :: t, pc => if h.1 ≤ pc ∧ pc < h.2.1 then some (h.2.2.1, h.2.2.2) else hlf t pc
theorem hlf_split {pc hp ct : Nat} : ∀ {l : List ExceptionTableEntry}, hlf (l.map (fun h => (h.startPc, h.endPc, h.handlerPc, h.catchType))) pc = some (hp, ct) →
    ∃ (pre rest : List ExceptionTableEntry) (x : ExceptionTableEntry), l = pre ++ x :: rest ∧ (∀ y ∈ pre, covers y pc = false) ∧ covers x pc = true ∧ x.handlerPc = hp ∧ x.catchType = ct
  | [], h => by cases h
  | x :: l, h => by
    simp only [List.map_cons, hlf] at h
    split at h
    · rename_i q
      simp only [Option.some.injEq, Prod.mk.injEq] at h
      exact ⟨[], l, x, rfl, fun y hy => (by cases hy), by simp only [covers, Bool.and_eq_true, decide_eq_true_eq]; exact q, h.1, h.2⟩
    · rename_i q
      obtain ⟨pre, rest, y, e1, e2, e3, e4, e5⟩ := hlf_split h
      refine ⟨x :: pre, rest, y, by rw [e1]; rfl, fun z hz => ?_, e3, e4, e5⟩
      rcases List.mem_cons.mp hz with rfl | hz
      · simp only [covers, Bool.and_eq_false_iff, decide_eq_false_iff_not]
        omega
      · exact e2 z hz
/-- a handler takes the objects of a family: it takes all, or its class is theirs -/
def takes (own : String) (ct f : Nat) : Prop := ct = 0 ∨ (ct ≠ 0 ∧ f < 20 ∧ ∃ r : vw_C, cls[f - 1]? = some r ∧ Cond.classLink own ct r.1 ∈ tables_1)
section CatchRows
variable {γ : Gm} {κ κ' : Kp} {d pc : Nat} {lv : List (Option AV)} {st stk : List AV} {M M1 M' : Mem} {out o : Out}
theorem takes_ok {p : Program} {s T : State} {m : MethodId} {args : Array Value} {meth : Method} {c : Code} {locs : List Loc} {ct : Nat} {q : Nat × Nat} (hq : q ∈ mN M) (ht : takes (ky κ).cls ct q.1) (a1 : Cx γ κ p s m args meth c) (a2 : Wd γ M s T.heap locs) :
    ∃ C : String, ct = 0 ∨ (ct ≠ 0 ∧ s.vm.findClass (ky κ).cls = some m.cls ∧ (Cond.classLink (ky κ).cls ct C).before args s = true ∧ ∃ (cC : ClassId) (cell : Cell), s.vm.findClass C = some cC ∧ T.heap[ra γ q]? = some cell ∧ cell.cls = cC ∧ ∀ k, cell.vm ≠ .statics k) := by
  rcases ht with h0 | ⟨h0, hf, r, hr, hl⟩
  · exact ⟨"", Or.inl h0⟩
  · refine ⟨r.1, Or.inr ⟨h0, a1.2.2.2.1, a1.2.2.2.2.1 _ hl rfl, gC γ (q.1 - 1), ?_⟩⟩
    have hh := (a2.1.1 q hq).2
    unfold holds at hh
    rw [if_pos hf] at hh
    obtain ⟨r', hr', hob⟩ := hh
    obtain ⟨⟨cell, g1, g2, g3, -⟩, -⟩ := hob
    exact ⟨cell, (a2.2.1.1 _ r hr).2.1, g1, g2, fun k => by rw [g3]; intro h; cases h⟩
end CatchRows
section CatchRows2
variable {γ : Gm} {κ κ' : Kp} {d pc : Nat} {lv : List (Option AV)} {st stk : List AV} {M M1 M' : Mem} {out o : Out}
theorem vls_le {lv : List (Option AV)} {stk : List AV} (hle : Le M M1) (h : vls M lv stk) {q : Nat × Nat} (hq : q ∈ mN M1) : vls M1 lv [vr (some q)] := by
  have hmem : ∀ q, q ∈ mN M → q ∈ mN M1 := fun q hq => by
    obtain ⟨⟨y, e2⟩, -⟩ := hle
    rw [e2]; exact List.mem_append_left _ hq
  refine ⟨fun v hv => ?_, fun v hv => ?_⟩
  · rw [List.mem_singleton.mp hv]; exact Or.inr hq
  · have := h.2 v hv
    match v, this with
    | .inl _, _ => exact trivial
    | .inr (.inl _), _ => exact trivial
    | .inr (.inr none), _ => exact trivial
    | .inr (.inr (some z)), hz => exact hz.imp id (hmem z)
/-- what is thrown by a callee is caught here -/
theorem J_callC {Bs : List AV} {q : Nat × Nat} {ig : Instr} {hp ct : Nat} (front : Front γ κ κ' pc lv stk st Bs M) (hdg : decode (kc κ) pc = .ok (ig, 3)) (hco : codeIn κ') (hpl : plainFor (ky κ') = true) (hB : ∀ v ∈ Bs, v ∈ stk) (hlen : (entL Bs).length ≤ kl κ') (hkl : kl κ' ≤ 40) (hst : st.length ≤ 15)
    (hh : hlf (kh κ) pc = some (hp, ct)) (ht : takes (ky κ).cls ct q.1) (hJ : J γ κ' d 0 (ent (kl κ') Bs) [] M (.inr q) M1) (h : J γ κ (d + 1) hp lv [vr (some q)] M1 out M') : J γ κ (d + 1) pc lv stk M out M' := by
  have hle := hJ.1.trans h.1
  have l1 := hJ.1.len
  have l2 := h.1.len
  have z1 := hJ.1.2.2
  have z2 := h.1.2.2
  refine ⟨hle, fun p e R s m args below meth c H locs cells slots ls a1 a2 a3 a4 a5 a6 a7 a8 a9 a10 => ?_⟩
  intro T hT X
  subst hT
  obtain ⟨vm₁, mk, X₁, hnamed, hstep⟩ := front p e R s m args below meth c locs cells slots ls T a1 a2 a3 a4 X
  obtain ⟨b1, b2, b3, b4, b5, b6, b7, b8, b9, b10⟩ := id a1
  have hpx : ∃ x, gN γ = mN M1 ++ x := by
    obtain ⟨x, e1⟩ := a5
    obtain ⟨⟨y, e2⟩, -⟩ := h.1
    exact ⟨y ++ x, by rw [e1, e2, List.append_assoc]⟩
  obtain ⟨T', L, X', hW', hok, -, hthr⟩ := call_core (T := T.setVm vm₁) (g := F0 m pc ls (st.map (rv γ))) X₁ b1 b5 b10 a2 rfl (by rw [b3]; exact a3.1) (by rw [b2]; exact hdg) (code_at b5 hco) hpl hnamed hJ (fun v hv => a4.1 v (hB v hv)) hlen hpx a6 a7 (by
    have := cat_sum (γ := γ) st
    have e0 : (F0 m pc ls (st.map (rv γ))).monitorRoom = 0 := rfl
    rw [e0]
    show 2 * 0 + ((st.map (rv γ)).map fun v => v.category).sum + (kl κ' + 11) + 100 * d ≤ R.locals
    omega) (by omega) (by omega)
  rw [← b9] at hh
  obtain ⟨pre, rest, x, e1, e2, e3, e4, e5⟩ := hlf_split hh
  subst e4; subst e5
  obtain ⟨C, hC⟩ := takes_ok (T := T') hok ht a1 hW'
  obtain ⟨vm₂, X₂, hcat⟩ := stand_catch X' (ra γ q) (g := F0 m pc ls (st.map (rv γ))) rfl e1 e2 e3 hC
  obtain ⟨t, s1, s2⟩ := h.2 p e R s m args below meth c T'.heap (locs ++ L) _ _ ls a1 hW' a3 (vls_le hJ.1 a4 hok) a5 a6 a7 a8 (by omega) (by omega) (T'.setVm vm₂) rfl X₂
  refine ⟨t, hstep _ fun acts => (hthr q rfl acts).trans (hcat _ s1), ?_⟩
  have n1 : cells + ((mN M1).length - (mN M).length) + ((mN M').length - (mN M1).length) = cells + ((mN M').length - (mN M).length) := by omega
  have n2 : slots + (mS M1 - mS M) + (mS M' - mS M1) = slots + (mS M' - mS M) := by omega
  rw [n1, n2] at s2
  exact s2
theorem J_callCV {f i n idx hp ct : Nat} {As : List AV} {q : Nat × Nat} (hm : MV κ' f n) (hl : lnk (ky κ).cls idx (ky κ')) (hn : As.length = n) (hdg : decode (kc κ) pc = .ok (.invokevirtual idx, 3)) (hlen : (entL (vr (some (f, i)) :: As)).length ≤ kl κ') (hst : st.length ≤ 15) (hs : stk = As.reverse ++ vr (some (f, i)) :: st)
    (hh : hlf (kh κ) pc = some (hp, ct)) (ht : takes (ky κ).cls ct q.1) (hJ : J γ κ' d 0 (ent (kl κ') (vr (some (f, i)) :: As)) [] M (.inr q) M1) (h : J γ κ (d + 1) hp lv [vr (some q)] M1 out M') : J γ κ (d + 1) pc lv stk M out M' := by
  subst hs
  refine J_callC (front_V hm hl hn hdg) hdg hm.2.2.2.2.1 hm.2.2.2.2.2.2.1 (fun w hw => ?_) hlen hm.2.2.2.2.2.2.2.2 hst hh ht hJ h
  rcases List.mem_cons.mp hw with rfl | hw
  · exact List.mem_append_right _ List.mem_cons_self
  · exact List.mem_append_left _ (List.mem_reverse.mpr hw)
/-- thrown here, and caught here -/
theorem J_throwC {q : Nat × Nat} {hp ct : Nat} (hq : q.1 ≠ 0) (hh : hlf (kh κ) pc = some (hp, ct)) (ht : takes (ky κ).cls ct q.1) (hdg : decode (kc κ) pc = .ok (.athrow, 1)) (h : J γ κ d hp lv [vr (some q)] M out M') : J γ κ d pc lv (vr (some q) :: st) M out M' := by
  refine ⟨h.1, fun p e R s m args below meth c H locs cells slots ls a1 a2 a3 a4 a5 a6 a7 a8 a9 a10 => ?_⟩
  intro T hT X
  subst hT
  obtain ⟨b1, b2, b3, b4, b5, b6, b7, b8, b9, b10⟩ := id a1
  have hqm : q ∈ mN M := by
    rcases a4.1 (vr (some q)) List.mem_cons_self with x | x
    · exact absurd x hq
    · exact x
  rw [← b9] at hh
  obtain ⟨pre, rest, x, e1, e2, e3, e4, e5⟩ := hlf_split hh
  subst e4; subst e5
  obtain ⟨C, hC⟩ := takes_ok (T := T) hqm ht a1 a2
  obtain ⟨vm₂, X₂, hcat⟩ := stand_catch X (ra γ q) (g := F0 m pc ls (st.map (rv γ))) rfl e1 e2 e3 hC
  obtain ⟨t, s1, s2⟩ := h.2 p e R s m args below meth c T.heap locs cells slots ls a1 a2 a3 (vls_le (Le.rf M) a4 hqm) a5 a6 a7 a8 a9 a10 (T.setVm vm₂) rfl X₂
  refine ⟨t, ?_, s2⟩
  have hd2 : decode c.code pc = .ok (.athrow, 1) := by rw [b2]; exact hdg
  have hg : (F0 m pc ls ((vr (some q) :: st).map (rv γ))).method = m := rfl
  have hstack : (F0 m pc ls ((vr (some q) :: st).map (rv γ))).stack = .ref (ra γ q) :: st.map (rv γ) := rfl
  jvm_step X.here [b1, hd2, athrow.wp_sem, hstack]
  exact hcat _ s1
/-- a call that may throw, and is caught here -/
theorem E_callC {f i n idx d' hp ct : Nat} {As : List AV} {q : Nat × Nat} {P Q : Out → Mem → Prop} {Y : Mem → Prop} (hm : MV κ' f n) (hl : lnk (ky κ).cls idx (ky κ')) (hn : As.length = n) (hdg : decode (kc κ) pc = .ok (.invokevirtual idx, 3)) (hlen : (entL (vr (some (f, i)) :: As)).length ≤ kl κ') (hst : st.length ≤ 15) (hs : stk = As.reverse ++ vr (some (f, i)) :: st) (hd : d' ≤ d) (hh : hlf (kh κ) pc = some (hp, ct)) (ht : takes (ky κ).cls ct q.1)
    (hE : E γ κ' d' 0 (ent (kl κ') (vr (some (f, i)) :: As)) [] M (Qx q P Y)) (hP : ∀ o M1, P o M1 → ∃ v, o = .inl v) (hY : ∀ M1, Y M1 → E γ κ (d + 1) hp lv [vr (some q)] M1 Q) (h : ∀ v M1, P (.inl v) M1 → E γ κ (d + 1) (pc + 3) lv (v.toList ++ st) M1 Q) : E γ κ (d + 1) pc lv stk M Q := by
  obtain ⟨o, M1, hp, hJ⟩ := hE
  rcases hp with hp | ⟨rfl, hp⟩
  · obtain ⟨v, rfl⟩ := hP o M1 hp
    exact E.up (fun _ _ hJ2 => J_callV hm hl hn hdg hlen hst hs (hJ.mono hd) hJ2) (h v M1 hp)
  · exact E.up (fun _ _ hJ2 => J_callCV hm hl hn hdg hlen hst hs hh ht (hJ.mono hd) hJ2) (hY M1 hp)
theorem E_throwC {q : Nat × Nat} {hp ct : Nat} {Q : Out → Mem → Prop} (hq : q.1 ≠ 0) (hh : hlf (kh κ) pc = some (hp, ct)) (ht : takes (ky κ).cls ct q.1) (hdg : decode (kc κ) pc = .ok (.athrow, 1)) (h : E γ κ d hp lv [vr (some q)] M Q) : E γ κ d pc lv (vr (some q) :: st) M Q := E.up (fun _ _ hJ => J_throwC hq hh ht hdg hJ) h
end CatchRows2
