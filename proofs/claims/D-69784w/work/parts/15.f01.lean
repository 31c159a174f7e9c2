/-! THE MACHINE: the spec -/
abbrev Vl : Type := Int32 × Bool
/-- a frame: class, method, place, locals, stack -/
abbrev Fm : Type := Nat × Nat × Nat × List Vl × List Vl
/-- or a start: class, whether its own method was begun -/
abbrev Un : Type := Fm ⊕ (Nat × Bool)
/-- what is called: class, member, numbers -/
abbrev Cal : Type := Nm × Mth × List Int32
/-- a thread: there, state, steps, result (kind, number, class, rule), call, what it waits for, units (the top one first) -/
abbrev Ln : Type := Bool × Nat × Nat × (Int32 × Int32 × Int32 × Int32) × Cal × Option (Int32 ⊕ Nat) × List Un
/-- a fault: class, rule, locks, owner -/
abbrev Ft : Type := Nat × Int32 × Int32 × Int32
/-- an object: class (none: a row), first cell, size, locks, owner -/
abbrev Ob : Type := Option Nat × Nat × Nat × Int32 × Int32
/-- objects, cells; which are there, objects, cells, what cells are for -/
abbrev Hp : Type := Nat × Nat × (Nat → Bool) × (Nat → Ob) × (Nat → Int32) × (Nat → Kd)
/-- what, thread, class, method, steps -/
abbrev Ev : Type := Nat × Nat × Nat × Option Nat × Nat
/-- links, states of classes, owners of starts, begun ones, fixed fields, objects, faults, threads, turn (whose, left, quantum), trace, done, steps -/
abbrev Ms : Type := LkS × (Nat → Int32) × (Nat → Int32) × List Nat × (Nat → Nat → Int32) × Hp × List Ft × (Nat → Ln) × (Nat × Nat × Nat) × List Ev × (Nat → Int32) × Nat
abbrev zL (s : Ms) : LkS := s.1
abbrev zC (s : Ms) : Nat → Int32 := s.2.1
abbrev zO (s : Ms) : Nat → Int32 := s.2.2.1
abbrev zB (s : Ms) : List Nat := s.2.2.2.1
abbrev zS (s : Ms) : Nat → Nat → Int32 := s.2.2.2.2.1
abbrev zH (s : Ms) : Hp := s.2.2.2.2.2.1
abbrev zF (s : Ms) : List Ft := s.2.2.2.2.2.2.1
abbrev zN (s : Ms) : Nat → Ln := s.2.2.2.2.2.2.2.1
abbrev zT (s : Ms) : Nat × Nat × Nat := s.2.2.2.2.2.2.2.2.1
abbrev zE (s : Ms) : List Ev := s.2.2.2.2.2.2.2.2.2.1
abbrev zD (s : Ms) : Nat → Int32 := s.2.2.2.2.2.2.2.2.2.2.1
abbrev zK (s : Ms) : Nat := s.2.2.2.2.2.2.2.2.2.2.2
abbrev yL (s : Ms) (v : LkS) : Ms := (v, s.2)
abbrev yC (s : Ms) (v : Nat → Int32) : Ms := (s.1, v, s.2.2)
abbrev yO (s : Ms) (v : Nat → Int32) : Ms := (s.1, s.2.1, v, s.2.2.2)
abbrev yB (s : Ms) (v : List Nat) : Ms := (s.1, s.2.1, s.2.2.1, v, s.2.2.2.2)
abbrev yS (s : Ms) (v : Nat → Nat → Int32) : Ms := (s.1, s.2.1, s.2.2.1, s.2.2.2.1, v, s.2.2.2.2.2)
abbrev yH (s : Ms) (v : Hp) : Ms := (s.1, s.2.1, s.2.2.1, s.2.2.2.1, s.2.2.2.2.1, v, s.2.2.2.2.2.2)
abbrev yF (s : Ms) (v : List Ft) : Ms := (s.1, s.2.1, s.2.2.1, s.2.2.2.1, s.2.2.2.2.1, s.2.2.2.2.2.1, v, s.2.2.2.2.2.2.2)
abbrev yN (s : Ms) (v : Nat → Ln) : Ms := (s.1, s.2.1, s.2.2.1, s.2.2.2.1, s.2.2.2.2.1, s.2.2.2.2.2.1, s.2.2.2.2.2.2.1, v, s.2.2.2.2.2.2.2.2)
abbrev yT (s : Ms) (v : Nat × Nat × Nat) : Ms := (s.1, s.2.1, s.2.2.1, s.2.2.2.1, s.2.2.2.2.1, s.2.2.2.2.2.1, s.2.2.2.2.2.2.1, s.2.2.2.2.2.2.2.1, v, s.2.2.2.2.2.2.2.2.2)
abbrev yE (s : Ms) (v : List Ev) : Ms := (s.1, s.2.1, s.2.2.1, s.2.2.2.1, s.2.2.2.2.1, s.2.2.2.2.2.1, s.2.2.2.2.2.2.1, s.2.2.2.2.2.2.2.1, s.2.2.2.2.2.2.2.2.1, v, s.2.2.2.2.2.2.2.2.2.2)
abbrev yD (s : Ms) (v : Nat → Int32) (k : Nat) : Ms := (s.1, s.2.1, s.2.2.1, s.2.2.2.1, s.2.2.2.2.1, s.2.2.2.2.2.1, s.2.2.2.2.2.2.1, s.2.2.2.2.2.2.2.1, s.2.2.2.2.2.2.2.2.1, s.2.2.2.2.2.2.2.2.2.1, v, k)
abbrev lSt (l : Ln) : Nat := l.2.1
abbrev lSp (l : Ln) : Nat := l.2.2.1
abbrev lRs (l : Ln) : Int32 × Int32 × Int32 × Int32 := l.2.2.2.1
abbrev lCa (l : Ln) : Cal := l.2.2.2.2.1
abbrev lWt (l : Ln) : Option (Int32 ⊕ Nat) := l.2.2.2.2.2.1
abbrev lU (l : Ln) : List Un := l.2.2.2.2.2.2
abbrev qU (l : Ln) (U : List Un) : Ln := (l.1, l.2.1, l.2.2.1, l.2.2.2.1, l.2.2.2.2.1, l.2.2.2.2.2.1, U)
abbrev qW (l : Ln) (x : Option (Int32 ⊕ Nat)) : Ln := (l.1, l.2.1, l.2.2.1, l.2.2.2.1, l.2.2.2.2.1, x, l.2.2.2.2.2.2)
abbrev qR (l : Ln) (st : Nat) (r : Int32 × Int32 × Int32 × Int32) : Ln := (l.1, st, l.2.2.1, r, l.2.2.2.2.1, l.2.2.2.2.2.1, [])
abbrev qS (l : Ln) : Ln := (l.1, l.2.1, l.2.2.1 + 1, l.2.2.2)
def up1 {α : Type} (f : Nat → α) (a : Nat) (v : α) : Nat → α := fun k => if k = a then v else f k
abbrev gU (s : Ms) (t : Nat) : List Un := lU (zN s t)
def sU (s : Ms) (t : Nat) (U : List Un) : Ms := yN s (up1 (zN s) t (qU (zN s t) U))
def sWt (s : Ms) (t : Nat) (x : Option (Int32 ⊕ Nat)) : Ms := yN s (up1 (zN s) t (qW (zN s t) x))
def evS (s : Ms) (t what k : Nat) (m : Option Nat) : Ms := if (zE s).length < 400 then yE s (zE s ++ [(what, t, k, m, lSp (zN s t))]) else s
def addFt (s : Ms) (f : Nat) (ru : Int32) : Ms := yF s (zF s ++ [(f, ru, 0, 0)])
abbrev lastF (s : Ms) : Int32 := Int32.ofNat (800 + (zF s).length)
abbrev gFt (s : Ms) (k : Nat) : Ft := (zF s).getD k (0, 0, 0, 0)
abbrev gOb (s : Ms) (r : Nat) : Ob := (zH s).2.2.2.1 r
/-- the class of a reference (none: a row) -/
def clR (s : Ms) (r : Int32) : Option Nat := if 800 < r.toNatClampNeg then some (gFt s (r.toNatClampNeg - 801)).1 else (gOb s r.toNatClampNeg).1
def clN (s : Ms) (r : Int32) : Nat := (clR s r).getD 0
def ruR (s : Ms) (r : Int32) : Int32 := if 800 < r.toNatClampNeg then (gFt s (r.toNatClampNeg - 801)).2.1 else 0
def lkR (s : Ms) (r : Int32) : Int32 × Int32 := if 800 < r.toNatClampNeg then (gFt s (r.toNatClampNeg - 801)).2.2 else (gOb s r.toNatClampNeg).2.2.2
noncomputable def bel (W : List Cls) (a b : Nat) : Bool := @decide (Reach (edge false W) a b) (Classical.propDecidable _)
theorem bel_iff {W : List Cls} {a b : Nat} : bel W a b = true ↔ Reach (edge false W) a b := @decide_eq_true_iff (Reach (edge false W) a b) (Classical.propDecidable _)
/-- where a handler takes it -/
noncomputable def catH (W : List Cls) (at' k : Nat) : List Hnd → Option Nat
  | [] => none
  | h :: l => if at' < h.1 ∨ h.2.1 ≤ at' then catH W at' k l else match (if h.2.2.2 = nAny then some 0 else fnd W h.2.2.2) with
    | none => catH W at' k l
    | some d => if bel W k d then some h.2.2.1 else catH W at' k l
/-- what is thrown goes down the units -/
noncomputable def unw (W : List Cls) (t : Nat) : List Un → Int32 → Ms → Ms
  | [], r, s => yN s (up1 (zN s) t (qR (zN s t) 2 (0, 0, Int32.ofNat (clN s r), ruR s r)))
  | .inr (k, own) :: U, r, s =>
    if own = true ∧ bel W (clN s r) 10 = false then unw W t U (lastF (addFt (evS (yC s (up1 (zC s) k 3)) t 6 k none) 20 0)) (addFt (evS (yC s (up1 (zC s) k 3)) t 6 k none) 20 0)
    else unw W t U r (evS (yC s (up1 (zC s) k 3)) t 6 k none)
  | .inl (c, j, a, lo, st) :: U, r, s => match catH W a (clN s r) (hs (gmt (gc W c) j)) with
    | some g => evS (sU s t (.inl (c, j, g, lo, [(r, true)]) :: U)) t 7 c (some j)
    | none => unw W t U r (evS s t 3 c (some j))
noncomputable def failS (W : List Cls) (t : Nat) (s : Ms) (f : Nat) (ru : Int32) : Ms := unw W t (gU s t) (lastF (addFt s f ru)) (addFt s f ru)
noncomputable def failC (W : List Cls) (t : Nat) (s : Ms) (e : Int32) : Ms := failS W t s (e.toNatClampNeg % 100) (Int32.ofNat (e.toNatClampNeg / 100))
def frs : List Un → Nat
  | [] => 0
  | .inl _ :: U => frs U + 1
  | .inr _ :: U => frs U
/-- a frame more, over U; its first locals -/
noncomputable def enterS (W : List Cls) (t : Nat) (s : Ms) (U : List Un) (c j : Nat) (args : List Vl) : Ms :=
  if frs (gU s t) = 40 then failS W t s 8 0 else evS (sU s t (.inl (c, j, 0, args ++ List.replicate (20 - args.length) (0, false), []) :: U)) t 1 c (some j)
/-- a start begins -/
def begS (W : List Cls) (t : Nat) (s : Ms) (k : Nat) : Ms :=
  sU (yS (evS (yB (yO (yC s (up1 (zC s) k 1)) (up1 (zO s) k (Int32.ofNat t))) (zB s ++ [k])) t 4 k none) (up1 (zS s) k (fun f => (gfl (gc W k) f).2.2.2.1))) t (.inr (k, false) :: gU s t)
/-- 0: the class is ready, 1: its start has begun, 2: something is thrown, 3: one waits -/
noncomputable def mustS (br : Int32) (W : List Cls) (t : Nat) (s : Ms) (k : Nat) : Nat × Int32 × Ms :=
  if zC s k = 2 then (0, 0, s) else if zC s k = 1 then (if zO s k = Int32.ofNat t then (0, 0, s) else (3, 0, sWt s t (some (.inr k))))
  else if zC s k = 3 then (2, 11, s)
  else if (lkN br W 60 (zL s) k).1 = 1 then (1, 0, begS W t (yL s (lkN br W 60 (zL s) k).2) k) else (2, (lkN br W 60 (zL s) k).1, yL s (lkN br W 60 (zL s) k).2)
/-- a thread's first act -/
noncomputable def firstS (br : Int32) (W : List Cls) (t : Nat) (s : Ms) : Ms := match fMth br W (zL s) (lCa (zN s t)).1 (lCa (zN s t)).2.1 52 (fun _ => false) with
  | (.inl e, L) => failC W t (yL s L) e
  | (.inr q, L) => match mustS br W t (yL s L) q.1 with
    | (0, _, s') => enterS W t s' [] q.1 q.2 (((lCa (zN s t)).2.2.take (lCa (zN s t)).2.1.2.1.length).map (fun v => (v, false)))
    | (2, e, s') => failC W t s' e
    | (_, _, s') => s'
def ownN (nm : Nm) : Nat → List Mth → Option Nat
  | _, [] => none
  | k, m :: l => if m.1 = nm then some k else ownN nm (k + 1) l
/-- a start goes on -/
noncomputable def startG (W : List Cls) (t : Nat) (s : Ms) (k : Nat) (U : List Un) : Ms := match ownN nStart 0 (gc W k).2.2.2.2.2 with
  | some m => enterS W t (sU s t (.inr (k, true) :: U)) (.inr (k, true) :: U) k m []
  | none => evS (sU (yC s (up1 (zC s) k 2)) t U) t 5 k none
noncomputable def startS (br : Int32) (W : List Cls) (t : Nat) (s : Ms) (k : Nat) (own : Bool) (U : List Un) : Ms :=
  if own = false ∧ isFc W k = false then match upW W k with
    | none => s
    | some p => match mustS br W t s p with
      | (0, _, s') => startG W t s' k U
      | (2, e, s') => failC W t s' e
      | (_, _, s') => s'
  else startG W t s k U
/-! instructions -/
abbrev tv (st : List Vl) (k : Nat) : Vl := st.getD (st.length - 1 - k) (0, false)
abbrev lv (lo : List Vl) (k : Nat) : Vl := lo.getD k (0, false)
def drp (st : List Vl) (n : Nat) : List Vl := st.take (st.length - n)
/-- what an instruction finds -/
noncomputable def fIns (br : Int32) (W : List Cls) (s : LkS) (c : Nat) (x : Mth) (i : Ins) : FR :=
  if i.1 = 54 ∨ i.1 = 55 then ((match fnd W (iK i) with | none => .inl 5011 | some d => .inr (d, 0)), s)
  else if i.1 = 41 then (match lkd br W s (iK i) with
    | (.inl e, s') => (.inl e, s')
    | (.inr d, s') => if ¬ (gc W d).2.2.2.1 &&& 6 = 0 ∧ brk br 7 = true then (.inl 5719, s') else (.inr (d, 0), s'))
  else if isFo i.1 then fFld br W s (iK i) (iM i) (iR i) (decide (48 ≤ i.1)) (decide (i.1 = 47 ∨ i.1 = 49)) c x.1
  else if isMo i.1 then fMth br W s (iK i) (iM i, iA i, iR i, 0, 0, 0, [], []) i.1 (fun d => decide (d = c))
  else (.inr (0, 0), s)
def aluS (o : Nat) (x y : Int32) : Int32 :=
  if o = 8 then x + y else if o = 9 then x - y else if o = 10 then x * y else if o = 11 then x / y else if o = 12 then x - x / y * y
  else if o = 14 then x &&& y else if o = 15 then x ||| y else if o = 16 then x ^^^ y else if o = 17 then x <<< ((y &&& 31) &&& 31) else x >>> ((y &&& 31) &&& 31)
def cmpS (o : Nat) (x y : Int32) : Bool :=
  if o = 24 ∨ o = 30 ∨ o = 36 ∨ o = 38 then decide (x = y) else if o = 25 ∨ o = 31 ∨ o = 37 ∨ o = 39 then decide (x ≠ y)
  else if o = 26 ∨ o = 32 then decide (x < y) else if o = 27 ∨ o = 33 then decide (y ≤ x) else if o = 28 ∨ o = 34 then decide (y < x) else decide (x ≤ y)
def pickN (a y : Int32) (n : Nat) : Nat := if 0 ≤ y.toInt - a.toInt ∧ y.toInt - a.toInt < (n : Int) - 1 then (y.toInt - a.toInt).toNat else n - 1
/-- kinds of an object's cells -/
def ofkN (W : List Cls) : Nat → Nat → List Kd
  | 0, _ => []
  | n + 1, c => (match upW W c with | none => [] | some p => ofkN W n p) ++ ((gc W c).2.2.2.2.1.filter (fun f => decide (f.2.2.1 &&& 1 = 0))).map (fun f => f.2.1)
def ofk (W : List Cls) (c : Nat) : List Kd := ofkN W 52 c
/-- the least free number -/
def lfr (th : Nat → Bool) : Nat → Nat → Nat
  | 0, r => r
  | n + 1, r => if th r then lfr th n (r + 1) else r
def lfree (s : Ms) : Nat := lfr (zH s).2.2.1 801 1
/-- an object, or a row, of n cells -/
def mkOb (s : Ms) (cl : Option Nat) (n : Nat) (ks : List Kd) : Ms :=
  yH s ((zH s).1 + 1, (zH s).2.1 + n, up1 (zH s).2.2.1 (lfree s) true, up1 (zH s).2.2.2.1 (lfree s) (cl, (zH s).2.1, n, 0, (gOb s (lfree s)).2.2.2.2),
    (fun i => if (zH s).2.1 ≤ i ∧ i < (zH s).2.1 + n then 0 else (zH s).2.2.2.2.1 i), (fun i => if (zH s).2.1 ≤ i ∧ i < (zH s).2.1 + n then ks.getD (i - (zH s).2.1) (0, []) else (zH s).2.2.2.2.2 i))
abbrev fulS (s : Ms) (n : Nat) : Prop := (zH s).1 = 800 ∨ 4000 < (zH s).2.1 + n
def wCell (s : Ms) (i : Nat) (v : Int32) : Ms := yH s ((zH s).1, (zH s).2.1, (zH s).2.2.1, (zH s).2.2.2.1, up1 (zH s).2.2.2.2.1 i v, (zH s).2.2.2.2.2)
def gCell (s : Ms) (i : Nat) : Int32 := (zH s).2.2.2.2.1 i
/-- where a field lies -/
def sltF (W : List Cls) (q : Nat × Nat) : Nat := oszU W q.1 + instF ((gc W q.1).2.2.2.2.1.take q.2)
def wLock (s : Ms) (r n o : Int32) : Ms :=
  if 800 < r.toNatClampNeg then yF s ((zF s).set (r.toNatClampNeg - 801) ((gFt s (r.toNatClampNeg - 801)).1, (gFt s (r.toNatClampNeg - 801)).2.1, n, o))
  else yH s ((zH s).1, (zH s).2.1, (zH s).2.2.1, up1 (zH s).2.2.2.1 r.toNatClampNeg ((gOb s r.toNatClampNeg).1, (gOb s r.toNatClampNeg).2.1, (gOb s r.toNatClampNeg).2.2.1, n, o), (zH s).2.2.2.2)
/-- whether another thread has locked it -/
abbrev lckd (s : Ms) (t : Nat) (r : Int32) : Prop := 0 < (lkR s r).1 ∧ (lkR s r).2 ≠ Int32.ofNat t
/-- a frame ends, with a value or without -/
def leaveS (s : Ms) (t c j : Nat) (o : Nat) (v : Int32) (U : List Un) : Ms := match U with
  | [] => yN (evS s t 2 c (some j)) (up1 (zN (evS s t 2 c (some j))) t (qR (zN (evS s t 2 c (some j)) t) 0
      (if o = 57 then 0 else if o = 58 then 1 else if v = 0 then 2 else if clR s v = none then 3 else 4, if o = 58 then v else 0, if o = 59 ∧ v ≠ 0 ∧ clR s v ≠ none then Int32.ofNat (clN s v) else -2, 0)))
  | .inr (k, _) :: U' => evS (sU (yC (evS s t 2 c (some j)) (up1 (zC s) k 2)) t U') t 5 k none
  | .inl (c', j', a', lo', st') :: U' => sU (evS s t 2 c (some j)) t (.inl (c', j', a' + 1, lo', st' ++ (if o = 57 then [] else [(v, decide (o = 59))])) :: U')
/-- a call: q is what was found -/
noncomputable def cllS (W : List Cls) (t : Nat) (s : Ms) (c j a : Nat) (lo st : List Vl) (U : List Un) (i : Ins) (q : Nat × Nat) : Ms :=
  let n := (iA i).length
  let all := if i.1 = 52 then n else n + 1
  let self := (tv st n).1
  let go := fun (m : Nat × Nat) => if m.1 < 21 then sU s t (.inl (c, j, a + 1, lo, drp st all) :: U) else enterS W t s (.inl (c, j, a, lo, drp st all) :: U) m.1 m.2 (st.drop (st.length - all))
  if i.1 = 52 then go q
  else if self = 0 then failS W t s 2 0
  else if i.1 ≠ 51 ∧ (gmt (gc W q.1) q.2).2.2.2.1 &&& 4 = 0 then
    (if i.1 = 53 ∧ (match fnd W (iK i) with | none => false | some d => bel W (clN s self) d) = false then failS W t s 15 59
     else match (match clR s self with | none => none | some d => mthW W (iM i, iA i, iR i, 0, 0, 0, [], []) 5 d) with
      | none => failS W t s 18 58
      | some m => if ¬ (gmt (gc W m.1) m.2).2.2.2.1 &&& 8 = 0 then failS W t s 18 58 else go m)
  else if ¬ (gmt (gc W q.1) q.2).2.2.2.1 &&& 8 = 0 then failS W t s 18 58
  else go q
noncomputable def doS (W : List Cls) (t : Nat) (s : Ms) (c j a : Nat) (lo st : List Vl) (U : List Un) (i : Ins) (q : Nat × Nat) : Ms :=
  let o := i.1
  let nx := fun (s : Ms) (lo' st' : List Vl) => sU s t (.inl (c, j, a + 1, lo', st') :: U)
  let y := (tv st 0).1
  let x := (tv st 1).1
  if (8 ≤ o ∧ o ≤ 18) ∧ o ≠ 13 then (if (o = 11 ∨ o = 12) ∧ y = 0 then failS W t s 3 0 else nx s lo (drp st 2 ++ [(aluS o x y, false)]))
  else if o = 23 then sU s t (.inl (c, j, gtn (iT i) 0, lo, st) :: U)
  else if o = 40 then sU s t (.inl (c, j, gtn (iT i) (pickN (iV i) y (iT i).length), lo, drp st 1) :: U)
  else if (30 ≤ o ∧ o ≤ 35) ∨ o = 38 ∨ o = 39 then sU s t (.inl (c, j, if cmpS o x y then gtn (iT i) 0 else a + 1, lo, drp st 2) :: U)
  else if 24 ≤ o ∧ o ≤ 37 then sU s t (.inl (c, j, if cmpS o y 0 then gtn (iT i) 0 else a + 1, lo, drp st 1) :: U)
  else if o = 41 then (if fulS s (osz W q.1) then failS W t s 9 0 else nx (mkOb s (some q.1) (osz W q.1) (ofk W q.1)) lo (st ++ [(Int32.ofNat (lfree s), true)]))
  else if o = 42 then (if y < 0 then failS W t s 5 0 else if 300 < y ∨ fulS s y.toNatClampNeg then failS W t s 9 0 else nx (mkOb s none y.toNatClampNeg []) lo (drp st 1 ++ [(Int32.ofNat (lfree s), true)]))
  else if o = 48 then nx s lo (st ++ [(zS s q.1 q.2, decide ((gfl (gc W q.1) q.2).2.1.1 ≠ 0))])
  else if o = 49 then nx (yS s (up1 (zS s) q.1 (up1 (zS s q.1) q.2 y))) lo (drp st 1)
  else if o = 46 then (if y = 0 then failS W t s 2 0 else nx s lo (drp st 1 ++ [(gCell s ((gOb s y.toNatClampNeg).2.1 + sltF W q), decide ((gfl (gc W q.1) q.2).2.1.1 ≠ 0))]))
  else if o = 47 then (if x = 0 then failS W t s 2 0 else nx (wCell s ((gOb s x.toNatClampNeg).2.1 + sltF W q) y) lo (drp st 2))
  else if o = 45 then (if y = 0 then failS W t s 2 0 else nx s lo (drp st 1 ++ [(Int32.ofNat (gOb s y.toNatClampNeg).2.2.1, false)]))
  else if o = 43 then (if x = 0 then failS W t s 2 0 else if y < 0 ∨ Int32.ofNat (gOb s x.toNatClampNeg).2.2.1 ≤ y then failS W t s 4 0 else nx s lo (drp st 2 ++ [(gCell s ((gOb s x.toNatClampNeg).2.1 + y.toNatClampNeg), false)]))
  else if o = 44 then (if (tv st 2).1 = 0 then failS W t s 2 0 else if x < 0 ∨ Int32.ofNat (gOb s (tv st 2).1.toNatClampNeg).2.2.1 ≤ x then failS W t s 4 0 else nx (wCell s ((gOb s (tv st 2).1.toNatClampNeg).2.1 + x.toNatClampNeg) y) lo (drp st 3))
  else if o = 60 then (if y = 0 then failS W t s 2 0 else nx (wLock s y ((lkR s y).1 + 1) (Int32.ofNat t)) lo (drp st 1))
  else if o = 61 then (if y = 0 then failS W t s 2 0 else if (lkR s y).1 = 0 ∨ (lkR s y).2 ≠ Int32.ofNat t then failS W t s 7 0 else nx (wLock s y ((lkR s y).1 + -1) (Int32.ofNat t)) lo (drp st 1))
  else if isMo o then cllS W t s c j a lo st U i q
  else if o = 1 then nx s lo (st ++ [(iV i, false)])
  else if o = 2 then nx s lo (st ++ [(0, true)])
  else if o = 3 then nx s lo (st ++ [((lv lo (iL i)).1, false)])
  else if o = 4 then nx s lo (st ++ [((lv lo (iL i)).1, true)])
  else if o = 5 then nx s (lo.set (iL i) (y, false)) (drp st 1)
  else if o = 6 then nx s (lo.set (iL i) (y, true)) (drp st 1)
  else if o = 7 then nx s (lo.set (iL i) ((lv lo (iL i)).1 + i.2.2.1, (lv lo (iL i)).2)) st
  else if o = 13 then nx s lo (drp st 1 ++ [(-y, false)])
  else if o = 19 then nx s lo (drp st 1)
  else if o = 20 then nx s lo (st ++ [tv st 0])
  else if o = 21 then nx s lo (drp st 2 ++ [tv st 0, tv st 1, tv st 0])
  else if o = 22 then nx s lo (drp st 2 ++ [tv st 0, tv st 1])
  else if o = 54 ∨ o = 55 then
    (if y = 0 then nx s lo (if o = 55 then drp st 1 ++ [(0, false)] else st)
     else match fnd W (iK i) with
      | none => failS W t s 11 50
      | some d =>
        let is : Bool := if clR s y = none then decide (d = 0) else bel W (clN s y) d
        if o = 55 then nx s lo (drp st 1 ++ [(if is then 1 else 0, false)]) else if is then nx s lo st else failS W t s 6 0)
  else if o = 56 then (if y = 0 then failS W t s 2 0 else unw W t (gU s t) y s)
  else if 57 ≤ o ∧ o ≤ 59 then leaveS s t c j o (if o = 57 then 0 else y) U
  else nx s lo st
/-- what a class's start an instruction asks for -/
abbrev strt (o : Nat) : Prop := o = 41 ∨ o = 48 ∨ o = 49 ∨ o = 52
def tickS (s : Ms) (t o : Nat) : Ms := yD (yN s (up1 (zN s) t (qS (zN s t)))) (up1 (zD s) o (zD s o + 1)) (zK s + 1)
noncomputable def insS (br : Int32) (W : List Cls) (t : Nat) (s : Ms) (c j a : Nat) (lo st : List Vl) (U : List Un) : Ms :=
  let x := gmt (gc W c) j
  let i := gin (co x) a
  if i.1 = 60 ∧ (tv st 0).1 ≠ 0 ∧ lckd s t (tv st 0).1 then sWt s t (some (.inl (tv st 0).1))
  else match (if i.1 = 54 ∨ i.1 = 55 then ((.inr (0, 0), zL s) : FR) else fIns br W (zL s) c x i) with
    | (.inl e, L) => failC W t (tickS (yL s L) t i.1) e
    | (.inr q, L) => if strt i.1 then (match mustS br W t (yL s L) q.1 with
        | (0, _, s') => doS W t (tickS s' t i.1) c j a lo st U i q
        | (2, e, s') => failC W t (tickS s' t i.1) e
        | (_, _, s') => s')
      else doS W t (tickS (yL s L) t i.1) c j a lo st U i q
/-- one act of a thread -/
noncomputable def advS (br : Int32) (W : List Cls) (t : Nat) (s : Ms) : Ms := match gU s t with
  | [] => firstS br W t s
  | .inr (k, own) :: U => startS br W t s k own U
  | .inl (c, j, a, lo, st) :: U => insS br W t s c j a lo st U
/-! turns -/
def waitS (s : Ms) (t : Nat) : Bool := match lWt (zN s t) with
  | none => false
  | some (.inl r) => decide (lckd s t r)
  | some (.inr k) => decide (zC s k = 1 ∧ zO s k ≠ Int32.ofNat t)
abbrev canG (s : Ms) (t : Nat) : Prop := lSt (zN s t) = 1 ∧ waitS s t = false
/-- who has the turn -/
def turnS (s : Ms) : Option (Nat × Ms) :=
  if 0 < (zT s).2.1 ∧ canG s (zT s).1 then some ((zT s).1, s)
  else if canG s (((zT s).1 + 1) % 3) then some (((zT s).1 + 1) % 3, yT s (((zT s).1 + 1) % 3, (zT s).2.2, (zT s).2.2))
  else if canG s (((zT s).1 + 2) % 3) then some (((zT s).1 + 2) % 3, yT s (((zT s).1 + 2) % 3, (zT s).2.2, (zT s).2.2))
  else if canG s (((zT s).1 + 3) % 3) then some (((zT s).1 + 3) % 3, yT s (((zT s).1 + 3) % 3, (zT s).2.2, (zT s).2.2))
  else none
/-- a turn's act, and what is left of the turn -/
noncomputable def turnA (br : Int32) (W : List Cls) (t : Nat) (s : Ms) : Ms :=
  let s1 := advS br W t (sWt s t none)
  let left := if zK s < zK s1 then (zT s1).2.1 - 1 else (zT s1).2.1
  yT s1 ((zT s1).1, if lSt (zN s1 t) ≠ 1 ∨ waitS s1 t = true then 0 else left, (zT s1).2.2)
/-- up to n steps: whether some thread could go on at the end -/
noncomputable def gowS (br : Int32) (W : List Cls) : Nat → Nat → Ms → Bool × Ms
  | 0, _, s => (true, s)
  | _ + 1, 0, s => (true, s)
  | f + 1, n + 1, s => match turnS s with
    | none => (false, s)
    | some (t, s1) => gowS br W f (if zK s1 < zK (turnA br W t s1) then n else n + 1) (turnA br W t s1)
