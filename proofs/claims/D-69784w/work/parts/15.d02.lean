/-! B: what checking says: the spec -/
abbrev iV (i : Ins) : Int32 := i.2.1
abbrev iT (i : Ins) : List Nat := i.2.2.2.1
abbrev iK (i : Ins) : Nm := i.2.2.2.2.1
abbrev iM (i : Ins) : Nm := i.2.2.2.2.2.1
abbrev iA (i : Ins) : List Kd := i.2.2.2.2.2.2.1
abbrev iR (i : Ins) : Kd := i.2.2.2.2.2.2.2.1
abbrev iF (i : Ins) : Option (List Kd × List Kd) := i.2.2.2.2.2.2.2.2
abbrev iL (i : Ins) : Nat := (iV i).toNatClampNeg
abbrev sr (x : Mth) : Nat := x.2.2.2.2.1.toNatClampNeg
abbrev lr (x : Mth) : Nat := x.2.2.2.2.2.1.toNatClampNeg
abbrev co (x : Mth) : List Ins := x.2.2.2.2.2.2.1
abbrev hs (x : Mth) : List Hnd := x.2.2.2.2.2.2.2
abbrev uns : Kd := (-2, [])
/-- so deep on the stack -/
abbrev tp (st : List Kd) (k : Nat) : Kd := gk st (st.length - 1 - k)
/-! wanted of the stack: (0, a kind), (1, _) a reference, (2, _) what may be stored, (3, _) anything -/
abbrev Wt : Type := Nat × Kd
abbrev wNum : Wt := (0, (0, []))
abbrev wRow : Wt := (0, (1, []))
abbrev wRef : Wt := (1, (0, []))
abbrev wSto : Wt := (2, (0, []))
abbrev wAny : Wt := (3, (0, []))
def wlist (W : List Cls) (c : Nat) (x : Mth) (i : Ins) : List Wt :=
  if 8 ≤ i.1 ∧ i.1 ≤ 18 then (if i.1 = 13 then [wNum] else [wNum, wNum])
  else if (24 ≤ i.1 ∧ i.1 ≤ 29) ∨ i.1 = 40 ∨ i.1 = 5 ∨ i.1 = 42 ∨ i.1 = 58 then [wNum]
  else if 30 ≤ i.1 ∧ i.1 ≤ 35 then [wNum, wNum]
  else if i.1 = 6 then [wSto]
  else if i.1 = 19 ∨ i.1 = 20 then [wAny]
  else if i.1 = 21 ∨ i.1 = 22 then [wAny, wAny]
  else if i.1 = 38 ∨ i.1 = 39 then [wRef, wRef]
  else if i.1 = 36 ∨ i.1 = 37 ∨ i.1 = 54 ∨ i.1 = 55 ∨ i.1 = 60 ∨ i.1 = 61 then [wRef]
  else if i.1 = 43 then [wNum, wRow]
  else if i.1 = 44 then [wNum, wNum, wRow]
  else if i.1 = 45 then [wRow]
  else if i.1 = 46 then [(0, (2, iK i))]
  else if i.1 = 47 then [(0, iR i), (0, (2, iK i))]
  else if i.1 = 49 then [(0, iR i)]
  else if isMo i.1 then (iA i).reverse.map (fun κ => (0, κ)) ++ (if i.1 = 52 then [] else if i.1 = 51 then [if iM i = nMake then wAny else (0, (2, (gc W c).1))] else [(0, (2, iK i))])
  else if i.1 = 56 then [(0, (2, nFault))]
  else if i.1 = 59 then [if x.2.2.1.1 = 1 ∨ x.2.2.1.1 = 2 then (0, x.2.2.1) else wRef]
  else []
/-- one that is wanted: 0, 32 or 43, or 39 for what is not made -/
def wOne (W : List Cls) (t : Wt) (κ : Kd) : Nat :=
  if t.1 = 3 then 0 else if t.1 = 2 then (if rfK κ || umK κ then 0 else 32)
  else if t.1 = 0 ∧ t.2.1 = 0 then (if κ.1 = 0 then 0 else 32)
  else if umK κ then 39
  else if t.1 = 1 then (if rfK κ then 0 else 32)
  else if fitK W κ t.2 = 0 then 0 else if fitK W κ t.2 = 43 then 43 else 32
def wFst (W : List Cls) (st : List Kd) : Nat → List Wt → Nat
  | _, [] => 0
  | k, t :: ts => if wOne W t (tp st k) = 0 ∨ wOne W t (tp st k) = 39 then wFst W st (k + 1) ts else wOne W t (tp st k)
def wUn (W : List Cls) (st : List Kd) : Nat → List Wt → Bool
  | _, [] => false
  | k, t :: ts => decide (wOne W t (tp st k) = 39) || wUn W st (k + 1) ts
def takeS (W : List Cls) (st : List Kd) (ws : List Wt) : Nat := if st.length < ws.length then 31 else if wFst W st 0 ws ≠ 0 then wFst W st 0 ws else if wUn W st 0 ws then 39 else 0
/-- what an instruction takes: 33, 31, 32, 43, 39, 34 -/
def takenS (W : List Cls) (c : Nat) (x : Mth) (i : Ins) (lo st : List Kd) : Nat :=
  if (3 ≤ i.1 ∧ i.1 ≤ 7) ∧ lr x ≤ iL i then 33
  else if takeS W st (wlist W c x i) ≠ 0 then takeS W st (wlist W c x i)
  else if ((i.1 = 3 ∨ i.1 = 7) ∧ (gk lo (iL i)).1 ≠ 0) ∨ (i.1 = 4 ∧ rfK (gk lo (iL i)) = false ∧ umK (gk lo (iL i)) = false) then 34 else 0
def mkRight (W : List Cls) (c : Nat) (x : Mth) (κ : Kd) (nm : Nm) : Bool := if κ.1 = -3 then decide (nm = (gc W c).1 ∨ nm = upN W c) else if κ.1 ≤ -10 then decide (iK (gin (co x) (-10 - κ.1).toNat) = nm) else false
def near (W : List Cls) (c : Nat) (nm : Nm) : Bool := decide ((nm = (gc W c).1 ∨ nm = upN W c) ∨ nm ∈ (gc W c).2.2.1)
def unM (ks : List Kd) : Bool := ks.any (fun κ => decide (κ.1 = -3))
/-- 40, 41, 42 -/
def ownS (W : List Cls) (c : Nat) (x : Mth) (i : Ins) (lo st : List Kd) : Nat :=
  if i.1 = 57 then (if x.1 = nMake ∧ (unM lo || unM st) = true then 40 else if x.2.2.1.1 = -4 then 0 else 41)
  else if i.1 = 58 then (if x.2.2.1.1 = 0 then 0 else 41)
  else if i.1 = 59 then (if x.2.2.1.1 = 1 ∨ x.2.2.1.1 = 2 then 0 else 41)
  else if i.1 = 50 ∨ i.1 = 52 ∨ i.1 = 53 then (if iM i = nMake then 42 else 0)
  else if i.1 = 51 then (if iM i = nMake then (if mkRight W c x (tp st (iA i).length) (iK i) then 0 else 42) else if near W c (iK i) then 0 else 42)
  else 0
def pushS (i : Ins) (at' : Nat) (lo st : List Kd) : List Kd :=
  if (8 ≤ i.1 ∧ i.1 ≤ 18) ∨ i.1 = 1 ∨ i.1 = 3 ∨ i.1 = 43 ∨ i.1 = 45 ∨ i.1 = 55 then [(0, [])]
  else if i.1 = 42 then [(1, [])]
  else if i.1 = 2 then [(-1, [])]
  else if i.1 = 4 then [gk lo (iL i)]
  else if i.1 = 20 then [tp st 0, tp st 0]
  else if i.1 = 21 then [tp st 0, tp st 1, tp st 0]
  else if i.1 = 22 then [tp st 0, tp st 1]
  else if i.1 = 41 then [(-10 - (at' : Int), [])]
  else if i.1 = 46 ∨ i.1 = 48 then [iR i]
  else if i.1 = 54 then [(2, iK i)]
  else if isMo i.1 then (if (iR i).1 = -4 then [] else [iR i])
  else []
abbrev isMk (i : Ins) : Prop := i.1 = 51 ∧ iM i = nMake
/-- what was not made becomes made -/
def made (W : List Cls) (c : Nat) (i : Ins) (κ0 κ : Kd) : Kd := if κ = κ0 then (2, if κ0.1 = -3 then (gc W c).1 else iK i) else κ
def loS (W : List Cls) (c : Nat) (i : Ins) (lo st : List Kd) : List Kd :=
  if i.1 = 5 then lo.set (iL i) (0, []) else if i.1 = 6 then lo.set (iL i) (tp st 0) else if isMk i then lo.map (made W c i (tp st (iA i).length)) else lo
def restS (W : List Cls) (c : Nat) (x : Mth) (i : Ins) (st : List Kd) : List Kd :=
  if 57 ≤ i.1 ∧ i.1 ≤ 59 then st else if isMk i then (st.take (st.length - (wlist W c x i).length)).map (made W c i (tp st (iA i).length)) else st.take (st.length - (wlist W c x i).length)
def stS (W : List Cls) (c : Nat) (x : Mth) (i : Ins) (at' : Nat) (lo st : List Kd) : List Kd := restS W c x i st ++ pushS i at' lo st
/-! frames -/
def fitL (W : List Cls) : List Kd → List Kd → Nat
  | [], _ => 0
  | a :: lo, fl => if fitK W a (fl.headD uns) = 0 then fitL W lo fl.tail else fitK W a (fl.headD uns)
def wrongF (x : Mth) (fl fs : List Kd) : Bool := (decide (lr x < fl.length) || decide (sr x < fs.length)) || (fs.any (fun κ => decide (κ.1 = -2)) || (decide (x.1 ≠ nMake) && unM (fl ++ fs)))
def frOf (x : Mth) (t : Nat) : Option (List Kd × List Kd) := iF (gin (co x) t)
/-- the state goes to an instruction -/
def fitS (W : List Cls) (lo st fl fs : List Kd) : Nat := if fitL W lo fl ≠ 0 then fitL W lo fl else if st.length ≠ fs.length then 37 else fitL W st fs
def goesS (W : List Cls) (x : Mth) (lo st : List Kd) (t : Nat) : Nat := match frOf x t with
  | none => 36
  | some (fl, fs) => if wrongF x fl fs then 38 else fitS W lo st fl fs
def handOne (W : List Cls) (x : Mth) (lo : List Kd) (h : Hnd) : Nat := match frOf x h.2.2.1 with
  | none => 36
  | some (fl, fs) => if wrongF x fl fs then 38 else if fs.length ≠ 1 then 37 else if fitL W lo fl ≠ 0 then fitL W lo fl else fitK W (2, if h.2.2.2 = nAny then nFault else h.2.2.2) (gk fs 0)
def handS (W : List Cls) (x : Mth) (lo : List Kd) (at' : Nat) : List Hnd → Nat
  | [] => 0
  | h :: l => if at' < h.1 ∨ h.2.1 ≤ at' then handS W x lo at' l else if handOne W x lo h = 0 then handS W x lo at' l else handOne W x lo h
/-- a pick's labels, the first one at last -/
def pickS (W : List Cls) (x : Mth) (lo st : List Kd) (ts : List Nat) : Nat → Nat → Nat
  | 0, _ => 0
  | n + 1, k => if goesS W x lo st (gtn ts (k % ts.length)) = 0 then pickS W x lo st ts n (k + 1) else goesS W x lo st (gtn ts (k % ts.length))
abbrev goesOn (o : Nat) : Prop := o ≠ 23 ∧ o ≠ 40 ∧ o ≠ 56 ∧ ¬ (57 ≤ o ∧ o ≤ 59)
/-- where it goes, behind its work -/
def thenS (W : List Cls) (x : Mth) (i : Ins) (at' : Nat) (lo st : List Kd) : Nat :=
  if i.1 = 5 ∨ i.1 = 6 ∨ isMk i then handS W x lo at' (hs x)
  else if isJ i.1 then goesS W x lo st (gtn (iT i) 0)
  else if i.1 = 40 then pickS W x lo st (iT i) (iT i).length 1
  else 0
abbrev KSt : Type := List Kd × List Kd × Bool
def stepS (W : List Cls) (c : Nat) (x : Mth) (at' : Nat) (lo st : List Kd) : Nat ⊕ KSt :=
  if handS W x lo at' (hs x) ≠ 0 then .inl (handS W x lo at' (hs x))
  else if takenS W c x (gin (co x) at') lo st ≠ 0 then .inl (takenS W c x (gin (co x) at') lo st)
  else if ownS W c x (gin (co x) at') lo st ≠ 0 then .inl (ownS W c x (gin (co x) at') lo st)
  else if sr x < (stS W c x (gin (co x) at') at' lo st).length then .inl 30
  else if thenS W x (gin (co x) at') at' (loS W c (gin (co x) at') lo st) (stS W c x (gin (co x) at') at' lo st) ≠ 0 then .inl (thenS W x (gin (co x) at') at' (loS W c (gin (co x) at') lo st) (stS W c x (gin (co x) at') at' lo st))
  else if goesOn (gin (co x) at').1 ∧ at' + 1 = (co x).length then .inl 35
  else if goesOn (gin (co x) at').1 then .inr (loS W c (gin (co x) at') lo st, stS W c x (gin (co x) at') at' lo st, true) else .inr ([], [], false)
/-- locals of a frame, the rest unset -/
def padL (x : Mth) (fl : List Kd) : List Kd := fl ++ List.replicate (lr x - fl.length) uns
def oneS (W : List Cls) (c : Nat) (x : Mth) (at' : Nat) (s : KSt) : Nat ⊕ KSt := match frOf x at' with
  | none => if s.2.2 then stepS W c x at' s.1 s.2.1 else .inl 36
  | some (fl, fs) => if wrongF x fl fs then .inl 38 else if s.2.2 = true ∧ fitS W s.1 s.2.1 fl fs ≠ 0 then .inl (fitS W s.1 s.2.1 fl fs) else stepS W c x at' (padL x fl) fs
/-- from an instruction on: the rule (0: none) and where -/
def allS (W : List Cls) (c : Nat) (x : Mth) : Nat → Nat → KSt → Nat × Nat
  | 0, at', _ => (0, at')
  | n + 1, at', s => match oneS W c x at' s with
    | .inl r => (r, at')
    | .inr s' => allS W c x n (at' + 1) s'
def begL (W : List Cls) (c : Nat) (x : Mth) : List Kd := (if x.2.2.2.1 &&& 1 = 0 then [if x.1 = nMake then (-3, []) else (2, (gc W c).1)] else []) ++ x.2.1
/-- a method's check -/
def chkM (W : List Cls) (c : Nat) (x : Mth) : Nat × Nat := allS W c x (co x).length 0 (padL x (begL W c x), [], true)
/-- a class's check: the first method that fails, the rule, where -/
def chkC (W : List Cls) (c : Nat) : Nat → List Mth → Option (Nat × Nat × Nat)
  | _, [] => none
  | k, x :: xs => if (chkM W c x).1 = 0 then chkC W c (k + 1) xs else some (k, (chkM W c x).1, (chkM W c x).2)
