/-! B: lines of a text, as they are meant -/
/-- behind the flags of a method: its name, types, result -/
def pSigE (ts : List Tok) : Rz (List Kd × Kd) := match pSig ts with
  | .inl e => .inl e
  | .inr (v, t2) => if (hd t2).1 = 0 then .inr (v, t2) else .inl (er t2)
def pMethodT (ts : List Tok) : Rz (Nm × List Kd × Kd) := if (hd ts).1 = 2 ∨ (hd ts).1 = 3 then (match pSigE ts.tail with
    | .inl e => .inl e
    | .inr ((ks, κ), t3) => .inr (((hd ts).2.1, ks, κ), t3)) else .inl (er ts)
def pMethod (ts : List Tok) : Rz (Int32 × Nm × List Kd × Kd) := match pFlags (flg nStatic nFinal nPrivate (some nAbstract)) (ts.length + 1) 0 ts with
  | (bits, t1) => match pMethodT t1 with
    | .inl e => .inl e
    | .inr ((own, ks, κ), t3) => .inr ((bits, own, ks, κ), t3)
/-- the first rule that a method's line breaks, or 99 -/
def rulM (br : Int32) (c : Cls) (bits : Int32) (own : Nm) (ks : List Kd) (κ : Kd) : Nat :=
  if c.2.2.2.2.2.any (fun m => decide (m.1 = own ∧ m.2.1 = ks ∧ m.2.2.1 = κ)) then 3
  else if (decide (¬ bits &&& 8 = 0) && decide (¬ bits = 8)) && brk br 0 then 4
  else if (decide (¬ c.2.2.2.1 &&& 4 = 0) && brk br 1) && (decide (¬ bits &&& 6 = 0) || decide (own = nMake)) then 5
  else if (decide (¬ bits &&& 8 = 0) && decide (c.2.2.2.1 &&& 6 = 0)) && brk br 2 then 6
  else if (decide (own = nMake) && (decide (¬ bits &&& 11 = 0) || decide (κ ≠ (-4, [])))) || (decide (own = nStart) && (decide (¬ bits = 1) || decide (ks ≠ [] ∨ κ ≠ (-4, [])))) then 7
  else if decide (c.2.2.2.2.2.length = 12) || decide (6 < ks.length) then 12 else 99
/-- the line of a method's room -/
def pRoom (ts : List Tok) : Rz (Int32 × Int32) := if isWd nRoom ts then (match pNum 0 20 ts.tail with
    | .inl e => .inl e
    | .inr (a, t2) => match pNum 0 20 t2 with
      | .inl e => .inl e
      | .inr (b, t3) => if (hd t3).1 = 0 then .inr ((a, b), t3) else .inl (er t3)) else .inl (er ts)
/-- labels in front -/
def pLabels : Nat → List Nm → List Tok → List Nm × List Tok
  | 0, acc, ts => (acc, ts)
  | n + 1, acc, ts => if (hd ts).1 = 2 ∧ (hd ts.tail).1 = 58 then pLabels n (acc ++ [(hd ts).2.1]) ts.tail.tail else (acc, ts)
/-- labels of a pick -/
def pPicks : Nat → List Nm → List Tok → Rz (List Nm)
  | 0, _, ts => .inl (er ts)
  | n + 1, acc, ts => if acc.length ≠ 0 ∧ (hd ts).1 = 0 then .inr (acc, ts) else match (if acc.length = 0 then (.inr ((), ts) : Rz Unit) else pSign 44 ts) with
    | .inl e => .inl e
    | .inr (_, t1) => match pName t1 with
      | .inl e => .inl e
      | .inr (nm, t2) => pPicks n (acc ++ [nm]) t2
abbrev isJ (o : Nat) : Prop := 23 ≤ o ∧ o ≤ 39
abbrev isN (o : Nat) : Prop := o = 41 ∨ o = 54 ∨ o = 55
abbrev isFo (o : Nat) : Prop := 46 ≤ o ∧ o ≤ 49
abbrev isMo (o : Nat) : Prop := 50 ≤ o ∧ o ≤ 53
/-- what stands behind an operation: numbers, labels, class, member, types, result or type -/
abbrev Opr : Type := Int32 × Int32 × List Nm × Nm × Nm × List Kd × Kd
abbrev noO : Opr := (0, 0, [], [], [], [], (0, []))
def pMember (meth : Bool) (ts : List Tok) : Rz (Nm × Nm × List Kd × Kd) := match pCls ts with
  | .inl e => .inl e
  | .inr (k, t1) => match pSign 46 t1 with
    | .inl e => .inl e
    | .inr (_, t2) => if (hd t2).1 = 2 ∨ (meth = true ∧ (hd t2).1 = 3 ∧ (hd t2).2.1 = nMake) then (if meth then (match pSig t2.tail with
          | .inl e => .inl e
          | .inr ((ks, κ), t3) => .inr ((k, (hd t2).2.1, ks, κ), t3)) else (match pType t2.tail with
          | .inl e => .inl e
          | .inr (κ, t3) => .inr ((k, (hd t2).2.1, [], κ), t3))) else .inl (er t2)
def pOpr (o : Nat) (ts : List Tok) : Rz Opr :=
  if o = 1 then (match pNum i32min i32max ts with
    | .inl e => .inl e
    | .inr (v, t1) => .inr ((v, 0, [], [], [], [], (0, [])), t1))
  else if 3 ≤ o ∧ o ≤ 6 then (match pNum 0 19 ts with
    | .inl e => .inl e
    | .inr (v, t1) => .inr ((v, 0, [], [], [], [], (0, [])), t1))
  else if o = 7 then (match pNum 0 19 ts with
    | .inl e => .inl e
    | .inr (v, t1) => match pNum i32min i32max t1 with
      | .inl e => .inl e
      | .inr (u, t2) => .inr ((v, u, [], [], [], [], (0, [])), t2))
  else if isJ o then (match pName ts with
    | .inl e => .inl e
    | .inr (nm, t1) => .inr ((0, 0, [nm], [], [], [], (0, [])), t1))
  else if o = 40 then (match pNum i32min i32max ts with
    | .inl e => .inl e
    | .inr (v, t1) => match pPicks (t1.length + 1) [] t1 with
      | .inl e => .inl e
      | .inr (ls, t2) => .inr ((v, 0, ls, [], [], [], (0, [])), t2))
  else if isN o then (match pCls ts with
    | .inl e => .inl e
    | .inr (k, t1) => .inr ((0, 0, [], k, [], [], (0, [])), t1))
  else if isFo o then (match pMember false ts with
    | .inl e => .inl e
    | .inr ((k, m, ks, κ), t1) => .inr ((0, 0, [], k, m, ks, κ), t1))
  else if isMo o then (match pMember true ts with
    | .inl e => .inl e
    | .inr ((k, m, ks, κ), t1) => .inr ((0, 0, [], k, m, ks, κ), t1))
  else .inr (noO, ts)
/-- the place of an operation's name among all, or 62 -/
def opOf (ts : List Tok) : Nat := if (hd ts).1 = 2 then (A0.take 62).idxOf (hd ts).2.1 else 62
def pInstr (ts : List Tok) : Rz (Nat × Opr) := if opOf ts < 62 then (match pOpr (opOf ts) ts.tail with
    | .inl e => .inl e
    | .inr (x, t1) => if (hd t1).1 = 0 then .inr ((opOf ts, x), t1) else .inl (er t1)) else .inl (er ts)
/-- kinds of a frame -/
def pKind (ts : List Tok) : Rz Kd := if isWd nNull ts then .inr ((-1, []), ts.tail) else if isWd nUnset ts then .inr ((-2, []), ts.tail) else if isWd nUnmade ts then .inr ((-3, []), ts.tail) else pType ts
def pKinds (b : Nat) : Nat → List Kd → List Tok → Rz (List Kd)
  | 0, _, ts => .inl (er ts)
  | n + 1, acc, ts => if (hd ts).1 = b then .inr (acc, ts) else match (if acc.length = 0 then (.inr ((), ts) : Rz Unit) else pSign 44 ts) with
    | .inl e => .inl e
    | .inr (_, t1) => match pKind t1 with
      | .inl e => .inl e
      | .inr (κ, t2) => pKinds b n (acc ++ [κ]) t2
def pFrame (ts : List Tok) : Rz (List Kd × List Kd) := match pKinds 59 (ts.length + 1) [] ts with
  | .inl e => .inl e
  | .inr (ls, t1) => match pKinds 0 (t1.tail.length + 1) [] t1.tail with
    | .inl e => .inl e
    | .inr (ss, t2) => .inr ((ls, ss), t2)
def pHandler (ts : List Tok) : Rz (Nm × Nm × Nm × Nm) := match pName ts with
  | .inl e => .inl e
  | .inr (a, t1) => match pName t1 with
    | .inl e => .inl e
    | .inr (b, t2) => match pName t2 with
      | .inl e => .inl e
      | .inr (g, t3) => match (if isWd nAny t3 then (.inr (nAny, t3.tail) : Rz Nm) else pCls t3) with
        | .inl e => .inl e
        | .inr (k, t4) => if (hd t4).1 = 0 then .inr ((a, b, g, k), t4) else .inl (er t4)
/-! a method while its lines come -/
abbrev PI : Type := Nat × Opr × Option (List Kd × List Kd) × Nat
abbrev PH : Type := Nm × Nm × Nm × Nm × Nat
abbrev Lb : Type := Nm × Nat × Nat
/-- head, code, handlers, labels, the frame in front of the next instruction -/
abbrev PM : Type := Mth × List PI × List PH × List Lb × Option (List Kd × List Kd × Nat)
/-- where a label is -/
def lbl : List Lb → Nm → Option Nat
  | [], _ => none
  | l :: ls, nm => if l.1 = nm then some l.2.1 else lbl ls nm
def minL : List Nat → Option Nat
  | [] => none
  | a :: l => match minL l with
    | none => some a
    | some b => some (min a b)
/-- lines of labels that were told before -/
def dupLb : List Nm → List Lb → List Nat
  | _, [] => []
  | seen, l :: ls => (if l.1 ∈ seen then [l.2.2] else []) ++ dupLb (seen ++ [l.1]) ls
/-- a label that is used: is it nowhere, or behind the last instruction where it mayn't be -/
def bad9 (ls : List Lb) (n : Nat) (nm : Nm) (may : Bool) : Bool := match lbl ls nm with
  | none => true
  | some k => decide (k = n) && !may
def lines9 (p : PM) : List Nat :=
  dupLb [] p.2.2.2.1 ++ (p.2.1.flatMap (fun i => if i.2.1.2.2.1.any (fun nm => bad9 p.2.2.2.1 p.2.1.length nm false) then [i.2.2.2] else []) ++
    (p.2.2.1.flatMap (fun h => if bad9 p.2.2.2.1 p.2.1.length h.1 false || (bad9 p.2.2.2.1 p.2.1.length h.2.1 true || bad9 p.2.2.2.1 p.2.1.length h.2.2.1 false) then [h.2.2.2.2] else []) ++
      (match p.2.2.2.2 with | none => [] | some f => [f.2.2])))
def lbN (ls : List Lb) (nm : Nm) : Nat := (lbl ls nm).getD 0
def lines10 (p : PM) : List Nat := p.2.2.1.flatMap (fun h => if lbN p.2.2.2.1 h.2.1 ≤ lbN p.2.2.2.1 h.1 then [h.2.2.2.2] else [])
/-- an instruction whose labels are found -/
def insOf (ls : List Lb) (i : PI) : Ins := (i.1, i.2.1.1, i.2.1.2.1, i.2.1.2.2.1.map (lbN ls), i.2.1.2.2.2.1, i.2.1.2.2.2.2.1, i.2.1.2.2.2.2.2.1, i.2.1.2.2.2.2.2.2, i.2.2.1)
def hndOf (ls : List Lb) (h : PH) : Hnd := (lbN ls h.1, lbN ls h.2.1, lbN ls h.2.2.1, h.2.2.2.1)
def mthOf (p : PM) : Mth := (p.1.1, p.1.2.1, p.1.2.2.1, p.1.2.2.2.1, p.1.2.2.2.2.1, p.1.2.2.2.2.2.1, p.2.1.map (insOf p.2.2.2.1), p.2.2.1.map (hndOf p.2.2.2.1))
/-- the end of a method, told by a line at a place -/
def endM (line : Nat) (p : PM) : (Nat × Nat) ⊕ Mth := match minL (lines9 p) with
  | some l => .inl (9, l)
  | none => match minL (lines10 p) with
    | some l => .inl (10, l)
    | none => if p.2.1.length = 0 then .inl (8, line) else .inr (mthOf p)
def addM (W : List Cls) (m : Mth) : List Cls := W.set (W.length - 1) ((gc W (W.length - 1)).1, (gc W (W.length - 1)).2.1, (gc W (W.length - 1)).2.2.1, (gc W (W.length - 1)).2.2.2.1, (gc W (W.length - 1)).2.2.2.2.1, (gc W (W.length - 1)).2.2.2.2.2 ++ [m])
/-- where a text is: 0 between classes, 1 in a class, 2 ahead of a method's room, 3 in its code; classes; the method -/
abbrev PSt : Type := Nat × List Cls × PM
abbrev noM : PM := (([], [], (0, []), 0, 0, 0, [], []), [], [], [], none)
def bLine (br : Int32) (W : List Cls) (l : List Tok) : (Nat × Nat) ⊕ PSt :=
  if isWd nField l then (match pField l.tail with
    | .inl e => .inl e
    | .inr ((bits, own, κ, v, has), _) => if rulF br (gc W (W.length - 1)) bits own κ has = 99 then .inr (1, addF W (W.length - 1) (own, κ, bits, v, has), noM) else .inl (rulF br (gc W (W.length - 1)) bits own κ has, (hd l).2.2.2))
  else if isWd nMethod l then (match pMethod l.tail with
    | .inl e => .inl e
    | .inr ((bits, own, ks, κ), _) => if rulM br (gc W (W.length - 1)) bits own ks κ = 99 then (if bits &&& 8 = 0 then .inr (2, W, (own, ks, κ, bits, 0, 0, [], []), [], [], [], none) else .inr (1, addM W (own, ks, κ, bits, 0, 0, [], []), noM)) else .inl (rulM br (gc W (W.length - 1)) bits own ks κ, (hd l).2.2.2))
  else if isWd nEnd l then (if (hd l.tail).1 = 0 then .inr (0, W, noM) else .inl (er l.tail))
  else .inl (er l)
def cLine (br : Int32) (W : List Cls) (l : List Tok) : (Nat × Nat) ⊕ PSt := match pClass l with
  | .inl e => .inl e
  | .inr ((bits, own, par, fs), _) => if rulC br W bits own par fs = 99 then .inr (1, W ++ [(own, par, fs, bits, [], [])], noM) else .inl (rulC br W bits own par fs, (hd l).2.2.2)
def rLine (W : List Cls) (p : PM) (l : List Tok) : (Nat × Nat) ⊕ PSt := match pRoom l with
  | .inl e => .inl e
  | .inr ((a, b), _) => if b < Int32.ofNat (p.1.2.1.length + (if p.1.2.2.2.1 &&& 1 = 0 then 1 else 0)) then .inl (13, (hd l).2.2.2) else .inr (3, W, (p.1.1, p.1.2.1, p.1.2.2.1, p.1.2.2.2.1, a, b, [], []), [], [], [], none)
/-- a line of code that ends no method -/
def iLine (W : List Cls) (p : PM) (l : List Tok) : (Nat × Nat) ⊕ PSt := match pLabels (l.length + 1) [] l with
  | (ls, t1) => if ls ≠ [] ∧ (hd t1).1 = 0 then .inr (3, W, p.1, p.2.1, p.2.2.1, p.2.2.2.1 ++ ls.map (fun nm => (nm, p.2.1.length, (hd l).2.2.2)), p.2.2.2.2)
    else match pInstr t1 with
      | .inl e => .inl e
      | .inr ((o, x), _) => if p.2.1.length = 80 ∨ 6 < x.2.2.2.2.2.1.length then .inl (12, (hd l).2.2.2) else .inr (3, W, p.1, p.2.1 ++ [(o, x, p.2.2.2.2.map (fun f => (f.1, f.2.1)), (hd l).2.2.2)], p.2.2.1, p.2.2.2.1 ++ ls.map (fun nm => (nm, p.2.1.length, (hd l).2.2.2)), none)
def kLine (br : Int32) (W : List Cls) (p : PM) (l : List Tok) : (Nat × Nat) ⊕ PSt :=
  if (isWd nField l || (isWd nMethod l || isWd nEnd l)) && decide ((hd l.tail).1 ≠ 58) then (match endM (hd l).2.2.2 p with
    | .inl e => .inl e
    | .inr m => bLine br (addM W m) l)
  else if isWd nFrame l && decide ((hd l.tail).1 ≠ 58) then (if p.2.2.2.2.isSome then .inl (er l) else match pFrame l.tail with
    | .inl e => .inl e
    | .inr ((ls, ss), _) => .inr (3, W, p.1, p.2.1, p.2.2.1, p.2.2.2.1, some (ls, ss, (hd l).2.2.2)))
  else if isWd nHandler l && decide ((hd l.tail).1 ≠ 58) then (match pHandler l.tail with
    | .inl e => .inl e
    | .inr ((a, b, g, k), _) => if p.2.2.1.length = 8 then .inl (12, (hd l).2.2.2) else .inr (3, W, p.1, p.2.1, p.2.2.1 ++ [(a, b, g, k, (hd l).2.2.2)], p.2.2.2.1, p.2.2.2.2))
  else iLine W p l
def stp (br : Int32) (st : PSt) (l : List Tok) : (Nat × Nat) ⊕ PSt :=
  if st.1 = 0 then cLine br st.2.1 l else if st.1 = 1 then bLine br st.2.1 l else if st.1 = 2 then rLine st.2.1 st.2.2 l else kLine br st.2.1 st.2.2 l
/-- lines of a text, to the end -/
def runL (br : Int32) (n : Nat) : PSt → List (List Tok) → (Nat × Nat) ⊕ List Cls
  | st, [] => if st.1 = 0 then .inr st.2.1 else .inl (1, n)
  | st, l :: ls => match stp br st l with
    | .inl e => .inl e
    | .inr st' => runL br n st' ls
