/-! B: linking: the spec -/
/-- how many classes are reached from one -/
noncomputable def rkL (W : List Cls) (c : Nat) : List Nat := (List.range W.length).filter (fun d => @decide (Reach (edge true W) c d) (Classical.propDecidable _))
noncomputable def rk (W : List Cls) (c : Nat) : Nat := (rkL W c).length
theorem mem_rkL {W : List Cls} {c d : Nat} : d ∈ rkL W c ↔ d < W.length ∧ Reach (edge true W) c d := by
  unfold rkL
  rw [List.mem_filter, List.mem_range, @decide_eq_true_iff (Reach (edge true W) c d) (Classical.propDecidable _)]
theorem rkL_nd (W : List Cls) (c : Nat) : (rkL W c).Nodup := List.Nodup.sublist List.filter_sublist List.nodup_range
theorem rk_le {W : List Cls} {c : Nat} : rk W c ≤ W.length := by
  have := nd_leN (rkL_nd W c) (B := List.range W.length) (fun d hd => List.mem_range.mpr (mem_rkL.mp hd).1)
  rw [List.length_range] at this; exact this
theorem rk_lt {W : List Cls} {c d : Nat} (hc : c < W.length) (he : edge true W c d) (hr : ¬ ring W c) : rk W d < rk W c := by
  have hm : c ∈ rkL W c := mem_rkL.mpr ⟨hc, Reach.rf _ _⟩
  have h1 := nd_leN (rkL_nd W d) (B := (rkL W c).erase c) (fun x hx => by
    obtain ⟨x1, n, x2⟩ := mem_rkL.mp hx
    refine (List.mem_erase_of_ne (fun (e : x = c) => hr ⟨d, he, n, e ▸ x2⟩)).mpr (mem_rkL.mpr ⟨x1, n + 1, d, he, x2⟩))
  rw [List.length_erase_of_mem hm] at h1
  have := List.length_pos_of_mem hm
  unfold rk
  omega
/-- the place of the class's own method that is like another one -/
def ownI (x : Mth) : Nat → List Mth → Option Nat
  | _, [] => none
  | k, y :: ys => if y.1 = x.1 ∧ y.2.1 = x.2.1 ∧ y.2.2.1 = x.2.2.1 then some k else ownI x (k + 1) ys
def plainM (x : Mth) : Bool := decide (x.1 ≠ nMake) && (decide (x.1 ≠ nStart) && decide (x.2.2.2.1 &&& 5 = 0))
/-- a final one above -/
def chUp (W : List Cls) (x : Mth) : Nat → Option Nat → Bool
  | 0, _ => false
  | _ + 1, none => false
  | n + 1, some u => if u = 0 then false else (match ownI x 0 (gc W u).2.2.2.2.2 with
      | none => false
      | some j => decide ((gmt (gc W u) j).2.2.2.1 &&& 7 = 2)) || chUp W x n (upW W u)
def chFin (W : List Cls) (c : Nat) : Bool := (gc W c).2.2.2.2.2.any (fun x => plainM x && chUp W x 52 (upW W c))
/-- links, and where checking failed latest -/
abbrev LkS : Type := (Nat → Int32) × Int32 × Int32 × Int32
abbrev LSm (L : Nat → Int32) (c : Nat) (r : Int32) : Nat → Int32 := fun d => if d = c then r else L d
/-- faces that are not there, or are none: 2211, 2315 -/
def badF (W : List Cls) : List Nm → Option Int32
  | [] => none
  | f :: fs => match fnd W f with
    | none => some 2211
    | some d => if isFc W d then badF W fs else some 2315
def lkFs (K : LkS → Nat → Int32 × LkS) (W : List Cls) : List Nm → LkS → Option Int32 × LkS
  | [], s => (none, s)
  | f :: fs, s => match fnd W f with
    | none => (some 0, s)
    | some d => if (K s d).1 = 1 then lkFs K W fs (K s d).2 else (some (K s d).1, (K s d).2)
/-- behind parent and faces -/
def lkEnd (br : Int32) (W : List Cls) (c : Nat) (s : LkS) : Int32 × LkS :=
  if brk br 4 && chFin W c then (2515, s) else match chkC W c 0 (gc W c).2.2.2.2.2 with
    | none => (1, s)
    | some (j, r, a) => (100 * Int32.ofNat r + 17, s.1, Int32.ofNat c, Int32.ofNat j, Int32.ofNat a)
noncomputable def ringB (W : List Cls) (c : Nat) : Bool := @decide (ring W c) (Classical.propDecidable _)
theorem ringB_iff {W : List Cls} {c : Nat} : ringB W c = true ↔ ring W c := @decide_eq_true_iff (ring W c) (Classical.propDecidable _)
noncomputable def askF (br : Int32) (W : List Cls) (K : LkS → Nat → Int32 × LkS) (s : LkS) (c : Nat) : Int32 × LkS :=
  if ringB W c then (2416, s) else match fnd W (gc W c).2.1 with
    | none => (2011, s)
    | some p => if brk br 3 && decide (¬ (gc W p).2.2.2.1 &&& 5 = 0) then (2115, s) else match badF W (gc W c).2.2.1 with
      | some r => (r, s)
      | none => if (K s p).1 = 1 then (match lkFs K W (gc W c).2.2.1 (K s p).2 with
          | (some r, s2) => (r, s2)
          | (none, s2) => lkEnd br W c s2) else K s p
noncomputable def lkN (br : Int32) (W : List Cls) : Nat → LkS → Nat → Int32 × LkS
  | 0, s, _ => (0, s)
  | n + 1, s, c => if s.1 c = 0 then ((askF br W (lkN br W n) s c).1, LSm (askF br W (lkN br W n) s c).2.1 c (askF br W (lkN br W n) s c).1, (askF br W (lkN br W n) s c).2.2) else (s.1 c, s)
/-- what links say -/
def LInv (W : List Cls) (L : Nat → Int32) : Prop := ((∀ m ∈ (gc W 0).2.2.2.2.2, m.1 = nMake) ∧ (gc W 0).2.1 = [] ∧ (gc W 0).2.2.1 = [] ∧ 21 ≤ W.length ∧ ∀ d, d < 21 → L d = 1) ∧ ∀ d, d < W.length → L d = 1 → d = 0 ∨ (¬ ring W d ∧ (∃ p, fnd W (gc W d).2.1 = some p ∧ L p = 1) ∧ ∀ f ∈ (gc W d).2.2.1, ∃ e, fnd W f = some e ∧ L e = 1)
/-- the way up from a linked class is short -/
theorem LInv.up {W : List Cls} {L : Nat → Int32} (h : LInv W L) {d : Nat} (hd : d < W.length) (hl : L d = 1) (h0 : d ≠ 0) : ∃ e, upW W d = some e ∧ e < W.length ∧ (e = 0 ∨ (L e = 1 ∧ rk W e < rk W d)) := by
  rcases h.2 d hd hl with z | ⟨hr, ⟨p, hp, lp⟩, -⟩
  · exact absurd z h0
  unfold upW
  rw [if_neg h0]
  by_cases c1 : isFc W d = true
  · rw [if_pos c1]
    exact ⟨0, rfl, by omega, Or.inl rfl⟩
  · rw [if_neg c1]
    exact ⟨p, hp, fnd_lt hp, Or.inr ⟨lp, rk_lt hd ⟨0, Nat.zero_le _, hp⟩ hr⟩⟩
