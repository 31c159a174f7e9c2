/-! THE MACHINE IN THE TWIN: how it lies in memory -/
/-- references to faults are 200 more in the twin -/
def tr (b : Bool) (x : Int32) : Int32 := if b = true ∧ 800 < x.toNatClampNeg then x + 200 else x
theorem tr_f (x : Int32) : tr false x = x := by unfold tr; rw [if_neg (fun z => by cases z.1)]
theorem tr_n {b : Bool} {n : Nat} (h : n < 2000000) : tr b (Int32.ofNat n) = if b = true ∧ 800 < n then Int32.ofNat (n + 200) else Int32.ofNat n := by
  unfold tr
  rw [oN_tnc (by omega)]
  by_cases c : b = true ∧ 800 < n
  · rw [if_pos c, if_pos c]; exact oN_add n 200
  · rw [if_neg c, if_neg c]
theorem tr_0 {b : Bool} : tr b 0 = 0 := by
  have := tr_n (b := b) (n := 0) (by omega)
  rw [if_neg (fun z => by omega)] at this
  exact this
/-- states of classes, starts -/
def uC (W : List Cls) (w : Nat) (s : Ms) (M : Mem) : Prop := (mL M 164 w = 51 ∧ mL M 163 w = 51) ∧ (∀ k, k < W.length → mI M 137 w k = zC s k ∧ (zC s k = 1 → mI M 164 w k = zO s k)) ∧ mI M 12 w 60 = Int32.ofNat (zB s).length ∧ ∀ i, i < (zB s).length → mI M 163 w i = Int32.ofNat ((zB s).getD i 0)
/-- fixed fields -/
def uS (W : List Cls) (w : Nat) (s : Ms) (M : Mem) : Prop := ∀ c f, c < W.length → f < (gc W c).2.2.2.2.1.length → ¬ (gfl (gc W c) f).2.2.1 &&& 1 = 0 → mI M 143 w (8 * c + f) = tr (decide ((gfl (gc W c) f).2.1.1 ≠ 0)) (zS s c f)
/-- objects -/
def uO (w : Nat) (s : Ms) (r : Nat) (M : Mem) : Prop := mI M 157 w r = oCl (gOb s r).1 ∧ mI M 158 w r = Int32.ofNat (gOb s r).2.1 ∧ mI M 159 w r = Int32.ofNat (gOb s r).2.2.1 ∧ mI M 160 w r = (gOb s r).2.2.2.1 ∧ ((gOb s r).2.2.2.1 ≠ 0 → mI M 162 w r = (gOb s r).2.2.2.2)
def uH (w : Nat) (s : Ms) (M : Mem) : Prop := (mL M 157 w = 801 ∧ mL M 158 w = 801 ∧ mL M 159 w = 801 ∧ mL M 160 w = 801 ∧ mL M 162 w = 801 ∧ mL M 524 w = 801 ∧ mL M 161 w = 4000) ∧ (mI M 12 w 50 = Int32.ofNat (zH s).1 ∧ mI M 12 w 52 = Int32.ofNat (zH s).2.1) ∧ (∀ r, r < 801 → mI M 524 w r = b2 (thr s r)) ∧ (∀ r, thr s r = true → uO w s r M) ∧ ∀ i, i < (zH s).2.1 → mI M 161 w i = tr (decide ((gKd s i).1 ≠ 0)) (gCell s i)
/-- faults -/
abbrev sFc (w : Nat) : Sl := (12, w, 53, 300)
abbrev sFu (w : Nat) : Sl := (12, w, 54, 300)
abbrev sFl' (w : Nat) : Sl := (12, w, 55, 300)
abbrev sFo (w : Nat) : Sl := (12, w, 58, 300)
abbrev XF (w : Nat) : List Sl := [sFc w, sFu w, sFl' w, sFo w]
def uF (G : List Sl) (w F : Nat) (s : Ms) (M : Mem) : Prop := mI M 12 w 56 = Int32.ofNat (zF s).length ∧ (∀ x ∈ XF w, x ∈ G ∧ (zF s).length ≤ rl M x ∧ rl M x ≤ 2 * F) ∧ ∀ i, i < (zF s).length → rd M (sFc w) i = Int32.ofNat (gFt s i).1 ∧ rd M (sFu w) i = (gFt s i).2.1 ∧ rd M (sFl' w) i = (gFt s i).2.2.1 ∧ ((gFt s i).2.2.1 ≠ 0 → rd M (sFo w) i = (gFt s i).2.2.2)
/-- the trace -/
def oJt (k : Nat) (o : Option Nat) : Int32 := match o with
  | none => (-1 : Int32) - Int32.ofNat k
  | some j => Int32.ofNat (12 * k + j)
def uE (w : Nat) (s : Ms) (M : Mem) : Prop := (mL M 165 w = 400 ∧ mL M 166 w = 400 ∧ mL M 167 w = 400 ∧ mL M 168 w = 400) ∧ mI M 12 w 70 = Int32.ofNat (zE s).length ∧ ∀ i, i < (zE s).length → mI M 165 w i = Int32.ofNat ((zE s).getD i (0, 0, 0, none, 0)).1 ∧ mI M 166 w i = Int32.ofNat ((zE s).getD i (0, 0, 0, none, 0)).2.1 ∧ mI M 167 w i = oJt ((zE s).getD i (0, 0, 0, none, 0)).2.2.1 ((zE s).getD i (0, 0, 0, none, 0)).2.2.2.1 ∧ mI M 168 w i = Int32.ofNat ((zE s).getD i (0, 0, 0, none, 0)).2.2.2.2
def uD (w : Nat) (s : Ms) (M : Mem) : Prop := mL M 169 w = 62 ∧ ∀ o, o < 62 → mI M 169 w o = zD s o
/-- turns; x: what is left of the turn -/
def uT (w : Nat) (x : Int32) (s : Ms) (M : Mem) : Prop := mI M 12 w 63 = Int32.ofNat (zT s).1 ∧ mI M 12 w 65 = Int32.ofNat (zT s).2.2 ∧ mI M 12 w 64 = x
/-- units -/
def unT (L : Nat) (M : Mem) : List Un → Prop
  | [] => True
  | .inl f :: U => ((mI M 171 L U.length = Int32.ofNat (frs U) ∧ mI M 172 L U.length = 0) ∧ mI M 173 L (frs U) = Int32.ofNat (12 * f.1 + f.2.1) ∧ mI M 174 L (frs U) = Int32.ofNat f.2.2.1 ∧ mI M 175 L (frs U) = Int32.ofNat f.2.2.2.2.length) ∧ ((∀ k, k < 20 → mI M 176 L (44 * frs U + k) = tr (lv f.2.2.2.1 k).2 (lv f.2.2.2.1 k).1 ∧ mI M 525 L (44 * frs U + k) = b2 (lv f.2.2.2.1 k).2) ∧ ∀ k, k < f.2.2.2.2.length → mI M 176 L (44 * frs U + 20 + k) = tr (lv f.2.2.2.2 k).2 (lv f.2.2.2.2 k).1 ∧ mI M 525 L (44 * frs U + 20 + k) = b2 (lv f.2.2.2.2 k).2) ∧ unT L M U
  | .inr k :: U => (mI M 171 L U.length = (-1 : Int32) - Int32.ofNat k.1 ∧ mI M 172 L U.length = if k.2 = true then 2 else 1) ∧ unT L M U
def uW (l : Ln) (L : Nat) (M : Mem) : Prop := match lWt l with
  | none => mI M 13 L 1 = 0
  | some (.inl r) => mI M 13 L 1 = 1 ∧ mI M 13 L 2 = tr true r
  | some (.inr k) => mI M 13 L 1 = 1 ∧ mI M 13 L 2 = (-1 : Int32) - Int32.ofNat k
/-- a thread, its units apart -/
def uL (A : List Nm) (S : List Sg) (L : Nat) (l : Ln) (M : Mem) : Prop := (mL M 170 L = 6 ∧ mL M 171 L = 99 ∧ mL M 172 L = 99 ∧ mL M 173 L = 40 ∧ mL M 174 L = 40 ∧ mL M 175 L = 40 ∧ mL M 176 L = 1760 ∧ mL M 525 L = 1760) ∧ (mI M 13 L 0 = (if l.1 = true then Int32.ofNat (lSt l) else -2) ∧ mI M 13 L 3 = Int32.ofNat (lSp l)) ∧ (mI M 13 L 10 = (lRs l).1 ∧ mI M 13 L 11 = (lRs l).2.1 ∧ mI M 13 L 12 = (lRs l).2.2.1 ∧ mI M 13 L 13 = (lRs l).2.2.2) ∧ uW l L M ∧ (lSt l = 1 → l.1 = true ∧ (mI M 13 L 5 = nc A (lCa l).1 ∧ (lCa l).1 ∈ A) ∧ mI M 13 L 6 = nc A (lCa l).2.1.1 ∧ mI M 13 L 7 = Int32.ofNat (S.idxOf (sg A (lCa l).2.1.2.1 (lCa l).2.1.2.2.1)) ∧ xOk A S (lCa l).2.1 ∧ ∀ k, k < (lCa l).2.1.2.1.length → mI M 170 L k = (lCa l).2.2.getD k 0)
def uU (L : Nat) (U : List Un) (M : Mem) : Prop := mI M 13 L 16 = Int32.ofNat U.length ∧ mI M 13 L 22 = Int32.ofNat (frs U) ∧ unT L M U
/-- the lowest unit is a frame -/
def botF : List Un → Bool
  | [] => false
  | [.inl _] => true
  | [.inr _] => false
  | _ :: u :: U => botF (u :: U)
def uK (L : Nat) (l : Ln) (M : Mem) : Prop := (mL M 170 L = 6 ∧ mL M 171 L = 99 ∧ mL M 172 L = 99 ∧ mL M 173 L = 40 ∧ mL M 174 L = 40 ∧ mL M 175 L = 40 ∧ mL M 176 L = 1760 ∧ mL M 525 L = 1760) ∧ mI M 13 L 0 = (if l.1 = true then Int32.ofNat (lSt l) else -2) ∧ uW l L M ∧ (lSt l = 1 → l.1 = true)
def uN (A : List Nm) (S : List Sg) (w t : Nat) (l : Ln) (M : Mem) : Prop := uK (3 * w + t) l M ∧ (l.1 = true → uL A S (3 * w + t) l M ∧ uU (3 * w + t) (lU l) M ∧ (lSt l = 1 → mI M 13 (3 * w + t) 4 = 0 ∨ botF (lU l) = true))
/-- what LKt looks at; fixed fields and states of classes apart -/
def mtOk (F : Nat) : Bool := ((((List.range 26).all (fun j => (Nat.beq j 7 || (Nat.beq j 13 || !F.testBit (130 + j))) && !F.testBit (5130 + j)) && (!F.testBit 523 && !F.testBit 5523)) && [1, 2, 35, 37, 41, 43].all (fun k => !F.testBit (cd 12 k))) && (!F.testBit (cd 11 45) && (sOk F && kOk F))) && [cd 11 4, 105, 5105, cd 11 36, cd 11 37, 106, 5106, cd 11 38, 156, 5156, 5111, 5212, 5112, cd 11 77].all (fun b => !F.testBit b)
section
variable {G : List Sl} {US : UST} {A : List Nm} {S : List Sg} {W : List Cls} {w c k : Nat} {br : Int32} {nq nl nf nk : Nat} {M M' : Mem} {q : LkS} {F : Nat}
theorem mtOk_row (h : mtOk F = true) {f : Nat} (hf : tFm f = true) : (f ≠ 137 → f ≠ 143 → F.testBit f = false) ∧ F.testBit (5000 + f) = false := by
  unfold mtOk at h
  simp only [Bool.and_eq_true, Bool.or_eq_true, Bool.not_eq_true', List.all_eq_true, List.mem_range] at h
  obtain ⟨⟨⟨a, b1, b2⟩, -⟩, -⟩ := h.1
  unfold tFm at hf
  rw [Bool.or_eq_true, Bool.and_eq_true] at hf
  rcases hf with z | z
  · have z1 := Nat.ble_eq.mp z.1
    have z2 := Nat.ble_eq.mp z.2
    have := a (f - 130) (by omega)
    rw [show 130 + (f - 130) = f by omega, show 5130 + (f - 130) = 5000 + f by omega] at this
    refine ⟨fun n1 n2 => ?_, this.2⟩
    rcases this.1 with y | y | y
    · have := Nat.eq_of_beq_eq_true y; omega
    · have := Nat.eq_of_beq_eq_true y; omega
    · exact y
  · have := Nat.eq_of_beq_eq_true z
    subst this
    exact ⟨fun _ _ => b1, b2⟩
theorem LKt.mfr (h : LKt G US A S W w br nq nl nf nk q M) (hf : Fr F M M') (hF : mtOk F = true := by rfl) : LKt G US A S W w br nq nl nf nk q M' := by
  have hr := fun {f : Nat} (z : tFm f = true) => mtOk_row hF z
  unfold mtOk at hF
  simp only [Bool.and_eq_true, Bool.not_eq_true', List.all_eq_true, List.all_cons, List.all_nil, and_true] at hF
  obtain ⟨⟨⟨-, g⟩, g45, s1, s3⟩, b1, b2, b3, b4, b5, b6, b7, b8, b9, b10, b11, b12, b13, b14⟩ := hF
  obtain ⟨⟨⟨h1, h2, h3, h4⟩, hx, h7⟩, hl, ⟨k3, k4, k5, k6⟩, ⟨k7, k8, k9⟩, k10⟩ := h
  have g' : ∀ k ∈ [1, 2, 35, 37, 41, 43], F.testBit (cd 12 k) = false := fun k hk => by
    simp only [List.mem_cons, List.not_mem_nil, or_false] at hk
    rcases hk with e | e | e | e | e | e <;> subst e
    · exact g.1
    · exact g.2.1
    · exact g.2.2.1
    · exact g.2.2.2.1
    · exact g.2.2.2.2.1
    · exact g.2.2.2.2.2
  have r20 : ∀ f, tFm f = true → Nat.ble 20 f = true := fun f z => by
    unfold tFm at z
    rw [Bool.or_eq_true, Bool.and_eq_true] at z
    rcases z with z | z
    · have := Nat.ble_eq.mp z.1; exact Nat.ble_eq.mpr (by omega)
    · have := Nat.eq_of_beq_eq_true z; exact Nat.ble_eq.mpr (by omega)
  refine ⟨⟨⟨h1.ofL (fun f z => ⟨fun n1 _ n3 k => hf.Ia (r20 f z) ((hr z).1 n1 n3) w k, hf.L (hr z).2 w⟩) (fun k hk => hf.I (g' k hk) w) (hf.R g45 0) (fun x hx' => rd_fr hf hx.1 s1 (hx.2.2.2.1 x hx')), h2.fr hf hx s1 b1 b2 b3 b4 b5 b6 b7 b8, h3.fr hf s3, ((GF.rf h4).fr (X := []) hf hx.1 s1).1⟩, hx, h7⟩, fun c hc => (hf.Ia rfl ((hr (f := 138) rfl).1 (by omega) (by omega)) w c).trans (hl c hc), ⟨(hf.L b10 w).trans k3, (hf.Ia rfl b9 w 0).trans k4, (hf.Ia rfl b9 w 1).trans k5, (hf.Ia rfl b9 w 2).trans k6⟩, ⟨(hf.L b11 0).trans k7, (hf.L b12 0).trans k8, (hf.L b13 0).trans k9⟩, (hf.I b14 0).trans k10⟩
end
