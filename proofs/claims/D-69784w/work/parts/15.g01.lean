/-! THE MACHINE IN THE WORKS: how it lies in memory -/
def oCl (o : Option Nat) : Int32 := match o with
  | none => -1
  | some d => Int32.ofNat d
def okF (S : Nat) (l : List Nat) : Bool := l.all (fun b => !S.testBit b)
theorem okF_in {S : Nat} {l : List Nat} (h : okF S l = true) {b : Nat} (hb : b ∈ l) : S.testBit b = false := by
  unfold okF at h
  rw [List.all_eq_true] at h
  have := h b hb
  simpa using this
/-- states of classes, starts -/
def rC (W : List Cls) (w : Nat) (s : Ms) (M : Mem) : Prop := (mL M 86 w = 51 ∧ mL M 85 w = 51) ∧ (∀ k, k < W.length → mI M 46 w k = zC s k ∧ (zC s k = 1 → mI M 86 w k = zO s k)) ∧ mI M 6 w 26 = Int32.ofNat (zB s).length ∧ ∀ i, i < (zB s).length → mI M 85 w i = Int32.ofNat ((zB s).getD i 0)
/-- fixed fields -/
def rS (W : List Cls) (w : Nat) (s : Ms) (M : Mem) : Prop := ∀ c f, c < W.length → f < (gc W c).2.2.2.2.1.length → ¬ (gfl (gc W c) f).2.2.1 &&& 1 = 0 → mI M 54 w (foff W c + f) = zS s c f
/-- objects -/
def rO (w : Nat) (s : Ms) (r : Nat) (M : Mem) : Prop := mI M 79 w r = oCl (gOb s r).1 ∧ mI M 80 w r = Int32.ofNat (gOb s r).2.1 ∧ mI M 81 w r = Int32.ofNat (gOb s r).2.2.1 ∧ mI M 301 (6 * w + 0) r = (gOb s r).2.2.2.1 ∧ ((gOb s r).2.2.2.1 ≠ 0 → mI M 301 (6 * w + 1) r = (gOb s r).2.2.2.2)
def rH (w : Nat) (s : Ms) (M : Mem) : Prop := ((mL M 79 w = 801 ∧ mL M 80 w = 801 ∧ mL M 81 w = 801 ∧ mL M 512 w = 802 ∧ mL M 84 w = 4000) ∧ (mL M 301 (6 * w + 0) = 801 ∧ mL M 301 (6 * w + 1) = 801)) ∧ (mI M 6 w 6 = Int32.ofNat (zH s).1 ∧ mI M 6 w 7 = Int32.ofNat (zH s).2.1) ∧ (∀ r, r < 802 → mI M 512 w r = b2 (thr s r)) ∧ (∀ r, thr s r = true → rO w s r M) ∧ (∀ i, i < (zH s).2.1 → mI M 84 w i = gCell s i) ∧ ∃ l m, (mI M 6 w 14 = Int32.ofNat l ∧ mI M 6 w 15 = Int32.ofNat m) ∧ (1 ≤ l ∧ l ≤ 801 ∧ m ≤ 800) ∧ (∀ r, 1 ≤ r → r < l → thr s r = true) ∧ ∀ r, thr s r = true → r ≤ m
/-- faults -/
def rFt (w B F : Nat) (s : Ms) (M : Mem) : Prop := mI M 6 w 21 = Int32.ofNat (zF s).length ∧ ∃ (x : Nat → Nat) (n : Nat), ((zF s).length ≤ n ∧ 64 ≤ n ∧ (n = 64 ∨ n ≤ 2 * F) ∧ mS M ≤ B + 8 * n) ∧ (∀ k, k < 4 → mR M 6 w (22 + k) = some (301, x k) ∧ mL M 301 (x k) = n ∧ 24 ≤ x k ∧ (301, x k) ∈ mN M) ∧ (∀ k l, k < 4 → l < 4 → x k = x l → k = l) ∧ ∀ i, i < (zF s).length → mI M 301 (x 0) i = Int32.ofNat (gFt s i).1 ∧ mI M 301 (x 1) i = (gFt s i).2.1 ∧ mI M 301 (x 2) i = (gFt s i).2.2.1 ∧ mI M 301 (x 3) i = (gFt s i).2.2.2
/-- the trace -/
def oJ (o : Option Nat) : Int32 := match o with
  | none => -2
  | some j => Int32.ofNat j
def rE (w : Nat) (s : Ms) (M : Mem) : Prop := mL M 87 w = 2000 ∧ mI M 6 w 29 = Int32.ofNat (zE s).length ∧ ∀ i, i < (zE s).length → mI M 87 w (5 * i) = Int32.ofNat ((zE s).getD i (0, 0, 0, none, 0)).1 ∧ mI M 87 w (5 * i + 1) = Int32.ofNat ((zE s).getD i (0, 0, 0, none, 0)).2.1 ∧ mI M 87 w (5 * i + 2) = Int32.ofNat ((zE s).getD i (0, 0, 0, none, 0)).2.2.1 ∧ mI M 87 w (5 * i + 3) = oJ ((zE s).getD i (0, 0, 0, none, 0)).2.2.2.1 ∧ mI M 87 w (5 * i + 4) = Int32.ofNat ((zE s).getD i (0, 0, 0, none, 0)).2.2.2.2
/-- instructions that were done, steps that are left (C at the beginning) -/
def rD (w C : Nat) (s : Ms) (M : Mem) : Prop := mL M 88 w = 62 ∧ (∀ o, o < 62 → mI M 88 w o = zD s o) ∧ (mI M 6 w 35 = 1 ∨ (mI M 6 w 35 = 0 ∧ zK s ≤ C ∧ mI M 10 0 8 = Int32.ofNat (C - zK s)))
def rT (w : Nat) (s : Ms) (M : Mem) : Prop := mI M 6 w 3 = Int32.ofNat (zT s).1 ∧ mI M 6 w 4 = Int32.ofNat (zT s).2.1 ∧ mI M 6 w 5 = Int32.ofNat (zT s).2.2
/-- a unit -/
def unR (W : List Cls) (L f : Nat) (M : Mem) : Un → Prop
  | .inl (c, j, a, lo, st) => (mI M 89 L f = Int32.ofNat (moff W c + j) ∧ mI M 90 L f = Int32.ofNat a ∧ mI M 91 L f = Int32.ofNat st.length ∧ mI M 92 L f = -1) ∧ (∀ k, k < 20 → mI M 94 L (40 * f + k) = (lv lo k).1 ∧ mI M 514 L (40 * f + k) = b2 (lv lo k).2) ∧ ∀ k, k < st.length → mI M 94 L (40 * f + 20 + k) = (lv st k).1 ∧ mI M 514 L (40 * f + 20 + k) = b2 (lv st k).2
  | .inr (k, own) => mI M 92 L f = Int32.ofNat k ∧ mI M 93 L f = b2 own
def LU (W : List Cls) (L : Nat) (M : Mem) : List Un → Prop
  | [] => True
  | u :: U => unR W L U.length M u ∧ LU W L M U
def rW (l : Ln) (L : Nat) (M : Mem) : Prop := match lWt l with
  | none => mI M 7 L 18 = 0 ∧ mI M 7 L 19 = -1
  | some (.inl r) => mI M 7 L 18 = r ∧ mI M 7 L 19 = -1
  | some (.inr k) => mI M 7 L 18 = 0 ∧ mI M 7 L 19 = Int32.ofNat k
/-- a thread, its units apart -/
def rL (L t : Nat) (l : Ln) (M : Mem) : Prop := ((∀ f, 89 ≤ f → f ≤ 93 → mL M f L = 91) ∧ mL M 94 L = 3640 ∧ mL M 514 L = 3640 ∧ mL M 95 L = 6) ∧ (mI M 7 L 0 = Int32.ofNat t ∧ mI M 7 L 10 = b2 l.1 ∧ mI M 7 L 11 = Int32.ofNat (lSt l) ∧ mI M 7 L 12 = Int32.ofNat (lSp l)) ∧ (mI M 7 L 13 = (lRs l).1 ∧ mI M 7 L 14 = (lRs l).2.1 ∧ mI M 7 L 15 = (lRs l).2.2.1 ∧ mI M 7 L 16 = (lRs l).2.2.2) ∧ rW l L M ∧ (lSt l = 1 → ∀ k, k < (lCa l).2.1.2.1.length → mI M 95 L k = (lCa l).2.2.getD k 0)
def rU (W : List Cls) (L : Nat) (U : List Un) (M : Mem) : Prop := mI M 7 L 1 = Int32.ofNat U.length ∧ mI M 7 L 2 = Int32.ofNat (frs U) ∧ LU W L M U
def rN (A : List Nm) (W : List Cls) (w t : Nat) (l : Ln) (M : Mem) : Prop := rL (3 * w + t) t l M ∧ rU W (3 * w + t) (lU l) M ∧ (lSt l = 1 → RfX A w t (lCa l).1 (lCa l).2.1 M)
section
variable {A : List Nm} {W : List Cls} {w C B F t L : Nat} {s s' : Ms} {M M' : Mem} {S : Nat} {l : Ln} {U : List Un}
theorem rC.fr (h : rC W w s M) (hf : Fr S M M') (hS : okF S [46, 85, 86, 5085, 5086, cd 6 26] = true := by rfl) : rC W w s M' := by
  obtain ⟨⟨a, b⟩, c, d, e⟩ := h
  have o := fun {b : Nat} (hb : b ∈ [46, 85, 86, 5085, 5086, cd 6 26]) => okF_in hS hb
  refine ⟨⟨(hf.L (f := 86) (o (by simp)) w).trans a, (hf.L (f := 85) (o (by simp)) w).trans b⟩, fun k hk => ?_, (hf.I (o (by simp)) w).trans d, fun i hi => (hf.Ia (f := 85) rfl (o (by simp)) w i).trans (e i hi)⟩
  rw [hf.Ia (f := 46) rfl (o (by simp)), hf.Ia (f := 86) rfl (o (by simp))]; exact c k hk
theorem rS.fr (h : rS W w s M) (hf : Fr S M M') (hS : S.testBit 54 = false := by rfl) : rS W w s M' := fun c f a b d => (hf.Ia (f := 54) rfl hS w _).trans (h c f a b d)
theorem rH.fr (h : rH w s M) (hf : Fr S M M') (hS : okF S [79, 80, 81, 512, 84, 301, 5079, 5080, 5081, 5512, 5084, 5301, cd 6 6, cd 6 7, cd 6 14, cd 6 15] = true := by rfl) : rH w s M' := by
  have o := fun {b : Nat} (hb : b ∈ [79, 80, 81, 512, 84, 301, 5079, 5080, 5081, 5512, 5084, 5301, cd 6 6, cd 6 7, cd 6 14, cd 6 15]) => okF_in hS hb
  obtain ⟨⟨⟨a1, a2, a3, a4, a5⟩, a6, a7⟩, ⟨b1, b2'⟩, c, d, e, ll, m, ⟨g1, g2⟩, g⟩ := h
  refine ⟨⟨⟨(hf.L (f := 79) (o (by simp)) w).trans a1, (hf.L (f := 80) (o (by simp)) w).trans a2, (hf.L (f := 81) (o (by simp)) w).trans a3, (hf.L (f := 512) (o (by simp)) w).trans a4, (hf.L (f := 84) (o (by simp)) w).trans a5⟩, (hf.L (f := 301) (o (by simp)) _).trans a6, (hf.L (f := 301) (o (by simp)) _).trans a7⟩, ⟨(hf.I (o (by simp)) w).trans b1, (hf.I (o (by simp)) w).trans b2'⟩, fun r hr => (hf.Ia (f := 512) rfl (o (by simp)) w r).trans (c r hr), fun r hr => ?_, fun i hi => (hf.Ia (f := 84) rfl (o (by simp)) w i).trans (e i hi), ll, m, ⟨(hf.I (o (by simp)) w).trans g1, (hf.I (o (by simp)) w).trans g2⟩, g⟩
  unfold rO
  rw [hf.Ia (f := 79) rfl (o (by simp)), hf.Ia (f := 80) rfl (o (by simp)), hf.Ia (f := 81) rfl (o (by simp)), hf.Ia (f := 301) rfl (o (by simp)), hf.Ia (f := 301) rfl (o (by simp))]
  exact d r hr
theorem rFt.fr (h : rFt w B F s M) (hf : Fr S M M') (hm : mS M' = mS M) (hS : okF S [301, 5301, cd 6 21, cd 6 22, cd 6 23, cd 6 24, cd 6 25] = true := by rfl) : rFt w B F s M' := by
  have o := fun {b : Nat} (hb : b ∈ [301, 5301, cd 6 21, cd 6 22, cd 6 23, cd 6 24, cd 6 25]) => okF_in hS hb
  obtain ⟨a, x, n, b, c, d, e⟩ := h
  refine ⟨(hf.I (o (by simp)) w).trans a, x, n, by rw [hm]; exact b, fun k hk => ?_, d, fun i hi => ?_⟩
  · obtain ⟨c1, c2, c3, c4⟩ := c k hk
    have hk' : k = 0 ∨ k = 1 ∨ k = 2 ∨ k = 3 := by omega
    refine ⟨?_, (hf.L (f := 301) (o (by simp)) _).trans c2, c3, hf.N c4⟩
    rcases hk' with z | z | z | z <;> subst z <;> exact (hf.R (o (by simp)) w).trans c1
  · rw [hf.Ia (f := 301) rfl (o (by simp)), hf.Ia (f := 301) rfl (o (by simp)), hf.Ia (f := 301) rfl (o (by simp)), hf.Ia (f := 301) rfl (o (by simp))]
    exact e i hi
theorem rE.fr (h : rE w s M) (hf : Fr S M M') (hS : okF S [87, 5087, cd 6 29] = true := by rfl) : rE w s M' := by
  have o := fun {b : Nat} (hb : b ∈ [87, 5087, cd 6 29]) => okF_in hS hb
  obtain ⟨a, b, c⟩ := h
  refine ⟨(hf.L (f := 87) (o (by simp)) w).trans a, (hf.I (o (by simp)) w).trans b, fun i hi => ?_⟩
  rw [hf.Ia (f := 87) rfl (o (by simp)), hf.Ia (f := 87) rfl (o (by simp)), hf.Ia (f := 87) rfl (o (by simp)), hf.Ia (f := 87) rfl (o (by simp)), hf.Ia (f := 87) rfl (o (by simp))]
  exact c i hi
theorem rD.fr (h : rD w C s M) (hf : Fr S M M') (hS : okF S [88, 5088, cd 6 35, cd 10 8] = true := by rfl) : rD w C s M' := by
  have o := fun {b : Nat} (hb : b ∈ [88, 5088, cd 6 35, cd 10 8]) => okF_in hS hb
  exact ⟨(hf.L (f := 88) (o (by simp)) w).trans h.1, fun k hk => (hf.Ia (f := 88) rfl (o (by simp)) w k).trans (h.2.1 k hk), by rw [hf.I (f := 6) (k := 35) (o (by simp)), hf.I (f := 10) (k := 8) (o (by simp))]; exact h.2.2⟩
theorem rT.fr (h : rT w s M) (hf : Fr S M M') (hS : okF S [cd 6 3, cd 6 4, cd 6 5] = true := by rfl) : rT w s M' := by
  have o := fun {b : Nat} (hb : b ∈ [cd 6 3, cd 6 4, cd 6 5]) => okF_in hS hb
  exact ⟨(hf.I (o (by simp)) w).trans h.1, (hf.I (o (by simp)) w).trans h.2.1, (hf.I (o (by simp)) w).trans h.2.2⟩
/-- units below a bound -/
theorem unR.kp {f : Nat} {u : Un} (h : unR W L f M u) (h1 : ∀ g, 89 ≤ g → g ≤ 93 → mI M' g L f = mI M g L f) (h2 : ∀ k, k < 40 → mI M' 94 L (40 * f + k) = mI M 94 L (40 * f + k) ∧ mI M' 514 L (40 * f + k) = mI M 514 L (40 * f + k)) (hs : ∀ c j a lo st, u = .inl (c, j, a, lo, st) → st.length ≤ 20) : unR W L f M' u := by
  cases u with
  | inl g =>
    obtain ⟨c, j, a, lo, st⟩ := g
    obtain ⟨⟨a1, a2, a3, a4⟩, b, c'⟩ := h
    have hs := hs c j a lo st rfl
    refine ⟨⟨(h1 89 (by omega) (by omega)).trans a1, (h1 90 (by omega) (by omega)).trans a2, (h1 91 (by omega) (by omega)).trans a3, (h1 92 (by omega) (by omega)).trans a4⟩, fun k hk => ?_, fun k hk => ?_⟩
    · rw [(h2 k (by omega)).1, (h2 k (by omega)).2]; exact b k hk
    · have := h2 (20 + k) (by omega)
      rw [show 40 * f + (20 + k) = 40 * f + 20 + k by omega] at this
      rw [this.1, this.2]; exact c' k hk
  | inr g =>
    obtain ⟨k, own⟩ := g
    exact ⟨(h1 92 (by omega) (by omega)).trans h.1, (h1 93 (by omega) (by omega)).trans h.2⟩
/-- stacks are small -/
def stk : List Un → Prop
  | [] => True
  | .inl f :: U => f.2.2.2.2.length ≤ 20 ∧ stk U
  | .inr _ :: U => stk U
theorem LU.kp {n : Nat} (h1 : ∀ g f, 89 ≤ g → g ≤ 93 → f < n → mI M' g L f = mI M g L f) (h2 : ∀ k, k < 40 * n → mI M' 94 L k = mI M 94 L k ∧ mI M' 514 L k = mI M 514 L k) : ∀ {U : List Un}, LU W L M U → stk U → U.length ≤ n → LU W L M' U
  | [], _, _, _ => trivial
  | u :: U, h, hs, hn => by
    have hn' : U.length + 1 ≤ n := hn
    have hs' : stk U := by cases u with | inl f => exact hs.2 | inr k => exact hs
    refine ⟨h.1.kp (fun g a b => h1 g _ a b (by omega)) (fun k hk => h2 _ (by omega)) (fun c j a lo st e => ?_), LU.kp h1 h2 h.2 hs' (by omega)⟩
    subst e; exact hs.1
end
