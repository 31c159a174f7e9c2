/-! B: a method while its lines come, in the twin -/
def tLb (A : List Nm) (LS : List Lb) (M : Mem) : Prop := mI M 11 0 60 = Int32.ofNat LS.length ∧ (LS.length ≤ rl M sLn ∧ LS.length ≤ rl M sLa) ∧ (rl M sLn ≤ 8000 ∧ rl M sLa ≤ 8000) ∧ ∀ i, i < LS.length → (rd M sLn i = nc A (glb LS i).1 ∧ (glb LS i).1 ∈ A) ∧ rd M sLa i = Int32.ofNat (glb LS i).2.1 ∧ (glb LS i).2.1 ≤ 80
theorem tLb.of {A : List Nm} {LS : List Lb} {M M' : Mem} (h : tLb A LS M) (e : mI M' 11 0 60 = mI M 11 0 60) (r : ∀ s ∈ XL, (∀ k, rd M' s k = rd M s k) ∧ rl M' s = rl M s) : tLb A LS M' := by
  obtain ⟨a, b, c, d⟩ := h
  have r1 := r sLn (by simp)
  have r2 := r sLa (by simp)
  refine ⟨e.trans a, by rw [r1.2, r2.2]; exact b, by rw [r1.2, r2.2]; exact c, fun i hi => ?_⟩
  rw [r1.1, r2.1]; exact d i hi
theorem tLb.pre {A A' : List Nm} {LS : List Lb} {M : Mem} (h : tLb A LS M) (hp : A <+: A') : tLb A' LS M := ⟨h.1, h.2.1, h.2.2.1, fun i hi => ⟨⟨(h.2.2.2 i hi).1.1.trans (nc_pre hp (h.2.2.2 i hi).1.2).symm, hp.subset (h.2.2.2 i hi).1.2⟩, (h.2.2.2 i hi).2⟩⟩
/-- rows of code hold what is told -/
def RLo (w nq nl nf nk : Nat) (M : Mem) : Prop := (∀ s ∈ XC w, nq ≤ rl M s) ∧ nl ≤ rl M (sLi w) ∧ (∀ s ∈ [sFl w, sFs w, sFf w], nf ≤ rl M s) ∧ nk ≤ rl M (sFk w) ∧ ∀ s ∈ XW w, rl M s ≤ 8000
theorem RLo.of {w nq nl nf nk : Nat} {M M' : Mem} (h : RLo w nq nl nf nk M) (r : ∀ s ∈ XW w, rl M' s = rl M s) : RLo w nq nl nf nk M' := by
  obtain ⟨a, b, c, d, e⟩ := h
  refine ⟨fun s hs => ?_, by rw [r _ (by simp)]; exact b, fun s hs => ?_, by rw [r _ (by simp)]; exact d, fun s hs => by rw [r s hs]; exact e s hs⟩
  · have : s ∈ XW w := by
      simp only [List.mem_cons, List.not_mem_nil, or_false] at hs ⊢
      rcases hs with e | e | e | e | e <;> simp [e]
    rw [r s this]; exact a s hs
  · have : s ∈ XW w := by
      simp only [List.mem_cons, List.not_mem_nil, or_false] at hs ⊢
      rcases hs with e | e | e <;> simp [e]
    rw [r s this]; exact c s hs
/-- a method's numbers -/
def tHm (A : List Nm) (S : List Sg) (w c m q0 : Nat) (p : PM) (M : Mem) : Prop := tHd A S w m p.1 M ∧ (mI M 149 w m = Int32.ofNat q0 ∧ mI M 150 w m = Int32.ofNat p.2.1.length ∧ mI M 151 w m = Int32.ofNat p.2.2.1.length) ∧ (mI M 11 0 53 = Int32.ofNat c ∧ mI M 11 0 54 = Int32.ofNat m) ∧ p.2.1.length ≤ 80 ∧ p.2.2.1.length ≤ 8
/-- its handlers so far -/
def tPh (A : List Nm) (w m : Nat) (H : List PH) (M : Mem) : Prop := mL M 109 0 = 8 ∧ ∀ i, i < H.length → tHn A w (8 * m + i) (nc A (gh H i).1) (nc A (gh H i).2.1) (nc A (gh H i).2.2.1) (gh H i).2.2.2.1 M ∧ ((gh H i).1 ∈ A ∧ (gh H i).2.1 ∈ A ∧ (gh H i).2.2.1 ∈ A) ∧ mI M 109 0 i = Int32.ofNat (gh H i).2.2.2.2
/-- the frame that waits -/
def tPe (A : List Nm) (w nf nk : Nat) (f : Option (List Kd × List Kd × Nat)) (M : Mem) : Prop := match f with
  | none => mI M 11 0 65 = 0
  | some x => ∃ j, j < nf ∧ mI M 11 0 65 = Int32.ofNat (j + 1) ∧ tFr A w nk j x.1 x.2.1 M
/-- a world of the twin between its lines -/
def TW (A : List Nm) (S : List Sg) (W : List Cls) (w : Nat) (br : Int32) (e q0 nl0 nq nl nf nk : Nat) (M : Mem) : Prop := (Cx1 A W w br M ∧ tFl A W w M ∧ tMs A S W w e q0 nl0 nf nk M) ∧ (mI M 12 w 35 = Int32.ofNat nq ∧ mI M 12 w 37 = Int32.ofNat nl ∧ mI M 12 w 41 = Int32.ofNat nf ∧ mI M 12 w 43 = Int32.ofNat nk) ∧ RLo w nq nl nf nk M ∧ (q0 ≤ nq ∧ nl0 ≤ nl ∧ nq ≤ 3900 ∧ nl ≤ 3900 ∧ nf ≤ 3900 ∧ nk ≤ 3900)
/-- a method in it, but for labels -/
def TP0 (A : List Nm) (S : List Sg) (w c m q0 nl0 nl nf nk : Nat) (p : PM) (M : Mem) : Prop := tHm A S w c m q0 p M ∧ (∀ i, i < p.2.1.length → tIn A S w (nl0 + pkS (p.2.1.take i)) nl nf nk (q0 + i) (gpi p.2.1 i) M) ∧ tPh A w m p.2.2.1 M ∧ tPe A w nf nk p.2.2.2.2 M
def TP (A : List Nm) (S : List Sg) (w c m q0 nl0 nl nf nk : Nat) (p : PM) (NL : List Nine) (M : Mem) : Prop := TP0 A S w c m q0 nl0 nl nf nk p M ∧ tLb A p.2.2.2.1 M ∧ tNi A NL M
theorem TW.of {A : List Nm} {S : List Sg} {W : List Cls} {w : Nat} {br : Int32} {e q0 nl0 nq nl nf nk : Nat} {M M' : Mem} (h : TW A S W w br e q0 nl0 nq nl nf nk M) (hA : ∀ f, tFm f = true → (∀ k, mI M' f w k = mI M f w k) ∧ mL M' f w = mL M f w) (h12 : ∀ k ∈ [1, 2, 35, 37, 41, 43], mI M' 12 w k = mI M 12 w k) (hR : mR M' 11 0 45 = mR M 11 0 45) (r : ∀ s ∈ XW w, (∀ k, rd M' s k = rd M s k) ∧ rl M' s = rl M s) : TW A S W w br e q0 nl0 nq nl nf nk M' := by
  obtain ⟨⟨⟨h1, h2, h3, h4⟩, ⟨f1, f2⟩, h6⟩, h7, h8, h9⟩ := h
  have tI : ∀ f, tFm f = true → ∀ k, mI M' f w k = mI M f w k := fun f hf k => (hA f hf).1 k
  have tL : ∀ f, tFm f = true → mL M' f w = mL M f w := fun f hf => (hA f hf).2
  have rg : ∀ f, 130 ≤ f → f ≤ 155 → tFm f = true := fun f a b => by
    unfold tFm; rw [Bool.or_eq_true, Bool.and_eq_true]; exact Or.inl ⟨Nat.ble_eq.mpr a, Nat.ble_eq.mpr b⟩
  have hk := fun k hk => h12 k hk
  refine ⟨⟨⟨h1.of (hk 2 (by simp)) (fun f a b => tI f (rg f a (by omega))) (fun f a b => tL f (rg f a (by omega))), hR.trans h2, (hk 1 (by simp)).trans h3, ?_⟩, ⟨?_, fun c hc => ?_⟩, ?_⟩, ⟨(hk 35 (by simp)).trans h7.1, (hk 37 (by simp)).trans h7.2.1, (hk 41 (by simp)).trans h7.2.2.1, (hk 43 (by simp)).trans h7.2.2.2⟩, h8.of (fun s hs => (r s hs).2), h9⟩
  · rw [tL 135 rfl, tL 136 rfl, tL 137 rfl, tL 138 rfl]; exact h4
  · rw [tL 139 rfl, tL 140 rfl, tL 141 rfl, tL 142 rfl, tL 523 rfl, tL 143 rfl]; exact f1
  · rw [tI 135 rfl]
    refine ⟨(f2 c hc).1, fun k hk => ?_⟩
    rw [tI 139 rfl, tI 140 rfl, tI 141 rfl, tI 142 rfl, tI 523 rfl]; exact (f2 c hc).2 k hk
  · exact h6.keep (h6.1.of (fun f q k => tI f (rg f (by omega) (by omega)) k) (fun f a b => tL f (rg f (by omega) (by omega)))) (Rk.of r) (fun f a b c hc k hk => tI f (rg f (by omega) (by omega)) _) (fun f a b c hc k hk i hi => tI f (rg f (by omega) (by omega)) _) (fun f a b => tL f (rg f (by omega) (by omega)))
theorem TP0.of {A : List Nm} {S : List Sg} {w c m q0 nl0 nl nf nk : Nat} {p : PM} {M M' : Mem} (h : TP0 A S w c m q0 nl0 nl nf nk p M) (hA : ∀ f, 144 ≤ f → f ≤ 155 → ∀ k, mI M' f w k = mI M f w k) (h11 : ∀ k ∈ [53, 54, 65], mI M' 11 0 k = mI M 11 0 k) (h109 : (∀ k, mI M' 109 0 k = mI M 109 0 k) ∧ mL M' 109 0 = mL M 109 0) (hR : Rk w (q0 + p.2.1.length) nl nf nk M M') : TP0 A S w c m q0 nl0 nl nf nk p M' := by
  obtain ⟨⟨⟨a1, a2, a3, a4, a5, a6⟩, ⟨b1, b2', b3⟩, ⟨c1, c2⟩, d1⟩, h2, h3, h6⟩ := h
  refine ⟨⟨⟨⟨(hA 144 (by omega) (by omega) _).trans a1.1, a1.2⟩, ⟨(hA 145 (by omega) (by omega) _).trans a2.1, a2.2⟩, a3, (hA 146 (by omega) (by omega) _).trans a4, (hA 147 (by omega) (by omega) _).trans a5, (hA 148 (by omega) (by omega) _).trans a6⟩, ⟨(hA 149 (by omega) (by omega) _).trans b1, (hA 150 (by omega) (by omega) _).trans b2', (hA 151 (by omega) (by omega) _).trans b3⟩, ⟨(h11 53 (by simp)).trans c1, (h11 54 (by simp)).trans c2⟩, d1⟩, fun i hi => (h2 i hi).keep hR (by omega), ⟨h109.2.trans h3.1, fun i hi => ⟨(h3.2 i hi).1.of (fun f x y => hA f (by omega) y _), (h3.2 i hi).2.1, (h109.1 i).trans (h3.2 i hi).2.2⟩⟩, ?_⟩
  unfold tPe at h6 ⊢
  cases e : p.2.2.2.2 with
  | none => rw [e] at h6; exact (h11 65 (by simp)).trans h6
  | some x =>
    rw [e] at h6
    obtain ⟨j, j1, j2, j3⟩ := h6
    exact ⟨j, j1, (h11 65 (by simp)).trans j2, j3.keep hR j1⟩
theorem TP0.pre {A A' : List Nm} {S S' : List Sg} {w c m q0 nl0 nl nf nk nl' nf' nk' : Nat} {p : PM} {M : Mem} (h : TP0 A S w c m q0 nl0 nl nf nk p M) (hA : A <+: A') (hS : S <+: S') (e1 : nl ≤ nl') (e2 : nf ≤ nf') (e3 : nk ≤ nk') : TP0 A' S' w c m q0 nl0 nl' nf' nk' p M := by
  obtain ⟨⟨h1, h1'⟩, h2, h3, h6⟩ := h
  refine ⟨⟨(h1.preA hA).pre hS, h1'⟩, fun i hi => (h2 i hi).pre hA hS e1 e2 e3, ⟨h3.1, fun i hi => ?_⟩, ?_⟩
  · obtain ⟨a, b, c⟩ := h3.2 i hi
    refine ⟨?_, ⟨hA.subset b.1, hA.subset b.2.1, hA.subset b.2.2⟩, c⟩
    rw [nc_pre hA b.1, nc_pre hA b.2.1, nc_pre hA b.2.2]; exact a.pre hA
  · unfold tPe at h6 ⊢
    cases e : p.2.2.2.2 with
    | none => rw [e] at h6; exact h6
    | some x =>
      rw [e] at h6
      obtain ⟨j, j1, j2, j3⟩ := h6
      exact ⟨j, by omega, j2, j3.pre hA e3⟩
theorem tFl.pre {A A' : List Nm} {W : List Cls} {w : Nat} {M : Mem} (h : tFl A W w M) (hA : A <+: A') : tFl A' W w M := by
  refine ⟨h.1, fun c hc => ⟨(h.2 c hc).1, fun k hk => ?_⟩⟩
  obtain ⟨a, b, d⟩ := (h.2 c hc).2 k hk
  exact ⟨⟨a.1.trans (nc_pre hA a.2).symm, hA.subset a.2⟩, ⟨b.1.trans (kt_pre hA b.2).symm, kok_pre hA b.2⟩, d⟩
theorem Cx1.pre {A A' : List Nm} {W : List Cls} {w : Nat} {br : Int32} {M : Mem} (h : Cx1 A W w br M) (hA : A <+: A') (hl : A'.length ≤ 200000) : Cx1 A' W w br M := by
  obtain ⟨⟨⟨⟨a1, a2, a3, a4⟩, a5⟩, b1, b2'⟩, h2⟩ := h
  refine ⟨⟨⟨⟨a1, a2, a3, hl⟩, fun c hc => ⟨(a5 c hc).1.trans (nc_pre hA (a5 c hc).2).symm, hA.subset (a5 c hc).2⟩⟩, b1, fun c hc => ?_⟩, h2⟩
  obtain ⟨⟨x1, x2, x3⟩, ⟨y1, y2, y3⟩, z⟩ := b2' c hc
  refine ⟨⟨x1.trans ?_, x2.imp id (fun q => hA.subset q), x3⟩, ⟨y1, y2, fun i hi => ⟨(y3 i hi).1.trans (nc_pre hA (y3 i hi).2).symm, hA.subset (y3 i hi).2⟩⟩, z⟩
  unfold pcT
  rcases x2 with q | q
  · rw [if_pos q, if_pos q]
  · by_cases e : (gc W c).2.1 = []
    · rw [if_pos e, if_pos e]
    · rw [if_neg e, if_neg e, nc_pre hA q]
theorem TW.pre {A A' : List Nm} {S S' : List Sg} {W : List Cls} {w : Nat} {br : Int32} {e q0 nl0 nq nl nf nk : Nat} {M : Mem} (h : TW A S W w br e q0 nl0 nq nl nf nk M) (hA : A <+: A') (hl : A'.length ≤ 200000) (hS : S <+: S') : TW A' S' W w br e q0 nl0 nq nl nf nk M := by
  obtain ⟨⟨h1, h2, h3⟩, h4⟩ := h
  exact ⟨⟨h1.pre hA hl, h2.pre hA, h3.pre hA hS (Nat.le_refl _) (Nat.le_refl _) (Nat.le_refl _) (Nat.le_refl _)⟩, h4⟩
