/-! B: fields, as the works hold them: one behind the other -/
def allF (W : List Cls) : List Fld := W.flatMap (fun c => c.2.2.2.2.1)
abbrev foff (W : List Cls) (c : Nat) : Nat := (allF (W.take c)).length
abbrev gF1 (F : List Fld) (i : Nat) : Fld := F.getD i ([], (0, []), 0, 0, false)
def cFl (A : List Nm) (W : List Cls) (w : Nat) (M : Mem) : Prop := (mI M 5 w 17 = Int32.ofNat (allF W).length ∧ (mL M 49 w = 240 ∧ mL M 50 w = 240 ∧ mL M 51 w = 240 ∧ mL M 52 w = 240 ∧ mL M 511 w = 240 ∧ mL M 53 w = 240 ∧ mL M 54 w = 240) ∧ mL M 41 w = 51 ∧ mL M 42 w = 51) ∧
  (∀ c, c < W.length → (mI M 41 w c = Int32.ofNat (foff W c) ∧ mI M 42 w c = Int32.ofNat (gc W c).2.2.2.2.1.length) ∧ (gc W c).2.2.2.2.1.length ≤ 8 ∧ (c < 21 → (gc W c).2.2.2.2.1 = [])) ∧
  ∀ i, i < (allF W).length → (mI M 49 w i = nc A (gF1 (allF W) i).1 ∧ (gF1 (allF W) i).1 ∈ A) ∧ (mI M 50 w i = kC A (gF1 (allF W) i).2.1 ∧ kok A (gF1 (allF W) i).2.1) ∧ mI M 51 w i = (gF1 (allF W) i).2.2.1 ∧ mI M 52 w i = (gF1 (allF W) i).2.2.2.1 ∧ mI M 511 w i = b2 (gF1 (allF W) i).2.2.2.2
theorem take_gc {W : List Cls} {n : Nat} (h : n < W.length) : W.take (n + 1) = W.take n ++ [gc W n] := by
  rw [List.take_add_one, List.getElem?_eq_getElem h]
  show _ ++ [_] = _ ++ [W.getD n _]
  rw [List.getD_eq_getElem?_getD, List.getElem?_eq_getElem h]; rfl
theorem allF_app (X Y : List Cls) : allF (X ++ Y) = allF X ++ allF Y := by simp [allF]
theorem foff_succ {W : List Cls} {n : Nat} (h : n < W.length) : foff W (n + 1) = foff W n + (gc W n).2.2.2.2.1.length := by
  unfold foff
  rw [take_gc h, allF_app, List.length_append]
  simp [allF]
theorem foff_le {W : List Cls} (h : ∀ c, c < W.length → (gc W c).2.2.2.2.1.length ≤ 8 ∧ (c < 21 → (gc W c).2.2.2.2.1 = [])) : ∀ n, n ≤ W.length → foff W n ≤ 8 * (n - 21)
  | 0, _ => by simp [foff, allF]
  | n + 1, hn => by
    have ih := foff_le h n (by omega)
    have h1 := h n (by omega)
    rw [foff_succ (by omega)]
    by_cases c : n < 21
    · rw [h1.2 c]; simp; omega
    · omega
theorem foff_all (W : List Cls) : foff W W.length = (allF W).length := by unfold foff; rw [List.take_length]
theorem addF_last {W : List Cls} {c : Nat} {f : Fld} (hc : c + 1 = W.length) : allF (addF W c f) = allF W ++ [f] ∧ ∀ j, j ≤ c → foff (addF W c f) j = foff W j := by
  have h1 : W = W.take c ++ [gc W c] := by
    rw [← take_gc (by omega), hc, List.take_length]
  have hl : (W.take c).length = c := by rw [List.length_take]; omega
  have h2 : addF W c f = W.take c ++ [((gc W c).1, (gc W c).2.1, (gc W c).2.2.1, (gc W c).2.2.2.1, (gc W c).2.2.2.2.1 ++ [f], (gc W c).2.2.2.2.2)] := by
    refine List.ext_getElem? (fun i => ?_)
    unfold addF
    rw [List.getElem?_set]
    by_cases e : c = i
    · subst e
      rw [if_pos rfl, if_pos (by omega), List.getElem?_append_right (by omega), hl]; simp
    · rw [if_neg e]
      by_cases e2 : i < c
      · rw [List.getElem?_append_left (by omega), List.getElem?_take, if_pos e2]
      · rw [List.getElem?_eq_none (by omega), List.getElem?_eq_none (by rw [List.length_append, hl]; simp; omega)]
  refine ⟨?_, fun j hj => ?_⟩
  · rw [h2, allF_app]
    conv => rhs; rw [h1, allF_app]
    simp [allF]
  · unfold foff
    have : (addF W c f).take j = W.take j := by
      rw [h2, List.take_append_of_le_length (by omega), List.take_take]
      congr 1; omega
    rw [this]
theorem cFl.setF {A : List Nm} {W : List Cls} {w c : Nat} {own : Nm} {κ : Kd} {bits v : Int32} {has : Bool} {M M' : Mem} (h : cFl A W w M) (hc : c + 1 = W.length) (h21 : 21 ≤ c) (hn : (gc W c).2.2.2.2.1.length < 8) (ho : own ∈ A) (hk : kok A κ)
    (e17 : mI M' 5 w 17 = Int32.ofNat ((allF W).length + 1)) (e41 : ∀ k, mI M' 41 w k = mI M 41 w k) (e42 : ∀ k, mI M' 42 w k = if k = c then Int32.ofNat ((gc W c).2.2.2.2.1.length + 1) else mI M 42 w k) (e49 : ∀ k, mI M' 49 w k = if k = (allF W).length then nc A own else mI M 49 w k) (e50 : ∀ k, mI M' 50 w k = if k = (allF W).length then kC A κ else mI M 50 w k) (e51 : ∀ k, mI M' 51 w k = if k = (allF W).length then bits else mI M 51 w k)
    (e52 : ∀ k, mI M' 52 w k = if k = (allF W).length then v else mI M 52 w k) (e511 : ∀ k, mI M' 511 w k = if k = (allF W).length then b2 has else mI M 511 w k) (lm : ∀ f, mL M' f w = mL M f w) : cFl A (addF W c (own, κ, bits, v, has)) w M' := by
  obtain ⟨⟨a1, ⟨b1, b2', b3, b4, b5, b6, b7⟩, a3, a4⟩, d, e⟩ := h
  obtain ⟨f1, f2⟩ := addF_last (f := (own, κ, bits, v, has)) hc
  have ll : (allF W ++ [(own, κ, bits, v, has)]).length = (allF W).length + 1 := by simp
  refine ⟨⟨by rw [f1, ll]; exact e17, ⟨(lm _).trans b1, (lm _).trans b2', (lm _).trans b3, (lm _).trans b4, (lm _).trans b5, (lm _).trans b6, (lm _).trans b7⟩, (lm _).trans a3, (lm _).trans a4⟩, fun j hj => ?_, fun i hi => ?_⟩
  · rw [addF_len] at hj
    obtain ⟨⟨p1, p2⟩, p3, p4⟩ := d j hj
    rw [f2 j (by omega), gc_addF (by omega), e41, e42]
    by_cases ej : j = c
    · rw [if_pos ej, if_pos ej]
      subst ej
      have l2 : ((gc W j).2.2.2.2.1 ++ [(own, κ, bits, v, has)]).length = (gc W j).2.2.2.2.1.length + 1 := by simp
      exact ⟨⟨p1, congrArg Int32.ofNat l2.symm⟩, by show _ ≤ 8; rw [l2]; omega, fun q => by omega⟩
    · rw [if_neg ej, if_neg ej]; exact ⟨⟨p1, p2⟩, p3, p4⟩
  · rw [f1] at hi ⊢
    rw [ll] at hi
    rw [e49, e50, e51, e52, e511]
    by_cases ei : i = (allF W).length
    · rw [if_pos ei, if_pos ei, if_pos ei, if_pos ei, if_pos ei]
      have : gF1 (allF W ++ [(own, κ, bits, v, has)]) i = (own, κ, bits, v, has) := by
        rw [ei]; simp [gF1, List.getD_eq_getElem?_getD]
      rw [this]
      exact ⟨⟨rfl, ho⟩, ⟨rfl, hk⟩, rfl, rfl, rfl⟩
    · rw [if_neg ei, if_neg ei, if_neg ei, if_neg ei, if_neg ei]
      have : gF1 (allF W ++ [(own, κ, bits, v, has)]) i = gF1 (allF W) i := by
        show (allF W ++ [(own, κ, bits, v, has)]).getD i _ = (allF W).getD i _
        rw [List.getD_eq_getElem?_getD, List.getElem?_append_left (by omega), ← List.getD_eq_getElem?_getD]
      rw [this]; exact e i (by omega)
/-- a class's own field, among all -/
theorem gF1_at {W : List Cls} {c k : Nat} (hc : c < W.length) (hk : k < (gc W c).2.2.2.2.1.length) : foff W c + k < (allF W).length ∧ gF1 (allF W) (foff W c + k) = gfl (gc W c) k := by
  have h1 : W = W.take c ++ (gc W c :: W.drop (c + 1)) := by
    have : W.drop c = gc W c :: W.drop (c + 1) := by
      rw [List.drop_eq_getElem_cons hc]
      show _ :: _ = W.getD c _ :: _
      rw [List.getD_eq_getElem?_getD, List.getElem?_eq_getElem hc]; rfl
    rw [← this, List.take_append_drop]
  have h2 : allF W = allF (W.take c) ++ ((gc W c).2.2.2.2.1 ++ allF (W.drop (c + 1))) := by
    conv => lhs; rw [h1, allF_app]
    simp [allF]
  refine ⟨?_, ?_⟩
  · rw [h2, List.length_append, List.length_append]; show foff W c + k < foff W c + _; omega
  · show (allF W).getD _ _ = (gc W c).2.2.2.2.1.getD _ _
    rw [h2, List.getD_eq_getElem?_getD, List.getElem?_append_right (by show (allF (W.take c)).length ≤ (allF (W.take c)).length + k; omega), show foff W c + k - (allF (W.take c)).length = k by show (allF (W.take c)).length + k - _ = k; omega, List.getElem?_append_left hk, ← List.getD_eq_getElem?_getD]

/-! B: a field's line in the works -/
theorem pcC_pre {A A' : List Nm} (hp : A <+: A') {par : Nm} (h : par = [] ∨ par ∈ A) : pcC A' par = pcC A par := by
  unfold pcC
  by_cases e : par = []
  · rw [if_pos e, if_pos e]
  · rw [if_neg e, if_neg e, nc_pre hp (h.resolve_left e)]
theorem cCl.pre {A A' : List Nm} {W : List Cls} {w : Nat} {M : Mem} (h : cCl A W w M) (hp : A <+: A') (hl : A'.length ≤ 200000) : cCl A' W w M := by
  obtain ⟨⟨⟨x1, x2, x3, x4⟩, x5⟩, y, y5⟩ := h
  refine ⟨⟨⟨x1, x2, x3, hl⟩, fun c hc => by rw [nc_pre hp (x5 c hc).2]; exact ⟨(x5 c hc).1, hp.subset (x5 c hc).2⟩⟩, y, fun c hc => ?_⟩
  obtain ⟨⟨z1, z2, z3⟩, ⟨z4, z5, z6⟩, z7⟩ := y5 c hc
  exact ⟨⟨by rw [pcC_pre hp z2]; exact z1, z2.imp id (fun q => hp.subset q), z3⟩, ⟨z4, z5, fun i hi => by rw [nc_pre hp (z6 i hi).2]; exact ⟨(z6 i hi).1, hp.subset (z6 i hi).2⟩⟩, z7⟩
theorem cFl.pre {A A' : List Nm} {W : List Cls} {w : Nat} {M : Mem} (h : cFl A W w M) (hp : A <+: A') : cFl A' W w M := by
  obtain ⟨a, b, c⟩ := h
  refine ⟨a, b, fun i hi => ?_⟩
  obtain ⟨z1, z2, z3⟩ := c i hi
  exact ⟨by rw [nc_pre hp z1.2]; exact ⟨z1.1, hp.subset z1.2⟩, by rw [kC_pre hp z2.2]; exact ⟨z2.1, kok_pre hp z2.2⟩, z3⟩
/-- what a word taken leaves alone in a world -/
def cOk (S : Nat) : Bool := [36, 37, 38, 39, 40, 41, 42, 49, 50, 51, 52, 53, 54, 511].all (fun f => !S.testBit f && !S.testBit (5000 + f)) && (!S.testBit (cd 5 1) && (!S.testBit (cd 5 2) && (!S.testBit (cd 5 17) && (!S.testBit (cd 3 1) && (!S.testBit (cd 3 2) && !S.testBit (cd 3 3))))))
theorem cOk.at {S : Nat} (h : cOk S = true) {f : Nat} (hf : f ∈ [36, 37, 38, 39, 40, 41, 42, 49, 50, 51, 52, 53, 54, 511]) : S.testBit f = false ∧ S.testBit (5000 + f) = false ∧ Nat.ble 20 f = true := by
  unfold cOk at h
  simp only [Bool.and_eq_true] at h
  have := List.all_eq_true.mp h.1 f hf
  simp only [Bool.and_eq_true, Bool.not_eq_true'] at this
  refine ⟨this.1, this.2, ?_⟩
  simp only [List.mem_cons, List.not_mem_nil, or_false] at hf
  rcases hf with e | e | e | e | e | e | e | e | e | e | e | e | e | e <;> (subst e; rfl)
/-- the works' world and reader at a line -/
def C2 (B : List Nm) (r n : Nat) (p : Nat → Int32) (to : Nat) (A : List Nm) (W : List Cls) (w c : Nat) (br : Int32) (line : Nat) (t : List Tok) (M : Mem) : Prop :=
  RS B r n p to A t M ∧ cCl A W w M ∧ cFl A W w M ∧ mR M 3 0 1 = some (5, w) ∧ mI M 3 0 3 = Int32.ofNat c ∧ mI M 3 0 2 = Int32.ofNat line ∧ mI M 5 w 1 = br
/-- the same, but for the words -/
def C3 (A : List Nm) (W : List Cls) (w c : Nat) (br : Int32) (line : Nat) (M : Mem) : Prop :=
  cCl A W w M ∧ cFl A W w M ∧ mR M 3 0 1 = some (5, w) ∧ mI M 3 0 3 = Int32.ofNat c ∧ mI M 3 0 2 = Int32.ofNat line ∧ mI M 5 w 1 = br
theorem C3.fr {A : List Nm} {W : List Cls} {w c : Nat} {br : Int32} {line : Nat} {M M' : Mem} {S : Nat} (h : C3 A W w c br line M) (hf : Fr S M M') (hS : cOk S = true := by rfl) : C3 A W w c br line M' := by
  have hI : ∀ {f : Nat}, f ∈ [36, 37, 38, 39, 40, 41, 42, 49, 50, 51, 52, 53, 54, 511] → ∀ i k, mI M' f i k = mI M f i k := fun hm i k => hf.Ia (cOk.at hS hm).2.2 (cOk.at hS hm).1 i k
  have hL : ∀ {f : Nat}, f ∈ [36, 37, 38, 39, 40, 41, 42, 49, 50, 51, 52, 53, 54, 511] → ∀ i, mL M' f i = mL M f i := fun hm i => hf.L (cOk.at hS hm).2.1 i
  have hS' := hS
  unfold cOk at hS'
  simp only [Bool.and_eq_true, Bool.not_eq_true'] at hS'
  obtain ⟨-, s1, s2, s3, s4, s5, s6⟩ := hS'
  obtain ⟨⟨⟨⟨x1, x2, x3, x4⟩, x5⟩, ⟨y1, y2, y3, y4⟩, y5⟩, ⟨⟨a1, ⟨b1, b2', b3, b4, b5, b6, b7⟩, a3, a4⟩, d, e⟩, g1, g2, g3, g4⟩ := h
  refine ⟨⟨⟨⟨(hf.I s2 w).trans x1, (hL (by simp) w).trans x2, x3, x4⟩, fun j hj => by rw [hI (by simp)]; exact x5 j hj⟩, ⟨(hL (by simp) w).trans y1, (hL (by simp) w).trans y2, (hL (by simp) w).trans y3, (hL (by simp) w).trans y4⟩, fun j hj => ?_⟩, ⟨⟨(hf.I s3 w).trans a1, ⟨(hL (by simp) w).trans b1, (hL (by simp) w).trans b2', (hL (by simp) w).trans b3, (hL (by simp) w).trans b4, (hL (by simp) w).trans b5, (hL (by simp) w).trans b6, (hL (by simp) w).trans b7⟩, (hL (by simp) w).trans a3, (hL (by simp) w).trans a4⟩, fun j hj => by rw [hI (f := 41) (by simp), hI (f := 42) (by simp)]; exact d j hj, fun i hi => by rw [hI (f := 49) (by simp), hI (f := 50) (by simp), hI (f := 51) (by simp), hI (f := 52) (by simp), hI (f := 511) (by simp)]; exact e i hi⟩, (hf.R s4 0).trans g1, (hf.I s6 0).trans g2, (hf.I s5 0).trans g3, (hf.I s1 w).trans g4⟩
  rw [hI (f := 37) (by simp), hI (f := 39) (by simp), hI (f := 40) (by simp)]
  obtain ⟨z1, ⟨z4, z5, z6⟩, z7⟩ := y5 j hj
  exact ⟨z1, ⟨z4, z5, fun i hi => by rw [hI (f := 38) (by simp)]; exact z6 i hi⟩, z7⟩
theorem C3.pre {A A' : List Nm} {W : List Cls} {w c : Nat} {br : Int32} {line : Nat} {M : Mem} (h : C3 A W w c br line M) (hp : A <+: A') (hl : A'.length ≤ 200000) : C3 A' W w c br line M := ⟨h.1.pre hp hl, h.2.1.pre hp, h.2.2⟩
theorem C2.step {B : List Nm} {r n : Nat} {p : Nat → Int32} {to : Nat} {A A' : List Nm} {W : List Cls} {w c : Nat} {br : Int32} {line : Nat} {t t' : List Tok} {M M' : Mem} {S : Nat} (h : C2 B r n p to A W w c br line t M) (hf : Fr S M M') (hp : A <+: A') (hR : RS B r n p to A' t' M') (hS : cOk S = true := by rfl) : C2 B r n p to A' W w c br line t' M' :=
  ⟨hR, (C3.fr (S := S) h.2 hf hS).pre hp (by have := hR.1.len; omega)⟩

