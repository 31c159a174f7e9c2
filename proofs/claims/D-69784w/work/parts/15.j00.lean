/-! what belongs to other worlds stays as it was -/
abbrev Hot : Type := Nat × Nat × Nat → Bool
/-- families: 1 by worlds, 2 by threads (three of a world), 3 rows apart, 4 tables of worlds, 6 the twin itself, 0 all else -/
def grp (f : Nat) : Nat :=
  bif Nat.blt f 36 then (bif Nat.beq f 5 || Nat.beq f 6 || Nat.beq f 12 then 1 else bif Nat.beq f 7 || Nat.beq f 13 then 2 else bif Nat.beq f 11 then 6 else 0)
  else bif Nat.ble f 88 then 1 else bif Nat.ble f 95 then 2 else bif Nat.blt f 130 then 0 else bif Nat.ble f 169 then 1 else bif Nat.ble f 176 then 2
  else bif Nat.beq f 211 || Nat.beq f 300 || Nat.beq f 301 || Nat.beq f 401 || Nat.beq f 501 then 3
  else bif Nat.beq f 511 || Nat.beq f 512 || Nat.beq f 513 || Nat.beq f 523 || Nat.beq f 524 || Nat.beq f 700 || Nat.beq f 704 then 1
  else bif Nat.beq f 514 || Nat.beq f 525 then 2 else bif Nat.beq f 702 || Nat.beq f 703 then 4 else 0
def rs1 (f k : Nat) : Bool := Nat.beq f 700 || Nat.beq f 704 || (Nat.beq f 6 && (Nat.beq k 2 || Nat.beq k 22 || Nat.beq k 23 || Nat.beq k 24 || Nat.beq k 25)) || (Nat.beq f 12 && [30, 31, 32, 33, 34, 36, 38, 39, 40, 42, 53, 54, 55, 58].any (fun x => Nat.beq k x))
def rs0 (k : Nat) : Bool := [0, 1, 2, 30, 31, 32, 33, 35, 55, 57, 58, 59, 61, 62, 63, 94, 114, 115].any (fun x => Nat.beq k x)
def hpt (f k : Nat) : Bool := (Nat.beq f 3 && Nat.beq k 1) || (Nat.beq f 4 && Nat.beq k 4) || (Nat.beq f 8 && Nat.beq k 5) || (Nat.beq f 11 && (Nat.beq k 45 || Nat.beq k 46))
/-- a place belongs to world w, or to all; D: rows of others -/
def ow (w : Nat) (D : Nat → Nat → Prop) (f i : Nat) : Prop := (grp f = 1 → i = w) ∧ (grp f = 2 → i / 3 = w) ∧ (grp f = 3 → ¬ D f i) ∧ grp f ≠ 4 ∧ (grp f = 6 → i = 0)
def Dok (w : Nat) (D : Nat → Nat → Prop) : Prop := ow w D 211 0 ∧ (∀ {i : Nat}, ow w D 5 i → ow w D 211 (2 * i + 1)) ∧ (∀ {i : Nat}, ow w D 5 i → ow w D 211 (2 * i + 2)) ∧ (∀ {i : Nat}, ow w D 6 i → ow w D 301 (6 * i + 0)) ∧ ∀ {i : Nat}, ow w D 6 i → ow w D 301 (6 * i + 1)
def up (h : Hot) (s : Nat × Nat × Nat) : Hot := fun x => decide (x = s) || h x
/-- references that are read lead to what is one's own -/
def tn (f k : Nat) : Nat := bif Nat.beq f 703 then 1000 + k else k
def rdOk (w : Nat) (T : Nat → Prop) (h : Hot) (f i k : Nat) : Prop := (rs1 f k = true ∧ i = w) ∨ (f = 11 ∧ i = 0 ∧ rs0 k = true) ∨ (hpt f k = true ∧ h (f, i, k) = true) ∨ ((f = 702 ∨ f = 703) ∧ i = 0 ∧ T (tn f k))
def St (w : Nat) (D : Nat → Nat → Prop) (T : Nat → Prop) (h : Hot) (M : Mem) : Prop := (∀ f j, D f j → (f, j) ∈ mN M) ∧ ∀ f i k g j, rdOk w T h f i k → mR M f i k = some (g, j) → ow w D g j
def Uch (w : Nat) (D : Nat → Nat → Prop) (M0 M : Mem) : Prop := ∀ f i, ¬ ow w D f i → (∀ k, mI M f i k = mI M0 f i k ∧ mJ M f i k = mJ M0 f i k ∧ mR M f i k = mR M0 f i k) ∧ mL M f i = mL M0 f i
/-- what a reference leads to -/
def ty (f k g : Nat) : Bool :=
  bif Nat.beq f 6 && Nat.beq k 2 then Nat.beq g 7 else bif Nat.beq f 6 && (Nat.ble 22 k && Nat.ble k 25) then Nat.beq g 301
  else bif Nat.beq f 12 && Nat.beq k 30 then Nat.beq g 401 else bif Nat.beq f 12 && [31, 32, 33, 34, 36, 38, 39, 40, 42, 53, 54, 55, 58].any (fun x => Nat.beq k x) then Nat.beq g 300
  else bif Nat.beq f 11 && [0, 1, 94, 114, 115].any (fun x => Nat.beq k x) then Nat.beq g 401 else bif Nat.beq f 11 && Nat.beq k 63 then Nat.beq g 501
  else bif Nat.beq f 11 && [2, 30, 31, 32, 33, 35, 55, 57, 58, 59, 61, 62].any (fun x => Nat.beq k x) then Nat.beq g 300
  else bif Nat.beq f 11 && Nat.beq k 45 then Nat.beq g 12 else bif Nat.beq f 11 && Nat.beq k 46 then Nat.beq g 13
  else bif Nat.beq f 3 && Nat.beq k 1 then Nat.beq g 5 else bif Nat.beq f 4 && Nat.beq k 4 then Nat.beq g 5 else bif Nat.beq f 8 && Nat.beq k 5 then Nat.beq g 5
  else bif Nat.beq f 700 then Nat.beq g 7 else bif Nat.beq f 704 then Nat.beq g 13 else bif Nat.beq f 702 then Nat.beq g 5 else bif Nat.beq f 703 then Nat.beq g 12 else bif Nat.beq f 701 then Nat.beq g 400 else true
def Ty (M : Mem) : Prop := ∀ f i k g j, mR M f i k = some (g, j) → ty f k g = true
def Ow (w : Nat) (D : Nat → Nat → Prop) (T : Nat → Prop) (h : Hot) (M0 M : Mem) : Prop := St w D T h M ∧ Uch w D M0 M ∧ (Ty M0 → Ty M)
section
variable {w : Nat} {D : Nat → Nat → Prop} {T : Nat → Prop} {h hb : Hot} {M0 M M1 M2 : Mem} {f f' i k g j n : Nat} {v : Int32} {s x : Nat × Nat × Nat}
theorem ow0 (e : grp f = 0) : ow w D f i := ⟨fun z => absurd (e.symm.trans z) (by decide), fun z => absurd (e.symm.trans z) (by decide), fun z => absurd (e.symm.trans z) (by decide), fun z => absurd (e.symm.trans z) (by decide), fun z => absurd (e.symm.trans z) (by decide)⟩
theorem ow6 : ow w D 11 0 := ⟨fun z => absurd z (by decide), fun z => absurd z (by decide), fun z => absurd z (by decide), by decide, fun _ => rfl⟩
theorem owz (hz : w = 0) (e : grp f = 1) : ow w D f 0 := ⟨fun _ => hz.symm, fun z => absurd (e.symm.trans z) (by decide), fun z => absurd (e.symm.trans z) (by decide), fun z => absurd (e.symm.trans z) (by decide), fun z => absurd (e.symm.trans z) (by decide)⟩
theorem ow.to (o : ow w D f i) (e : grp f = grp f') (n3 : Nat.beq (grp f') 3 = false) : ow w D f' i := ⟨fun z => o.1 (e.trans z), fun z => o.2.1 (e.trans z), fun z => by rw [z] at n3; exact absurd n3 (by decide), fun z => o.2.2.2.1 (e.trans z), fun z => o.2.2.2.2 (e.trans z)⟩
theorem up_s : up h s s = true := by unfold up; rw [decide_eq_true rfl]; rfl
theorem up_o (e : h x = true) : up h s x = true := by unfold up; rw [e, Bool.or_true]
theorem leU (e : ∀ t, hb t = true → h t = true) : ∀ t, hb t = true → up h s t = true := fun t z => up_o (e t z)
theorem Ow.rf (hs : St w D T h M) : Ow w D T h M M := ⟨hs, fun _ _ _ => ⟨fun _ => ⟨rfl, rfl, rfl⟩, rfl⟩, id⟩
theorem Uch.trans (a : Uch w D M0 M1) (b : Uch w D M1 M2) : Uch w D M0 M2 := fun f i o => ⟨fun k => ⟨((b f i o).1 k).1.trans ((a f i o).1 k).1, ((b f i o).1 k).2.1.trans ((a f i o).1 k).2.1, ((b f i o).1 k).2.2.trans ((a f i o).1 k).2.2⟩, (b f i o).2.trans (a f i o).2⟩
theorem Ow.trans (a : Ow w D T h M0 M1) (b : Ow w D T hb M1 M2) : Ow w D T hb M0 M2 := ⟨b.1, a.2.1.trans b.2.1, fun z => b.2.2 (a.2.2 z)⟩
theorem Ow.of (e : M2 = M1) (a : Ow w D T h M0 M1) : Ow w D T h M0 M2 := e ▸ a
theorem Ow.dn (le : ∀ t, hb t = true → h t = true) (a : Ow w D T h M0 M1) : Ow w D T hb M0 M1 := ⟨⟨a.1.1, fun f i k g j r e => a.1.2 f i k g j (by
  rcases r with r | r | r | r
  · exact Or.inl r
  · exact Or.inr (Or.inl r)
  · exact Or.inr (Or.inr (Or.inl ⟨r.1, le _ r.2⟩))
  · exact Or.inr (Or.inr (Or.inr r))) e⟩, a.2⟩
theorem Ow.dn1 (a : Ow w D T (up h s) M0 M1) : Ow w D T h M0 M1 := a.dn (fun _ z => up_o z)
theorem ow.fr (a : Ow w D T h M0 M1) (e : grp f = 3) (n : (f, i) ∉ mN M1) : ow w D f i := ⟨fun z => absurd (e.symm.trans z) (by decide), fun z => absurd (e.symm.trans z) (by decide), fun _ z => n (a.1.1 f i z), fun z => absurd (e.symm.trans z) (by decide), fun z => absurd (e.symm.trans z) (by decide)⟩
theorem Ow.r1 (e : mR M1 f i k = some (g, j)) (e1 : rs1 f k = true) (e2 : grp f = 1) (o : ow w D f i) (a : Ow w D T h M0 M1) : ow w D g j := a.1.2 f i k g j (Or.inl ⟨e1, o.1 e2⟩) e
theorem Ow.r0 (e : mR M1 11 i k = some (g, j)) (e1 : rs0 k = true) (o : ow w D 11 i) (a : Ow w D T h M0 M1) : ow w D g j := a.1.2 11 i k g j (Or.inr (Or.inl ⟨rfl, o.2.2.2.2 rfl, e1⟩)) e
theorem Ow.rh (e : mR M1 f i k = some (g, j)) (e1 : hpt f k = true) (t : h (f, i, k) = true) (a : Ow w D T h M0 M1) : ow w D g j := a.1.2 f i k g j (Or.inr (Or.inr (Or.inl ⟨e1, t⟩))) e
theorem Ow.rT (e : mR M1 f 0 k = some (g, j)) (e1 : (Nat.beq f 702 || Nat.beq f 703) = true) (t : T (tn f k)) (a : Ow w D T h M0 M1) : ow w D g j := a.1.2 f 0 k g j (Or.inr (Or.inr (Or.inr ⟨by
  rcases Bool.or_eq_true _ _ ▸ e1 with z | z
  · exact Or.inl (Nat.eq_of_beq_eq_true z)
  · exact Or.inr (Nat.eq_of_beq_eq_true z), rfl, t⟩))) e
theorem Ow.put (o : ow w D f i) (a : Ow w D T h M0 M1) (eR : ∀ f i k, mR M2 f i k = mR M1 f i k) (eN : mN M2 = mN M1) (eI : ∀ f' i', ¬ (f' = f ∧ i' = i) → (∀ k, mI M2 f' i' k = mI M1 f' i' k ∧ mJ M2 f' i' k = mJ M1 f' i' k) ∧ mL M2 f' i' = mL M1 f' i') : Ow w D T h M0 M2 := by
  refine ⟨⟨fun f j z => by rw [eN]; exact a.1.1 f j z, fun f i k g j r e => a.1.2 f i k g j r (by rw [← eR]; exact e)⟩, fun f' i' n => ?_, fun z f i k g j e => a.2.2 z f i k g j (by rw [← eR]; exact e)⟩
  have ne : ¬ (f' = f ∧ i' = i) := fun z => n (by rw [z.1, z.2]; exact o)
  obtain ⟨e1, e2⟩ := eI f' i' ne
  obtain ⟨a1, a2⟩ := a.2.1 f' i' n
  exact ⟨fun k => ⟨(e1 k).1.trans (a1 k).1, (e1 k).2.trans (a1 k).2.1, (eR _ _ _).trans (a1 k).2.2⟩, e2.trans a2⟩
theorem Ow.wI (o : ow w D f i) (a : Ow w D T h M0 M1) : Ow w D T h M0 (sI M1 f i k v) := a.put o (fun _ _ _ => rfl) rfl (fun f' i' n => ⟨fun k' => ⟨if_neg (fun z => n ⟨z.1, z.2.1⟩), rfl⟩, rfl⟩)
theorem Ow.wJ {v : Int64} (o : ow w D f i) (a : Ow w D T h M0 M1) : Ow w D T h M0 (sJ M1 f i k v) := a.put o (fun _ _ _ => rfl) rfl (fun f' i' n => ⟨fun k' => ⟨rfl, if_neg (fun z => n ⟨z.1, z.2.1⟩)⟩, rfl⟩)
theorem Ow.wfl (o : ow w D f i) (a : Ow w D T h M0 M1) : Ow w D T h M0 (flI M1 f i v) := a.put o (fun _ _ _ => rfl) rfl (fun f' i' n => ⟨fun k' => ⟨if_neg (fun z => n ⟨z.1, z.2.1⟩), rfl⟩, rfl⟩)
theorem Ow.wcp {sp dp i' : Nat} (o : ow w D g j) (a : Ow w D T h M0 M1) : Ow w D T h M0 (cpI M1 f i' sp g j dp n) := a.put o (fun _ _ _ => rfl) rfl (fun f' i' n => ⟨fun k' => ⟨if_neg (fun z => n z), rfl⟩, rfl⟩)
theorem Ow.wmk (hn : (f, i) ∉ mN M1) (e : grp f = 3) (a : Ow w D T h M0 M1) : Ow w D T h M0 (mk M1 f i n) := by
  have o : ow w D f i := ow.fr a e hn
  have old : ∀ f1 i1 k1 g j, mR (mk M1 f i n) f1 i1 k1 = some (g, j) → mR M1 f1 i1 k1 = some (g, j) := fun f1 i1 k1 g j e1 => by
    have e2 : (if f1 = f ∧ i1 = i then none else mR M1 f1 i1 k1) = some (g, j) := e1
    by_cases z : f1 = f ∧ i1 = i
    · rw [if_pos z] at e2; cases e2
    · rw [if_neg z] at e2; exact e2
  refine ⟨⟨fun f j z => List.mem_append_left _ (a.1.1 f j z), fun f1 i1 k1 g j r e1 => a.1.2 f1 i1 k1 g j r (old _ _ _ _ _ e1)⟩, fun f' i' n' => ?_, fun z f1 i1 k1 g j e1 => a.2.2 z f1 i1 k1 g j (old _ _ _ _ _ e1)⟩
  · have ne : ¬ (f' = f ∧ i' = i) := fun z => n' (by rw [z.1, z.2]; exact o)
    obtain ⟨a1, a2⟩ := a.2.1 f' i' n'
    exact ⟨fun k => ⟨Eq.trans (if_neg ne) (a1 k).1, Eq.trans (if_neg ne) (a1 k).2.1, Eq.trans (if_neg ne) (a1 k).2.2⟩, Eq.trans (if_neg ne) a2⟩
theorem Ow.wRn (o : ow w D f i) (a : Ow w D T h M0 M1) : Ow w D T h M0 (sR M1 f i k none) := by
  have old : ∀ f1 i1 k1 g j, mR (sR M1 f i k none) f1 i1 k1 = some (g, j) → mR M1 f1 i1 k1 = some (g, j) := fun f1 i1 k1 g j e1 => by
    rw [mR_sR] at e1
    by_cases z : f1 = f ∧ i1 = i ∧ k1 = k
    · rw [if_pos z] at e1; cases e1
    · rw [if_neg z] at e1; exact e1
  refine ⟨⟨a.1.1, fun f1 i1 k1 g j r e1 => a.1.2 f1 i1 k1 g j r (old _ _ _ _ _ e1)⟩, fun f' i' n' => ?_, fun z f1 i1 k1 g j e1 => a.2.2 z f1 i1 k1 g j (old _ _ _ _ _ e1)⟩
  · obtain ⟨a1, a2⟩ := a.2.1 f' i' n'
    exact ⟨fun k' => ⟨(a1 k').1, (a1 k').2.1, Eq.trans (if_neg (fun z => n' (by rw [z.1, z.2.1]; exact o))) (a1 k').2.2⟩, a2⟩
theorem Ow.wRh (hy : ty f k g = true) (o : ow w D f i) (og : ow w D g j) (a : Ow w D T h M0 M1) : Ow w D T (up h (f, i, k)) M0 (sR M1 f i k (some (g, j))) := by
  refine ⟨⟨a.1.1, fun f1 i1 k1 g1 j1 r e1 => ?_⟩, fun f' i' n' => ?_, fun z f1 i1 k1 g1 j1 e1 => ?_⟩
  · rw [mR_sR] at e1
    by_cases z : f1 = f ∧ i1 = i ∧ k1 = k
    · rw [if_pos z] at e1; cases e1; exact og
    · rw [if_neg z] at e1
      refine a.1.2 f1 i1 k1 g1 j1 ?_ e1
      rcases r with r | r | r | r
      · exact Or.inl r
      · exact Or.inr (Or.inl r)
      · refine Or.inr (Or.inr (Or.inl ⟨r.1, ?_⟩))
        have r2 := r.2
        unfold up at r2
        rw [decide_eq_false (fun q => z (by cases q; exact ⟨rfl, rfl, rfl⟩)), Bool.false_or] at r2
        exact r2
      · exact Or.inr (Or.inr (Or.inr r))
  · obtain ⟨a1, a2⟩ := a.2.1 f' i' n'
    exact ⟨fun k' => ⟨(a1 k').1, (a1 k').2.1, Eq.trans (if_neg (fun z => n' (by rw [z.1, z.2.1]; exact o))) (a1 k').2.2⟩, a2⟩
  · rw [mR_sR] at e1
    by_cases q : f1 = f ∧ i1 = i ∧ k1 = k
    · rw [if_pos q] at e1; cases e1; rw [q.1, q.2.2]; exact hy
    · rw [if_neg q] at e1; exact a.2.2 z f1 i1 k1 g1 j1 e1
theorem Ow.wR (hy : ty f k g = true) (o : ow w D f i) (og : ow w D g j) (a : Ow w D T h M0 M1) : Ow w D T h M0 (sR M1 f i k (some (g, j))) := (a.wRh hy o og).dn1
end
set_option maxRecDepth 20000 in
theorem mo_w_JString_coder {w : Nat} {D : Nat → Nat → Prop} {T : Nat → Prop} {h : Hot} {this : Nat} {Q Q' : Int32 → Mem → Prop} {M : Mem} (hD : Dok w D)  (hQ : ∀ z0 z1, Ow w D T h M z1 → Q z0 z1 → Q' z0 z1) : St w D T h M → w_JString_coder this Q M → w_JString_coder this Q' M := by
  intro hs
  unfold w_JString_coder
  exact (mf_ite (mf_and fun _ => (hQ _ _  (Ow.rf hs))) (mf_and fun _ => (mf_and fun _ => (hQ _ _  (Ow.rf hs)))))
set_option maxRecDepth 20000 in
theorem mo_w_JString_length {w : Nat} {D : Nat → Nat → Prop} {T : Nat → Prop} {h : Hot} {this : Nat} {Q Q' : Int32 → Mem → Prop} {M : Mem} (hD : Dok w D)  (hQ : ∀ z0 z1, Ow w D T h M z1 → Q z0 z1 → Q' z0 z1) : St w D T h M → w_JString_length this Q M → w_JString_length this Q' M := by
  intro hs
  unfold w_JString_length
  exact (mf_and fun _ => (mf_and fun _ => (mf_and fun _ => (mf_and fun _ => (mo_w_JString_coder hD  (fun r5 M4 f1 => (have g2 : Ow w D T _ M M4 := (Ow.trans (Ow.rf hs) f1); (hQ _ _  g2))) (Ow.rf hs).1)))))
set_option maxRecDepth 20000 in
theorem mo_w_JString_isLatin1 {w : Nat} {D : Nat → Nat → Prop} {T : Nat → Prop} {h : Hot} {this : Nat} {Q Q' : Int32 → Mem → Prop} {M : Mem} (hD : Dok w D)  (hQ : ∀ z0 z1, Ow w D T h M z1 → Q z0 z1 → Q' z0 z1) : St w D T h M → w_JString_isLatin1 this Q M → w_JString_isLatin1 this Q' M := by
  intro hs
  unfold w_JString_isLatin1
  exact (mf_ite (hQ _ _  (Ow.rf hs)) (mf_and fun _ => (mf_ite (hQ _ _  (Ow.rf hs)) (hQ _ _  (Ow.rf hs)))))
set_option maxRecDepth 20000 in
theorem mo_w_JMath_max {w : Nat} {D : Nat → Nat → Prop} {T : Nat → Prop} {h : Hot} {a1 : Int32} {a2 : Int32} {Q Q' : Int32 → Mem → Prop} {M : Mem} (hD : Dok w D)  (hQ : ∀ z0 z1, Ow w D T h M z1 → Q z0 z1 → Q' z0 z1) : St w D T h M → w_JMath_max a1 a2 Q M → w_JMath_max a1 a2 Q' M := by
  intro hs
  unfold w_JMath_max
  exact (mf_ite (hQ _ _  (Ow.rf hs)) (hQ _ _  (Ow.rf hs)))
set_option maxRecDepth 20000 in
theorem mo_w_JMath_min {w : Nat} {D : Nat → Nat → Prop} {T : Nat → Prop} {h : Hot} {a1 : Int32} {a2 : Int32} {Q Q' : Int32 → Mem → Prop} {M : Mem} (hD : Dok w D)  (hQ : ∀ z0 z1, Ow w D T h M z1 → Q z0 z1 → Q' z0 z1) : St w D T h M → w_JMath_min a1 a2 Q M → w_JMath_min a1 a2 Q' M := by
  intro hs
  unfold w_JMath_min
  exact (mf_ite (hQ _ _  (Ow.rf hs)) (hQ _ _  (Ow.rf hs)))
set_option maxRecDepth 20000 in
theorem mo_w_JPre_checkIndex_j9 {w : Nat} {D : Nat → Nat → Prop} {T : Nat → Prop} {h : Hot} {Q Q' : Int32 → Mem → Prop} {h_Q : Hot} {v0 : Int32} {v1 : Int32} {v2 : Option (Nat × Nat)} {M : Mem} {M0 : Mem} (hD : Dok w D)  (lQ : ∀ t, h_Q t = true → h t = true) (hQ : ∀ z0 z1, Ow w D T h_Q M0 z1 → Q z0 z1 → Q' z0 z1) : Ow w D T h M0 M → w_JPre_checkIndex_j9 Q v0 v1 v2 M → w_JPre_checkIndex_j9 Q' v0 v1 v2 M := by
  intro hf
  unfold w_JPre_checkIndex_j9
  exact id
set_option maxRecDepth 20000 in
theorem mo_w_JPre_checkIndex {w : Nat} {D : Nat → Nat → Prop} {T : Nat → Prop} {h : Hot} {a1 : Int32} {a2 : Int32} {a3 : Option (Nat × Nat)} {Q Q' : Int32 → Mem → Prop} {M : Mem} (hD : Dok w D)  (hQ : ∀ z0 z1, Ow w D T h M z1 → Q z0 z1 → Q' z0 z1) : St w D T h M → w_JPre_checkIndex a1 a2 a3 Q M → w_JPre_checkIndex a1 a2 a3 Q' M := by
  intro hs
  unfold w_JPre_checkIndex
  exact (mf_ite (mo_w_JPre_checkIndex_j9 hD  (fun _ e => e) hQ (Ow.rf hs)) (mf_ite (hQ _ _  (Ow.rf hs)) (mo_w_JPre_checkIndex_j9 hD  (fun _ e => e) hQ (Ow.rf hs))))
set_option maxRecDepth 20000 in
theorem mo_w_JString_checkIndex {w : Nat} {D : Nat → Nat → Prop} {T : Nat → Prop} {h : Hot} {a1 : Int32} {a2 : Int32} {Q Q' : Mem → Prop} {M : Mem} (hD : Dok w D)  (hQ : ∀ z0, Ow w D T h M z0 → Q z0 → Q' z0) : St w D T h M → w_JString_checkIndex a1 a2 Q M → w_JString_checkIndex a1 a2 Q' M := by
  intro hs
  unfold w_JString_checkIndex
  exact (mf_all fun r1 => (mo_w_JPre_checkIndex hD  (fun r3 M2 f1 => (have g2 : Ow w D T _ M M2 := (Ow.trans (Ow.rf hs) f1); (hQ _  g2))) (Ow.rf hs).1))
set_option maxRecDepth 20000 in
theorem mo_w_JLatin_charAt {w : Nat} {D : Nat → Nat → Prop} {T : Nat → Prop} {h : Hot} {a1 : Nat} {a2 : Int32} {Q Q' : Int32 → Mem → Prop} {M : Mem} (hD : Dok w D)  (hQ : ∀ z0 z1, Ow w D T h M z1 → Q z0 z1 → Q' z0 z1) : St w D T h M → w_JLatin_charAt a1 a2 Q M → w_JLatin_charAt a1 a2 Q' M := by
  intro hs
  unfold w_JLatin_charAt
  exact (mf_and fun _ => (mf_and fun _ => (mo_w_JString_checkIndex hD  (fun M3 f1 => (have g2 : Ow w D T _ M M3 := (Ow.trans (Ow.rf hs) f1); (mf_and fun _ => (mf_and fun _ => (mf_and fun _ => (mf_and fun _ => (hQ _ _  g2))))))) (Ow.rf hs).1)))
set_option maxRecDepth 20000 in
theorem mo_w_JString_charAt {w : Nat} {D : Nat → Nat → Prop} {T : Nat → Prop} {h : Hot} {this : Nat} {a1 : Int32} {Q Q' : Int32 → Mem → Prop} {M : Mem} (hD : Dok w D)  (hQ : ∀ z0 z1, Ow w D T h M z1 → Q z0 z1 → Q' z0 z1) : St w D T h M → w_JString_charAt this a1 Q M → w_JString_charAt this a1 Q' M := by
  intro hs
  unfold w_JString_charAt
  exact (mf_and fun _ => (mo_w_JString_isLatin1 hD  (fun r2 M1 f1 => (have g2 : Ow w D T _ M M1 := (Ow.trans (Ow.rf hs) f1); (mf_ite (mf_and fun _ => id) (mf_and fun _ => (mo_w_JLatin_charAt hD  (fun r7 M6 f3 => (have g4 : Ow w D T _ M M6 := (Ow.trans g2 f3); (mf_and fun _ => (hQ _ _  g4)))) g2.1))))) (Ow.rf hs).1))
set_option maxRecDepth 20000 in
theorem mo_w_Names_numberOf_j60 {w : Nat} {D : Nat → Nat → Prop} {T : Nat → Prop} {h : Hot} {this : Nat} {Q Q' : Int32 → Mem → Prop} {h_Q : Hot} {k29 k29' : Int64 → Int32 → Int32 → Int32 → Mem → Prop} {h_k29 : Hot} {v1 : Int64} {v3 : Int32} {v4 : Int32} {v5 : Int32} {M : Mem} {M0 : Mem} (hD : Dok w D)  (lQ : ∀ t, h_Q t = true → h t = true) (hQ : ∀ z0 z1, Ow w D T h_Q M0 z1 → Q z0 z1 → Q' z0 z1) (lk29 : ∀ t, h_k29 t = true → h t = true) (hk29 : ∀ z0 z1 z2 z3 z4, Ow w D T h_k29 M0 z4 → k29 z0 z1 z2 z3 z4 → k29' z0 z1 z2 z3 z4) : Ow w D T h M0 M → w_Names_numberOf_j60 this Q k29 v1 v3 v4 v5 M → w_Names_numberOf_j60 this Q' k29' v1 v3 v4 v5 M := by
  intro hf
  unfold w_Names_numberOf_j60
  exact (mf_and fun _ => (hk29 _ _ _ _ _  (Ow.dn lk29 hf)))
set_option maxRecDepth 20000 in
theorem mo_w_Names_numberOf_L29 {w : Nat} {D : Nat → Nat → Prop} {T : Nat → Prop} {h : Hot} {this : Nat} {Q Q' : Int32 → Mem → Prop} {h_Q : Hot} {M0 : Mem} (hD : Dok w D)  (lQ : ∀ t, h_Q t = true → h t = true) (hQ : ∀ z0 z1, Ow w D T h_Q M0 z1 → Q z0 z1 → Q' z0 z1) : ∀ (n : Nat) (v1 : Int64) (v3 : Int32) (v4 : Int32) (v5 : Int32) (M : Mem), Ow w D T h M0 M → w_Names_numberOf_L29 this Q n v1 v3 v4 v5 M → w_Names_numberOf_L29 this Q' n v1 v3 v4 v5 M
  | 0, _, _, _, _, _ => fun  _ h => h
  | n + 1, v1, v3, v4, v5, M => fun  hf => by
    unfold w_Names_numberOf_L29
    exact (mf_ite (mf_and fun _ => (mf_and fun _ => (Exists.imp fun M6 => (mf_and fun e1 => (have g2 : Ow w D T _ M0 M6 := Ow.of e1 (Ow.wI (ow0 rfl) (Ow.wJ (ow0 rfl) hf)); (mf_and fun _ => (mf_and fun _ => (Exists.imp fun M9 => (mf_and fun e3 => (have g4 : Ow w D T _ M0 M9 := Ow.of e3 (Ow.wI (ow0 rfl) g2); (mf_and fun _ => (Exists.imp fun M11 => (mf_and fun e5 => (have g6 : Ow w D T _ M0 M11 := Ow.of e5 (Ow.wI (ow0 rfl) (Ow.wI (ow0 rfl) g4)); (hQ _ _  (Ow.dn lQ g6)))))))))))))))) (mf_and fun _ => (mf_ite (mf_and fun _ => (mf_ite (hQ _ _  (Ow.dn lQ hf)) (mo_w_Names_numberOf_j60 hD  lQ hQ (fun _ e => e) (fun y0 y1 y2 y3 y4  hf => mo_w_Names_numberOf_L29 hD  lQ hQ n y0 y1 y2 y3 y4  hf) hf))) (mo_w_Names_numberOf_j60 hD  lQ hQ (fun _ e => e) (fun y0 y1 y2 y3 y4  hf => mo_w_Names_numberOf_L29 hD  lQ hQ n y0 y1 y2 y3 y4  hf) hf))))
set_option maxRecDepth 20000 in
theorem mo_w_Names_numberOf {w : Nat} {D : Nat → Nat → Prop} {T : Nat → Prop} {h : Hot} {this : Nat} {a1 : Int64} {a2 : Int32} {Q Q' : Int32 → Mem → Prop} {M : Mem} (hD : Dok w D)  (hQ : ∀ z0 z1, Ow w D T h M z1 → Q z0 z1 → Q' z0 z1) : St w D T h M → w_Names_numberOf this a1 a2 Q M → w_Names_numberOf this a1 a2 Q' M := by
  intro hs
  unfold w_Names_numberOf
  exact (Exists.imp fun x1 => (mf_and fun _ => (mf_and fun _ => (Exists.imp fun n17 => (mo_w_Names_numberOf_L29 hD  (fun _ e => e) hQ _ _ _ _ _ _  (Ow.rf hs))))))
set_option maxRecDepth 20000 in
theorem mo_w_Works_isIn {w : Nat} {D : Nat → Nat → Prop} {T : Nat → Prop} {h : Hot} {a1 : Int32} {a2 : Int32} {a3 : Int32} {Q Q' : Int32 → Mem → Prop} {M : Mem} (hD : Dok w D)  (hQ : ∀ z0 z1, Ow w D T h M z1 → Q z0 z1 → Q' z0 z1) : St w D T h M → w_Works_isIn a1 a2 a3 Q M → w_Works_isIn a1 a2 a3 Q' M := by
  intro hs
  unfold w_Works_isIn
  exact (mf_ite (hQ _ _  (Ow.rf hs)) (mf_ite (hQ _ _  (Ow.rf hs)) (hQ _ _  (Ow.rf hs))))
set_option maxRecDepth 20000 in
theorem mo_w_Works_lay_L3 {w : Nat} {D : Nat → Nat → Prop} {T : Nat → Prop} {h : Hot} {this : Nat} {Q Q' : Mem → Prop} {h_Q : Hot} {M0 : Mem} (hD : Dok w D)  (lQ : ∀ t, h_Q t = true → h t = true) (hQ : ∀ z0, Ow w D T h_Q M0 z0 → Q z0 → Q' z0) : ∀ (n : Nat) (v1 : Int32) (v2 : Int32) (M : Mem), Ow w D T h M0 M → w_Works_lay_L3 this Q n v1 v2 M → w_Works_lay_L3 this Q' n v1 v2 M
  | 0, _, _, _ => fun  _ h => h
  | n + 1, v1, v2, M => fun  hf => by
    unfold w_Works_lay_L3
    exact (mf_ite (hQ _  (Ow.dn lQ hf)) (mf_and fun _ => (Exists.imp fun M3 => (mf_and fun e1 => (have g2 : Ow w D T _ M0 M3 := Ow.of e1 (Ow.wI (ow0 rfl) hf); (have g3 : Ow w D T _ M0 (sI M3 10 this 1 ((mI M3 10 this 1) + (1 : Int32))) := (Ow.wI (ow0 rfl) g2); (mo_w_Works_lay_L3 hD  lQ hQ _ _ _ _  g3)))))))
set_option maxRecDepth 20000 in
theorem mo_w_Works_lay {w : Nat} {D : Nat → Nat → Prop} {T : Nat → Prop} {h : Hot} {this : Nat} {a1 : Int32} {Q Q' : Mem → Prop} {M : Mem} (hD : Dok w D)  (hQ : ∀ z0, Ow w D T h M z0 → Q z0 → Q' z0) : St w D T h M → w_Works_lay this a1 Q M → w_Works_lay this a1 Q' M := by
  intro hs
  unfold w_Works_lay
  exact (Exists.imp fun n4 => (mo_w_Works_lay_L3 hD  (fun _ e => e) hQ _ _ _ _  (Ow.rf hs)))
set_option maxRecDepth 20000 in
theorem mo_w_Works_feed {w : Nat} {D : Nat → Nat → Prop} {T : Nat → Prop} {h : Hot} {this : Nat} {a1 : Int32} {a2 : Int32} {a3 : Int32} {a4 : Int32} {a5 : Int32} {Q Q' : Int32 → Mem → Prop} {M : Mem} (hD : Dok w D)  (hQ : ∀ z0 z1, Ow w D T h M z1 → Q z0 z1 → Q' z0 z1) : St w D T h M → w_Works_feed this a1 a2 a3 a4 a5 Q M → w_Works_feed this a1 a2 a3 a4 a5 Q' M := by
  intro hs
  unfold w_Works_feed
  exact (mf_ite (mo_w_Works_lay hD  (fun M2 f1 => (have g2 : Ow w D T _ M M2 := (Ow.trans (Ow.rf hs) f1); (mo_w_Works_lay hD  (fun M3 f3 => (have g4 : Ow w D T _ M M3 := (Ow.trans g2 f3); (mo_w_Works_lay hD  (fun M4 f5 => (have g6 : Ow w D T _ M M4 := (Ow.trans g4 f5); (mo_w_Works_lay hD  (fun M5 f7 => (have g8 : Ow w D T _ M M5 := (Ow.trans g6 f7); (mo_w_Works_lay hD  (fun M6 f9 => (have g10 : Ow w D T _ M M6 := (Ow.trans g8 f9); (hQ _ _  g10))) g8.1))) g6.1))) g4.1))) g2.1))) (Ow.rf hs).1) (hQ _ _  (Ow.rf hs)))
set_option maxRecDepth 20000 in
theorem mo_w_Works_cut {w : Nat} {D : Nat → Nat → Prop} {T : Nat → Prop} {h : Hot} {this : Nat} {a1 : Int32} {Q Q' : Int32 → Mem → Prop} {M : Mem} (hD : Dok w D)  (hQ : ∀ z0 z1, Ow w D T h M z1 → Q z0 z1 → Q' z0 z1) : St w D T h M → w_Works_cut this a1 Q M → w_Works_cut this a1 Q' M := by
  intro hs
  unfold w_Works_cut
  exact (mo_w_Works_isIn hD  (fun r2 M1 f1 => (have g2 : Ow w D T _ M M1 := (Ow.trans (Ow.rf hs) f1); (mf_ite (hQ _ _  g2) (hQ _ _  (Ow.wI (ow0 rfl) g2))))) (Ow.rf hs).1)
set_option maxRecDepth 20000 in
theorem mo_w_Works_isReference {w : Nat} {D : Nat → Nat → Prop} {T : Nat → Prop} {h : Hot} {a1 : Int32} {Q Q' : Int32 → Mem → Prop} {M : Mem} (hD : Dok w D)  (hQ : ∀ z0 z1, Ow w D T h M z1 → Q z0 z1 → Q' z0 z1) : St w D T h M → w_Works_isReference a1 Q M → w_Works_isReference a1 Q' M := by
  intro hs
  unfold w_Works_isReference
  exact (mf_ite (hQ _ _  (Ow.rf hs)) (mf_ite (hQ _ _  (Ow.rf hs)) (hQ _ _  (Ow.rf hs))))
set_option maxRecDepth 20000 in
theorem mo_w_Works_kindOf {w : Nat} {D : Nat → Nat → Prop} {T : Nat → Prop} {h : Hot} {a1 : Int32} {Q Q' : Int32 → Mem → Prop} {M : Mem} (hD : Dok w D)  (hQ : ∀ z0 z1, Ow w D T h M z1 → Q z0 z1 → Q' z0 z1) : St w D T h M → w_Works_kindOf a1 Q M → w_Works_kindOf a1 Q' M := by
  intro hs
  unfold w_Works_kindOf
  exact (hQ _ _  (Ow.rf hs))
set_option maxRecDepth 20000 in
theorem mo_w_Works_refuse {w : Nat} {D : Nat → Nat → Prop} {T : Nat → Prop} {h : Hot} {this : Nat} {a1 : Int32} {a2 : Int32} {Q Q' : Nat → Mem → Prop} {M : Mem} (hD : Dok w D)  (hQ : ∀ z0 z1, Ow w D T h M z1 → Q z0 z1 → Q' z0 z1) : St w D T h M → w_Works_refuse this a1 a2 Q M → w_Works_refuse this a1 a2 Q' M := by
  intro hs
  unfold w_Works_refuse
  exact (hQ _ _  (Ow.wI (ow0 rfl) (Ow.wI (ow0 rfl) (Ow.rf hs))))
set_option maxRecDepth 20000 in
theorem mo_w_World_addClass {w : Nat} {D : Nat → Nat → Prop} {T : Nat → Prop} {h : Hot} {this : Nat} {a1 : Int32} {a2 : Int32} {a3 : Int32} {Q Q' : Int32 → Mem → Prop} {M : Mem} (hD : Dok w D) (n0 : ow w D 5 this) (hQ : ∀ z0 z1, Ow w D T h M z1 → Q z0 z1 → Q' z0 z1) : St w D T h M → w_World_addClass this a1 a2 a3 Q M → w_World_addClass this a1 a2 a3 Q' M := by
  intro hs
  unfold w_World_addClass
  exact (mf_and fun _ => (Exists.imp fun M2 => (mf_and fun e1 => (have g2 : Ow w D T _ M M2 := Ow.of e1 (Ow.wI (ow.to n0 rfl rfl) (Ow.wI n0 (Ow.rf hs))); (mf_and fun _ => (mf_and fun _ => (Exists.imp fun M5 => (mf_and fun e3 => (have g4 : Ow w D T _ M M5 := Ow.of e3 (Ow.wI (ow.to n0 rfl rfl) (Ow.wI (ow.to n0 rfl rfl) g2)); (mf_and fun _ => (mf_and fun _ => (Exists.imp fun M8 => (mf_and fun e5 => (have g6 : Ow w D T _ M M8 := Ow.of e5 (Ow.wI (ow.to n0 rfl rfl) (Ow.wI (ow.to n0 rfl rfl) g4)); (mf_and fun _ => (mf_and fun _ => (Exists.imp fun M11 => (mf_and fun e7 => (have g8 : Ow w D T _ M M11 := Ow.of e7 (Ow.wI (ow.to n0 rfl rfl) (Ow.wI (ow.to n0 rfl rfl) g6)); (mf_and fun _ => (mf_and fun _ => (Exists.imp fun M14 => (mf_and fun e9 => (have g10 : Ow w D T _ M M14 := Ow.of e9 (Ow.wI (ow.to n0 rfl rfl) (Ow.wI (ow.to n0 rfl rfl) g8)); (mf_and fun _ => (mf_and fun _ => (Exists.imp fun M17 => (mf_and fun e11 => (have g12 : Ow w D T _ M M17 := Ow.of e11 (Ow.wI (ow.to n0 rfl rfl) (Ow.wI (ow.to n0 rfl rfl) g10)); (mf_and fun _ => (hQ _ _  (Ow.wI (ow.to n0 rfl rfl) g12))))))))))))))))))))))))))))))))
set_option maxRecDepth 20000 in
theorem mo_w_World_addMethod {w : Nat} {D : Nat → Nat → Prop} {T : Nat → Prop} {h : Hot} {this : Nat} {a1 : Int32} {a2 : Int32} {Q Q' : Int32 → Mem → Prop} {M : Mem} (hD : Dok w D) (n0 : ow w D 5 this) (hQ : ∀ z0 z1, Ow w D T h M z1 → Q z0 z1 → Q' z0 z1) : St w D T h M → w_World_addMethod this a1 a2 Q M → w_World_addMethod this a1 a2 Q' M := by
  intro hs
  unfold w_World_addMethod
  exact (mf_and fun _ => (Exists.imp fun M2 => (mf_and fun e1 => (have g2 : Ow w D T _ M M2 := Ow.of e1 (Ow.wI (ow.to n0 rfl rfl) (Ow.wI n0 (Ow.rf hs))); (mf_and fun _ => (mf_and fun _ => (Exists.imp fun M5 => (mf_and fun e3 => (have g4 : Ow w D T _ M M5 := Ow.of e3 (Ow.wI (ow.to n0 rfl rfl) (Ow.wI (ow.to n0 rfl rfl) g2)); (mf_and fun _ => (mf_and fun _ => (Exists.imp fun M8 => (mf_and fun e5 => (have g6 : Ow w D T _ M M8 := Ow.of e5 (Ow.wI (ow.to n0 rfl rfl) (Ow.wI (ow.to n0 rfl rfl) g4)); (mf_and fun _ => (mf_and fun _ => (Exists.imp fun M11 => (mf_and fun e7 => (have g8 : Ow w D T _ M M11 := Ow.of e7 (Ow.wI (ow.to n0 rfl rfl) (Ow.wI (ow.to n0 rfl rfl) g6)); (mf_and fun _ => (mf_and fun _ => (Exists.imp fun M14 => (mf_and fun e9 => (have g10 : Ow w D T _ M M14 := Ow.of e9 (Ow.wI (ow.to n0 rfl rfl) (Ow.wI (ow.to n0 rfl rfl) g8)); (mf_and fun _ => (hQ _ _  (Ow.wI (ow.to n0 rfl rfl) g10)))))))))))))))))))))))))))
set_option maxRecDepth 20000 in
theorem mo_w_Line_clear {w : Nat} {D : Nat → Nat → Prop} {T : Nat → Prop} {h : Hot} {this : Nat} {Q Q' : Mem → Prop} {M : Mem} (hD : Dok w D) (n0 : ow w D 7 this) (hQ : ∀ z0, Ow w D T h M z0 → Q z0 → Q' z0) : St w D T h M → w_Line_clear this Q M → w_Line_clear this Q' M := by
  intro hs
  unfold w_Line_clear
  exact (mf_and fun _ => (Exists.imp fun M2 => (mf_and fun e1 => (have g2 : Ow w D T _ M M2 := Ow.of e1 (Ow.wI n0 (Ow.wI n0 (Ow.wI n0 (Ow.rf hs)))); (Exists.imp fun M3 => (mf_and fun e3 => (have g4 : Ow w D T _ M M3 := Ow.of e3 (Ow.wI n0 (Ow.wI n0 (Ow.wI n0 g2))); (Exists.imp fun M4 => (mf_and fun e5 => (have g6 : Ow w D T _ M M4 := Ow.of e5 (Ow.wI n0 (Ow.wI n0 (Ow.wI n0 g4))); (hQ _  (Ow.wI n0 (Ow.wI n0 g6)))))))))))))
set_option maxRecDepth 20000 in
theorem mo_w_Machine_begin_L10 {w : Nat} {D : Nat → Nat → Prop} {T : Nat → Prop} {h : Hot} {this : Nat} {Q Q' : Mem → Prop} {h_Q : Hot} {M0 : Mem} (hD : Dok w D) (n0 : ow w D 6 this) (lQ : ∀ t, h_Q t = true → h t = true) (hQ : ∀ z0, Ow w D T h_Q M0 z0 → Q z0 → Q' z0) : ∀ (n : Nat) (v2 : Int32) (v3 : Int32) (M : Mem), Ow w D T h M0 M → w_Machine_begin_L10 this Q n v2 v3 M → w_Machine_begin_L10 this Q' n v2 v3 M
  | 0, _, _, _ => fun  _ h => h
  | n + 1, v2, v3, M => fun  hf => by
    unfold w_Machine_begin_L10
    exact (mf_ite (Exists.imp fun M2 => (mf_and fun e1 => (have g2 : Ow w D T _ M0 M2 := Ow.of e1 (Ow.wI n0 (Ow.wI n0 (Ow.wI n0 hf))); (Exists.imp fun M3 => (mf_and fun e3 => (have g4 : Ow w D T _ M0 M3 := Ow.of e3 (Ow.wI n0 (Ow.wI n0 (Ow.wI n0 g2))); (Exists.imp fun M4 => (mf_and fun e5 => (have g6 : Ow w D T _ M0 M4 := Ow.of e5 (Ow.wI n0 (Ow.wI n0 (Ow.wI n0 g4))); (mf_and fun _ => (Exists.imp fun M5 => (mf_and fun e7 => (have g8 : Ow w D T _ M0 M5 := Ow.of e7 (Ow.wfl (ow.to n0 rfl rfl) g6); (mf_and fun _ => (Exists.imp fun M7 => (mf_and fun e9 => (have g10 : Ow w D T _ M0 M7 := Ow.of e9 (Ow.wfl (ow.to n0 rfl rfl) (Ow.wI n0 g8)); (hQ _  (Ow.dn lQ g10))))))))))))))))))) (mf_and fun _ => (Exists.imp fun i10 => (mf_and fun e11 => (have o12 : ow w D 7 i10 := (Ow.r1 e11 rfl rfl (ow.to n0 rfl rfl) hf); (mo_w_Line_clear hD o12 (fun M11 f13 => (have g14 : Ow w D T _ M0 M11 := (Ow.trans hf f13); (mo_w_Machine_begin_L10 hD n0 lQ hQ _ _ _ _  g14))) hf.1))))))
set_option maxRecDepth 20000 in
theorem mo_w_Machine_begin {w : Nat} {D : Nat → Nat → Prop} {T : Nat → Prop} {h : Hot} {this : Nat} {Q Q' : Mem → Prop} {M : Mem} (hD : Dok w D) (n0 : ow w D 6 this) (hQ : ∀ z0, Ow w D T h M z0 → Q z0 → Q' z0) : St w D T h M → w_Machine_begin this Q M → w_Machine_begin this Q' M := by
  intro hs
  unfold w_Machine_begin
  exact (Exists.imp fun n12 => (mo_w_Machine_begin_L10 hD n0 (fun _ e => e) hQ _ _ _ _  (Ow.rf hs)))
set_option maxRecDepth 20000 in
theorem mo_w_World_begin_j102 {w : Nat} {D : Nat → Nat → Prop} {T : Nat → Prop} {h : Hot} {this : Nat} {Q Q' : Mem → Prop} {h_Q : Hot} {k65 k65' : Int32 → Mem → Prop} {h_k65 : Hot} {v2 : Int32} {s0 : Int32} {M : Mem} {M0 : Mem} (hD : Dok w D) (n0 : ow w D 5 this) (lQ : ∀ t, h_Q t = true → h t = true) (hQ : ∀ z0, Ow w D T h_Q M0 z0 → Q z0 → Q' z0) (lk65 : ∀ t, h_k65 t = true → h t = true) (hk65 : ∀ z0 z1, Ow w D T h_k65 M0 z1 → k65 z0 z1 → k65' z0 z1) : Ow w D T h M0 M → w_World_begin_j102 this Q k65 v2 s0 M → w_World_begin_j102 this Q' k65' v2 s0 M := by
  intro hf
  unfold w_World_begin_j102
  exact (mo_w_World_addClass hD n0 (fun r9 M8 f1 => (have g2 : Ow w D T _ M0 M8 := (Ow.trans hf f1); (mo_w_World_addMethod hD n0 (fun r11 M10 f3 => (have g4 : Ow w D T _ M0 M10 := (Ow.trans g2 f3); (mf_and fun _ => (mf_and fun _ => (Exists.imp fun M14 => (mf_and fun e5 => (have g6 : Ow w D T _ M0 M14 := Ow.of e5 (Ow.wI (ow.to n0 rfl rfl) (Ow.wI (ow.to n0 rfl rfl) g4)); (mf_and fun _ => (mf_and fun _ => (Exists.imp fun M17 => (mf_and fun e7 => (have g8 : Ow w D T _ M0 M17 := Ow.of e7 (Ow.wI (ow.to n0 rfl rfl) (Ow.wI (ow.to n0 rfl rfl) g6)); (hk65 _ _  (Ow.dn lk65 g8)))))))))))))) g2.1))) hf.1)
set_option maxRecDepth 20000 in
theorem mo_w_World_begin_L65 {w : Nat} {D : Nat → Nat → Prop} {T : Nat → Prop} {h : Hot} {this : Nat} {Q Q' : Mem → Prop} {h_Q : Hot} {M0 : Mem} (hD : Dok w D) (n0 : ow w D 6 this) (lQ : ∀ t, h_Q t = true → h t = true) (hQ : ∀ z0, Ow w D T h_Q M0 z0 → Q z0 → Q' z0) : ∀ (n : Nat) (v2 : Int32) (M : Mem), Ow w D T h M0 M → w_World_begin_L65 this Q n v2 M → w_World_begin_L65 this Q' n v2 M
  | 0, _, _ => fun  _ h => h
  | n + 1, v2, M => fun  hf => by
    unfold w_World_begin_L65
    exact (mf_ite (mo_w_Machine_begin hD n0 (fun M6 f1 => (have g2 : Ow w D T _ M0 M6 := (Ow.trans hf f1); (hQ _  (Ow.dn lQ g2)))) hf.1) (mf_ite (mo_w_World_begin_j102 hD (ow.to n0 rfl rfl) lQ hQ (fun _ e => e) (fun y0 y1  hf => mo_w_World_begin_L65 hD n0 lQ hQ n y0 y1  hf) hf) (mf_ite (mo_w_World_begin_j102 hD (ow.to n0 rfl rfl) lQ hQ (fun _ e => e) (fun y0 y1  hf => mo_w_World_begin_L65 hD n0 lQ hQ n y0 y1  hf) hf) (mf_ite (mo_w_World_begin_j102 hD (ow.to n0 rfl rfl) lQ hQ (fun _ e => e) (fun y0 y1  hf => mo_w_World_begin_L65 hD n0 lQ hQ n y0 y1  hf) hf) (mo_w_World_begin_j102 hD (ow.to n0 rfl rfl) lQ hQ (fun _ e => e) (fun y0 y1  hf => mo_w_World_begin_L65 hD n0 lQ hQ n y0 y1  hf) hf)))))
set_option maxRecDepth 20000 in
theorem mo_w_World_begin {w : Nat} {D : Nat → Nat → Prop} {T : Nat → Prop} {h : Hot} {this : Nat} {a1 : Int32} {Q Q' : Mem → Prop} {M : Mem} (hD : Dok w D) (n0 : ow w D 5 this) (hQ : ∀ z0, Ow w D T h M z0 → Q z0 → Q' z0) : St w D T h M → w_World_begin this a1 Q M → w_World_begin this a1 Q' M := by
  intro hs
  unfold w_World_begin
  exact (Exists.imp fun M1 => (mf_and fun e1 => (have g2 : Ow w D T _ M M1 := Ow.of e1 (Ow.wI n0 (Ow.wI n0 (Ow.wI n0 (Ow.rf hs)))); (Exists.imp fun M2 => (mf_and fun e3 => (have g4 : Ow w D T _ M M2 := Ow.of e3 (Ow.wI n0 (Ow.wI n0 (Ow.wI n0 g2))); (Exists.imp fun M3 => (mf_and fun e5 => (have g6 : Ow w D T _ M M3 := Ow.of e5 (Ow.wI n0 (Ow.wI n0 (Ow.wI n0 g4))); (Exists.imp fun M4 => (mf_and fun e7 => (have g8 : Ow w D T _ M M4 := Ow.of e7 (Ow.wI n0 (Ow.wI n0 (Ow.wI n0 g6))); (Exists.imp fun n20 => (mo_w_World_begin_L65 hD (ow.to n0 rfl rfl) (fun _ e => e) hQ _ _ _  g8))))))))))))))
set_option maxRecDepth 20000 in
theorem mo_w_Words_begin {w : Nat} {D : Nat → Nat → Prop} {T : Nat → Prop} {h : Hot} {this : Nat} {a1 : Nat} {a2 : Int32} {Q Q' : Mem → Prop} {M : Mem} (hD : Dok w D)  (hQ : ∀ z0, Ow w D T h M z0 → Q z0 → Q' z0) : St w D T h M → w_Words_begin this a1 a2 Q M → w_Words_begin this a1 a2 Q' M := by
  intro hs
  unfold w_Words_begin
  exact (Exists.imp fun M1 => (mf_and fun e1 => (have g2 : Ow w D T _ M M1 := Ow.of e1 (Ow.wI (ow0 rfl) (Ow.wI (ow0 rfl) (Ow.wR rfl (ow0 rfl) (ow0 rfl) (Ow.rf hs)))); (hQ _  g2))))
set_option maxRecDepth 20000 in
theorem mo_w_Words_peek {w : Nat} {D : Nat → Nat → Prop} {T : Nat → Prop} {h : Hot} {this : Nat} {a1 : Int32} {Q Q' : Int32 → Mem → Prop} {M : Mem} (hD : Dok w D)  (hQ : ∀ z0 z1, Ow w D T h M z1 → Q z0 z1 → Q' z0 z1) : St w D T h M → w_Words_peek this a1 Q M → w_Words_peek this a1 Q' M := by
  intro hs
  unfold w_Words_peek
  exact (mf_ite (hQ _ _  (Ow.rf hs)) (Exists.imp fun i2 => (mf_and fun e1 => (mf_and fun _ => (hQ _ _  (Ow.rf hs))))))
set_option maxRecDepth 20000 in
theorem mo_w_Words_isLetter {w : Nat} {D : Nat → Nat → Prop} {T : Nat → Prop} {h : Hot} {this : Nat} {a1 : Int32} {Q Q' : Int32 → Mem → Prop} {M : Mem} (hD : Dok w D)  (hQ : ∀ z0 z1, Ow w D T h M z1 → Q z0 z1 → Q' z0 z1) : St w D T h M → w_Words_isLetter this a1 Q M → w_Words_isLetter this a1 Q' M := by
  intro hs
  unfold w_Words_isLetter
  exact (mo_w_Works_isIn hD  (fun r2 M1 f1 => (have g2 : Ow w D T _ M M1 := (Ow.trans (Ow.rf hs) f1); (mf_ite (mo_w_Works_isIn hD  (fun r5 M4 f3 => (have g4 : Ow w D T _ M M4 := (Ow.trans g2 f3); (mf_ite (mf_ite (hQ _ _  g4) (hQ _ _  g4)) (hQ _ _  g4)))) g2.1) (hQ _ _  g2)))) (Ow.rf hs).1)
set_option maxRecDepth 20000 in
theorem mo_w_Words_isDigit {w : Nat} {D : Nat → Nat → Prop} {T : Nat → Prop} {h : Hot} {this : Nat} {a1 : Int32} {Q Q' : Int32 → Mem → Prop} {M : Mem} (hD : Dok w D)  (hQ : ∀ z0 z1, Ow w D T h M z1 → Q z0 z1 → Q' z0 z1) : St w D T h M → w_Words_isDigit this a1 Q M → w_Words_isDigit this a1 Q' M := by
  intro hs
  unfold w_Words_isDigit
  exact (mo_w_Works_isIn hD  (fun r2 M1 f1 => (have g2 : Ow w D T _ M M1 := (Ow.trans (Ow.rf hs) f1); (mf_and fun _ => (hQ _ _  g2)))) (Ow.rf hs).1)
set_option maxRecDepth 20000 in
theorem mo_w_Names_of_j67 {w : Nat} {D : Nat → Nat → Prop} {T : Nat → Prop} {h : Hot} {this : Nat} {Q Q' : Int32 → Mem → Prop} {h_Q : Hot} {k9 k9' : Nat → Int32 → Int32 → Int64 → Int32 → Int32 → Mem → Prop} {h_k9 : Hot} {v1 : Nat} {v2 : Int32} {v3 : Int32} {v4 : Int64} {v6 : Int32} {v7 : Int32} {M : Mem} {M0 : Mem} (hD : Dok w D)  (lQ : ∀ t, h_Q t = true → h t = true) (hQ : ∀ z0 z1, Ow w D T h_Q M0 z1 → Q z0 z1 → Q' z0 z1) (lk9 : ∀ t, h_k9 t = true → h t = true) (hk9 : ∀ z0 z1 z2 z3 z4 z5 z6, Ow w D T h_k9 M0 z6 → k9 z0 z1 z2 z3 z4 z5 z6 → k9' z0 z1 z2 z3 z4 z5 z6) : Ow w D T h M0 M → w_Names_of_j67 this Q k9 v1 v2 v3 v4 v6 v7 M → w_Names_of_j67 this Q' k9' v1 v2 v3 v4 v6 v7 M := by
  intro hf
  unfold w_Names_of_j67
  exact (hk9 _ _ _ _ _ _ _  (Ow.dn lk9 hf))
set_option maxRecDepth 20000 in
theorem mo_w_Names_of_j34 {w : Nat} {D : Nat → Nat → Prop} {T : Nat → Prop} {h : Hot} {this : Nat} {Q Q' : Int32 → Mem → Prop} {h_Q : Hot} {k9 k9' : Nat → Int32 → Int32 → Int64 → Int32 → Int32 → Mem → Prop} {h_k9 : Hot} {v1 : Nat} {v2 : Int32} {v3 : Int32} {v4 : Int64} {v6 : Int32} {v7 : Int32} {s0 : Int32} {M : Mem} {M0 : Mem} (hD : Dok w D)  (lQ : ∀ t, h_Q t = true → h t = true) (hQ : ∀ z0 z1, Ow w D T h_Q M0 z1 → Q z0 z1 → Q' z0 z1) (lk9 : ∀ t, h_k9 t = true → h t = true) (hk9 : ∀ z0 z1 z2 z3 z4 z5 z6, Ow w D T h_k9 M0 z6 → k9 z0 z1 z2 z3 z4 z5 z6 → k9' z0 z1 z2 z3 z4 z5 z6) : Ow w D T h M0 M → w_Names_of_j34 this Q k9 v1 v2 v3 v4 v6 v7 s0 M → w_Names_of_j34 this Q' k9' v1 v2 v3 v4 v6 v7 s0 M := by
  intro hf
  unfold w_Names_of_j34
  exact (mf_ite (mo_w_Names_of_j67 hD  lQ hQ lk9 hk9 hf) (mo_w_Names_of_j67 hD  lQ hQ lk9 hk9 hf))
set_option maxRecDepth 20000 in
theorem mo_w_Names_of_L9 {w : Nat} {D : Nat → Nat → Prop} {T : Nat → Prop} {h : Hot} {this : Nat} {Q Q' : Int32 → Mem → Prop} {h_Q : Hot} {M0 : Mem} (hD : Dok w D)  (lQ : ∀ t, h_Q t = true → h t = true) (hQ : ∀ z0 z1, Ow w D T h_Q M0 z1 → Q z0 z1 → Q' z0 z1) : ∀ (n : Nat) (v1 : Nat) (v2 : Int32) (v3 : Int32) (v4 : Int64) (v6 : Int32) (v7 : Int32) (M : Mem), Ow w D T h M0 M → w_Names_of_L9 this Q n v1 v2 v3 v4 v6 v7 M → w_Names_of_L9 this Q' n v1 v2 v3 v4 v6 v7 M
  | 0, _, _, _, _, _, _, _ => fun  _ h => h
  | n + 1, v1, v2, v3, v4, v6, v7, M => fun  hf => by
    unfold w_Names_of_L9
    exact (mf_ite (mo_w_Names_numberOf hD  (fun r3 M2 f1 => (have g2 : Ow w D T _ M0 M2 := (Ow.trans hf f1); (hQ _ _  (Ow.dn lQ g2)))) hf.1) (mf_ite (mo_w_Names_of_j34 hD  lQ hQ (fun _ e => e) (fun y0 y1 y2 y3 y4 y5 y6  hf => mo_w_Names_of_L9 hD  lQ hQ n y0 y1 y2 y3 y4 y5 y6  hf) hf) (mf_and fun _ => (mo_w_Names_of_j34 hD  lQ hQ (fun _ e => e) (fun y0 y1 y2 y3 y4 y5 y6  hf => mo_w_Names_of_L9 hD  lQ hQ n y0 y1 y2 y3 y4 y5 y6  hf) hf))))
set_option maxRecDepth 20000 in
theorem mo_w_Names_of {w : Nat} {D : Nat → Nat → Prop} {T : Nat → Prop} {h : Hot} {this : Nat} {a1 : Nat} {a2 : Int32} {a3 : Int32} {Q Q' : Int32 → Mem → Prop} {M : Mem} (hD : Dok w D)  (hQ : ∀ z0 z1, Ow w D T h M z1 → Q z0 z1 → Q' z0 z1) : St w D T h M → w_Names_of this a1 a2 a3 Q M → w_Names_of this a1 a2 a3 Q' M := by
  intro hs
  unfold w_Names_of
  exact (Exists.imp fun n7 => (mo_w_Names_of_L9 hD  (fun _ e => e) hQ _ _ _ _ _ _ _ _  (Ow.rf hs)))
set_option maxRecDepth 20000 in
theorem mo_w_Words_name_j29 {w : Nat} {D : Nat → Nat → Prop} {T : Nat → Prop} {h : Hot} {this : Nat} {Q Q' : Mem → Prop} {h_Q : Hot} {k5 k5' : Int32 → Mem → Prop} {h_k5 : Hot} {v1 : Int32} {M : Mem} {M0 : Mem} (hD : Dok w D)  (lQ : ∀ t, h_Q t = true → h t = true) (hQ : ∀ z0, Ow w D T h_Q M0 z0 → Q z0 → Q' z0) (lk5 : ∀ t, h_k5 t = true → h t = true) (hk5 : ∀ z0 z1, Ow w D T h_k5 M0 z1 → k5 z0 z1 → k5' z0 z1) : Ow w D T h M0 M → w_Words_name_j29 this Q k5 v1 M → w_Words_name_j29 this Q' k5' v1 M := by
  intro hf
  unfold w_Words_name_j29
  exact (hk5 _ _  (Ow.dn lk5 hf))
set_option maxRecDepth 20000 in
theorem mo_w_Words_name_L5 {w : Nat} {D : Nat → Nat → Prop} {T : Nat → Prop} {h : Hot} {this : Nat} {Q Q' : Mem → Prop} {h_Q : Hot} {M0 : Mem} (hD : Dok w D)  (lQ : ∀ t, h_Q t = true → h t = true) (hQ : ∀ z0, Ow w D T h_Q M0 z0 → Q z0 → Q' z0) : ∀ (n : Nat) (v1 : Int32) (M : Mem), Ow w D T h M0 M → w_Words_name_L5 this Q n v1 M → w_Words_name_L5 this Q' n v1 M
  | 0, _, _ => fun  _ h => h
  | n + 1, v1, M => fun  hf => by
    unfold w_Words_name_L5
    exact (mo_w_Words_peek hD  (fun r2 M1 f1 => (have g2 : Ow w D T _ M0 M1 := (Ow.trans hf f1); (mo_w_Words_isLetter hD  (fun r4 M3 f3 => (have g4 : Ow w D T _ M0 M3 := (Ow.trans g2 f3); (mf_ite (mo_w_Words_peek hD  (fun r7 M6 f5 => (have g6 : Ow w D T _ M0 M6 := (Ow.trans g4 f5); (mo_w_Words_isDigit hD  (fun r9 M8 f7 => (have g8 : Ow w D T _ M0 M8 := (Ow.trans g6 f7); (mf_ite (mf_ite (Exists.imp fun i12 => (mf_and fun e9 => (have g11 : Ow w D T _ M0 (sR M8 2 this 3 (some (0, 100 + 0))) := (Ow.wR rfl (ow0 rfl) (ow0 rfl) g8); (mo_w_Names_of hD  (fun r14 M13 f12 => (have g13 : Ow w D T _ M0 M13 := (Ow.trans g11 f12); (hQ _  (Ow.dn lQ (Ow.wI (ow0 rfl) (Ow.wI (ow0 rfl) g13)))))) g11.1)))) (hQ _  (Ow.dn lQ g8))) (mo_w_Words_name_j29 hD  lQ hQ (fun _ e => e) (fun y0 y1  hf => mo_w_Words_name_L5 hD  lQ hQ n y0 y1  hf) g8)))) g6.1))) g4.1) (mo_w_Words_name_j29 hD  lQ hQ (fun _ e => e) (fun y0 y1  hf => mo_w_Words_name_L5 hD  lQ hQ n y0 y1  hf) g4)))) g2.1))) hf.1)
set_option maxRecDepth 20000 in
theorem mo_w_Words_name {w : Nat} {D : Nat → Nat → Prop} {T : Nat → Prop} {h : Hot} {this : Nat} {Q Q' : Mem → Prop} {M : Mem} (hD : Dok w D)  (hQ : ∀ z0, Ow w D T h M z0 → Q z0 → Q' z0) : St w D T h M → w_Words_name this Q M → w_Words_name this Q' M := by
  intro hs
  unfold w_Words_name
  exact (Exists.imp fun n15 => (mo_w_Words_name_L5 hD  (fun _ e => e) hQ _ _ _  (Ow.rf hs)))
set_option maxRecDepth 20000 in
theorem mo_w_Words_number_j98 {w : Nat} {D : Nat → Nat → Prop} {T : Nat → Prop} {h : Hot} {this : Nat} {Q Q' : Mem → Prop} {h_Q : Hot} {v3 : Int32} {v4 : Int64} {M : Mem} {M0 : Mem} (hD : Dok w D)  (lQ : ∀ t, h_Q t = true → h t = true) (hQ : ∀ z0, Ow w D T h_Q M0 z0 → Q z0 → Q' z0) : Ow w D T h M0 M → w_Words_number_j98 this Q v3 v4 M → w_Words_number_j98 this Q' v3 v4 M := by
  intro hf
  unfold w_Words_number_j98
  exact (mf_ite (hQ _  (Ow.dn lQ hf)) (mf_ite (Exists.imp fun M14 => (mf_and fun e1 => (have g2 : Ow w D T _ M0 M14 := Ow.of e1 (Ow.wI (ow0 rfl) (Ow.wI (ow0 rfl) (Ow.wR rfl (ow0 rfl) (ow0 rfl) hf))); (hQ _  (Ow.dn lQ g2))))) (hQ _  (Ow.dn lQ hf))))
set_option maxRecDepth 20000 in
theorem mo_w_Words_number_L57 {w : Nat} {D : Nat → Nat → Prop} {T : Nat → Prop} {h : Hot} {this : Nat} {Q Q' : Mem → Prop} {h_Q : Hot} {M0 : Mem} (hD : Dok w D)  (lQ : ∀ t, h_Q t = true → h t = true) (hQ : ∀ z0, Ow w D T h_Q M0 z0 → Q z0 → Q' z0) : ∀ (n : Nat) (v1 : Int32) (v3 : Int32) (v4 : Int64) (v6 : Int32) (M : Mem), Ow w D T h M0 M → w_Words_number_L57 this Q n v1 v3 v4 v6 M → w_Words_number_L57 this Q' n v1 v3 v4 v6 M
  | 0, _, _, _, _, _ => fun  _ h => h
  | n + 1, v1, v3, v4, v6, M => fun  hf => by
    unfold w_Words_number_L57
    exact (mf_ite (mf_ite (mo_w_Words_number_j98 hD  lQ hQ hf) (mo_w_Words_number_j98 hD  lQ hQ hf)) (mo_w_Words_peek hD  (fun r16 M15 f1 => (have g2 : Ow w D T _ M0 M15 := (Ow.trans hf f1); (mo_w_Words_number_L57 hD  lQ hQ _ _ _ _ _ _  g2))) hf.1))
set_option maxRecDepth 20000 in
theorem mo_w_Words_number_L20 {w : Nat} {D : Nat → Nat → Prop} {T : Nat → Prop} {h : Hot} {this : Nat} {Q Q' : Mem → Prop} {h_Q : Hot} {M0 : Mem} (hD : Dok w D)  (lQ : ∀ t, h_Q t = true → h t = true) (hQ : ∀ z0, Ow w D T h_Q M0 z0 → Q z0 → Q' z0) : ∀ (n : Nat) (v1 : Int32) (v2 : Int32) (v3 : Int32) (M : Mem), Ow w D T h M0 M → w_Words_number_L20 this Q n v1 v2 v3 M → w_Words_number_L20 this Q' n v1 v2 v3 M
  | 0, _, _, _, _ => fun  _ h => h
  | n + 1, v1, v2, v3, M => fun  hf => by
    unfold w_Words_number_L20
    exact (mo_w_Words_peek hD  (fun r3 M2 f1 => (have g2 : Ow w D T _ M0 M2 := (Ow.trans hf f1); (mo_w_Words_isDigit hD  (fun r5 M4 f3 => (have g4 : Ow w D T _ M0 M4 := (Ow.trans g2 f3); (mf_ite (mo_w_Works_isIn hD  (fun r8 M7 f5 => (have g6 : Ow w D T _ M0 M7 := (Ow.trans g4 f5); (mf_ite (hQ _  (Ow.dn lQ g6)) (Exists.imp fun n17 => (mo_w_Words_number_L57 hD  lQ hQ _ _ _ _ _ _  g6))))) g4.1) (mo_w_Words_number_L20 hD  lQ hQ _ _ _ _ _  g4)))) g2.1))) hf.1)
set_option maxRecDepth 20000 in
theorem mo_w_Words_number_j17 {w : Nat} {D : Nat → Nat → Prop} {T : Nat → Prop} {h : Hot} {this : Nat} {Q Q' : Mem → Prop} {h_Q : Hot} {v1 : Int32} {s0 : Int32} {M : Mem} {M0 : Mem} (hD : Dok w D)  (lQ : ∀ t, h_Q t = true → h t = true) (hQ : ∀ z0, Ow w D T h_Q M0 z0 → Q z0 → Q' z0) : Ow w D T h M0 M → w_Words_number_j17 this Q v1 s0 M → w_Words_number_j17 this Q' v1 s0 M := by
  intro hf
  unfold w_Words_number_j17
  exact (Exists.imp fun n18 => (mo_w_Words_number_L20 hD  lQ hQ _ _ _ _ _  hf))
set_option maxRecDepth 20000 in
theorem mo_w_Words_number {w : Nat} {D : Nat → Nat → Prop} {T : Nat → Prop} {h : Hot} {this : Nat} {a1 : Int32} {Q Q' : Mem → Prop} {M : Mem} (hD : Dok w D)  (hQ : ∀ z0, Ow w D T h M z0 → Q z0 → Q' z0) : St w D T h M → w_Words_number this a1 Q M → w_Words_number this a1 Q' M := by
  intro hs
  unfold w_Words_number
  exact (mf_ite (mo_w_Words_number_j17 hD  (fun _ e => e) hQ (Ow.rf hs)) (mo_w_Words_number_j17 hD  (fun _ e => e) hQ (Ow.rf hs)))
set_option maxRecDepth 20000 in
theorem mo_w_Names_at {w : Nat} {D : Nat → Nat → Prop} {T : Nat → Prop} {h : Hot} {this : Nat} {a1 : Int32} {a2 : Int32} {Q Q' : Int32 → Mem → Prop} {M : Mem} (hD : Dok w D)  (hQ : ∀ z0 z1, Ow w D T h M z1 → Q z0 z1 → Q' z0 z1) : St w D T h M → w_Names_at this a1 a2 Q M → w_Names_at this a1 a2 Q' M := by
  intro hs
  unfold w_Names_at
  exact (mf_ite (mf_ite (hQ _ _  (Ow.rf hs)) (mf_and fun _ => (hQ _ _  (Ow.rf hs)))) (mf_and fun _ => (hQ _ _  (Ow.rf hs))))
set_option maxRecDepth 20000 in
theorem mo_w_Words_special_j57 {w : Nat} {D : Nat → Nat → Prop} {T : Nat → Prop} {h : Hot} {this : Nat} {Q Q' : Mem → Prop} {h_Q : Hot} {k3 k3' : Int32 → Mem → Prop} {h_k3 : Hot} {v1 : Int32} {v2 : Int32} {M : Mem} {M0 : Mem} (hD : Dok w D)  (lQ : ∀ t, h_Q t = true → h t = true) (hQ : ∀ z0, Ow w D T h_Q M0 z0 → Q z0 → Q' z0) (lk3 : ∀ t, h_k3 t = true → h t = true) (hk3 : ∀ z0 z1, Ow w D T h_k3 M0 z1 → k3 z0 z1 → k3' z0 z1) : Ow w D T h M0 M → w_Words_special_j57 this Q k3 v1 v2 M → w_Words_special_j57 this Q' k3' v1 v2 M := by
  intro hf
  unfold w_Words_special_j57
  exact (mo_w_Names_at hD  (fun r6 M5 f1 => (have g2 : Ow w D T _ M0 M5 := (Ow.trans hf f1); (mf_ite (Exists.imp fun M8 => (mf_and fun e3 => (have g4 : Ow w D T _ M0 M8 := Ow.of e3 (Ow.wI (ow0 rfl) (Ow.wI (ow0 rfl) (Ow.wR rfl (ow0 rfl) (ow0 rfl) g2))); (hQ _  (Ow.dn lQ g4))))) (hk3 _ _  (Ow.dn lk3 g2))))) hf.1)
set_option maxRecDepth 20000 in
theorem mo_w_Words_special_L11 {w : Nat} {D : Nat → Nat → Prop} {T : Nat → Prop} {h : Hot} {this : Nat} {Q Q' : Mem → Prop} {h_Q : Hot} {k3 k3' : Int32 → Mem → Prop} {h_k3 : Hot} {M0 : Mem} (hD : Dok w D)  (lQ : ∀ t, h_Q t = true → h t = true) (hQ : ∀ z0, Ow w D T h_Q M0 z0 → Q z0 → Q' z0) (lk3 : ∀ t, h_k3 t = true → h t = true) (hk3 : ∀ z0 z1, Ow w D T h_k3 M0 z1 → k3 z0 z1 → k3' z0 z1) : ∀ (n : Nat) (v1 : Int32) (v2 : Int32) (M : Mem), Ow w D T h M0 M → w_Words_special_L11 this Q k3 n v1 v2 M → w_Words_special_L11 this Q' k3' n v1 v2 M
  | 0, _, _, _ => fun  _ h => h
  | n + 1, v1, v2, M => fun  hf => by
    unfold w_Words_special_L11
    exact (mo_w_Names_at hD  (fun r3 M2 f1 => (have g2 : Ow w D T _ M0 M2 := (Ow.trans hf f1); (mf_ite (mo_w_Words_special_j57 hD  lQ hQ lk3 hk3 g2) (mo_w_Words_peek hD  (fun r10 M9 f3 => (have g4 : Ow w D T _ M0 M9 := (Ow.trans g2 f3); (mo_w_Names_at hD  (fun r12 M11 f5 => (have g6 : Ow w D T _ M0 M11 := (Ow.trans g4 f5); (mf_ite (mo_w_Words_special_L11 hD  lQ hQ lk3 hk3 _ _ _ _  g6) (mo_w_Words_special_j57 hD  lQ hQ lk3 hk3 g6)))) g4.1))) g2.1)))) hf.1)
set_option maxRecDepth 20000 in
theorem mo_w_Words_special_L3 {w : Nat} {D : Nat → Nat → Prop} {T : Nat → Prop} {h : Hot} {this : Nat} {Q Q' : Mem → Prop} {h_Q : Hot} {M0 : Mem} (hD : Dok w D)  (lQ : ∀ t, h_Q t = true → h t = true) (hQ : ∀ z0, Ow w D T h_Q M0 z0 → Q z0 → Q' z0) : ∀ (n : Nat) (v1 : Int32) (M : Mem), Ow w D T h M0 M → w_Words_special_L3 this Q n v1 M → w_Words_special_L3 this Q' n v1 M
  | 0, _, _ => fun  _ h => h
  | n + 1, v1, M => fun  hf => by
    unfold w_Words_special_L3
    exact (mf_ite (hQ _  (Ow.dn lQ hf)) (Exists.imp fun n14 => (mo_w_Words_special_L11 hD  lQ hQ (fun _ e => e) (fun y0 y1  hf => mo_w_Words_special_L3 hD  lQ hQ n y0 y1  hf) _ _ _ _  hf)))
set_option maxRecDepth 20000 in
theorem mo_w_Words_special {w : Nat} {D : Nat → Nat → Prop} {T : Nat → Prop} {h : Hot} {this : Nat} {Q Q' : Mem → Prop} {M : Mem} (hD : Dok w D)  (hQ : ∀ z0, Ow w D T h M z0 → Q z0 → Q' z0) : St w D T h M → w_Words_special this Q M → w_Words_special this Q' M := by
  intro hs
  unfold w_Words_special
  exact (Exists.imp fun n15 => (mo_w_Words_special_L3 hD  (fun _ e => e) hQ _ _ _  (Ow.rf hs)))
set_option maxRecDepth 20000 in
theorem mo_w_Words_next_L69 {w : Nat} {D : Nat → Nat → Prop} {T : Nat → Prop} {h : Hot} {this : Nat} {Q Q' : Mem → Prop} {h_Q : Hot} {M0 : Mem} (hD : Dok w D)  (lQ : ∀ t, h_Q t = true → h t = true) (hQ : ∀ z0, Ow w D T h_Q M0 z0 → Q z0 → Q' z0) : ∀ (n : Nat) (M : Mem), Ow w D T h M0 M → w_Words_next_L69 this Q n M → w_Words_next_L69 this Q' n M
  | 0, _ => fun  _ h => h
  | n + 1, M => fun  hf => by
    unfold w_Words_next_L69
    exact (mo_w_Words_peek hD  (fun r8 M7 f1 => (have g2 : Ow w D T _ M0 M7 := (Ow.trans hf f1); (mf_ite (hQ _  (Ow.dn lQ g2)) (have g3 : Ow w D T _ M0 (sI M7 2 this 4 ((mI M7 2 this 4) + (1 : Int32))) := (Ow.wI (ow0 rfl) g2); (mo_w_Words_next_L69 hD  lQ hQ _ _  g3))))) hf.1)
set_option maxRecDepth 20000 in
theorem mo_w_Words_next_j62 {w : Nat} {D : Nat → Nat → Prop} {T : Nat → Prop} {h : Hot} {this : Nat} {Q Q' : Mem → Prop} {h_Q : Hot} {M : Mem} {M0 : Mem} (hD : Dok w D)  (lQ : ∀ t, h_Q t = true → h t = true) (hQ : ∀ z0, Ow w D T h_Q M0 z0 → Q z0 → Q' z0) : Ow w D T h M0 M → w_Words_next_j62 this Q M → w_Words_next_j62 this Q' M := by
  intro hf
  unfold w_Words_next_j62
  exact (Exists.imp fun n10 => (have g1 : Ow w D T _ M0 (sR M 2 this 3 (some (0, 100 + 3))) := (Ow.wR rfl (ow0 rfl) (ow0 rfl) hf); (mo_w_Words_next_L69 hD  lQ hQ _ _  g1)))
set_option maxRecDepth 20000 in
theorem mo_w_Words_next_j136 {w : Nat} {D : Nat → Nat → Prop} {T : Nat → Prop} {h : Hot} {this : Nat} {Q Q' : Mem → Prop} {h_Q : Hot} {s0 : Int32} {M : Mem} {M0 : Mem} (hD : Dok w D)  (lQ : ∀ t, h_Q t = true → h t = true) (hQ : ∀ z0, Ow w D T h_Q M0 z0 → Q z0 → Q' z0) : Ow w D T h M0 M → w_Words_next_j136 this Q s0 M → w_Words_next_j136 this Q' s0 M := by
  intro hf
  unfold w_Words_next_j136
  exact (mo_w_Words_number hD  (fun M20 f1 => (have g2 : Ow w D T _ M0 M20 := (Ow.trans hf f1); (hQ _  (Ow.dn lQ g2)))) hf.1)
set_option maxRecDepth 20000 in
theorem mo_w_Words_next_j124 {w : Nat} {D : Nat → Nat → Prop} {T : Nat → Prop} {h : Hot} {this : Nat} {Q Q' : Mem → Prop} {h_Q : Hot} {v1 : Int32} {M : Mem} {M0 : Mem} (hD : Dok w D)  (lQ : ∀ t, h_Q t = true → h t = true) (hQ : ∀ z0, Ow w D T h_Q M0 z0 → Q z0 → Q' z0) : Ow w D T h M0 M → w_Words_next_j124 this Q v1 M → w_Words_next_j124 this Q' v1 M := by
  intro hf
  unfold w_Words_next_j124
  exact (mf_ite (mo_w_Words_next_j136 hD  lQ hQ hf) (mo_w_Words_next_j136 hD  lQ hQ hf))
set_option maxRecDepth 20000 in
theorem mo_w_Words_next_j197 {w : Nat} {D : Nat → Nat → Prop} {T : Nat → Prop} {h : Hot} {this : Nat} {Q Q' : Mem → Prop} {h_Q : Hot} {v1 : Int32} {M : Mem} {M0 : Mem} (hD : Dok w D)  (lQ : ∀ t, h_Q t = true → h t = true) (hQ : ∀ z0, Ow w D T h_Q M0 z0 → Q z0 → Q' z0) : Ow w D T h M0 M → w_Words_next_j197 this Q v1 M → w_Words_next_j197 this Q' v1 M := by
  intro hf
  unfold w_Words_next_j197
  exact (Exists.imp fun M24 => (mf_and fun e1 => (have g2 : Ow w D T _ M0 M24 := Ow.of e1 (Ow.wI (ow0 rfl) (Ow.wI (ow0 rfl) (Ow.wR rfl (ow0 rfl) (ow0 rfl) hf))); (hQ _  (Ow.dn lQ g2)))))
set_option maxRecDepth 20000 in
theorem mo_w_Words_next_L0 {w : Nat} {D : Nat → Nat → Prop} {T : Nat → Prop} {h : Hot} {this : Nat} {Q Q' : Mem → Prop} {h_Q : Hot} {M0 : Mem} (hD : Dok w D)  (lQ : ∀ t, h_Q t = true → h t = true) (hQ : ∀ z0, Ow w D T h_Q M0 z0 → Q z0 → Q' z0) : ∀ (n : Nat) (M : Mem), Ow w D T h M0 M → w_Words_next_L0 this Q n M → w_Words_next_L0 this Q' n M
  | 0, _ => fun  _ h => h
  | n + 1, M => fun  hf => by
    unfold w_Words_next_L0
    exact (mo_w_Words_peek hD  (fun r2 M1 f1 => (have g2 : Ow w D T _ M0 M1 := (Ow.trans hf f1); (mf_ite (have g3 : Ow w D T _ M0 (sI M1 2 this 2 ((mI M1 2 this 2) + (1 : Int32))) := (Ow.wI (ow0 rfl) g2); (mo_w_Words_next_L0 hD  lQ hQ _ _  g3)) (have g4 : Ow w D T _ M0 (sI M1 2 this 4 (mI M1 2 this 2)) := (Ow.wI (ow0 rfl) g2); (mo_w_Words_peek hD  (fun r5 M4 f5 => (have g6 : Ow w D T _ M0 M4 := (Ow.trans g4 f5); (mf_ite (have g7 : Ow w D T _ M0 (sR M4 2 this 3 (some (0, 100 + 4))) := (Ow.wR rfl (ow0 rfl) (ow0 rfl) g6); (mo_w_Words_next_j62 hD  lQ hQ g7)) (mf_ite (have g8 : Ow w D T _ M0 (sR M4 2 this 3 (some (0, 100 + 4))) := (Ow.wR rfl (ow0 rfl) (ow0 rfl) g6); (mo_w_Words_next_j62 hD  lQ hQ g8)) (have g9 : Ow w D T _ M0 (sR M4 2 this 3 (some (0, 100 + 4))) := (Ow.wR rfl (ow0 rfl) (ow0 rfl) g6); (mo_w_Words_isLetter hD  (fun r13 M12 f10 => (have g11 : Ow w D T _ M0 M12 := (Ow.trans g9 f10); (mf_ite (mo_w_Words_isDigit hD  (fun r16 M15 f12 => (have g13 : Ow w D T _ M0 M15 := (Ow.trans g11 f12); (mf_ite (mf_ite (mo_w_Words_next_j124 hD  lQ hQ g13) (mf_ite (mo_w_Words_special hD  (fun M22 f14 => (have g15 : Ow w D T _ M0 M22 := (Ow.trans g13 f14); (hQ _  (Ow.dn lQ g15)))) g13.1) (mf_ite (mo_w_Words_next_j197 hD  lQ hQ g13) (mf_ite (mo_w_Words_next_j197 hD  lQ hQ g13) (mf_ite (mo_w_Words_next_j197 hD  lQ hQ g13) (mf_ite (mo_w_Words_next_j197 hD  lQ hQ g13) (mf_ite (mo_w_Words_next_j197 hD  lQ hQ g13) (mf_ite (mo_w_Words_next_j197 hD  lQ hQ g13) (mf_ite (mo_w_Words_next_j197 hD  lQ hQ g13) (hQ _  (Ow.dn lQ g13))))))))))) (mo_w_Words_next_j124 hD  lQ hQ g13)))) g11.1) (mo_w_Words_name hD  (fun M31 f16 => (have g17 : Ow w D T _ M0 M31 := (Ow.trans g11 f16); (hQ _  (Ow.dn lQ g17)))) g11.1)))) g9.1)))))) g4.1))))) hf.1)
set_option maxRecDepth 20000 in
theorem mo_w_Words_next {w : Nat} {D : Nat → Nat → Prop} {T : Nat → Prop} {h : Hot} {this : Nat} {Q Q' : Mem → Prop} {M : Mem} (hD : Dok w D)  (hQ : ∀ z0, Ow w D T h M z0 → Q z0 → Q' z0) : St w D T h M → w_Words_next this Q M → w_Words_next this Q' M := by
  intro hs
  unfold w_Words_next
  exact (Exists.imp fun n32 => (mo_w_Words_next_L0 hD  (fun _ e => e) hQ _ _  (Ow.rf hs)))
set_option maxRecDepth 20000 in
theorem mo_w_Words_line_L0 {w : Nat} {D : Nat → Nat → Prop} {T : Nat → Prop} {h : Hot} {this : Nat} {Q Q' : Int32 → Mem → Prop} {h_Q : Hot} {M0 : Mem} (hD : Dok w D)  (lQ : ∀ t, h_Q t = true → h t = true) (hQ : ∀ z0 z1, Ow w D T h_Q M0 z1 → Q z0 z1 → Q' z0 z1) : ∀ (n : Nat) (M : Mem), Ow w D T h M0 M → w_Words_line_L0 this Q n M → w_Words_line_L0 this Q' n M
  | 0, _ => fun  _ h => h
  | n + 1, M => fun  hf => by
    unfold w_Words_line_L0
    exact (mo_w_Words_peek hD  (fun r2 M1 f1 => (have g2 : Ow w D T _ M0 M1 := (Ow.trans hf f1); (mf_ite (mf_ite (hQ _ _  (Ow.dn lQ (Ow.wI (ow0 rfl) g2))) (hQ _ _  (Ow.dn lQ (Ow.wI (ow0 rfl) g2)))) (have g3 : Ow w D T _ M0 (sI M1 2 this 2 ((mI M1 2 this 2) + (1 : Int32))) := (Ow.wI (ow0 rfl) g2); (mo_w_Words_line_L0 hD  lQ hQ _ _  g3))))) hf.1)
set_option maxRecDepth 20000 in
theorem mo_w_Words_line {w : Nat} {D : Nat → Nat → Prop} {T : Nat → Prop} {h : Hot} {this : Nat} {Q Q' : Int32 → Mem → Prop} {M : Mem} (hD : Dok w D)  (hQ : ∀ z0 z1, Ow w D T h M z1 → Q z0 z1 → Q' z0 z1) : St w D T h M → w_Words_line this Q M → w_Words_line this Q' M := by
  intro hs
  unfold w_Words_line
  exact (Exists.imp fun n5 => (mo_w_Words_line_L0 hD  (fun _ e => e) hQ _ _  (Ow.rf hs)))
set_option maxRecDepth 20000 in
theorem mo_w_Reader_begin_L7 {w : Nat} {D : Nat → Nat → Prop} {T : Nat → Prop} {h : Hot} {this : Nat} {Q Q' : Int32 → Mem → Prop} {h_Q : Hot} {M0 : Mem} (hD : Dok w D)  (lQ : ∀ t, h_Q t = true → h t = true) (hQ : ∀ z0 z1, Ow w D T h_Q M0 z1 → Q z0 z1 → Q' z0 z1) : ∀ (n : Nat) (M : Mem), Ow w D T h M0 M → w_Reader_begin_L7 this Q n M → w_Reader_begin_L7 this Q' n M
  | 0, _ => fun  _ h => h
  | n + 1, M => fun  hf => by
    unfold w_Reader_begin_L7
    exact (mf_and fun _ => (mf_ite (mo_w_Words_line hD  (fun r5 M4 f1 => (have g2 : Ow w D T _ M0 M4 := (Ow.trans hf f1); (mf_ite (hQ _ _  (Ow.dn lQ g2)) (mo_w_Words_next hD  (fun M7 f3 => (have g4 : Ow w D T _ M0 M7 := (Ow.trans g2 f3); (mo_w_Reader_begin_L7 hD  lQ hQ _ _  g4))) g2.1)))) hf.1) (hQ _ _  (Ow.dn lQ (Ow.wI (ow0 rfl) hf)))))
set_option maxRecDepth 20000 in
theorem mo_w_Reader_begin {w : Nat} {D : Nat → Nat → Prop} {T : Nat → Prop} {h : Hot} {this : Nat} {Q Q' : Int32 → Mem → Prop} {M : Mem} (hD : Dok w D)  (hQ : ∀ z0 z1, Ow w D T h M z1 → Q z0 z1 → Q' z0 z1) : St w D T h M → w_Reader_begin this Q M → w_Reader_begin this Q' M := by
  intro hs
  unfold w_Reader_begin
  exact (mo_w_Words_next hD  (fun M1 f1 => (have g2 : Ow w D T _ M M1 := (Ow.trans (Ow.rf hs) f1); (Exists.imp fun n8 => (mo_w_Reader_begin_L7 hD  (fun _ e => e) hQ _ _  g2)))) (Ow.rf hs).1)
set_option maxRecDepth 20000 in
theorem mo_w_Words_isWord {w : Nat} {D : Nat → Nat → Prop} {T : Nat → Prop} {h : Hot} {this : Nat} {a1 : Int32} {Q Q' : Int32 → Mem → Prop} {M : Mem} (hD : Dok w D)  (hQ : ∀ z0 z1, Ow w D T h M z1 → Q z0 z1 → Q' z0 z1) : St w D T h M → w_Words_isWord this a1 Q M → w_Words_isWord this a1 Q' M := by
  intro hs
  unfold w_Words_isWord
  exact (mf_and fun _ => (mf_ite (mf_ite (hQ _ _  (Ow.rf hs)) (hQ _ _  (Ow.rf hs))) (hQ _ _  (Ow.rf hs))))
set_option maxRecDepth 20000 in
theorem mo_w_Reader_flags_j66 {w : Nat} {D : Nat → Nat → Prop} {T : Nat → Prop} {h : Hot} {this : Nat} {Q Q' : Int32 → Mem → Prop} {h_Q : Hot} {k3 k3' : Int32 → Int32 → Int32 → Int32 → Int32 → Mem → Prop} {h_k3 : Hot} {v1 : Int32} {v2 : Int32} {v3 : Int32} {v4 : Int32} {v5 : Int32} {s0 : Int32} {M : Mem} {M0 : Mem} (hD : Dok w D)  (lQ : ∀ t, h_Q t = true → h t = true) (hQ : ∀ z0 z1, Ow w D T h_Q M0 z1 → Q z0 z1 → Q' z0 z1) (lk3 : ∀ t, h_k3 t = true → h t = true) (hk3 : ∀ z0 z1 z2 z3 z4 z5, Ow w D T h_k3 M0 z5 → k3 z0 z1 z2 z3 z4 z5 → k3' z0 z1 z2 z3 z4 z5) : Ow w D T h M0 M → w_Reader_flags_j66 this Q k3 v1 v2 v3 v4 v5 s0 M → w_Reader_flags_j66 this Q' k3' v1 v2 v3 v4 v5 s0 M := by
  intro hf
  unfold w_Reader_flags_j66
  exact (mf_ite (hQ _ _  (Ow.dn lQ hf)) (mf_ite (mo_w_Words_next hD  (fun M15 f1 => (have g2 : Ow w D T _ M0 M15 := (Ow.trans hf f1); (hk3 _ _ _ _ _ _  (Ow.dn lk3 g2)))) hf.1) (hQ _ _  (Ow.dn lQ hf))))
set_option maxRecDepth 20000 in
theorem mo_w_Reader_flags_L3 {w : Nat} {D : Nat → Nat → Prop} {T : Nat → Prop} {h : Hot} {this : Nat} {Q Q' : Int32 → Mem → Prop} {h_Q : Hot} {M0 : Mem} (hD : Dok w D)  (lQ : ∀ t, h_Q t = true → h t = true) (hQ : ∀ z0 z1, Ow w D T h_Q M0 z1 → Q z0 z1 → Q' z0 z1) : ∀ (n : Nat) (v1 : Int32) (v2 : Int32) (v3 : Int32) (v4 : Int32) (v5 : Int32) (M : Mem), Ow w D T h M0 M → w_Reader_flags_L3 this Q n v1 v2 v3 v4 v5 M → w_Reader_flags_L3 this Q' n v1 v2 v3 v4 v5 M
  | 0, _, _, _, _, _, _ => fun  _ h => h
  | n + 1, v1, v2, v3, v4, v5, M => fun  hf => by
    unfold w_Reader_flags_L3
    exact (mo_w_Words_isWord hD  (fun r2 M1 f1 => (have g2 : Ow w D T _ M0 M1 := (Ow.trans hf f1); (mf_ite (mo_w_Words_isWord hD  (fun r5 M4 f3 => (have g4 : Ow w D T _ M0 M4 := (Ow.trans g2 f3); (mf_ite (mo_w_Words_isWord hD  (fun r8 M7 f5 => (have g6 : Ow w D T _ M0 M7 := (Ow.trans g4 f5); (mf_ite (mo_w_Words_isWord hD  (fun r11 M10 f7 => (have g8 : Ow w D T _ M0 M10 := (Ow.trans g6 f7); (mf_ite (mo_w_Reader_flags_j66 hD  lQ hQ (fun _ e => e) (fun y0 y1 y2 y3 y4 y5  hf => mo_w_Reader_flags_L3 hD  lQ hQ n y0 y1 y2 y3 y4 y5  hf) g8) (mo_w_Reader_flags_j66 hD  lQ hQ (fun _ e => e) (fun y0 y1 y2 y3 y4 y5  hf => mo_w_Reader_flags_L3 hD  lQ hQ n y0 y1 y2 y3 y4 y5  hf) g8)))) g6.1) (mo_w_Reader_flags_j66 hD  lQ hQ (fun _ e => e) (fun y0 y1 y2 y3 y4 y5  hf => mo_w_Reader_flags_L3 hD  lQ hQ n y0 y1 y2 y3 y4 y5  hf) g6)))) g4.1) (mo_w_Reader_flags_j66 hD  lQ hQ (fun _ e => e) (fun y0 y1 y2 y3 y4 y5  hf => mo_w_Reader_flags_L3 hD  lQ hQ n y0 y1 y2 y3 y4 y5  hf) g4)))) g2.1) (mo_w_Reader_flags_j66 hD  lQ hQ (fun _ e => e) (fun y0 y1 y2 y3 y4 y5  hf => mo_w_Reader_flags_L3 hD  lQ hQ n y0 y1 y2 y3 y4 y5  hf) g2)))) hf.1)
set_option maxRecDepth 20000 in
theorem mo_w_Reader_flags {w : Nat} {D : Nat → Nat → Prop} {T : Nat → Prop} {h : Hot} {this : Nat} {a1 : Int32} {a2 : Int32} {a3 : Int32} {a4 : Int32} {Q Q' : Int32 → Mem → Prop} {M : Mem} (hD : Dok w D)  (hQ : ∀ z0 z1, Ow w D T h M z1 → Q z0 z1 → Q' z0 z1) : St w D T h M → w_Reader_flags this a1 a2 a3 a4 Q M → w_Reader_flags this a1 a2 a3 a4 Q' M := by
  intro hs
  unfold w_Reader_flags
  exact (Exists.imp fun n16 => (mo_w_Reader_flags_L3 hD  (fun _ e => e) hQ _ _ _ _ _ _ _  (Ow.rf hs)))
set_option maxRecDepth 20000 in
theorem mo_w_Reader_wrong {w : Nat} {D : Nat → Nat → Prop} {T : Nat → Prop} {h : Hot} {this : Nat} {Q Q' : Nat → Mem → Prop} {M : Mem} (hD : Dok w D)  (hQ : ∀ z0 z1, Ow w D T h M z1 → Q z0 z1 → Q' z0 z1) : St w D T h M → w_Reader_wrong this Q M → w_Reader_wrong this Q' M := by
  intro hs
  unfold w_Reader_wrong
  exact (mo_w_Works_refuse hD  (fun i2 M1 f1 => (have g2 : Ow w D T _ M M1 := (Ow.trans (Ow.rf hs) f1); (hQ _ _  g2))) (Ow.rf hs).1)
set_option maxRecDepth 20000 in
theorem mo_w_Reader_isNoClass {w : Nat} {D : Nat → Nat → Prop} {T : Nat → Prop} {h : Hot} {this : Nat} {a1 : Int32} {Q Q' : Int32 → Mem → Prop} {M : Mem} (hD : Dok w D)  (hQ : ∀ z0 z1, Ow w D T h M z1 → Q z0 z1 → Q' z0 z1) : St w D T h M → w_Reader_isNoClass this a1 Q M → w_Reader_isNoClass this a1 Q' M := by
  intro hs
  unfold w_Reader_isNoClass
  exact (mf_ite (hQ _ _  (Ow.rf hs)) (mf_ite (hQ _ _  (Ow.rf hs)) (mf_ite (hQ _ _  (Ow.rf hs)) (mf_ite (hQ _ _  (Ow.rf hs)) (mf_ite (hQ _ _  (Ow.rf hs)) (mf_ite (hQ _ _  (Ow.rf hs)) (mf_ite (hQ _ _  (Ow.rf hs)) (mf_ite (hQ _ _  (Ow.rf hs)) (mf_ite (hQ _ _  (Ow.rf hs)) (hQ _ _  (Ow.rf hs)))))))))))
set_option maxRecDepth 20000 in
theorem mo_w_Reader_className_j27 {w : Nat} {D : Nat → Nat → Prop} {T : Nat → Prop} {h : Hot} {this : Nat} {Q Q' : Int32 → Mem → Prop} {h_Q : Hot} {X X' : Mem → Prop} {h_X : Hot} {M : Mem} {M0 : Mem} (hD : Dok w D)  (lQ : ∀ t, h_Q t = true → h t = true) (hQ : ∀ z0 z1, Ow w D T h_Q M0 z1 → Q z0 z1 → Q' z0 z1) (lX : ∀ t, h_X t = true → h t = true) (hX : ∀ z0, Ow w D T h_X M0 z0 → X z0 → X' z0) : Ow w D T h M0 M → w_Reader_className_j27 this Q X M → w_Reader_className_j27 this Q' X' M := by
  intro hf
  unfold w_Reader_className_j27
  exact (mo_w_Reader_wrong hD  (fun i8 M7 f1 => (have g2 : Ow w D T _ M0 M7 := (Ow.trans hf f1); (mf_and fun _ => (hX _  (Ow.dn lX g2))))) hf.1)
set_option maxRecDepth 20000 in
theorem mo_w_Reader_className {w : Nat} {D : Nat → Nat → Prop} {T : Nat → Prop} {h : Hot} {this : Nat} {Q Q' : Int32 → Mem → Prop} {X X' : Mem → Prop} {M : Mem} (hD : Dok w D)  (hQ : ∀ z0 z1, Ow w D T h M z1 → Q z0 z1 → Q' z0 z1) (hX : ∀ z0, Ow w D T h M z0 → X z0 → X' z0) : St w D T h M → w_Reader_className this Q X M → w_Reader_className this Q' X' M := by
  intro hs
  unfold w_Reader_className
  exact (mf_and fun _ => (mf_ite (mo_w_Reader_isNoClass hD  (fun r4 M3 f1 => (have g2 : Ow w D T _ M M3 := (Ow.trans (Ow.rf hs) f1); (mf_ite (mo_w_Words_next hD  (fun M6 f3 => (have g4 : Ow w D T _ M M6 := (Ow.trans g2 f3); (hQ _ _  g4))) g2.1) (mo_w_Reader_className_j27 hD  (fun _ e => e) hQ (fun _ e => e) hX g2)))) (Ow.rf hs).1) (mo_w_Reader_className_j27 hD  (fun _ e => e) hQ (fun _ e => e) hX (Ow.rf hs))))
set_option maxRecDepth 20000 in
theorem mo_w_Words_isSign {w : Nat} {D : Nat → Nat → Prop} {T : Nat → Prop} {h : Hot} {this : Nat} {a1 : Int32} {Q Q' : Int32 → Mem → Prop} {M : Mem} (hD : Dok w D)  (hQ : ∀ z0 z1, Ow w D T h M z1 → Q z0 z1 → Q' z0 z1) : St w D T h M → w_Words_isSign this a1 Q M → w_Words_isSign this a1 Q' M := by
  intro hs
  unfold w_Words_isSign
  exact (mf_and fun _ => (mf_ite (mf_ite (hQ _ _  (Ow.rf hs)) (hQ _ _  (Ow.rf hs))) (hQ _ _  (Ow.rf hs))))
set_option maxRecDepth 20000 in
theorem mo_w_Reader_sign {w : Nat} {D : Nat → Nat → Prop} {T : Nat → Prop} {h : Hot} {this : Nat} {a1 : Int32} {Q Q' : Mem → Prop} {X X' : Mem → Prop} {M : Mem} (hD : Dok w D)  (hQ : ∀ z0, Ow w D T h M z0 → Q z0 → Q' z0) (hX : ∀ z0, Ow w D T h M z0 → X z0 → X' z0) : St w D T h M → w_Reader_sign this a1 Q X M → w_Reader_sign this a1 Q' X' M := by
  intro hs
  unfold w_Reader_sign
  exact (mo_w_Words_isSign hD  (fun r2 M1 f1 => (have g2 : Ow w D T _ M M1 := (Ow.trans (Ow.rf hs) f1); (mf_ite (mo_w_Reader_wrong hD  (fun i5 M4 f3 => (have g4 : Ow w D T _ M M4 := (Ow.trans g2 f3); (mf_and fun _ => (hX _  g4)))) g2.1) (mo_w_Words_next hD  (fun M6 f5 => (have g6 : Ow w D T _ M M6 := (Ow.trans g2 f5); (hQ _  g6))) g2.1)))) (Ow.rf hs).1)
set_option maxRecDepth 20000 in
theorem mo_w_World_find_L2 {w : Nat} {D : Nat → Nat → Prop} {T : Nat → Prop} {h : Hot} {this : Nat} {Q Q' : Int32 → Mem → Prop} {h_Q : Hot} {M0 : Mem} (hD : Dok w D)  (lQ : ∀ t, h_Q t = true → h t = true) (hQ : ∀ z0 z1, Ow w D T h_Q M0 z1 → Q z0 z1 → Q' z0 z1) : ∀ (n : Nat) (v1 : Int32) (v2 : Int32) (M : Mem), Ow w D T h M0 M → w_World_find_L2 this Q n v1 v2 M → w_World_find_L2 this Q' n v1 v2 M
  | 0, _, _, _ => fun  _ h => h
  | n + 1, v1, v2, M => fun  hf => by
    unfold w_World_find_L2
    exact (mf_ite (hQ _ _  (Ow.dn lQ hf)) (mf_and fun _ => (mf_ite (hQ _ _  (Ow.dn lQ hf)) (mo_w_World_find_L2 hD  lQ hQ _ _ _ _  hf))))
set_option maxRecDepth 20000 in
theorem mo_w_World_find {w : Nat} {D : Nat → Nat → Prop} {T : Nat → Prop} {h : Hot} {this : Nat} {a1 : Int32} {Q Q' : Int32 → Mem → Prop} {M : Mem} (hD : Dok w D)  (hQ : ∀ z0 z1, Ow w D T h M z1 → Q z0 z1 → Q' z0 z1) : St w D T h M → w_World_find this a1 Q M → w_World_find this a1 Q' M := by
  intro hs
  unfold w_World_find
  exact (Exists.imp fun n4 => (mo_w_World_find_L2 hD  (fun _ e => e) hQ _ _ _ _  (Ow.rf hs)))
set_option maxRecDepth 20000 in
theorem mo_w_World_bit {w : Nat} {D : Nat → Nat → Prop} {T : Nat → Prop} {h : Hot} {this : Nat} {a1 : Int32} {Q Q' : Int32 → Mem → Prop} {M : Mem} (hD : Dok w D)  (hQ : ∀ z0 z1, Ow w D T h M z1 → Q z0 z1 → Q' z0 z1) : St w D T h M → w_World_bit this a1 Q M → w_World_bit this a1 Q' M := by
  intro hs
  unfold w_World_bit
  exact (mf_ite (mf_ite (hQ _ _  (Ow.rf hs)) (mf_ite (hQ _ _  (Ow.rf hs)) (mf_ite (hQ _ _  (Ow.rf hs)) (mf_ite (hQ _ _  (Ow.rf hs)) (hQ _ _  (Ow.rf hs)))))) (hQ _ _  (Ow.rf hs)))
set_option maxRecDepth 20000 in
theorem mo_w_World_asks_j46 {w : Nat} {D : Nat → Nat → Prop} {T : Nat → Prop} {h : Hot} {this : Nat} {Q Q' : Int32 → Mem → Prop} {h_Q : Hot} {v1 : Int32} {M : Mem} {M0 : Mem} (hD : Dok w D)  (lQ : ∀ t, h_Q t = true → h t = true) (hQ : ∀ z0 z1, Ow w D T h_Q M0 z1 → Q z0 z1 → Q' z0 z1) : Ow w D T h M0 M → w_World_asks_j46 this Q v1 M → w_World_asks_j46 this Q' v1 M := by
  intro hf
  unfold w_World_asks_j46
  exact (mo_w_World_bit hD  (fun r3 M2 f1 => (have g2 : Ow w D T _ M0 M2 := (Ow.trans hf f1); (mf_ite (hQ _ _  (Ow.dn lQ g2)) (hQ _ _  (Ow.dn lQ g2))))) hf.1)
set_option maxRecDepth 20000 in
theorem mo_w_World_asks {w : Nat} {D : Nat → Nat → Prop} {T : Nat → Prop} {h : Hot} {this : Nat} {a1 : Int32} {Q Q' : Int32 → Mem → Prop} {M : Mem} (hD : Dok w D)  (hQ : ∀ z0 z1, Ow w D T h M z1 → Q z0 z1 → Q' z0 z1) : St w D T h M → w_World_asks this a1 Q M → w_World_asks this a1 Q' M := by
  intro hs
  unfold w_World_asks
  exact (mf_ite (mo_w_World_asks_j46 hD  (fun _ e => e) hQ (Ow.rf hs)) (mf_ite (mo_w_World_asks_j46 hD  (fun _ e => e) hQ (Ow.rf hs)) (mf_ite (mo_w_World_asks_j46 hD  (fun _ e => e) hQ (Ow.rf hs)) (mf_ite (mo_w_World_asks_j46 hD  (fun _ e => e) hQ (Ow.rf hs)) (mf_ite (mo_w_World_asks_j46 hD  (fun _ e => e) hQ (Ow.rf hs)) (mf_ite (mo_w_World_asks_j46 hD  (fun _ e => e) hQ (Ow.rf hs)) (mf_ite (mo_w_World_asks_j46 hD  (fun _ e => e) hQ (Ow.rf hs)) (mf_ite (mo_w_World_asks_j46 hD  (fun _ e => e) hQ (Ow.rf hs)) (hQ _ _  (Ow.rf hs))))))))))
set_option maxRecDepth 20000 in
theorem mo_w_Reader_nextLine {w : Nat} {D : Nat → Nat → Prop} {T : Nat → Prop} {h : Hot} {this : Nat} {Q Q' : Int32 → Mem → Prop} {M : Mem} (hD : Dok w D)  (hQ : ∀ z0 z1, Ow w D T h M z1 → Q z0 z1 → Q' z0 z1) : St w D T h M → w_Reader_nextLine this Q M → w_Reader_nextLine this Q' M := by
  intro hs
  unfold w_Reader_nextLine
  exact (mo_w_Words_line hD  (fun r2 M1 f1 => (have g2 : Ow w D T _ M M1 := (Ow.trans (Ow.rf hs) f1); (mf_ite (hQ _ _  g2) (mo_w_Reader_begin hD  (fun r5 M4 f3 => (have g4 : Ow w D T _ M M4 := (Ow.trans g2 f3); (mf_and fun _ => (hQ _ _  g4)))) g2.1)))) (Ow.rf hs).1)
set_option maxRecDepth 20000 in
theorem mo_w_Reader_needLine {w : Nat} {D : Nat → Nat → Prop} {T : Nat → Prop} {h : Hot} {this : Nat} {Q Q' : Mem → Prop} {X X' : Mem → Prop} {M : Mem} (hD : Dok w D)  (hQ : ∀ z0, Ow w D T h M z0 → Q z0 → Q' z0) (hX : ∀ z0, Ow w D T h M z0 → X z0 → X' z0) : St w D T h M → w_Reader_needLine this Q X M → w_Reader_needLine this Q' X' M := by
  intro hs
  unfold w_Reader_needLine
  exact (mo_w_Reader_nextLine hD  (fun r2 M1 f1 => (have g2 : Ow w D T _ M M1 := (Ow.trans (Ow.rf hs) f1); (mf_ite (mo_w_Works_refuse hD  (fun i5 M4 f3 => (have g4 : Ow w D T _ M M4 := (Ow.trans g2 f3); (mf_and fun _ => (hX _  g4)))) g2.1) (hQ _  g2)))) (Ow.rf hs).1)
set_option maxRecDepth 20000 in
theorem mo_w_Reader_anyName_j37 {w : Nat} {D : Nat → Nat → Prop} {T : Nat → Prop} {h : Hot} {this : Nat} {Q Q' : Int32 → Mem → Prop} {h_Q : Hot} {X X' : Mem → Prop} {h_X : Hot} {M : Mem} {M0 : Mem} (hD : Dok w D)  (lQ : ∀ t, h_Q t = true → h t = true) (hQ : ∀ z0 z1, Ow w D T h_Q M0 z1 → Q z0 z1 → Q' z0 z1) (lX : ∀ t, h_X t = true → h t = true) (hX : ∀ z0, Ow w D T h_X M0 z0 → X z0 → X' z0) : Ow w D T h M0 M → w_Reader_anyName_j37 this Q X M → w_Reader_anyName_j37 this Q' X' M := by
  intro hf
  unfold w_Reader_anyName_j37
  exact (mo_w_Reader_wrong hD  (fun i5 M4 f1 => (have g2 : Ow w D T _ M0 M4 := (Ow.trans hf f1); (mf_and fun _ => (hX _  (Ow.dn lX g2))))) hf.1)
set_option maxRecDepth 20000 in
theorem mo_w_Reader_anyName {w : Nat} {D : Nat → Nat → Prop} {T : Nat → Prop} {h : Hot} {this : Nat} {Q Q' : Int32 → Mem → Prop} {X X' : Mem → Prop} {M : Mem} (hD : Dok w D)  (hQ : ∀ z0 z1, Ow w D T h M z1 → Q z0 z1 → Q' z0 z1) (hX : ∀ z0, Ow w D T h M z0 → X z0 → X' z0) : St w D T h M → w_Reader_anyName this Q X M → w_Reader_anyName this Q' X' M := by
  intro hs
  unfold w_Reader_anyName
  exact (mf_and fun _ => (mf_ite (mf_ite (mo_w_Reader_anyName_j37 hD  (fun _ e => e) hQ (fun _ e => e) hX (Ow.rf hs)) (mf_ite (mo_w_Reader_anyName_j37 hD  (fun _ e => e) hQ (fun _ e => e) hX (Ow.rf hs)) (mo_w_Words_next hD  (fun M7 f1 => (have g2 : Ow w D T _ M M7 := (Ow.trans (Ow.rf hs) f1); (hQ _ _  g2))) (Ow.rf hs).1))) (mo_w_Reader_anyName_j37 hD  (fun _ e => e) hQ (fun _ e => e) hX (Ow.rf hs))))
set_option maxRecDepth 20000 in
theorem mo_w_Reader_type_j39 {w : Nat} {D : Nat → Nat → Prop} {T : Nat → Prop} {h : Hot} {this : Nat} {Q Q' : Int32 → Mem → Prop} {h_Q : Hot} {X X' : Mem → Prop} {h_X : Hot} {s0 : Int32} {M : Mem} {M0 : Mem} (hD : Dok w D)  (lQ : ∀ t, h_Q t = true → h t = true) (hQ : ∀ z0 z1, Ow w D T h_Q M0 z1 → Q z0 z1 → Q' z0 z1) (lX : ∀ t, h_X t = true → h t = true) (hX : ∀ z0, Ow w D T h_X M0 z0 → X z0 → X' z0) : Ow w D T h M0 M → w_Reader_type_j39 this Q X s0 M → w_Reader_type_j39 this Q' X' s0 M := by
  intro hf
  unfold w_Reader_type_j39
  exact (mo_w_Words_next hD  (fun M12 f1 => (have g2 : Ow w D T _ M0 M12 := (Ow.trans hf f1); (hQ _ _  (Ow.dn lQ g2)))) hf.1)
set_option maxRecDepth 20000 in
theorem mo_w_Reader_type_j23 {w : Nat} {D : Nat → Nat → Prop} {T : Nat → Prop} {h : Hot} {this : Nat} {Q Q' : Int32 → Mem → Prop} {h_Q : Hot} {X X' : Mem → Prop} {h_X : Hot} {M : Mem} {M0 : Mem} (hD : Dok w D)  (lQ : ∀ t, h_Q t = true → h t = true) (hQ : ∀ z0 z1, Ow w D T h_Q M0 z1 → Q z0 z1 → Q' z0 z1) (lX : ∀ t, h_X t = true → h t = true) (hX : ∀ z0, Ow w D T h_X M0 z0 → X z0 → X' z0) : Ow w D T h M0 M → w_Reader_type_j23 this Q X M → w_Reader_type_j23 this Q' X' M := by
  intro hf
  unfold w_Reader_type_j23
  exact (mf_ite (mo_w_Reader_type_j39 hD  lQ hQ lX hX hf) (mo_w_Reader_type_j39 hD  lQ hQ lX hX hf))
set_option maxRecDepth 20000 in
theorem mo_w_Reader_type {w : Nat} {D : Nat → Nat → Prop} {T : Nat → Prop} {h : Hot} {this : Nat} {Q Q' : Int32 → Mem → Prop} {X X' : Mem → Prop} {M : Mem} (hD : Dok w D)  (hQ : ∀ z0 z1, Ow w D T h M z1 → Q z0 z1 → Q' z0 z1) (hX : ∀ z0, Ow w D T h M z0 → X z0 → X' z0) : St w D T h M → w_Reader_type this Q X M → w_Reader_type this Q' X' M := by
  intro hs
  unfold w_Reader_type
  exact (mo_w_Words_isWord hD  (fun r2 M1 f1 => (have g2 : Ow w D T _ M M1 := (Ow.trans (Ow.rf hs) f1); (mf_ite (mo_w_Words_isWord hD  (fun r5 M4 f3 => (have g4 : Ow w D T _ M M4 := (Ow.trans g2 f3); (mf_ite (mo_w_Reader_className hD  (fun r8 M7 f5 => (have g6 : Ow w D T _ M M7 := (Ow.trans g4 f5); (mo_w_Works_kindOf hD  (fun r10 M9 f7 => (have g8 : Ow w D T _ M M9 := (Ow.trans g6 f7); (hQ _ _  g8))) g6.1))) (fun z10 f9 => hX z10 (Ow.trans g4 f9)) g4.1) (mo_w_Reader_type_j23 hD  (fun _ e => e) hQ (fun _ e => e) hX g4)))) g2.1) (mo_w_Reader_type_j23 hD  (fun _ e => e) hQ (fun _ e => e) hX g2)))) (Ow.rf hs).1)
set_option maxRecDepth 20000 in
theorem mo_w_Reader_number_j28 {w : Nat} {D : Nat → Nat → Prop} {T : Nat → Prop} {h : Hot} {this : Nat} {Q Q' : Int32 → Mem → Prop} {h_Q : Hot} {X X' : Mem → Prop} {h_X : Hot} {M : Mem} {M0 : Mem} (hD : Dok w D)  (lQ : ∀ t, h_Q t = true → h t = true) (hQ : ∀ z0 z1, Ow w D T h_Q M0 z1 → Q z0 z1 → Q' z0 z1) (lX : ∀ t, h_X t = true → h t = true) (hX : ∀ z0, Ow w D T h_X M0 z0 → X z0 → X' z0) : Ow w D T h M0 M → w_Reader_number_j28 this Q X M → w_Reader_number_j28 this Q' X' M := by
  intro hf
  unfold w_Reader_number_j28
  exact (mo_w_Reader_wrong hD  (fun i7 M6 f1 => (have g2 : Ow w D T _ M0 M6 := (Ow.trans hf f1); (mf_and fun _ => (hX _  (Ow.dn lX g2))))) hf.1)
set_option maxRecDepth 20000 in
theorem mo_w_Reader_number {w : Nat} {D : Nat → Nat → Prop} {T : Nat → Prop} {h : Hot} {this : Nat} {a1 : Int32} {a2 : Int32} {Q Q' : Int32 → Mem → Prop} {X X' : Mem → Prop} {M : Mem} (hD : Dok w D)  (hQ : ∀ z0 z1, Ow w D T h M z1 → Q z0 z1 → Q' z0 z1) (hX : ∀ z0, Ow w D T h M z0 → X z0 → X' z0) : St w D T h M → w_Reader_number this a1 a2 Q X M → w_Reader_number this a1 a2 Q' X' M := by
  intro hs
  unfold w_Reader_number
  exact (mf_and fun _ => (mf_ite (mo_w_Works_isIn hD  (fun r4 M3 f1 => (have g2 : Ow w D T _ M M3 := (Ow.trans (Ow.rf hs) f1); (mf_ite (mo_w_Reader_number_j28 hD  (fun _ e => e) hQ (fun _ e => e) hX g2) (mo_w_Words_next hD  (fun M8 f3 => (have g4 : Ow w D T _ M M8 := (Ow.trans g2 f3); (hQ _ _  g4))) g2.1)))) (Ow.rf hs).1) (mo_w_Reader_number_j28 hD  (fun _ e => e) hQ (fun _ e => e) hX (Ow.rf hs))))
set_option maxRecDepth 20000 in
theorem mo_w_Reader_end {w : Nat} {D : Nat → Nat → Prop} {T : Nat → Prop} {h : Hot} {this : Nat} {Q Q' : Mem → Prop} {X X' : Mem → Prop} {M : Mem} (hD : Dok w D)  (hQ : ∀ z0, Ow w D T h M z0 → Q z0 → Q' z0) (hX : ∀ z0, Ow w D T h M z0 → X z0 → X' z0) : St w D T h M → w_Reader_end this Q X M → w_Reader_end this Q' X' M := by
  intro hs
  unfold w_Reader_end
  exact (mf_and fun _ => (mf_ite (hQ _  (Ow.rf hs)) (mo_w_Reader_wrong hD  (fun i4 M3 f1 => (have g2 : Ow w D T _ M M3 := (Ow.trans (Ow.rf hs) f1); (mf_and fun _ => (hX _  g2)))) (Ow.rf hs).1)))
set_option maxRecDepth 20000 in
theorem mo_w_World_isFace {w : Nat} {D : Nat → Nat → Prop} {T : Nat → Prop} {h : Hot} {this : Nat} {a1 : Int32} {Q Q' : Int32 → Mem → Prop} {M : Mem} (hD : Dok w D)  (hQ : ∀ z0 z1, Ow w D T h M z1 → Q z0 z1 → Q' z0 z1) : St w D T h M → w_World_isFace this a1 Q M → w_World_isFace this a1 Q' M := by
  intro hs
  unfold w_World_isFace
  exact (mf_and fun _ => (mf_ite (hQ _ _  (Ow.rf hs)) (hQ _ _  (Ow.rf hs))))
set_option maxRecDepth 20000 in
theorem mo_w_Reader_isFace {w : Nat} {D : Nat → Nat → Prop} {T : Nat → Prop} {h : Hot} {this : Nat} {Q Q' : Int32 → Mem → Prop} {M : Mem} (hD : Dok w D)  (hQ : ∀ z0 z1, Ow w D T h M z1 → Q z0 z1 → Q' z0 z1) : St w D T h M → w_Reader_isFace this Q M → w_Reader_isFace this Q' M := by
  intro hs
  unfold w_Reader_isFace
  exact (Exists.imp fun i1 => (mf_and fun e1 => (mo_w_World_isFace hD  (fun r3 M2 f3 => (have g4 : Ow w D T _ M M2 := (Ow.trans (Ow.rf hs) f3); (mf_and fun _ => (hQ _ _  g4)))) (Ow.rf hs).1)))
set_option maxRecDepth 20000 in
theorem mo_w_Reader_field_j232 {w : Nat} {D : Nat → Nat → Prop} {T : Nat → Prop} {h : Hot} {this : Nat} {Q Q' : Mem → Prop} {h_Q : Hot} {X X' : Mem → Prop} {h_X : Hot} {v1 : Int32} {v2 : Int32} {v3 : Int32} {v4 : Int32} {v5 : Int32} {M : Mem} {M0 : Mem} (hD : Dok w D) (n0 : h (3, this, 1) = true) (lQ : ∀ t, h_Q t = true → h t = true) (hQ : ∀ z0, Ow w D T h_Q M0 z0 → Q z0 → Q' z0) (lX : ∀ t, h_X t = true → h t = true) (hX : ∀ z0, Ow w D T h_X M0 z0 → X z0 → X' z0) : Ow w D T h M0 M → w_Reader_field_j232 this Q X v1 v2 v3 v4 v5 M → w_Reader_field_j232 this Q' X' v1 v2 v3 v4 v5 M := by
  intro hf
  unfold w_Reader_field_j232
  exact (Exists.imp fun i24 => (mf_and fun e1 => (Exists.imp fun i25 => (mf_and fun e3 => (have o4 : ow w D 5 i25 := (Ow.rh e3 rfl n0 hf); (Exists.imp fun i26 => (mf_and fun e5 => (have o6 : ow w D 5 i26 := (Ow.rh e5 rfl n0 (Ow.wI o4 hf)); (mf_and fun _ => (mf_and fun _ => (Exists.imp fun M29 => (mf_and fun e7 => (have g8 : Ow w D T _ M0 M29 := Ow.of e7 (Ow.wI (ow.to o6 rfl rfl) (Ow.wI o4 hf)); (Exists.imp fun i30 => (mf_and fun e9 => (have o10 : ow w D 5 i30 := (Ow.rh e9 rfl n0 g8); (mf_and fun _ => (Exists.imp fun i32 => (mf_and fun e11 => (have o12 : ow w D 5 i32 := (Ow.rh e11 rfl n0 (Ow.wI (ow.to o10 rfl rfl) g8)); (mf_and fun _ => (Exists.imp fun M34 => (mf_and fun e13 => (have g14 : Ow w D T _ M0 M34 := Ow.of e13 (Ow.wI (ow.to o12 rfl rfl) (Ow.wI (ow.to o10 rfl rfl) g8)); (Exists.imp fun i35 => (mf_and fun e15 => (have o16 : ow w D 5 i35 := (Ow.rh e15 rfl n0 g14); (mf_and fun _ => (Exists.imp fun i37 => (mf_and fun e17 => (have o18 : ow w D 5 i37 := (Ow.rh e17 rfl n0 (Ow.wI (ow.to o16 rfl rfl) g14)); (mf_and fun _ => (Exists.imp fun M39 => (mf_and fun e19 => (have g20 : Ow w D T _ M0 M39 := Ow.of e19 (Ow.wI (ow.to o18 rfl rfl) (Ow.wI (ow.to o16 rfl rfl) g14)); (Exists.imp fun i40 => (mf_and fun e21 => (have o22 : ow w D 5 i40 := (Ow.rh e21 rfl n0 g20); (mf_and fun _ => (Exists.imp fun i42 => (mf_and fun e23 => (have o24 : ow w D 5 i42 := (Ow.rh e23 rfl n0 (Ow.wI (ow.to o22 rfl rfl) g20)); (mf_and fun _ => (Exists.imp fun M44 => (mf_and fun e25 => (have g26 : Ow w D T _ M0 M44 := Ow.of e25 (Ow.wI (ow.to o24 rfl rfl) (Ow.wI (ow.to o22 rfl rfl) g20)); (Exists.imp fun i45 => (mf_and fun e27 => (have o28 : ow w D 5 i45 := (Ow.rh e27 rfl n0 g26); (mf_and fun _ => (hQ _  (Ow.dn lQ (Ow.wI (ow.to o28 rfl rfl) g26)))))))))))))))))))))))))))))))))))))))))))))))))))))
set_option maxRecDepth 20000 in
theorem mo_w_Reader_field_j218 {w : Nat} {D : Nat → Nat → Prop} {T : Nat → Prop} {h : Hot} {this : Nat} {Q Q' : Mem → Prop} {h_Q : Hot} {X X' : Mem → Prop} {h_X : Hot} {M : Mem} {M0 : Mem} (hD : Dok w D)  (lQ : ∀ t, h_Q t = true → h t = true) (hQ : ∀ z0, Ow w D T h_Q M0 z0 → Q z0 → Q' z0) (lX : ∀ t, h_X t = true → h t = true) (hX : ∀ z0, Ow w D T h_X M0 z0 → X z0 → X' z0) : Ow w D T h M0 M → w_Reader_field_j218 this Q X M → w_Reader_field_j218 this Q' X' M := by
  intro hf
  unfold w_Reader_field_j218
  exact (mo_w_Works_refuse hD  (fun i49 M48 f1 => (have g2 : Ow w D T _ M0 M48 := (Ow.trans hf f1); (mf_and fun _ => (hX _  (Ow.dn lX g2))))) hf.1)
set_option maxRecDepth 20000 in
theorem mo_w_Reader_field_j182 {w : Nat} {D : Nat → Nat → Prop} {T : Nat → Prop} {h : Hot} {this : Nat} {Q Q' : Mem → Prop} {h_Q : Hot} {X X' : Mem → Prop} {h_X : Hot} {v1 : Int32} {v2 : Int32} {v3 : Int32} {v4 : Int32} {v5 : Int32} {v7 : Int32} {M : Mem} {M0 : Mem} (hD : Dok w D) (n0 : h (3, this, 1) = true) (lQ : ∀ t, h_Q t = true → h t = true) (hQ : ∀ z0, Ow w D T h_Q M0 z0 → Q z0 → Q' z0) (lX : ∀ t, h_X t = true → h t = true) (hX : ∀ z0, Ow w D T h_X M0 z0 → X z0 → X' z0) : Ow w D T h M0 M → w_Reader_field_j182 this Q X v1 v2 v3 v4 v5 v7 M → w_Reader_field_j182 this Q' X' v1 v2 v3 v4 v5 v7 M := by
  intro hf
  unfold w_Reader_field_j182
  exact (mf_ite (mo_w_Works_refuse hD  (fun i22 M21 f1 => (have g2 : Ow w D T _ M0 M21 := (Ow.trans hf f1); (mf_and fun _ => (hX _  (Ow.dn lX g2))))) hf.1) (mf_ite (mo_w_Reader_field_j232 hD n0 lQ hQ lX hX hf) (mf_ite (mo_w_Reader_field_j218 hD  lQ hQ lX hX hf) (mf_ite (mo_w_Reader_field_j232 hD n0 lQ hQ lX hX hf) (mo_w_Reader_field_j218 hD  lQ hQ lX hX hf)))))
set_option maxRecDepth 20000 in
theorem mo_w_Reader_field_L101 {w : Nat} {D : Nat → Nat → Prop} {T : Nat → Prop} {h : Hot} {this : Nat} {Q Q' : Mem → Prop} {h_Q : Hot} {X X' : Mem → Prop} {h_X : Hot} {M0 : Mem} (hD : Dok w D) (n0 : h (3, this, 1) = true) (lQ : ∀ t, h_Q t = true → h t = true) (hQ : ∀ z0, Ow w D T h_Q M0 z0 → Q z0 → Q' z0) (lX : ∀ t, h_X t = true → h t = true) (hX : ∀ z0, Ow w D T h_X M0 z0 → X z0 → X' z0) : ∀ (n : Nat) (v1 : Int32) (v2 : Int32) (v3 : Int32) (v4 : Int32) (v5 : Int32) (v6 : Int32) (v7 : Int32) (v8 : Int32) (M : Mem), Ow w D T h M0 M → w_Reader_field_L101 this Q X n v1 v2 v3 v4 v5 v6 v7 v8 M → w_Reader_field_L101 this Q' X' n v1 v2 v3 v4 v5 v6 v7 v8 M
  | 0, _, _, _, _, _, _, _, _, _ => fun  _ h => h
  | n + 1, v1, v2, v3, v4, v5, v6, v7, v8, M => fun  hf => by
    unfold w_Reader_field_L101
    exact (mf_ite (mo_w_Reader_isFace hD  (fun r18 M17 f1 => (have g2 : Ow w D T _ M0 M17 := (Ow.trans hf f1); (mf_ite (mo_w_Reader_field_j182 hD n0 lQ hQ lX hX g2) (mf_ite (mo_w_Reader_field_j182 hD n0 lQ hQ lX hX g2) (Exists.imp fun i52 => (mf_and fun e3 => (mo_w_World_asks hD  (fun r54 M53 f5 => (have g6 : Ow w D T _ M0 M53 := (Ow.trans g2 f5); (mf_ite (mo_w_Reader_field_j182 hD n0 lQ hQ lX hX g6) (mo_w_Works_refuse hD  (fun i57 M56 f7 => (have g8 : Ow w D T _ M0 M56 := (Ow.trans g6 f7); (mf_and fun _ => (hX _  (Ow.dn lX g8))))) g6.1)))) g2.1))))))) hf.1) (Exists.imp fun i58 => (mf_and fun e9 => (mf_and fun _ => (mf_ite (mo_w_Works_refuse hD  (fun i62 M61 f11 => (have g12 : Ow w D T _ M0 M61 := (Ow.trans hf f11); (mf_and fun _ => (hX _  (Ow.dn lX g12))))) hf.1) (mo_w_Reader_field_L101 hD n0 lQ hQ lX hX _ _ _ _ _ _ _ _ _ _  hf))))))
set_option maxRecDepth 20000 in
theorem mo_w_Reader_field_j65 {w : Nat} {D : Nat → Nat → Prop} {T : Nat → Prop} {h : Hot} {this : Nat} {Q Q' : Mem → Prop} {h_Q : Hot} {X X' : Mem → Prop} {h_X : Hot} {v1 : Int32} {v2 : Int32} {v3 : Int32} {v4 : Int32} {v5 : Int32} {M : Mem} {M0 : Mem} (hD : Dok w D) (n0 : h (3, this, 1) = true) (lQ : ∀ t, h_Q t = true → h t = true) (hQ : ∀ z0, Ow w D T h_Q M0 z0 → Q z0 → Q' z0) (lX : ∀ t, h_X t = true → h t = true) (hX : ∀ z0, Ow w D T h_X M0 z0 → X z0 → X' z0) : Ow w D T h M0 M → w_Reader_field_j65 this Q X v1 v2 v3 v4 v5 M → w_Reader_field_j65 this Q' X' v1 v2 v3 v4 v5 M := by
  intro hf
  unfold w_Reader_field_j65
  exact (mo_w_Reader_end hD  (fun M11 f1 => (have g2 : Ow w D T _ M0 M11 := (Ow.trans hf f1); (Exists.imp fun i12 => (mf_and fun e3 => (mf_and fun _ => (Exists.imp fun i14 => (mf_and fun e5 => (mf_and fun _ => (Exists.imp fun n63 => (mo_w_Reader_field_L101 hD n0 lQ hQ lX hX _ _ _ _ _ _ _ _ _ _  g2)))))))))) (fun z8 f7 => hX z8 (Ow.dn lX (Ow.trans hf f7))) hf.1)
set_option maxRecDepth 20000 in
theorem mo_w_Reader_field {w : Nat} {D : Nat → Nat → Prop} {T : Nat → Prop} {h : Hot} {this : Nat} {Q Q' : Mem → Prop} {X X' : Mem → Prop} {M : Mem} (hD : Dok w D) (n0 : h (3, this, 1) = true) (hQ : ∀ z0, Ow w D T h M z0 → Q z0 → Q' z0) (hX : ∀ z0, Ow w D T h M z0 → X z0 → X' z0) : St w D T h M → w_Reader_field this Q X M → w_Reader_field this Q' X' M := by
  intro hs
  unfold w_Reader_field
  exact (mo_w_Words_next hD  (fun M1 f1 => (have g2 : Ow w D T _ M M1 := (Ow.trans (Ow.rf hs) f1); (mo_w_Reader_flags hD  (fun r3 M2 f3 => (have g4 : Ow w D T _ M M2 := (Ow.trans g2 f3); (mo_w_Reader_anyName hD  (fun r5 M4 f5 => (have g6 : Ow w D T _ M M4 := (Ow.trans g4 f5); (mo_w_Reader_type hD  (fun r7 M6 f7 => (have g8 : Ow w D T _ M M6 := (Ow.trans g6 f7); (mo_w_Words_isSign hD  (fun r9 M8 f9 => (have g10 : Ow w D T _ M M8 := (Ow.trans g8 f9); (mf_ite (mo_w_Reader_field_j65 hD n0 (fun _ e => e) hQ (fun _ e => e) hX g10) (mo_w_Words_next hD  (fun M64 f11 => (have g12 : Ow w D T _ M M64 := (Ow.trans g10 f11); (mo_w_Reader_number hD  (fun r66 M65 f13 => (have g14 : Ow w D T _ M M65 := (Ow.trans g12 f13); (mo_w_Reader_field_j65 hD n0 (fun _ e => e) hQ (fun _ e => e) hX g14))) (fun z16 f15 => hX z16 (Ow.trans g12 f15)) g12.1))) g10.1)))) g8.1))) (fun z18 f17 => hX z18 (Ow.trans g6 f17)) g6.1))) (fun z20 f19 => hX z20 (Ow.trans g4 f19)) g4.1))) g2.1))) (Ow.rf hs).1)
set_option maxRecDepth 20000 in
theorem mo_w_Reader_types_j57 {w : Nat} {D : Nat → Nat → Prop} {T : Nat → Prop} {h : Hot} {this : Nat} {Q Q' : Mem → Prop} {h_Q : Hot} {X X' : Mem → Prop} {h_X : Hot} {k11 k11' : Mem → Prop} {h_k11 : Hot} {M : Mem} {M0 : Mem} (hD : Dok w D)  (lQ : ∀ t, h_Q t = true → h t = true) (hQ : ∀ z0, Ow w D T h_Q M0 z0 → Q z0 → Q' z0) (lX : ∀ t, h_X t = true → h t = true) (hX : ∀ z0, Ow w D T h_X M0 z0 → X z0 → X' z0) (lk11 : ∀ t, h_k11 t = true → h t = true) (hk11 : ∀ z0, Ow w D T h_k11 M0 z0 → k11 z0 → k11' z0) : Ow w D T h M0 M → w_Reader_types_j57 this Q X k11 M → w_Reader_types_j57 this Q' X' k11' M := by
  intro hf
  unfold w_Reader_types_j57
  exact (mo_w_Reader_type hD  (fun r8 M7 f1 => (have g2 : Ow w D T _ M0 M7 := (Ow.trans hf f1); (mf_and fun _ => (Exists.imp fun M10 => (mf_and fun e3 => (have g4 : Ow w D T _ M0 M10 := Ow.of e3 (Ow.wI (ow0 rfl) (Ow.wI hD.1 g2)); (hk11 _  (Ow.dn lk11 g4)))))))) (fun z6 f5 => hX z6 (Ow.dn lX (Ow.trans hf f5))) hf.1)
set_option maxRecDepth 20000 in
theorem mo_w_Reader_types_j36 {w : Nat} {D : Nat → Nat → Prop} {T : Nat → Prop} {h : Hot} {this : Nat} {Q Q' : Mem → Prop} {h_Q : Hot} {X X' : Mem → Prop} {h_X : Hot} {k11 k11' : Mem → Prop} {h_k11 : Hot} {M : Mem} {M0 : Mem} (hD : Dok w D)  (lQ : ∀ t, h_Q t = true → h t = true) (hQ : ∀ z0, Ow w D T h_Q M0 z0 → Q z0 → Q' z0) (lX : ∀ t, h_X t = true → h t = true) (hX : ∀ z0, Ow w D T h_X M0 z0 → X z0 → X' z0) (lk11 : ∀ t, h_k11 t = true → h t = true) (hk11 : ∀ z0, Ow w D T h_k11 M0 z0 → k11 z0 → k11' z0) : Ow w D T h M0 M → w_Reader_types_j36 this Q X k11 M → w_Reader_types_j36 this Q' X' k11' M := by
  intro hf
  unfold w_Reader_types_j36
  exact (mf_ite (mo_w_Reader_types_j57 hD  lQ hQ lX hX lk11 hk11 hf) (mf_ite (mo_w_Reader_wrong hD  (fun i13 M12 f1 => (have g2 : Ow w D T _ M0 M12 := (Ow.trans hf f1); (mf_and fun _ => (hX _  (Ow.dn lX g2))))) hf.1) (mo_w_Reader_types_j57 hD  lQ hQ lX hX lk11 hk11 hf)))
set_option maxRecDepth 20000 in
theorem mo_w_Reader_types_L11 {w : Nat} {D : Nat → Nat → Prop} {T : Nat → Prop} {h : Hot} {this : Nat} {Q Q' : Mem → Prop} {h_Q : Hot} {X X' : Mem → Prop} {h_X : Hot} {M0 : Mem} (hD : Dok w D)  (lQ : ∀ t, h_Q t = true → h t = true) (hQ : ∀ z0, Ow w D T h_Q M0 z0 → Q z0 → Q' z0) (lX : ∀ t, h_X t = true → h t = true) (hX : ∀ z0, Ow w D T h_X M0 z0 → X z0 → X' z0) : ∀ (n : Nat) (M : Mem), Ow w D T h M0 M → w_Reader_types_L11 this Q X n M → w_Reader_types_L11 this Q' X' n M
  | 0, _ => fun  _ h => h
  | n + 1, M => fun  hf => by
    unfold w_Reader_types_L11
    exact (mo_w_Words_isSign hD  (fun r3 M2 f1 => (have g2 : Ow w D T _ M0 M2 := (Ow.trans hf f1); (mf_ite (mf_ite (mo_w_Reader_types_j36 hD  lQ hQ lX hX (fun _ e => e) (fun y0  hf => mo_w_Reader_types_L11 hD  lQ hQ lX hX n y0  hf) g2) (mo_w_Reader_sign hD  (fun M14 f3 => (have g4 : Ow w D T _ M0 M14 := (Ow.trans g2 f3); (mo_w_Reader_types_j36 hD  lQ hQ lX hX (fun _ e => e) (fun y0  hf => mo_w_Reader_types_L11 hD  lQ hQ lX hX n y0  hf) g4))) (fun z6 f5 => hX z6 (Ow.dn lX (Ow.trans g2 f5))) g2.1)) (mo_w_Words_next hD  (fun M15 f7 => (have g8 : Ow w D T _ M0 M15 := (Ow.trans g2 f7); (hQ _  (Ow.dn lQ g8)))) g2.1)))) hf.1)
set_option maxRecDepth 20000 in
theorem mo_w_Reader_types {w : Nat} {D : Nat → Nat → Prop} {T : Nat → Prop} {h : Hot} {this : Nat} {Q Q' : Mem → Prop} {X X' : Mem → Prop} {M : Mem} (hD : Dok w D)  (hQ : ∀ z0, Ow w D T h M z0 → Q z0 → Q' z0) (hX : ∀ z0, Ow w D T h M z0 → X z0 → X' z0) : St w D T h M → w_Reader_types this Q X M → w_Reader_types this Q' X' M := by
  intro hs
  unfold w_Reader_types
  exact (mo_w_Reader_sign hD  (fun M1 f1 => (have g2 : Ow w D T _ M M1 := (Ow.trans (Ow.rf hs) f1); (Exists.imp fun n16 => (have g3 : Ow w D T _ M (sI M1 3 this 18 (0 : Int32)) := (Ow.wI (ow0 rfl) g2); (mo_w_Reader_types_L11 hD  (fun _ e => e) hQ (fun _ e => e) hX _ _  g3))))) (fun z5 f4 => hX z5 (Ow.trans (Ow.rf hs) f4)) (Ow.rf hs).1)
set_option maxRecDepth 20000 in
theorem mo_w_Reader_result {w : Nat} {D : Nat → Nat → Prop} {T : Nat → Prop} {h : Hot} {this : Nat} {Q Q' : Int32 → Mem → Prop} {X X' : Mem → Prop} {M : Mem} (hD : Dok w D)  (hQ : ∀ z0 z1, Ow w D T h M z1 → Q z0 z1 → Q' z0 z1) (hX : ∀ z0, Ow w D T h M z0 → X z0 → X' z0) : St w D T h M → w_Reader_result this Q X M → w_Reader_result this Q' X' M := by
  intro hs
  unfold w_Reader_result
  exact (mo_w_Words_isWord hD  (fun r2 M1 f1 => (have g2 : Ow w D T _ M M1 := (Ow.trans (Ow.rf hs) f1); (mf_ite (mo_w_Reader_type hD  (fun r5 M4 f3 => (have g4 : Ow w D T _ M M4 := (Ow.trans g2 f3); (hQ _ _  g4))) (fun z6 f5 => hX z6 (Ow.trans g2 f5)) g2.1) (mo_w_Words_next hD  (fun M6 f7 => (have g8 : Ow w D T _ M M6 := (Ow.trans g2 f7); (hQ _ _  g8))) g2.1)))) (Ow.rf hs).1)
set_option maxRecDepth 20000 in
theorem mo_w_World_sameArguments_j59 {w : Nat} {D : Nat → Nat → Prop} {T : Nat → Prop} {h : Hot} {this : Nat} {Q Q' : Int32 → Mem → Prop} {h_Q : Hot} {k21 k21' : Int32 → Nat → Int32 → Int32 → Int32 → Int32 → Mem → Prop} {h_k21 : Hot} {v1 : Int32} {v2 : Nat} {v3 : Int32} {v4 : Int32} {v6 : Int32} {s0 : Int32} {M : Mem} {M0 : Mem} (hD : Dok w D)  (lQ : ∀ t, h_Q t = true → h t = true) (hQ : ∀ z0 z1, Ow w D T h_Q M0 z1 → Q z0 z1 → Q' z0 z1) (lk21 : ∀ t, h_k21 t = true → h t = true) (hk21 : ∀ z0 z1 z2 z3 z4 z5 z6, Ow w D T h_k21 M0 z6 → k21 z0 z1 z2 z3 z4 z5 z6 → k21' z0 z1 z2 z3 z4 z5 z6) : Ow w D T h M0 M → w_World_sameArguments_j59 this Q k21 v1 v2 v3 v4 v6 s0 M → w_World_sameArguments_j59 this Q' k21' v1 v2 v3 v4 v6 s0 M := by
  intro hf
  unfold w_World_sameArguments_j59
  exact (hk21 _ _ _ _ _ _ _  (Ow.dn lk21 hf))
set_option maxRecDepth 20000 in
theorem mo_w_World_sameArguments_L21 {w : Nat} {D : Nat → Nat → Prop} {T : Nat → Prop} {h : Hot} {this : Nat} {Q Q' : Int32 → Mem → Prop} {h_Q : Hot} {M0 : Mem} (hD : Dok w D)  (lQ : ∀ t, h_Q t = true → h t = true) (hQ : ∀ z0 z1, Ow w D T h_Q M0 z1 → Q z0 z1 → Q' z0 z1) : ∀ (n : Nat) (v1 : Int32) (v2 : Nat) (v3 : Int32) (v4 : Int32) (v5 : Int32) (v6 : Int32) (M : Mem), Ow w D T h M0 M → w_World_sameArguments_L21 this Q n v1 v2 v3 v4 v5 v6 M → w_World_sameArguments_L21 this Q' n v1 v2 v3 v4 v5 v6 M
  | 0, _, _, _, _, _, _, _ => fun  _ h => h
  | n + 1, v1, v2, v3, v4, v5, v6, M => fun  hf => by
    unfold w_World_sameArguments_L21
    exact (mf_ite (mf_and fun _ => (hQ _ _  (Ow.dn lQ hf))) (mf_ite (mf_and fun _ => (hQ _ _  (Ow.dn lQ hf))) (mf_and fun _ => (mf_and fun _ => (mf_ite (mo_w_World_sameArguments_j59 hD  lQ hQ (fun _ e => e) (fun y0 y1 y2 y3 y4 y5 y6  hf => mo_w_World_sameArguments_L21 hD  lQ hQ n y0 y1 y2 y3 y4 y5 y6  hf) hf) (mo_w_World_sameArguments_j59 hD  lQ hQ (fun _ e => e) (fun y0 y1 y2 y3 y4 y5 y6  hf => mo_w_World_sameArguments_L21 hD  lQ hQ n y0 y1 y2 y3 y4 y5 y6  hf) hf))))))
set_option maxRecDepth 20000 in
theorem mo_w_World_sameArguments_j16 {w : Nat} {D : Nat → Nat → Prop} {T : Nat → Prop} {h : Hot} {this : Nat} {Q Q' : Int32 → Mem → Prop} {h_Q : Hot} {v1 : Int32} {v2 : Nat} {v3 : Int32} {v4 : Int32} {s0 : Int32} {M : Mem} {M0 : Mem} (hD : Dok w D)  (lQ : ∀ t, h_Q t = true → h t = true) (hQ : ∀ z0 z1, Ow w D T h_Q M0 z1 → Q z0 z1 → Q' z0 z1) : Ow w D T h M0 M → w_World_sameArguments_j16 this Q v1 v2 v3 v4 s0 M → w_World_sameArguments_j16 this Q' v1 v2 v3 v4 s0 M := by
  intro hf
  unfold w_World_sameArguments_j16
  exact (Exists.imp fun n8 => (mo_w_World_sameArguments_L21 hD  lQ hQ _ _ _ _ _ _ _ _  hf))
set_option maxRecDepth 20000 in
theorem mo_w_World_sameArguments {w : Nat} {D : Nat → Nat → Prop} {T : Nat → Prop} {h : Hot} {this : Nat} {a1 : Int32} {a2 : Nat} {a3 : Int32} {a4 : Int32} {Q Q' : Int32 → Mem → Prop} {M : Mem} (hD : Dok w D)  (hQ : ∀ z0 z1, Ow w D T h M z1 → Q z0 z1 → Q' z0 z1) : St w D T h M → w_World_sameArguments this a1 a2 a3 a4 Q M → w_World_sameArguments this a1 a2 a3 a4 Q' M := by
  intro hs
  unfold w_World_sameArguments
  exact (mf_and fun _ => (mf_ite (mo_w_World_sameArguments_j16 hD  (fun _ e => e) hQ (Ow.rf hs)) (mo_w_World_sameArguments_j16 hD  (fun _ e => e) hQ (Ow.rf hs))))
set_option maxRecDepth 20000 in
theorem mo_w_Reader_askMethod_j320 {w : Nat} {D : Nat → Nat → Prop} {T : Nat → Prop} {h : Hot} {this : Nat} {Q Q' : Mem → Prop} {h_Q : Hot} {X X' : Mem → Prop} {h_X : Hot} {M : Mem} {M0 : Mem} (hD : Dok w D)  (lQ : ∀ t, h_Q t = true → h t = true) (hQ : ∀ z0, Ow w D T h_Q M0 z0 → Q z0 → Q' z0) (lX : ∀ t, h_X t = true → h t = true) (hX : ∀ z0, Ow w D T h_X M0 z0 → X z0 → X' z0) : Ow w D T h M0 M → w_Reader_askMethod_j320 this Q X M → w_Reader_askMethod_j320 this Q' X' M := by
  intro hf
  unfold w_Reader_askMethod_j320
  exact (mo_w_Works_refuse hD  (fun i21 M20 f1 => (have g2 : Ow w D T _ M0 M20 := (Ow.trans hf f1); (mf_and fun _ => (hX _  (Ow.dn lX g2))))) hf.1)
set_option maxRecDepth 20000 in
theorem mo_w_Reader_askMethod_j360 {w : Nat} {D : Nat → Nat → Prop} {T : Nat → Prop} {h : Hot} {this : Nat} {Q Q' : Mem → Prop} {h_Q : Hot} {X X' : Mem → Prop} {h_X : Hot} {M : Mem} {M0 : Mem} (hD : Dok w D)  (lQ : ∀ t, h_Q t = true → h t = true) (hQ : ∀ z0, Ow w D T h_Q M0 z0 → Q z0 → Q' z0) (lX : ∀ t, h_X t = true → h t = true) (hX : ∀ z0, Ow w D T h_X M0 z0 → X z0 → X' z0) : Ow w D T h M0 M → w_Reader_askMethod_j360 this Q X M → w_Reader_askMethod_j360 this Q' X' M := by
  intro hf
  unfold w_Reader_askMethod_j360
  exact (mo_w_Works_refuse hD  (fun i25 M24 f1 => (have g2 : Ow w D T _ M0 M24 := (Ow.trans hf f1); (mf_and fun _ => (hX _  (Ow.dn lX g2))))) hf.1)
set_option maxRecDepth 20000 in
theorem mo_w_Reader_askMethod_j334 {w : Nat} {D : Nat → Nat → Prop} {T : Nat → Prop} {h : Hot} {this : Nat} {Q Q' : Mem → Prop} {h_Q : Hot} {X X' : Mem → Prop} {h_X : Hot} {M : Mem} {M0 : Mem} (hD : Dok w D)  (lQ : ∀ t, h_Q t = true → h t = true) (hQ : ∀ z0, Ow w D T h_Q M0 z0 → Q z0 → Q' z0) (lX : ∀ t, h_X t = true → h t = true) (hX : ∀ z0, Ow w D T h_X M0 z0 → X z0 → X' z0) : Ow w D T h M0 M → w_Reader_askMethod_j334 this Q X M → w_Reader_askMethod_j334 this Q' X' M := by
  intro hf
  unfold w_Reader_askMethod_j334
  exact (mf_ite (mo_w_Reader_askMethod_j360 hD  lQ hQ lX hX hf) (Exists.imp fun i26 => (mf_and fun e1 => (mf_and fun _ => (mf_ite (mo_w_Reader_askMethod_j360 hD  lQ hQ lX hX hf) (hQ _  (Ow.dn lQ hf)))))))
set_option maxRecDepth 20000 in
theorem mo_w_Reader_askMethod_j296 {w : Nat} {D : Nat → Nat → Prop} {T : Nat → Prop} {h : Hot} {this : Nat} {Q Q' : Mem → Prop} {h_Q : Hot} {X X' : Mem → Prop} {h_X : Hot} {v1 : Int32} {v2 : Int32} {v3 : Int32} {M : Mem} {M0 : Mem} (hD : Dok w D)  (lQ : ∀ t, h_Q t = true → h t = true) (hQ : ∀ z0, Ow w D T h_Q M0 z0 → Q z0 → Q' z0) (lX : ∀ t, h_X t = true → h t = true) (hX : ∀ z0, Ow w D T h_X M0 z0 → X z0 → X' z0) : Ow w D T h M0 M → w_Reader_askMethod_j296 this Q X v1 v2 v3 M → w_Reader_askMethod_j296 this Q' X' v1 v2 v3 M := by
  intro hf
  unfold w_Reader_askMethod_j296
  exact (mf_ite (mf_ite (mf_ite (mo_w_Reader_askMethod_j320 hD  lQ hQ lX hX hf) (mf_ite (mo_w_Reader_askMethod_j334 hD  lQ hQ lX hX hf) (mo_w_Reader_askMethod_j320 hD  lQ hQ lX hX hf))) (mo_w_Reader_askMethod_j320 hD  lQ hQ lX hX hf)) (mo_w_Reader_askMethod_j334 hD  lQ hQ lX hX hf))
set_option maxRecDepth 20000 in
theorem mo_w_Reader_askMethod_j282 {w : Nat} {D : Nat → Nat → Prop} {T : Nat → Prop} {h : Hot} {this : Nat} {Q Q' : Mem → Prop} {h_Q : Hot} {X X' : Mem → Prop} {h_X : Hot} {M : Mem} {M0 : Mem} (hD : Dok w D)  (lQ : ∀ t, h_Q t = true → h t = true) (hQ : ∀ z0, Ow w D T h_Q M0 z0 → Q z0 → Q' z0) (lX : ∀ t, h_X t = true → h t = true) (hX : ∀ z0, Ow w D T h_X M0 z0 → X z0 → X' z0) : Ow w D T h M0 M → w_Reader_askMethod_j282 this Q X M → w_Reader_askMethod_j282 this Q' X' M := by
  intro hf
  unfold w_Reader_askMethod_j282
  exact (mo_w_Works_refuse hD  (fun i30 M29 f1 => (have g2 : Ow w D T _ M0 M29 := (Ow.trans hf f1); (mf_and fun _ => (hX _  (Ow.dn lX g2))))) hf.1)
set_option maxRecDepth 20000 in
theorem mo_w_Reader_askMethod_j263 {w : Nat} {D : Nat → Nat → Prop} {T : Nat → Prop} {h : Hot} {this : Nat} {Q Q' : Mem → Prop} {h_Q : Hot} {X X' : Mem → Prop} {h_X : Hot} {v1 : Int32} {v2 : Int32} {v3 : Int32} {M : Mem} {M0 : Mem} (hD : Dok w D)  (lQ : ∀ t, h_Q t = true → h t = true) (hQ : ∀ z0, Ow w D T h_Q M0 z0 → Q z0 → Q' z0) (lX : ∀ t, h_X t = true → h t = true) (hX : ∀ z0, Ow w D T h_X M0 z0 → X z0 → X' z0) : Ow w D T h M0 M → w_Reader_askMethod_j263 this Q X v1 v2 v3 M → w_Reader_askMethod_j263 this Q' X' v1 v2 v3 M := by
  intro hf
  unfold w_Reader_askMethod_j263
  exact (mf_ite (mf_ite (mf_ite (mo_w_Reader_askMethod_j296 hD  lQ hQ lX hX hf) (mo_w_Reader_askMethod_j282 hD  lQ hQ lX hX hf)) (mo_w_Reader_askMethod_j282 hD  lQ hQ lX hX hf)) (mo_w_Reader_askMethod_j296 hD  lQ hQ lX hX hf))
set_option maxRecDepth 20000 in
theorem mo_w_Reader_askMethod_j214 {w : Nat} {D : Nat → Nat → Prop} {T : Nat → Prop} {h : Hot} {this : Nat} {Q Q' : Mem → Prop} {h_Q : Hot} {X X' : Mem → Prop} {h_X : Hot} {v1 : Int32} {v2 : Int32} {v3 : Int32} {v4 : Int32} {M : Mem} {M0 : Mem} (hD : Dok w D)  (lQ : ∀ t, h_Q t = true → h t = true) (hQ : ∀ z0, Ow w D T h_Q M0 z0 → Q z0 → Q' z0) (lX : ∀ t, h_X t = true → h t = true) (hX : ∀ z0, Ow w D T h_X M0 z0 → X z0 → X' z0) : Ow w D T h M0 M → w_Reader_askMethod_j214 this Q X v1 v2 v3 v4 M → w_Reader_askMethod_j214 this Q' X' v1 v2 v3 v4 M := by
  intro hf
  unfold w_Reader_askMethod_j214
  exact (mf_ite (mo_w_Reader_askMethod_j263 hD  lQ hQ lX hX hf) (Exists.imp fun i31 => (mf_and fun e1 => (mf_and fun _ => (mf_ite (Exists.imp fun i34 => (mf_and fun e3 => (mo_w_World_asks hD  (fun r36 M35 f5 => (have g6 : Ow w D T _ M0 M35 := (Ow.trans hf f5); (mf_ite (mo_w_Reader_askMethod_j263 hD  lQ hQ lX hX g6) (mo_w_Works_refuse hD  (fun i39 M38 f7 => (have g8 : Ow w D T _ M0 M38 := (Ow.trans g6 f7); (mf_and fun _ => (hX _  (Ow.dn lX g8))))) g6.1)))) hf.1))) (mo_w_Reader_askMethod_j263 hD  lQ hQ lX hX hf))))))
set_option maxRecDepth 20000 in
theorem mo_w_Reader_askMethod_j190 {w : Nat} {D : Nat → Nat → Prop} {T : Nat → Prop} {h : Hot} {this : Nat} {Q Q' : Mem → Prop} {h_Q : Hot} {X X' : Mem → Prop} {h_X : Hot} {v1 : Int32} {v2 : Int32} {v3 : Int32} {v4 : Int32} {M : Mem} {M0 : Mem} (hD : Dok w D)  (lQ : ∀ t, h_Q t = true → h t = true) (hQ : ∀ z0, Ow w D T h_Q M0 z0 → Q z0 → Q' z0) (lX : ∀ t, h_X t = true → h t = true) (hX : ∀ z0, Ow w D T h_X M0 z0 → X z0 → X' z0) : Ow w D T h M0 M → w_Reader_askMethod_j190 this Q X v1 v2 v3 v4 M → w_Reader_askMethod_j190 this Q' X' v1 v2 v3 v4 M := by
  intro hf
  unfold w_Reader_askMethod_j190
  exact (Exists.imp fun i42 => (mf_and fun e1 => (mo_w_World_asks hD  (fun r44 M43 f3 => (have g4 : Ow w D T _ M0 M43 := (Ow.trans hf f3); (mf_ite (mo_w_Reader_askMethod_j214 hD  lQ hQ lX hX g4) (mo_w_Works_refuse hD  (fun i47 M46 f5 => (have g6 : Ow w D T _ M0 M46 := (Ow.trans g4 f5); (mf_and fun _ => (hX _  (Ow.dn lX g6))))) g4.1)))) hf.1)))
set_option maxRecDepth 20000 in
theorem mo_w_Reader_askMethod_j170 {w : Nat} {D : Nat → Nat → Prop} {T : Nat → Prop} {h : Hot} {this : Nat} {Q Q' : Mem → Prop} {h_Q : Hot} {X X' : Mem → Prop} {h_X : Hot} {v1 : Int32} {v2 : Int32} {v3 : Int32} {v4 : Int32} {M : Mem} {M0 : Mem} (hD : Dok w D)  (lQ : ∀ t, h_Q t = true → h t = true) (hQ : ∀ z0, Ow w D T h_Q M0 z0 → Q z0 → Q' z0) (lX : ∀ t, h_X t = true → h t = true) (hX : ∀ z0, Ow w D T h_X M0 z0 → X z0 → X' z0) : Ow w D T h M0 M → w_Reader_askMethod_j170 this Q X v1 v2 v3 v4 M → w_Reader_askMethod_j170 this Q' X' v1 v2 v3 v4 M := by
  intro hf
  unfold w_Reader_askMethod_j170
  exact (mo_w_Reader_isFace hD  (fun r11 M10 f1 => (have g2 : Ow w D T _ M0 M10 := (Ow.trans hf f1); (mf_ite (mo_w_Reader_askMethod_j214 hD  lQ hQ lX hX g2) (mf_ite (mf_ite (mo_w_Reader_askMethod_j190 hD  lQ hQ lX hX g2) (mo_w_Reader_askMethod_j214 hD  lQ hQ lX hX g2)) (mo_w_Reader_askMethod_j190 hD  lQ hQ lX hX g2))))) hf.1)
set_option maxRecDepth 20000 in
theorem mo_w_Reader_askMethod_j133 {w : Nat} {D : Nat → Nat → Prop} {T : Nat → Prop} {h : Hot} {this : Nat} {Q Q' : Mem → Prop} {h_Q : Hot} {X X' : Mem → Prop} {h_X : Hot} {v1 : Int32} {v2 : Int32} {v3 : Int32} {s0 : Int32} {M : Mem} {M0 : Mem} (hD : Dok w D)  (lQ : ∀ t, h_Q t = true → h t = true) (hQ : ∀ z0, Ow w D T h_Q M0 z0 → Q z0 → Q' z0) (lX : ∀ t, h_X t = true → h t = true) (hX : ∀ z0, Ow w D T h_X M0 z0 → X z0 → X' z0) : Ow w D T h M0 M → w_Reader_askMethod_j133 this Q X v1 v2 v3 s0 M → w_Reader_askMethod_j133 this Q' X' v1 v2 v3 s0 M := by
  intro hf
  unfold w_Reader_askMethod_j133
  exact (mf_ite (mo_w_Reader_askMethod_j170 hD  lQ hQ lX hX hf) (mf_ite (mo_w_Reader_askMethod_j170 hD  lQ hQ lX hX hf) (Exists.imp fun i49 => (mf_and fun e1 => (mo_w_World_asks hD  (fun r51 M50 f3 => (have g4 : Ow w D T _ M0 M50 := (Ow.trans hf f3); (mf_ite (mo_w_Reader_askMethod_j170 hD  lQ hQ lX hX g4) (mo_w_Works_refuse hD  (fun i54 M53 f5 => (have g6 : Ow w D T _ M0 M53 := (Ow.trans g4 f5); (mf_and fun _ => (hX _  (Ow.dn lX g6))))) g4.1)))) hf.1)))))
set_option maxRecDepth 20000 in
theorem mo_w_Reader_askMethod_j115 {w : Nat} {D : Nat → Nat → Prop} {T : Nat → Prop} {h : Hot} {this : Nat} {Q Q' : Mem → Prop} {h_Q : Hot} {X X' : Mem → Prop} {h_X : Hot} {k14 k14' : Int32 → Int32 → Int32 → Int32 → Mem → Prop} {h_k14 : Hot} {v1 : Int32} {v2 : Int32} {v3 : Int32} {v4 : Int32} {M : Mem} {M0 : Mem} (hD : Dok w D)  (lQ : ∀ t, h_Q t = true → h t = true) (hQ : ∀ z0, Ow w D T h_Q M0 z0 → Q z0 → Q' z0) (lX : ∀ t, h_X t = true → h t = true) (hX : ∀ z0, Ow w D T h_X M0 z0 → X z0 → X' z0) (lk14 : ∀ t, h_k14 t = true → h t = true) (hk14 : ∀ z0 z1 z2 z3 z4, Ow w D T h_k14 M0 z4 → k14 z0 z1 z2 z3 z4 → k14' z0 z1 z2 z3 z4) : Ow w D T h M0 M → w_Reader_askMethod_j115 this Q X k14 v1 v2 v3 v4 M → w_Reader_askMethod_j115 this Q' X' k14' v1 v2 v3 v4 M := by
  intro hf
  unfold w_Reader_askMethod_j115
  exact (hk14 _ _ _ _ _  (Ow.dn lk14 hf))
set_option maxRecDepth 20000 in
theorem mo_w_Reader_askMethod_L14 {w : Nat} {D : Nat → Nat → Prop} {T : Nat → Prop} {h : Hot} {this : Nat} {Q Q' : Mem → Prop} {h_Q : Hot} {X X' : Mem → Prop} {h_X : Hot} {M0 : Mem} (hD : Dok w D)  (lQ : ∀ t, h_Q t = true → h t = true) (hQ : ∀ z0, Ow w D T h_Q M0 z0 → Q z0 → Q' z0) (lX : ∀ t, h_X t = true → h t = true) (hX : ∀ z0, Ow w D T h_X M0 z0 → X z0 → X' z0) : ∀ (n : Nat) (v1 : Int32) (v2 : Int32) (v3 : Int32) (v4 : Int32) (M : Mem), Ow w D T h M0 M → w_Reader_askMethod_L14 this Q X n v1 v2 v3 v4 M → w_Reader_askMethod_L14 this Q' X' n v1 v2 v3 v4 M
  | 0, _, _, _, _, _ => fun  _ h => h
  | n + 1, v1, v2, v3, v4, M => fun  hf => by
    unfold w_Reader_askMethod_L14
    exact (Exists.imp fun i3 => (mf_and fun e1 => (mf_and fun _ => (Exists.imp fun i5 => (mf_and fun e3 => (mf_and fun _ => (mf_ite (mf_ite (mo_w_Reader_askMethod_j133 hD  lQ hQ lX hX hf) (mo_w_Reader_askMethod_j133 hD  lQ hQ lX hX hf)) (Exists.imp fun i55 => (mf_and fun e5 => (mf_and fun _ => (mf_ite (Exists.imp fun i58 => (mf_and fun e7 => (mf_and fun _ => (mf_ite (mf_ite (mo_w_Reader_askMethod_j115 hD  lQ hQ lX hX (fun _ e => e) (fun y0 y1 y2 y3 y4  hf => mo_w_Reader_askMethod_L14 hD  lQ hQ lX hX n y0 y1 y2 y3 y4  hf) hf) (Exists.imp fun i62 => (mf_and fun e9 => (mo_w_World_sameArguments hD  (fun r64 M63 f11 => (have g12 : Ow w D T _ M0 M63 := (Ow.trans hf f11); (mf_ite (mo_w_Reader_askMethod_j115 hD  lQ hQ lX hX (fun _ e => e) (fun y0 y1 y2 y3 y4  hf => mo_w_Reader_askMethod_L14 hD  lQ hQ lX hX n y0 y1 y2 y3 y4  hf) g12) (mo_w_Works_refuse hD  (fun i67 M66 f13 => (have g14 : Ow w D T _ M0 M66 := (Ow.trans g12 f13); (mf_and fun _ => (hX _  (Ow.dn lX g14))))) g12.1)))) hf.1)))) (mo_w_Reader_askMethod_j115 hD  lQ hQ lX hX (fun _ e => e) (fun y0 y1 y2 y3 y4  hf => mo_w_Reader_askMethod_L14 hD  lQ hQ lX hX n y0 y1 y2 y3 y4  hf) hf))))) (mo_w_Reader_askMethod_j115 hD  lQ hQ lX hX (fun _ e => e) (fun y0 y1 y2 y3 y4  hf => mo_w_Reader_askMethod_L14 hD  lQ hQ lX hX n y0 y1 y2 y3 y4  hf) hf))))))))))))
set_option maxRecDepth 20000 in
theorem mo_w_Reader_askMethod {w : Nat} {D : Nat → Nat → Prop} {T : Nat → Prop} {h : Hot} {this : Nat} {a1 : Int32} {a2 : Int32} {a3 : Int32} {Q Q' : Mem → Prop} {X X' : Mem → Prop} {M : Mem} (hD : Dok w D)  (hQ : ∀ z0, Ow w D T h M z0 → Q z0 → Q' z0) (hX : ∀ z0, Ow w D T h M z0 → X z0 → X' z0) : St w D T h M → w_Reader_askMethod this a1 a2 a3 Q X M → w_Reader_askMethod this a1 a2 a3 Q' X' M := by
  intro hs
  unfold w_Reader_askMethod
  exact (Exists.imp fun i1 => (mf_and fun e1 => (mf_and fun _ => (Exists.imp fun n68 => (mo_w_Reader_askMethod_L14 hD  (fun _ e => e) hQ (fun _ e => e) hX _ _ _ _ _ _  (Ow.rf hs))))))
set_option maxRecDepth 20000 in
theorem mo_w_Reader_kindWord_j69 {w : Nat} {D : Nat → Nat → Prop} {T : Nat → Prop} {h : Hot} {this : Nat} {Q Q' : Int32 → Mem → Prop} {h_Q : Hot} {X X' : Mem → Prop} {h_X : Hot} {s0 : Int32} {M : Mem} {M0 : Mem} (hD : Dok w D)  (lQ : ∀ t, h_Q t = true → h t = true) (hQ : ∀ z0 z1, Ow w D T h_Q M0 z1 → Q z0 z1 → Q' z0 z1) (lX : ∀ t, h_X t = true → h t = true) (hX : ∀ z0, Ow w D T h_X M0 z0 → X z0 → X' z0) : Ow w D T h M0 M → w_Reader_kindWord_j69 this Q X s0 M → w_Reader_kindWord_j69 this Q' X' s0 M := by
  intro hf
  unfold w_Reader_kindWord_j69
  exact (mo_w_Words_next hD  (fun M13 f1 => (have g2 : Ow w D T _ M0 M13 := (Ow.trans hf f1); (hQ _ _  (Ow.dn lQ g2)))) hf.1)
set_option maxRecDepth 20000 in
theorem mo_w_Reader_kindWord_j35 {w : Nat} {D : Nat → Nat → Prop} {T : Nat → Prop} {h : Hot} {this : Nat} {Q Q' : Int32 → Mem → Prop} {h_Q : Hot} {X X' : Mem → Prop} {h_X : Hot} {M : Mem} {M0 : Mem} (hD : Dok w D)  (lQ : ∀ t, h_Q t = true → h t = true) (hQ : ∀ z0 z1, Ow w D T h_Q M0 z1 → Q z0 z1 → Q' z0 z1) (lX : ∀ t, h_X t = true → h t = true) (hX : ∀ z0, Ow w D T h_X M0 z0 → X z0 → X' z0) : Ow w D T h M0 M → w_Reader_kindWord_j35 this Q X M → w_Reader_kindWord_j35 this Q' X' M := by
  intro hf
  unfold w_Reader_kindWord_j35
  exact (mf_ite (mo_w_Reader_kindWord_j69 hD  lQ hQ lX hX hf) (mf_ite (mo_w_Reader_kindWord_j69 hD  lQ hQ lX hX hf) (mo_w_Reader_kindWord_j69 hD  lQ hQ lX hX hf)))
set_option maxRecDepth 20000 in
theorem mo_w_Reader_kindWord {w : Nat} {D : Nat → Nat → Prop} {T : Nat → Prop} {h : Hot} {this : Nat} {Q Q' : Int32 → Mem → Prop} {X X' : Mem → Prop} {M : Mem} (hD : Dok w D)  (hQ : ∀ z0 z1, Ow w D T h M z1 → Q z0 z1 → Q' z0 z1) (hX : ∀ z0, Ow w D T h M z0 → X z0 → X' z0) : St w D T h M → w_Reader_kindWord this Q X M → w_Reader_kindWord this Q' X' M := by
  intro hs
  unfold w_Reader_kindWord
  exact (mo_w_Words_isWord hD  (fun r2 M1 f1 => (have g2 : Ow w D T _ M M1 := (Ow.trans (Ow.rf hs) f1); (mf_ite (mo_w_Words_isWord hD  (fun r5 M4 f3 => (have g4 : Ow w D T _ M M4 := (Ow.trans g2 f3); (mf_ite (mo_w_Words_isWord hD  (fun r8 M7 f5 => (have g6 : Ow w D T _ M M7 := (Ow.trans g4 f5); (mf_ite (mo_w_Reader_type hD  (fun r11 M10 f7 => (have g8 : Ow w D T _ M M10 := (Ow.trans g6 f7); (hQ _ _  g8))) (fun z10 f9 => hX z10 (Ow.trans g6 f9)) g6.1) (mo_w_Reader_kindWord_j35 hD  (fun _ e => e) hQ (fun _ e => e) hX g6)))) g4.1) (mo_w_Reader_kindWord_j35 hD  (fun _ e => e) hQ (fun _ e => e) hX g4)))) g2.1) (mo_w_Reader_kindWord_j35 hD  (fun _ e => e) hQ (fun _ e => e) hX g2)))) (Ow.rf hs).1)
set_option maxRecDepth 20000 in
theorem mo_w_Reader_kinds_j44 {w : Nat} {D : Nat → Nat → Prop} {T : Nat → Prop} {h : Hot} {this : Nat} {Q Q' : Int32 → Mem → Prop} {h_Q : Hot} {X X' : Mem → Prop} {h_X : Hot} {k2 k2' : Int32 → Int32 → Mem → Prop} {h_k2 : Hot} {v1 : Int32} {v2 : Int32} {M : Mem} {M0 : Mem} (hD : Dok w D) (n0 : h (3, this, 1) = true) (lQ : ∀ t, h_Q t = true → h t = true) (hQ : ∀ z0 z1, Ow w D T h_Q M0 z1 → Q z0 z1 → Q' z0 z1) (lX : ∀ t, h_X t = true → h t = true) (hX : ∀ z0, Ow w D T h_X M0 z0 → X z0 → X' z0) (lk2 : ∀ t, h_k2 t = true → h t = true) (hk2 : ∀ z0 z1 z2, Ow w D T h_k2 M0 z2 → k2 z0 z1 z2 → k2' z0 z1 z2) : Ow w D T h M0 M → w_Reader_kinds_j44 this Q X k2 v1 v2 M → w_Reader_kinds_j44 this Q' X' k2' v1 v2 M := by
  intro hf
  unfold w_Reader_kinds_j44
  exact (Exists.imp fun i6 => (mf_and fun e1 => (have o2 : ow w D 5 i6 := (Ow.rh e1 rfl n0 hf); (Exists.imp fun i7 => (mf_and fun e3 => (mo_w_Reader_kindWord hD  (fun r9 M8 f5 => (have g6 : Ow w D T _ M0 M8 := (Ow.trans hf f5); (mf_and fun _ => (Exists.imp fun i11 => (mf_and fun e7 => (have o8 : ow w D 5 i11 := (Ow.rh e7 rfl n0 (Ow.wI (ow.to o2 rfl rfl) g6)); (Exists.imp fun M12 => (mf_and fun e9 => (have g10 : Ow w D T _ M0 M12 := Ow.of e9 (Ow.wI o8 (Ow.wI (ow.to o2 rfl rfl) g6)); (hk2 _ _ _  (Ow.dn lk2 g10))))))))))) (fun z12 f11 => hX z12 (Ow.dn lX (Ow.trans hf f11))) hf.1))))))
set_option maxRecDepth 20000 in
theorem mo_w_Reader_kinds_j34 {w : Nat} {D : Nat → Nat → Prop} {T : Nat → Prop} {h : Hot} {this : Nat} {Q Q' : Int32 → Mem → Prop} {h_Q : Hot} {X X' : Mem → Prop} {h_X : Hot} {k2 k2' : Int32 → Int32 → Mem → Prop} {h_k2 : Hot} {v1 : Int32} {v2 : Int32} {M : Mem} {M0 : Mem} (hD : Dok w D) (n0 : h (3, this, 1) = true) (lQ : ∀ t, h_Q t = true → h t = true) (hQ : ∀ z0 z1, Ow w D T h_Q M0 z1 → Q z0 z1 → Q' z0 z1) (lX : ∀ t, h_X t = true → h t = true) (hX : ∀ z0, Ow w D T h_X M0 z0 → X z0 → X' z0) (lk2 : ∀ t, h_k2 t = true → h t = true) (hk2 : ∀ z0 z1 z2, Ow w D T h_k2 M0 z2 → k2 z0 z1 z2 → k2' z0 z1 z2) : Ow w D T h M0 M → w_Reader_kinds_j34 this Q X k2 v1 v2 M → w_Reader_kinds_j34 this Q' X' k2' v1 v2 M := by
  intro hf
  unfold w_Reader_kinds_j34
  exact (mf_ite (mo_w_Reader_kinds_j44 hD n0 lQ hQ lX hX lk2 hk2 hf) (mo_w_Reader_sign hD  (fun M13 f1 => (have g2 : Ow w D T _ M0 M13 := (Ow.trans hf f1); (mo_w_Reader_kinds_j44 hD n0 lQ hQ lX hX lk2 hk2 g2))) (fun z4 f3 => hX z4 (Ow.dn lX (Ow.trans hf f3))) hf.1))
set_option maxRecDepth 20000 in
theorem mo_w_Reader_kinds_L2 {w : Nat} {D : Nat → Nat → Prop} {T : Nat → Prop} {h : Hot} {this : Nat} {Q Q' : Int32 → Mem → Prop} {h_Q : Hot} {X X' : Mem → Prop} {h_X : Hot} {M0 : Mem} (hD : Dok w D) (n0 : h (3, this, 1) = true) (lQ : ∀ t, h_Q t = true → h t = true) (hQ : ∀ z0 z1, Ow w D T h_Q M0 z1 → Q z0 z1 → Q' z0 z1) (lX : ∀ t, h_X t = true → h t = true) (hX : ∀ z0, Ow w D T h_X M0 z0 → X z0 → X' z0) : ∀ (n : Nat) (v1 : Int32) (v2 : Int32) (M : Mem), Ow w D T h M0 M → w_Reader_kinds_L2 this Q X n v1 v2 M → w_Reader_kinds_L2 this Q' X' n v1 v2 M
  | 0, _, _, _ => fun  _ h => h
  | n + 1, v1, v2, M => fun  hf => by
    unfold w_Reader_kinds_L2
    exact (mf_ite (mo_w_Words_isSign hD  (fun r3 M2 f1 => (have g2 : Ow w D T _ M0 M2 := (Ow.trans hf f1); (mf_ite (mo_w_Reader_kinds_j34 hD n0 lQ hQ lX hX (fun _ e => e) (fun y0 y1 y2  hf => mo_w_Reader_kinds_L2 hD n0 lQ hQ lX hX n y0 y1 y2  hf) g2) (hQ _ _  (Ow.dn lQ g2))))) hf.1) (mf_and fun _ => (mf_ite (hQ _ _  (Ow.dn lQ hf)) (mo_w_Reader_kinds_j34 hD n0 lQ hQ lX hX (fun _ e => e) (fun y0 y1 y2  hf => mo_w_Reader_kinds_L2 hD n0 lQ hQ lX hX n y0 y1 y2  hf) hf))))
set_option maxRecDepth 20000 in
theorem mo_w_Reader_kinds {w : Nat} {D : Nat → Nat → Prop} {T : Nat → Prop} {h : Hot} {this : Nat} {a1 : Int32} {Q Q' : Int32 → Mem → Prop} {X X' : Mem → Prop} {M : Mem} (hD : Dok w D) (n0 : h (3, this, 1) = true) (hQ : ∀ z0 z1, Ow w D T h M z1 → Q z0 z1 → Q' z0 z1) (hX : ∀ z0, Ow w D T h M z0 → X z0 → X' z0) : St w D T h M → w_Reader_kinds this a1 Q X M → w_Reader_kinds this a1 Q' X' M := by
  intro hs
  unfold w_Reader_kinds
  exact (Exists.imp fun n16 => (mo_w_Reader_kinds_L2 hD n0 (fun _ e => e) hQ (fun _ e => e) hX _ _ _ _  (Ow.rf hs)))
set_option maxRecDepth 20000 in
theorem mo_w_Reader_frame {w : Nat} {D : Nat → Nat → Prop} {T : Nat → Prop} {h : Hot} {this : Nat} {Q Q' : Mem → Prop} {X X' : Mem → Prop} {M : Mem} (hD : Dok w D) (n0 : h (3, this, 1) = true) (hQ : ∀ z0, Ow w D T h M z0 → Q z0 → Q' z0) (hX : ∀ z0, Ow w D T h M z0 → X z0 → X' z0) : St w D T h M → w_Reader_frame this Q X M → w_Reader_frame this Q' X' M := by
  intro hs
  unfold w_Reader_frame
  exact (mf_ite (mo_w_Words_next hD  (fun M2 f1 => (have g2 : Ow w D T _ M M2 := (Ow.trans (Ow.rf hs) f1); (Exists.imp fun i3 => (mf_and fun e3 => (have g5 : Ow w D T _ M (sI M2 3 this 19 (mI M2 5 i3 47)) := (Ow.wI (ow0 rfl) g2); (mo_w_Reader_kinds hD n0 (fun r5 M4 f6 => (have g7 : Ow w D T _ M M4 := (Ow.trans g5 f6); (have g8 : Ow w D T _ M (sI M4 3 this 20 r5) := (Ow.wI (ow0 rfl) g7); (mo_w_Words_next hD  (fun M6 f9 => (have g10 : Ow w D T _ M M6 := (Ow.trans g8 f9); (mo_w_Reader_kinds hD n0 (fun r8 M7 f11 => (have g12 : Ow w D T _ M M7 := (Ow.trans g10 f11); (mf_and fun _ => (Exists.imp fun M10 => (mf_and fun e13 => (have g14 : Ow w D T _ M M10 := Ow.of e13 (Ow.wI (ow0 rfl) (Ow.wI (ow0 rfl) (Ow.wI (ow0 rfl) g12))); (hQ _  g14))))))) (fun z16 f15 => hX z16 (Ow.trans g10 f15)) g10.1))) g8.1)))) (fun z18 f17 => hX z18 (Ow.trans g5 f17)) g5.1)))))) (Ow.rf hs).1) (mo_w_Reader_wrong hD  (fun i12 M11 f19 => (have g20 : Ow w D T _ M M11 := (Ow.trans (Ow.rf hs) f19); (mf_and fun _ => (hX _  g20)))) (Ow.rf hs).1))
set_option maxRecDepth 20000 in
theorem mo_w_Reader_used {w : Nat} {D : Nat → Nat → Prop} {T : Nat → Prop} {h : Hot} {this : Nat} {a1 : Int32} {a2 : Int32} {Q Q' : Mem → Prop} {X X' : Mem → Prop} {M : Mem} (hD : Dok w D)  (hQ : ∀ z0, Ow w D T h M z0 → Q z0 → Q' z0) (hX : ∀ z0, Ow w D T h M z0 → X z0 → X' z0) : St w D T h M → w_Reader_used this a1 a2 Q X M → w_Reader_used this a1 a2 Q' X' M := by
  intro hs
  unfold w_Reader_used
  exact (mo_w_Reader_anyName hD  (fun r2 M1 f1 => (have g2 : Ow w D T _ M M1 := (Ow.trans (Ow.rf hs) f1); (mf_and fun _ => (mf_and fun _ => (Exists.imp fun M5 => (mf_and fun e3 => (have g4 : Ow w D T _ M M5 := Ow.of e3 (Ow.wI (ow0 rfl) (Ow.wI (ow0 rfl) g2)); (mf_and fun _ => (mf_and fun _ => (Exists.imp fun M8 => (mf_and fun e5 => (have g6 : Ow w D T _ M M8 := Ow.of e5 (Ow.wI (ow0 rfl) (Ow.wI (ow0 rfl) g4)); (hQ _  (Ow.wI (ow0 rfl) g6)))))))))))))) (fun z8 f7 => hX z8 (Ow.trans (Ow.rf hs) f7)) (Ow.rf hs).1)
set_option maxRecDepth 20000 in
theorem mo_w_Reader_handler_L135 {w : Nat} {D : Nat → Nat → Prop} {T : Nat → Prop} {h : Hot} {this : Nat} {Q Q' : Mem → Prop} {h_Q : Hot} {X X' : Mem → Prop} {h_X : Hot} {M0 : Mem} (hD : Dok w D) (n0 : h (3, this, 1) = true) (lQ : ∀ t, h_Q t = true → h t = true) (hQ : ∀ z0, Ow w D T h_Q M0 z0 → Q z0 → Q' z0) (lX : ∀ t, h_X t = true → h t = true) (hX : ∀ z0, Ow w D T h_X M0 z0 → X z0 → X' z0) : ∀ (n : Nat) (v1 : Int32) (v2 : Int32) (v3 : Int32) (v4 : Int32) (M : Mem), Ow w D T h M0 M → w_Reader_handler_L135 this Q X n v1 v2 v3 v4 M → w_Reader_handler_L135 this Q' X' n v1 v2 v3 v4 M
  | 0, _, _, _, _, _ => fun  _ h => h
  | n + 1, v1, v2, v3, v4, M => fun  hf => by
    unfold w_Reader_handler_L135
    exact (mf_ite (Exists.imp fun i23 => (mf_and fun e1 => (have o2 : ow w D 5 i23 := (Ow.rh e1 rfl n0 hf); (mf_and fun _ => (hQ _  (Ow.dn lQ (Ow.wI (ow.to o2 rfl rfl) hf))))))) (mf_and fun _ => (have g3 : Ow w D T _ M0 (sI M 28 this (v1 + v4).toNatClampNeg (((4 : Int32) * v3) + v4)) := (Ow.wI (ow0 rfl) hf); (mo_w_Reader_handler_L135 hD n0 lQ hQ lX hX _ _ _ _ _ _  g3))))
set_option maxRecDepth 20000 in
theorem mo_w_Reader_handler_j60 {w : Nat} {D : Nat → Nat → Prop} {T : Nat → Prop} {h : Hot} {this : Nat} {Q Q' : Mem → Prop} {h_Q : Hot} {X X' : Mem → Prop} {h_X : Hot} {v1 : Int32} {v2 : Int32} {M : Mem} {M0 : Mem} (hD : Dok w D) (n0 : h (3, this, 1) = true) (lQ : ∀ t, h_Q t = true → h t = true) (hQ : ∀ z0, Ow w D T h_Q M0 z0 → Q z0 → Q' z0) (lX : ∀ t, h_X t = true → h t = true) (hX : ∀ z0, Ow w D T h_X M0 z0 → X z0 → X' z0) : Ow w D T h M0 M → w_Reader_handler_j60 this Q X v1 v2 M → w_Reader_handler_j60 this Q' X' v1 v2 M := by
  intro hf
  unfold w_Reader_handler_j60
  exact (mo_w_Reader_end hD  (fun M10 f1 => (have g2 : Ow w D T _ M0 M10 := (Ow.trans hf f1); (Exists.imp fun i11 => (mf_and fun e3 => (mf_and fun _ => (mf_ite (mo_w_Works_refuse hD  (fun i15 M14 f5 => (have g6 : Ow w D T _ M0 M14 := (Ow.trans g2 f5); (mf_and fun _ => (hX _  (Ow.dn lX g6))))) g2.1) (Exists.imp fun i16 => (mf_and fun e7 => (Exists.imp fun i17 => (mf_and fun e9 => (have o10 : ow w D 5 i17 := (Ow.rh e9 rfl n0 g2); (Exists.imp fun i18 => (mf_and fun e11 => (have o12 : ow w D 5 i18 := (Ow.rh e11 rfl n0 (Ow.wI o10 g2)); (mf_and fun _ => (mf_and fun _ => (Exists.imp fun M21 => (mf_and fun e13 => (have g14 : Ow w D T _ M0 M21 := Ow.of e13 (Ow.wI (ow.to o12 rfl rfl) (Ow.wI o10 g2)); (Exists.imp fun n26 => (mo_w_Reader_handler_L135 hD n0 lQ hQ lX hX _ _ _ _ _ _  g14))))))))))))))))))))) (fun z16 f15 => hX z16 (Ow.dn lX (Ow.trans hf f15))) hf.1)
set_option maxRecDepth 20000 in
theorem mo_w_Reader_handler {w : Nat} {D : Nat → Nat → Prop} {T : Nat → Prop} {h : Hot} {this : Nat} {Q Q' : Mem → Prop} {X X' : Mem → Prop} {M : Mem} (hD : Dok w D) (n0 : h (3, this, 1) = true) (hQ : ∀ z0, Ow w D T h M z0 → Q z0 → Q' z0) (hX : ∀ z0, Ow w D T h M z0 → X z0 → X' z0) : St w D T h M → w_Reader_handler this Q X M → w_Reader_handler this Q' X' M := by
  intro hs
  unfold w_Reader_handler
  exact (mo_w_Words_next hD  (fun M1 f1 => (have g2 : Ow w D T _ M M1 := (Ow.trans (Ow.rf hs) f1); (mo_w_Reader_used hD  (fun M2 f3 => (have g4 : Ow w D T _ M M2 := (Ow.trans g2 f3); (mo_w_Reader_used hD  (fun M3 f5 => (have g6 : Ow w D T _ M M3 := (Ow.trans g4 f5); (mo_w_Reader_used hD  (fun M4 f7 => (have g8 : Ow w D T _ M M4 := (Ow.trans g6 f7); (mo_w_Words_isWord hD  (fun r6 M5 f9 => (have g10 : Ow w D T _ M M5 := (Ow.trans g8 f9); (mf_ite (mo_w_Reader_className hD  (fun r9 M8 f11 => (have g12 : Ow w D T _ M M8 := (Ow.trans g10 f11); (mo_w_Reader_handler_j60 hD n0 (fun _ e => e) hQ (fun _ e => e) hX g12))) (fun z14 f13 => hX z14 (Ow.trans g10 f13)) g10.1) (mo_w_Words_next hD  (fun M27 f15 => (have g16 : Ow w D T _ M M27 := (Ow.trans g10 f15); (mo_w_Reader_handler_j60 hD n0 (fun _ e => e) hQ (fun _ e => e) hX g16))) g10.1)))) g8.1))) (fun z18 f17 => hX z18 (Ow.trans g6 f17)) g6.1))) (fun z20 f19 => hX z20 (Ow.trans g4 f19)) g4.1))) (fun z22 f21 => hX z22 (Ow.trans g2 f21)) g2.1))) (Ow.rf hs).1)
set_option maxRecDepth 20000 in
theorem mo_w_Reader_nextCode {w : Nat} {D : Nat → Nat → Prop} {T : Nat → Prop} {h : Hot} {this : Nat} {Q Q' : Int32 → Mem → Prop} {M : Mem} (hD : Dok w D)  (hQ : ∀ z0 z1, Ow w D T h M z1 → Q z0 z1 → Q' z0 z1) : St w D T h M → w_Reader_nextCode this Q M → w_Reader_nextCode this Q' M := by
  intro hs
  unfold w_Reader_nextCode
  exact (Exists.imp fun i1 => (mf_and fun e1 => (mf_and fun _ => (Exists.imp fun i3 => (mf_and fun e3 => (mf_and fun _ => (hQ _ _  (Ow.rf hs))))))))
set_option maxRecDepth 20000 in
theorem mo_w_Reader_addReference_L86 {w : Nat} {D : Nat → Nat → Prop} {T : Nat → Prop} {h : Hot} {this : Nat} {Q Q' : Int32 → Mem → Prop} {h_Q : Hot} {M0 : Mem} (hD : Dok w D) (n0 : h (3, this, 1) = true) (lQ : ∀ t, h_Q t = true → h t = true) (hQ : ∀ z0 z1, Ow w D T h_Q M0 z1 → Q z0 z1 → Q' z0 z1) : ∀ (n : Nat) (v4 : Int32) (v5 : Int32) (M : Mem), Ow w D T h M0 M → w_Reader_addReference_L86 this Q n v4 v5 M → w_Reader_addReference_L86 this Q' n v4 v5 M
  | 0, _, _, _ => fun  _ h => h
  | n + 1, v4, v5, M => fun  hf => by
    unfold w_Reader_addReference_L86
    exact (mf_ite (hQ _ _  (Ow.dn lQ hf)) (mf_ite (hQ _ _  (Ow.dn lQ hf)) (Exists.imp fun i17 => (mf_and fun e1 => (have o2 : ow w D 5 i17 := (Ow.rh e1 rfl n0 hf); (mf_and fun _ => (mf_and fun _ => (Exists.imp fun M20 => (mf_and fun e3 => (have g4 : Ow w D T _ M0 M20 := Ow.of e3 (Ow.wI (hD.2.2.1 o2) hf); (mo_w_Reader_addReference_L86 hD n0 lQ hQ _ _ _ _  g4)))))))))))
set_option maxRecDepth 20000 in
theorem mo_w_Reader_addReference {w : Nat} {D : Nat → Nat → Prop} {T : Nat → Prop} {h : Hot} {this : Nat} {a1 : Int32} {a2 : Int32} {a3 : Int32} {Q Q' : Int32 → Mem → Prop} {M : Mem} (hD : Dok w D) (n0 : h (3, this, 1) = true) (hQ : ∀ z0 z1, Ow w D T h M z1 → Q z0 z1 → Q' z0 z1) : St w D T h M → w_Reader_addReference this a1 a2 a3 Q M → w_Reader_addReference this a1 a2 a3 Q' M := by
  intro hs
  unfold w_Reader_addReference
  exact (Exists.imp fun i1 => (mf_and fun e1 => (Exists.imp fun i2 => (mf_and fun e3 => (have o4 : ow w D 5 i2 := (Ow.rh e3 rfl n0 (Ow.rf hs)); (Exists.imp fun i3 => (mf_and fun e5 => (have o6 : ow w D 5 i3 := (Ow.rh e5 rfl n0 (Ow.wI o4 (Ow.rf hs))); (mf_and fun _ => (Exists.imp fun M5 => (mf_and fun e7 => (have g8 : Ow w D T _ M M5 := Ow.of e7 (Ow.wI (ow.to o6 rfl rfl) (Ow.wI o4 (Ow.rf hs))); (Exists.imp fun i6 => (mf_and fun e9 => (have o10 : ow w D 5 i6 := (Ow.rh e9 rfl n0 g8); (mf_and fun _ => (Exists.imp fun M8 => (mf_and fun e11 => (have g12 : Ow w D T _ M M8 := Ow.of e11 (Ow.wI (ow.to o10 rfl rfl) g8); (Exists.imp fun i9 => (mf_and fun e13 => (have o14 : ow w D 5 i9 := (Ow.rh e13 rfl n0 g12); (mf_and fun _ => (Exists.imp fun M11 => (mf_and fun e15 => (have g16 : Ow w D T _ M M11 := Ow.of e15 (Ow.wI (ow.to o14 rfl rfl) g12); (Exists.imp fun i12 => (mf_and fun e17 => (have o18 : ow w D 5 i12 := (Ow.rh e17 rfl n0 g16); (mf_and fun _ => (Exists.imp fun M14 => (mf_and fun e19 => (have g20 : Ow w D T _ M M14 := Ow.of e19 (Ow.wI (ow.to o18 rfl rfl) g16); (Exists.imp fun n21 => (mo_w_Reader_addReference_L86 hD n0 (fun _ e => e) hQ _ _ _ _  g20)))))))))))))))))))))))))))))))))))
set_option maxRecDepth 20000 in
theorem mo_w_Reader_member_j52 {w : Nat} {D : Nat → Nat → Prop} {T : Nat → Prop} {h : Hot} {this : Nat} {Q Q' : Mem → Prop} {h_Q : Hot} {X X' : Mem → Prop} {h_X : Hot} {M : Mem} {M0 : Mem} (hD : Dok w D)  (lQ : ∀ t, h_Q t = true → h t = true) (hQ : ∀ z0, Ow w D T h_Q M0 z0 → Q z0 → Q' z0) (lX : ∀ t, h_X t = true → h t = true) (hX : ∀ z0, Ow w D T h_X M0 z0 → X z0 → X' z0) : Ow w D T h M0 M → w_Reader_member_j52 this Q X M → w_Reader_member_j52 this Q' X' M := by
  intro hf
  unfold w_Reader_member_j52
  exact (mo_w_Reader_wrong hD  (fun i8 M7 f1 => (have g2 : Ow w D T _ M0 M7 := (Ow.trans hf f1); (mf_and fun _ => (hX _  (Ow.dn lX g2))))) hf.1)
set_option maxRecDepth 20000 in
theorem mo_w_Reader_member_j101 {w : Nat} {D : Nat → Nat → Prop} {T : Nat → Prop} {h : Hot} {this : Nat} {Q Q' : Mem → Prop} {h_Q : Hot} {X X' : Mem → Prop} {h_X : Hot} {v1 : Int32} {v3 : Int32} {v4 : Int32} {s0 : Int32} {M : Mem} {M0 : Mem} (hD : Dok w D) (n0 : h (3, this, 1) = true) (lQ : ∀ t, h_Q t = true → h t = true) (hQ : ∀ z0, Ow w D T h_Q M0 z0 → Q z0 → Q' z0) (lX : ∀ t, h_X t = true → h t = true) (hX : ∀ z0, Ow w D T h_X M0 z0 → X z0 → X' z0) : Ow w D T h M0 M → w_Reader_member_j101 this Q X v1 v3 v4 s0 M → w_Reader_member_j101 this Q' X' v1 v3 v4 s0 M := by
  intro hf
  unfold w_Reader_member_j101
  exact (Exists.imp fun i16 => (mf_and fun e1 => (have o2 : ow w D 5 i16 := (Ow.rh e1 rfl n0 hf); (mo_w_Reader_addReference hD n0 (fun r18 M17 f3 => (have g4 : Ow w D T _ M0 M17 := (Ow.trans hf f3); (mf_and fun _ => (hQ _  (Ow.dn lQ (Ow.wI (ow.to o2 rfl rfl) g4)))))) hf.1))))
set_option maxRecDepth 20000 in
theorem mo_w_Reader_member_j86 {w : Nat} {D : Nat → Nat → Prop} {T : Nat → Prop} {h : Hot} {this : Nat} {Q Q' : Mem → Prop} {h_Q : Hot} {X X' : Mem → Prop} {h_X : Hot} {v1 : Int32} {v2 : Int32} {v3 : Int32} {v4 : Int32} {M : Mem} {M0 : Mem} (hD : Dok w D) (n0 : h (3, this, 1) = true) (lQ : ∀ t, h_Q t = true → h t = true) (hQ : ∀ z0, Ow w D T h_Q M0 z0 → Q z0 → Q' z0) (lX : ∀ t, h_X t = true → h t = true) (hX : ∀ z0, Ow w D T h_X M0 z0 → X z0 → X' z0) : Ow w D T h M0 M → w_Reader_member_j86 this Q X v1 v2 v3 v4 M → w_Reader_member_j86 this Q' X' v1 v2 v3 v4 M := by
  intro hf
  unfold w_Reader_member_j86
  exact (mf_ite (mo_w_Reader_type hD  (fun r15 M14 f1 => (have g2 : Ow w D T _ M0 M14 := (Ow.trans hf f1); (mo_w_Reader_member_j101 hD n0 lQ hQ lX hX g2))) (fun z4 f3 => hX z4 (Ow.dn lX (Ow.trans hf f3))) hf.1) (mo_w_Reader_result hD  (fun r21 M20 f5 => (have g6 : Ow w D T _ M0 M20 := (Ow.trans hf f5); (mo_w_Reader_member_j101 hD n0 lQ hQ lX hX g6))) (fun z8 f7 => hX z8 (Ow.dn lX (Ow.trans hf f7))) hf.1))
set_option maxRecDepth 20000 in
theorem mo_w_Reader_member_j57 {w : Nat} {D : Nat → Nat → Prop} {T : Nat → Prop} {h : Hot} {this : Nat} {Q Q' : Mem → Prop} {h_Q : Hot} {X X' : Mem → Prop} {h_X : Hot} {v1 : Int32} {v2 : Int32} {v3 : Int32} {M : Mem} {M0 : Mem} (hD : Dok w D) (n0 : h (3, this, 1) = true) (lQ : ∀ t, h_Q t = true → h t = true) (hQ : ∀ z0, Ow w D T h_Q M0 z0 → Q z0 → Q' z0) (lX : ∀ t, h_X t = true → h t = true) (hX : ∀ z0, Ow w D T h_X M0 z0 → X z0 → X' z0) : Ow w D T h M0 M → w_Reader_member_j57 this Q X v1 v2 v3 M → w_Reader_member_j57 this Q' X' v1 v2 v3 M := by
  intro hf
  unfold w_Reader_member_j57
  exact (mo_w_Words_next hD  (fun M11 f1 => (have g2 : Ow w D T _ M0 M11 := (Ow.trans hf f1); (mf_ite (have g3 : Ow w D T _ M0 (sI M11 3 this 18 (0 : Int32)) := (Ow.wI (ow0 rfl) g2); (mo_w_Reader_member_j86 hD n0 lQ hQ lX hX g3)) (have g4 : Ow w D T _ M0 (sI M11 3 this 18 (0 : Int32)) := (Ow.wI (ow0 rfl) g2); (mo_w_Reader_types hD  (fun M22 f5 => (have g6 : Ow w D T _ M0 M22 := (Ow.trans g4 f5); (mo_w_Reader_member_j86 hD n0 lQ hQ lX hX g6))) (fun z8 f7 => hX z8 (Ow.dn lX (Ow.trans g4 f7))) g4.1))))) hf.1)
set_option maxRecDepth 20000 in
theorem mo_w_Reader_member {w : Nat} {D : Nat → Nat → Prop} {T : Nat → Prop} {h : Hot} {this : Nat} {a1 : Int32} {a2 : Int32} {Q Q' : Mem → Prop} {X X' : Mem → Prop} {M : Mem} (hD : Dok w D) (n0 : h (3, this, 1) = true) (hQ : ∀ z0, Ow w D T h M z0 → Q z0 → Q' z0) (hX : ∀ z0, Ow w D T h M z0 → X z0 → X' z0) : St w D T h M → w_Reader_member this a1 a2 Q X M → w_Reader_member this a1 a2 Q' X' M := by
  intro hs
  unfold w_Reader_member
  exact (mo_w_Reader_className hD  (fun r2 M1 f1 => (have g2 : Ow w D T _ M M1 := (Ow.trans (Ow.rf hs) f1); (mo_w_Reader_sign hD  (fun M3 f3 => (have g4 : Ow w D T _ M M3 := (Ow.trans g2 f3); (mf_and fun _ => (mf_ite (mf_ite (mo_w_Reader_member_j52 hD  (fun _ e => e) hQ (fun _ e => e) hX g4) (mf_ite (mf_ite (mo_w_Reader_member_j52 hD  (fun _ e => e) hQ (fun _ e => e) hX g4) (mo_w_Reader_member_j57 hD n0 (fun _ e => e) hQ (fun _ e => e) hX g4)) (mo_w_Reader_member_j57 hD n0 (fun _ e => e) hQ (fun _ e => e) hX g4))) (mo_w_Reader_member_j52 hD  (fun _ e => e) hQ (fun _ e => e) hX g4))))) (fun z6 f5 => hX z6 (Ow.trans g2 f5)) g2.1))) (fun z8 f7 => hX z8 (Ow.trans (Ow.rf hs) f7)) (Ow.rf hs).1)
set_option maxRecDepth 20000 in
theorem mo_w_Reader_operands_j209 {w : Nat} {D : Nat → Nat → Prop} {T : Nat → Prop} {h : Hot} {this : Nat} {Q Q' : Mem → Prop} {h_Q : Hot} {X X' : Mem → Prop} {h_X : Hot} {k166 k166' : Int32 → Mem → Prop} {h_k166 : Hot} {v2 : Int32} {M : Mem} {M0 : Mem} (hD : Dok w D) (n0 : h (3, this, 1) = true) (lQ : ∀ t, h_Q t = true → h t = true) (hQ : ∀ z0, Ow w D T h_Q M0 z0 → Q z0 → Q' z0) (lX : ∀ t, h_X t = true → h t = true) (hX : ∀ z0, Ow w D T h_X M0 z0 → X z0 → X' z0) (lk166 : ∀ t, h_k166 t = true → h t = true) (hk166 : ∀ z0 z1, Ow w D T h_k166 M0 z1 → k166 z0 z1 → k166' z0 z1) : Ow w D T h M0 M → w_Reader_operands_j209 this Q X k166 v2 M → w_Reader_operands_j209 this Q' X' k166' v2 M := by
  intro hf
  unfold w_Reader_operands_j209
  exact (Exists.imp fun i34 => (mf_and fun e1 => (mo_w_Reader_used hD  (fun M35 f3 => (have g4 : Ow w D T _ M0 M35 := (Ow.trans hf f3); (Exists.imp fun i36 => (mf_and fun e5 => (have o6 : ow w D 5 i36 := (Ow.rh e5 rfl n0 g4); (Exists.imp fun i37 => (mf_and fun e7 => (have o8 : ow w D 5 i37 := (Ow.rh e7 rfl n0 (Ow.wI o6 g4)); (mf_and fun _ => (mf_and fun _ => (Exists.imp fun M40 => (mf_and fun e9 => (have g10 : Ow w D T _ M0 M40 := Ow.of e9 (Ow.wI (ow.to o8 rfl rfl) (Ow.wI o6 g4)); (hk166 _ _  (Ow.dn lk166 g10))))))))))))))) (fun z12 f11 => hX z12 (Ow.dn lX (Ow.trans hf f11))) hf.1)))
set_option maxRecDepth 20000 in
theorem mo_w_Reader_operands_j191 {w : Nat} {D : Nat → Nat → Prop} {T : Nat → Prop} {h : Hot} {this : Nat} {Q Q' : Mem → Prop} {h_Q : Hot} {X X' : Mem → Prop} {h_X : Hot} {k166 k166' : Int32 → Mem → Prop} {h_k166 : Hot} {v2 : Int32} {M : Mem} {M0 : Mem} (hD : Dok w D) (n0 : h (3, this, 1) = true) (lQ : ∀ t, h_Q t = true → h t = true) (hQ : ∀ z0, Ow w D T h_Q M0 z0 → Q z0 → Q' z0) (lX : ∀ t, h_X t = true → h t = true) (hX : ∀ z0, Ow w D T h_X M0 z0 → X z0 → X' z0) (lk166 : ∀ t, h_k166 t = true → h t = true) (hk166 : ∀ z0 z1, Ow w D T h_k166 M0 z1 → k166 z0 z1 → k166' z0 z1) : Ow w D T h M0 M → w_Reader_operands_j191 this Q X k166 v2 M → w_Reader_operands_j191 this Q' X' k166' v2 M := by
  intro hf
  unfold w_Reader_operands_j191
  exact (Exists.imp fun i31 => (mf_and fun e1 => (mf_and fun _ => (mf_ite (mo_w_Reader_operands_j209 hD n0 lQ hQ lX hX lk166 hk166 hf) (mo_w_Reader_sign hD  (fun M41 f3 => (have g4 : Ow w D T _ M0 M41 := (Ow.trans hf f3); (mo_w_Reader_operands_j209 hD n0 lQ hQ lX hX lk166 hk166 g4))) (fun z6 f5 => hX z6 (Ow.dn lX (Ow.trans hf f5))) hf.1)))))
set_option maxRecDepth 20000 in
theorem mo_w_Reader_operands_L166 {w : Nat} {D : Nat → Nat → Prop} {T : Nat → Prop} {h : Hot} {this : Nat} {Q Q' : Mem → Prop} {h_Q : Hot} {X X' : Mem → Prop} {h_X : Hot} {M0 : Mem} (hD : Dok w D) (n0 : h (3, this, 1) = true) (lQ : ∀ t, h_Q t = true → h t = true) (hQ : ∀ z0, Ow w D T h_Q M0 z0 → Q z0 → Q' z0) (lX : ∀ t, h_X t = true → h t = true) (hX : ∀ z0, Ow w D T h_X M0 z0 → X z0 → X' z0) : ∀ (n : Nat) (v2 : Int32) (M : Mem), Ow w D T h M0 M → w_Reader_operands_L166 this Q X n v2 M → w_Reader_operands_L166 this Q' X' n v2 M
  | 0, _, _ => fun  _ h => h
  | n + 1, v2, M => fun  hf => by
    unfold w_Reader_operands_L166
    exact (Exists.imp fun i28 => (mf_and fun e1 => (mf_and fun _ => (mf_ite (mo_w_Reader_operands_j191 hD n0 lQ hQ lX hX (fun _ e => e) (fun y0 y1  hf => mo_w_Reader_operands_L166 hD n0 lQ hQ lX hX n y0 y1  hf) hf) (mf_and fun _ => (mf_ite (hQ _  (Ow.dn lQ hf)) (mo_w_Reader_operands_j191 hD n0 lQ hQ lX hX (fun _ e => e) (fun y0 y1  hf => mo_w_Reader_operands_L166 hD n0 lQ hQ lX hX n y0 y1  hf) hf)))))))
set_option maxRecDepth 20000 in
theorem mo_w_Reader_operands_j268 {w : Nat} {D : Nat → Nat → Prop} {T : Nat → Prop} {h : Hot} {this : Nat} {Q Q' : Mem → Prop} {h_Q : Hot} {X X' : Mem → Prop} {h_X : Hot} {v2 : Int32} {M : Mem} {M0 : Mem} (hD : Dok w D) (n0 : h (3, this, 1) = true) (lQ : ∀ t, h_Q t = true → h t = true) (hQ : ∀ z0, Ow w D T h_Q M0 z0 → Q z0 → Q' z0) (lX : ∀ t, h_X t = true → h t = true) (hX : ∀ z0, Ow w D T h_X M0 z0 → X z0 → X' z0) : Ow w D T h M0 M → w_Reader_operands_j268 this Q X v2 M → w_Reader_operands_j268 this Q' X' v2 M := by
  intro hf
  unfold w_Reader_operands_j268
  exact (Exists.imp fun i46 => (mf_and fun e1 => (have o2 : ow w D 5 i46 := (Ow.rh e1 rfl n0 hf); (mo_w_Reader_className hD  (fun r48 M47 f3 => (have g4 : Ow w D T _ M0 M47 := (Ow.trans hf f3); (mf_and fun _ => (hQ _  (Ow.dn lQ (Ow.wI (ow.to o2 rfl rfl) g4)))))) (fun z6 f5 => hX z6 (Ow.dn lX (Ow.trans hf f5))) hf.1))))
set_option maxRecDepth 20000 in
theorem mo_w_Reader_operands {w : Nat} {D : Nat → Nat → Prop} {T : Nat → Prop} {h : Hot} {this : Nat} {a1 : Int32} {a2 : Int32} {a3 : Int32} {Q Q' : Mem → Prop} {X X' : Mem → Prop} {M : Mem} (hD : Dok w D) (n0 : h (3, this, 1) = true) (hQ : ∀ z0, Ow w D T h M z0 → Q z0 → Q' z0) (hX : ∀ z0, Ow w D T h M z0 → X z0 → X' z0) : St w D T h M → w_Reader_operands this a1 a2 a3 Q X M → w_Reader_operands this a1 a2 a3 Q' X' M := by
  intro hs
  unfold w_Reader_operands
  exact (Exists.imp fun i1 => (mf_and fun e1 => (have o2 : ow w D 5 i1 := (Ow.rh e1 rfl n0 (Ow.rf hs)); (mf_and fun _ => (Exists.imp fun i3 => (mf_and fun e3 => (have o4 : ow w D 5 i3 := (Ow.rh e3 rfl n0 (Ow.wI (ow.to o2 rfl rfl) (Ow.rf hs))); (mf_and fun _ => (Exists.imp fun M5 => (mf_and fun e5 => (have g6 : Ow w D T _ M M5 := Ow.of e5 (Ow.wI (ow.to o4 rfl rfl) (Ow.wI (ow.to o2 rfl rfl) (Ow.rf hs))); (Exists.imp fun i6 => (mf_and fun e7 => (have o8 : ow w D 5 i6 := (Ow.rh e7 rfl n0 g6); (mf_and fun _ => (mf_ite (Exists.imp fun i9 => (mf_and fun e9 => (have o10 : ow w D 5 i9 := (Ow.rh e9 rfl n0 (Ow.wI (ow.to o8 rfl rfl) g6)); (have g11 : Ow w D T _ M (sI M5 69 i6 a2.toNatClampNeg (0 : Int32)) := (Ow.wI (ow.to o8 rfl rfl) g6); (mo_w_Reader_number hD  (fun r11 M10 f12 => (have g13 : Ow w D T _ M M10 := (Ow.trans g11 f12); (mf_and fun _ => (hQ _  (Ow.wI (ow.to o10 rfl rfl) g13))))) (fun z15 f14 => hX z15 (Ow.trans g11 f14)) g11.1))))) (have g16 : Ow w D T _ M (sI M5 69 i6 a2.toNatClampNeg (0 : Int32)) := (Ow.wI (ow.to o8 rfl rfl) g6); (mo_w_Works_isIn hD  (fun r14 M13 f17 => (have g18 : Ow w D T _ M M13 := (Ow.trans g16 f17); (mf_ite (mo_w_Works_isIn hD  (fun r17 M16 f19 => (have g20 : Ow w D T _ M M16 := (Ow.trans g18 f19); (mf_ite (mf_ite (Exists.imp fun i20 => (mf_and fun e21 => (have o22 : ow w D 5 i20 := (Ow.rh e21 rfl n0 g20); (mo_w_Reader_number hD  (fun r22 M21 f23 => (have g24 : Ow w D T _ M M21 := (Ow.trans g20 f23); (mf_and fun _ => (Exists.imp fun i24 => (mf_and fun e25 => (have o26 : ow w D 5 i24 := (Ow.rh e25 rfl n0 (Ow.wI (ow.to o22 rfl rfl) g24)); (Exists.imp fun i25 => (mf_and fun e27 => (mf_and fun _ => (Exists.imp fun M27 => (mf_and fun e29 => (have g30 : Ow w D T _ M M27 := Ow.of e29 (Ow.wI (ow.to o26 rfl rfl) (Ow.wI (ow.to o22 rfl rfl) g24)); (Exists.imp fun n44 => (mo_w_Reader_operands_L166 hD n0 (fun _ e => e) hQ (fun _ e => e) hX _ _ _  g30)))))))))))))) (fun z32 f31 => hX z32 (Ow.trans g20 f31)) g20.1)))) (mf_ite (mo_w_Reader_operands_j268 hD n0 (fun _ e => e) hQ (fun _ e => e) hX g20) (mf_ite (mo_w_Reader_operands_j268 hD n0 (fun _ e => e) hQ (fun _ e => e) hX g20) (mf_ite (mo_w_Reader_operands_j268 hD n0 (fun _ e => e) hQ (fun _ e => e) hX g20) (mo_w_Works_isIn hD  (fun r53 M52 f33 => (have g34 : Ow w D T _ M M52 := (Ow.trans g20 f33); (mf_ite (mo_w_Works_isIn hD  (fun r56 M55 f35 => (have g36 : Ow w D T _ M M55 := (Ow.trans g34 f35); (mf_ite (hQ _  g36) (mo_w_Reader_member hD n0 (fun M58 f37 => (have g38 : Ow w D T _ M M58 := (Ow.trans g36 f37); (hQ _  g38))) (fun z40 f39 => hX z40 (Ow.trans g36 f39)) g36.1)))) g34.1) (mo_w_Reader_member hD n0 (fun M59 f41 => (have g42 : Ow w D T _ M M59 := (Ow.trans g34 f41); (hQ _  g42))) (fun z44 f43 => hX z44 (Ow.trans g34 f43)) g34.1)))) g20.1))))) (mo_w_Reader_used hD  (fun M60 f45 => (have g46 : Ow w D T _ M M60 := (Ow.trans g20 f45); (hQ _  g46))) (fun z48 f47 => hX z48 (Ow.trans g20 f47)) g20.1)))) g18.1) (Exists.imp fun i61 => (mf_and fun e49 => (have o50 : ow w D 5 i61 := (Ow.rh e49 rfl n0 g18); (mo_w_Reader_number hD  (fun r63 M62 f51 => (have g52 : Ow w D T _ M M62 := (Ow.trans g18 f51); (mf_and fun _ => (mf_ite (Exists.imp fun i66 => (mf_and fun e53 => (have o54 : ow w D 5 i66 := (Ow.rh e53 rfl n0 (Ow.wI (ow.to o50 rfl rfl) g52)); (have g55 : Ow w D T _ M (sI M62 67 i61 a2.toNatClampNeg r63) := (Ow.wI (ow.to o50 rfl rfl) g52); (mo_w_Reader_number hD  (fun r68 M67 f56 => (have g57 : Ow w D T _ M M67 := (Ow.trans g55 f56); (mf_and fun _ => (hQ _  (Ow.wI (ow.to o54 rfl rfl) g57))))) (fun z59 f58 => hX z59 (Ow.trans g55 f58)) g55.1))))) (hQ _  (Ow.wI (ow.to o50 rfl rfl) g52)))))) (fun z61 f60 => hX z61 (Ow.trans g18 f60)) g18.1))))))) g16.1))))))))))))))))))
set_option maxRecDepth 20000 in
theorem mo_w_Reader_instruction_j213 {w : Nat} {D : Nat → Nat → Prop} {T : Nat → Prop} {h : Hot} {this : Nat} {Q Q' : Mem → Prop} {h_Q : Hot} {X X' : Mem → Prop} {h_X : Hot} {s0 : Int32} {s1 : Int32} {s2 : Nat} {M : Mem} {M0 : Mem} (hD : Dok w D) (n0 : ow w D 72 s2) (n1 : h (3, this, 1) = true) (lQ : ∀ t, h_Q t = true → h t = true) (hQ : ∀ z0, Ow w D T h_Q M0 z0 → Q z0 → Q' z0) (lX : ∀ t, h_X t = true → h t = true) (hX : ∀ z0, Ow w D T h_X M0 z0 → X z0 → X' z0) : Ow w D T h M0 M → w_Reader_instruction_j213 this Q X s0 s1 s2 M → w_Reader_instruction_j213 this Q' X' s0 s1 s2 M := by
  intro hf
  unfold w_Reader_instruction_j213
  exact (mf_and fun _ => (mf_and fun _ => (Exists.imp fun i27 => (mf_and fun e1 => (have o2 : ow w D 5 i27 := (Ow.rh e1 rfl n1 (Ow.wI (ow0 rfl) (Ow.wI n0 hf))); (mf_and fun _ => (mf_and fun _ => (Exists.imp fun M30 => (mf_and fun e3 => (have g4 : Ow w D T _ M0 M30 := Ow.of e3 (Ow.wI (ow.to o2 rfl rfl) (Ow.wI (ow0 rfl) (Ow.wI n0 hf))); (Exists.imp fun i31 => (mf_and fun e5 => (have o6 : ow w D 5 i31 := (Ow.rh e5 rfl n1 g4); (hQ _  (Ow.dn lQ (Ow.wI o6 g4))))))))))))))))
set_option maxRecDepth 20000 in
theorem mo_w_Reader_instruction_j189 {w : Nat} {D : Nat → Nat → Prop} {T : Nat → Prop} {h : Hot} {this : Nat} {Q Q' : Mem → Prop} {h_Q : Hot} {X X' : Mem → Prop} {h_X : Hot} {v2 : Int32} {s0 : Int32} {s1 : Int32} {s2 : Nat} {M : Mem} {M0 : Mem} (hD : Dok w D) (n0 : ow w D 71 s2) (n1 : h (3, this, 1) = true) (lQ : ∀ t, h_Q t = true → h t = true) (hQ : ∀ z0, Ow w D T h_Q M0 z0 → Q z0 → Q' z0) (lX : ∀ t, h_X t = true → h t = true) (hX : ∀ z0, Ow w D T h_X M0 z0 → X z0 → X' z0) : Ow w D T h M0 M → w_Reader_instruction_j189 this Q X v2 s0 s1 s2 M → w_Reader_instruction_j189 this Q' X' v2 s0 s1 s2 M := by
  intro hf
  unfold w_Reader_instruction_j189
  exact (mf_and fun _ => (Exists.imp fun i23 => (mf_and fun e1 => (have o2 : ow w D 5 i23 := (Ow.rh e1 rfl n1 (Ow.wI n0 hf)); (mf_ite (have g3 : Ow w D T _ M0 (sI M 71 s2 s1.toNatClampNeg s0) := (Ow.wI n0 hf); (mo_w_Reader_instruction_j213 hD (ow.to o2 rfl rfl) n1 lQ hQ lX hX g3)) (have g4 : Ow w D T _ M0 (sI M 71 s2 s1.toNatClampNeg s0) := (Ow.wI n0 hf); (mo_w_Reader_instruction_j213 hD (ow.to o2 rfl rfl) n1 lQ hQ lX hX g4)))))))
set_option maxRecDepth 20000 in
theorem mo_w_Reader_instruction_j165 {w : Nat} {D : Nat → Nat → Prop} {T : Nat → Prop} {h : Hot} {this : Nat} {Q Q' : Mem → Prop} {h_Q : Hot} {X X' : Mem → Prop} {h_X : Hot} {v2 : Int32} {s0 : Int32} {s1 : Int32} {s2 : Nat} {M : Mem} {M0 : Mem} (hD : Dok w D) (n0 : ow w D 70 s2) (n1 : h (3, this, 1) = true) (lQ : ∀ t, h_Q t = true → h t = true) (hQ : ∀ z0, Ow w D T h_Q M0 z0 → Q z0 → Q' z0) (lX : ∀ t, h_X t = true → h t = true) (hX : ∀ z0, Ow w D T h_X M0 z0 → X z0 → X' z0) : Ow w D T h M0 M → w_Reader_instruction_j165 this Q X v2 s0 s1 s2 M → w_Reader_instruction_j165 this Q' X' v2 s0 s1 s2 M := by
  intro hf
  unfold w_Reader_instruction_j165
  exact (mf_and fun _ => (Exists.imp fun i20 => (mf_and fun e1 => (have o2 : ow w D 5 i20 := (Ow.rh e1 rfl n1 (Ow.wI n0 hf)); (mf_ite (have g3 : Ow w D T _ M0 (sI M 70 s2 s1.toNatClampNeg s0) := (Ow.wI n0 hf); (mo_w_Reader_instruction_j189 hD (ow.to o2 rfl rfl) n1 lQ hQ lX hX g3)) (have g4 : Ow w D T _ M0 (sI M 70 s2 s1.toNatClampNeg s0) := (Ow.wI n0 hf); (mo_w_Reader_instruction_j189 hD (ow.to o2 rfl rfl) n1 lQ hQ lX hX g4)))))))
set_option maxRecDepth 20000 in
theorem mo_w_Reader_instruction_j132 {w : Nat} {D : Nat → Nat → Prop} {T : Nat → Prop} {h : Hot} {this : Nat} {Q Q' : Mem → Prop} {h_Q : Hot} {X X' : Mem → Prop} {h_X : Hot} {v1 : Int32} {v2 : Int32} {M : Mem} {M0 : Mem} (hD : Dok w D) (n0 : h (3, this, 1) = true) (lQ : ∀ t, h_Q t = true → h t = true) (hQ : ∀ z0, Ow w D T h_Q M0 z0 → Q z0 → Q' z0) (lX : ∀ t, h_X t = true → h t = true) (hX : ∀ z0, Ow w D T h_X M0 z0 → X z0 → X' z0) : Ow w D T h M0 M → w_Reader_instruction_j132 this Q X v1 v2 M → w_Reader_instruction_j132 this Q' X' v1 v2 M := by
  intro hf
  unfold w_Reader_instruction_j132
  exact (Exists.imp fun i15 => (mf_and fun e1 => (have o2 : ow w D 5 i15 := (Ow.rh e1 rfl n0 hf); (mf_and fun _ => (Exists.imp fun i17 => (mf_and fun e3 => (have o4 : ow w D 5 i17 := (Ow.rh e3 rfl n0 (Ow.wI (ow.to o2 rfl rfl) hf)); (mf_ite (have g5 : Ow w D T _ M0 (sI M 66 i15 v2.toNatClampNeg v1) := (Ow.wI (ow.to o2 rfl rfl) hf); (mo_w_Reader_instruction_j165 hD (ow.to o4 rfl rfl) n0 lQ hQ lX hX g5)) (have g6 : Ow w D T _ M0 (sI M 66 i15 v2.toNatClampNeg v1) := (Ow.wI (ow.to o2 rfl rfl) hf); (mo_w_Reader_instruction_j165 hD (ow.to o4 rfl rfl) n0 lQ hQ lX hX g6))))))))))
set_option maxRecDepth 20000 in
theorem mo_w_Reader_instruction_j118 {w : Nat} {D : Nat → Nat → Prop} {T : Nat → Prop} {h : Hot} {this : Nat} {Q Q' : Mem → Prop} {h_Q : Hot} {X X' : Mem → Prop} {h_X : Hot} {M : Mem} {M0 : Mem} (hD : Dok w D)  (lQ : ∀ t, h_Q t = true → h t = true) (hQ : ∀ z0, Ow w D T h_Q M0 z0 → Q z0 → Q' z0) (lX : ∀ t, h_X t = true → h t = true) (hX : ∀ z0, Ow w D T h_X M0 z0 → X z0 → X' z0) : Ow w D T h M0 M → w_Reader_instruction_j118 this Q X M → w_Reader_instruction_j118 this Q' X' M := by
  intro hf
  unfold w_Reader_instruction_j118
  exact (mo_w_Works_refuse hD  (fun i35 M34 f1 => (have g2 : Ow w D T _ M0 M34 := (Ow.trans hf f1); (mf_and fun _ => (hX _  (Ow.dn lX g2))))) hf.1)
set_option maxRecDepth 20000 in
theorem mo_w_Reader_instruction_j72 {w : Nat} {D : Nat → Nat → Prop} {T : Nat → Prop} {h : Hot} {this : Nat} {Q Q' : Mem → Prop} {h_Q : Hot} {X X' : Mem → Prop} {h_X : Hot} {v1 : Int32} {v2 : Int32} {s0 : Int32} {M : Mem} {M0 : Mem} (hD : Dok w D) (n0 : h (3, this, 1) = true) (lQ : ∀ t, h_Q t = true → h t = true) (hQ : ∀ z0, Ow w D T h_Q M0 z0 → Q z0 → Q' z0) (lX : ∀ t, h_X t = true → h t = true) (hX : ∀ z0, Ow w D T h_X M0 z0 → X z0 → X' z0) : Ow w D T h M0 M → w_Reader_instruction_j72 this Q X v1 v2 s0 M → w_Reader_instruction_j72 this Q' X' v1 v2 s0 M := by
  intro hf
  unfold w_Reader_instruction_j72
  exact (Exists.imp fun i10 => (mf_and fun e1 => (mo_w_Reader_operands hD n0 (fun M11 f3 => (have g4 : Ow w D T _ M0 M11 := (Ow.trans hf f3); (mo_w_Reader_end hD  (fun M12 f5 => (have g6 : Ow w D T _ M0 M12 := (Ow.trans g4 f5); (mf_ite (mf_ite (mo_w_Reader_instruction_j132 hD n0 lQ hQ lX hX g6) (Exists.imp fun i32 => (mf_and fun e7 => (mf_ite (mo_w_Reader_instruction_j132 hD n0 lQ hQ lX hX g6) (mo_w_Reader_instruction_j118 hD  lQ hQ lX hX g6))))) (mo_w_Reader_instruction_j118 hD  lQ hQ lX hX g6)))) (fun z10 f9 => hX z10 (Ow.dn lX (Ow.trans g4 f9))) g4.1))) (fun z12 f11 => hX z12 (Ow.dn lX (Ow.trans hf f11))) hf.1)))
set_option maxRecDepth 20000 in
theorem mo_w_Reader_instruction_j25 {w : Nat} {D : Nat → Nat → Prop} {T : Nat → Prop} {h : Hot} {this : Nat} {Q Q' : Mem → Prop} {h_Q : Hot} {X X' : Mem → Prop} {h_X : Hot} {M : Mem} {M0 : Mem} (hD : Dok w D)  (lQ : ∀ t, h_Q t = true → h t = true) (hQ : ∀ z0, Ow w D T h_Q M0 z0 → Q z0 → Q' z0) (lX : ∀ t, h_X t = true → h t = true) (hX : ∀ z0, Ow w D T h_X M0 z0 → X z0 → X' z0) : Ow w D T h M0 M → w_Reader_instruction_j25 this Q X M → w_Reader_instruction_j25 this Q' X' M := by
  intro hf
  unfold w_Reader_instruction_j25
  exact (mo_w_Reader_wrong hD  (fun i37 M36 f1 => (have g2 : Ow w D T _ M0 M36 := (Ow.trans hf f1); (mf_and fun _ => (hX _  (Ow.dn lX g2))))) hf.1)
set_option maxRecDepth 20000 in
theorem mo_w_Reader_instruction {w : Nat} {D : Nat → Nat → Prop} {T : Nat → Prop} {h : Hot} {this : Nat} {Q Q' : Mem → Prop} {X X' : Mem → Prop} {M : Mem} (hD : Dok w D) (n0 : h (3, this, 1) = true) (hQ : ∀ z0, Ow w D T h M z0 → Q z0 → Q' z0) (hX : ∀ z0, Ow w D T h M z0 → X z0 → X' z0) : St w D T h M → w_Reader_instruction this Q X M → w_Reader_instruction this Q' X' M := by
  intro hs
  unfold w_Reader_instruction
  exact (mf_and fun _ => (mf_ite (mf_ite (mo_w_Words_next hD  (fun M4 f1 => (have g2 : Ow w D T _ M M4 := (Ow.trans (Ow.rf hs) f1); (mo_w_Reader_nextCode hD  (fun r6 M5 f3 => (have g4 : Ow w D T _ M M5 := (Ow.trans g2 f3); (Exists.imp fun i7 => (mf_and fun e5 => (mf_and fun _ => (mf_ite (mo_w_Reader_instruction_j72 hD n0 (fun _ e => e) hQ (fun _ e => e) hX g4) (mo_w_Reader_instruction_j72 hD n0 (fun _ e => e) hQ (fun _ e => e) hX g4))))))) g2.1))) (Ow.rf hs).1) (mo_w_Reader_instruction_j25 hD  (fun _ e => e) hQ (fun _ e => e) hX (Ow.rf hs))) (mo_w_Reader_instruction_j25 hD  (fun _ e => e) hQ (fun _ e => e) hX (Ow.rf hs))))
set_option maxRecDepth 20000 in
theorem mo_w_Reader_bodyLine_j261 {w : Nat} {D : Nat → Nat → Prop} {T : Nat → Prop} {h : Hot} {this : Nat} {Q Q' : Int32 → Mem → Prop} {h_Q : Hot} {X X' : Mem → Prop} {h_X : Hot} {M : Mem} {M0 : Mem} (hD : Dok w D) (n0 : h (3, this, 1) = true) (lQ : ∀ t, h_Q t = true → h t = true) (hQ : ∀ z0 z1, Ow w D T h_Q M0 z1 → Q z0 z1 → Q' z0 z1) (lX : ∀ t, h_X t = true → h t = true) (hX : ∀ z0, Ow w D T h_X M0 z0 → X z0 → X' z0) : Ow w D T h M0 M → w_Reader_bodyLine_j261 this Q X M → w_Reader_bodyLine_j261 this Q' X' M := by
  intro hf
  unfold w_Reader_bodyLine_j261
  exact (mo_w_Reader_instruction hD n0 (fun M24 f1 => (have g2 : Ow w D T _ M0 M24 := (Ow.trans hf f1); (hQ _ _  (Ow.dn lQ g2)))) (fun z4 f3 => hX z4 (Ow.dn lX (Ow.trans hf f3))) hf.1)
set_option maxRecDepth 20000 in
theorem mo_w_Reader_bodyLine_j238 {w : Nat} {D : Nat → Nat → Prop} {T : Nat → Prop} {h : Hot} {this : Nat} {Q Q' : Int32 → Mem → Prop} {h_Q : Hot} {X X' : Mem → Prop} {h_X : Hot} {v1 : Int32} {M : Mem} {M0 : Mem} (hD : Dok w D) (n0 : h (3, this, 1) = true) (lQ : ∀ t, h_Q t = true → h t = true) (hQ : ∀ z0 z1, Ow w D T h_Q M0 z1 → Q z0 z1 → Q' z0 z1) (lX : ∀ t, h_X t = true → h t = true) (hX : ∀ z0, Ow w D T h_X M0 z0 → X z0 → X' z0) : Ow w D T h M0 M → w_Reader_bodyLine_j238 this Q X v1 M → w_Reader_bodyLine_j238 this Q' X' v1 M := by
  intro hf
  unfold w_Reader_bodyLine_j238
  exact (mf_ite (mo_w_Words_isWord hD  (fun r22 M21 f1 => (have g2 : Ow w D T _ M0 M21 := (Ow.trans hf f1); (mf_ite (mo_w_Reader_bodyLine_j261 hD n0 lQ hQ lX hX g2) (mo_w_Reader_handler hD n0 (fun M25 f3 => (have g4 : Ow w D T _ M0 M25 := (Ow.trans g2 f3); (hQ _ _  (Ow.dn lQ g4)))) (fun z6 f5 => hX z6 (Ow.dn lX (Ow.trans g2 f5))) g2.1)))) hf.1) (mo_w_Reader_bodyLine_j261 hD n0 lQ hQ lX hX hf))
set_option maxRecDepth 20000 in
theorem mo_w_Reader_bodyLine_j215 {w : Nat} {D : Nat → Nat → Prop} {T : Nat → Prop} {h : Hot} {this : Nat} {Q Q' : Int32 → Mem → Prop} {h_Q : Hot} {X X' : Mem → Prop} {h_X : Hot} {v1 : Int32} {M : Mem} {M0 : Mem} (hD : Dok w D) (n0 : h (3, this, 1) = true) (lQ : ∀ t, h_Q t = true → h t = true) (hQ : ∀ z0 z1, Ow w D T h_Q M0 z1 → Q z0 z1 → Q' z0 z1) (lX : ∀ t, h_X t = true → h t = true) (hX : ∀ z0, Ow w D T h_X M0 z0 → X z0 → X' z0) : Ow w D T h M0 M → w_Reader_bodyLine_j215 this Q X v1 M → w_Reader_bodyLine_j215 this Q' X' v1 M := by
  intro hf
  unfold w_Reader_bodyLine_j215
  exact (mf_ite (mo_w_Words_isWord hD  (fun r18 M17 f1 => (have g2 : Ow w D T _ M0 M17 := (Ow.trans hf f1); (mf_ite (mo_w_Reader_bodyLine_j238 hD n0 lQ hQ lX hX g2) (mo_w_Reader_frame hD n0 (fun M26 f3 => (have g4 : Ow w D T _ M0 M26 := (Ow.trans g2 f3); (hQ _ _  (Ow.dn lQ g4)))) (fun z6 f5 => hX z6 (Ow.dn lX (Ow.trans g2 f5))) g2.1)))) hf.1) (mo_w_Reader_bodyLine_j238 hD n0 lQ hQ lX hX hf))
set_option maxRecDepth 20000 in
theorem mo_w_Reader_bodyLine_j158 {w : Nat} {D : Nat → Nat → Prop} {T : Nat → Prop} {h : Hot} {this : Nat} {Q Q' : Int32 → Mem → Prop} {h_Q : Hot} {X X' : Mem → Prop} {h_X : Hot} {v1 : Int32} {M : Mem} {M0 : Mem} (hD : Dok w D) (n0 : h (3, this, 1) = true) (lQ : ∀ t, h_Q t = true → h t = true) (hQ : ∀ z0 z1, Ow w D T h_Q M0 z1 → Q z0 z1 → Q' z0 z1) (lX : ∀ t, h_X t = true → h t = true) (hX : ∀ z0, Ow w D T h_X M0 z0 → X z0 → X' z0) : Ow w D T h M0 M → w_Reader_bodyLine_j158 this Q X v1 M → w_Reader_bodyLine_j158 this Q' X' v1 M := by
  intro hf
  unfold w_Reader_bodyLine_j158
  exact (mf_and fun _ => (mf_ite (hQ _ _  (Ow.dn lQ hf)) (mf_ite (mo_w_Words_isWord hD  (fun r8 M7 f1 => (have g2 : Ow w D T _ M0 M7 := (Ow.trans hf f1); (mf_ite (mo_w_Words_isWord hD  (fun r11 M10 f3 => (have g4 : Ow w D T _ M0 M10 := (Ow.trans g2 f3); (mf_ite (mo_w_Words_isWord hD  (fun r14 M13 f5 => (have g6 : Ow w D T _ M0 M13 := (Ow.trans g4 f5); (mf_ite (mo_w_Reader_bodyLine_j215 hD n0 lQ hQ lX hX g6) (hQ _ _  (Ow.dn lQ g6))))) g4.1) (hQ _ _  (Ow.dn lQ g4))))) g2.1) (hQ _ _  (Ow.dn lQ g2))))) hf.1) (mo_w_Reader_bodyLine_j215 hD n0 lQ hQ lX hX hf))))
set_option maxRecDepth 20000 in
theorem mo_w_Reader_bodyLine_L2 {w : Nat} {D : Nat → Nat → Prop} {T : Nat → Prop} {h : Hot} {this : Nat} {Q Q' : Int32 → Mem → Prop} {h_Q : Hot} {X X' : Mem → Prop} {h_X : Hot} {M0 : Mem} (hD : Dok w D) (n0 : h (3, this, 1) = true) (lQ : ∀ t, h_Q t = true → h t = true) (hQ : ∀ z0 z1, Ow w D T h_Q M0 z1 → Q z0 z1 → Q' z0 z1) (lX : ∀ t, h_X t = true → h t = true) (hX : ∀ z0, Ow w D T h_X M0 z0 → X z0 → X' z0) : ∀ (n : Nat) (v1 : Int32) (M : Mem), Ow w D T h M0 M → w_Reader_bodyLine_L2 this Q X n v1 M → w_Reader_bodyLine_L2 this Q' X' n v1 M
  | 0, _, _ => fun  _ h => h
  | n + 1, v1, M => fun  hf => by
    unfold w_Reader_bodyLine_L2
    exact (mf_and fun _ => (mf_ite (mf_ite (mo_w_Reader_bodyLine_j158 hD n0 lQ hQ lX hX hf) (mf_ite (mo_w_Reader_bodyLine_j158 hD n0 lQ hQ lX hX hf) (mo_w_Words_next hD  (fun M28 f1 => (have g2 : Ow w D T _ M0 M28 := (Ow.trans hf f1); (mo_w_Words_isSign hD  (fun r30 M29 f3 => (have g4 : Ow w D T _ M0 M29 := (Ow.trans g2 f3); (mf_ite (have g5 : Ow w D T _ M0 (sI M29 2 0 2 (mI M 2 0 4)) := (Ow.wI (ow0 rfl) g4); (mo_w_Words_next hD  (fun M32 f6 => (have g7 : Ow w D T _ M0 M32 := (Ow.trans g5 f6); (mo_w_Reader_bodyLine_j158 hD n0 lQ hQ lX hX g7))) g5.1)) (mo_w_Words_next hD  (fun M33 f8 => (have g9 : Ow w D T _ M0 M33 := (Ow.trans g4 f8); (mf_and fun _ => (Exists.imp fun i35 => (mf_and fun e10 => (mf_and fun _ => (mf_and fun _ => (Exists.imp fun M38 => (mf_and fun e12 => (have g13 : Ow w D T _ M0 M38 := Ow.of e12 (Ow.wI (ow0 rfl) (Ow.wI (ow0 rfl) g9)); (mf_and fun _ => (Exists.imp fun M40 => (mf_and fun e14 => (have g15 : Ow w D T _ M0 M40 := Ow.of e14 (Ow.wI (ow0 rfl) (Ow.wI (ow0 rfl) g13)); (mo_w_Reader_bodyLine_L2 hD n0 lQ hQ lX hX _ _ _  g15))))))))))))))) g4.1)))) g2.1))) hf.1))) (mo_w_Reader_bodyLine_j158 hD n0 lQ hQ lX hX hf)))
set_option maxRecDepth 20000 in
theorem mo_w_Reader_bodyLine {w : Nat} {D : Nat → Nat → Prop} {T : Nat → Prop} {h : Hot} {this : Nat} {Q Q' : Int32 → Mem → Prop} {X X' : Mem → Prop} {M : Mem} (hD : Dok w D) (n0 : h (3, this, 1) = true) (hQ : ∀ z0 z1, Ow w D T h M z1 → Q z0 z1 → Q' z0 z1) (hX : ∀ z0, Ow w D T h M z0 → X z0 → X' z0) : St w D T h M → w_Reader_bodyLine this Q X M → w_Reader_bodyLine this Q' X' M := by
  intro hs
  unfold w_Reader_bodyLine
  exact (Exists.imp fun n41 => (mo_w_Reader_bodyLine_L2 hD n0 (fun _ e => e) hQ (fun _ e => e) hX _ _ _  (Ow.rf hs)))
set_option maxRecDepth 20000 in
theorem mo_w_Reader_told_L2 {w : Nat} {D : Nat → Nat → Prop} {T : Nat → Prop} {h : Hot} {this : Nat} {Q Q' : Int32 → Mem → Prop} {h_Q : Hot} {M0 : Mem} (hD : Dok w D)  (lQ : ∀ t, h_Q t = true → h t = true) (hQ : ∀ z0 z1, Ow w D T h_Q M0 z1 → Q z0 z1 → Q' z0 z1) : ∀ (n : Nat) (v1 : Int32) (v2 : Int32) (M : Mem), Ow w D T h M0 M → w_Reader_told_L2 this Q n v1 v2 M → w_Reader_told_L2 this Q' n v1 v2 M
  | 0, _, _, _ => fun  _ h => h
  | n + 1, v1, v2, M => fun  hf => by
    unfold w_Reader_told_L2
    exact (mf_ite (hQ _ _  (Ow.dn lQ hf)) (mf_and fun _ => (mf_ite (hQ _ _  (Ow.dn lQ hf)) (mo_w_Reader_told_L2 hD  lQ hQ _ _ _ _  hf))))
set_option maxRecDepth 20000 in
theorem mo_w_Reader_told {w : Nat} {D : Nat → Nat → Prop} {T : Nat → Prop} {h : Hot} {this : Nat} {a1 : Int32} {Q Q' : Int32 → Mem → Prop} {M : Mem} (hD : Dok w D)  (hQ : ∀ z0 z1, Ow w D T h M z1 → Q z0 z1 → Q' z0 z1) : St w D T h M → w_Reader_told this a1 Q M → w_Reader_told this a1 Q' M := by
  intro hs
  unfold w_Reader_told
  exact (Exists.imp fun n4 => (mo_w_Reader_told_L2 hD  (fun _ e => e) hQ _ _ _ _  (Ow.rf hs)))
set_option maxRecDepth 20000 in
theorem mo_w_Reader_endMethod_j297 {w : Nat} {D : Nat → Nat → Prop} {T : Nat → Prop} {h : Hot} {this : Nat} {Q Q' : Mem → Prop} {h_Q : Hot} {X X' : Mem → Prop} {h_X : Hot} {k157 k157' : Int32 → Int32 → Int32 → Mem → Prop} {h_k157 : Hot} {v1 : Int32} {v2 : Int32} {v3 : Int32} {M : Mem} {M0 : Mem} (hD : Dok w D)  (lQ : ∀ t, h_Q t = true → h t = true) (hQ : ∀ z0, Ow w D T h_Q M0 z0 → Q z0 → Q' z0) (lX : ∀ t, h_X t = true → h t = true) (hX : ∀ z0, Ow w D T h_X M0 z0 → X z0 → X' z0) (lk157 : ∀ t, h_k157 t = true → h t = true) (hk157 : ∀ z0 z1 z2 z3, Ow w D T h_k157 M0 z3 → k157 z0 z1 z2 z3 → k157' z0 z1 z2 z3) : Ow w D T h M0 M → w_Reader_endMethod_j297 this Q X k157 v1 v2 v3 M → w_Reader_endMethod_j297 this Q' X' k157' v1 v2 v3 M := by
  intro hf
  unfold w_Reader_endMethod_j297
  exact (hk157 _ _ _ _  (Ow.dn lk157 hf))
set_option maxRecDepth 20000 in
theorem mo_w_Reader_endMethod_j255 {w : Nat} {D : Nat → Nat → Prop} {T : Nat → Prop} {h : Hot} {this : Nat} {Q Q' : Mem → Prop} {h_Q : Hot} {X X' : Mem → Prop} {h_X : Hot} {k157 k157' : Int32 → Int32 → Int32 → Mem → Prop} {h_k157 : Hot} {v1 : Int32} {v2 : Int32} {v3 : Int32} {v4 : Int32} {M : Mem} {M0 : Mem} (hD : Dok w D)  (lQ : ∀ t, h_Q t = true → h t = true) (hQ : ∀ z0, Ow w D T h_Q M0 z0 → Q z0 → Q' z0) (lX : ∀ t, h_X t = true → h t = true) (hX : ∀ z0, Ow w D T h_X M0 z0 → X z0 → X' z0) (lk157 : ∀ t, h_k157 t = true → h t = true) (hk157 : ∀ z0 z1 z2 z3, Ow w D T h_k157 M0 z3 → k157 z0 z1 z2 z3 → k157' z0 z1 z2 z3) : Ow w D T h M0 M → w_Reader_endMethod_j255 this Q X k157 v1 v2 v3 v4 M → w_Reader_endMethod_j255 this Q' X' k157' v1 v2 v3 v4 M := by
  intro hf
  unfold w_Reader_endMethod_j255
  exact (mf_and fun _ => (mf_ite (Exists.imp fun i26 => (mf_and fun e1 => (mf_and fun _ => (mf_and fun _ => (mf_ite (mo_w_Reader_endMethod_j297 hD  lQ hQ lX hX lk157 hk157 hf) (mf_and fun _ => (mo_w_JMath_min hD  (fun r32 M31 f3 => (have g4 : Ow w D T _ M0 M31 := (Ow.trans hf f3); (mo_w_Reader_endMethod_j297 hD  lQ hQ lX hX lk157 hk157 g4))) hf.1))))))) (mo_w_Reader_endMethod_j297 hD  lQ hQ lX hX lk157 hk157 hf)))
set_option maxRecDepth 20000 in
theorem mo_w_Reader_endMethod_L157 {w : Nat} {D : Nat → Nat → Prop} {T : Nat → Prop} {h : Hot} {this : Nat} {Q Q' : Mem → Prop} {h_Q : Hot} {X X' : Mem → Prop} {h_X : Hot} {M0 : Mem} (hD : Dok w D) (n0 : h (3, this, 1) = true) (lQ : ∀ t, h_Q t = true → h t = true) (hQ : ∀ z0, Ow w D T h_Q M0 z0 → Q z0 → Q' z0) (lX : ∀ t, h_X t = true → h t = true) (hX : ∀ z0, Ow w D T h_X M0 z0 → X z0 → X' z0) : ∀ (n : Nat) (v1 : Int32) (v2 : Int32) (v3 : Int32) (M : Mem), Ow w D T h M0 M → w_Reader_endMethod_L157 this Q X n v1 v2 v3 M → w_Reader_endMethod_L157 this Q' X' n v1 v2 v3 M
  | 0, _, _, _, _ => fun  _ h => h
  | n + 1, v1, v2, v3, M => fun  hf => by
    unfold w_Reader_endMethod_L157
    exact (mf_ite (mf_ite (mf_ite (mo_w_Works_refuse hD  (fun i11 M10 f1 => (have g2 : Ow w D T _ M0 M10 := (Ow.trans hf f1); (mf_and fun _ => (hX _  (Ow.dn lX g2))))) hf.1) (hQ _  (Ow.dn lQ hf))) (mo_w_Works_refuse hD  (fun i13 M12 f3 => (have g4 : Ow w D T _ M0 M12 := (Ow.trans hf f3); (mf_and fun _ => (hX _  (Ow.dn lX g4))))) hf.1)) (mf_and fun _ => (mo_w_Reader_told hD  (fun r16 M15 f5 => (have g6 : Ow w D T _ M0 M15 := (Ow.trans hf f5); (mf_and fun _ => (mf_and fun _ => (mf_ite (Exists.imp fun i20 => (mf_and fun e7 => (have o8 : ow w D 5 i20 := (Ow.rh e7 rfl n0 g6); (mf_and fun _ => (mf_and fun _ => (Exists.imp fun M23 => (mf_and fun e9 => (have g10 : Ow w D T _ M0 M23 := Ow.of e9 (Ow.wI (ow.to o8 rfl rfl) g6); (mo_w_Reader_endMethod_j255 hD  lQ hQ lX hX (fun _ e => e) (fun y0 y1 y2 y3  hf => mo_w_Reader_endMethod_L157 hD n0 lQ hQ lX hX n y0 y1 y2 y3  hf) g10))))))))) (mf_and fun _ => (mf_ite (Exists.imp fun i35 => (mf_and fun e11 => (have o12 : ow w D 5 i35 := (Ow.rh e11 rfl n0 g6); (mf_and fun _ => (mf_and fun _ => (Exists.imp fun M38 => (mf_and fun e13 => (have g14 : Ow w D T _ M0 M38 := Ow.of e13 (Ow.wI (ow.to o12 rfl rfl) g6); (mo_w_Reader_endMethod_j255 hD  lQ hQ lX hX (fun _ e => e) (fun y0 y1 y2 y3  hf => mo_w_Reader_endMethod_L157 hD n0 lQ hQ lX hX n y0 y1 y2 y3  hf) g14))))))))) (Exists.imp fun i39 => (mf_and fun e15 => (have o16 : ow w D 5 i39 := (Ow.rh e15 rfl n0 g6); (mf_and fun _ => (mf_and fun _ => (Exists.imp fun M42 => (mf_and fun e17 => (have g18 : Ow w D T _ M0 M42 := Ow.of e17 (Ow.wI (ow.to o16 rfl rfl) g6); (mo_w_Reader_endMethod_j255 hD  lQ hQ lX hX (fun _ e => e) (fun y0 y1 y2 y3  hf => mo_w_Reader_endMethod_L157 hD n0 lQ hQ lX hX n y0 y1 y2 y3  hf) g18)))))))))))))))) hf.1)))
set_option maxRecDepth 20000 in
theorem mo_w_Reader_endMethod_j138 {w : Nat} {D : Nat → Nat → Prop} {T : Nat → Prop} {h : Hot} {this : Nat} {Q Q' : Mem → Prop} {h_Q : Hot} {X X' : Mem → Prop} {h_X : Hot} {v1 : Int32} {v2 : Int32} {M : Mem} {M0 : Mem} (hD : Dok w D) (n0 : h (3, this, 1) = true) (lQ : ∀ t, h_Q t = true → h t = true) (hQ : ∀ z0, Ow w D T h_Q M0 z0 → Q z0 → Q' z0) (lX : ∀ t, h_X t = true → h t = true) (hX : ∀ z0, Ow w D T h_X M0 z0 → X z0 → X' z0) : Ow w D T h M0 M → w_Reader_endMethod_j138 this Q X v1 v2 M → w_Reader_endMethod_j138 this Q' X' v1 v2 M := by
  intro hf
  unfold w_Reader_endMethod_j138
  exact (mf_ite (Exists.imp fun n43 => (mo_w_Reader_endMethod_L157 hD n0 lQ hQ lX hX _ _ _ _ _  hf)) (mo_w_Works_refuse hD  (fun i45 M44 f1 => (have g2 : Ow w D T _ M0 M44 := (Ow.trans hf f1); (mf_and fun _ => (hX _  (Ow.dn lX g2))))) hf.1))
set_option maxRecDepth 20000 in
theorem mo_w_Reader_endMethod_j116 {w : Nat} {D : Nat → Nat → Prop} {T : Nat → Prop} {h : Hot} {this : Nat} {Q Q' : Mem → Prop} {h_Q : Hot} {X X' : Mem → Prop} {h_X : Hot} {k59 k59' : Int32 → Int32 → Int32 → Mem → Prop} {h_k59 : Hot} {v1 : Int32} {v2 : Int32} {v3 : Int32} {M : Mem} {M0 : Mem} (hD : Dok w D)  (lQ : ∀ t, h_Q t = true → h t = true) (hQ : ∀ z0, Ow w D T h_Q M0 z0 → Q z0 → Q' z0) (lX : ∀ t, h_X t = true → h t = true) (hX : ∀ z0, Ow w D T h_X M0 z0 → X z0 → X' z0) (lk59 : ∀ t, h_k59 t = true → h t = true) (hk59 : ∀ z0 z1 z2 z3, Ow w D T h_k59 M0 z3 → k59 z0 z1 z2 z3 → k59' z0 z1 z2 z3) : Ow w D T h M0 M → w_Reader_endMethod_j116 this Q X k59 v1 v2 v3 M → w_Reader_endMethod_j116 this Q' X' k59' v1 v2 v3 M := by
  intro hf
  unfold w_Reader_endMethod_j116
  exact (hk59 _ _ _ _  (Ow.dn lk59 hf))
set_option maxRecDepth 20000 in
theorem mo_w_Reader_endMethod_j105 {w : Nat} {D : Nat → Nat → Prop} {T : Nat → Prop} {h : Hot} {this : Nat} {Q Q' : Mem → Prop} {h_Q : Hot} {X X' : Mem → Prop} {h_X : Hot} {k59 k59' : Int32 → Int32 → Int32 → Mem → Prop} {h_k59 : Hot} {v1 : Int32} {v2 : Int32} {v3 : Int32} {M : Mem} {M0 : Mem} (hD : Dok w D)  (lQ : ∀ t, h_Q t = true → h t = true) (hQ : ∀ z0, Ow w D T h_Q M0 z0 → Q z0 → Q' z0) (lX : ∀ t, h_X t = true → h t = true) (hX : ∀ z0, Ow w D T h_X M0 z0 → X z0 → X' z0) (lk59 : ∀ t, h_k59 t = true → h t = true) (hk59 : ∀ z0 z1 z2 z3, Ow w D T h_k59 M0 z3 → k59 z0 z1 z2 z3 → k59' z0 z1 z2 z3) : Ow w D T h M0 M → w_Reader_endMethod_j105 this Q X k59 v1 v2 v3 M → w_Reader_endMethod_j105 this Q' X' k59' v1 v2 v3 M := by
  intro hf
  unfold w_Reader_endMethod_j105
  exact (mf_and fun _ => (mo_w_JMath_min hD  (fun r54 M53 f1 => (have g2 : Ow w D T _ M0 M53 := (Ow.trans hf f1); (mo_w_Reader_endMethod_j116 hD  lQ hQ lX hX lk59 hk59 g2))) hf.1))
set_option maxRecDepth 20000 in
theorem mo_w_Reader_endMethod_L59 {w : Nat} {D : Nat → Nat → Prop} {T : Nat → Prop} {h : Hot} {this : Nat} {Q Q' : Mem → Prop} {h_Q : Hot} {X X' : Mem → Prop} {h_X : Hot} {M0 : Mem} (hD : Dok w D) (n0 : h (3, this, 1) = true) (lQ : ∀ t, h_Q t = true → h t = true) (hQ : ∀ z0, Ow w D T h_Q M0 z0 → Q z0 → Q' z0) (lX : ∀ t, h_X t = true → h t = true) (hX : ∀ z0, Ow w D T h_X M0 z0 → X z0 → X' z0) : ∀ (n : Nat) (v1 : Int32) (v2 : Int32) (v3 : Int32) (M : Mem), Ow w D T h M0 M → w_Reader_endMethod_L59 this Q X n v1 v2 v3 M → w_Reader_endMethod_L59 this Q' X' n v1 v2 v3 M
  | 0, _, _, _, _ => fun  _ h => h
  | n + 1, v1, v2, v3, M => fun  hf => by
    unfold w_Reader_endMethod_L59
    exact (mf_ite (mf_ite (mo_w_Reader_endMethod_j138 hD n0 lQ hQ lX hX hf) (mo_w_JMath_min hD  (fun r47 M46 f1 => (have g2 : Ow w D T _ M0 M46 := (Ow.trans hf f1); (mo_w_Reader_endMethod_j138 hD n0 lQ hQ lX hX g2))) hf.1)) (mf_and fun _ => (mo_w_Reader_told hD  (fun r50 M49 f3 => (have g4 : Ow w D T _ M0 M49 := (Ow.trans hf f3); (mf_ite (mo_w_Reader_endMethod_j105 hD  lQ hQ lX hX (fun _ e => e) (fun y0 y1 y2 y3  hf => mo_w_Reader_endMethod_L59 hD n0 lQ hQ lX hX n y0 y1 y2 y3  hf) g4) (mf_and fun _ => (mf_ite (mf_and fun _ => (mf_ite (mo_w_Reader_endMethod_j116 hD  lQ hQ lX hX (fun _ e => e) (fun y0 y1 y2 y3  hf => mo_w_Reader_endMethod_L59 hD n0 lQ hQ lX hX n y0 y1 y2 y3  hf) g4) (mo_w_Reader_endMethod_j105 hD  lQ hQ lX hX (fun _ e => e) (fun y0 y1 y2 y3  hf => mo_w_Reader_endMethod_L59 hD n0 lQ hQ lX hX n y0 y1 y2 y3  hf) g4))) (mo_w_Reader_endMethod_j116 hD  lQ hQ lX hX (fun _ e => e) (fun y0 y1 y2 y3  hf => mo_w_Reader_endMethod_L59 hD n0 lQ hQ lX hX n y0 y1 y2 y3  hf) g4)))))) hf.1)))
set_option maxRecDepth 20000 in
theorem mo_w_Reader_endMethod_j51 {w : Nat} {D : Nat → Nat → Prop} {T : Nat → Prop} {h : Hot} {this : Nat} {Q Q' : Mem → Prop} {h_Q : Hot} {X X' : Mem → Prop} {h_X : Hot} {k18 k18' : Int32 → Int32 → Int32 → Mem → Prop} {h_k18 : Hot} {v1 : Int32} {v2 : Int32} {v3 : Int32} {M : Mem} {M0 : Mem} (hD : Dok w D)  (lQ : ∀ t, h_Q t = true → h t = true) (hQ : ∀ z0, Ow w D T h_Q M0 z0 → Q z0 → Q' z0) (lX : ∀ t, h_X t = true → h t = true) (hX : ∀ z0, Ow w D T h_X M0 z0 → X z0 → X' z0) (lk18 : ∀ t, h_k18 t = true → h t = true) (hk18 : ∀ z0 z1 z2 z3, Ow w D T h_k18 M0 z3 → k18 z0 z1 z2 z3 → k18' z0 z1 z2 z3) : Ow w D T h M0 M → w_Reader_endMethod_j51 this Q X k18 v1 v2 v3 M → w_Reader_endMethod_j51 this Q' X' k18' v1 v2 v3 M := by
  intro hf
  unfold w_Reader_endMethod_j51
  exact (hk18 _ _ _ _  (Ow.dn lk18 hf))
set_option maxRecDepth 20000 in
theorem mo_w_Reader_endMethod_L18 {w : Nat} {D : Nat → Nat → Prop} {T : Nat → Prop} {h : Hot} {this : Nat} {Q Q' : Mem → Prop} {h_Q : Hot} {X X' : Mem → Prop} {h_X : Hot} {M0 : Mem} (hD : Dok w D) (n0 : h (3, this, 1) = true) (lQ : ∀ t, h_Q t = true → h t = true) (hQ : ∀ z0, Ow w D T h_Q M0 z0 → Q z0 → Q' z0) (lX : ∀ t, h_X t = true → h t = true) (hX : ∀ z0, Ow w D T h_X M0 z0 → X z0 → X' z0) : ∀ (n : Nat) (v1 : Int32) (v2 : Int32) (v3 : Int32) (M : Mem), Ow w D T h M0 M → w_Reader_endMethod_L18 this Q X n v1 v2 v3 M → w_Reader_endMethod_L18 this Q' X' n v1 v2 v3 M
  | 0, _, _, _, _ => fun  _ h => h
  | n + 1, v1, v2, v3, M => fun  hf => by
    unfold w_Reader_endMethod_L18
    exact (mf_ite (Exists.imp fun n59 => (mo_w_Reader_endMethod_L59 hD n0 lQ hQ lX hX _ _ _ _ _  hf)) (mf_and fun _ => (mo_w_Reader_told hD  (fun r62 M61 f1 => (have g2 : Ow w D T _ M0 M61 := (Ow.trans hf f1); (mf_ite (mo_w_Reader_endMethod_j51 hD  lQ hQ lX hX (fun _ e => e) (fun y0 y1 y2 y3  hf => mo_w_Reader_endMethod_L18 hD n0 lQ hQ lX hX n y0 y1 y2 y3  hf) g2) (mf_and fun _ => (mo_w_JMath_min hD  (fun r66 M65 f3 => (have g4 : Ow w D T _ M0 M65 := (Ow.trans g2 f3); (mo_w_Reader_endMethod_j51 hD  lQ hQ lX hX (fun _ e => e) (fun y0 y1 y2 y3  hf => mo_w_Reader_endMethod_L18 hD n0 lQ hQ lX hX n y0 y1 y2 y3  hf) g4))) g2.1))))) hf.1)))
set_option maxRecDepth 20000 in
theorem mo_w_Reader_endMethod {w : Nat} {D : Nat → Nat → Prop} {T : Nat → Prop} {h : Hot} {this : Nat} {Q Q' : Mem → Prop} {X X' : Mem → Prop} {M : Mem} (hD : Dok w D) (n0 : h (3, this, 1) = true) (hQ : ∀ z0, Ow w D T h M z0 → Q z0 → Q' z0) (hX : ∀ z0, Ow w D T h M z0 → X z0 → X' z0) : St w D T h M → w_Reader_endMethod this Q X M → w_Reader_endMethod this Q' X' M := by
  intro hs
  unfold w_Reader_endMethod
  exact (Exists.imp fun i1 => (mf_and fun e1 => (mf_and fun _ => (Exists.imp fun n67 => (mo_w_Reader_endMethod_L18 hD n0 (fun _ e => e) hQ (fun _ e => e) hX _ _ _ _ _  (Ow.rf hs))))))
set_option maxRecDepth 20000 in
theorem mo_w_Reader_aMethod_L316 {w : Nat} {D : Nat → Nat → Prop} {T : Nat → Prop} {h : Hot} {this : Nat} {Q Q' : Mem → Prop} {h_Q : Hot} {X X' : Mem → Prop} {h_X : Hot} {M0 : Mem} (hD : Dok w D) (n0 : h (3, this, 1) = true) (lQ : ∀ t, h_Q t = true → h t = true) (hQ : ∀ z0, Ow w D T h_Q M0 z0 → Q z0 → Q' z0) (lX : ∀ t, h_X t = true → h t = true) (hX : ∀ z0, Ow w D T h_X M0 z0 → X z0 → X' z0) : ∀ (n : Nat) (M : Mem), Ow w D T h M0 M → w_Reader_aMethod_L316 this Q X n M → w_Reader_aMethod_L316 this Q' X' n M
  | 0, _ => fun  _ h => h
  | n + 1, M => fun  hf => by
    unfold w_Reader_aMethod_L316
    exact (mo_w_Reader_bodyLine hD n0 (fun r51 M50 f1 => (have g2 : Ow w D T _ M0 M50 := (Ow.trans hf f1); (mf_ite (mo_w_Reader_endMethod hD n0 (fun M53 f3 => (have g4 : Ow w D T _ M0 M53 := (Ow.trans g2 f3); (hQ _  (Ow.dn lQ g4)))) (fun z6 f5 => hX z6 (Ow.dn lX (Ow.trans g2 f5))) g2.1) (mo_w_Reader_needLine hD  (fun M54 f7 => (have g8 : Ow w D T _ M0 M54 := (Ow.trans g2 f7); (mo_w_Reader_aMethod_L316 hD n0 lQ hQ lX hX _ _  g8))) (fun z10 f9 => hX z10 (Ow.dn lX (Ow.trans g2 f9))) g2.1)))) (fun z12 f11 => hX z12 (Ow.dn lX (Ow.trans hf f11))) hf.1)
set_option maxRecDepth 20000 in
theorem mo_w_Reader_aMethod_j279 {w : Nat} {D : Nat → Nat → Prop} {T : Nat → Prop} {h : Hot} {this : Nat} {Q Q' : Mem → Prop} {h_Q : Hot} {X X' : Mem → Prop} {h_X : Hot} {s0 : Int32} {s1 : Int32} {s2 : Int32} {M : Mem} {M0 : Mem} (hD : Dok w D) (n0 : h (3, this, 1) = true) (lQ : ∀ t, h_Q t = true → h t = true) (hQ : ∀ z0, Ow w D T h_Q M0 z0 → Q z0 → Q' z0) (lX : ∀ t, h_X t = true → h t = true) (hX : ∀ z0, Ow w D T h_X M0 z0 → X z0 → X' z0) : Ow w D T h M0 M → w_Reader_aMethod_j279 this Q X s0 s1 s2 M → w_Reader_aMethod_j279 this Q' X' s0 s1 s2 M := by
  intro hf
  unfold w_Reader_aMethod_j279
  exact (mf_ite (mf_and fun _ => (Exists.imp fun M48 => (mf_and fun e1 => (have g2 : Ow w D T _ M0 M48 := Ow.of e1 (Ow.wI (ow0 rfl) (Ow.wI (ow0 rfl) (Ow.wI (ow0 rfl) hf))); (mo_w_Reader_needLine hD  (fun M49 f3 => (have g4 : Ow w D T _ M0 M49 := (Ow.trans g2 f3); (Exists.imp fun n55 => (mo_w_Reader_aMethod_L316 hD n0 lQ hQ lX hX _ _  g4)))) (fun z6 f5 => hX z6 (Ow.dn lX (Ow.trans g2 f5))) g2.1))))) (mo_w_Works_refuse hD  (fun i57 M56 f7 => (have g8 : Ow w D T _ M0 M56 := (Ow.trans hf f7); (mf_and fun _ => (hX _  (Ow.dn lX g8))))) hf.1))
set_option maxRecDepth 20000 in
theorem mo_w_Reader_aMethod_L134 {w : Nat} {D : Nat → Nat → Prop} {T : Nat → Prop} {h : Hot} {this : Nat} {Q Q' : Mem → Prop} {h_Q : Hot} {X X' : Mem → Prop} {h_X : Hot} {M0 : Mem} (hD : Dok w D) (n0 : h (3, this, 1) = true) (lQ : ∀ t, h_Q t = true → h t = true) (hQ : ∀ z0, Ow w D T h_Q M0 z0 → Q z0 → Q' z0) (lX : ∀ t, h_X t = true → h t = true) (hX : ∀ z0, Ow w D T h_X M0 z0 → X z0 → X' z0) : ∀ (n : Nat) (v1 : Int32) (v4 : Int32) (M : Mem), Ow w D T h M0 M → w_Reader_aMethod_L134 this Q X n v1 v4 M → w_Reader_aMethod_L134 this Q' X' n v1 v4 M
  | 0, _, _, _ => fun  _ h => h
  | n + 1, v1, v4, M => fun  hf => by
    unfold w_Reader_aMethod_L134
    exact (mf_ite (mo_w_Reader_needLine hD  (fun M25 f1 => (have g2 : Ow w D T _ M0 M25 := (Ow.trans hf f1); (mf_ite (mo_w_Words_isWord hD  (fun r28 M27 f3 => (have g4 : Ow w D T _ M0 M27 := (Ow.trans g2 f3); (mf_ite (mo_w_Reader_wrong hD  (fun i31 M30 f5 => (have g6 : Ow w D T _ M0 M30 := (Ow.trans g4 f5); (mf_and fun _ => (hX _  (Ow.dn lX g6))))) g4.1) (mo_w_Words_next hD  (fun M32 f7 => (have g8 : Ow w D T _ M0 M32 := (Ow.trans g4 f7); (Exists.imp fun i33 => (mf_and fun e9 => (have o10 : ow w D 5 i33 := (Ow.rh e9 rfl n0 g8); (mo_w_Reader_number hD  (fun r35 M34 f11 => (have g12 : Ow w D T _ M0 M34 := (Ow.trans g8 f11); (mf_and fun _ => (Exists.imp fun i37 => (mf_and fun e13 => (have o14 : ow w D 5 i37 := (Ow.rh e13 rfl n0 (Ow.wI (ow.to o10 rfl rfl) g12)); (have g15 : Ow w D T _ M0 (sI M34 60 i33 (mI M32 3 this 4).toNatClampNeg r35) := (Ow.wI (ow.to o10 rfl rfl) g12); (mo_w_Reader_number hD  (fun r39 M38 f16 => (have g17 : Ow w D T _ M0 M38 := (Ow.trans g15 f16); (mf_and fun _ => (Exists.imp fun M41 => (mf_and fun e18 => (have g19 : Ow w D T _ M0 M41 := Ow.of e18 (Ow.wI (ow.to o14 rfl rfl) g17); (mo_w_Reader_end hD  (fun M42 f20 => (have g21 : Ow w D T _ M0 M42 := (Ow.trans g19 f20); (Exists.imp fun i43 => (mf_and fun e22 => (mf_and fun _ => (mf_ite (mo_w_Reader_aMethod_j279 hD n0 lQ hQ lX hX g21) (mo_w_Reader_aMethod_j279 hD n0 lQ hQ lX hX g21))))))) (fun z25 f24 => hX z25 (Ow.dn lX (Ow.trans g19 f24))) g19.1))))))) (fun z27 f26 => hX z27 (Ow.dn lX (Ow.trans g15 f26))) g15.1)))))))) (fun z29 f28 => hX z29 (Ow.dn lX (Ow.trans g8 f28))) g8.1)))))) g4.1)))) g2.1) (hQ _  (Ow.dn lQ g2))))) (fun z31 f30 => hX z31 (Ow.dn lX (Ow.trans hf f30))) hf.1) (Exists.imp fun i58 => (mf_and fun e32 => (have o33 : ow w D 5 i58 := (Ow.rh e32 rfl n0 hf); (mf_and fun _ => (mf_and fun _ => (Exists.imp fun M61 => (mf_and fun e34 => (have g35 : Ow w D T _ M0 M61 := Ow.of e34 (Ow.wI (hD.2.1 o33) hf); (mo_w_Reader_aMethod_L134 hD n0 lQ hQ lX hX _ _ _ _  g35))))))))))
set_option maxRecDepth 20000 in
theorem mo_w_Reader_aMethod {w : Nat} {D : Nat → Nat → Prop} {T : Nat → Prop} {h : Hot} {this : Nat} {Q Q' : Mem → Prop} {X X' : Mem → Prop} {M : Mem} (hD : Dok w D) (n0 : h (3, this, 1) = true) (hQ : ∀ z0, Ow w D T h M z0 → Q z0 → Q' z0) (hX : ∀ z0, Ow w D T h M z0 → X z0 → X' z0) : St w D T h M → w_Reader_aMethod this Q X M → w_Reader_aMethod this Q' X' M := by
  intro hs
  unfold w_Reader_aMethod
  exact (mo_w_Words_next hD  (fun M1 f1 => (have g2 : Ow w D T _ M M1 := (Ow.trans (Ow.rf hs) f1); (mo_w_Reader_flags hD  (fun r3 M2 f3 => (have g4 : Ow w D T _ M M2 := (Ow.trans g2 f3); (mf_and fun _ => (mf_ite (mo_w_Words_next hD  (fun M6 f5 => (have g6 : Ow w D T _ M M6 := (Ow.trans g4 f5); (mo_w_Reader_types hD  (fun M7 f7 => (have g8 : Ow w D T _ M M7 := (Ow.trans g6 f7); (mo_w_Reader_result hD  (fun r9 M8 f9 => (have g10 : Ow w D T _ M M8 := (Ow.trans g8 f9); (mo_w_Reader_end hD  (fun M10 f11 => (have g12 : Ow w D T _ M M10 := (Ow.trans g10 f11); (mo_w_Reader_askMethod hD  (fun M11 f13 => (have g14 : Ow w D T _ M M11 := (Ow.trans g12 f13); (Exists.imp fun i12 => (mf_and fun e15 => (have o16 : ow w D 5 i12 := (Ow.rh e15 rfl n0 g14); (mo_w_World_addMethod hD o16 (fun r14 M13 f17 => (have g18 : Ow w D T _ M M13 := (Ow.trans g14 f17); (Exists.imp fun i15 => (mf_and fun e19 => (have o20 : ow w D 5 i15 := (Ow.rh e19 rfl n0 (Ow.wI (ow0 rfl) g18)); (mf_and fun _ => (mf_and fun _ => (Exists.imp fun M18 => (mf_and fun e21 => (have g22 : Ow w D T _ M M18 := Ow.of e21 (Ow.wI (ow.to o20 rfl rfl) (Ow.wI (ow0 rfl) g18)); (Exists.imp fun i19 => (mf_and fun e23 => (have o24 : ow w D 5 i19 := (Ow.rh e23 rfl n0 g22); (mf_and fun _ => (Exists.imp fun i21 => (mf_and fun e25 => (have o26 : ow w D 5 i21 := (Ow.rh e25 rfl n0 (Ow.wI (ow.to o24 rfl rfl) g22)); (mf_and fun _ => (Exists.imp fun M23 => (mf_and fun e27 => (have g28 : Ow w D T _ M M23 := Ow.of e27 (Ow.wI (ow.to o26 rfl rfl) (Ow.wI (ow.to o24 rfl rfl) g22)); (Exists.imp fun n62 => (mo_w_Reader_aMethod_L134 hD n0 (fun _ e => e) hQ (fun _ e => e) hX _ _ _ _  g28))))))))))))))))))))))) g14.1)))))) (fun z30 f29 => hX z30 (Ow.trans g12 f29)) g12.1))) (fun z32 f31 => hX z32 (Ow.trans g10 f31)) g10.1))) (fun z34 f33 => hX z34 (Ow.trans g8 f33)) g8.1))) (fun z36 f35 => hX z36 (Ow.trans g6 f35)) g6.1))) g4.1) (mo_w_Reader_wrong hD  (fun i64 M63 f37 => (have g38 : Ow w D T _ M M63 := (Ow.trans g4 f37); (mf_and fun _ => (hX _  g38)))) g4.1))))) g2.1))) (Ow.rf hs).1)
set_option maxRecDepth 20000 in
theorem mo_w_Reader_aClass_j338 {w : Nat} {D : Nat → Nat → Prop} {T : Nat → Prop} {h : Hot} {this : Nat} {Q Q' : Int32 → Mem → Prop} {h_Q : Hot} {X X' : Mem → Prop} {h_X : Hot} {M : Mem} {M0 : Mem} (hD : Dok w D)  (lQ : ∀ t, h_Q t = true → h t = true) (hQ : ∀ z0 z1, Ow w D T h_Q M0 z1 → Q z0 z1 → Q' z0 z1) (lX : ∀ t, h_X t = true → h t = true) (hX : ∀ z0, Ow w D T h_X M0 z0 → X z0 → X' z0) : Ow w D T h M0 M → w_Reader_aClass_j338 this Q X M → w_Reader_aClass_j338 this Q' X' M := by
  intro hf
  unfold w_Reader_aClass_j338
  exact (mo_w_Works_refuse hD  (fun i30 M29 f1 => (have g2 : Ow w D T _ M0 M29 := (Ow.trans hf f1); (mf_and fun _ => (hX _  (Ow.dn lX g2))))) hf.1)
set_option maxRecDepth 20000 in
theorem mo_w_Reader_aClass_L437 {w : Nat} {D : Nat → Nat → Prop} {T : Nat → Prop} {h : Hot} {this : Nat} {Q Q' : Int32 → Mem → Prop} {h_Q : Hot} {X X' : Mem → Prop} {h_X : Hot} {M0 : Mem} (hD : Dok w D) (n0 : h (3, this, 1) = true) (lQ : ∀ t, h_Q t = true → h t = true) (hQ : ∀ z0 z1, Ow w D T h_Q M0 z1 → Q z0 z1 → Q' z0 z1) (lX : ∀ t, h_X t = true → h t = true) (hX : ∀ z0, Ow w D T h_X M0 z0 → X z0 → X' z0) : ∀ (n : Nat) (M : Mem), Ow w D T h M0 M → w_Reader_aClass_L437 this Q X n M → w_Reader_aClass_L437 this Q' X' n M
  | 0, _ => fun  _ h => h
  | n + 1, M => fun  hf => by
    unfold w_Reader_aClass_L437
    exact (mo_w_Words_isWord hD  (fun r43 M42 f1 => (have g2 : Ow w D T _ M0 M42 := (Ow.trans hf f1); (mf_ite (mo_w_Words_isWord hD  (fun r46 M45 f3 => (have g4 : Ow w D T _ M0 M45 := (Ow.trans g2 f3); (mf_ite (mo_w_Words_isWord hD  (fun r49 M48 f5 => (have g6 : Ow w D T _ M0 M48 := (Ow.trans g4 f5); (mf_ite (mo_w_Reader_wrong hD  (fun i52 M51 f7 => (have g8 : Ow w D T _ M0 M51 := (Ow.trans g6 f7); (mf_and fun _ => (hX _  (Ow.dn lX g8))))) g6.1) (mo_w_Reader_aMethod hD n0 (fun M53 f9 => (have g10 : Ow w D T _ M0 M53 := (Ow.trans g6 f9); (mo_w_Reader_aClass_L437 hD n0 lQ hQ lX hX _ _  g10))) (fun z12 f11 => hX z12 (Ow.dn lX (Ow.trans g6 f11))) g6.1)))) g4.1) (mo_w_Reader_field hD n0 (fun M54 f13 => (have g14 : Ow w D T _ M0 M54 := (Ow.trans g4 f13); (mo_w_Reader_needLine hD  (fun M55 f15 => (have g16 : Ow w D T _ M0 M55 := (Ow.trans g14 f15); (mo_w_Reader_aClass_L437 hD n0 lQ hQ lX hX _ _  g16))) (fun z18 f17 => hX z18 (Ow.dn lX (Ow.trans g14 f17))) g14.1))) (fun z20 f19 => hX z20 (Ow.dn lX (Ow.trans g4 f19))) g4.1)))) g2.1) (mo_w_Words_next hD  (fun M56 f21 => (have g22 : Ow w D T _ M0 M56 := (Ow.trans g2 f21); (mo_w_Reader_end hD  (fun M57 f23 => (have g24 : Ow w D T _ M0 M57 := (Ow.trans g22 f23); (mo_w_Reader_nextLine hD  (fun r59 M58 f25 => (have g26 : Ow w D T _ M0 M58 := (Ow.trans g24 f25); (mf_and fun _ => (hQ _ _  (Ow.dn lQ g26))))) g24.1))) (fun z28 f27 => hX z28 (Ow.dn lX (Ow.trans g22 f27))) g22.1))) g2.1)))) hf.1)
set_option maxRecDepth 20000 in
theorem mo_w_Reader_aClass_L392 {w : Nat} {D : Nat → Nat → Prop} {T : Nat → Prop} {h : Hot} {this : Nat} {Q Q' : Int32 → Mem → Prop} {h_Q : Hot} {X X' : Mem → Prop} {h_X : Hot} {M0 : Mem} (hD : Dok w D) (n0 : h (3, this, 1) = true) (lQ : ∀ t, h_Q t = true → h t = true) (hQ : ∀ z0 z1, Ow w D T h_Q M0 z1 → Q z0 z1 → Q' z0 z1) (lX : ∀ t, h_X t = true → h t = true) (hX : ∀ z0, Ow w D T h_X M0 z0 → X z0 → X' z0) : ∀ (n : Nat) (v5 : Int32) (M : Mem), Ow w D T h M0 M → w_Reader_aClass_L392 this Q X n v5 M → w_Reader_aClass_L392 this Q' X' n v5 M
  | 0, _, _ => fun  _ h => h
  | n + 1, v5, M => fun  hf => by
    unfold w_Reader_aClass_L392
    exact (mf_ite (mo_w_Reader_needLine hD  (fun M41 f1 => (have g2 : Ow w D T _ M0 M41 := (Ow.trans hf f1); (Exists.imp fun n60 => (mo_w_Reader_aClass_L437 hD n0 lQ hQ lX hX _ _  g2)))) (fun z4 f3 => hX z4 (Ow.dn lX (Ow.trans hf f3))) hf.1) (Exists.imp fun i61 => (mf_and fun e5 => (have o6 : ow w D 5 i61 := (Ow.rh e5 rfl n0 hf); (mf_and fun _ => (mf_and fun _ => (Exists.imp fun M64 => (mf_and fun e7 => (have g8 : Ow w D T _ M0 M64 := Ow.of e7 (Ow.wI (ow.to o6 rfl rfl) hf); (mo_w_Reader_aClass_L392 hD n0 lQ hQ lX hX _ _ _  g8))))))))))
set_option maxRecDepth 20000 in
theorem mo_w_Reader_aClass_j284 {w : Nat} {D : Nat → Nat → Prop} {T : Nat → Prop} {h : Hot} {this : Nat} {Q Q' : Int32 → Mem → Prop} {h_Q : Hot} {X X' : Mem → Prop} {h_X : Hot} {k223 k223' : Int32 → Int32 → Int32 → Mem → Prop} {h_k223 : Hot} {k253 k253' : Int32 → Int32 → Int32 → Int32 → Int32 → Mem → Prop} {h_k253 : Hot} {v1 : Int32} {v2 : Int32} {v5 : Int32} {v7 : Int32} {s0 : Int32} {s1 : Int32} {M : Mem} {M0 : Mem} (hD : Dok w D)  (lQ : ∀ t, h_Q t = true → h t = true) (hQ : ∀ z0 z1, Ow w D T h_Q M0 z1 → Q z0 z1 → Q' z0 z1) (lX : ∀ t, h_X t = true → h t = true) (hX : ∀ z0, Ow w D T h_X M0 z0 → X z0 → X' z0) (lk223 : ∀ t, h_k223 t = true → h t = true) (hk223 : ∀ z0 z1 z2 z3, Ow w D T h_k223 M0 z3 → k223 z0 z1 z2 z3 → k223' z0 z1 z2 z3) (lk253 : ∀ t, h_k253 t = true → h t = true) (hk253 : ∀ z0 z1 z2 z3 z4 z5, Ow w D T h_k253 M0 z5 → k253 z0 z1 z2 z3 z4 z5 → k253' z0 z1 z2 z3 z4 z5) : Ow w D T h M0 M → w_Reader_aClass_j284 this Q X k223 k253 v1 v2 v5 v7 s0 s1 M → w_Reader_aClass_j284 this Q' X' k223' k253' v1 v2 v5 v7 s0 s1 M := by
  intro hf
  unfold w_Reader_aClass_j284
  exact (hk253 _ _ _ _ _ _  (Ow.dn lk253 hf))
set_option maxRecDepth 20000 in
theorem mo_w_Reader_aClass_L253 {w : Nat} {D : Nat → Nat → Prop} {T : Nat → Prop} {h : Hot} {this : Nat} {Q Q' : Int32 → Mem → Prop} {h_Q : Hot} {X X' : Mem → Prop} {h_X : Hot} {k223 k223' : Int32 → Int32 → Int32 → Mem → Prop} {h_k223 : Hot} {M0 : Mem} (hD : Dok w D)  (lQ : ∀ t, h_Q t = true → h t = true) (hQ : ∀ z0 z1, Ow w D T h_Q M0 z1 → Q z0 z1 → Q' z0 z1) (lX : ∀ t, h_X t = true → h t = true) (hX : ∀ z0, Ow w D T h_X M0 z0 → X z0 → X' z0) (lk223 : ∀ t, h_k223 t = true → h t = true) (hk223 : ∀ z0 z1 z2 z3, Ow w D T h_k223 M0 z3 → k223 z0 z1 z2 z3 → k223' z0 z1 z2 z3) : ∀ (n : Nat) (v1 : Int32) (v2 : Int32) (v5 : Int32) (v6 : Int32) (v7 : Int32) (M : Mem), Ow w D T h M0 M → w_Reader_aClass_L253 this Q X k223 n v1 v2 v5 v6 v7 M → w_Reader_aClass_L253 this Q' X' k223' n v1 v2 v5 v6 v7 M
  | 0, _, _, _, _, _, _ => fun  _ h => h
  | n + 1, v1, v2, v5, v6, v7, M => fun  hf => by
    unfold w_Reader_aClass_L253
    exact (mf_ite (mf_ite (hk223 _ _ _ _  (Ow.dn lk223 hf)) (mo_w_Works_refuse hD  (fun i71 M70 f1 => (have g2 : Ow w D T _ M0 M70 := (Ow.trans hf f1); (mf_and fun _ => (hX _  (Ow.dn lX g2))))) hf.1)) (mf_and fun _ => (mf_and fun _ => (mf_ite (mo_w_Reader_aClass_j284 hD  lQ hQ lX hX lk223 hk223 (fun _ e => e) (fun y0 y1 y2 y3 y4 y5  hf => mo_w_Reader_aClass_L253 hD  lQ hQ lX hX lk223 hk223 n y0 y1 y2 y3 y4 y5  hf) hf) (mo_w_Reader_aClass_j284 hD  lQ hQ lX hX lk223 hk223 (fun _ e => e) (fun y0 y1 y2 y3 y4 y5  hf => mo_w_Reader_aClass_L253 hD  lQ hQ lX hX lk223 hk223 n y0 y1 y2 y3 y4 y5  hf) hf)))))
set_option maxRecDepth 20000 in
theorem mo_w_Reader_aClass_j248 {w : Nat} {D : Nat → Nat → Prop} {T : Nat → Prop} {h : Hot} {this : Nat} {Q Q' : Int32 → Mem → Prop} {h_Q : Hot} {X X' : Mem → Prop} {h_X : Hot} {k223 k223' : Int32 → Int32 → Int32 → Mem → Prop} {h_k223 : Hot} {v1 : Int32} {v2 : Int32} {v5 : Int32} {s0 : Int32} {M : Mem} {M0 : Mem} (hD : Dok w D)  (lQ : ∀ t, h_Q t = true → h t = true) (hQ : ∀ z0 z1, Ow w D T h_Q M0 z1 → Q z0 z1 → Q' z0 z1) (lX : ∀ t, h_X t = true → h t = true) (hX : ∀ z0, Ow w D T h_X M0 z0 → X z0 → X' z0) (lk223 : ∀ t, h_k223 t = true → h t = true) (hk223 : ∀ z0 z1 z2 z3, Ow w D T h_k223 M0 z3 → k223 z0 z1 z2 z3 → k223' z0 z1 z2 z3) : Ow w D T h M0 M → w_Reader_aClass_j248 this Q X k223 v1 v2 v5 s0 M → w_Reader_aClass_j248 this Q' X' k223' v1 v2 v5 s0 M := by
  intro hf
  unfold w_Reader_aClass_j248
  exact (Exists.imp fun n75 => (mo_w_Reader_aClass_L253 hD  lQ hQ lX hX lk223 hk223 _ _ _ _ _ _ _  hf))
set_option maxRecDepth 20000 in
theorem mo_w_Reader_aClass_L223 {w : Nat} {D : Nat → Nat → Prop} {T : Nat → Prop} {h : Hot} {this : Nat} {Q Q' : Int32 → Mem → Prop} {h_Q : Hot} {X X' : Mem → Prop} {h_X : Hot} {M0 : Mem} (hD : Dok w D) (n0 : h (3, this, 1) = true) (lQ : ∀ t, h_Q t = true → h t = true) (hQ : ∀ z0 z1, Ow w D T h_Q M0 z1 → Q z0 z1 → Q' z0 z1) (lX : ∀ t, h_X t = true → h t = true) (hX : ∀ z0, Ow w D T h_X M0 z0 → X z0 → X' z0) : ∀ (n : Nat) (v1 : Int32) (v2 : Int32) (v5 : Int32) (M : Mem), Ow w D T h M0 M → w_Reader_aClass_L223 this Q X n v1 v2 v5 M → w_Reader_aClass_L223 this Q' X' n v1 v2 v5 M
  | 0, _, _, _, _ => fun  _ h => h
  | n + 1, v1, v2, v5, M => fun  hf => by
    unfold w_Reader_aClass_L223
    exact (mf_ite (mf_ite (mo_w_Reader_aClass_j338 hD  lQ hQ lX hX hf) (Exists.imp fun i31 => (mf_and fun e1 => (mf_ite (mo_w_Reader_aClass_j338 hD  lQ hQ lX hX hf) (Exists.imp fun i33 => (mf_and fun e3 => (have o4 : ow w D 5 i33 := (Ow.rh e3 rfl n0 hf); (mf_and fun _ => (mo_w_World_addClass hD o4 (fun r36 M35 f5 => (have g6 : Ow w D T _ M0 M35 := (Ow.trans hf f5); (Exists.imp fun i37 => (mf_and fun e7 => (have o8 : ow w D 5 i37 := (Ow.rh e7 rfl n0 (Ow.wI (ow0 rfl) g6)); (mf_and fun _ => (Exists.imp fun M39 => (mf_and fun e9 => (have g10 : Ow w D T _ M0 M39 := Ow.of e9 (Ow.wI (ow.to o8 rfl rfl) (Ow.wI (ow0 rfl) g6)); (Exists.imp fun n65 => (mo_w_Reader_aClass_L392 hD n0 lQ hQ lX hX _ _ _  g10))))))))))) hf.1))))))))) (mf_and fun _ => (mf_ite (mo_w_Reader_aClass_j248 hD  lQ hQ lX hX (fun _ e => e) (fun y0 y1 y2 y3  hf => mo_w_Reader_aClass_L223 hD n0 lQ hQ lX hX n y0 y1 y2 y3  hf) hf) (mo_w_Reader_aClass_j248 hD  lQ hQ lX hX (fun _ e => e) (fun y0 y1 y2 y3  hf => mo_w_Reader_aClass_L223 hD n0 lQ hQ lX hX n y0 y1 y2 y3  hf) hf))))
set_option maxRecDepth 20000 in
theorem mo_w_Reader_aClass_j220 {w : Nat} {D : Nat → Nat → Prop} {T : Nat → Prop} {h : Hot} {this : Nat} {Q Q' : Int32 → Mem → Prop} {h_Q : Hot} {X X' : Mem → Prop} {h_X : Hot} {v1 : Int32} {v2 : Int32} {M : Mem} {M0 : Mem} (hD : Dok w D) (n0 : h (3, this, 1) = true) (lQ : ∀ t, h_Q t = true → h t = true) (hQ : ∀ z0 z1, Ow w D T h_Q M0 z1 → Q z0 z1 → Q' z0 z1) (lX : ∀ t, h_X t = true → h t = true) (hX : ∀ z0, Ow w D T h_X M0 z0 → X z0 → X' z0) : Ow w D T h M0 M → w_Reader_aClass_j220 this Q X v1 v2 M → w_Reader_aClass_j220 this Q' X' v1 v2 M := by
  intro hf
  unfold w_Reader_aClass_j220
  exact (Exists.imp fun n76 => (mo_w_Reader_aClass_L223 hD n0 lQ hQ lX hX _ _ _ _ _  hf))
set_option maxRecDepth 20000 in
theorem mo_w_Reader_aClass_j189 {w : Nat} {D : Nat → Nat → Prop} {T : Nat → Prop} {h : Hot} {this : Nat} {Q Q' : Int32 → Mem → Prop} {h_Q : Hot} {X X' : Mem → Prop} {h_X : Hot} {v1 : Int32} {v2 : Int32} {s0 : Int32} {M : Mem} {M0 : Mem} (hD : Dok w D) (n0 : h (3, this, 1) = true) (lQ : ∀ t, h_Q t = true → h t = true) (hQ : ∀ z0 z1, Ow w D T h_Q M0 z1 → Q z0 z1 → Q' z0 z1) (lX : ∀ t, h_X t = true → h t = true) (hX : ∀ z0, Ow w D T h_X M0 z0 → X z0 → X' z0) : Ow w D T h M0 M → w_Reader_aClass_j189 this Q X v1 v2 s0 M → w_Reader_aClass_j189 this Q' X' v1 v2 s0 M := by
  intro hf
  unfold w_Reader_aClass_j189
  exact (mf_ite (mo_w_Reader_aClass_j220 hD n0 lQ hQ lX hX hf) (Exists.imp fun i77 => (mf_and fun e1 => (mo_w_World_asks hD  (fun r79 M78 f3 => (have g4 : Ow w D T _ M0 M78 := (Ow.trans hf f3); (mf_ite (mo_w_Reader_aClass_j220 hD n0 lQ hQ lX hX g4) (mo_w_Works_refuse hD  (fun i82 M81 f5 => (have g6 : Ow w D T _ M0 M81 := (Ow.trans g4 f5); (mf_and fun _ => (hX _  (Ow.dn lX g6))))) g4.1)))) hf.1))))
set_option maxRecDepth 20000 in
theorem mo_w_Reader_aClass_j188 {w : Nat} {D : Nat → Nat → Prop} {T : Nat → Prop} {h : Hot} {this : Nat} {Q Q' : Int32 → Mem → Prop} {h_Q : Hot} {X X' : Mem → Prop} {h_X : Hot} {v1 : Int32} {v2 : Int32} {M : Mem} {M0 : Mem} (hD : Dok w D) (n0 : h (3, this, 1) = true) (lQ : ∀ t, h_Q t = true → h t = true) (hQ : ∀ z0 z1, Ow w D T h_Q M0 z1 → Q z0 z1 → Q' z0 z1) (lX : ∀ t, h_X t = true → h t = true) (hX : ∀ z0, Ow w D T h_X M0 z0 → X z0 → X' z0) : Ow w D T h M0 M → w_Reader_aClass_j188 this Q X v1 v2 M → w_Reader_aClass_j188 this Q' X' v1 v2 M := by
  intro hf
  unfold w_Reader_aClass_j188
  exact (mo_w_Reader_aClass_j189 hD n0 lQ hQ lX hX hf)
set_option maxRecDepth 20000 in
theorem mo_w_Reader_aClass_j184 {w : Nat} {D : Nat → Nat → Prop} {T : Nat → Prop} {h : Hot} {this : Nat} {Q Q' : Int32 → Mem → Prop} {h_Q : Hot} {X X' : Mem → Prop} {h_X : Hot} {v1 : Int32} {v2 : Int32} {M : Mem} {M0 : Mem} (hD : Dok w D) (n0 : h (3, this, 1) = true) (lQ : ∀ t, h_Q t = true → h t = true) (hQ : ∀ z0 z1, Ow w D T h_Q M0 z1 → Q z0 z1 → Q' z0 z1) (lX : ∀ t, h_X t = true → h t = true) (hX : ∀ z0, Ow w D T h_X M0 z0 → X z0 → X' z0) : Ow w D T h M0 M → w_Reader_aClass_j184 this Q X v1 v2 M → w_Reader_aClass_j184 this Q' X' v1 v2 M := by
  intro hf
  unfold w_Reader_aClass_j184
  exact (mo_w_Reader_aClass_j189 hD n0 lQ hQ lX hX hf)
set_option maxRecDepth 20000 in
theorem mo_w_Reader_aClass_j169 {w : Nat} {D : Nat → Nat → Prop} {T : Nat → Prop} {h : Hot} {this : Nat} {Q Q' : Int32 → Mem → Prop} {h_Q : Hot} {X X' : Mem → Prop} {h_X : Hot} {v1 : Int32} {v2 : Int32} {v3 : Int32} {M : Mem} {M0 : Mem} (hD : Dok w D) (n0 : h (3, this, 1) = true) (lQ : ∀ t, h_Q t = true → h t = true) (hQ : ∀ z0 z1, Ow w D T h_Q M0 z1 → Q z0 z1 → Q' z0 z1) (lX : ∀ t, h_X t = true → h t = true) (hX : ∀ z0, Ow w D T h_X M0 z0 → X z0 → X' z0) : Ow w D T h M0 M → w_Reader_aClass_j169 this Q X v1 v2 v3 M → w_Reader_aClass_j169 this Q' X' v1 v2 v3 M := by
  intro hf
  unfold w_Reader_aClass_j169
  exact (mf_ite (mo_w_Reader_aClass_j188 hD n0 lQ hQ lX hX hf) (mf_and fun _ => (mf_ite (mo_w_Reader_aClass_j188 hD n0 lQ hQ lX hX hf) (mo_w_Reader_aClass_j184 hD n0 lQ hQ lX hX hf))))
set_option maxRecDepth 20000 in
theorem mo_w_Reader_aClass_j159 {w : Nat} {D : Nat → Nat → Prop} {T : Nat → Prop} {h : Hot} {this : Nat} {Q Q' : Int32 → Mem → Prop} {h_Q : Hot} {X X' : Mem → Prop} {h_X : Hot} {v1 : Int32} {v2 : Int32} {v3 : Int32} {M : Mem} {M0 : Mem} (hD : Dok w D) (n0 : h (3, this, 1) = true) (lQ : ∀ t, h_Q t = true → h t = true) (hQ : ∀ z0 z1, Ow w D T h_Q M0 z1 → Q z0 z1 → Q' z0 z1) (lX : ∀ t, h_X t = true → h t = true) (hX : ∀ z0, Ow w D T h_X M0 z0 → X z0 → X' z0) : Ow w D T h M0 M → w_Reader_aClass_j159 this Q X v1 v2 v3 M → w_Reader_aClass_j159 this Q' X' v1 v2 v3 M := by
  intro hf
  unfold w_Reader_aClass_j159
  exact (mf_ite (mo_w_Reader_aClass_j169 hD n0 lQ hQ lX hX hf) (mf_ite (mo_w_Reader_aClass_j169 hD n0 lQ hQ lX hX hf) (mo_w_Reader_aClass_j184 hD n0 lQ hQ lX hX hf)))
set_option maxRecDepth 20000 in
theorem mo_w_Reader_aClass_j147 {w : Nat} {D : Nat → Nat → Prop} {T : Nat → Prop} {h : Hot} {this : Nat} {Q Q' : Int32 → Mem → Prop} {h_Q : Hot} {X X' : Mem → Prop} {h_X : Hot} {v1 : Int32} {v2 : Int32} {s0 : Int32} {M : Mem} {M0 : Mem} (hD : Dok w D) (n0 : h (3, this, 1) = true) (lQ : ∀ t, h_Q t = true → h t = true) (hQ : ∀ z0 z1, Ow w D T h_Q M0 z1 → Q z0 z1 → Q' z0 z1) (lX : ∀ t, h_X t = true → h t = true) (hX : ∀ z0, Ow w D T h_X M0 z0 → X z0 → X' z0) : Ow w D T h M0 M → w_Reader_aClass_j147 this Q X v1 v2 s0 M → w_Reader_aClass_j147 this Q' X' v1 v2 s0 M := by
  intro hf
  unfold w_Reader_aClass_j147
  exact (mf_ite (mo_w_Reader_aClass_j159 hD n0 lQ hQ lX hX hf) (mf_ite (mo_w_Reader_aClass_j159 hD n0 lQ hQ lX hX hf) (mo_w_Reader_aClass_j184 hD n0 lQ hQ lX hX hf)))
set_option maxRecDepth 20000 in
theorem mo_w_Reader_aClass_L67 {w : Nat} {D : Nat → Nat → Prop} {T : Nat → Prop} {h : Hot} {this : Nat} {Q Q' : Int32 → Mem → Prop} {h_Q : Hot} {X X' : Mem → Prop} {h_X : Hot} {M0 : Mem} (hD : Dok w D) (n0 : h (3, this, 1) = true) (lQ : ∀ t, h_Q t = true → h t = true) (hQ : ∀ z0 z1, Ow w D T h_Q M0 z1 → Q z0 z1 → Q' z0 z1) (lX : ∀ t, h_X t = true → h t = true) (hX : ∀ z0, Ow w D T h_X M0 z0 → X z0 → X' z0) : ∀ (n : Nat) (v1 : Int32) (v2 : Int32) (M : Mem), Ow w D T h M0 M → w_Reader_aClass_L67 this Q X n v1 v2 M → w_Reader_aClass_L67 this Q' X' n v1 v2 M
  | 0, _, _, _ => fun  _ h => h
  | n + 1, v1, v2, M => fun  hf => by
    unfold w_Reader_aClass_L67
    exact (mf_and fun _ => (mf_ite (Exists.imp fun i18 => (mf_and fun e1 => (mo_w_World_find hD  (fun r20 M19 f3 => (have g4 : Ow w D T _ M0 M19 := (Ow.trans hf f3); (mf_ite (mf_ite (mo_w_Reader_aClass_j147 hD n0 lQ hQ lX hX g4) (mo_w_Reader_aClass_j147 hD n0 lQ hQ lX hX g4)) (mo_w_Works_refuse hD  (fun i88 M87 f5 => (have g6 : Ow w D T _ M0 M87 := (Ow.trans g4 f5); (mf_and fun _ => (hX _  (Ow.dn lX g6))))) g4.1)))) hf.1))) (mo_w_Reader_sign hD  (fun M89 f7 => (have g8 : Ow w D T _ M0 M89 := (Ow.trans hf f7); (mo_w_Reader_className hD  (fun r91 M90 f9 => (have g10 : Ow w D T _ M0 M90 := (Ow.trans g8 f9); (mf_and fun _ => (Exists.imp fun M93 => (mf_and fun e11 => (have g12 : Ow w D T _ M0 M93 := Ow.of e11 (Ow.wI (ow0 rfl) (Ow.wI hD.1 g10)); (mo_w_Reader_aClass_L67 hD n0 lQ hQ lX hX _ _ _ _  g12))))))) (fun z14 f13 => hX z14 (Ow.dn lX (Ow.trans g8 f13))) g8.1))) (fun z16 f15 => hX z16 (Ow.dn lX (Ow.trans hf f15))) hf.1)))
set_option maxRecDepth 20000 in
theorem mo_w_Reader_aClass {w : Nat} {D : Nat → Nat → Prop} {T : Nat → Prop} {h : Hot} {this : Nat} {Q Q' : Int32 → Mem → Prop} {X X' : Mem → Prop} {M : Mem} (hD : Dok w D) (n0 : h (3, this, 1) = true) (hQ : ∀ z0 z1, Ow w D T h M z1 → Q z0 z1 → Q' z0 z1) (hX : ∀ z0, Ow w D T h M z0 → X z0 → X' z0) : St w D T h M → w_Reader_aClass this Q X M → w_Reader_aClass this Q' X' M := by
  intro hs
  unfold w_Reader_aClass
  exact (mo_w_Reader_flags hD  (fun r2 M1 f1 => (have g2 : Ow w D T _ M M1 := (Ow.trans (Ow.rf hs) f1); (mo_w_Words_isWord hD  (fun r4 M3 f3 => (have g4 : Ow w D T _ M M3 := (Ow.trans g2 f3); (mf_ite (mo_w_Reader_wrong hD  (fun i7 M6 f5 => (have g6 : Ow w D T _ M M6 := (Ow.trans g4 f5); (mf_and fun _ => (hX _  g6)))) g4.1) (mo_w_Words_next hD  (fun M8 f7 => (have g8 : Ow w D T _ M M8 := (Ow.trans g4 f7); (mo_w_Reader_className hD  (fun r10 M9 f9 => (have g10 : Ow w D T _ M M9 := (Ow.trans g8 f9); (mo_w_Reader_sign hD  (fun M11 f11 => (have g12 : Ow w D T _ M M11 := (Ow.trans g10 f11); (have g13 : Ow w D T _ M (sI M11 3 this 18 (0 : Int32)) := (Ow.wI (ow0 rfl) g12); (mo_w_Reader_className hD  (fun r13 M12 f14 => (have g15 : Ow w D T _ M M12 := (Ow.trans g13 f14); (mf_and fun _ => (Exists.imp fun M15 => (mf_and fun e16 => (have g17 : Ow w D T _ M M15 := Ow.of e16 (Ow.wI (ow0 rfl) (Ow.wI hD.1 g15)); (Exists.imp fun n94 => (mo_w_Reader_aClass_L67 hD n0 (fun _ e => e) hQ (fun _ e => e) hX _ _ _ _  g17)))))))) (fun z19 f18 => hX z19 (Ow.trans g13 f18)) g13.1)))) (fun z21 f20 => hX z21 (Ow.trans g10 f20)) g10.1))) (fun z23 f22 => hX z23 (Ow.trans g8 f22)) g8.1))) g4.1)))) g2.1))) (Ow.rf hs).1)
set_option maxRecDepth 20000 in
theorem mo_w_Reader_define_j129 {w : Nat} {D : Nat → Nat → Prop} {T : Nat → Prop} {h : Hot} {this : Nat} {Q Q' : Int32 → Mem → Prop} {h_Q : Hot} {X X' : Mem → Prop} {h_X : Hot} {v4 : Int32} {v5 : Int32} {v6 : Int32} {v7 : Int32} {v8 : Int32} {v9 : Int32} {v10 : Int32} {v11 : Int32} {s0 : Nat} {M : Mem} {M0 : Mem} (hD : Dok w D) (n0 : h (3, this, 1) = true) (lQ : ∀ t, h_Q t = true → h t = true) (hQ : ∀ z0 z1, Ow w D T h_Q M0 z1 → Q z0 z1 → Q' z0 z1) (lX : ∀ t, h_X t = true → h t = true) (hX : ∀ z0, Ow w D T h_X M0 z0 → X z0 → X' z0) : Ow w D T h M0 M → w_Reader_define_j129 this Q X v4 v5 v6 v7 v8 v9 v10 v11 s0 M → w_Reader_define_j129 this Q' X' v4 v5 v6 v7 v8 v9 v10 v11 s0 M := by
  intro hf
  unfold w_Reader_define_j129
  exact (Exists.imp fun i16 => (mf_and fun e1 => (have o2 : ow w D 5 i16 := (Ow.rh e1 rfl n0 hf); (Exists.imp fun i17 => (mf_and fun e3 => (have o4 : ow w D 5 i17 := (Ow.rh e3 rfl n0 (Ow.wI o2 hf)); (Exists.imp fun i18 => (mf_and fun e5 => (have o6 : ow w D 5 i18 := (Ow.rh e5 rfl n0 (Ow.wI o4 (Ow.wI o2 hf))); (Exists.imp fun i19 => (mf_and fun e7 => (have o8 : ow w D 5 i19 := (Ow.rh e7 rfl n0 (Ow.wI o6 (Ow.wI o4 (Ow.wI o2 hf)))); (Exists.imp fun i20 => (mf_and fun e9 => (have o10 : ow w D 5 i20 := (Ow.rh e9 rfl n0 (Ow.wI o8 (Ow.wI o6 (Ow.wI o4 (Ow.wI o2 hf))))); (Exists.imp fun M21 => (mf_and fun e11 => (have g12 : Ow w D T _ M0 M21 := Ow.of e11 (Ow.wI o10 (Ow.wI o8 (Ow.wI o6 (Ow.wI o4 (Ow.wI o2 hf))))); (Exists.imp fun i22 => (mf_and fun e13 => (have o14 : ow w D 5 i22 := (Ow.rh e13 rfl n0 g12); (Exists.imp fun i23 => (mf_and fun e15 => (have o16 : ow w D 5 i23 := (Ow.rh e15 rfl n0 (Ow.wI o14 g12)); (Exists.imp fun i24 => (mf_and fun e17 => (have o18 : ow w D 5 i24 := (Ow.rh e17 rfl n0 (Ow.wI o16 (Ow.wI o14 g12))); (mf_and fun _ => (hX _  (Ow.dn lX (Ow.wI o18 (Ow.wI o16 (Ow.wI o14 g12)))))))))))))))))))))))))))))))))
set_option maxRecDepth 20000 in
theorem mo_w_Reader_define_L104 {w : Nat} {D : Nat → Nat → Prop} {T : Nat → Prop} {h : Hot} {this : Nat} {Q Q' : Int32 → Mem → Prop} {h_Q : Hot} {X X' : Mem → Prop} {h_X : Hot} {M0 : Mem} (hD : Dok w D) (n0 : h (3, this, 1) = true) (lQ : ∀ t, h_Q t = true → h t = true) (hQ : ∀ z0 z1, Ow w D T h_Q M0 z1 → Q z0 z1 → Q' z0 z1) (lX : ∀ t, h_X t = true → h t = true) (hX : ∀ z0, Ow w D T h_X M0 z0 → X z0 → X' z0) : ∀ (n : Nat) (v4 : Int32) (v5 : Int32) (v6 : Int32) (v7 : Int32) (v8 : Int32) (v9 : Int32) (v10 : Int32) (v11 : Int32) (v12 : Int32) (M : Mem), Ow w D T h M0 M → w_Reader_define_L104 this Q X n v4 v5 v6 v7 v8 v9 v10 v11 v12 M → w_Reader_define_L104 this Q' X' n v4 v5 v6 v7 v8 v9 v10 v11 v12 M
  | 0, _, _, _, _, _, _, _, _, _, _ => fun  _ h => h
  | n + 1, v4, v5, v6, v7, v8, v9, v10, v11, v12, M => fun  hf => by
    unfold w_Reader_define_L104
    exact (mf_ite (Exists.imp fun i12 => (mf_and fun e1 => (hQ _ _  (Ow.dn lQ hf)))) (mo_w_Reader_aClass hD n0 (fun r14 M13 f3 => (have g4 : Ow w D T _ M0 M13 := (Ow.trans hf f3); (mo_w_Reader_define_L104 hD n0 lQ hQ lX hX _ _ _ _ _ _ _ _ _ _ _  g4))) (fun M15 f5 => (have g6 : Ow w D T _ M0 M15 := (Ow.trans hf f5); (mo_w_Reader_define_j129 hD n0 lQ hQ lX hX g6))) hf.1))
set_option maxRecDepth 20000 in
theorem mo_w_Reader_define_j102 {w : Nat} {D : Nat → Nat → Prop} {T : Nat → Prop} {h : Hot} {this : Nat} {Q Q' : Int32 → Mem → Prop} {h_Q : Hot} {X X' : Mem → Prop} {h_X : Hot} {v4 : Int32} {v5 : Int32} {v6 : Int32} {v7 : Int32} {v8 : Int32} {v9 : Int32} {v10 : Int32} {v11 : Int32} {s0 : Int32} {M : Mem} {M0 : Mem} (hD : Dok w D) (n0 : h (3, this, 1) = true) (lQ : ∀ t, h_Q t = true → h t = true) (hQ : ∀ z0 z1, Ow w D T h_Q M0 z1 → Q z0 z1 → Q' z0 z1) (lX : ∀ t, h_X t = true → h t = true) (hX : ∀ z0, Ow w D T h_X M0 z0 → X z0 → X' z0) : Ow w D T h M0 M → w_Reader_define_j102 this Q X v4 v5 v6 v7 v8 v9 v10 v11 s0 M → w_Reader_define_j102 this Q' X' v4 v5 v6 v7 v8 v9 v10 v11 s0 M := by
  intro hf
  unfold w_Reader_define_j102
  exact (Exists.imp fun n25 => (mo_w_Reader_define_L104 hD n0 lQ hQ lX hX _ _ _ _ _ _ _ _ _ _ _  hf))
set_option maxRecDepth 20000 in
theorem mo_w_Reader_define_j101 {w : Nat} {D : Nat → Nat → Prop} {T : Nat → Prop} {h : Hot} {this : Nat} {Q Q' : Int32 → Mem → Prop} {h_Q : Hot} {X X' : Mem → Prop} {h_X : Hot} {v4 : Int32} {v5 : Int32} {v6 : Int32} {v7 : Int32} {v8 : Int32} {v9 : Int32} {v10 : Int32} {v11 : Int32} {M : Mem} {M0 : Mem} (hD : Dok w D) (n0 : h (3, this, 1) = true) (lQ : ∀ t, h_Q t = true → h t = true) (hQ : ∀ z0 z1, Ow w D T h_Q M0 z1 → Q z0 z1 → Q' z0 z1) (lX : ∀ t, h_X t = true → h t = true) (hX : ∀ z0, Ow w D T h_X M0 z0 → X z0 → X' z0) : Ow w D T h M0 M → w_Reader_define_j101 this Q X v4 v5 v6 v7 v8 v9 v10 v11 M → w_Reader_define_j101 this Q' X' v4 v5 v6 v7 v8 v9 v10 v11 M := by
  intro hf
  unfold w_Reader_define_j101
  exact (mo_w_Reader_define_j102 hD n0 lQ hQ lX hX hf)
set_option maxRecDepth 20000 in
theorem mo_w_Reader_define {w : Nat} {D : Nat → Nat → Prop} {T : Nat → Prop} {h : Hot} {this : Nat} {a1 : Nat} {a2 : Nat} {a3 : Int32} {Q Q' : Int32 → Mem → Prop} {X X' : Mem → Prop} {M : Mem} (hD : Dok w D) (n0 : ow w D 5 a1) (hQ : ∀ z0 z1, Ow w D T h M z1 → Q z0 z1 → Q' z0 z1) (hX : ∀ z0, Ow w D T h M z0 → X z0 → X' z0) : St w D T h M → w_Reader_define this a1 a2 a3 Q X M → w_Reader_define this a1 a2 a3 Q' X' M := by
  intro hs
  unfold w_Reader_define
  exact (Exists.imp fun i1 => (mf_and fun e1 => (Exists.imp fun i2 => (mf_and fun e3 => (Exists.imp fun i3 => (mf_and fun e5 => (Exists.imp fun i4 => (mf_and fun e7 => (Exists.imp fun i5 => (mf_and fun e9 => (Exists.imp fun i6 => (mf_and fun e11 => (Exists.imp fun i7 => (mf_and fun e13 => (Exists.imp fun i8 => (mf_and fun e15 => (have g17 : Ow w D T _ M (sR M 3 this 1 (some (5, a1))) := (Ow.wRh rfl (ow0 rfl) n0 (Ow.rf hs)); (mo_w_Words_begin hD  (fun M9 f18 => (have g19 : Ow w D T _ M M9 := (Ow.trans g17 f18); (mf_ite (mo_w_Reader_define_j101 hD up_s (leU (fun _ e => e)) hQ (leU (fun _ e => e)) hX g19) (mo_w_Reader_begin hD  (fun r27 M26 f20 => (have g21 : Ow w D T _ M M26 := (Ow.trans g19 f20); (mf_ite (mo_w_Reader_define_j101 hD up_s (leU (fun _ e => e)) hQ (leU (fun _ e => e)) hX g21) (mo_w_Reader_define_j102 hD up_s (leU (fun _ e => e)) hQ (leU (fun _ e => e)) hX g21)))) g19.1)))) g17.1))))))))))))))))))
set_option maxRecDepth 20000 in
theorem mo_w_Reader_call_j87 {w : Nat} {D : Nat → Nat → Prop} {T : Nat → Prop} {h : Hot} {this : Nat} {Q Q' : Mem → Prop} {h_Q : Hot} {X X' : Mem → Prop} {h_X : Hot} {M : Mem} {M0 : Mem} (hD : Dok w D)  (lQ : ∀ t, h_Q t = true → h t = true) (hQ : ∀ z0, Ow w D T h_Q M0 z0 → Q z0 → Q' z0) (lX : ∀ t, h_X t = true → h t = true) (hX : ∀ z0, Ow w D T h_X M0 z0 → X z0 → X' z0) : Ow w D T h M0 M → w_Reader_call_j87 this Q X M → w_Reader_call_j87 this Q' X' M := by
  intro hf
  unfold w_Reader_call_j87
  exact (mo_w_Reader_wrong hD  (fun i16 M15 f1 => (have g2 : Ow w D T _ M0 M15 := (Ow.trans hf f1); (mf_and fun _ => (hX _  (Ow.dn lX g2))))) hf.1)
set_option maxRecDepth 20000 in
theorem mo_w_Reader_call_j67 {w : Nat} {D : Nat → Nat → Prop} {T : Nat → Prop} {h : Hot} {this : Nat} {Q Q' : Mem → Prop} {h_Q : Hot} {X X' : Mem → Prop} {h_X : Hot} {k42 k42' : Int32 → Int32 → Int32 → Int32 → Mem → Prop} {h_k42 : Hot} {v2 : Int32} {v3 : Int32} {v4 : Int32} {v5 : Int32} {M : Mem} {M0 : Mem} (hD : Dok w D)  (lQ : ∀ t, h_Q t = true → h t = true) (hQ : ∀ z0, Ow w D T h_Q M0 z0 → Q z0 → Q' z0) (lX : ∀ t, h_X t = true → h t = true) (hX : ∀ z0, Ow w D T h_X M0 z0 → X z0 → X' z0) (lk42 : ∀ t, h_k42 t = true → h t = true) (hk42 : ∀ z0 z1 z2 z3 z4, Ow w D T h_k42 M0 z4 → k42 z0 z1 z2 z3 z4 → k42' z0 z1 z2 z3 z4) : Ow w D T h M0 M → w_Reader_call_j67 this Q X k42 v2 v3 v4 v5 M → w_Reader_call_j67 this Q' X' k42' v2 v3 v4 v5 M := by
  intro hf
  unfold w_Reader_call_j67
  exact (mo_w_Words_isWord hD  (fun r13 M12 f1 => (have g2 : Ow w D T _ M0 M12 := (Ow.trans hf f1); (mf_ite (mo_w_Reader_call_j87 hD  lQ hQ lX hX g2) (mf_ite (mo_w_Reader_call_j87 hD  lQ hQ lX hX g2) (mf_and fun _ => (Exists.imp fun M19 => (mf_and fun e3 => (have g4 : Ow w D T _ M0 M19 := Ow.of e3 (Ow.wI (ow0 rfl) (Ow.wI hD.1 g2)); (mo_w_Words_next hD  (fun M20 f5 => (have g6 : Ow w D T _ M0 M20 := (Ow.trans g4 f5); (hk42 _ _ _ _ _  (Ow.dn lk42 g6)))) g4.1))))))))) hf.1)
set_option maxRecDepth 20000 in
theorem mo_w_Reader_call_j160 {w : Nat} {D : Nat → Nat → Prop} {T : Nat → Prop} {h : Hot} {this : Nat} {Q Q' : Mem → Prop} {h_Q : Hot} {X X' : Mem → Prop} {h_X : Hot} {k138 k138' : Int32 → Int32 → Int32 → Int32 → Int32 → Int32 → Mem → Prop} {h_k138 : Hot} {v2 : Int32} {v3 : Int32} {v4 : Int32} {v5 : Int32} {v6 : Int32} {v7 : Int32} {s0 : Int32} {M : Mem} {M0 : Mem} (hD : Dok w D)  (lQ : ∀ t, h_Q t = true → h t = true) (hQ : ∀ z0, Ow w D T h_Q M0 z0 → Q z0 → Q' z0) (lX : ∀ t, h_X t = true → h t = true) (hX : ∀ z0, Ow w D T h_X M0 z0 → X z0 → X' z0) (lk138 : ∀ t, h_k138 t = true → h t = true) (hk138 : ∀ z0 z1 z2 z3 z4 z5 z6, Ow w D T h_k138 M0 z6 → k138 z0 z1 z2 z3 z4 z5 z6 → k138' z0 z1 z2 z3 z4 z5 z6) : Ow w D T h M0 M → w_Reader_call_j160 this Q X k138 v2 v3 v4 v5 v6 v7 s0 M → w_Reader_call_j160 this Q' X' k138' v2 v3 v4 v5 v6 v7 s0 M := by
  intro hf
  unfold w_Reader_call_j160
  exact (mo_w_Reader_sign hD  (fun M32 f1 => (have g2 : Ow w D T _ M0 M32 := (Ow.trans hf f1); (mo_w_Reader_number hD  (fun r34 M33 f3 => (have g4 : Ow w D T _ M0 M33 := (Ow.trans g2 f3); (mf_and fun _ => (hk138 _ _ _ _ _ _ _  (Ow.dn lk138 (Ow.wI (ow0 rfl) g4)))))) (fun z6 f5 => hX z6 (Ow.dn lX (Ow.trans g2 f5))) g2.1))) (fun z8 f7 => hX z8 (Ow.dn lX (Ow.trans hf f7))) hf.1)
set_option maxRecDepth 20000 in
theorem mo_w_Reader_call_L138 {w : Nat} {D : Nat → Nat → Prop} {T : Nat → Prop} {h : Hot} {this : Nat} {Q Q' : Mem → Prop} {h_Q : Hot} {X X' : Mem → Prop} {h_X : Hot} {M0 : Mem} (hD : Dok w D) (n0 : h (3, this, 1) = true) (lQ : ∀ t, h_Q t = true → h t = true) (hQ : ∀ z0, Ow w D T h_Q M0 z0 → Q z0 → Q' z0) (lX : ∀ t, h_X t = true → h t = true) (hX : ∀ z0, Ow w D T h_X M0 z0 → X z0 → X' z0) : ∀ (n : Nat) (v2 : Int32) (v3 : Int32) (v4 : Int32) (v5 : Int32) (v6 : Int32) (v7 : Int32) (M : Mem), Ow w D T h M0 M → w_Reader_call_L138 this Q X n v2 v3 v4 v5 v6 v7 M → w_Reader_call_L138 this Q' X' n v2 v3 v4 v5 v6 v7 M
  | 0, _, _, _, _, _, _, _ => fun  _ h => h
  | n + 1, v2, v3, v4, v5, v6, v7, M => fun  hf => by
    unfold w_Reader_call_L138
    exact (mf_ite (mo_w_Reader_end hD  (fun M26 f1 => (have g2 : Ow w D T _ M0 M26 := (Ow.trans hf f1); (Exists.imp fun i27 => (mf_and fun e3 => (have o4 : ow w D 5 i27 := (Ow.rh e3 rfl n0 g2); (have g5 : Ow w D T _ M0 (sI M26 5 i27 53 v2) := (Ow.wI o4 g2); (mo_w_Reader_addReference hD n0 (fun r29 M28 f6 => (have g7 : Ow w D T _ M0 M28 := (Ow.trans g5 f6); (Exists.imp fun i30 => (mf_and fun e8 => (have o9 : ow w D 5 i30 := (Ow.rh e8 rfl n0 g7); (hQ _  (Ow.dn lQ (Ow.wI o9 g7)))))))) g5.1))))))) (fun z11 f10 => hX z11 (Ow.dn lX (Ow.trans hf f10))) hf.1) (mf_ite (mo_w_Reader_call_j160 hD  lQ hQ lX hX (fun _ e => e) (fun y0 y1 y2 y3 y4 y5 y6  hf => mo_w_Reader_call_L138 hD n0 lQ hQ lX hX n y0 y1 y2 y3 y4 y5 y6  hf) hf) (mo_w_Reader_call_j160 hD  lQ hQ lX hX (fun _ e => e) (fun y0 y1 y2 y3 y4 y5 y6  hf => mo_w_Reader_call_L138 hD n0 lQ hQ lX hX n y0 y1 y2 y3 y4 y5 y6  hf) hf)))
set_option maxRecDepth 20000 in
theorem mo_w_Reader_call_L42 {w : Nat} {D : Nat → Nat → Prop} {T : Nat → Prop} {h : Hot} {this : Nat} {Q Q' : Mem → Prop} {h_Q : Hot} {X X' : Mem → Prop} {h_X : Hot} {M0 : Mem} (hD : Dok w D) (n0 : h (3, this, 1) = true) (lQ : ∀ t, h_Q t = true → h t = true) (hQ : ∀ z0, Ow w D T h_Q M0 z0 → Q z0 → Q' z0) (lX : ∀ t, h_X t = true → h t = true) (hX : ∀ z0, Ow w D T h_X M0 z0 → X z0 → X' z0) : ∀ (n : Nat) (v2 : Int32) (v3 : Int32) (v4 : Int32) (v5 : Int32) (M : Mem), Ow w D T h M0 M → w_Reader_call_L42 this Q X n v2 v3 v4 v5 M → w_Reader_call_L42 this Q' X' n v2 v3 v4 v5 M
  | 0, _, _, _, _, _ => fun  _ h => h
  | n + 1, v2, v3, v4, v5, M => fun  hf => by
    unfold w_Reader_call_L42
    exact (mo_w_Words_isSign hD  (fun r9 M8 f1 => (have g2 : Ow w D T _ M0 M8 := (Ow.trans hf f1); (mf_ite (mf_ite (mo_w_Reader_call_j67 hD  lQ hQ lX hX (fun _ e => e) (fun y0 y1 y2 y3 y4  hf => mo_w_Reader_call_L42 hD n0 lQ hQ lX hX n y0 y1 y2 y3 y4  hf) g2) (mo_w_Reader_sign hD  (fun M21 f3 => (have g4 : Ow w D T _ M0 M21 := (Ow.trans g2 f3); (mo_w_Reader_call_j67 hD  lQ hQ lX hX (fun _ e => e) (fun y0 y1 y2 y3 y4  hf => mo_w_Reader_call_L42 hD n0 lQ hQ lX hX n y0 y1 y2 y3 y4  hf) g4))) (fun z6 f5 => hX z6 (Ow.dn lX (Ow.trans g2 f5))) g2.1)) (mo_w_Words_next hD  (fun M22 f7 => (have g8 : Ow w D T _ M0 M22 := (Ow.trans g2 f7); (mo_w_Reader_result hD  (fun r24 M23 f9 => (have g10 : Ow w D T _ M0 M23 := (Ow.trans g8 f9); (Exists.imp fun n36 => (mo_w_Reader_call_L138 hD n0 lQ hQ lX hX _ _ _ _ _ _ _ _  g10)))) (fun z12 f11 => hX z12 (Ow.dn lX (Ow.trans g8 f11))) g8.1))) g2.1)))) hf.1)
set_option maxRecDepth 20000 in
theorem mo_w_Reader_call {w : Nat} {D : Nat → Nat → Prop} {T : Nat → Prop} {h : Hot} {this : Nat} {a1 : Nat} {a2 : Int32} {Q Q' : Mem → Prop} {X X' : Mem → Prop} {M : Mem} (hD : Dok w D) (n0 : ow w D 5 a1) (hQ : ∀ z0, Ow w D T h M z0 → Q z0 → Q' z0) (hX : ∀ z0, Ow w D T h M z0 → X z0 → X' z0) : St w D T h M → w_Reader_call this a1 a2 Q X M → w_Reader_call this a1 a2 Q' X' M := by
  intro hs
  unfold w_Reader_call
  exact (Exists.imp fun i1 => (mf_and fun e1 => (have g3 : Ow w D T _ M (sR M 3 this 1 (some (5, a1))) := (Ow.wRh rfl (ow0 rfl) n0 (Ow.rf hs)); (mo_w_Reader_className hD  (fun r3 M2 f4 => (have g5 : Ow w D T _ M M2 := (Ow.trans g3 f4); (mo_w_Reader_sign hD  (fun M4 f6 => (have g7 : Ow w D T _ M M4 := (Ow.trans g5 f6); (mo_w_Reader_anyName hD  (fun r6 M5 f8 => (have g9 : Ow w D T _ M M5 := (Ow.trans g7 f8); (mo_w_Reader_sign hD  (fun M7 f10 => (have g11 : Ow w D T _ M M7 := (Ow.trans g9 f10); (Exists.imp fun n37 => (have g12 : Ow w D T _ M (sI M7 3 this 18 (0 : Int32)) := (Ow.wI (ow0 rfl) g11); (mo_w_Reader_call_L42 hD up_s (leU (fun _ e => e)) hQ (leU (fun _ e => e)) hX _ _ _ _ _ _  g12))))) (fun z14 f13 => hX z14 (Ow.dn1 (Ow.trans g9 f13))) g9.1))) (fun z16 f15 => hX z16 (Ow.dn1 (Ow.trans g7 f15))) g7.1))) (fun z18 f17 => hX z18 (Ow.dn1 (Ow.trans g5 f17))) g5.1))) (fun z20 f19 => hX z20 (Ow.dn1 (Ow.trans g3 f19))) g3.1))))
set_option maxRecDepth 20000 in
theorem mo_w_Line_call {w : Nat} {D : Nat → Nat → Prop} {T : Nat → Prop} {h : Hot} {this : Nat} {a1 : Nat} {Q Q' : Mem → Prop} {M : Mem} (hD : Dok w D) (n0 : ow w D 7 this) (hQ : ∀ z0, Ow w D T h M z0 → Q z0 → Q' z0) : St w D T h M → w_Line_call this a1 Q M → w_Line_call this a1 Q' M := by
  intro hs
  unfold w_Line_call
  exact (mo_w_Line_clear hD n0 (fun M1 f1 => (have g2 : Ow w D T _ M M1 := (Ow.trans (Ow.rf hs) f1); (mf_and fun _ => (mf_and fun _ => (mf_and fun _ => (mf_and fun _ => (mf_and fun _ => (Exists.imp fun M2 => (mf_and fun e3 => (have g4 : Ow w D T _ M M2 := Ow.of e3 (Ow.wcp (ow.to n0 rfl rfl) g2); (mf_and fun _ => (hQ _  (Ow.wI n0 (Ow.wI n0 g4)))))))))))))) (Ow.rf hs).1)
set_option maxRecDepth 20000 in
theorem mo_w_Machine_isLockedFor {w : Nat} {D : Nat → Nat → Prop} {T : Nat → Prop} {h : Hot} {this : Nat} {a1 : Nat} {a2 : Int32} {Q Q' : Int32 → Mem → Prop} {M : Mem} (hD : Dok w D)  (hQ : ∀ z0 z1, Ow w D T h M z1 → Q z0 z1 → Q' z0 z1) : St w D T h M → w_Machine_isLockedFor this a1 a2 Q M → w_Machine_isLockedFor this a1 a2 Q' M := by
  intro hs
  unfold w_Machine_isLockedFor
  exact (mf_ite (mf_and fun _ => (mf_ite (hQ _ _  (Ow.rf hs)) (mf_and fun _ => (mf_ite (hQ _ _  (Ow.rf hs)) (hQ _ _  (Ow.rf hs)))))) (Exists.imp fun i6 => (mf_and fun e1 => (mf_and fun _ => (mf_ite (hQ _ _  (Ow.rf hs)) (Exists.imp fun i9 => (mf_and fun e3 => (mf_and fun _ => (mf_ite (hQ _ _  (Ow.rf hs)) (hQ _ _  (Ow.rf hs)))))))))))
set_option maxRecDepth 20000 in
theorem mo_w_Machine_waits {w : Nat} {D : Nat → Nat → Prop} {T : Nat → Prop} {h : Hot} {this : Nat} {a1 : Nat} {Q Q' : Int32 → Mem → Prop} {M : Mem} (hD : Dok w D)  (hQ : ∀ z0 z1, Ow w D T h M z1 → Q z0 z1 → Q' z0 z1) : St w D T h M → w_Machine_waits this a1 Q M → w_Machine_waits this a1 Q' M := by
  intro hs
  unfold w_Machine_waits
  exact (mf_ite (mf_ite (hQ _ _  (Ow.rf hs)) (mf_and fun _ => (mf_ite (mf_and fun _ => (mf_ite (hQ _ _  (Ow.rf hs)) (hQ _ _  (Ow.rf hs)))) (hQ _ _  (Ow.rf hs))))) (mo_w_Machine_isLockedFor hD  (fun r8 M7 f1 => (have g2 : Ow w D T _ M M7 := (Ow.trans (Ow.rf hs) f1); (mf_and fun _ => (hQ _ _  g2)))) (Ow.rf hs).1))
set_option maxRecDepth 20000 in
theorem mo_w_Machine_canGo {w : Nat} {D : Nat → Nat → Prop} {T : Nat → Prop} {h : Hot} {this : Nat} {a1 : Nat} {Q Q' : Int32 → Mem → Prop} {M : Mem} (hD : Dok w D)  (hQ : ∀ z0 z1, Ow w D T h M z1 → Q z0 z1 → Q' z0 z1) : St w D T h M → w_Machine_canGo this a1 Q M → w_Machine_canGo this a1 Q' M := by
  intro hs
  unfold w_Machine_canGo
  exact (mf_ite (mo_w_Machine_waits hD  (fun r3 M2 f1 => (have g2 : Ow w D T _ M M2 := (Ow.trans (Ow.rf hs) f1); (mf_ite (hQ _ _  g2) (hQ _ _  g2)))) (Ow.rf hs).1) (hQ _ _  (Ow.rf hs)))
set_option maxRecDepth 20000 in
theorem mo_w_Machine_hasTurn_L40 {w : Nat} {D : Nat → Nat → Prop} {T : Nat → Prop} {h : Hot} {this : Nat} {Q Q' : Int32 → Mem → Prop} {h_Q : Hot} {M0 : Mem} (hD : Dok w D) (n0 : ow w D 6 this) (lQ : ∀ t, h_Q t = true → h t = true) (hQ : ∀ z0 z1, Ow w D T h_Q M0 z1 → Q z0 z1 → Q' z0 z1) : ∀ (n : Nat) (v1 : Int32) (M : Mem), Ow w D T h M0 M → w_Machine_hasTurn_L40 this Q n v1 M → w_Machine_hasTurn_L40 this Q' n v1 M
  | 0, _, _ => fun  _ h => h
  | n + 1, v1, M => fun  hf => by
    unfold w_Machine_hasTurn_L40
    exact (mf_ite (hQ _ _  (Ow.dn lQ hf)) (mf_and fun _ => (Exists.imp fun x4 => (mf_and fun _ => (mf_and fun _ => (Exists.imp fun i6 => (mf_and fun e1 => (mo_w_Machine_canGo hD  (fun r8 M7 f3 => (have g4 : Ow w D T _ M0 M7 := (Ow.trans hf f3); (mf_ite (mo_w_Machine_hasTurn_L40 hD n0 lQ hQ _ _ _  g4) (mf_and fun _ => (Exists.imp fun i11 => (mf_and fun e5 => (have o6 : ow w D 7 i11 := (Ow.r1 e5 rfl rfl (ow.to n0 rfl rfl) (Ow.wI n0 (Ow.wI n0 g4))); (Exists.imp fun M12 => (mf_and fun e7 => (have g8 : Ow w D T _ M0 M12 := Ow.of e7 (Ow.wR rfl n0 o6 (Ow.wI n0 (Ow.wI n0 g4))); (hQ _ _  (Ow.dn lQ g8)))))))))))) hf.1))))))))
set_option maxRecDepth 20000 in
theorem mo_w_Machine_hasTurn_j38 {w : Nat} {D : Nat → Nat → Prop} {T : Nat → Prop} {h : Hot} {this : Nat} {Q Q' : Int32 → Mem → Prop} {h_Q : Hot} {M : Mem} {M0 : Mem} (hD : Dok w D) (n0 : ow w D 6 this) (lQ : ∀ t, h_Q t = true → h t = true) (hQ : ∀ z0 z1, Ow w D T h_Q M0 z1 → Q z0 z1 → Q' z0 z1) : Ow w D T h M0 M → w_Machine_hasTurn_j38 this Q M → w_Machine_hasTurn_j38 this Q' M := by
  intro hf
  unfold w_Machine_hasTurn_j38
  exact (Exists.imp fun n13 => (mo_w_Machine_hasTurn_L40 hD n0 lQ hQ _ _ _  hf))
set_option maxRecDepth 20000 in
theorem mo_w_Machine_hasTurn {w : Nat} {D : Nat → Nat → Prop} {T : Nat → Prop} {h : Hot} {this : Nat} {Q Q' : Int32 → Mem → Prop} {M : Mem} (hD : Dok w D) (n0 : ow w D 6 this) (hQ : ∀ z0 z1, Ow w D T h M z1 → Q z0 z1 → Q' z0 z1) : St w D T h M → w_Machine_hasTurn this Q M → w_Machine_hasTurn this Q' M := by
  intro hs
  unfold w_Machine_hasTurn
  exact (mf_ite (mo_w_Machine_hasTurn_j38 hD n0 (fun _ e => e) hQ (Ow.rf hs)) (mf_and fun _ => (Exists.imp fun i15 => (mf_and fun e1 => (mo_w_Machine_canGo hD  (fun r17 M16 f3 => (have g4 : Ow w D T _ M M16 := (Ow.trans (Ow.rf hs) f3); (mf_ite (mo_w_Machine_hasTurn_j38 hD n0 (fun _ e => e) hQ g4) (mf_and fun _ => (Exists.imp fun i20 => (mf_and fun e5 => (have o6 : ow w D 7 i20 := (Ow.r1 e5 rfl rfl (ow.to n0 rfl rfl) g4); (hQ _ _  (Ow.wR rfl n0 o6 g4))))))))) (Ow.rf hs).1)))))
set_option maxRecDepth 20000 in
theorem mo_w_World_refClass {w : Nat} {D : Nat → Nat → Prop} {T : Nat → Prop} {h : Hot} {this : Nat} {a1 : Int32} {Q Q' : Int32 → Mem → Prop} {M : Mem} (hD : Dok w D)  (hQ : ∀ z0 z1, Ow w D T h M z1 → Q z0 z1 → Q' z0 z1) : St w D T h M → w_World_refClass this a1 Q M → w_World_refClass this a1 Q' M := by
  intro hs
  unfold w_World_refClass
  exact (mf_and fun _ => (hQ _ _  (Ow.rf hs)))
set_option maxRecDepth 20000 in
theorem mo_w_Machine_thrown {w : Nat} {D : Nat → Nat → Prop} {T : Nat → Prop} {h : Hot} {this : Nat} {a1 : Int32} {a2 : Int32} {Q Q' : Int32 → Mem → Prop} {M : Mem} (hD : Dok w D)  (hQ : ∀ z0 z1, Ow w D T h M z1 → Q z0 z1 → Q' z0 z1) : St w D T h M → w_Machine_thrown this a1 a2 Q M → w_Machine_thrown this a1 a2 Q' M := by
  intro hs
  unfold w_Machine_thrown
  exact (hQ _ _  (Ow.rf hs))
set_option maxRecDepth 20000 in
theorem mo_w_Machine_findClass {w : Nat} {D : Nat → Nat → Prop} {T : Nat → Prop} {h : Hot} {this : Nat} {a1 : Int32} {Q Q' : Int32 → Mem → Prop} {M : Mem} (hD : Dok w D)  (hQ : ∀ z0 z1, Ow w D T h M z1 → Q z0 z1 → Q' z0 z1) : St w D T h M → w_Machine_findClass this a1 Q M → w_Machine_findClass this a1 Q' M := by
  intro hs
  unfold w_Machine_findClass
  exact (mo_w_World_find hD  (fun r2 M1 f1 => (have g2 : Ow w D T _ M M1 := (Ow.trans (Ow.rf hs) f1); (mf_ite (hQ _ _  g2) (mo_w_Machine_thrown hD  (fun r5 M4 f3 => (have g4 : Ow w D T _ M M4 := (Ow.trans g2 f3); (hQ _ _  g4))) g2.1)))) (Ow.rf hs).1)
set_option maxRecDepth 20000 in
theorem mo_w_World_comesBack_j131 {w : Nat} {D : Nat → Nat → Prop} {T : Nat → Prop} {h : Hot} {this : Nat} {Q Q' : Int32 → Mem → Prop} {h_Q : Hot} {k28 k28' : Int32 → Nat → Nat → Int32 → Mem → Prop} {h_k28 : Hot} {k45 k45' : Int32 → Nat → Nat → Int32 → Int32 → Int32 → Mem → Prop} {h_k45 : Hot} {v1 : Int32} {v2 : Nat} {v3 : Nat} {v4 : Int32} {v5 : Int32} {v6 : Int32} {M : Mem} {M0 : Mem} (hD : Dok w D)  (lQ : ∀ t, h_Q t = true → h t = true) (hQ : ∀ z0 z1, Ow w D T h_Q M0 z1 → Q z0 z1 → Q' z0 z1) (lk28 : ∀ t, h_k28 t = true → h t = true) (hk28 : ∀ z0 z1 z2 z3 z4, Ow w D T h_k28 M0 z4 → k28 z0 z1 z2 z3 z4 → k28' z0 z1 z2 z3 z4) (lk45 : ∀ t, h_k45 t = true → h t = true) (hk45 : ∀ z0 z1 z2 z3 z4 z5 z6, Ow w D T h_k45 M0 z6 → k45 z0 z1 z2 z3 z4 z5 z6 → k45' z0 z1 z2 z3 z4 z5 z6) : Ow w D T h M0 M → w_World_comesBack_j131 this Q k28 k45 v1 v2 v3 v4 v5 v6 M → w_World_comesBack_j131 this Q' k28' k45' v1 v2 v3 v4 v5 v6 M := by
  intro hf
  unfold w_World_comesBack_j131
  exact (hk45 _ _ _ _ _ _ _  (Ow.dn lk45 hf))
set_option maxRecDepth 20000 in
theorem mo_w_World_comesBack_j92 {w : Nat} {D : Nat → Nat → Prop} {T : Nat → Prop} {h : Hot} {this : Nat} {Q Q' : Int32 → Mem → Prop} {h_Q : Hot} {k28 k28' : Int32 → Nat → Nat → Int32 → Mem → Prop} {h_k28 : Hot} {k45 k45' : Int32 → Nat → Nat → Int32 → Int32 → Int32 → Mem → Prop} {h_k45 : Hot} {v1 : Int32} {v2 : Nat} {v3 : Nat} {v4 : Int32} {v5 : Int32} {v6 : Int32} {s0 : Int32} {M : Mem} {M0 : Mem} (hD : Dok w D)  (lQ : ∀ t, h_Q t = true → h t = true) (hQ : ∀ z0 z1, Ow w D T h_Q M0 z1 → Q z0 z1 → Q' z0 z1) (lk28 : ∀ t, h_k28 t = true → h t = true) (hk28 : ∀ z0 z1 z2 z3 z4, Ow w D T h_k28 M0 z4 → k28 z0 z1 z2 z3 z4 → k28' z0 z1 z2 z3 z4) (lk45 : ∀ t, h_k45 t = true → h t = true) (hk45 : ∀ z0 z1 z2 z3 z4 z5 z6, Ow w D T h_k45 M0 z6 → k45 z0 z1 z2 z3 z4 z5 z6 → k45' z0 z1 z2 z3 z4 z5 z6) : Ow w D T h M0 M → w_World_comesBack_j92 this Q k28 k45 v1 v2 v3 v4 v5 v6 s0 M → w_World_comesBack_j92 this Q' k28' k45' v1 v2 v3 v4 v5 v6 s0 M := by
  intro hf
  unfold w_World_comesBack_j92
  exact (mf_ite (hQ _ _  (Ow.dn lQ hf)) (mf_ite (mo_w_World_comesBack_j131 hD  lQ hQ lk28 hk28 lk45 hk45 hf) (mf_and fun _ => (mf_ite (mf_and fun _ => (mf_and fun _ => (Exists.imp fun M18 => (mf_and fun e1 => (have g2 : Ow w D T _ M0 M18 := Ow.of e1 (Ow.wI (ow0 rfl) (Ow.wI (ow0 rfl) hf)); (mo_w_World_comesBack_j131 hD  lQ hQ lk28 hk28 lk45 hk45 g2)))))) (mo_w_World_comesBack_j131 hD  lQ hQ lk28 hk28 lk45 hk45 hf)))))
set_option maxRecDepth 20000 in
theorem mo_w_World_comesBack_L45 {w : Nat} {D : Nat → Nat → Prop} {T : Nat → Prop} {h : Hot} {this : Nat} {Q Q' : Int32 → Mem → Prop} {h_Q : Hot} {k28 k28' : Int32 → Nat → Nat → Int32 → Mem → Prop} {h_k28 : Hot} {M0 : Mem} (hD : Dok w D)  (lQ : ∀ t, h_Q t = true → h t = true) (hQ : ∀ z0 z1, Ow w D T h_Q M0 z1 → Q z0 z1 → Q' z0 z1) (lk28 : ∀ t, h_k28 t = true → h t = true) (hk28 : ∀ z0 z1 z2 z3 z4, Ow w D T h_k28 M0 z4 → k28 z0 z1 z2 z3 z4 → k28' z0 z1 z2 z3 z4) : ∀ (n : Nat) (v1 : Int32) (v2 : Nat) (v3 : Nat) (v4 : Int32) (v5 : Int32) (v6 : Int32) (M : Mem), Ow w D T h M0 M → w_World_comesBack_L45 this Q k28 n v1 v2 v3 v4 v5 v6 M → w_World_comesBack_L45 this Q' k28' n v1 v2 v3 v4 v5 v6 M
  | 0, _, _, _, _, _, _, _ => fun  _ h => h
  | n + 1, v1, v2, v3, v4, v5, v6, M => fun  hf => by
    unfold w_World_comesBack_L45
    exact (mf_and fun _ => (mf_ite (hk28 _ _ _ _ _  (Ow.dn lk28 hf)) (mf_ite (mf_and fun _ => (mo_w_World_find hD  (fun r11 M10 f1 => (have g2 : Ow w D T _ M0 M10 := (Ow.trans hf f1); (mo_w_World_comesBack_j92 hD  lQ hQ lk28 hk28 (fun _ e => e) (fun y0 y1 y2 y3 y4 y5 y6  hf => mo_w_World_comesBack_L45 hD  lQ hQ lk28 hk28 n y0 y1 y2 y3 y4 y5 y6  hf) g2))) hf.1)) (mf_and fun _ => (mo_w_World_find hD  (fun r21 M20 f3 => (have g4 : Ow w D T _ M0 M20 := (Ow.trans hf f3); (mo_w_World_comesBack_j92 hD  lQ hQ lk28 hk28 (fun _ e => e) (fun y0 y1 y2 y3 y4 y5 y6  hf => mo_w_World_comesBack_L45 hD  lQ hQ lk28 hk28 n y0 y1 y2 y3 y4 y5 y6  hf) g4))) hf.1)))))
set_option maxRecDepth 20000 in
theorem mo_w_World_comesBack_L28 {w : Nat} {D : Nat → Nat → Prop} {T : Nat → Prop} {h : Hot} {this : Nat} {Q Q' : Int32 → Mem → Prop} {h_Q : Hot} {M0 : Mem} (hD : Dok w D)  (lQ : ∀ t, h_Q t = true → h t = true) (hQ : ∀ z0 z1, Ow w D T h_Q M0 z1 → Q z0 z1 → Q' z0 z1) : ∀ (n : Nat) (v1 : Int32) (v2 : Nat) (v3 : Nat) (v4 : Int32) (M : Mem), Ow w D T h M0 M → w_World_comesBack_L28 this Q n v1 v2 v3 v4 M → w_World_comesBack_L28 this Q' n v1 v2 v3 v4 M
  | 0, _, _, _, _, _ => fun  _ h => h
  | n + 1, v1, v2, v3, v4, M => fun  hf => by
    unfold w_World_comesBack_L28
    exact (mf_ite (hQ _ _  (Ow.dn lQ hf)) (mf_and fun _ => (Exists.imp fun n22 => (mo_w_World_comesBack_L45 hD  lQ hQ (fun _ e => e) (fun y0 y1 y2 y3 y4  hf => mo_w_World_comesBack_L28 hD  lQ hQ n y0 y1 y2 y3 y4  hf) _ _ _ _ _ _ _ _  hf))))
set_option maxRecDepth 20000 in
theorem mo_w_World_comesBack {w : Nat} {D : Nat → Nat → Prop} {T : Nat → Prop} {h : Hot} {this : Nat} {a1 : Int32} {Q Q' : Int32 → Mem → Prop} {M : Mem} (hD : Dok w D)  (hQ : ∀ z0 z1, Ow w D T h M z1 → Q z0 z1 → Q' z0 z1) : St w D T h M → w_World_comesBack this a1 Q M → w_World_comesBack this a1 Q' M := by
  intro hs
  unfold w_World_comesBack
  exact (mf_and fun _ => (Exists.imp fun M1 => (mf_and fun e1 => (have g2 : Ow w D T _ M M1 := Ow.of e1 (Ow.wfl (ow0 rfl) (Ow.rf hs)); (mf_and fun _ => (Exists.imp fun n23 => (have g3 : Ow w D T _ M (sI M1 97 0 (0 : Int32).toNatClampNeg a1) := (Ow.wI (ow0 rfl) g2); (mo_w_World_comesBack_L28 hD  (fun _ e => e) hQ _ _ _ _ _ _  g3))))))))
set_option maxRecDepth 20000 in
theorem mo_w_World_up {w : Nat} {D : Nat → Nat → Prop} {T : Nat → Prop} {h : Hot} {this : Nat} {a1 : Int32} {Q Q' : Int32 → Mem → Prop} {M : Mem} (hD : Dok w D)  (hQ : ∀ z0 z1, Ow w D T h M z1 → Q z0 z1 → Q' z0 z1) : St w D T h M → w_World_up this a1 Q M → w_World_up this a1 Q' M := by
  intro hs
  unfold w_World_up
  exact (mf_ite (hQ _ _  (Ow.rf hs)) (mo_w_World_isFace hD  (fun r3 M2 f1 => (have g2 : Ow w D T _ M M2 := (Ow.trans (Ow.rf hs) f1); (mf_ite (mf_and fun _ => (mo_w_World_find hD  (fun r7 M6 f3 => (have g4 : Ow w D T _ M M6 := (Ow.trans g2 f3); (hQ _ _  g4))) g2.1)) (hQ _ _  g2)))) (Ow.rf hs).1))
set_option maxRecDepth 20000 in
theorem mo_w_World_own_j75 {w : Nat} {D : Nat → Nat → Prop} {T : Nat → Prop} {h : Hot} {this : Nat} {Q Q' : Int32 → Mem → Prop} {h_Q : Hot} {k8 k8' : Int32 → Int32 → Int32 → Int32 → Int32 → Mem → Prop} {h_k8 : Hot} {v1 : Int32} {v2 : Int32} {v3 : Int32} {v4 : Int32} {v5 : Int32} {M : Mem} {M0 : Mem} (hD : Dok w D)  (lQ : ∀ t, h_Q t = true → h t = true) (hQ : ∀ z0 z1, Ow w D T h_Q M0 z1 → Q z0 z1 → Q' z0 z1) (lk8 : ∀ t, h_k8 t = true → h t = true) (hk8 : ∀ z0 z1 z2 z3 z4 z5, Ow w D T h_k8 M0 z5 → k8 z0 z1 z2 z3 z4 z5 → k8' z0 z1 z2 z3 z4 z5) : Ow w D T h M0 M → w_World_own_j75 this Q k8 v1 v2 v3 v4 v5 M → w_World_own_j75 this Q' k8' v1 v2 v3 v4 v5 M := by
  intro hf
  unfold w_World_own_j75
  exact (hk8 _ _ _ _ _ _  (Ow.dn lk8 hf))
set_option maxRecDepth 20000 in
theorem mo_w_World_own_L8 {w : Nat} {D : Nat → Nat → Prop} {T : Nat → Prop} {h : Hot} {this : Nat} {Q Q' : Int32 → Mem → Prop} {h_Q : Hot} {M0 : Mem} (hD : Dok w D)  (lQ : ∀ t, h_Q t = true → h t = true) (hQ : ∀ z0 z1, Ow w D T h_Q M0 z1 → Q z0 z1 → Q' z0 z1) : ∀ (n : Nat) (v1 : Int32) (v2 : Int32) (v3 : Int32) (v4 : Int32) (v5 : Int32) (M : Mem), Ow w D T h M0 M → w_World_own_L8 this Q n v1 v2 v3 v4 v5 M → w_World_own_L8 this Q' n v1 v2 v3 v4 v5 M
  | 0, _, _, _, _, _, _ => fun  _ h => h
  | n + 1, v1, v2, v3, v4, v5, M => fun  hf => by
    unfold w_World_own_L8
    exact (mf_and fun _ => (mf_and fun _ => (mf_ite (hQ _ _  (Ow.dn lQ hf)) (mf_and fun _ => (mf_ite (mf_and fun _ => (mf_ite (mf_and fun _ => (mo_w_World_sameArguments hD  (fun r11 M10 f1 => (have g2 : Ow w D T _ M0 M10 := (Ow.trans hf f1); (mf_ite (mo_w_World_own_j75 hD  lQ hQ (fun _ e => e) (fun y0 y1 y2 y3 y4 y5  hf => mo_w_World_own_L8 hD  lQ hQ n y0 y1 y2 y3 y4 y5  hf) g2) (hQ _ _  (Ow.dn lQ g2))))) hf.1)) (mo_w_World_own_j75 hD  lQ hQ (fun _ e => e) (fun y0 y1 y2 y3 y4 y5  hf => mo_w_World_own_L8 hD  lQ hQ n y0 y1 y2 y3 y4 y5  hf) hf))) (mo_w_World_own_j75 hD  lQ hQ (fun _ e => e) (fun y0 y1 y2 y3 y4 y5  hf => mo_w_World_own_L8 hD  lQ hQ n y0 y1 y2 y3 y4 y5  hf) hf))))))
set_option maxRecDepth 20000 in
theorem mo_w_World_own {w : Nat} {D : Nat → Nat → Prop} {T : Nat → Prop} {h : Hot} {this : Nat} {a1 : Int32} {a2 : Int32} {a3 : Int32} {a4 : Int32} {Q Q' : Int32 → Mem → Prop} {M : Mem} (hD : Dok w D)  (hQ : ∀ z0 z1, Ow w D T h M z1 → Q z0 z1 → Q' z0 z1) : St w D T h M → w_World_own this a1 a2 a3 a4 Q M → w_World_own this a1 a2 a3 a4 Q' M := by
  intro hs
  unfold w_World_own
  exact (mf_and fun _ => (Exists.imp fun n13 => (mo_w_World_own_L8 hD  (fun _ e => e) hQ _ _ _ _ _ _ _  (Ow.rf hs))))
set_option maxRecDepth 20000 in
theorem mo_w_World_changesFinal_j130 {w : Nat} {D : Nat → Nat → Prop} {T : Nat → Prop} {h : Hot} {this : Nat} {Q Q' : Int32 → Mem → Prop} {h_Q : Hot} {k7 k7' : Int32 → Int32 → Int32 → Mem → Prop} {h_k7 : Hot} {v1 : Int32} {v2 : Int32} {v3 : Int32} {M : Mem} {M0 : Mem} (hD : Dok w D)  (lQ : ∀ t, h_Q t = true → h t = true) (hQ : ∀ z0 z1, Ow w D T h_Q M0 z1 → Q z0 z1 → Q' z0 z1) (lk7 : ∀ t, h_k7 t = true → h t = true) (hk7 : ∀ z0 z1 z2 z3, Ow w D T h_k7 M0 z3 → k7 z0 z1 z2 z3 → k7' z0 z1 z2 z3) : Ow w D T h M0 M → w_World_changesFinal_j130 this Q k7 v1 v2 v3 M → w_World_changesFinal_j130 this Q' k7' v1 v2 v3 M := by
  intro hf
  unfold w_World_changesFinal_j130
  exact (hk7 _ _ _ _  (Ow.dn lk7 hf))
set_option maxRecDepth 20000 in
theorem mo_w_World_changesFinal_j119 {w : Nat} {D : Nat → Nat → Prop} {T : Nat → Prop} {h : Hot} {this : Nat} {Q Q' : Int32 → Mem → Prop} {h_Q : Hot} {k7 k7' : Int32 → Int32 → Int32 → Mem → Prop} {h_k7 : Hot} {k67 k67' : Int32 → Int32 → Int32 → Int32 → Int32 → Mem → Prop} {h_k67 : Hot} {v1 : Int32} {v2 : Int32} {v3 : Int32} {v4 : Int32} {v5 : Int32} {M : Mem} {M0 : Mem} (hD : Dok w D)  (lQ : ∀ t, h_Q t = true → h t = true) (hQ : ∀ z0 z1, Ow w D T h_Q M0 z1 → Q z0 z1 → Q' z0 z1) (lk7 : ∀ t, h_k7 t = true → h t = true) (hk7 : ∀ z0 z1 z2 z3, Ow w D T h_k7 M0 z3 → k7 z0 z1 z2 z3 → k7' z0 z1 z2 z3) (lk67 : ∀ t, h_k67 t = true → h t = true) (hk67 : ∀ z0 z1 z2 z3 z4 z5, Ow w D T h_k67 M0 z5 → k67 z0 z1 z2 z3 z4 z5 → k67' z0 z1 z2 z3 z4 z5) : Ow w D T h M0 M → w_World_changesFinal_j119 this Q k7 k67 v1 v2 v3 v4 v5 M → w_World_changesFinal_j119 this Q' k7' k67' v1 v2 v3 v4 v5 M := by
  intro hf
  unfold w_World_changesFinal_j119
  exact (mo_w_World_up hD  (fun r15 M14 f1 => (have g2 : Ow w D T _ M0 M14 := (Ow.trans hf f1); (hk67 _ _ _ _ _ _  (Ow.dn lk67 g2)))) hf.1)
set_option maxRecDepth 20000 in
theorem mo_w_World_changesFinal_L67 {w : Nat} {D : Nat → Nat → Prop} {T : Nat → Prop} {h : Hot} {this : Nat} {Q Q' : Int32 → Mem → Prop} {h_Q : Hot} {k7 k7' : Int32 → Int32 → Int32 → Mem → Prop} {h_k7 : Hot} {M0 : Mem} (hD : Dok w D)  (lQ : ∀ t, h_Q t = true → h t = true) (hQ : ∀ z0 z1, Ow w D T h_Q M0 z1 → Q z0 z1 → Q' z0 z1) (lk7 : ∀ t, h_k7 t = true → h t = true) (hk7 : ∀ z0 z1 z2 z3, Ow w D T h_k7 M0 z3 → k7 z0 z1 z2 z3 → k7' z0 z1 z2 z3) : ∀ (n : Nat) (v1 : Int32) (v2 : Int32) (v3 : Int32) (v4 : Int32) (v5 : Int32) (M : Mem), Ow w D T h M0 M → w_World_changesFinal_L67 this Q k7 n v1 v2 v3 v4 v5 M → w_World_changesFinal_L67 this Q' k7' n v1 v2 v3 v4 v5 M
  | 0, _, _, _, _, _, _ => fun  _ h => h
  | n + 1, v1, v2, v3, v4, v5, M => fun  hf => by
    unfold w_World_changesFinal_L67
    exact (mf_ite (mo_w_World_changesFinal_j130 hD  lQ hQ lk7 hk7 hf) (mf_ite (mo_w_World_changesFinal_j130 hD  lQ hQ lk7 hk7 hf) (mf_and fun _ => (mf_and fun _ => (mo_w_World_own hD  (fun r12 M11 f1 => (have g2 : Ow w D T _ M0 M11 := (Ow.trans hf f1); (mf_ite (mo_w_World_changesFinal_j119 hD  lQ hQ lk7 hk7 (fun _ e => e) (fun y0 y1 y2 y3 y4 y5  hf => mo_w_World_changesFinal_L67 hD  lQ hQ lk7 hk7 n y0 y1 y2 y3 y4 y5  hf) g2) (mf_and fun _ => (mf_ite (hQ _ _  (Ow.dn lQ g2)) (mo_w_World_changesFinal_j119 hD  lQ hQ lk7 hk7 (fun _ e => e) (fun y0 y1 y2 y3 y4 y5  hf => mo_w_World_changesFinal_L67 hD  lQ hQ lk7 hk7 n y0 y1 y2 y3 y4 y5  hf) g2)))))) hf.1)))))
set_option maxRecDepth 20000 in
theorem mo_w_World_changesFinal_j62 {w : Nat} {D : Nat → Nat → Prop} {T : Nat → Prop} {h : Hot} {this : Nat} {Q Q' : Int32 → Mem → Prop} {h_Q : Hot} {k7 k7' : Int32 → Int32 → Int32 → Mem → Prop} {h_k7 : Hot} {v1 : Int32} {v2 : Int32} {v3 : Int32} {s0 : Int32} {M : Mem} {M0 : Mem} (hD : Dok w D)  (lQ : ∀ t, h_Q t = true → h t = true) (hQ : ∀ z0 z1, Ow w D T h_Q M0 z1 → Q z0 z1 → Q' z0 z1) (lk7 : ∀ t, h_k7 t = true → h t = true) (hk7 : ∀ z0 z1 z2 z3, Ow w D T h_k7 M0 z3 → k7 z0 z1 z2 z3 → k7' z0 z1 z2 z3) : Ow w D T h M0 M → w_World_changesFinal_j62 this Q k7 v1 v2 v3 s0 M → w_World_changesFinal_j62 this Q' k7' v1 v2 v3 s0 M := by
  intro hf
  unfold w_World_changesFinal_j62
  exact (Exists.imp fun n18 => (mo_w_World_changesFinal_L67 hD  lQ hQ lk7 hk7 _ _ _ _ _ _ _  hf))
set_option maxRecDepth 20000 in
theorem mo_w_World_changesFinal_j61 {w : Nat} {D : Nat → Nat → Prop} {T : Nat → Prop} {h : Hot} {this : Nat} {Q Q' : Int32 → Mem → Prop} {h_Q : Hot} {k7 k7' : Int32 → Int32 → Int32 → Mem → Prop} {h_k7 : Hot} {v1 : Int32} {v2 : Int32} {v3 : Int32} {M : Mem} {M0 : Mem} (hD : Dok w D)  (lQ : ∀ t, h_Q t = true → h t = true) (hQ : ∀ z0 z1, Ow w D T h_Q M0 z1 → Q z0 z1 → Q' z0 z1) (lk7 : ∀ t, h_k7 t = true → h t = true) (hk7 : ∀ z0 z1 z2 z3, Ow w D T h_k7 M0 z3 → k7 z0 z1 z2 z3 → k7' z0 z1 z2 z3) : Ow w D T h M0 M → w_World_changesFinal_j61 this Q k7 v1 v2 v3 M → w_World_changesFinal_j61 this Q' k7' v1 v2 v3 M := by
  intro hf
  unfold w_World_changesFinal_j61
  exact (mo_w_World_changesFinal_j62 hD  lQ hQ lk7 hk7 hf)
set_option maxRecDepth 20000 in
theorem mo_w_World_changesFinal_L7 {w : Nat} {D : Nat → Nat → Prop} {T : Nat → Prop} {h : Hot} {this : Nat} {Q Q' : Int32 → Mem → Prop} {h_Q : Hot} {M0 : Mem} (hD : Dok w D)  (lQ : ∀ t, h_Q t = true → h t = true) (hQ : ∀ z0 z1, Ow w D T h_Q M0 z1 → Q z0 z1 → Q' z0 z1) : ∀ (n : Nat) (v1 : Int32) (v2 : Int32) (v3 : Int32) (M : Mem), Ow w D T h M0 M → w_World_changesFinal_L7 this Q n v1 v2 v3 M → w_World_changesFinal_L7 this Q' n v1 v2 v3 M
  | 0, _, _, _, _ => fun  _ h => h
  | n + 1, v1, v2, v3, M => fun  hf => by
    unfold w_World_changesFinal_L7
    exact (mf_and fun _ => (mf_and fun _ => (mf_ite (hQ _ _  (Ow.dn lQ hf)) (mf_and fun _ => (mf_ite (mo_w_World_changesFinal_j61 hD  lQ hQ (fun _ e => e) (fun y0 y1 y2 y3  hf => mo_w_World_changesFinal_L7 hD  lQ hQ n y0 y1 y2 y3  hf) hf) (mf_and fun _ => (mf_ite (mo_w_World_changesFinal_j61 hD  lQ hQ (fun _ e => e) (fun y0 y1 y2 y3  hf => mo_w_World_changesFinal_L7 hD  lQ hQ n y0 y1 y2 y3  hf) hf) (mf_and fun _ => (mf_ite (mo_w_World_changesFinal_j62 hD  lQ hQ (fun _ e => e) (fun y0 y1 y2 y3  hf => mo_w_World_changesFinal_L7 hD  lQ hQ n y0 y1 y2 y3  hf) hf) (mo_w_World_changesFinal_j61 hD  lQ hQ (fun _ e => e) (fun y0 y1 y2 y3  hf => mo_w_World_changesFinal_L7 hD  lQ hQ n y0 y1 y2 y3  hf) hf))))))))))
set_option maxRecDepth 20000 in
theorem mo_w_World_changesFinal {w : Nat} {D : Nat → Nat → Prop} {T : Nat → Prop} {h : Hot} {this : Nat} {a1 : Int32} {a2 : Int32} {Q Q' : Int32 → Mem → Prop} {M : Mem} (hD : Dok w D)  (hQ : ∀ z0 z1, Ow w D T h M z1 → Q z0 z1 → Q' z0 z1) : St w D T h M → w_World_changesFinal this a1 a2 Q M → w_World_changesFinal this a1 a2 Q' M := by
  intro hs
  unfold w_World_changesFinal
  exact (mf_and fun _ => (Exists.imp fun n23 => (mo_w_World_changesFinal_L7 hD  (fun _ e => e) hQ _ _ _ _ _  (Ow.rf hs))))
set_option maxRecDepth 20000 in
theorem mo_w_World_lay_j71 {w : Nat} {D : Nat → Nat → Prop} {T : Nat → Prop} {h : Hot} {this : Nat} {Q Q' : Mem → Prop} {h_Q : Hot} {k27 k27' : Int32 → Int32 → Int32 → Mem → Prop} {h_k27 : Hot} {v1 : Int32} {v3 : Int32} {v4 : Int32} {M : Mem} {M0 : Mem} (hD : Dok w D)  (lQ : ∀ t, h_Q t = true → h t = true) (hQ : ∀ z0, Ow w D T h_Q M0 z0 → Q z0 → Q' z0) (lk27 : ∀ t, h_k27 t = true → h t = true) (hk27 : ∀ z0 z1 z2 z3, Ow w D T h_k27 M0 z3 → k27 z0 z1 z2 z3 → k27' z0 z1 z2 z3) : Ow w D T h M0 M → w_World_lay_j71 this Q k27 v1 v3 v4 M → w_World_lay_j71 this Q' k27' v1 v3 v4 M := by
  intro hf
  unfold w_World_lay_j71
  exact (hk27 _ _ _ _  (Ow.dn lk27 hf))
set_option maxRecDepth 20000 in
theorem mo_w_World_lay_L27 {w : Nat} {D : Nat → Nat → Prop} {T : Nat → Prop} {h : Hot} {this : Nat} {Q Q' : Mem → Prop} {h_Q : Hot} {M0 : Mem} (hD : Dok w D) (n0 : ow w D 48 this) (lQ : ∀ t, h_Q t = true → h t = true) (hQ : ∀ z0, Ow w D T h_Q M0 z0 → Q z0 → Q' z0) : ∀ (n : Nat) (v1 : Int32) (v3 : Int32) (v4 : Int32) (M : Mem), Ow w D T h M0 M → w_World_lay_L27 this Q n v1 v3 v4 M → w_World_lay_L27 this Q' n v1 v3 v4 M
  | 0, _, _, _, _ => fun  _ h => h
  | n + 1, v1, v3, v4, M => fun  hf => by
    unfold w_World_lay_L27
    exact (mf_and fun _ => (mf_and fun _ => (mf_ite (mf_and fun _ => (hQ _  (Ow.dn lQ (Ow.wI n0 hf)))) (mf_and fun _ => (mf_ite (mf_and fun _ => (have g1 : Ow w D T _ M0 (sI M 53 this v4.toNatClampNeg v3) := (Ow.wI (ow.to n0 rfl rfl) hf); (mo_w_World_lay_j71 hD  lQ hQ (fun _ e => e) (fun y0 y1 y2 y3  hf => mo_w_World_lay_L27 hD n0 lQ hQ n y0 y1 y2 y3  hf) g1))) (mo_w_World_lay_j71 hD  lQ hQ (fun _ e => e) (fun y0 y1 y2 y3  hf => mo_w_World_lay_L27 hD n0 lQ hQ n y0 y1 y2 y3  hf) hf))))))
set_option maxRecDepth 20000 in
theorem mo_w_World_lay {w : Nat} {D : Nat → Nat → Prop} {T : Nat → Prop} {h : Hot} {this : Nat} {a1 : Int32} {a2 : Int32} {Q Q' : Mem → Prop} {M : Mem} (hD : Dok w D) (n0 : ow w D 47 this) (hQ : ∀ z0, Ow w D T h M z0 → Q z0 → Q' z0) : St w D T h M → w_World_lay this a1 a2 Q M → w_World_lay this a1 a2 Q' M := by
  intro hs
  unfold w_World_lay
  exact (mf_and fun _ => (mf_and fun _ => (mf_and fun _ => (Exists.imp fun x4 => (mf_and fun _ => (mf_and fun _ => (Exists.imp fun x6 => (mf_and fun _ => (Exists.imp fun n14 => (have g1 : Ow w D T _ M (sI M 47 this a1.toNatClampNeg (mI M 48 this a2.toNatClampNeg)) := (Ow.wI n0 (Ow.rf hs)); (mo_w_World_lay_L27 hD (ow.to n0 rfl rfl) (fun _ e => e) hQ _ _ _ _ _  g1)))))))))))
set_option maxRecDepth 20000 in
theorem mo_w_Checker_isMaker {w : Nat} {D : Nat → Nat → Prop} {T : Nat → Prop} {h : Hot} {this : Nat} {Q Q' : Int32 → Mem → Prop} {M : Mem} (hD : Dok w D)  (hQ : ∀ z0 z1, Ow w D T h M z1 → Q z0 z1 → Q' z0 z1) : St w D T h M → w_Checker_isMaker this Q M → w_Checker_isMaker this Q' M := by
  intro hs
  unfold w_Checker_isMaker
  exact (Exists.imp fun i1 => (mf_and fun e1 => (mf_and fun _ => (mf_ite (hQ _ _  (Ow.rf hs)) (hQ _ _  (Ow.rf hs))))))
set_option maxRecDepth 20000 in
theorem mo_w_Checker_classKind {w : Nat} {D : Nat → Nat → Prop} {T : Nat → Prop} {h : Hot} {this : Nat} {Q Q' : Int32 → Mem → Prop} {M : Mem} (hD : Dok w D)  (hQ : ∀ z0 z1, Ow w D T h M z1 → Q z0 z1 → Q' z0 z1) : St w D T h M → w_Checker_classKind this Q M → w_Checker_classKind this Q' M := by
  intro hs
  unfold w_Checker_classKind
  exact (Exists.imp fun i1 => (mf_and fun e1 => (mf_and fun _ => (mo_w_Works_kindOf hD  (fun r4 M3 f3 => (have g4 : Ow w D T _ M M3 := (Ow.trans (Ow.rf hs) f3); (hQ _ _  g4))) (Ow.rf hs).1))))
set_option maxRecDepth 20000 in
theorem mo_w_Checker_begin_L106 {w : Nat} {D : Nat → Nat → Prop} {T : Nat → Prop} {h : Hot} {this : Nat} {Q Q' : Mem → Prop} {h_Q : Hot} {M0 : Mem} (hD : Dok w D)  (lQ : ∀ t, h_Q t = true → h t = true) (hQ : ∀ z0, Ow w D T h_Q M0 z0 → Q z0 → Q' z0) : ∀ (n : Nat) (v1 : Int32) (v2 : Int32) (M : Mem), Ow w D T h M0 M → w_Checker_begin_L106 this Q n v1 v2 M → w_Checker_begin_L106 this Q' n v1 v2 M
  | 0, _, _, _ => fun  _ h => h
  | n + 1, v1, v2, M => fun  hf => by
    unfold w_Checker_begin_L106
    exact (mf_ite (mf_and fun _ => (hQ _  (Ow.dn lQ (Ow.wI (ow0 rfl) (Ow.wI (ow0 rfl) hf))))) (mf_and fun _ => (have g1 : Ow w D T _ M0 (sI M 31 this v2.toNatClampNeg (-2 : Int32)) := (Ow.wI (ow0 rfl) hf); (mo_w_Checker_begin_L106 hD  lQ hQ _ _ _ _  g1))))
set_option maxRecDepth 20000 in
theorem mo_w_Checker_begin_L58 {w : Nat} {D : Nat → Nat → Prop} {T : Nat → Prop} {h : Hot} {this : Nat} {Q Q' : Mem → Prop} {h_Q : Hot} {M0 : Mem} (hD : Dok w D)  (lQ : ∀ t, h_Q t = true → h t = true) (hQ : ∀ z0, Ow w D T h_Q M0 z0 → Q z0 → Q' z0) : ∀ (n : Nat) (v1 : Int32) (v2 : Int32) (v3 : Int32) (M : Mem), Ow w D T h M0 M → w_Checker_begin_L58 this Q n v1 v2 v3 M → w_Checker_begin_L58 this Q' n v1 v2 v3 M
  | 0, _, _, _, _ => fun  _ h => h
  | n + 1, v1, v2, v3, M => fun  hf => by
    unfold w_Checker_begin_L58
    exact (Exists.imp fun i12 => (mf_and fun e1 => (mf_and fun _ => (mf_ite (Exists.imp fun n18 => (mo_w_Checker_begin_L106 hD  lQ hQ _ _ _ _  hf)) (Exists.imp fun i19 => (mf_and fun e3 => (mf_and fun _ => (mf_and fun _ => (Exists.imp fun M22 => (mf_and fun e5 => (have g6 : Ow w D T _ M0 M22 := Ow.of e5 (Ow.wI (ow0 rfl) hf); (mo_w_Checker_begin_L58 hD  lQ hQ _ _ _ _ _  g6))))))))))))
set_option maxRecDepth 20000 in
theorem mo_w_Checker_begin_j56 {w : Nat} {D : Nat → Nat → Prop} {T : Nat → Prop} {h : Hot} {this : Nat} {Q Q' : Mem → Prop} {h_Q : Hot} {v1 : Int32} {v2 : Int32} {M : Mem} {M0 : Mem} (hD : Dok w D)  (lQ : ∀ t, h_Q t = true → h t = true) (hQ : ∀ z0, Ow w D T h_Q M0 z0 → Q z0 → Q' z0) : Ow w D T h M0 M → w_Checker_begin_j56 this Q v1 v2 M → w_Checker_begin_j56 this Q' v1 v2 M := by
  intro hf
  unfold w_Checker_begin_j56
  exact (Exists.imp fun n23 => (mo_w_Checker_begin_L58 hD  lQ hQ _ _ _ _ _  hf))
set_option maxRecDepth 20000 in
theorem mo_w_Checker_begin_j53 {w : Nat} {D : Nat → Nat → Prop} {T : Nat → Prop} {h : Hot} {this : Nat} {Q Q' : Mem → Prop} {h_Q : Hot} {v1 : Int32} {s0 : Int32} {s1 : Int32} {M : Mem} {M0 : Mem} (hD : Dok w D)  (lQ : ∀ t, h_Q t = true → h t = true) (hQ : ∀ z0, Ow w D T h_Q M0 z0 → Q z0 → Q' z0) : Ow w D T h M0 M → w_Checker_begin_j53 this Q v1 s0 s1 M → w_Checker_begin_j53 this Q' v1 s0 s1 M := by
  intro hf
  unfold w_Checker_begin_j53
  exact (mf_and fun _ => (have g1 : Ow w D T _ M0 (sI M 31 this s1.toNatClampNeg s0) := (Ow.wI (ow0 rfl) hf); (mo_w_Checker_begin_j56 hD  lQ hQ g1)))
set_option maxRecDepth 20000 in
theorem mo_w_Checker_begin {w : Nat} {D : Nat → Nat → Prop} {T : Nat → Prop} {h : Hot} {this : Nat} {Q Q' : Mem → Prop} {M : Mem} (hD : Dok w D)  (hQ : ∀ z0, Ow w D T h M z0 → Q z0 → Q' z0) : St w D T h M → w_Checker_begin this Q M → w_Checker_begin this Q' M := by
  intro hs
  unfold w_Checker_begin
  exact (Exists.imp fun i1 => (mf_and fun e1 => (mf_and fun _ => (Exists.imp fun i3 => (mf_and fun e3 => (mf_and fun _ => (mf_ite (mo_w_Checker_isMaker hD  (fun r7 M6 f5 => (have g6 : Ow w D T _ M M6 := (Ow.trans (Ow.rf hs) f5); (mf_ite (mo_w_Checker_classKind hD  (fun r10 M9 f7 => (have g8 : Ow w D T _ M M9 := (Ow.trans g6 f7); (mo_w_Checker_begin_j53 hD  (fun _ e => e) hQ g8))) g6.1) (mo_w_Checker_begin_j53 hD  (fun _ e => e) hQ g6)))) (Ow.rf hs).1) (mo_w_Checker_begin_j56 hD  (fun _ e => e) hQ (Ow.rf hs)))))))))
set_option maxRecDepth 20000 in
theorem mo_w_Checker_code {w : Nat} {D : Nat → Nat → Prop} {T : Nat → Prop} {h : Hot} {this : Nat} {Q Q' : Int32 → Mem → Prop} {M : Mem} (hD : Dok w D)  (hQ : ∀ z0 z1, Ow w D T h M z1 → Q z0 z1 → Q' z0 z1) : St w D T h M → w_Checker_code this Q M → w_Checker_code this Q' M := by
  intro hs
  unfold w_Checker_code
  exact (Exists.imp fun i1 => (mf_and fun e1 => (mf_and fun _ => (hQ _ _  (Ow.rf hs)))))
set_option maxRecDepth 20000 in
theorem mo_w_Checker_breaks {w : Nat} {D : Nat → Nat → Prop} {T : Nat → Prop} {h : Hot} {this : Nat} {a1 : Int32} {Q Q' : Int32 → Mem → Prop} {M : Mem} (hD : Dok w D)  (hQ : ∀ z0 z1, Ow w D T h M z1 → Q z0 z1 → Q' z0 z1) : St w D T h M → w_Checker_breaks this a1 Q M → w_Checker_breaks this a1 Q' M := by
  intro hs
  unfold w_Checker_breaks
  exact (mf_ite (hQ _ _  (Ow.wI (ow0 rfl) (Ow.rf hs))) (hQ _ _  (Ow.rf hs)))
set_option maxRecDepth 20000 in
theorem mo_w_Checker_isRight_j71 {w : Nat} {D : Nat → Nat → Prop} {T : Nat → Prop} {h : Hot} {this : Nat} {Q Q' : Int32 → Mem → Prop} {h_Q : Hot} {M : Mem} {M0 : Mem} (hD : Dok w D)  (lQ : ∀ t, h_Q t = true → h t = true) (hQ : ∀ z0 z1, Ow w D T h_Q M0 z1 → Q z0 z1 → Q' z0 z1) : Ow w D T h M0 M → w_Checker_isRight_j71 this Q M → w_Checker_isRight_j71 this Q' M := by
  intro hf
  unfold w_Checker_isRight_j71
  exact (mo_w_Checker_breaks hD  (fun r10 M9 f1 => (have g2 : Ow w D T _ M0 M9 := (Ow.trans hf f1); (mf_and fun _ => (hQ _ _  (Ow.dn lQ g2))))) hf.1)
set_option maxRecDepth 20000 in
theorem mo_w_Checker_isRight_j138 {w : Nat} {D : Nat → Nat → Prop} {T : Nat → Prop} {h : Hot} {this : Nat} {Q Q' : Int32 → Mem → Prop} {h_Q : Hot} {M : Mem} {M0 : Mem} (hD : Dok w D)  (lQ : ∀ t, h_Q t = true → h t = true) (hQ : ∀ z0 z1, Ow w D T h_Q M0 z1 → Q z0 z1 → Q' z0 z1) : Ow w D T h M0 M → w_Checker_isRight_j138 this Q M → w_Checker_isRight_j138 this Q' M := by
  intro hf
  unfold w_Checker_isRight_j138
  exact (mo_w_Checker_breaks hD  (fun r24 M23 f1 => (have g2 : Ow w D T _ M0 M23 := (Ow.trans hf f1); (mf_and fun _ => (hQ _ _  (Ow.dn lQ g2))))) hf.1)
set_option maxRecDepth 20000 in
theorem mo_w_Checker_isRight_j145 {w : Nat} {D : Nat → Nat → Prop} {T : Nat → Prop} {h : Hot} {this : Nat} {Q Q' : Int32 → Mem → Prop} {h_Q : Hot} {k81 k81' : Int32 → Int32 → Int32 → Int32 → Mem → Prop} {h_k81 : Hot} {v1 : Int32} {v2 : Int32} {v3 : Int32} {v4 : Int32} {M : Mem} {M0 : Mem} (hD : Dok w D)  (lQ : ∀ t, h_Q t = true → h t = true) (hQ : ∀ z0 z1, Ow w D T h_Q M0 z1 → Q z0 z1 → Q' z0 z1) (lk81 : ∀ t, h_k81 t = true → h t = true) (hk81 : ∀ z0 z1 z2 z3 z4, Ow w D T h_k81 M0 z4 → k81 z0 z1 z2 z3 z4 → k81' z0 z1 z2 z3 z4) : Ow w D T h M0 M → w_Checker_isRight_j145 this Q k81 v1 v2 v3 v4 M → w_Checker_isRight_j145 this Q' k81' v1 v2 v3 v4 M := by
  intro hf
  unfold w_Checker_isRight_j145
  exact (hk81 _ _ _ _ _  (Ow.dn lk81 hf))
set_option maxRecDepth 20000 in
theorem mo_w_Checker_isRight_j124 {w : Nat} {D : Nat → Nat → Prop} {T : Nat → Prop} {h : Hot} {this : Nat} {Q Q' : Int32 → Mem → Prop} {h_Q : Hot} {k81 k81' : Int32 → Int32 → Int32 → Int32 → Mem → Prop} {h_k81 : Hot} {v1 : Int32} {v2 : Int32} {v3 : Int32} {v4 : Int32} {v5 : Int32} {M : Mem} {M0 : Mem} (hD : Dok w D)  (lQ : ∀ t, h_Q t = true → h t = true) (hQ : ∀ z0 z1, Ow w D T h_Q M0 z1 → Q z0 z1 → Q' z0 z1) (lk81 : ∀ t, h_k81 t = true → h t = true) (hk81 : ∀ z0 z1 z2 z3 z4, Ow w D T h_k81 M0 z4 → k81 z0 z1 z2 z3 z4 → k81' z0 z1 z2 z3 z4) : Ow w D T h M0 M → w_Checker_isRight_j124 this Q k81 v1 v2 v3 v4 v5 M → w_Checker_isRight_j124 this Q' k81' v1 v2 v3 v4 v5 M := by
  intro hf
  unfold w_Checker_isRight_j124
  exact (mf_ite (mo_w_Checker_isMaker hD  (fun r27 M26 f1 => (have g2 : Ow w D T _ M0 M26 := (Ow.trans hf f1); (mf_ite (mo_w_Checker_isRight_j138 hD  lQ hQ g2) (mo_w_Checker_isRight_j145 hD  lQ hQ lk81 hk81 g2)))) hf.1) (mo_w_Checker_isRight_j145 hD  lQ hQ lk81 hk81 hf))
set_option maxRecDepth 20000 in
theorem mo_w_Checker_isRight_L81 {w : Nat} {D : Nat → Nat → Prop} {T : Nat → Prop} {h : Hot} {this : Nat} {Q Q' : Int32 → Mem → Prop} {h_Q : Hot} {M0 : Mem} (hD : Dok w D)  (lQ : ∀ t, h_Q t = true → h t = true) (hQ : ∀ z0 z1, Ow w D T h_Q M0 z1 → Q z0 z1 → Q' z0 z1) : ∀ (n : Nat) (v1 : Int32) (v2 : Int32) (v3 : Int32) (v4 : Int32) (M : Mem), Ow w D T h M0 M → w_Checker_isRight_L81 this Q n v1 v2 v3 v4 M → w_Checker_isRight_L81 this Q' n v1 v2 v3 v4 M
  | 0, _, _, _, _, _ => fun  _ h => h
  | n + 1, v1, v2, v3, v4, M => fun  hf => by
    unfold w_Checker_isRight_L81
    exact (Exists.imp fun i16 => (mf_and fun e1 => (mf_and fun _ => (mf_ite (hQ _ _  (Ow.dn lQ hf)) (Exists.imp fun i19 => (mf_and fun e3 => (mf_and fun _ => (mf_ite (mf_ite (mo_w_Checker_isRight_j138 hD  lQ hQ hf) (mo_w_Checker_isRight_j124 hD  lQ hQ (fun _ e => e) (fun y0 y1 y2 y3 y4  hf => mo_w_Checker_isRight_L81 hD  lQ hQ n y0 y1 y2 y3 y4  hf) hf)) (mo_w_Checker_isRight_j124 hD  lQ hQ (fun _ e => e) (fun y0 y1 y2 y3 y4  hf => mo_w_Checker_isRight_L81 hD  lQ hQ n y0 y1 y2 y3 y4  hf) hf)))))))))
set_option maxRecDepth 20000 in
theorem mo_w_Checker_isRight {w : Nat} {D : Nat → Nat → Prop} {T : Nat → Prop} {h : Hot} {this : Nat} {a1 : Int32} {Q Q' : Int32 → Mem → Prop} {M : Mem} (hD : Dok w D)  (hQ : ∀ z0 z1, Ow w D T h M z1 → Q z0 z1 → Q' z0 z1) : St w D T h M → w_Checker_isRight this a1 Q M → w_Checker_isRight this a1 Q' M := by
  intro hs
  unfold w_Checker_isRight
  exact (Exists.imp fun i1 => (mf_and fun e1 => (mf_and fun _ => (Exists.imp fun i3 => (mf_and fun e3 => (mf_and fun _ => (mf_ite (Exists.imp fun i6 => (mf_and fun e5 => (mf_and fun _ => (mf_ite (mo_w_Checker_isRight_j71 hD  (fun _ e => e) hQ (Ow.rf hs)) (Exists.imp fun i11 => (mf_and fun e7 => (mf_and fun _ => (Exists.imp fun i13 => (mf_and fun e9 => (mf_and fun _ => (mf_ite (Exists.imp fun n29 => (mo_w_Checker_isRight_L81 hD  (fun _ e => e) hQ _ _ _ _ _ _  (Ow.rf hs))) (mo_w_Checker_isRight_j71 hD  (fun _ e => e) hQ (Ow.rf hs))))))))))))) (mo_w_Checker_breaks hD  (fun r31 M30 f11 => (have g12 : Ow w D T _ M M30 := (Ow.trans (Ow.rf hs) f11); (mf_and fun _ => (hQ _ _  g12)))) (Ow.rf hs).1))))))))
set_option maxRecDepth 20000 in
theorem mo_w_World_upName {w : Nat} {D : Nat → Nat → Prop} {T : Nat → Prop} {h : Hot} {this : Nat} {a1 : Int32} {Q Q' : Int32 → Mem → Prop} {M : Mem} (hD : Dok w D)  (hQ : ∀ z0 z1, Ow w D T h M z1 → Q z0 z1 → Q' z0 z1) : St w D T h M → w_World_upName this a1 Q M → w_World_upName this a1 Q' M := by
  intro hs
  unfold w_World_upName
  exact (mo_w_World_isFace hD  (fun r2 M1 f1 => (have g2 : Ow w D T _ M M1 := (Ow.trans (Ow.rf hs) f1); (mf_ite (mf_and fun _ => (hQ _ _  g2)) (hQ _ _  g2)))) (Ow.rf hs).1)
set_option maxRecDepth 20000 in
theorem mo_w_Checker_fits_L105 {w : Nat} {D : Nat → Nat → Prop} {T : Nat → Prop} {h : Hot} {this : Nat} {Q Q' : Int32 → Mem → Prop} {h_Q : Hot} {M0 : Mem} (hD : Dok w D)  (lQ : ∀ t, h_Q t = true → h t = true) (hQ : ∀ z0 z1, Ow w D T h_Q M0 z1 → Q z0 z1 → Q' z0 z1) : ∀ (n : Nat) (v3 : Int32) (v4 : Int32) (v5 : Int32) (M : Mem), Ow w D T h M0 M → w_Checker_fits_L105 this Q n v3 v4 v5 M → w_Checker_fits_L105 this Q' n v3 v4 v5 M
  | 0, _, _, _, _ => fun  _ h => h
  | n + 1, v3, v4, v5, M => fun  hf => by
    unfold w_Checker_fits_L105
    exact (Exists.imp fun i20 => (mf_and fun e1 => (mf_ite (hQ _ _  (Ow.dn lQ hf)) (Exists.imp fun i22 => (mf_and fun e3 => (mo_w_World_find hD  (fun r24 M23 f5 => (have g6 : Ow w D T _ M0 M23 := (Ow.trans hf f5); (mf_ite (mf_ite (hQ _ _  (Ow.dn lQ g6)) (mf_ite (hQ _ _  (Ow.dn lQ g6)) (Exists.imp fun i28 => (mf_and fun e7 => (mo_w_World_upName hD  (fun r30 M29 f9 => (have g10 : Ow w D T _ M0 M29 := (Ow.trans g6 f9); (mo_w_Checker_fits_L105 hD  lQ hQ _ _ _ _ _  g10))) g6.1))))) (mo_w_Checker_breaks hD  (fun r32 M31 f11 => (have g12 : Ow w D T _ M0 M31 := (Ow.trans g6 f11); (mf_and fun _ => (hQ _ _  (Ow.dn lQ g12))))) g6.1)))) hf.1))))))
set_option maxRecDepth 20000 in
theorem mo_w_Checker_fits {w : Nat} {D : Nat → Nat → Prop} {T : Nat → Prop} {h : Hot} {this : Nat} {a1 : Int32} {a2 : Int32} {Q Q' : Int32 → Mem → Prop} {M : Mem} (hD : Dok w D)  (hQ : ∀ z0 z1, Ow w D T h M z1 → Q z0 z1 → Q' z0 z1) : St w D T h M → w_Checker_fits this a1 a2 Q M → w_Checker_fits this a1 a2 Q' M := by
  intro hs
  unfold w_Checker_fits
  exact (mf_ite (hQ _ _  (Ow.rf hs)) (mf_ite (hQ _ _  (Ow.rf hs)) (mf_ite (hQ _ _  (Ow.rf hs)) (mf_ite (mf_ite (hQ _ _  (Ow.rf hs)) (mf_ite (hQ _ _  (Ow.rf hs)) (mo_w_Works_kindOf hD  (fun r8 M7 f1 => (have g2 : Ow w D T _ M M7 := (Ow.trans (Ow.rf hs) f1); (mf_ite (hQ _ _  g2) (mf_ite (hQ _ _  g2) (mf_ite (hQ _ _  g2) (Exists.imp fun i12 => (mf_and fun e3 => (mo_w_World_find hD  (fun r14 M13 f5 => (have g6 : Ow w D T _ M M13 := (Ow.trans g2 f5); (mf_ite (Exists.imp fun i16 => (mf_and fun e7 => (mo_w_World_isFace hD  (fun r18 M17 f9 => (have g10 : Ow w D T _ M M17 := (Ow.trans g6 f9); (mf_ite (Exists.imp fun n33 => (mo_w_Checker_fits_L105 hD  (fun _ e => e) hQ _ _ _ _ _  g10)) (hQ _ _  g10)))) g6.1))) (mo_w_Checker_breaks hD  (fun r35 M34 f11 => (have g12 : Ow w D T _ M M34 := (Ow.trans g6 f11); (mf_and fun _ => (hQ _ _  g12)))) g6.1)))) g2.1)))))))) (Ow.rf hs).1))) (hQ _ _  (Ow.rf hs))))))
set_option maxRecDepth 20000 in
theorem mo_w_Checker_localsFit_j62 {w : Nat} {D : Nat → Nat → Prop} {T : Nat → Prop} {h : Hot} {this : Nat} {Q Q' : Int32 → Mem → Prop} {h_Q : Hot} {k2 k2' : Int32 → Int32 → Mem → Prop} {h_k2 : Hot} {v1 : Int32} {v2 : Int32} {s0 : Int32} {s1 : Int32} {M : Mem} {M0 : Mem} (hD : Dok w D)  (lQ : ∀ t, h_Q t = true → h t = true) (hQ : ∀ z0 z1, Ow w D T h_Q M0 z1 → Q z0 z1 → Q' z0 z1) (lk2 : ∀ t, h_k2 t = true → h t = true) (hk2 : ∀ z0 z1 z2, Ow w D T h_k2 M0 z2 → k2 z0 z1 z2 → k2' z0 z1 z2) : Ow w D T h M0 M → w_Checker_localsFit_j62 this Q k2 v1 v2 s0 s1 M → w_Checker_localsFit_j62 this Q' k2' v1 v2 s0 s1 M := by
  intro hf
  unfold w_Checker_localsFit_j62
  exact (mo_w_Checker_fits hD  (fun r9 M8 f1 => (have g2 : Ow w D T _ M0 M8 := (Ow.trans hf f1); (mf_ite (mo_w_Checker_breaks hD  (fun r12 M11 f3 => (have g4 : Ow w D T _ M0 M11 := (Ow.trans g2 f3); (mf_and fun _ => (hQ _ _  (Ow.dn lQ g4))))) g2.1) (hk2 _ _ _  (Ow.dn lk2 g2))))) hf.1)
set_option maxRecDepth 20000 in
theorem mo_w_Checker_localsFit_L2 {w : Nat} {D : Nat → Nat → Prop} {T : Nat → Prop} {h : Hot} {this : Nat} {Q Q' : Int32 → Mem → Prop} {h_Q : Hot} {M0 : Mem} (hD : Dok w D)  (lQ : ∀ t, h_Q t = true → h t = true) (hQ : ∀ z0 z1, Ow w D T h_Q M0 z1 → Q z0 z1 → Q' z0 z1) : ∀ (n : Nat) (v1 : Int32) (v2 : Int32) (M : Mem), Ow w D T h M0 M → w_Checker_localsFit_L2 this Q n v1 v2 M → w_Checker_localsFit_L2 this Q' n v1 v2 M
  | 0, _, _, _ => fun  _ h => h
  | n + 1, v1, v2, M => fun  hf => by
    unfold w_Checker_localsFit_L2
    exact (Exists.imp fun i1 => (mf_and fun e1 => (mf_and fun _ => (mf_ite (hQ _ _  (Ow.dn lQ hf)) (mf_and fun _ => (Exists.imp fun i5 => (mf_and fun e3 => (mf_and fun _ => (mf_ite (mo_w_Checker_localsFit_j62 hD  lQ hQ (fun _ e => e) (fun y0 y1 y2  hf => mo_w_Checker_localsFit_L2 hD  lQ hQ n y0 y1 y2  hf) hf) (Exists.imp fun i13 => (mf_and fun e5 => (Exists.imp fun i14 => (mf_and fun e7 => (mf_and fun _ => (mf_and fun _ => (mo_w_Checker_localsFit_j62 hD  lQ hQ (fun _ e => e) (fun y0 y1 y2  hf => mo_w_Checker_localsFit_L2 hD  lQ hQ n y0 y1 y2  hf) hf))))))))))))))))
set_option maxRecDepth 20000 in
theorem mo_w_Checker_localsFit {w : Nat} {D : Nat → Nat → Prop} {T : Nat → Prop} {h : Hot} {this : Nat} {a1 : Int32} {Q Q' : Int32 → Mem → Prop} {M : Mem} (hD : Dok w D)  (hQ : ∀ z0 z1, Ow w D T h M z1 → Q z0 z1 → Q' z0 z1) : St w D T h M → w_Checker_localsFit this a1 Q M → w_Checker_localsFit this a1 Q' M := by
  intro hs
  unfold w_Checker_localsFit
  exact (Exists.imp fun n17 => (mo_w_Checker_localsFit_L2 hD  (fun _ e => e) hQ _ _ _ _  (Ow.rf hs)))
set_option maxRecDepth 20000 in
theorem mo_w_Checker_stackFits_L2 {w : Nat} {D : Nat → Nat → Prop} {T : Nat → Prop} {h : Hot} {this : Nat} {Q Q' : Int32 → Mem → Prop} {h_Q : Hot} {M0 : Mem} (hD : Dok w D)  (lQ : ∀ t, h_Q t = true → h t = true) (hQ : ∀ z0 z1, Ow w D T h_Q M0 z1 → Q z0 z1 → Q' z0 z1) : ∀ (n : Nat) (v1 : Int32) (v2 : Int32) (M : Mem), Ow w D T h M0 M → w_Checker_stackFits_L2 this Q n v1 v2 M → w_Checker_stackFits_L2 this Q' n v1 v2 M
  | 0, _, _, _ => fun  _ h => h
  | n + 1, v1, v2, M => fun  hf => by
    unfold w_Checker_stackFits_L2
    exact (mf_ite (hQ _ _  (Ow.dn lQ hf)) (mf_and fun _ => (Exists.imp fun i3 => (mf_and fun e1 => (mf_and fun _ => (mo_w_Checker_fits hD  (fun r6 M5 f3 => (have g4 : Ow w D T _ M0 M5 := (Ow.trans hf f3); (mf_ite (mo_w_Checker_breaks hD  (fun r9 M8 f5 => (have g6 : Ow w D T _ M0 M8 := (Ow.trans g4 f5); (mf_and fun _ => (hQ _ _  (Ow.dn lQ g6))))) g4.1) (mo_w_Checker_stackFits_L2 hD  lQ hQ _ _ _ _  g4)))) hf.1))))))
set_option maxRecDepth 20000 in
theorem mo_w_Checker_stackFits {w : Nat} {D : Nat → Nat → Prop} {T : Nat → Prop} {h : Hot} {this : Nat} {a1 : Int32} {Q Q' : Int32 → Mem → Prop} {M : Mem} (hD : Dok w D)  (hQ : ∀ z0 z1, Ow w D T h M z1 → Q z0 z1 → Q' z0 z1) : St w D T h M → w_Checker_stackFits this a1 Q M → w_Checker_stackFits this a1 Q' M := by
  intro hs
  unfold w_Checker_stackFits
  exact (Exists.imp fun n10 => (mo_w_Checker_stackFits_L2 hD  (fun _ e => e) hQ _ _ _ _  (Ow.rf hs)))
set_option maxRecDepth 20000 in
theorem mo_w_Checker_goes_j77 {w : Nat} {D : Nat → Nat → Prop} {T : Nat → Prop} {h : Hot} {this : Nat} {Q Q' : Int32 → Mem → Prop} {h_Q : Hot} {v2 : Int32} {v3 : Int32} {M : Mem} {M0 : Mem} (hD : Dok w D)  (lQ : ∀ t, h_Q t = true → h t = true) (hQ : ∀ z0 z1, Ow w D T h_Q M0 z1 → Q z0 z1 → Q' z0 z1) : Ow w D T h M0 M → w_Checker_goes_j77 this Q v2 v3 M → w_Checker_goes_j77 this Q' v2 v3 M := by
  intro hf
  unfold w_Checker_goes_j77
  exact (Exists.imp fun i16 => (mf_and fun e1 => (mf_and fun _ => (mo_w_Checker_stackFits hD  (fun r19 M18 f3 => (have g4 : Ow w D T _ M0 M18 := (Ow.trans hf f3); (mf_ite (hQ _ _  (Ow.dn lQ g4)) (hQ _ _  (Ow.dn lQ g4))))) hf.1))))
set_option maxRecDepth 20000 in
theorem mo_w_Checker_goes {w : Nat} {D : Nat → Nat → Prop} {T : Nat → Prop} {h : Hot} {this : Nat} {a1 : Int32} {Q Q' : Int32 → Mem → Prop} {M : Mem} (hD : Dok w D)  (hQ : ∀ z0 z1, Ow w D T h M z1 → Q z0 z1 → Q' z0 z1) : St w D T h M → w_Checker_goes this a1 Q M → w_Checker_goes this a1 Q' M := by
  intro hs
  unfold w_Checker_goes
  exact (Exists.imp fun i1 => (mf_and fun e1 => (mf_and fun _ => (mo_w_Checker_isRight hD  (fun r4 M3 f3 => (have g4 : Ow w D T _ M M3 := (Ow.trans (Ow.rf hs) f3); (mf_ite (hQ _ _  g4) (mf_ite (hQ _ _  g4) (Exists.imp fun i7 => (mf_and fun e5 => (mf_and fun _ => (Exists.imp fun x9 => (mf_and fun _ => (mo_w_Checker_localsFit hD  (fun r11 M10 f7 => (have g8 : Ow w D T _ M M10 := (Ow.trans g4 f7); (mf_ite (hQ _ _  g8) (Exists.imp fun i13 => (mf_and fun e9 => (mf_and fun _ => (mf_ite (mo_w_Checker_goes_j77 hD  (fun _ e => e) hQ g8) (mo_w_Checker_breaks hD  (fun r22 M21 f11 => (have g12 : Ow w D T _ M M21 := (Ow.trans g8 f11); (mf_ite (hQ _ _  g12) (mo_w_Checker_goes_j77 hD  (fun _ e => e) hQ g12)))) g8.1)))))))) g4.1)))))))))) (Ow.rf hs).1))))
set_option maxRecDepth 20000 in
theorem mo_w_Checker_keep {w : Nat} {D : Nat → Nat → Prop} {T : Nat → Prop} {h : Hot} {this : Nat} {Q Q' : Mem → Prop} {M : Mem} (hD : Dok w D)  (hQ : ∀ z0, Ow w D T h M z0 → Q z0 → Q' z0) : St w D T h M → w_Checker_keep this Q M → w_Checker_keep this Q' M := by
  intro hs
  unfold w_Checker_keep
  exact (mf_ite (hQ _  (Ow.rf hs)) (mf_and fun _ => (mf_and fun _ => (Exists.imp fun M4 => (mf_and fun e1 => (have g2 : Ow w D T _ M M4 := Ow.of e1 (Ow.wI (ow0 rfl) (Ow.wI (ow0 rfl) (Ow.rf hs))); (mf_and fun _ => (mf_and fun _ => (mf_and fun _ => (mf_and fun _ => (mf_and fun _ => (Exists.imp fun M5 => (mf_and fun e3 => (have g4 : Ow w D T _ M M5 := Ow.of e3 (Ow.wcp (ow0 rfl) g2); (mf_and fun _ => (mf_and fun _ => (mf_and fun _ => (mf_and fun _ => (mf_and fun _ => (Exists.imp fun M11 => (mf_and fun e5 => (have g6 : Ow w D T _ M M11 := Ow.of e5 (Ow.wcp (ow0 rfl) g4); (hQ _  g6)))))))))))))))))))))))
set_option maxRecDepth 20000 in
theorem mo_w_Checker_isUp_L5 {w : Nat} {D : Nat → Nat → Prop} {T : Nat → Prop} {h : Hot} {this : Nat} {Q Q' : Int32 → Mem → Prop} {h_Q : Hot} {M0 : Mem} (hD : Dok w D)  (lQ : ∀ t, h_Q t = true → h t = true) (hQ : ∀ z0 z1, Ow w D T h_Q M0 z1 → Q z0 z1 → Q' z0 z1) : ∀ (n : Nat) (v2 : Int32) (v3 : Int32) (v4 : Int32) (M : Mem), Ow w D T h M0 M → w_Checker_isUp_L5 this Q n v2 v3 v4 M → w_Checker_isUp_L5 this Q' n v2 v3 v4 M
  | 0, _, _, _, _ => fun  _ h => h
  | n + 1, v2, v3, v4, M => fun  hf => by
    unfold w_Checker_isUp_L5
    exact (Exists.imp fun i1 => (mf_and fun e1 => (mf_ite (hQ _ _  (Ow.dn lQ hf)) (Exists.imp fun i3 => (mf_and fun e3 => (mo_w_World_find hD  (fun r5 M4 f5 => (have g6 : Ow w D T _ M0 M4 := (Ow.trans hf f5); (mf_ite (hQ _ _  (Ow.dn lQ g6)) (mf_ite (Exists.imp fun i8 => (mf_and fun e7 => (mo_w_World_upName hD  (fun r10 M9 f9 => (have g10 : Ow w D T _ M0 M9 := (Ow.trans g6 f9); (mo_w_Checker_isUp_L5 hD  lQ hQ _ _ _ _ _  g10))) g6.1))) (hQ _ _  (Ow.dn lQ g6)))))) hf.1))))))
set_option maxRecDepth 20000 in
theorem mo_w_Checker_isUp {w : Nat} {D : Nat → Nat → Prop} {T : Nat → Prop} {h : Hot} {this : Nat} {a1 : Int32} {a2 : Int32} {Q Q' : Int32 → Mem → Prop} {M : Mem} (hD : Dok w D)  (hQ : ∀ z0 z1, Ow w D T h M z1 → Q z0 z1 → Q' z0 z1) : St w D T h M → w_Checker_isUp this a1 a2 Q M → w_Checker_isUp this a1 a2 Q' M := by
  intro hs
  unfold w_Checker_isUp
  exact (Exists.imp fun n11 => (mo_w_Checker_isUp_L5 hD  (fun _ e => e) hQ _ _ _ _ _  (Ow.rf hs)))
set_option maxRecDepth 20000 in
theorem mo_w_Checker_joined_j34 {w : Nat} {D : Nat → Nat → Prop} {T : Nat → Prop} {h : Hot} {this : Nat} {Q Q' : Int32 → Mem → Prop} {h_Q : Hot} {v1 : Int32} {v2 : Int32} {M : Mem} {M0 : Mem} (hD : Dok w D)  (lQ : ∀ t, h_Q t = true → h t = true) (hQ : ∀ z0 z1, Ow w D T h_Q M0 z1 → Q z0 z1 → Q' z0 z1) : Ow w D T h M0 M → w_Checker_joined_j34 this Q v1 v2 M → w_Checker_joined_j34 this Q' v1 v2 M := by
  intro hf
  unfold w_Checker_joined_j34
  exact (mf_ite (hQ _ _  (Ow.dn lQ hf)) (hQ _ _  (Ow.dn lQ hf)))
set_option maxRecDepth 20000 in
theorem mo_w_Checker_joined_L97 {w : Nat} {D : Nat → Nat → Prop} {T : Nat → Prop} {h : Hot} {this : Nat} {Q Q' : Int32 → Mem → Prop} {h_Q : Hot} {M0 : Mem} (hD : Dok w D)  (lQ : ∀ t, h_Q t = true → h t = true) (hQ : ∀ z0 z1, Ow w D T h_Q M0 z1 → Q z0 z1 → Q' z0 z1) : ∀ (n : Nat) (v2 : Int32) (v3 : Int32) (v4 : Int32) (v5 : Int32) (M : Mem), Ow w D T h M0 M → w_Checker_joined_L97 this Q n v2 v3 v4 v5 M → w_Checker_joined_L97 this Q' n v2 v3 v4 v5 M
  | 0, _, _, _, _, _ => fun  _ h => h
  | n + 1, v2, v3, v4, v5, M => fun  hf => by
    unfold w_Checker_joined_L97
    exact (Exists.imp fun i23 => (mf_and fun e1 => (mf_ite (hQ _ _  (Ow.dn lQ hf)) (Exists.imp fun i25 => (mf_and fun e3 => (mo_w_World_find hD  (fun r27 M26 f5 => (have g6 : Ow w D T _ M0 M26 := (Ow.trans hf f5); (mf_ite (mo_w_Checker_isUp hD  (fun r30 M29 f7 => (have g8 : Ow w D T _ M0 M29 := (Ow.trans g6 f7); (mf_ite (mf_ite (hQ _ _  (Ow.dn lQ g8)) (Exists.imp fun i33 => (mf_and fun e9 => (mo_w_World_upName hD  (fun r35 M34 f11 => (have g12 : Ow w D T _ M0 M34 := (Ow.trans g8 f11); (mo_w_Checker_joined_L97 hD  lQ hQ _ _ _ _ _ _  g12))) g8.1)))) (mo_w_Works_kindOf hD  (fun r37 M36 f13 => (have g14 : Ow w D T _ M0 M36 := (Ow.trans g8 f13); (hQ _ _  (Ow.dn lQ g14)))) g8.1)))) g6.1) (hQ _ _  (Ow.dn lQ g6))))) hf.1))))))
set_option maxRecDepth 20000 in
theorem mo_w_Checker_joined {w : Nat} {D : Nat → Nat → Prop} {T : Nat → Prop} {h : Hot} {this : Nat} {a1 : Int32} {a2 : Int32} {Q Q' : Int32 → Mem → Prop} {M : Mem} (hD : Dok w D)  (hQ : ∀ z0 z1, Ow w D T h M z1 → Q z0 z1 → Q' z0 z1) : St w D T h M → w_Checker_joined this a1 a2 Q M → w_Checker_joined this a1 a2 Q' M := by
  intro hs
  unfold w_Checker_joined
  exact (mf_ite (hQ _ _  (Ow.rf hs)) (mo_w_Works_isReference hD  (fun r3 M2 f1 => (have g2 : Ow w D T _ M M2 := (Ow.trans (Ow.rf hs) f1); (mf_ite (hQ _ _  g2) (mo_w_Works_isReference hD  (fun r6 M5 f3 => (have g4 : Ow w D T _ M M5 := (Ow.trans g2 f3); (mf_ite (hQ _ _  g4) (mf_ite (mo_w_Checker_joined_j34 hD  (fun _ e => e) hQ g4) (mf_ite (mo_w_Checker_joined_j34 hD  (fun _ e => e) hQ g4) (mo_w_Works_kindOf hD  (fun r12 M11 f5 => (have g6 : Ow w D T _ M M11 := (Ow.trans g4 f5); (mf_ite (hQ _ _  g6) (mf_ite (hQ _ _  g6) (Exists.imp fun i15 => (mf_and fun e7 => (mo_w_World_find hD  (fun r17 M16 f9 => (have g10 : Ow w D T _ M M16 := (Ow.trans g6 f9); (mf_ite (hQ _ _  g10) (Exists.imp fun i19 => (mf_and fun e11 => (mo_w_World_find hD  (fun r21 M20 f13 => (have g14 : Ow w D T _ M M20 := (Ow.trans g10 f13); (mf_ite (Exists.imp fun n38 => (mo_w_Checker_joined_L97 hD  (fun _ e => e) hQ _ _ _ _ _ _  g14)) (hQ _ _  g14)))) g10.1)))))) g6.1))))))) g4.1)))))) g2.1)))) (Ow.rf hs).1))
set_option maxRecDepth 20000 in
theorem mo_w_Checker_put_j20 {w : Nat} {D : Nat → Nat → Prop} {T : Nat → Prop} {h : Hot} {this : Nat} {Q Q' : Mem → Prop} {h_Q : Hot} {v1 : Int32} {v2 : Int32} {s0 : Int32} {s1 : Int32} {M : Mem} {M0 : Mem} (hD : Dok w D)  (lQ : ∀ t, h_Q t = true → h t = true) (hQ : ∀ z0, Ow w D T h_Q M0 z0 → Q z0 → Q' z0) : Ow w D T h M0 M → w_Checker_put_j20 this Q v1 v2 s0 s1 M → w_Checker_put_j20 this Q' v1 v2 s0 s1 M := by
  intro hf
  unfold w_Checker_put_j20
  exact (mf_and fun _ => (mf_and fun _ => (hQ _  (Ow.dn lQ (Ow.wI (ow0 rfl) (Ow.wI (ow0 rfl) hf))))))
set_option maxRecDepth 20000 in
theorem mo_w_Checker_put {w : Nat} {D : Nat → Nat → Prop} {T : Nat → Prop} {h : Hot} {this : Nat} {a1 : Int32} {a2 : Int32} {Q Q' : Mem → Prop} {M : Mem} (hD : Dok w D)  (hQ : ∀ z0, Ow w D T h M z0 → Q z0 → Q' z0) : St w D T h M → w_Checker_put this a1 a2 Q M → w_Checker_put this a1 a2 Q' M := by
  intro hs
  unfold w_Checker_put
  exact (mf_and fun _ => (mf_ite (mo_w_Checker_put_j20 hD  (fun _ e => e) hQ (Ow.rf hs)) (mo_w_Checker_put_j20 hD  (fun _ e => e) hQ (Ow.rf hs))))
set_option maxRecDepth 20000 in
theorem mo_w_Checker_joins_L193 {w : Nat} {D : Nat → Nat → Prop} {T : Nat → Prop} {h : Hot} {this : Nat} {Q Q' : Int32 → Mem → Prop} {h_Q : Hot} {M0 : Mem} (hD : Dok w D)  (lQ : ∀ t, h_Q t = true → h t = true) (hQ : ∀ z0 z1, Ow w D T h_Q M0 z1 → Q z0 z1 → Q' z0 z1) : ∀ (n : Nat) (v2 : Int32) (v3 : Int32) (M : Mem), Ow w D T h M0 M → w_Checker_joins_L193 this Q n v2 v3 M → w_Checker_joins_L193 this Q' n v2 v3 M
  | 0, _, _, _ => fun  _ h => h
  | n + 1, v2, v3, M => fun  hf => by
    unfold w_Checker_joins_L193
    exact (mf_ite (hQ _ _  (Ow.dn lQ hf)) (mf_and fun _ => (mf_and fun _ => (mo_w_Checker_joined hD  (fun r29 M28 f1 => (have g2 : Ow w D T _ M0 M28 := (Ow.trans hf f1); (mo_w_Checker_put hD  (fun M30 f3 => (have g4 : Ow w D T _ M0 M30 := (Ow.trans g2 f3); (mo_w_Checker_joins_L193 hD  lQ hQ _ _ _ _  g4))) g2.1))) hf.1))))
set_option maxRecDepth 20000 in
theorem mo_w_Checker_joins_L144 {w : Nat} {D : Nat → Nat → Prop} {T : Nat → Prop} {h : Hot} {this : Nat} {Q Q' : Int32 → Mem → Prop} {h_Q : Hot} {M0 : Mem} (hD : Dok w D)  (lQ : ∀ t, h_Q t = true → h t = true) (hQ : ∀ z0 z1, Ow w D T h_Q M0 z1 → Q z0 z1 → Q' z0 z1) : ∀ (n : Nat) (v2 : Int32) (v3 : Int32) (M : Mem), Ow w D T h M0 M → w_Checker_joins_L144 this Q n v2 v3 M → w_Checker_joins_L144 this Q' n v2 v3 M
  | 0, _, _, _ => fun  _ h => h
  | n + 1, v2, v3, M => fun  hf => by
    unfold w_Checker_joins_L144
    exact (Exists.imp fun i22 => (mf_and fun e1 => (mf_and fun _ => (mf_ite (Exists.imp fun n31 => (mo_w_Checker_joins_L193 hD  lQ hQ _ _ _ _  hf)) (mf_and fun _ => (mf_and fun _ => (mo_w_Checker_joined hD  (fun r35 M34 f3 => (have g4 : Ow w D T _ M0 M34 := (Ow.trans hf f3); (mo_w_Checker_put hD  (fun M36 f5 => (have g6 : Ow w D T _ M0 M36 := (Ow.trans g4 f5); (mo_w_Checker_joins_L144 hD  lQ hQ _ _ _ _  g6))) g4.1))) hf.1)))))))
set_option maxRecDepth 20000 in
theorem mo_w_Checker_joins_L95 {w : Nat} {D : Nat → Nat → Prop} {T : Nat → Prop} {h : Hot} {this : Nat} {Q Q' : Int32 → Mem → Prop} {h_Q : Hot} {M0 : Mem} (hD : Dok w D)  (lQ : ∀ t, h_Q t = true → h t = true) (hQ : ∀ z0 z1, Ow w D T h_Q M0 z1 → Q z0 z1 → Q' z0 z1) : ∀ (n : Nat) (v2 : Int32) (v3 : Int32) (M : Mem), Ow w D T h M0 M → w_Checker_joins_L95 this Q n v2 v3 M → w_Checker_joins_L95 this Q' n v2 v3 M
  | 0, _, _, _ => fun  _ h => h
  | n + 1, v2, v3, M => fun  hf => by
    unfold w_Checker_joins_L95
    exact (mf_ite (Exists.imp fun n37 => (mo_w_Checker_joins_L144 hD  lQ hQ _ _ _ _  hf)) (mf_and fun _ => (mf_and fun _ => (mo_w_Checker_joined hD  (fun r41 M40 f1 => (have g2 : Ow w D T _ M0 M40 := (Ow.trans hf f1); (mf_ite (mo_w_Checker_breaks hD  (fun r44 M43 f3 => (have g4 : Ow w D T _ M0 M43 := (Ow.trans g2 f3); (mf_and fun _ => (hQ _ _  (Ow.dn lQ g4))))) g2.1) (mo_w_Checker_joins_L95 hD  lQ hQ _ _ _ _  g2)))) hf.1))))
set_option maxRecDepth 20000 in
theorem mo_w_Checker_joins {w : Nat} {D : Nat → Nat → Prop} {T : Nat → Prop} {h : Hot} {this : Nat} {a1 : Int32} {Q Q' : Int32 → Mem → Prop} {M : Mem} (hD : Dok w D)  (hQ : ∀ z0 z1, Ow w D T h M z1 → Q z0 z1 → Q' z0 z1) : St w D T h M → w_Checker_joins this a1 Q M → w_Checker_joins this a1 Q' M := by
  intro hs
  unfold w_Checker_joins
  exact (mf_and fun _ => (mf_ite (mf_and fun _ => (mf_and fun _ => (Exists.imp fun M5 => (mf_and fun e1 => (have g2 : Ow w D T _ M M5 := Ow.of e1 (Ow.wI (ow0 rfl) (Ow.wI (ow0 rfl) (Ow.rf hs))); (mf_and fun _ => (mf_and fun _ => (mf_and fun _ => (mf_and fun _ => (mf_and fun _ => (Exists.imp fun M6 => (mf_and fun e3 => (have g4 : Ow w D T _ M M6 := Ow.of e3 (Ow.wcp (ow0 rfl) g2); (mf_and fun _ => (mf_and fun _ => (mf_and fun _ => (mf_and fun _ => (mf_and fun _ => (Exists.imp fun M12 => (mf_and fun e5 => (have g6 : Ow w D T _ M M12 := Ow.of e5 (Ow.wcp (ow0 rfl) g4); (mf_and fun _ => (hQ _ _  (Ow.wI (ow0 rfl) g6)))))))))))))))))))))))) (mf_and fun _ => (mf_ite (Exists.imp fun n45 => (mo_w_Checker_joins_L95 hD  (fun _ e => e) hQ _ _ _ _  (Ow.rf hs))) (mo_w_Checker_breaks hD  (fun r47 M46 f7 => (have g8 : Ow w D T _ M M46 := (Ow.trans (Ow.rf hs) f7); (mf_and fun _ => (hQ _ _  g8)))) (Ow.rf hs).1)))))
set_option maxRecDepth 20000 in
theorem mo_w_Checker_handles_j76 {w : Nat} {D : Nat → Nat → Prop} {T : Nat → Prop} {h : Hot} {this : Nat} {Q Q' : Int32 → Mem → Prop} {h_Q : Hot} {v1 : Int32} {v2 : Int32} {v3 : Int32} {s0 : Int32} {s1 : Int32} {M : Mem} {M0 : Mem} (hD : Dok w D)  (lQ : ∀ t, h_Q t = true → h t = true) (hQ : ∀ z0 z1, Ow w D T h_Q M0 z1 → Q z0 z1 → Q' z0 z1) : Ow w D T h M0 M → w_Checker_handles_j76 this Q v1 v2 v3 s0 s1 M → w_Checker_handles_j76 this Q' v1 v2 v3 s0 s1 M := by
  intro hf
  unfold w_Checker_handles_j76
  exact (mo_w_Works_kindOf hD  (fun r11 M10 f1 => (have g2 : Ow w D T _ M0 M10 := (Ow.trans hf f1); (mf_and fun _ => (Exists.imp fun i13 => (mf_and fun e3 => (mf_and fun _ => (have g5 : Ow w D T _ M0 (sI M10 32 this s1.toNatClampNeg r11) := (Ow.wI (ow0 rfl) g2); (mo_w_Checker_joins hD  (fun r16 M15 f6 => (have g7 : Ow w D T _ M0 M15 := (Ow.trans g5 f6); (mf_and fun _ => (mf_and fun _ => (hQ _ _  (Ow.dn lQ (Ow.wI (ow0 rfl) (Ow.wI (ow0 rfl) g7)))))))) g5.1)))))))) hf.1)
set_option maxRecDepth 20000 in
theorem mo_w_Checker_handles {w : Nat} {D : Nat → Nat → Prop} {T : Nat → Prop} {h : Hot} {this : Nat} {a1 : Int32} {Q Q' : Int32 → Mem → Prop} {M : Mem} (hD : Dok w D)  (hQ : ∀ z0 z1, Ow w D T h M z1 → Q z0 z1 → Q' z0 z1) : St w D T h M → w_Checker_handles this a1 Q M → w_Checker_handles this a1 Q' M := by
  intro hs
  unfold w_Checker_handles
  exact (Exists.imp fun i1 => (mf_and fun e1 => (mf_and fun _ => (mf_ite (mo_w_Checker_breaks hD  (fun r5 M4 f3 => (have g4 : Ow w D T _ M M4 := (Ow.trans (Ow.rf hs) f3); (mf_and fun _ => (hQ _ _  g4)))) (Ow.rf hs).1) (mf_and fun _ => (Exists.imp fun i7 => (mf_and fun e5 => (mf_and fun _ => (mf_ite (have g7 : Ow w D T _ M (sI M 4 this 2 (1 : Int32)) := (Ow.wI (ow0 rfl) (Ow.rf hs)); (mo_w_Checker_handles_j76 hD  (fun _ e => e) hQ g7)) (Exists.imp fun i18 => (mf_and fun e8 => (mf_and fun _ => (have g10 : Ow w D T _ M (sI M 4 this 2 (1 : Int32)) := (Ow.wI (ow0 rfl) (Ow.rf hs)); (mo_w_Checker_handles_j76 hD  (fun _ e => e) hQ g10))))))))))))))
set_option maxRecDepth 20000 in
theorem mo_w_Checker_handlers_j234 {w : Nat} {D : Nat → Nat → Prop} {T : Nat → Prop} {h : Hot} {this : Nat} {Q Q' : Int32 → Mem → Prop} {h_Q : Hot} {k2 k2' : Int32 → Mem → Prop} {h_k2 : Hot} {v1 : Int32} {M : Mem} {M0 : Mem} (hD : Dok w D)  (lQ : ∀ t, h_Q t = true → h t = true) (hQ : ∀ z0 z1, Ow w D T h_Q M0 z1 → Q z0 z1 → Q' z0 z1) (lk2 : ∀ t, h_k2 t = true → h t = true) (hk2 : ∀ z0 z1, Ow w D T h_k2 M0 z1 → k2 z0 z1 → k2' z0 z1) : Ow w D T h M0 M → w_Checker_handlers_j234 this Q k2 v1 M → w_Checker_handlers_j234 this Q' k2' v1 M := by
  intro hf
  unfold w_Checker_handlers_j234
  exact (hk2 _ _  (Ow.dn lk2 hf))
set_option maxRecDepth 20000 in
theorem mo_w_Checker_handlers_j186 {w : Nat} {D : Nat → Nat → Prop} {T : Nat → Prop} {h : Hot} {this : Nat} {Q Q' : Int32 → Mem → Prop} {h_Q : Hot} {k2 k2' : Int32 → Mem → Prop} {h_k2 : Hot} {v1 : Int32} {v3 : Int32} {s0 : Int32} {M : Mem} {M0 : Mem} (hD : Dok w D)  (lQ : ∀ t, h_Q t = true → h t = true) (hQ : ∀ z0 z1, Ow w D T h_Q M0 z1 → Q z0 z1 → Q' z0 z1) (lk2 : ∀ t, h_k2 t = true → h t = true) (hk2 : ∀ z0 z1, Ow w D T h_k2 M0 z1 → k2 z0 z1 → k2' z0 z1) : Ow w D T h M0 M → w_Checker_handlers_j186 this Q k2 v1 v3 s0 M → w_Checker_handlers_j186 this Q' k2' v1 v3 s0 M := by
  intro hf
  unfold w_Checker_handlers_j186
  exact (mo_w_Works_kindOf hD  (fun r32 M31 f1 => (have g2 : Ow w D T _ M0 M31 := (Ow.trans hf f1); (Exists.imp fun i33 => (mf_and fun e3 => (Exists.imp fun i34 => (mf_and fun e5 => (mf_and fun _ => (Exists.imp fun i36 => (mf_and fun e7 => (mf_and fun _ => (mf_and fun _ => (mo_w_Checker_fits hD  (fun r40 M39 f9 => (have g10 : Ow w D T _ M0 M39 := (Ow.trans g2 f9); (mf_ite (mo_w_Checker_breaks hD  (fun r43 M42 f11 => (have g12 : Ow w D T _ M0 M42 := (Ow.trans g10 f11); (mf_and fun _ => (hQ _ _  (Ow.dn lQ g12))))) g10.1) (mo_w_Checker_handlers_j234 hD  lQ hQ lk2 hk2 g10)))) g2.1)))))))))))) hf.1)
set_option maxRecDepth 20000 in
theorem mo_w_Checker_handlers_L2 {w : Nat} {D : Nat → Nat → Prop} {T : Nat → Prop} {h : Hot} {this : Nat} {Q Q' : Int32 → Mem → Prop} {h_Q : Hot} {M0 : Mem} (hD : Dok w D)  (lQ : ∀ t, h_Q t = true → h t = true) (hQ : ∀ z0 z1, Ow w D T h_Q M0 z1 → Q z0 z1 → Q' z0 z1) : ∀ (n : Nat) (v1 : Int32) (M : Mem), Ow w D T h M0 M → w_Checker_handlers_L2 this Q n v1 M → w_Checker_handlers_L2 this Q' n v1 M
  | 0, _, _ => fun  _ h => h
  | n + 1, v1, M => fun  hf => by
    unfold w_Checker_handlers_L2
    exact (Exists.imp fun i1 => (mf_and fun e1 => (mf_and fun _ => (mf_ite (hQ _ _  (Ow.dn lQ hf)) (Exists.imp fun i4 => (mf_and fun e3 => (mf_and fun _ => (Exists.imp fun x6 => (mf_and fun _ => (Exists.imp fun i7 => (mf_and fun e5 => (mf_and fun _ => (mf_ite (mo_w_Checker_handlers_j234 hD  lQ hQ (fun _ e => e) (fun y0 y1  hf => mo_w_Checker_handlers_L2 hD  lQ hQ n y0 y1  hf) hf) (Exists.imp fun i10 => (mf_and fun e7 => (mf_and fun _ => (mf_ite (mf_ite (Exists.imp fun i14 => (mf_and fun e9 => (mf_and fun _ => (Exists.imp fun i16 => (mf_and fun e11 => (mf_and fun _ => (Exists.imp fun x18 => (mf_and fun _ => (mo_w_Checker_isRight hD  (fun r20 M19 f13 => (have g14 : Ow w D T _ M0 M19 := (Ow.trans hf f13); (mf_ite (hQ _ _  (Ow.dn lQ g14)) (Exists.imp fun i22 => (mf_and fun e15 => (mf_and fun _ => (mf_ite (mo_w_Checker_localsFit hD  (fun r26 M25 f17 => (have g18 : Ow w D T _ M0 M25 := (Ow.trans g14 f17); (mf_ite (hQ _ _  (Ow.dn lQ g18)) (Exists.imp fun i28 => (mf_and fun e19 => (mf_and fun _ => (mf_ite (mo_w_Checker_handlers_j186 hD  lQ hQ (fun _ e => e) (fun y0 y1  hf => mo_w_Checker_handlers_L2 hD  lQ hQ n y0 y1  hf) g18) (Exists.imp fun i44 => (mf_and fun e21 => (mf_and fun _ => (mo_w_Checker_handlers_j186 hD  lQ hQ (fun _ e => e) (fun y0 y1  hf => mo_w_Checker_handlers_L2 hD  lQ hQ n y0 y1  hf) g18))))))))))) g14.1) (mo_w_Checker_breaks hD  (fun r47 M46 f23 => (have g24 : Ow w D T _ M0 M46 := (Ow.trans g14 f23); (mf_and fun _ => (hQ _ _  (Ow.dn lQ g24))))) g14.1)))))))) hf.1))))))))) (mo_w_Checker_handles hD  (fun r49 M48 f25 => (have g26 : Ow w D T _ M0 M48 := (Ow.trans hf f25); (mf_ite (hQ _ _  (Ow.dn lQ g26)) (mo_w_Checker_handlers_j234 hD  lQ hQ (fun _ e => e) (fun y0 y1  hf => mo_w_Checker_handlers_L2 hD  lQ hQ n y0 y1  hf) g26)))) hf.1)) (mo_w_Checker_handlers_j234 hD  lQ hQ (fun _ e => e) (fun y0 y1  hf => mo_w_Checker_handlers_L2 hD  lQ hQ n y0 y1  hf) hf))))))))))))))))))
set_option maxRecDepth 20000 in
theorem mo_w_Checker_handlers {w : Nat} {D : Nat → Nat → Prop} {T : Nat → Prop} {h : Hot} {this : Nat} {Q Q' : Int32 → Mem → Prop} {M : Mem} (hD : Dok w D)  (hQ : ∀ z0 z1, Ow w D T h M z1 → Q z0 z1 → Q' z0 z1) : St w D T h M → w_Checker_handlers this Q M → w_Checker_handlers this Q' M := by
  intro hs
  unfold w_Checker_handlers
  exact (Exists.imp fun n51 => (mo_w_Checker_handlers_L2 hD  (fun _ e => e) hQ _ _ _  (Ow.rf hs)))
set_option maxRecDepth 20000 in
theorem mo_w_Checker_needs {w : Nat} {D : Nat → Nat → Prop} {T : Nat → Prop} {h : Hot} {this : Nat} {a1 : Int32} {Q Q' : Int32 → Mem → Prop} {M : Mem} (hD : Dok w D)  (hQ : ∀ z0 z1, Ow w D T h M z1 → Q z0 z1 → Q' z0 z1) : St w D T h M → w_Checker_needs this a1 Q M → w_Checker_needs this a1 Q' M := by
  intro hs
  unfold w_Checker_needs
  exact (mf_ite (hQ _ _  (Ow.rf hs)) (mo_w_Checker_breaks hD  (fun r3 M2 f1 => (have g2 : Ow w D T _ M M2 := (Ow.trans (Ow.rf hs) f1); (mf_ite (hQ _ _  g2) (hQ _ _  g2)))) (Ow.rf hs).1))
set_option maxRecDepth 20000 in
theorem mo_w_Checker_isUnmade {w : Nat} {D : Nat → Nat → Prop} {T : Nat → Prop} {h : Hot} {this : Nat} {a1 : Int32} {Q Q' : Int32 → Mem → Prop} {M : Mem} (hD : Dok w D)  (hQ : ∀ z0 z1, Ow w D T h M z1 → Q z0 z1 → Q' z0 z1) : St w D T h M → w_Checker_isUnmade this a1 Q M → w_Checker_isUnmade this a1 Q' M := by
  intro hs
  unfold w_Checker_isUnmade
  exact (mf_ite (hQ _ _  (Ow.rf hs)) (mf_ite (hQ _ _  (Ow.rf hs)) (hQ _ _  (Ow.rf hs))))
set_option maxRecDepth 20000 in
theorem mo_w_Checker_is_j55 {w : Nat} {D : Nat → Nat → Prop} {T : Nat → Prop} {h : Hot} {this : Nat} {Q Q' : Int32 → Mem → Prop} {h_Q : Hot} {s0 : Int32} {M : Mem} {M0 : Mem} (hD : Dok w D)  (lQ : ∀ t, h_Q t = true → h t = true) (hQ : ∀ z0 z1, Ow w D T h_Q M0 z1 → Q z0 z1 → Q' z0 z1) : Ow w D T h M0 M → w_Checker_is_j55 this Q s0 M → w_Checker_is_j55 this Q' s0 M := by
  intro hf
  unfold w_Checker_is_j55
  exact (mf_ite (mo_w_Checker_breaks hD  (fun r10 M9 f1 => (have g2 : Ow w D T _ M0 M9 := (Ow.trans hf f1); (mf_ite (hQ _ _  (Ow.dn lQ g2)) (hQ _ _  (Ow.dn lQ g2))))) hf.1) (hQ _ _  (Ow.dn lQ hf)))
set_option maxRecDepth 20000 in
theorem mo_w_Checker_is_j36 {w : Nat} {D : Nat → Nat → Prop} {T : Nat → Prop} {h : Hot} {this : Nat} {Q Q' : Int32 → Mem → Prop} {h_Q : Hot} {v2 : Int32} {v3 : Int32} {M : Mem} {M0 : Mem} (hD : Dok w D)  (lQ : ∀ t, h_Q t = true → h t = true) (hQ : ∀ z0 z1, Ow w D T h_Q M0 z1 → Q z0 z1 → Q' z0 z1) : Ow w D T h M0 M → w_Checker_is_j36 this Q v2 v3 M → w_Checker_is_j36 this Q' v2 v3 M := by
  intro hf
  unfold w_Checker_is_j36
  exact (mf_ite (mo_w_Works_isReference hD  (fun r7 M6 f1 => (have g2 : Ow w D T _ M0 M6 := (Ow.trans hf f1); (mo_w_Checker_is_j55 hD  lQ hQ g2))) hf.1) (mo_w_Checker_fits hD  (fun r13 M12 f3 => (have g4 : Ow w D T _ M0 M12 := (Ow.trans hf f3); (mo_w_Checker_is_j55 hD  lQ hQ g4))) hf.1))
set_option maxRecDepth 20000 in
theorem mo_w_Checker_is {w : Nat} {D : Nat → Nat → Prop} {T : Nat → Prop} {h : Hot} {this : Nat} {a1 : Int32} {a2 : Int32} {Q Q' : Int32 → Mem → Prop} {M : Mem} (hD : Dok w D)  (hQ : ∀ z0 z1, Ow w D T h M z1 → Q z0 z1 → Q' z0 z1) : St w D T h M → w_Checker_is this a1 a2 Q M → w_Checker_is this a1 a2 Q' M := by
  intro hs
  unfold w_Checker_is
  exact (mf_and fun _ => (Exists.imp fun x2 => (mf_and fun _ => (mf_ite (hQ _ _  (Ow.rf hs)) (mf_ite (mo_w_Checker_is_j36 hD  (fun _ e => e) hQ (Ow.rf hs)) (mo_w_Checker_isUnmade hD  (fun r15 M14 f1 => (have g2 : Ow w D T _ M M14 := (Ow.trans (Ow.rf hs) f1); (mf_ite (mo_w_Checker_is_j36 hD  (fun _ e => e) hQ g2) (hQ _ _  g2)))) (Ow.rf hs).1))))))
set_option maxRecDepth 20000 in
theorem mo_w_Checker_isMade {w : Nat} {D : Nat → Nat → Prop} {T : Nat → Prop} {h : Hot} {this : Nat} {a1 : Int32} {a2 : Int32} {Q Q' : Int32 → Mem → Prop} {M : Mem} (hD : Dok w D)  (hQ : ∀ z0 z1, Ow w D T h M z1 → Q z0 z1 → Q' z0 z1) : St w D T h M → w_Checker_isMade this a1 a2 Q M → w_Checker_isMade this a1 a2 Q' M := by
  intro hs
  unfold w_Checker_isMade
  exact (mf_ite (hQ _ _  (Ow.rf hs)) (mf_ite (hQ _ _  (Ow.rf hs)) (mf_and fun _ => (mo_w_Checker_isUnmade hD  (fun r5 M4 f1 => (have g2 : Ow w D T _ M M4 := (Ow.trans (Ow.rf hs) f1); (mf_ite (hQ _ _  g2) (mo_w_Checker_breaks hD  (fun r8 M7 f3 => (have g4 : Ow w D T _ M M7 := (Ow.trans g2 f3); (mf_ite (hQ _ _  g4) (hQ _ _  g4)))) g2.1)))) (Ow.rf hs).1))))
set_option maxRecDepth 20000 in
theorem mo_w_Checker_wants2 {w : Nat} {D : Nat → Nat → Prop} {T : Nat → Prop} {h : Hot} {this : Nat} {a1 : Int32} {a2 : Int32} {Q Q' : Int32 → Mem → Prop} {M : Mem} (hD : Dok w D)  (hQ : ∀ z0 z1, Ow w D T h M z1 → Q z0 z1 → Q' z0 z1) : St w D T h M → w_Checker_wants2 this a1 a2 Q M → w_Checker_wants2 this a1 a2 Q' M := by
  intro hs
  unfold w_Checker_wants2
  exact (mo_w_Checker_needs hD  (fun r2 M1 f1 => (have g2 : Ow w D T _ M M1 := (Ow.trans (Ow.rf hs) f1); (mf_ite (hQ _ _  g2) (mo_w_Checker_is hD  (fun r5 M4 f3 => (have g4 : Ow w D T _ M M4 := (Ow.trans g2 f3); (mf_ite (hQ _ _  g4) (mo_w_Checker_is hD  (fun r8 M7 f5 => (have g6 : Ow w D T _ M M7 := (Ow.trans g4 f5); (mf_ite (hQ _ _  g6) (mo_w_Checker_isMade hD  (fun r11 M10 f7 => (have g8 : Ow w D T _ M M10 := (Ow.trans g6 f7); (mf_ite (hQ _ _  g8) (mo_w_Checker_isMade hD  (fun r14 M13 f9 => (have g10 : Ow w D T _ M M13 := (Ow.trans g8 f9); (mf_ite (hQ _ _  g10) (hQ _ _  g10)))) g8.1)))) g6.1)))) g4.1)))) g2.1)))) (Ow.rf hs).1)
set_option maxRecDepth 20000 in
theorem mo_w_Checker_push {w : Nat} {D : Nat → Nat → Prop} {T : Nat → Prop} {h : Hot} {this : Nat} {a1 : Int32} {Q Q' : Int32 → Mem → Prop} {M : Mem} (hD : Dok w D)  (hQ : ∀ z0 z1, Ow w D T h M z1 → Q z0 z1 → Q' z0 z1) : St w D T h M → w_Checker_push this a1 Q M → w_Checker_push this a1 Q' M := by
  intro hs
  unfold w_Checker_push
  exact (Exists.imp fun i1 => (mf_and fun e1 => (mf_and fun _ => (mf_ite (mo_w_Checker_breaks hD  (fun r5 M4 f3 => (have g4 : Ow w D T _ M M4 := (Ow.trans (Ow.rf hs) f3); (mf_and fun _ => (hQ _ _  g4)))) (Ow.rf hs).1) (mf_and fun _ => (Exists.imp fun M7 => (mf_and fun e5 => (have g6 : Ow w D T _ M M7 := Ow.of e5 (Ow.wI (ow0 rfl) (Ow.wI (ow0 rfl) (Ow.rf hs))); (hQ _ _  g6)))))))))
set_option maxRecDepth 20000 in
theorem mo_w_Checker_comes {w : Nat} {D : Nat → Nat → Prop} {T : Nat → Prop} {h : Hot} {this : Nat} {a1 : Int32} {a2 : Int32} {Q Q' : Int32 → Mem → Prop} {M : Mem} (hD : Dok w D)  (hQ : ∀ z0 z1, Ow w D T h M z1 → Q z0 z1 → Q' z0 z1) : St w D T h M → w_Checker_comes this a1 a2 Q M → w_Checker_comes this a1 a2 Q' M := by
  intro hs
  unfold w_Checker_comes
  exact (mf_ite (hQ _ _  (Ow.wI (ow0 rfl) (Ow.rf hs))) (have g1 : Ow w D T _ M (sI M 4 this 2 ((mI M 4 this 2) - a1)) := (Ow.wI (ow0 rfl) (Ow.rf hs)); (mo_w_Checker_push hD  (fun r3 M2 f2 => (have g3 : Ow w D T _ M M2 := (Ow.trans g1 f2); (mf_ite (hQ _ _  g3) (hQ _ _  g3)))) g1.1)))
set_option maxRecDepth 20000 in
theorem mo_w_Checker_wants1 {w : Nat} {D : Nat → Nat → Prop} {T : Nat → Prop} {h : Hot} {this : Nat} {a1 : Int32} {Q Q' : Int32 → Mem → Prop} {M : Mem} (hD : Dok w D)  (hQ : ∀ z0 z1, Ow w D T h M z1 → Q z0 z1 → Q' z0 z1) : St w D T h M → w_Checker_wants1 this a1 Q M → w_Checker_wants1 this a1 Q' M := by
  intro hs
  unfold w_Checker_wants1
  exact (mo_w_Checker_needs hD  (fun r2 M1 f1 => (have g2 : Ow w D T _ M M1 := (Ow.trans (Ow.rf hs) f1); (mf_ite (hQ _ _  g2) (mo_w_Checker_is hD  (fun r5 M4 f3 => (have g4 : Ow w D T _ M M4 := (Ow.trans g2 f3); (mf_ite (hQ _ _  g4) (mo_w_Checker_isMade hD  (fun r8 M7 f5 => (have g6 : Ow w D T _ M M7 := (Ow.trans g4 f5); (mf_ite (hQ _ _  g6) (hQ _ _  g6)))) g4.1)))) g2.1)))) (Ow.rf hs).1)
set_option maxRecDepth 20000 in
theorem mo_w_World_refType {w : Nat} {D : Nat → Nat → Prop} {T : Nat → Prop} {h : Hot} {this : Nat} {a1 : Int32} {Q Q' : Int32 → Mem → Prop} {M : Mem} (hD : Dok w D)  (hQ : ∀ z0 z1, Ow w D T h M z1 → Q z0 z1 → Q' z0 z1) : St w D T h M → w_World_refType this a1 Q M → w_World_refType this a1 Q' M := by
  intro hs
  unfold w_World_refType
  exact (mf_and fun _ => (hQ _ _  (Ow.rf hs)))
set_option maxRecDepth 20000 in
theorem mo_w_Checker_field {w : Nat} {D : Nat → Nat → Prop} {T : Nat → Prop} {h : Hot} {this : Nat} {a1 : Int32} {a2 : Int32} {Q Q' : Int32 → Mem → Prop} {M : Mem} (hD : Dok w D)  (hQ : ∀ z0 z1, Ow w D T h M z1 → Q z0 z1 → Q' z0 z1) : St w D T h M → w_Checker_field this a1 a2 Q M → w_Checker_field this a1 a2 Q' M := by
  intro hs
  unfold w_Checker_field
  exact (Exists.imp fun i1 => (mf_and fun e1 => (mo_w_World_refType hD  (fun r3 M2 f3 => (have g4 : Ow w D T _ M M2 := (Ow.trans (Ow.rf hs) f3); (Exists.imp fun i4 => (mf_and fun e5 => (mo_w_World_refClass hD  (fun r6 M5 f7 => (have g8 : Ow w D T _ M M5 := (Ow.trans g4 f7); (mo_w_Works_kindOf hD  (fun r8 M7 f9 => (have g10 : Ow w D T _ M M7 := (Ow.trans g8 f9); (mf_ite (mo_w_Checker_wants1 hD  (fun r11 M10 f11 => (have g12 : Ow w D T _ M M10 := (Ow.trans g10 f11); (mf_ite (hQ _ _  g12) (mo_w_Checker_comes hD  (fun r14 M13 f13 => (have g14 : Ow w D T _ M M13 := (Ow.trans g12 f13); (mf_ite (hQ _ _  g14) (hQ _ _  g14)))) g12.1)))) g10.1) (mf_ite (mo_w_Checker_wants2 hD  (fun r18 M17 f15 => (have g16 : Ow w D T _ M M17 := (Ow.trans g10 f15); (mf_ite (hQ _ _  g16) (mo_w_Checker_comes hD  (fun r21 M20 f17 => (have g18 : Ow w D T _ M M20 := (Ow.trans g16 f17); (mf_ite (hQ _ _  g18) (hQ _ _  g18)))) g16.1)))) g10.1) (mf_ite (mo_w_Checker_push hD  (fun r25 M24 f19 => (have g20 : Ow w D T _ M M24 := (Ow.trans g10 f19); (mf_and fun _ => (hQ _ _  g20)))) g10.1) (mo_w_Checker_wants1 hD  (fun r27 M26 f21 => (have g22 : Ow w D T _ M M26 := (Ow.trans g10 f21); (mf_ite (hQ _ _  g22) (mo_w_Checker_comes hD  (fun r30 M29 f23 => (have g24 : Ow w D T _ M M29 := (Ow.trans g22 f23); (mf_ite (hQ _ _  g24) (hQ _ _  g24)))) g22.1)))) g10.1)))))) g8.1))) g4.1))))) (Ow.rf hs).1)))
set_option maxRecDepth 20000 in
theorem mo_w_World_refArguments {w : Nat} {D : Nat → Nat → Prop} {T : Nat → Prop} {h : Hot} {this : Nat} {a1 : Int32} {Q Q' : Int32 → Mem → Prop} {M : Mem} (hD : Dok w D)  (hQ : ∀ z0 z1, Ow w D T h M z1 → Q z0 z1 → Q' z0 z1) : St w D T h M → w_World_refArguments this a1 Q M → w_World_refArguments this a1 Q' M := by
  intro hs
  unfold w_World_refArguments
  exact (mf_and fun _ => (hQ _ _  (Ow.rf hs)))
set_option maxRecDepth 20000 in
theorem mo_w_World_refName {w : Nat} {D : Nat → Nat → Prop} {T : Nat → Prop} {h : Hot} {this : Nat} {a1 : Int32} {Q Q' : Int32 → Mem → Prop} {M : Mem} (hD : Dok w D)  (hQ : ∀ z0 z1, Ow w D T h M z1 → Q z0 z1 → Q' z0 z1) : St w D T h M → w_World_refName this a1 Q M → w_World_refName this a1 Q' M := by
  intro hs
  unfold w_World_refName
  exact (mf_and fun _ => (hQ _ _  (Ow.rf hs)))
set_option maxRecDepth 20000 in
theorem mo_w_Checker_makesRight {w : Nat} {D : Nat → Nat → Prop} {T : Nat → Prop} {h : Hot} {this : Nat} {a1 : Int32} {a2 : Int32} {Q Q' : Int32 → Mem → Prop} {M : Mem} (hD : Dok w D)  (hQ : ∀ z0 z1, Ow w D T h M z1 → Q z0 z1 → Q' z0 z1) : St w D T h M → w_Checker_makesRight this a1 a2 Q M → w_Checker_makesRight this a1 a2 Q' M := by
  intro hs
  unfold w_Checker_makesRight
  exact (mf_ite (Exists.imp fun i2 => (mf_and fun e1 => (mf_and fun _ => (mf_ite (hQ _ _  (Ow.rf hs)) (Exists.imp fun i5 => (mf_and fun e3 => (mo_w_World_upName hD  (fun r7 M6 f5 => (have g6 : Ow w D T _ M M6 := (Ow.trans (Ow.rf hs) f5); (mf_ite (hQ _ _  g6) (hQ _ _  g6)))) (Ow.rf hs).1))))))) (mf_ite (hQ _ _  (Ow.rf hs)) (Exists.imp fun i10 => (mf_and fun e7 => (Exists.imp fun i11 => (mf_and fun e9 => (mf_and fun _ => (mf_and fun _ => (mf_ite (hQ _ _  (Ow.rf hs)) (hQ _ _  (Ow.rf hs)))))))))))
set_option maxRecDepth 20000 in
theorem mo_w_Checker_isNear_j81 {w : Nat} {D : Nat → Nat → Prop} {T : Nat → Prop} {h : Hot} {this : Nat} {Q Q' : Int32 → Mem → Prop} {h_Q : Hot} {k39 k39' : Int32 → Int32 → Int32 → Mem → Prop} {h_k39 : Hot} {v1 : Int32} {v3 : Int32} {s0 : Int32} {s1 : Int32} {M : Mem} {M0 : Mem} (hD : Dok w D)  (lQ : ∀ t, h_Q t = true → h t = true) (hQ : ∀ z0 z1, Ow w D T h_Q M0 z1 → Q z0 z1 → Q' z0 z1) (lk39 : ∀ t, h_k39 t = true → h t = true) (hk39 : ∀ z0 z1 z2 z3, Ow w D T h_k39 M0 z3 → k39 z0 z1 z2 z3 → k39' z0 z1 z2 z3) : Ow w D T h M0 M → w_Checker_isNear_j81 this Q k39 v1 v3 s0 s1 M → w_Checker_isNear_j81 this Q' k39' v1 v3 s0 s1 M := by
  intro hf
  unfold w_Checker_isNear_j81
  exact (hk39 _ _ _ _  (Ow.dn lk39 hf))
set_option maxRecDepth 20000 in
theorem mo_w_Checker_isNear_L39 {w : Nat} {D : Nat → Nat → Prop} {T : Nat → Prop} {h : Hot} {this : Nat} {Q Q' : Int32 → Mem → Prop} {h_Q : Hot} {M0 : Mem} (hD : Dok w D)  (lQ : ∀ t, h_Q t = true → h t = true) (hQ : ∀ z0 z1, Ow w D T h_Q M0 z1 → Q z0 z1 → Q' z0 z1) : ∀ (n : Nat) (v1 : Int32) (v2 : Int32) (v3 : Int32) (M : Mem), Ow w D T h M0 M → w_Checker_isNear_L39 this Q n v1 v2 v3 M → w_Checker_isNear_L39 this Q' n v1 v2 v3 M
  | 0, _, _, _, _ => fun  _ h => h
  | n + 1, v1, v2, v3, M => fun  hf => by
    unfold w_Checker_isNear_L39
    exact (Exists.imp fun i4 => (mf_and fun e1 => (mf_and fun _ => (mf_ite (mf_and fun _ => (hQ _ _  (Ow.dn lQ hf))) (Exists.imp fun i7 => (mf_and fun e3 => (mf_and fun _ => (mf_ite (mo_w_Checker_isNear_j81 hD  lQ hQ (fun _ e => e) (fun y0 y1 y2 y3  hf => mo_w_Checker_isNear_L39 hD  lQ hQ n y0 y1 y2 y3  hf) hf) (mo_w_Checker_isNear_j81 hD  lQ hQ (fun _ e => e) (fun y0 y1 y2 y3  hf => mo_w_Checker_isNear_L39 hD  lQ hQ n y0 y1 y2 y3  hf) hf)))))))))
set_option maxRecDepth 20000 in
theorem mo_w_Checker_isNear_j36 {w : Nat} {D : Nat → Nat → Prop} {T : Nat → Prop} {h : Hot} {this : Nat} {Q Q' : Int32 → Mem → Prop} {h_Q : Hot} {v1 : Int32} {s0 : Int32} {M : Mem} {M0 : Mem} (hD : Dok w D)  (lQ : ∀ t, h_Q t = true → h t = true) (hQ : ∀ z0 z1, Ow w D T h_Q M0 z1 → Q z0 z1 → Q' z0 z1) : Ow w D T h M0 M → w_Checker_isNear_j36 this Q v1 s0 M → w_Checker_isNear_j36 this Q' v1 s0 M := by
  intro hf
  unfold w_Checker_isNear_j36
  exact (Exists.imp fun n10 => (mo_w_Checker_isNear_L39 hD  lQ hQ _ _ _ _ _  hf))
set_option maxRecDepth 20000 in
theorem mo_w_Checker_isNear_j31 {w : Nat} {D : Nat → Nat → Prop} {T : Nat → Prop} {h : Hot} {this : Nat} {Q Q' : Int32 → Mem → Prop} {h_Q : Hot} {v1 : Int32} {M : Mem} {M0 : Mem} (hD : Dok w D)  (lQ : ∀ t, h_Q t = true → h t = true) (hQ : ∀ z0 z1, Ow w D T h_Q M0 z1 → Q z0 z1 → Q' z0 z1) : Ow w D T h M0 M → w_Checker_isNear_j31 this Q v1 M → w_Checker_isNear_j31 this Q' v1 M := by
  intro hf
  unfold w_Checker_isNear_j31
  exact (mo_w_Checker_isNear_j36 hD  lQ hQ hf)
set_option maxRecDepth 20000 in
theorem mo_w_Checker_isNear {w : Nat} {D : Nat → Nat → Prop} {T : Nat → Prop} {h : Hot} {this : Nat} {a1 : Int32} {Q Q' : Int32 → Mem → Prop} {M : Mem} (hD : Dok w D)  (hQ : ∀ z0 z1, Ow w D T h M z1 → Q z0 z1 → Q' z0 z1) : St w D T h M → w_Checker_isNear this a1 Q M → w_Checker_isNear this a1 Q' M := by
  intro hs
  unfold w_Checker_isNear
  exact (Exists.imp fun i1 => (mf_and fun e1 => (mf_and fun _ => (mf_ite (mo_w_Checker_isNear_j31 hD  (fun _ e => e) hQ (Ow.rf hs)) (Exists.imp fun i11 => (mf_and fun e3 => (mo_w_World_upName hD  (fun r13 M12 f5 => (have g6 : Ow w D T _ M M12 := (Ow.trans (Ow.rf hs) f5); (mf_ite (mo_w_Checker_isNear_j31 hD  (fun _ e => e) hQ g6) (mo_w_Checker_isNear_j36 hD  (fun _ e => e) hQ g6)))) (Ow.rf hs).1)))))))
set_option maxRecDepth 20000 in
theorem mo_w_Checker_change_j85 {w : Nat} {D : Nat → Nat → Prop} {T : Nat → Prop} {h : Hot} {this : Nat} {Q Q' : Mem → Prop} {h_Q : Hot} {k52 k52' : Int32 → Int32 → Int32 → Mem → Prop} {h_k52 : Hot} {v1 : Int32} {v2 : Int32} {v3 : Int32} {s0 : Int32} {s1 : Int32} {M : Mem} {M0 : Mem} (hD : Dok w D)  (lQ : ∀ t, h_Q t = true → h t = true) (hQ : ∀ z0, Ow w D T h_Q M0 z0 → Q z0 → Q' z0) (lk52 : ∀ t, h_k52 t = true → h t = true) (hk52 : ∀ z0 z1 z2 z3, Ow w D T h_k52 M0 z3 → k52 z0 z1 z2 z3 → k52' z0 z1 z2 z3) : Ow w D T h M0 M → w_Checker_change_j85 this Q k52 v1 v2 v3 s0 s1 M → w_Checker_change_j85 this Q' k52' v1 v2 v3 s0 s1 M := by
  intro hf
  unfold w_Checker_change_j85
  exact (mf_and fun _ => (hk52 _ _ _ _  (Ow.dn lk52 (Ow.wI (ow0 rfl) hf))))
set_option maxRecDepth 20000 in
theorem mo_w_Checker_change_L52 {w : Nat} {D : Nat → Nat → Prop} {T : Nat → Prop} {h : Hot} {this : Nat} {Q Q' : Mem → Prop} {h_Q : Hot} {M0 : Mem} (hD : Dok w D)  (lQ : ∀ t, h_Q t = true → h t = true) (hQ : ∀ z0, Ow w D T h_Q M0 z0 → Q z0 → Q' z0) : ∀ (n : Nat) (v1 : Int32) (v2 : Int32) (v3 : Int32) (M : Mem), Ow w D T h M0 M → w_Checker_change_L52 this Q n v1 v2 v3 M → w_Checker_change_L52 this Q' n v1 v2 v3 M
  | 0, _, _, _, _ => fun  _ h => h
  | n + 1, v1, v2, v3, M => fun  hf => by
    unfold w_Checker_change_L52
    exact (mf_ite (hQ _  (Ow.dn lQ hf)) (mf_and fun _ => (mf_ite (mo_w_Checker_change_j85 hD  lQ hQ (fun _ e => e) (fun y0 y1 y2 y3  hf => mo_w_Checker_change_L52 hD  lQ hQ n y0 y1 y2 y3  hf) hf) (mf_and fun _ => (mo_w_Checker_change_j85 hD  lQ hQ (fun _ e => e) (fun y0 y1 y2 y3  hf => mo_w_Checker_change_L52 hD  lQ hQ n y0 y1 y2 y3  hf) hf)))))
set_option maxRecDepth 20000 in
theorem mo_w_Checker_change_j43 {w : Nat} {D : Nat → Nat → Prop} {T : Nat → Prop} {h : Hot} {this : Nat} {Q Q' : Mem → Prop} {h_Q : Hot} {k2 k2' : Int32 → Int32 → Int32 → Mem → Prop} {h_k2 : Hot} {v1 : Int32} {v2 : Int32} {v3 : Int32} {s0 : Int32} {s1 : Int32} {M : Mem} {M0 : Mem} (hD : Dok w D)  (lQ : ∀ t, h_Q t = true → h t = true) (hQ : ∀ z0, Ow w D T h_Q M0 z0 → Q z0 → Q' z0) (lk2 : ∀ t, h_k2 t = true → h t = true) (hk2 : ∀ z0 z1 z2 z3, Ow w D T h_k2 M0 z3 → k2 z0 z1 z2 z3 → k2' z0 z1 z2 z3) : Ow w D T h M0 M → w_Checker_change_j43 this Q k2 v1 v2 v3 s0 s1 M → w_Checker_change_j43 this Q' k2' v1 v2 v3 s0 s1 M := by
  intro hf
  unfold w_Checker_change_j43
  exact (mf_and fun _ => (hk2 _ _ _ _  (Ow.dn lk2 (Ow.wI (ow0 rfl) hf))))
set_option maxRecDepth 20000 in
theorem mo_w_Checker_change_L2 {w : Nat} {D : Nat → Nat → Prop} {T : Nat → Prop} {h : Hot} {this : Nat} {Q Q' : Mem → Prop} {h_Q : Hot} {M0 : Mem} (hD : Dok w D)  (lQ : ∀ t, h_Q t = true → h t = true) (hQ : ∀ z0, Ow w D T h_Q M0 z0 → Q z0 → Q' z0) : ∀ (n : Nat) (v1 : Int32) (v2 : Int32) (v3 : Int32) (M : Mem), Ow w D T h M0 M → w_Checker_change_L2 this Q n v1 v2 v3 M → w_Checker_change_L2 this Q' n v1 v2 v3 M
  | 0, _, _, _, _ => fun  _ h => h
  | n + 1, v1, v2, v3, M => fun  hf => by
    unfold w_Checker_change_L2
    exact (Exists.imp fun i1 => (mf_and fun e1 => (mf_and fun _ => (mf_ite (Exists.imp fun n9 => (mo_w_Checker_change_L52 hD  lQ hQ _ _ _ _ _  hf)) (mf_and fun _ => (mf_ite (mo_w_Checker_change_j43 hD  lQ hQ (fun _ e => e) (fun y0 y1 y2 y3  hf => mo_w_Checker_change_L2 hD  lQ hQ n y0 y1 y2 y3  hf) hf) (mf_and fun _ => (mo_w_Checker_change_j43 hD  lQ hQ (fun _ e => e) (fun y0 y1 y2 y3  hf => mo_w_Checker_change_L2 hD  lQ hQ n y0 y1 y2 y3  hf) hf))))))))
set_option maxRecDepth 20000 in
theorem mo_w_Checker_change {w : Nat} {D : Nat → Nat → Prop} {T : Nat → Prop} {h : Hot} {this : Nat} {a1 : Int32} {a2 : Int32} {Q Q' : Mem → Prop} {M : Mem} (hD : Dok w D)  (hQ : ∀ z0, Ow w D T h M z0 → Q z0 → Q' z0) : St w D T h M → w_Checker_change this a1 a2 Q M → w_Checker_change this a1 a2 Q' M := by
  intro hs
  unfold w_Checker_change
  exact (Exists.imp fun n14 => (mo_w_Checker_change_L2 hD  (fun _ e => e) hQ _ _ _ _ _  (Ow.rf hs)))
set_option maxRecDepth 20000 in
theorem mo_w_Checker_call_j315 {w : Nat} {D : Nat → Nat → Prop} {T : Nat → Prop} {h : Hot} {this : Nat} {Q Q' : Int32 → Mem → Prop} {h_Q : Hot} {M : Mem} {M0 : Mem} (hD : Dok w D)  (lQ : ∀ t, h_Q t = true → h t = true) (hQ : ∀ z0 z1, Ow w D T h_Q M0 z1 → Q z0 z1 → Q' z0 z1) : Ow w D T h M0 M → w_Checker_call_j315 this Q M → w_Checker_call_j315 this Q' M := by
  intro hf
  unfold w_Checker_call_j315
  exact (mo_w_Checker_breaks hD  (fun r32 M31 f1 => (have g2 : Ow w D T _ M0 M31 := (Ow.trans hf f1); (mf_and fun _ => (hQ _ _  (Ow.dn lQ g2))))) hf.1)
set_option maxRecDepth 20000 in
theorem mo_w_Checker_call_j378 {w : Nat} {D : Nat → Nat → Prop} {T : Nat → Prop} {h : Hot} {this : Nat} {Q Q' : Int32 → Mem → Prop} {h_Q : Hot} {v2 : Int32} {M : Mem} {M0 : Mem} (hD : Dok w D)  (lQ : ∀ t, h_Q t = true → h t = true) (hQ : ∀ z0 z1, Ow w D T h_Q M0 z1 → Q z0 z1 → Q' z0 z1) : Ow w D T h M0 M → w_Checker_call_j378 this Q v2 M → w_Checker_call_j378 this Q' v2 M := by
  intro hf
  unfold w_Checker_call_j378
  exact (Exists.imp fun i34 => (mf_and fun e1 => (mo_w_World_refType hD  (fun r36 M35 f3 => (have g4 : Ow w D T _ M0 M35 := (Ow.trans hf f3); (mf_ite (hQ _ _  (Ow.dn lQ g4)) (Exists.imp fun i38 => (mf_and fun e5 => (mo_w_World_refType hD  (fun r40 M39 f7 => (have g8 : Ow w D T _ M0 M39 := (Ow.trans g4 f7); (mo_w_Checker_push hD  (fun r42 M41 f9 => (have g10 : Ow w D T _ M0 M41 := (Ow.trans g8 f9); (mf_ite (hQ _ _  (Ow.dn lQ g10)) (hQ _ _  (Ow.dn lQ g10))))) g8.1))) g4.1)))))) hf.1)))
set_option maxRecDepth 20000 in
theorem mo_w_Checker_call_j366 {w : Nat} {D : Nat → Nat → Prop} {T : Nat → Prop} {h : Hot} {this : Nat} {Q Q' : Int32 → Mem → Prop} {h_Q : Hot} {v2 : Int32} {s0 : Int32} {s1 : Int32} {M : Mem} {M0 : Mem} (hD : Dok w D)  (lQ : ∀ t, h_Q t = true → h t = true) (hQ : ∀ z0 z1, Ow w D T h_Q M0 z1 → Q z0 z1 → Q' z0 z1) : Ow w D T h M0 M → w_Checker_call_j366 this Q v2 s0 s1 M → w_Checker_call_j366 this Q' v2 s0 s1 M := by
  intro hf
  unfold w_Checker_call_j366
  exact (mo_w_Checker_change hD  (fun M47 f1 => (have g2 : Ow w D T _ M0 M47 := (Ow.trans hf f1); (mo_w_Checker_handlers hD  (fun r49 M48 f3 => (have g4 : Ow w D T _ M0 M48 := (Ow.trans g2 f3); (mf_ite (hQ _ _  (Ow.dn lQ g4)) (mo_w_Checker_call_j378 hD  lQ hQ g4)))) g2.1))) hf.1)
set_option maxRecDepth 20000 in
theorem mo_w_Checker_call_j322 {w : Nat} {D : Nat → Nat → Prop} {T : Nat → Prop} {h : Hot} {this : Nat} {Q Q' : Int32 → Mem → Prop} {h_Q : Hot} {v2 : Int32} {v4 : Int32} {v6 : Int32} {v7 : Int32} {M : Mem} {M0 : Mem} (hD : Dok w D)  (lQ : ∀ t, h_Q t = true → h t = true) (hQ : ∀ z0 z1, Ow w D T h_Q M0 z1 → Q z0 z1 → Q' z0 z1) : Ow w D T h M0 M → w_Checker_call_j322 this Q v2 v4 v6 v7 M → w_Checker_call_j322 this Q' v2 v4 v6 v7 M := by
  intro hf
  unfold w_Checker_call_j322
  exact (mf_ite (have g1 : Ow w D T _ M0 (sI M 4 this 2 ((mI M 4 this 2) - v6)) := (Ow.wI (ow0 rfl) hf); (mo_w_Checker_call_j378 hD  lQ hQ g1)) (mf_ite (have g2 : Ow w D T _ M0 (sI M 4 this 2 ((mI M 4 this 2) - v6)) := (Ow.wI (ow0 rfl) hf); (mo_w_Checker_classKind hD  (fun r46 M45 f3 => (have g4 : Ow w D T _ M0 M45 := (Ow.trans g2 f3); (mo_w_Checker_call_j366 hD  lQ hQ g4))) g2.1)) (Exists.imp fun i51 => (mf_and fun e5 => (have g7 : Ow w D T _ M0 (sI M 4 this 2 ((mI M 4 this 2) - v6)) := (Ow.wI (ow0 rfl) hf); (mo_w_World_refClass hD  (fun r53 M52 f8 => (have g9 : Ow w D T _ M0 M52 := (Ow.trans g7 f8); (mo_w_Works_kindOf hD  (fun r55 M54 f10 => (have g11 : Ow w D T _ M0 M54 := (Ow.trans g9 f10); (mo_w_Checker_call_j366 hD  lQ hQ g11))) g9.1))) g7.1))))))
set_option maxRecDepth 20000 in
theorem mo_w_Checker_call_j269 {w : Nat} {D : Nat → Nat → Prop} {T : Nat → Prop} {h : Hot} {this : Nat} {Q Q' : Int32 → Mem → Prop} {h_Q : Hot} {v1 : Int32} {v2 : Int32} {v4 : Int32} {v6 : Int32} {v7 : Int32} {M : Mem} {M0 : Mem} (hD : Dok w D)  (lQ : ∀ t, h_Q t = true → h t = true) (hQ : ∀ z0 z1, Ow w D T h_Q M0 z1 → Q z0 z1 → Q' z0 z1) : Ow w D T h M0 M → w_Checker_call_j269 this Q v1 v2 v4 v6 v7 M → w_Checker_call_j269 this Q' v1 v2 v4 v6 v7 M := by
  intro hf
  unfold w_Checker_call_j269
  exact (mf_ite (mf_ite (Exists.imp fun i25 => (mf_and fun e1 => (mo_w_World_refClass hD  (fun r27 M26 f3 => (have g4 : Ow w D T _ M0 M26 := (Ow.trans hf f3); (mo_w_Checker_isNear hD  (fun r29 M28 f5 => (have g6 : Ow w D T _ M0 M28 := (Ow.trans g4 f5); (mf_ite (mo_w_Checker_call_j315 hD  lQ hQ g6) (mo_w_Checker_call_j322 hD  lQ hQ g6)))) g4.1))) hf.1))) (Exists.imp fun i56 => (mf_and fun e7 => (mo_w_World_refClass hD  (fun r58 M57 f9 => (have g10 : Ow w D T _ M0 M57 := (Ow.trans hf f9); (mo_w_Checker_makesRight hD  (fun r60 M59 f11 => (have g12 : Ow w D T _ M0 M59 := (Ow.trans g10 f11); (mf_ite (mo_w_Checker_call_j315 hD  lQ hQ g12) (mo_w_Checker_call_j322 hD  lQ hQ g12)))) g10.1))) hf.1)))) (mo_w_Checker_call_j322 hD  lQ hQ hf))
set_option maxRecDepth 20000 in
theorem mo_w_Checker_call_j251 {w : Nat} {D : Nat → Nat → Prop} {T : Nat → Prop} {h : Hot} {this : Nat} {Q Q' : Int32 → Mem → Prop} {h_Q : Hot} {v1 : Int32} {v2 : Int32} {v4 : Int32} {v6 : Int32} {v7 : Int32} {M : Mem} {M0 : Mem} (hD : Dok w D)  (lQ : ∀ t, h_Q t = true → h t = true) (hQ : ∀ z0 z1, Ow w D T h_Q M0 z1 → Q z0 z1 → Q' z0 z1) : Ow w D T h M0 M → w_Checker_call_j251 this Q v1 v2 v4 v6 v7 M → w_Checker_call_j251 this Q' v1 v2 v4 v6 v7 M := by
  intro hf
  unfold w_Checker_call_j251
  exact (mf_ite (mo_w_Checker_call_j269 hD  lQ hQ hf) (mf_ite (mo_w_Checker_call_j269 hD  lQ hQ hf) (mo_w_Checker_breaks hD  (fun r64 M63 f1 => (have g2 : Ow w D T _ M0 M63 := (Ow.trans hf f1); (mf_and fun _ => (hQ _ _  (Ow.dn lQ g2))))) hf.1)))
set_option maxRecDepth 20000 in
theorem mo_w_Checker_call_L192 {w : Nat} {D : Nat → Nat → Prop} {T : Nat → Prop} {h : Hot} {this : Nat} {Q Q' : Int32 → Mem → Prop} {h_Q : Hot} {M0 : Mem} (hD : Dok w D)  (lQ : ∀ t, h_Q t = true → h t = true) (hQ : ∀ z0 z1, Ow w D T h_Q M0 z1 → Q z0 z1 → Q' z0 z1) : ∀ (n : Nat) (v1 : Int32) (v2 : Int32) (v3 : Int32) (v4 : Int32) (v5 : Int32) (v6 : Int32) (v7 : Int32) (v8 : Int32) (v9 : Int32) (M : Mem), Ow w D T h M0 M → w_Checker_call_L192 this Q n v1 v2 v3 v4 v5 v6 v7 v8 v9 M → w_Checker_call_L192 this Q' n v1 v2 v3 v4 v5 v6 v7 v8 v9 M
  | 0, _, _, _, _, _, _, _, _, _, _ => fun  _ h => h
  | n + 1, v1, v2, v3, v4, v5, v6, v7, v8, v9, M => fun  hf => by
    unfold w_Checker_call_L192
    exact (mf_ite (mf_ite (mo_w_Checker_call_j251 hD  lQ hQ hf) (mo_w_Checker_isMade hD  (fun r66 M65 f1 => (have g2 : Ow w D T _ M0 M65 := (Ow.trans hf f1); (mf_ite (hQ _ _  (Ow.dn lQ g2)) (mo_w_Checker_call_j251 hD  lQ hQ g2)))) hf.1)) (Exists.imp fun i68 => (mf_and fun e3 => (mf_and fun _ => (mo_w_Checker_isMade hD  (fun r71 M70 f5 => (have g6 : Ow w D T _ M0 M70 := (Ow.trans hf f5); (mf_ite (hQ _ _  (Ow.dn lQ g6)) (mo_w_Checker_call_L192 hD  lQ hQ _ _ _ _ _ _ _ _ _ _ _  g6)))) hf.1)))))
set_option maxRecDepth 20000 in
theorem mo_w_Checker_call_j189 {w : Nat} {D : Nat → Nat → Prop} {T : Nat → Prop} {h : Hot} {this : Nat} {Q Q' : Int32 → Mem → Prop} {h_Q : Hot} {v1 : Int32} {v2 : Int32} {v3 : Int32} {v4 : Int32} {v5 : Int32} {v6 : Int32} {v7 : Int32} {v8 : Int32} {M : Mem} {M0 : Mem} (hD : Dok w D)  (lQ : ∀ t, h_Q t = true → h t = true) (hQ : ∀ z0 z1, Ow w D T h_Q M0 z1 → Q z0 z1 → Q' z0 z1) : Ow w D T h M0 M → w_Checker_call_j189 this Q v1 v2 v3 v4 v5 v6 v7 v8 M → w_Checker_call_j189 this Q' v1 v2 v3 v4 v5 v6 v7 v8 M := by
  intro hf
  unfold w_Checker_call_j189
  exact (Exists.imp fun n73 => (mo_w_Checker_call_L192 hD  lQ hQ _ _ _ _ _ _ _ _ _ _ _  hf))
set_option maxRecDepth 20000 in
theorem mo_w_Checker_call_L130 {w : Nat} {D : Nat → Nat → Prop} {T : Nat → Prop} {h : Hot} {this : Nat} {Q Q' : Int32 → Mem → Prop} {h_Q : Hot} {M0 : Mem} (hD : Dok w D)  (lQ : ∀ t, h_Q t = true → h t = true) (hQ : ∀ z0 z1, Ow w D T h_Q M0 z1 → Q z0 z1 → Q' z0 z1) : ∀ (n : Nat) (v1 : Int32) (v2 : Int32) (v3 : Int32) (v4 : Int32) (v5 : Int32) (v6 : Int32) (v7 : Int32) (v8 : Int32) (v9 : Int32) (M : Mem), Ow w D T h M0 M → w_Checker_call_L130 this Q n v1 v2 v3 v4 v5 v6 v7 v8 v9 M → w_Checker_call_L130 this Q' n v1 v2 v3 v4 v5 v6 v7 v8 v9 M
  | 0, _, _, _, _, _, _, _, _, _, _ => fun  _ h => h
  | n + 1, v1, v2, v3, v4, v5, v6, v7, v8, v9, M => fun  hf => by
    unfold w_Checker_call_L130
    exact (mf_ite (mf_ite (mo_w_Checker_call_j189 hD  lQ hQ hf) (mo_w_Checker_is hD  (fun r75 M74 f1 => (have g2 : Ow w D T _ M0 M74 := (Ow.trans hf f1); (mf_ite (hQ _ _  (Ow.dn lQ g2)) (mo_w_Checker_call_j189 hD  lQ hQ g2)))) hf.1)) (Exists.imp fun i77 => (mf_and fun e3 => (mf_and fun _ => (mo_w_Checker_is hD  (fun r80 M79 f5 => (have g6 : Ow w D T _ M0 M79 := (Ow.trans hf f5); (mf_ite (hQ _ _  (Ow.dn lQ g6)) (mo_w_Checker_call_L130 hD  lQ hQ _ _ _ _ _ _ _ _ _ _ _  g6)))) hf.1)))))
set_option maxRecDepth 20000 in
theorem mo_w_Checker_call_j125 {w : Nat} {D : Nat → Nat → Prop} {T : Nat → Prop} {h : Hot} {this : Nat} {Q Q' : Int32 → Mem → Prop} {h_Q : Hot} {v1 : Int32} {v2 : Int32} {v3 : Int32} {v4 : Int32} {v5 : Int32} {v6 : Int32} {v7 : Int32} {s0 : Int32} {M : Mem} {M0 : Mem} (hD : Dok w D)  (lQ : ∀ t, h_Q t = true → h t = true) (hQ : ∀ z0 z1, Ow w D T h_Q M0 z1 → Q z0 z1 → Q' z0 z1) : Ow w D T h M0 M → w_Checker_call_j125 this Q v1 v2 v3 v4 v5 v6 v7 s0 M → w_Checker_call_j125 this Q' v1 v2 v3 v4 v5 v6 v7 s0 M := by
  intro hf
  unfold w_Checker_call_j125
  exact (Exists.imp fun n82 => (mo_w_Checker_call_L130 hD  lQ hQ _ _ _ _ _ _ _ _ _ _ _  hf))
set_option maxRecDepth 20000 in
theorem mo_w_Checker_call_j89 {w : Nat} {D : Nat → Nat → Prop} {T : Nat → Prop} {h : Hot} {this : Nat} {Q Q' : Int32 → Mem → Prop} {h_Q : Hot} {v1 : Int32} {v2 : Int32} {v3 : Int32} {v4 : Int32} {v5 : Int32} {v6 : Int32} {s0 : Int32} {M : Mem} {M0 : Mem} (hD : Dok w D)  (lQ : ∀ t, h_Q t = true → h t = true) (hQ : ∀ z0 z1, Ow w D T h_Q M0 z1 → Q z0 z1 → Q' z0 z1) : Ow w D T h M0 M → w_Checker_call_j89 this Q v1 v2 v3 v4 v5 v6 s0 M → w_Checker_call_j89 this Q' v1 v2 v3 v4 v5 v6 s0 M := by
  intro hf
  unfold w_Checker_call_j89
  exact (mf_ite (mf_ite (mo_w_Checker_classKind hD  (fun r17 M16 f1 => (have g2 : Ow w D T _ M0 M16 := (Ow.trans hf f1); (mo_w_Checker_call_j125 hD  lQ hQ g2))) hf.1) (mo_w_Checker_call_j125 hD  lQ hQ hf)) (Exists.imp fun i83 => (mf_and fun e3 => (mo_w_World_refClass hD  (fun r85 M84 f5 => (have g6 : Ow w D T _ M0 M84 := (Ow.trans hf f5); (mo_w_Works_kindOf hD  (fun r87 M86 f7 => (have g8 : Ow w D T _ M0 M86 := (Ow.trans g6 f7); (mo_w_Checker_call_j125 hD  lQ hQ g8))) g6.1))) hf.1))))
set_option maxRecDepth 20000 in
theorem mo_w_Checker_call_j53 {w : Nat} {D : Nat → Nat → Prop} {T : Nat → Prop} {h : Hot} {this : Nat} {Q Q' : Int32 → Mem → Prop} {h_Q : Hot} {v1 : Int32} {v2 : Int32} {v3 : Int32} {v4 : Int32} {v5 : Int32} {s0 : Int32} {s1 : Int32} {M : Mem} {M0 : Mem} (hD : Dok w D)  (lQ : ∀ t, h_Q t = true → h t = true) (hQ : ∀ z0 z1, Ow w D T h_Q M0 z1 → Q z0 z1 → Q' z0 z1) : Ow w D T h M0 M → w_Checker_call_j53 this Q v1 v2 v3 v4 v5 s0 s1 M → w_Checker_call_j53 this Q' v1 v2 v3 v4 v5 s0 s1 M := by
  intro hf
  unfold w_Checker_call_j53
  exact (mo_w_Checker_needs hD  (fun r11 M10 f1 => (have g2 : Ow w D T _ M0 M10 := (Ow.trans hf f1); (mf_ite (hQ _ _  (Ow.dn lQ g2)) (mf_ite (mo_w_Checker_call_j89 hD  lQ hQ g2) (mf_and fun _ => (mo_w_Checker_call_j89 hD  lQ hQ g2)))))) hf.1)
set_option maxRecDepth 20000 in
theorem mo_w_Checker_call_j40 {w : Nat} {D : Nat → Nat → Prop} {T : Nat → Prop} {h : Hot} {this : Nat} {Q Q' : Int32 → Mem → Prop} {h_Q : Hot} {v1 : Int32} {v2 : Int32} {v3 : Int32} {v4 : Int32} {s0 : Int32} {M : Mem} {M0 : Mem} (hD : Dok w D)  (lQ : ∀ t, h_Q t = true → h t = true) (hQ : ∀ z0 z1, Ow w D T h_Q M0 z1 → Q z0 z1 → Q' z0 z1) : Ow w D T h M0 M → w_Checker_call_j40 this Q v1 v2 v3 v4 s0 M → w_Checker_call_j40 this Q' v1 v2 v3 v4 s0 M := by
  intro hf
  unfold w_Checker_call_j40
  exact (mf_ite (mo_w_Checker_call_j53 hD  lQ hQ hf) (mo_w_Checker_call_j53 hD  lQ hQ hf))
set_option maxRecDepth 20000 in
theorem mo_w_Checker_call_j27 {w : Nat} {D : Nat → Nat → Prop} {T : Nat → Prop} {h : Hot} {this : Nat} {Q Q' : Int32 → Mem → Prop} {h_Q : Hot} {v1 : Int32} {v2 : Int32} {v3 : Int32} {s0 : Int32} {M : Mem} {M0 : Mem} (hD : Dok w D)  (lQ : ∀ t, h_Q t = true → h t = true) (hQ : ∀ z0 z1, Ow w D T h_Q M0 z1 → Q z0 z1 → Q' z0 z1) : Ow w D T h M0 M → w_Checker_call_j27 this Q v1 v2 v3 s0 M → w_Checker_call_j27 this Q' v1 v2 v3 s0 M := by
  intro hf
  unfold w_Checker_call_j27
  exact (mf_ite (mo_w_Checker_call_j40 hD  lQ hQ hf) (mo_w_Checker_call_j40 hD  lQ hQ hf))
set_option maxRecDepth 20000 in
theorem mo_w_Checker_call {w : Nat} {D : Nat → Nat → Prop} {T : Nat → Prop} {h : Hot} {this : Nat} {a1 : Int32} {a2 : Int32} {Q Q' : Int32 → Mem → Prop} {M : Mem} (hD : Dok w D)  (hQ : ∀ z0 z1, Ow w D T h M z1 → Q z0 z1 → Q' z0 z1) : St w D T h M → w_Checker_call this a1 a2 Q M → w_Checker_call this a1 a2 Q' M := by
  intro hs
  unfold w_Checker_call
  exact (Exists.imp fun i1 => (mf_and fun e1 => (mo_w_World_refArguments hD  (fun r3 M2 f3 => (have g4 : Ow w D T _ M M2 := (Ow.trans (Ow.rf hs) f3); (Exists.imp fun i4 => (mf_and fun e5 => (mo_w_World_refName hD  (fun r6 M5 f7 => (have g8 : Ow w D T _ M M5 := (Ow.trans g4 f7); (mf_ite (mo_w_Checker_call_j27 hD  (fun _ e => e) hQ g8) (mo_w_Checker_call_j27 hD  (fun _ e => e) hQ g8)))) g4.1))))) (Ow.rf hs).1)))
set_option maxRecDepth 20000 in
theorem mo_w_Checker_isThere {w : Nat} {D : Nat → Nat → Prop} {T : Nat → Prop} {h : Hot} {this : Nat} {a1 : Int32} {Q Q' : Int32 → Mem → Prop} {M : Mem} (hD : Dok w D)  (hQ : ∀ z0 z1, Ow w D T h M z1 → Q z0 z1 → Q' z0 z1) : St w D T h M → w_Checker_isThere this a1 Q M → w_Checker_isThere this a1 Q' M := by
  intro hs
  unfold w_Checker_isThere
  exact (Exists.imp fun i1 => (mf_and fun e1 => (mf_and fun _ => (mf_ite (hQ _ _  (Ow.rf hs)) (mo_w_Checker_breaks hD  (fun r5 M4 f3 => (have g4 : Ow w D T _ M M4 := (Ow.trans (Ow.rf hs) f3); (mf_ite (hQ _ _  g4) (hQ _ _  g4)))) (Ow.rf hs).1)))))
set_option maxRecDepth 20000 in
theorem mo_w_Checker_store {w : Nat} {D : Nat → Nat → Prop} {T : Nat → Prop} {h : Hot} {this : Nat} {a1 : Int32} {Q Q' : Int32 → Mem → Prop} {M : Mem} (hD : Dok w D)  (hQ : ∀ z0 z1, Ow w D T h M z1 → Q z0 z1 → Q' z0 z1) : St w D T h M → w_Checker_store this a1 Q M → w_Checker_store this a1 Q' M := by
  intro hs
  unfold w_Checker_store
  exact (mf_and fun _ => (mf_and fun _ => (Exists.imp fun M3 => (mf_and fun e1 => (have g2 : Ow w D T _ M M3 := Ow.of e1 (Ow.wI (ow0 rfl) (Ow.wI (ow0 rfl) (Ow.rf hs))); (mo_w_Checker_handlers hD  (fun r5 M4 f3 => (have g4 : Ow w D T _ M M4 := (Ow.trans g2 f3); (mf_and fun _ => (hQ _ _  g4)))) g2.1))))))
set_option maxRecDepth 20000 in
theorem mo_w_Checker_under {w : Nat} {D : Nat → Nat → Prop} {T : Nat → Prop} {h : Hot} {this : Nat} {Q Q' : Int32 → Mem → Prop} {M : Mem} (hD : Dok w D)  (hQ : ∀ z0 z1, Ow w D T h M z1 → Q z0 z1 → Q' z0 z1) : St w D T h M → w_Checker_under this Q M → w_Checker_under this Q' M := by
  intro hs
  unfold w_Checker_under
  exact (mf_and fun _ => (mo_w_Checker_push hD  (fun r3 M2 f1 => (have g2 : Ow w D T _ M M2 := (Ow.trans (Ow.rf hs) f1); (mf_ite (hQ _ _  g2) (mf_and fun _ => (mf_and fun _ => (Exists.imp fun M7 => (mf_and fun e3 => (have g4 : Ow w D T _ M M7 := Ow.of e3 (Ow.wI (ow0 rfl) g2); (mf_and fun _ => (Exists.imp fun M9 => (mf_and fun e5 => (have g6 : Ow w D T _ M M9 := Ow.of e5 (Ow.wI (ow0 rfl) g4); (hQ _ _  g6))))))))))))) (Ow.rf hs).1))
set_option maxRecDepth 20000 in
theorem mo_w_Checker_swap {w : Nat} {D : Nat → Nat → Prop} {T : Nat → Prop} {h : Hot} {this : Nat} {Q Q' : Int32 → Mem → Prop} {M : Mem} (hD : Dok w D)  (hQ : ∀ z0 z1, Ow w D T h M z1 → Q z0 z1 → Q' z0 z1) : St w D T h M → w_Checker_swap this Q M → w_Checker_swap this Q' M := by
  intro hs
  unfold w_Checker_swap
  exact (mf_and fun _ => (mf_and fun _ => (mf_and fun _ => (Exists.imp fun M4 => (mf_and fun e1 => (have g2 : Ow w D T _ M M4 := Ow.of e1 (Ow.wI (ow0 rfl) (Ow.rf hs)); (mf_and fun _ => (Exists.imp fun M6 => (mf_and fun e3 => (have g4 : Ow w D T _ M M6 := Ow.of e3 (Ow.wI (ow0 rfl) g2); (hQ _ _  g4)))))))))))
set_option maxRecDepth 20000 in
theorem mo_w_Checker_wants3 {w : Nat} {D : Nat → Nat → Prop} {T : Nat → Prop} {h : Hot} {this : Nat} {a1 : Int32} {a2 : Int32} {a3 : Int32} {Q Q' : Int32 → Mem → Prop} {M : Mem} (hD : Dok w D)  (hQ : ∀ z0 z1, Ow w D T h M z1 → Q z0 z1 → Q' z0 z1) : St w D T h M → w_Checker_wants3 this a1 a2 a3 Q M → w_Checker_wants3 this a1 a2 a3 Q' M := by
  intro hs
  unfold w_Checker_wants3
  exact (mo_w_Checker_needs hD  (fun r2 M1 f1 => (have g2 : Ow w D T _ M M1 := (Ow.trans (Ow.rf hs) f1); (mf_ite (hQ _ _  g2) (mo_w_Checker_is hD  (fun r5 M4 f3 => (have g4 : Ow w D T _ M M4 := (Ow.trans g2 f3); (mf_ite (hQ _ _  g4) (mo_w_Checker_is hD  (fun r8 M7 f5 => (have g6 : Ow w D T _ M M7 := (Ow.trans g4 f5); (mf_ite (hQ _ _  g6) (mo_w_Checker_is hD  (fun r11 M10 f7 => (have g8 : Ow w D T _ M M10 := (Ow.trans g6 f7); (mf_ite (hQ _ _  g8) (mo_w_Checker_isMade hD  (fun r14 M13 f9 => (have g10 : Ow w D T _ M M13 := (Ow.trans g8 f9); (mf_ite (hQ _ _  g10) (mo_w_Checker_isMade hD  (fun r17 M16 f11 => (have g12 : Ow w D T _ M M16 := (Ow.trans g10 f11); (mf_ite (hQ _ _  g12) (mo_w_Checker_isMade hD  (fun r20 M19 f13 => (have g14 : Ow w D T _ M M19 := (Ow.trans g12 f13); (mf_ite (hQ _ _  g14) (hQ _ _  g14)))) g12.1)))) g10.1)))) g8.1)))) g6.1)))) g4.1)))) g2.1)))) (Ow.rf hs).1)
set_option maxRecDepth 20000 in
theorem mo_w_Checker_hasUnmade_j72 {w : Nat} {D : Nat → Nat → Prop} {T : Nat → Prop} {h : Hot} {this : Nat} {Q Q' : Int32 → Mem → Prop} {h_Q : Hot} {k47 k47' : Int32 → Int32 → Mem → Prop} {h_k47 : Hot} {v2 : Int32} {s0 : Int32} {s1 : Int32} {M : Mem} {M0 : Mem} (hD : Dok w D)  (lQ : ∀ t, h_Q t = true → h t = true) (hQ : ∀ z0 z1, Ow w D T h_Q M0 z1 → Q z0 z1 → Q' z0 z1) (lk47 : ∀ t, h_k47 t = true → h t = true) (hk47 : ∀ z0 z1 z2, Ow w D T h_k47 M0 z2 → k47 z0 z1 z2 → k47' z0 z1 z2) : Ow w D T h M0 M → w_Checker_hasUnmade_j72 this Q k47 v2 s0 s1 M → w_Checker_hasUnmade_j72 this Q' k47' v2 s0 s1 M := by
  intro hf
  unfold w_Checker_hasUnmade_j72
  exact (hk47 _ _ _  (Ow.dn lk47 hf))
set_option maxRecDepth 20000 in
theorem mo_w_Checker_hasUnmade_L47 {w : Nat} {D : Nat → Nat → Prop} {T : Nat → Prop} {h : Hot} {this : Nat} {Q Q' : Int32 → Mem → Prop} {h_Q : Hot} {M0 : Mem} (hD : Dok w D)  (lQ : ∀ t, h_Q t = true → h t = true) (hQ : ∀ z0 z1, Ow w D T h_Q M0 z1 → Q z0 z1 → Q' z0 z1) : ∀ (n : Nat) (v1 : Int32) (v2 : Int32) (M : Mem), Ow w D T h M0 M → w_Checker_hasUnmade_L47 this Q n v1 v2 M → w_Checker_hasUnmade_L47 this Q' n v1 v2 M
  | 0, _, _, _ => fun  _ h => h
  | n + 1, v1, v2, M => fun  hf => by
    unfold w_Checker_hasUnmade_L47
    exact (mf_ite (mf_and fun _ => (hQ _ _  (Ow.dn lQ hf))) (mf_and fun _ => (mf_ite (mo_w_Checker_hasUnmade_j72 hD  lQ hQ (fun _ e => e) (fun y0 y1 y2  hf => mo_w_Checker_hasUnmade_L47 hD  lQ hQ n y0 y1 y2  hf) hf) (mo_w_Checker_hasUnmade_j72 hD  lQ hQ (fun _ e => e) (fun y0 y1 y2  hf => mo_w_Checker_hasUnmade_L47 hD  lQ hQ n y0 y1 y2  hf) hf))))
set_option maxRecDepth 20000 in
theorem mo_w_Checker_hasUnmade_j37 {w : Nat} {D : Nat → Nat → Prop} {T : Nat → Prop} {h : Hot} {this : Nat} {Q Q' : Int32 → Mem → Prop} {h_Q : Hot} {k4 k4' : Int32 → Int32 → Mem → Prop} {h_k4 : Hot} {v2 : Int32} {s0 : Int32} {s1 : Int32} {M : Mem} {M0 : Mem} (hD : Dok w D)  (lQ : ∀ t, h_Q t = true → h t = true) (hQ : ∀ z0 z1, Ow w D T h_Q M0 z1 → Q z0 z1 → Q' z0 z1) (lk4 : ∀ t, h_k4 t = true → h t = true) (hk4 : ∀ z0 z1 z2, Ow w D T h_k4 M0 z2 → k4 z0 z1 z2 → k4' z0 z1 z2) : Ow w D T h M0 M → w_Checker_hasUnmade_j37 this Q k4 v2 s0 s1 M → w_Checker_hasUnmade_j37 this Q' k4' v2 s0 s1 M := by
  intro hf
  unfold w_Checker_hasUnmade_j37
  exact (hk4 _ _ _  (Ow.dn lk4 hf))
set_option maxRecDepth 20000 in
theorem mo_w_Checker_hasUnmade_L4 {w : Nat} {D : Nat → Nat → Prop} {T : Nat → Prop} {h : Hot} {this : Nat} {Q Q' : Int32 → Mem → Prop} {h_Q : Hot} {M0 : Mem} (hD : Dok w D)  (lQ : ∀ t, h_Q t = true → h t = true) (hQ : ∀ z0 z1, Ow w D T h_Q M0 z1 → Q z0 z1 → Q' z0 z1) : ∀ (n : Nat) (v1 : Int32) (v2 : Int32) (M : Mem), Ow w D T h M0 M → w_Checker_hasUnmade_L4 this Q n v1 v2 M → w_Checker_hasUnmade_L4 this Q' n v1 v2 M
  | 0, _, _, _ => fun  _ h => h
  | n + 1, v1, v2, M => fun  hf => by
    unfold w_Checker_hasUnmade_L4
    exact (Exists.imp fun i1 => (mf_and fun e1 => (mf_and fun _ => (mf_ite (Exists.imp fun n7 => (mo_w_Checker_hasUnmade_L47 hD  lQ hQ _ _ _ _  hf)) (mf_and fun _ => (mf_ite (mo_w_Checker_hasUnmade_j37 hD  lQ hQ (fun _ e => e) (fun y0 y1 y2  hf => mo_w_Checker_hasUnmade_L4 hD  lQ hQ n y0 y1 y2  hf) hf) (mo_w_Checker_hasUnmade_j37 hD  lQ hQ (fun _ e => e) (fun y0 y1 y2  hf => mo_w_Checker_hasUnmade_L4 hD  lQ hQ n y0 y1 y2  hf) hf)))))))
set_option maxRecDepth 20000 in
theorem mo_w_Checker_hasUnmade {w : Nat} {D : Nat → Nat → Prop} {T : Nat → Prop} {h : Hot} {this : Nat} {Q Q' : Int32 → Mem → Prop} {M : Mem} (hD : Dok w D)  (hQ : ∀ z0 z1, Ow w D T h M z1 → Q z0 z1 → Q' z0 z1) : St w D T h M → w_Checker_hasUnmade this Q M → w_Checker_hasUnmade this Q' M := by
  intro hs
  unfold w_Checker_hasUnmade
  exact (Exists.imp fun n10 => (mo_w_Checker_hasUnmade_L4 hD  (fun _ e => e) hQ _ _ _ _  (Ow.rf hs)))
set_option maxRecDepth 20000 in
theorem mo_w_Checker_leaves_j124 {w : Nat} {D : Nat → Nat → Prop} {T : Nat → Prop} {h : Hot} {this : Nat} {Q Q' : Int32 → Mem → Prop} {h_Q : Hot} {M : Mem} {M0 : Mem} (hD : Dok w D)  (lQ : ∀ t, h_Q t = true → h t = true) (hQ : ∀ z0 z1, Ow w D T h_Q M0 z1 → Q z0 z1 → Q' z0 z1) : Ow w D T h M0 M → w_Checker_leaves_j124 this Q M → w_Checker_leaves_j124 this Q' M := by
  intro hf
  unfold w_Checker_leaves_j124
  exact (mo_w_Checker_breaks hD  (fun r20 M19 f1 => (have g2 : Ow w D T _ M0 M19 := (Ow.trans hf f1); (mf_ite (hQ _ _  (Ow.dn lQ g2)) (hQ _ _  (Ow.dn lQ g2))))) hf.1)
set_option maxRecDepth 20000 in
theorem mo_w_Checker_leaves_j92 {w : Nat} {D : Nat → Nat → Prop} {T : Nat → Prop} {h : Hot} {this : Nat} {Q Q' : Int32 → Mem → Prop} {h_Q : Hot} {v1 : Int32} {v2 : Int32} {v3 : Int32} {M : Mem} {M0 : Mem} (hD : Dok w D)  (lQ : ∀ t, h_Q t = true → h t = true) (hQ : ∀ z0 z1, Ow w D T h_Q M0 z1 → Q z0 z1 → Q' z0 z1) : Ow w D T h M0 M → w_Checker_leaves_j92 this Q v1 v2 v3 M → w_Checker_leaves_j92 this Q' v1 v2 v3 M := by
  intro hf
  unfold w_Checker_leaves_j92
  exact (mf_ite (mf_ite (hQ _ _  (Ow.dn lQ hf)) (mo_w_Checker_leaves_j124 hD  lQ hQ hf)) (mf_ite (mf_ite (hQ _ _  (Ow.dn lQ hf)) (mo_w_Checker_leaves_j124 hD  lQ hQ hf)) (mf_ite (mo_w_Checker_leaves_j124 hD  lQ hQ hf) (hQ _ _  (Ow.dn lQ hf)))))
set_option maxRecDepth 20000 in
theorem mo_w_Checker_leaves_j65 {w : Nat} {D : Nat → Nat → Prop} {T : Nat → Prop} {h : Hot} {this : Nat} {Q Q' : Int32 → Mem → Prop} {h_Q : Hot} {v1 : Int32} {v2 : Int32} {v3 : Int32} {M : Mem} {M0 : Mem} (hD : Dok w D)  (lQ : ∀ t, h_Q t = true → h t = true) (hQ : ∀ z0 z1, Ow w D T h_Q M0 z1 → Q z0 z1 → Q' z0 z1) : Ow w D T h M0 M → w_Checker_leaves_j65 this Q v1 v2 v3 M → w_Checker_leaves_j65 this Q' v1 v2 v3 M := by
  intro hf
  unfold w_Checker_leaves_j65
  exact (mf_ite (mo_w_Checker_isMaker hD  (fun r15 M14 f1 => (have g2 : Ow w D T _ M0 M14 := (Ow.trans hf f1); (mf_ite (mo_w_Checker_leaves_j92 hD  lQ hQ g2) (mo_w_Checker_hasUnmade hD  (fun r26 M25 f3 => (have g4 : Ow w D T _ M0 M25 := (Ow.trans g2 f3); (mf_ite (mo_w_Checker_leaves_j92 hD  lQ hQ g4) (mo_w_Checker_breaks hD  (fun r29 M28 f5 => (have g6 : Ow w D T _ M0 M28 := (Ow.trans g4 f5); (mf_and fun _ => (hQ _ _  (Ow.dn lQ g6))))) g4.1)))) g2.1)))) hf.1) (mo_w_Checker_leaves_j92 hD  lQ hQ hf))
set_option maxRecDepth 20000 in
theorem mo_w_Checker_leaves_j57 {w : Nat} {D : Nat → Nat → Prop} {T : Nat → Prop} {h : Hot} {this : Nat} {Q Q' : Int32 → Mem → Prop} {h_Q : Hot} {v1 : Int32} {v2 : Int32} {v3 : Int32} {s0 : Int32} {M : Mem} {M0 : Mem} (hD : Dok w D)  (lQ : ∀ t, h_Q t = true → h t = true) (hQ : ∀ z0 z1, Ow w D T h_Q M0 z1 → Q z0 z1 → Q' z0 z1) : Ow w D T h M0 M → w_Checker_leaves_j57 this Q v1 v2 v3 s0 M → w_Checker_leaves_j57 this Q' v1 v2 v3 s0 M := by
  intro hf
  unfold w_Checker_leaves_j57
  exact (mo_w_Checker_wants1 hD  (fun r11 M10 f1 => (have g2 : Ow w D T _ M0 M10 := (Ow.trans hf f1); (mf_ite (hQ _ _  (Ow.dn lQ g2)) (mo_w_Checker_leaves_j65 hD  lQ hQ g2)))) hf.1)
set_option maxRecDepth 20000 in
theorem mo_w_Checker_leaves_j40 {w : Nat} {D : Nat → Nat → Prop} {T : Nat → Prop} {h : Hot} {this : Nat} {Q Q' : Int32 → Mem → Prop} {h_Q : Hot} {v1 : Int32} {v2 : Int32} {v3 : Int32} {M : Mem} {M0 : Mem} (hD : Dok w D)  (lQ : ∀ t, h_Q t = true → h t = true) (hQ : ∀ z0 z1, Ow w D T h_Q M0 z1 → Q z0 z1 → Q' z0 z1) : Ow w D T h M0 M → w_Checker_leaves_j40 this Q v1 v2 v3 M → w_Checker_leaves_j40 this Q' v1 v2 v3 M := by
  intro hf
  unfold w_Checker_leaves_j40
  exact (mf_ite (mf_ite (mo_w_Checker_leaves_j57 hD  lQ hQ hf) (mo_w_Checker_leaves_j57 hD  lQ hQ hf)) (mo_w_Checker_leaves_j65 hD  lQ hQ hf))
set_option maxRecDepth 20000 in
theorem mo_w_Checker_leaves_j23 {w : Nat} {D : Nat → Nat → Prop} {T : Nat → Prop} {h : Hot} {this : Nat} {Q Q' : Int32 → Mem → Prop} {h_Q : Hot} {v1 : Int32} {v2 : Int32} {s0 : Int32} {M : Mem} {M0 : Mem} (hD : Dok w D)  (lQ : ∀ t, h_Q t = true → h t = true) (hQ : ∀ z0 z1, Ow w D T h_Q M0 z1 → Q z0 z1 → Q' z0 z1) : Ow w D T h M0 M → w_Checker_leaves_j23 this Q v1 v2 s0 M → w_Checker_leaves_j23 this Q' v1 v2 s0 M := by
  intro hf
  unfold w_Checker_leaves_j23
  exact (mf_ite (mo_w_Checker_wants1 hD  (fun r6 M5 f1 => (have g2 : Ow w D T _ M0 M5 := (Ow.trans hf f1); (mf_ite (hQ _ _  (Ow.dn lQ g2)) (mo_w_Checker_leaves_j40 hD  lQ hQ g2)))) hf.1) (mo_w_Checker_leaves_j40 hD  lQ hQ hf))
set_option maxRecDepth 20000 in
theorem mo_w_Checker_leaves {w : Nat} {D : Nat → Nat → Prop} {T : Nat → Prop} {h : Hot} {this : Nat} {a1 : Int32} {Q Q' : Int32 → Mem → Prop} {M : Mem} (hD : Dok w D)  (hQ : ∀ z0 z1, Ow w D T h M z1 → Q z0 z1 → Q' z0 z1) : St w D T h M → w_Checker_leaves this a1 Q M → w_Checker_leaves this a1 Q' M := by
  intro hs
  unfold w_Checker_leaves
  exact (Exists.imp fun i1 => (mf_and fun e1 => (mf_and fun _ => (mf_ite (mo_w_Checker_leaves_j23 hD  (fun _ e => e) hQ (Ow.rf hs)) (mo_w_Checker_leaves_j23 hD  (fun _ e => e) hQ (Ow.rf hs))))))
set_option maxRecDepth 20000 in
theorem mo_w_Checker_act_j78 {w : Nat} {D : Nat → Nat → Prop} {T : Nat → Prop} {h : Hot} {this : Nat} {Q Q' : Int32 → Mem → Prop} {h_Q : Hot} {M : Mem} {M0 : Mem} (hD : Dok w D)  (lQ : ∀ t, h_Q t = true → h t = true) (hQ : ∀ z0 z1, Ow w D T h_Q M0 z1 → Q z0 z1 → Q' z0 z1) : Ow w D T h M0 M → w_Checker_act_j78 this Q M → w_Checker_act_j78 this Q' M := by
  intro hf
  unfold w_Checker_act_j78
  exact (mo_w_Checker_wants1 hD  (fun r13 M12 f1 => (have g2 : Ow w D T _ M0 M12 := (Ow.trans hf f1); (mf_ite (hQ _ _  (Ow.dn lQ g2)) (mo_w_Checker_comes hD  (fun r16 M15 f3 => (have g4 : Ow w D T _ M0 M15 := (Ow.trans g2 f3); (mf_ite (hQ _ _  (Ow.dn lQ g4)) (hQ _ _  (Ow.dn lQ g4))))) g2.1)))) hf.1)
set_option maxRecDepth 20000 in
theorem mo_w_Checker_act_j657 {w : Nat} {D : Nat → Nat → Prop} {T : Nat → Prop} {h : Hot} {this : Nat} {Q Q' : Int32 → Mem → Prop} {h_Q : Hot} {v3 : Int32} {M : Mem} {M0 : Mem} (hD : Dok w D)  (lQ : ∀ t, h_Q t = true → h t = true) (hQ : ∀ z0 z1, Ow w D T h_Q M0 z1 → Q z0 z1 → Q' z0 z1) : Ow w D T h M0 M → w_Checker_act_j657 this Q v3 M → w_Checker_act_j657 this Q' v3 M := by
  intro hf
  unfold w_Checker_act_j657
  exact (mo_w_Checker_store hD  (fun r296 M295 f1 => (have g2 : Ow w D T _ M0 M295 := (Ow.trans hf f1); (mf_ite (hQ _ _  (Ow.dn lQ g2)) (hQ _ _  (Ow.dn lQ g2))))) hf.1)
set_option maxRecDepth 20000 in
theorem mo_w_Checker_act_j564 {w : Nat} {D : Nat → Nat → Prop} {T : Nat → Prop} {h : Hot} {this : Nat} {Q Q' : Int32 → Mem → Prop} {h_Q : Hot} {v3 : Int32} {M : Mem} {M0 : Mem} (hD : Dok w D)  (lQ : ∀ t, h_Q t = true → h t = true) (hQ : ∀ z0 z1, Ow w D T h_Q M0 z1 → Q z0 z1 → Q' z0 z1) : Ow w D T h M0 M → w_Checker_act_j564 this Q v3 M → w_Checker_act_j564 this Q' v3 M := by
  intro hf
  unfold w_Checker_act_j564
  exact (mf_and fun _ => (mo_w_Checker_push hD  (fun r323 M322 f1 => (have g2 : Ow w D T _ M0 M322 := (Ow.trans hf f1); (mf_ite (hQ _ _  (Ow.dn lQ g2)) (hQ _ _  (Ow.dn lQ g2))))) hf.1))
set_option maxRecDepth 20000 in
theorem mo_w_Checker_act_j476 {w : Nat} {D : Nat → Nat → Prop} {T : Nat → Prop} {h : Hot} {this : Nat} {Q Q' : Int32 → Mem → Prop} {h_Q : Hot} {M : Mem} {M0 : Mem} (hD : Dok w D)  (lQ : ∀ t, h_Q t = true → h t = true) (hQ : ∀ z0 z1, Ow w D T h_Q M0 z1 → Q z0 z1 → Q' z0 z1) : Ow w D T h M0 M → w_Checker_act_j476 this Q M → w_Checker_act_j476 this Q' M := by
  intro hf
  unfold w_Checker_act_j476
  exact (mo_w_Checker_push hD  (fun r331 M330 f1 => (have g2 : Ow w D T _ M0 M330 := (Ow.trans hf f1); (mf_ite (hQ _ _  (Ow.dn lQ g2)) (hQ _ _  (Ow.dn lQ g2))))) hf.1)
set_option maxRecDepth 20000 in
theorem mo_w_Checker_act_j61 {w : Nat} {D : Nat → Nat → Prop} {T : Nat → Prop} {h : Hot} {this : Nat} {Q Q' : Int32 → Mem → Prop} {h_Q : Hot} {v2 : Int32} {v3 : Int32} {M : Mem} {M0 : Mem} (hD : Dok w D)  (lQ : ∀ t, h_Q t = true → h t = true) (hQ : ∀ z0 z1, Ow w D T h_Q M0 z1 → Q z0 z1 → Q' z0 z1) : Ow w D T h M0 M → w_Checker_act_j61 this Q v2 v3 M → w_Checker_act_j61 this Q' v2 v3 M := by
  intro hf
  unfold w_Checker_act_j61
  exact (mo_w_Works_isIn hD  (fun r9 M8 f1 => (have g2 : Ow w D T _ M0 M8 := (Ow.trans hf f1); (mf_ite (mf_ite (mo_w_Checker_act_j78 hD  lQ hQ g2) (mo_w_Works_isIn hD  (fun r19 M18 f3 => (have g4 : Ow w D T _ M0 M18 := (Ow.trans g2 f3); (mf_ite (mo_w_Works_isIn hD  (fun r22 M21 f5 => (have g6 : Ow w D T _ M0 M21 := (Ow.trans g4 f5); (mf_ite (mo_w_Works_isIn hD  (fun r25 M24 f7 => (have g8 : Ow w D T _ M0 M24 := (Ow.trans g6 f7); (mf_ite (mf_ite (hQ _ _  (Ow.dn lQ g8)) (mf_ite (mo_w_Checker_push hD  (fun r339 M338 f9 => (have g10 : Ow w D T _ M0 M338 := (Ow.trans g8 f9); (mf_and fun _ => (hQ _ _  (Ow.dn lQ g10))))) g8.1) (mf_ite (mo_w_Checker_push hD  (fun r337 M336 f11 => (have g12 : Ow w D T _ M0 M336 := (Ow.trans g8 f11); (mf_and fun _ => (hQ _ _  (Ow.dn lQ g12))))) g8.1) (mf_ite (mo_w_Checker_isThere hD  (fun r326 M325 f13 => (have g14 : Ow w D T _ M0 M325 := (Ow.trans g8 f13); (mf_ite (hQ _ _  (Ow.dn lQ g14)) (mf_and fun _ => (mf_ite (mo_w_Checker_act_j476 hD  lQ hQ g14) (mo_w_Checker_breaks hD  (fun r334 M333 f15 => (have g16 : Ow w D T _ M0 M333 := (Ow.trans g14 f15); (mf_ite (hQ _ _  (Ow.dn lQ g16)) (mo_w_Checker_act_j476 hD  lQ hQ g16)))) g14.1)))))) g8.1) (mf_ite (mo_w_Checker_isThere hD  (fun r308 M307 f17 => (have g18 : Ow w D T _ M0 M307 := (Ow.trans g8 f17); (mf_ite (hQ _ _  (Ow.dn lQ g18)) (mf_and fun _ => (mo_w_Works_isReference hD  (fun r312 M311 f19 => (have g20 : Ow w D T _ M0 M311 := (Ow.trans g18 f19); (mf_ite (mf_and fun _ => (mo_w_Checker_isUnmade hD  (fun r316 M315 f21 => (have g22 : Ow w D T _ M0 M315 := (Ow.trans g20 f21); (mf_ite (mo_w_Checker_breaks hD  (fun r319 M318 f23 => (have g24 : Ow w D T _ M0 M318 := (Ow.trans g22 f23); (mf_ite (hQ _ _  (Ow.dn lQ g24)) (mo_w_Checker_act_j564 hD  lQ hQ g24)))) g22.1) (mo_w_Checker_act_j564 hD  lQ hQ g22)))) g20.1)) (mo_w_Checker_act_j564 hD  lQ hQ g20)))) g18.1))))) g8.1) (mf_ite (mo_w_Checker_isThere hD  (fun r299 M298 f25 => (have g26 : Ow w D T _ M0 M298 := (Ow.trans g8 f25); (mf_ite (hQ _ _  (Ow.dn lQ g26)) (mo_w_Checker_wants1 hD  (fun r302 M301 f27 => (have g28 : Ow w D T _ M0 M301 := (Ow.trans g26 f27); (mf_ite (hQ _ _  (Ow.dn lQ g28)) (mo_w_Checker_store hD  (fun r305 M304 f29 => (have g30 : Ow w D T _ M0 M304 := (Ow.trans g28 f29); (mf_ite (hQ _ _  (Ow.dn lQ g30)) (hQ _ _  (Ow.dn lQ g30))))) g28.1)))) g26.1)))) g8.1) (mf_ite (mo_w_Checker_isThere hD  (fun r283 M282 f31 => (have g32 : Ow w D T _ M0 M282 := (Ow.trans g8 f31); (mf_ite (hQ _ _  (Ow.dn lQ g32)) (mo_w_Checker_needs hD  (fun r286 M285 f33 => (have g34 : Ow w D T _ M0 M285 := (Ow.trans g32 f33); (mf_ite (hQ _ _  (Ow.dn lQ g34)) (mf_and fun _ => (mo_w_Checker_isUnmade hD  (fun r290 M289 f35 => (have g36 : Ow w D T _ M0 M289 := (Ow.trans g34 f35); (mf_ite (mo_w_Checker_is hD  (fun r293 M292 f37 => (have g38 : Ow w D T _ M0 M292 := (Ow.trans g36 f37); (mf_ite (hQ _ _  (Ow.dn lQ g38)) (mo_w_Checker_act_j657 hD  lQ hQ g38)))) g36.1) (mo_w_Checker_act_j657 hD  lQ hQ g36)))) g34.1))))) g32.1)))) g8.1) (mf_ite (mo_w_Checker_isThere hD  (fun r275 M274 f39 => (have g40 : Ow w D T _ M0 M274 := (Ow.trans g8 f39); (mf_ite (hQ _ _  (Ow.dn lQ g40)) (mf_and fun _ => (mf_ite (hQ _ _  (Ow.dn lQ g40)) (mo_w_Checker_breaks hD  (fun r280 M279 f41 => (have g42 : Ow w D T _ M0 M279 := (Ow.trans g40 f41); (mf_ite (hQ _ _  (Ow.dn lQ g42)) (hQ _ _  (Ow.dn lQ g42))))) g40.1)))))) g8.1) (mf_ite (mo_w_Checker_leaves hD  (fun r273 M272 f43 => (have g44 : Ow w D T _ M0 M272 := (Ow.trans g8 f43); (mf_and fun _ => (hQ _ _  (Ow.dn lQ g44))))) g8.1) (mf_ite (mo_w_Checker_leaves hD  (fun r271 M270 f45 => (have g46 : Ow w D T _ M0 M270 := (Ow.trans g8 f45); (mf_and fun _ => (hQ _ _  (Ow.dn lQ g46))))) g8.1) (mf_ite (mo_w_Checker_leaves hD  (fun r269 M268 f47 => (have g48 : Ow w D T _ M0 M268 := (Ow.trans g8 f47); (mf_and fun _ => (hQ _ _  (Ow.dn lQ g48))))) g8.1) (mf_ite (mo_w_Checker_leaves hD  (fun r267 M266 f49 => (have g50 : Ow w D T _ M0 M266 := (Ow.trans g8 f49); (mf_and fun _ => (hQ _ _  (Ow.dn lQ g50))))) g8.1) (mf_ite (mo_w_Checker_leaves hD  (fun r265 M264 f51 => (have g52 : Ow w D T _ M0 M264 := (Ow.trans g8 f51); (mf_and fun _ => (hQ _ _  (Ow.dn lQ g52))))) g8.1) (mf_ite (mo_w_Checker_wants1 hD  (fun r259 M258 f53 => (have g54 : Ow w D T _ M0 M258 := (Ow.trans g8 f53); (mf_ite (hQ _ _  (Ow.dn lQ g54)) (mo_w_Checker_comes hD  (fun r262 M261 f55 => (have g56 : Ow w D T _ M0 M261 := (Ow.trans g54 f55); (mf_ite (hQ _ _  (Ow.dn lQ g56)) (hQ _ _  (Ow.dn lQ g56))))) g54.1)))) g8.1) (mf_ite (mo_w_Checker_leaves hD  (fun r257 M256 f57 => (have g58 : Ow w D T _ M0 M256 := (Ow.trans g8 f57); (mf_and fun _ => (hQ _ _  (Ow.dn lQ g58))))) g8.1) (mf_ite (mo_w_Checker_leaves hD  (fun r255 M254 f59 => (have g60 : Ow w D T _ M0 M254 := (Ow.trans g8 f59); (mf_and fun _ => (hQ _ _  (Ow.dn lQ g60))))) g8.1) (mf_ite (mo_w_Checker_leaves hD  (fun r253 M252 f61 => (have g62 : Ow w D T _ M0 M252 := (Ow.trans g8 f61); (mf_and fun _ => (hQ _ _  (Ow.dn lQ g62))))) g8.1) (mf_ite (mo_w_Checker_leaves hD  (fun r251 M250 f63 => (have g64 : Ow w D T _ M0 M250 := (Ow.trans g8 f63); (mf_and fun _ => (hQ _ _  (Ow.dn lQ g64))))) g8.1) (mf_ite (mo_w_Checker_leaves hD  (fun r249 M248 f65 => (have g66 : Ow w D T _ M0 M248 := (Ow.trans g8 f65); (mf_and fun _ => (hQ _ _  (Ow.dn lQ g66))))) g8.1) (mf_ite (mo_w_Checker_needs hD  (fun r243 M242 f67 => (have g68 : Ow w D T _ M0 M242 := (Ow.trans g8 f67); (mf_ite (hQ _ _  (Ow.dn lQ g68)) (mo_w_Checker_comes hD  (fun r246 M245 f69 => (have g70 : Ow w D T _ M0 M245 := (Ow.trans g68 f69); (mf_ite (hQ _ _  (Ow.dn lQ g70)) (hQ _ _  (Ow.dn lQ g70))))) g68.1)))) g8.1) (mf_ite (mo_w_Checker_needs hD  (fun r236 M235 f71 => (have g72 : Ow w D T _ M0 M235 := (Ow.trans g8 f71); (mf_ite (hQ _ _  (Ow.dn lQ g72)) (mf_and fun _ => (mo_w_Checker_push hD  (fun r240 M239 f73 => (have g74 : Ow w D T _ M0 M239 := (Ow.trans g72 f73); (mf_ite (hQ _ _  (Ow.dn lQ g74)) (hQ _ _  (Ow.dn lQ g74))))) g72.1))))) g8.1) (mf_ite (mo_w_Checker_needs hD  (fun r230 M229 f75 => (have g76 : Ow w D T _ M0 M229 := (Ow.trans g8 f75); (mf_ite (hQ _ _  (Ow.dn lQ g76)) (mo_w_Checker_under hD  (fun r233 M232 f77 => (have g78 : Ow w D T _ M0 M232 := (Ow.trans g76 f77); (mf_ite (hQ _ _  (Ow.dn lQ g78)) (hQ _ _  (Ow.dn lQ g78))))) g76.1)))) g8.1) (mf_ite (mo_w_Checker_needs hD  (fun r224 M223 f79 => (have g80 : Ow w D T _ M0 M223 := (Ow.trans g8 f79); (mf_ite (hQ _ _  (Ow.dn lQ g80)) (mo_w_Checker_swap hD  (fun r227 M226 f81 => (have g82 : Ow w D T _ M0 M226 := (Ow.trans g80 f81); (mf_ite (hQ _ _  (Ow.dn lQ g82)) (hQ _ _  (Ow.dn lQ g82))))) g80.1)))) g8.1) (mf_ite (hQ _ _  (Ow.dn lQ g8)) (mf_ite (mo_w_Checker_leaves hD  (fun r222 M221 f83 => (have g84 : Ow w D T _ M0 M221 := (Ow.trans g8 f83); (mf_and fun _ => (hQ _ _  (Ow.dn lQ g84))))) g8.1) (mf_ite (mo_w_Checker_leaves hD  (fun r220 M219 f85 => (have g86 : Ow w D T _ M0 M219 := (Ow.trans g8 f85); (mf_and fun _ => (hQ _ _  (Ow.dn lQ g86))))) g8.1) (mf_ite (mo_w_Checker_leaves hD  (fun r218 M217 f87 => (have g88 : Ow w D T _ M0 M217 := (Ow.trans g8 f87); (mf_and fun _ => (hQ _ _  (Ow.dn lQ g88))))) g8.1) (mf_ite (mo_w_Checker_leaves hD  (fun r216 M215 f89 => (have g90 : Ow w D T _ M0 M215 := (Ow.trans g8 f89); (mf_and fun _ => (hQ _ _  (Ow.dn lQ g90))))) g8.1) (mf_ite (mo_w_Checker_leaves hD  (fun r214 M213 f91 => (have g92 : Ow w D T _ M0 M213 := (Ow.trans g8 f91); (mf_and fun _ => (hQ _ _  (Ow.dn lQ g92))))) g8.1) (mf_ite (mo_w_Checker_leaves hD  (fun r212 M211 f93 => (have g94 : Ow w D T _ M0 M211 := (Ow.trans g8 f93); (mf_and fun _ => (hQ _ _  (Ow.dn lQ g94))))) g8.1) (mf_ite (mo_w_Checker_leaves hD  (fun r210 M209 f95 => (have g96 : Ow w D T _ M0 M209 := (Ow.trans g8 f95); (mf_and fun _ => (hQ _ _  (Ow.dn lQ g96))))) g8.1) (mf_ite (mo_w_Checker_leaves hD  (fun r208 M207 f97 => (have g98 : Ow w D T _ M0 M207 := (Ow.trans g8 f97); (mf_and fun _ => (hQ _ _  (Ow.dn lQ g98))))) g8.1) (mf_ite (mo_w_Checker_leaves hD  (fun r206 M205 f99 => (have g100 : Ow w D T _ M0 M205 := (Ow.trans g8 f99); (mf_and fun _ => (hQ _ _  (Ow.dn lQ g100))))) g8.1) (mf_ite (mo_w_Checker_leaves hD  (fun r204 M203 f101 => (have g102 : Ow w D T _ M0 M203 := (Ow.trans g8 f101); (mf_and fun _ => (hQ _ _  (Ow.dn lQ g102))))) g8.1) (mf_ite (mo_w_Checker_leaves hD  (fun r202 M201 f103 => (have g104 : Ow w D T _ M0 M201 := (Ow.trans g8 f103); (mf_and fun _ => (hQ _ _  (Ow.dn lQ g104))))) g8.1) (mf_ite (mo_w_Checker_leaves hD  (fun r200 M199 f105 => (have g106 : Ow w D T _ M0 M199 := (Ow.trans g8 f105); (mf_and fun _ => (hQ _ _  (Ow.dn lQ g106))))) g8.1) (mf_ite (mo_w_Checker_wants1 hD  (fun r194 M193 f107 => (have g108 : Ow w D T _ M0 M193 := (Ow.trans g8 f107); (mf_ite (hQ _ _  (Ow.dn lQ g108)) (mo_w_Checker_comes hD  (fun r197 M196 f109 => (have g110 : Ow w D T _ M0 M196 := (Ow.trans g108 f109); (mf_ite (hQ _ _  (Ow.dn lQ g110)) (hQ _ _  (Ow.dn lQ g110))))) g108.1)))) g8.1) (mf_ite (mo_w_Checker_wants1 hD  (fun r188 M187 f111 => (have g112 : Ow w D T _ M0 M187 := (Ow.trans g8 f111); (mf_ite (hQ _ _  (Ow.dn lQ g112)) (mo_w_Checker_comes hD  (fun r191 M190 f113 => (have g114 : Ow w D T _ M0 M190 := (Ow.trans g112 f113); (mf_ite (hQ _ _  (Ow.dn lQ g114)) (hQ _ _  (Ow.dn lQ g114))))) g112.1)))) g8.1) (mf_ite (mo_w_Checker_wants2 hD  (fun r182 M181 f115 => (have g116 : Ow w D T _ M0 M181 := (Ow.trans g8 f115); (mf_ite (hQ _ _  (Ow.dn lQ g116)) (mo_w_Checker_comes hD  (fun r185 M184 f117 => (have g118 : Ow w D T _ M0 M184 := (Ow.trans g116 f117); (mf_ite (hQ _ _  (Ow.dn lQ g118)) (hQ _ _  (Ow.dn lQ g118))))) g116.1)))) g8.1) (mf_ite (mo_w_Checker_wants2 hD  (fun r176 M175 f119 => (have g120 : Ow w D T _ M0 M175 := (Ow.trans g8 f119); (mf_ite (hQ _ _  (Ow.dn lQ g120)) (mo_w_Checker_comes hD  (fun r179 M178 f121 => (have g122 : Ow w D T _ M0 M178 := (Ow.trans g120 f121); (mf_ite (hQ _ _  (Ow.dn lQ g122)) (hQ _ _  (Ow.dn lQ g122))))) g120.1)))) g8.1) (mf_ite (mo_w_Checker_leaves hD  (fun r174 M173 f123 => (have g124 : Ow w D T _ M0 M173 := (Ow.trans g8 f123); (mf_and fun _ => (hQ _ _  (Ow.dn lQ g124))))) g8.1) (mf_ite (mo_w_Checker_push hD  (fun r172 M171 f125 => (have g126 : Ow w D T _ M0 M171 := (Ow.trans g8 f125); (mf_and fun _ => (hQ _ _  (Ow.dn lQ g126))))) g8.1) (mf_ite (mo_w_Checker_wants1 hD  (fun r166 M165 f127 => (have g128 : Ow w D T _ M0 M165 := (Ow.trans g8 f127); (mf_ite (hQ _ _  (Ow.dn lQ g128)) (mo_w_Checker_comes hD  (fun r169 M168 f129 => (have g130 : Ow w D T _ M0 M168 := (Ow.trans g128 f129); (mf_ite (hQ _ _  (Ow.dn lQ g130)) (hQ _ _  (Ow.dn lQ g130))))) g128.1)))) g8.1) (mf_ite (mo_w_Checker_wants2 hD  (fun r160 M159 f131 => (have g132 : Ow w D T _ M0 M159 := (Ow.trans g8 f131); (mf_ite (hQ _ _  (Ow.dn lQ g132)) (mo_w_Checker_comes hD  (fun r163 M162 f133 => (have g134 : Ow w D T _ M0 M162 := (Ow.trans g132 f133); (mf_ite (hQ _ _  (Ow.dn lQ g134)) (hQ _ _  (Ow.dn lQ g134))))) g132.1)))) g8.1) (mf_ite (mo_w_Checker_wants3 hD  (fun r154 M153 f135 => (have g136 : Ow w D T _ M0 M153 := (Ow.trans g8 f135); (mf_ite (hQ _ _  (Ow.dn lQ g136)) (mo_w_Checker_comes hD  (fun r157 M156 f137 => (have g138 : Ow w D T _ M0 M156 := (Ow.trans g136 f137); (mf_ite (hQ _ _  (Ow.dn lQ g138)) (hQ _ _  (Ow.dn lQ g138))))) g136.1)))) g8.1) (mf_ite (mo_w_Checker_wants1 hD  (fun r148 M147 f139 => (have g140 : Ow w D T _ M0 M147 := (Ow.trans g8 f139); (mf_ite (hQ _ _  (Ow.dn lQ g140)) (mo_w_Checker_comes hD  (fun r151 M150 f141 => (have g142 : Ow w D T _ M0 M150 := (Ow.trans g140 f141); (mf_ite (hQ _ _  (Ow.dn lQ g142)) (hQ _ _  (Ow.dn lQ g142))))) g140.1)))) g8.1) (mf_ite (mo_w_Checker_leaves hD  (fun r146 M145 f143 => (have g144 : Ow w D T _ M0 M145 := (Ow.trans g8 f143); (mf_and fun _ => (hQ _ _  (Ow.dn lQ g144))))) g8.1) (mf_ite (mo_w_Checker_leaves hD  (fun r144 M143 f145 => (have g146 : Ow w D T _ M0 M143 := (Ow.trans g8 f145); (mf_and fun _ => (hQ _ _  (Ow.dn lQ g146))))) g8.1) (mf_ite (mo_w_Checker_leaves hD  (fun r142 M141 f147 => (have g148 : Ow w D T _ M0 M141 := (Ow.trans g8 f147); (mf_and fun _ => (hQ _ _  (Ow.dn lQ g148))))) g8.1) (mf_ite (mo_w_Checker_leaves hD  (fun r140 M139 f149 => (have g150 : Ow w D T _ M0 M139 := (Ow.trans g8 f149); (mf_and fun _ => (hQ _ _  (Ow.dn lQ g150))))) g8.1) (mf_ite (mo_w_Checker_leaves hD  (fun r138 M137 f151 => (have g152 : Ow w D T _ M0 M137 := (Ow.trans g8 f151); (mf_and fun _ => (hQ _ _  (Ow.dn lQ g152))))) g8.1) (mf_ite (mo_w_Checker_leaves hD  (fun r136 M135 f153 => (have g154 : Ow w D T _ M0 M135 := (Ow.trans g8 f153); (mf_and fun _ => (hQ _ _  (Ow.dn lQ g154))))) g8.1) (mf_ite (mo_w_Checker_leaves hD  (fun r134 M133 f155 => (have g156 : Ow w D T _ M0 M133 := (Ow.trans g8 f155); (mf_and fun _ => (hQ _ _  (Ow.dn lQ g156))))) g8.1) (mf_ite (mo_w_Checker_leaves hD  (fun r132 M131 f157 => (have g158 : Ow w D T _ M0 M131 := (Ow.trans g8 f157); (mf_and fun _ => (hQ _ _  (Ow.dn lQ g158))))) g8.1) (mf_ite (mo_w_Checker_wants1 hD  (fun r124 M123 f159 => (have g160 : Ow w D T _ M0 M123 := (Ow.trans g8 f159); (mf_ite (hQ _ _  (Ow.dn lQ g160)) (mo_w_Works_kindOf hD  (fun r127 M126 f161 => (have g162 : Ow w D T _ M0 M126 := (Ow.trans g160 f161); (mo_w_Checker_comes hD  (fun r129 M128 f163 => (have g164 : Ow w D T _ M0 M128 := (Ow.trans g162 f163); (mf_ite (hQ _ _  (Ow.dn lQ g164)) (hQ _ _  (Ow.dn lQ g164))))) g162.1))) g160.1)))) g8.1) (mf_ite (mo_w_Checker_wants1 hD  (fun r118 M117 f165 => (have g166 : Ow w D T _ M0 M117 := (Ow.trans g8 f165); (mf_ite (hQ _ _  (Ow.dn lQ g166)) (mo_w_Checker_comes hD  (fun r121 M120 f167 => (have g168 : Ow w D T _ M0 M120 := (Ow.trans g166 f167); (mf_ite (hQ _ _  (Ow.dn lQ g168)) (hQ _ _  (Ow.dn lQ g168))))) g166.1)))) g8.1) (mf_ite (mo_w_Works_kindOf hD  (fun r110 M109 f169 => (have g170 : Ow w D T _ M0 M109 := (Ow.trans g8 f169); (mo_w_Checker_wants1 hD  (fun r112 M111 f171 => (have g172 : Ow w D T _ M0 M111 := (Ow.trans g170 f171); (mf_ite (hQ _ _  (Ow.dn lQ g172)) (mo_w_Checker_comes hD  (fun r115 M114 f173 => (have g174 : Ow w D T _ M0 M114 := (Ow.trans g172 f173); (mf_ite (hQ _ _  (Ow.dn lQ g174)) (hQ _ _  (Ow.dn lQ g174))))) g172.1)))) g170.1))) g8.1) (mf_ite (mo_w_Checker_leaves hD  (fun r108 M107 f175 => (have g176 : Ow w D T _ M0 M107 := (Ow.trans g8 f175); (mf_and fun _ => (hQ _ _  (Ow.dn lQ g176))))) g8.1) (mf_ite (mo_w_Checker_leaves hD  (fun r106 M105 f177 => (have g178 : Ow w D T _ M0 M105 := (Ow.trans g8 f177); (mf_and fun _ => (hQ _ _  (Ow.dn lQ g178))))) g8.1) (mf_ite (mo_w_Checker_leaves hD  (fun r104 M103 f179 => (have g180 : Ow w D T _ M0 M103 := (Ow.trans g8 f179); (mf_and fun _ => (hQ _ _  (Ow.dn lQ g180))))) g8.1) (mf_ite (mo_w_Checker_wants1 hD  (fun r98 M97 f181 => (have g182 : Ow w D T _ M0 M97 := (Ow.trans g8 f181); (mf_ite (hQ _ _  (Ow.dn lQ g182)) (mo_w_Checker_comes hD  (fun r101 M100 f183 => (have g184 : Ow w D T _ M0 M100 := (Ow.trans g182 f183); (mf_ite (hQ _ _  (Ow.dn lQ g184)) (hQ _ _  (Ow.dn lQ g184))))) g182.1)))) g8.1) (mf_ite (mo_w_Checker_wants1 hD  (fun r92 M91 f185 => (have g186 : Ow w D T _ M0 M91 := (Ow.trans g8 f185); (mf_ite (hQ _ _  (Ow.dn lQ g186)) (mo_w_Checker_comes hD  (fun r95 M94 f187 => (have g188 : Ow w D T _ M0 M94 := (Ow.trans g186 f187); (mf_ite (hQ _ _  (Ow.dn lQ g188)) (hQ _ _  (Ow.dn lQ g188))))) g186.1)))) g8.1) (mo_w_Checker_leaves hD  (fun r28 M27 f189 => (have g190 : Ow w D T _ M0 M27 := (Ow.trans g8 f189); (mf_and fun _ => (hQ _ _  (Ow.dn lQ g190))))) g8.1))))))))))))))))))))))))))))))))))))))))))))))))))))))))))))))) (mo_w_Checker_call hD  (fun r341 M340 f191 => (have g192 : Ow w D T _ M0 M340 := (Ow.trans g8 f191); (mf_and fun _ => (hQ _ _  (Ow.dn lQ g192))))) g8.1)))) g6.1) (mo_w_Checker_field hD  (fun r343 M342 f193 => (have g194 : Ow w D T _ M0 M342 := (Ow.trans g6 f193); (mf_and fun _ => (hQ _ _  (Ow.dn lQ g194))))) g6.1)))) g4.1) (mo_w_Checker_wants2 hD  (fun r345 M344 f195 => (have g196 : Ow w D T _ M0 M344 := (Ow.trans g4 f195); (mf_ite (hQ _ _  (Ow.dn lQ g196)) (mo_w_Checker_comes hD  (fun r348 M347 f197 => (have g198 : Ow w D T _ M0 M347 := (Ow.trans g196 f197); (mf_ite (hQ _ _  (Ow.dn lQ g198)) (hQ _ _  (Ow.dn lQ g198))))) g196.1)))) g4.1)))) g2.1)) (mo_w_Checker_act_j78 hD  lQ hQ g2)))) hf.1)
set_option maxRecDepth 20000 in
theorem mo_w_Checker_act {w : Nat} {D : Nat → Nat → Prop} {T : Nat → Prop} {h : Hot} {this : Nat} {a1 : Int32} {Q Q' : Int32 → Mem → Prop} {M : Mem} (hD : Dok w D)  (hQ : ∀ z0 z1, Ow w D T h M z1 → Q z0 z1 → Q' z0 z1) : St w D T h M → w_Checker_act this a1 Q M → w_Checker_act this a1 Q' M := by
  intro hs
  unfold w_Checker_act
  exact (Exists.imp fun i1 => (mf_and fun e1 => (mf_and fun _ => (Exists.imp fun i3 => (mf_and fun e3 => (mf_and fun _ => (mo_w_Works_isIn hD  (fun r6 M5 f5 => (have g6 : Ow w D T _ M M5 := (Ow.trans (Ow.rf hs) f5); (mf_ite (mo_w_Checker_act_j61 hD  (fun _ e => e) hQ g6) (mf_ite (mo_w_Checker_act_j61 hD  (fun _ e => e) hQ g6) (mo_w_Checker_wants2 hD  (fun r352 M351 f7 => (have g8 : Ow w D T _ M M351 := (Ow.trans g6 f7); (mf_ite (hQ _ _  g8) (mo_w_Checker_comes hD  (fun r355 M354 f9 => (have g10 : Ow w D T _ M M354 := (Ow.trans g8 f9); (mf_ite (hQ _ _  g10) (hQ _ _  g10)))) g8.1)))) g6.1))))) (Ow.rf hs).1)))))))
set_option maxRecDepth 20000 in
theorem mo_w_Checker_ends_j139 {w : Nat} {D : Nat → Nat → Prop} {T : Nat → Prop} {h : Hot} {this : Nat} {Q Q' : Int32 → Mem → Prop} {h_Q : Hot} {s0 : Int32} {M : Mem} {M0 : Mem} (hD : Dok w D)  (lQ : ∀ t, h_Q t = true → h t = true) (hQ : ∀ z0 z1, Ow w D T h_Q M0 z1 → Q z0 z1 → Q' z0 z1) : Ow w D T h M0 M → w_Checker_ends_j139 this Q s0 M → w_Checker_ends_j139 this Q' s0 M := by
  intro hf
  unfold w_Checker_ends_j139
  exact (mf_and fun _ => (mf_ite (hQ _ _  (Ow.dn lQ (Ow.wI (ow0 rfl) hf))) (Exists.imp fun i13 => (mf_and fun e1 => (mf_and fun _ => (mf_ite (hQ _ _  (Ow.dn lQ (Ow.wI (ow0 rfl) hf))) (have g3 : Ow w D T _ M0 (sI M 4 this 3 s0) := (Ow.wI (ow0 rfl) hf); (mo_w_Checker_breaks hD  (fun r17 M16 f4 => (have g5 : Ow w D T _ M0 M16 := (Ow.trans g3 f4); (mf_ite (hQ _ _  (Ow.dn lQ g5)) (hQ _ _  (Ow.dn lQ g5))))) g3.1))))))))
set_option maxRecDepth 20000 in
theorem mo_w_Checker_ends_j138 {w : Nat} {D : Nat → Nat → Prop} {T : Nat → Prop} {h : Hot} {this : Nat} {Q Q' : Int32 → Mem → Prop} {h_Q : Hot} {M : Mem} {M0 : Mem} (hD : Dok w D)  (lQ : ∀ t, h_Q t = true → h t = true) (hQ : ∀ z0 z1, Ow w D T h_Q M0 z1 → Q z0 z1 → Q' z0 z1) : Ow w D T h M0 M → w_Checker_ends_j138 this Q M → w_Checker_ends_j138 this Q' M := by
  intro hf
  unfold w_Checker_ends_j138
  exact (mo_w_Checker_ends_j139 hD  lQ hQ hf)
set_option maxRecDepth 20000 in
theorem mo_w_Checker_ends_j104 {w : Nat} {D : Nat → Nat → Prop} {T : Nat → Prop} {h : Hot} {this : Nat} {Q Q' : Int32 → Mem → Prop} {h_Q : Hot} {v2 : Int32} {M : Mem} {M0 : Mem} (hD : Dok w D)  (lQ : ∀ t, h_Q t = true → h t = true) (hQ : ∀ z0 z1, Ow w D T h_Q M0 z1 → Q z0 z1 → Q' z0 z1) : Ow w D T h M0 M → w_Checker_ends_j104 this Q v2 M → w_Checker_ends_j104 this Q' v2 M := by
  intro hf
  unfold w_Checker_ends_j104
  exact (mf_ite (mo_w_Checker_ends_j138 hD  lQ hQ hf) (mf_ite (mo_w_Checker_ends_j138 hD  lQ hQ hf) (mf_ite (mo_w_Checker_ends_j138 hD  lQ hQ hf) (mo_w_Works_isIn hD  (fun r22 M21 f1 => (have g2 : Ow w D T _ M0 M21 := (Ow.trans hf f1); (mf_ite (mo_w_Checker_ends_j139 hD  lQ hQ g2) (mo_w_Checker_ends_j138 hD  lQ hQ g2)))) hf.1))))
set_option maxRecDepth 20000 in
theorem mo_w_Checker_ends_L41 {w : Nat} {D : Nat → Nat → Prop} {T : Nat → Prop} {h : Hot} {this : Nat} {Q Q' : Int32 → Mem → Prop} {h_Q : Hot} {M0 : Mem} (hD : Dok w D)  (lQ : ∀ t, h_Q t = true → h t = true) (hQ : ∀ z0 z1, Ow w D T h_Q M0 z1 → Q z0 z1 → Q' z0 z1) : ∀ (n : Nat) (v1 : Int32) (v2 : Int32) (v3 : Int32) (M : Mem), Ow w D T h M0 M → w_Checker_ends_L41 this Q n v1 v2 v3 M → w_Checker_ends_L41 this Q' n v1 v2 v3 M
  | 0, _, _, _, _ => fun  _ h => h
  | n + 1, v1, v2, v3, M => fun  hf => by
    unfold w_Checker_ends_L41
    exact (mf_ite (Exists.imp fun i7 => (mf_and fun e1 => (mf_and fun _ => (mf_ite (mo_w_Checker_ends_j104 hD  lQ hQ hf) (Exists.imp fun i24 => (mf_and fun e3 => (Exists.imp fun i25 => (mf_and fun e5 => (mf_and fun _ => (Exists.imp fun i27 => (mf_and fun e7 => (mf_and fun _ => (mf_and fun _ => (mf_and fun _ => (mo_w_Checker_goes hD  (fun r32 M31 f9 => (have g10 : Ow w D T _ M0 M31 := (Ow.trans hf f9); (mf_ite (hQ _ _  (Ow.dn lQ g10)) (mo_w_Checker_ends_L41 hD  lQ hQ _ _ _ _ _  g10)))) hf.1))))))))))))))) (mo_w_Checker_ends_j104 hD  lQ hQ hf))
set_option maxRecDepth 20000 in
theorem mo_w_Checker_ends_j39 {w : Nat} {D : Nat → Nat → Prop} {T : Nat → Prop} {h : Hot} {this : Nat} {Q Q' : Int32 → Mem → Prop} {h_Q : Hot} {v1 : Int32} {v2 : Int32} {M : Mem} {M0 : Mem} (hD : Dok w D)  (lQ : ∀ t, h_Q t = true → h t = true) (hQ : ∀ z0 z1, Ow w D T h_Q M0 z1 → Q z0 z1 → Q' z0 z1) : Ow w D T h M0 M → w_Checker_ends_j39 this Q v1 v2 M → w_Checker_ends_j39 this Q' v1 v2 M := by
  intro hf
  unfold w_Checker_ends_j39
  exact (Exists.imp fun n34 => (mo_w_Checker_ends_L41 hD  lQ hQ _ _ _ _ _  hf))
set_option maxRecDepth 20000 in
theorem mo_w_Checker_ends {w : Nat} {D : Nat → Nat → Prop} {T : Nat → Prop} {h : Hot} {this : Nat} {a1 : Int32} {Q Q' : Int32 → Mem → Prop} {M : Mem} (hD : Dok w D)  (hQ : ∀ z0 z1, Ow w D T h M z1 → Q z0 z1 → Q' z0 z1) : St w D T h M → w_Checker_ends this a1 Q M → w_Checker_ends this a1 Q' M := by
  intro hs
  unfold w_Checker_ends
  exact (Exists.imp fun i1 => (mf_and fun e1 => (mf_and fun _ => (mo_w_Works_isIn hD  (fun r4 M3 f3 => (have g4 : Ow w D T _ M M3 := (Ow.trans (Ow.rf hs) f3); (mf_ite (mo_w_Checker_ends_j39 hD  (fun _ e => e) hQ g4) (Exists.imp fun i35 => (mf_and fun e5 => (mf_and fun _ => (mo_w_Checker_goes hD  (fun r38 M37 f7 => (have g8 : Ow w D T _ M M37 := (Ow.trans g4 f7); (mf_ite (hQ _ _  g8) (mo_w_Checker_ends_j39 hD  (fun _ e => e) hQ g8)))) g4.1))))))) (Ow.rf hs).1))))
set_option maxRecDepth 20000 in
theorem mo_w_Checker_one_j177 {w : Nat} {D : Nat → Nat → Prop} {T : Nat → Prop} {h : Hot} {this : Nat} {Q Q' : Int32 → Mem → Prop} {h_Q : Hot} {v1 : Int32} {M : Mem} {M0 : Mem} (hD : Dok w D)  (lQ : ∀ t, h_Q t = true → h t = true) (hQ : ∀ z0 z1, Ow w D T h_Q M0 z1 → Q z0 z1 → Q' z0 z1) : Ow w D T h M0 M → w_Checker_one_j177 this Q v1 M → w_Checker_one_j177 this Q' v1 M := by
  intro hf
  unfold w_Checker_one_j177
  exact (mo_w_Checker_keep hD  (fun M9 f1 => (have g2 : Ow w D T _ M0 M9 := (Ow.trans hf f1); (mo_w_Checker_handlers hD  (fun r11 M10 f3 => (have g4 : Ow w D T _ M0 M10 := (Ow.trans g2 f3); (mf_ite (hQ _ _  (Ow.dn lQ g4)) (mo_w_Checker_act hD  (fun r14 M13 f5 => (have g6 : Ow w D T _ M0 M13 := (Ow.trans g4 f5); (mf_ite (hQ _ _  (Ow.dn lQ g6)) (mo_w_Checker_ends hD  (fun r17 M16 f7 => (have g8 : Ow w D T _ M0 M16 := (Ow.trans g6 f7); (mf_ite (hQ _ _  (Ow.dn lQ g8)) (hQ _ _  (Ow.dn lQ g8))))) g6.1)))) g4.1)))) g2.1))) hf.1)
set_option maxRecDepth 20000 in
theorem mo_w_Checker_one_L114 {w : Nat} {D : Nat → Nat → Prop} {T : Nat → Prop} {h : Hot} {this : Nat} {Q Q' : Int32 → Mem → Prop} {h_Q : Hot} {M0 : Mem} (hD : Dok w D)  (lQ : ∀ t, h_Q t = true → h t = true) (hQ : ∀ z0 z1, Ow w D T h_Q M0 z1 → Q z0 z1 → Q' z0 z1) : ∀ (n : Nat) (v1 : Int32) (v2 : Int32) (v3 : Int32) (M : Mem), Ow w D T h M0 M → w_Checker_one_L114 this Q n v1 v2 v3 M → w_Checker_one_L114 this Q' n v1 v2 v3 M
  | 0, _, _, _, _ => fun  _ h => h
  | n + 1, v1, v2, v3, M => fun  hf => by
    unfold w_Checker_one_L114
    exact (mf_ite (mf_and fun _ => (have g1 : Ow w D T _ M0 (sI M 4 this 3 (1 : Int32)) := (Ow.wI (ow0 rfl) hf); (mo_w_Checker_one_j177 hD  lQ hQ g1))) (Exists.imp fun i31 => (mf_and fun e2 => (Exists.imp fun i32 => (mf_and fun e4 => (mf_and fun _ => (mf_and fun _ => (mf_and fun _ => (Exists.imp fun M36 => (mf_and fun e6 => (have g7 : Ow w D T _ M0 M36 := Ow.of e6 (Ow.wI (ow0 rfl) hf); (mo_w_Checker_one_L114 hD  lQ hQ _ _ _ _ _  g7))))))))))))
set_option maxRecDepth 20000 in
theorem mo_w_Checker_one_j92 {w : Nat} {D : Nat → Nat → Prop} {T : Nat → Prop} {h : Hot} {this : Nat} {Q Q' : Int32 → Mem → Prop} {h_Q : Hot} {k42 k42' : Int32 → Int32 → Int32 → Mem → Prop} {h_k42 : Hot} {v1 : Int32} {v2 : Int32} {v3 : Int32} {s0 : Int32} {s1 : Int32} {M : Mem} {M0 : Mem} (hD : Dok w D)  (lQ : ∀ t, h_Q t = true → h t = true) (hQ : ∀ z0 z1, Ow w D T h_Q M0 z1 → Q z0 z1 → Q' z0 z1) (lk42 : ∀ t, h_k42 t = true → h t = true) (hk42 : ∀ z0 z1 z2 z3, Ow w D T h_k42 M0 z3 → k42 z0 z1 z2 z3 → k42' z0 z1 z2 z3) : Ow w D T h M0 M → w_Checker_one_j92 this Q k42 v1 v2 v3 s0 s1 M → w_Checker_one_j92 this Q' k42' v1 v2 v3 s0 s1 M := by
  intro hf
  unfold w_Checker_one_j92
  exact (mf_and fun _ => (hk42 _ _ _ _  (Ow.dn lk42 (Ow.wI (ow0 rfl) hf))))
set_option maxRecDepth 20000 in
theorem mo_w_Checker_one_L42 {w : Nat} {D : Nat → Nat → Prop} {T : Nat → Prop} {h : Hot} {this : Nat} {Q Q' : Int32 → Mem → Prop} {h_Q : Hot} {M0 : Mem} (hD : Dok w D)  (lQ : ∀ t, h_Q t = true → h t = true) (hQ : ∀ z0 z1, Ow w D T h_Q M0 z1 → Q z0 z1 → Q' z0 z1) : ∀ (n : Nat) (v1 : Int32) (v2 : Int32) (v3 : Int32) (M : Mem), Ow w D T h M0 M → w_Checker_one_L42 this Q n v1 v2 v3 M → w_Checker_one_L42 this Q' n v1 v2 v3 M
  | 0, _, _, _, _ => fun  _ h => h
  | n + 1, v1, v2, v3, M => fun  hf => by
    unfold w_Checker_one_L42
    exact (Exists.imp fun i24 => (mf_and fun e1 => (mf_and fun _ => (mf_ite (Exists.imp fun i27 => (mf_and fun e3 => (mf_and fun _ => (Exists.imp fun n37 => (have g5 : Ow w D T _ M0 (sI M 4 this 2 (mI M 72 i27 v1.toNatClampNeg)) := (Ow.wI (ow0 rfl) hf); (mo_w_Checker_one_L114 hD  lQ hQ _ _ _ _ _  g5)))))) (Exists.imp fun i38 => (mf_and fun e6 => (mf_and fun _ => (mf_ite (mo_w_Checker_one_j92 hD  lQ hQ (fun _ e => e) (fun y0 y1 y2 y3  hf => mo_w_Checker_one_L42 hD  lQ hQ n y0 y1 y2 y3  hf) hf) (Exists.imp fun i42 => (mf_and fun e8 => (mf_and fun _ => (mo_w_Checker_one_j92 hD  lQ hQ (fun _ e => e) (fun y0 y1 y2 y3  hf => mo_w_Checker_one_L42 hD  lQ hQ n y0 y1 y2 y3  hf) hf))))))))))))
set_option maxRecDepth 20000 in
theorem mo_w_Checker_one {w : Nat} {D : Nat → Nat → Prop} {T : Nat → Prop} {h : Hot} {this : Nat} {Q Q' : Int32 → Mem → Prop} {M : Mem} (hD : Dok w D)  (hQ : ∀ z0 z1, Ow w D T h M z1 → Q z0 z1 → Q' z0 z1) : St w D T h M → w_Checker_one this Q M → w_Checker_one this Q' M := by
  intro hs
  unfold w_Checker_one
  exact (mo_w_Checker_code hD  (fun r2 M1 f1 => (have g2 : Ow w D T _ M M1 := (Ow.trans (Ow.rf hs) f1); (Exists.imp fun i3 => (mf_and fun e3 => (mf_and fun _ => (mf_ite (mf_ite (mo_w_Checker_breaks hD  (fun r8 M7 f5 => (have g6 : Ow w D T _ M M7 := (Ow.trans g2 f5); (mf_and fun _ => (hQ _ _  g6)))) g2.1) (mo_w_Checker_one_j177 hD  (fun _ e => e) hQ g2)) (mo_w_Checker_goes hD  (fun r20 M19 f7 => (have g8 : Ow w D T _ M M19 := (Ow.trans g2 f7); (mf_ite (hQ _ _  g8) (Exists.imp fun i22 => (mf_and fun e9 => (mf_and fun _ => (Exists.imp fun n44 => (mo_w_Checker_one_L42 hD  (fun _ e => e) hQ _ _ _ _ _  g8)))))))) g2.1))))))) (Ow.rf hs).1)
set_option maxRecDepth 20000 in
theorem mo_w_Checker_all_L9 {w : Nat} {D : Nat → Nat → Prop} {T : Nat → Prop} {h : Hot} {this : Nat} {Q Q' : Mem → Prop} {h_Q : Hot} {M0 : Mem} (hD : Dok w D)  (lQ : ∀ t, h_Q t = true → h t = true) (hQ : ∀ z0, Ow w D T h_Q M0 z0 → Q z0 → Q' z0) : ∀ (n : Nat) (M : Mem), Ow w D T h M0 M → w_Checker_all_L9 this Q n M → w_Checker_all_L9 this Q' n M
  | 0, _ => fun  _ h => h
  | n + 1, M => fun  hf => by
    unfold w_Checker_all_L9
    exact (Exists.imp fun i2 => (mf_and fun e1 => (mf_and fun _ => (mf_ite (hQ _  (Ow.dn lQ (Ow.wI (ow0 rfl) hf))) (mo_w_Checker_one hD  (fun r6 M5 f3 => (have g4 : Ow w D T _ M0 M5 := (Ow.trans hf f3); (mf_ite (hQ _  (Ow.dn lQ g4)) (have g5 : Ow w D T _ M0 (sI M5 4 this 7 ((mI M5 4 this 7) + (1 : Int32))) := (Ow.wI (ow0 rfl) g4); (mo_w_Checker_all_L9 hD  lQ hQ _ _  g5))))) hf.1)))))
set_option maxRecDepth 20000 in
theorem mo_w_Checker_all {w : Nat} {D : Nat → Nat → Prop} {T : Nat → Prop} {h : Hot} {this : Nat} {Q Q' : Mem → Prop} {M : Mem} (hD : Dok w D)  (hQ : ∀ z0, Ow w D T h M z0 → Q z0 → Q' z0) : St w D T h M → w_Checker_all this Q M → w_Checker_all this Q' M := by
  intro hs
  unfold w_Checker_all
  exact (mo_w_Checker_begin hD  (fun M1 f1 => (have g2 : Ow w D T _ M M1 := (Ow.trans (Ow.rf hs) f1); (Exists.imp fun n8 => (have g3 : Ow w D T _ M (sI M1 4 this 7 (0 : Int32)) := (Ow.wI (ow0 rfl) g2); (mo_w_Checker_all_L9 hD  (fun _ e => e) hQ _ _  g3))))) (Ow.rf hs).1)
set_option maxRecDepth 20000 in
theorem mo_w_Checker_check_j133 {w : Nat} {D : Nat → Nat → Prop} {T : Nat → Prop} {h : Hot} {this : Nat} {Q Q' : Int32 → Mem → Prop} {h_Q : Hot} {k20 k20' : Int32 → Int32 → Mem → Prop} {h_k20 : Hot} {v2 : Int32} {v3 : Int32} {M : Mem} {M0 : Mem} (hD : Dok w D)  (lQ : ∀ t, h_Q t = true → h t = true) (hQ : ∀ z0 z1, Ow w D T h_Q M0 z1 → Q z0 z1 → Q' z0 z1) (lk20 : ∀ t, h_k20 t = true → h t = true) (hk20 : ∀ z0 z1 z2, Ow w D T h_k20 M0 z2 → k20 z0 z1 z2 → k20' z0 z1 z2) : Ow w D T h M0 M → w_Checker_check_j133 this Q k20 v2 v3 M → w_Checker_check_j133 this Q' k20' v2 v3 M := by
  intro hf
  unfold w_Checker_check_j133
  exact (hk20 _ _ _  (Ow.dn lk20 hf))
set_option maxRecDepth 20000 in
theorem mo_w_Checker_check_L20 {w : Nat} {D : Nat → Nat → Prop} {T : Nat → Prop} {h : Hot} {this : Nat} {Q Q' : Int32 → Mem → Prop} {h_Q : Hot} {M0 : Mem} (hD : Dok w D) (n0 : h (4, this, 4) = true) (lQ : ∀ t, h_Q t = true → h t = true) (hQ : ∀ z0 z1, Ow w D T h_Q M0 z1 → Q z0 z1 → Q' z0 z1) : ∀ (n : Nat) (v2 : Int32) (v3 : Int32) (M : Mem), Ow w D T h M0 M → w_Checker_check_L20 this Q n v2 v3 M → w_Checker_check_L20 this Q' n v2 v3 M
  | 0, _, _, _ => fun  _ h => h
  | n + 1, v2, v3, M => fun  hf => by
    unfold w_Checker_check_L20
    exact (Exists.imp fun i4 => (mf_and fun e1 => (mf_and fun _ => (Exists.imp fun i6 => (mf_and fun e3 => (mf_and fun _ => (mf_ite (hQ _ _  (Ow.dn lQ hf)) (Exists.imp fun i9 => (mf_and fun e5 => (mf_and fun _ => (mf_ite (have g7 : Ow w D T _ M0 (sI (sI M 4 this 6 v3) 4 this 8 (0 : Int32)) := (Ow.wI (ow0 rfl) (Ow.wI (ow0 rfl) hf)); (mo_w_Checker_all hD  (fun M12 f8 => (have g9 : Ow w D T _ M0 M12 := (Ow.trans g7 f8); (mf_ite (mo_w_Checker_check_j133 hD  lQ hQ (fun _ e => e) (fun y0 y1 y2  hf => mo_w_Checker_check_L20 hD n0 lQ hQ n y0 y1 y2  hf) g9) (Exists.imp fun i14 => (mf_and fun e10 => (have o11 : ow w D 5 i14 := (Ow.rh e10 rfl n0 g9); (Exists.imp fun i15 => (mf_and fun e12 => (have o13 : ow w D 5 i15 := (Ow.rh e12 rfl n0 (Ow.wI o11 g9)); (Exists.imp fun i16 => (mf_and fun e14 => (mf_and fun _ => (Exists.imp fun M18 => (mf_and fun e16 => (have g17 : Ow w D T _ M0 M18 := Ow.of e16 (Ow.wI o13 (Ow.wI o11 g9)); (Exists.imp fun i19 => (mf_and fun e18 => (have o19 : ow w D 5 i19 := (Ow.rh e18 rfl n0 g17); (hQ _ _  (Ow.dn lQ (Ow.wI o19 g17))))))))))))))))))))) g7.1)) (mo_w_Checker_check_j133 hD  lQ hQ (fun _ e => e) (fun y0 y1 y2  hf => mo_w_Checker_check_L20 hD n0 lQ hQ n y0 y1 y2  hf) hf))))))))))))
set_option maxRecDepth 20000 in
theorem mo_w_Checker_check {w : Nat} {D : Nat → Nat → Prop} {T : Nat → Prop} {h : Hot} {this : Nat} {a1 : Nat} {a2 : Int32} {Q Q' : Int32 → Mem → Prop} {M : Mem} (hD : Dok w D) (n0 : ow w D 5 a1) (hQ : ∀ z0 z1, Ow w D T h M z1 → Q z0 z1 → Q' z0 z1) : St w D T h M → w_Checker_check this a1 a2 Q M → w_Checker_check this a1 a2 Q' M := by
  intro hs
  unfold w_Checker_check
  exact (Exists.imp fun i1 => (mf_and fun e1 => (mf_and fun _ => (Exists.imp fun x3 => (mf_and fun _ => (Exists.imp fun n20 => (have g3 : Ow w D T _ M (sI (sR M 4 this 4 (some (5, a1))) 4 this 5 a2) := (Ow.wI (ow0 rfl) (Ow.wRh rfl (ow0 rfl) n0 (Ow.rf hs))); (mo_w_Checker_check_L20 hD up_s (leU (fun _ e => e)) hQ _ _ _ _  g3))))))))
set_option maxRecDepth 20000 in
theorem mo_wk_World_ask_j205 {w : Nat} {D : Nat → Nat → Prop} {T : Nat → Prop} {h : Hot} {K K' : Nat → Int32 → (Int32 → Mem → Prop) → Mem → Prop} {this : Nat} {Q Q' : Int32 → Mem → Prop} {h_Q : Hot} {v1 : Int32} {M : Mem} {M0 : Mem} (hD : Dok w D) (n0 : ow w D 47 this) (hK : ∀ {h' : Hot} {x0 : Nat} {x1 : Int32} {x3 : Mem} {q q' : Int32 → Mem → Prop}, ow w D 47 x0 → St w D T h' x3 → (∀ z0 z1, Ow w D T h' x3 z1 → q z0 z1 → q' z0 z1) → K x0 x1 q x3 → K' x0 x1 q' x3) (lQ : ∀ t, h_Q t = true → h t = true) (hQ : ∀ z0 z1, Ow w D T h_Q M0 z1 → Q z0 z1 → Q' z0 z1) : Ow w D T h M0 M → wk_World_ask_j205 K this Q v1 M → wk_World_ask_j205 K' this Q' v1 M := by
  intro hf
  unfold wk_World_ask_j205
  exact (mo_w_World_up hD  (fun r22 M21 f1 => (have g2 : Ow w D T _ M0 M21 := (Ow.trans hf f1); (mo_w_World_lay hD n0 (fun M23 f3 => (have g4 : Ow w D T _ M0 M23 := (Ow.trans g2 f3); (mo_w_Checker_check hD (ow.to n0 rfl rfl) (fun r25 M24 f5 => (have g6 : Ow w D T _ M0 M24 := (Ow.trans g4 f5); (hQ _ _  (Ow.dn lQ g6)))) g4.1))) g2.1))) hf.1)
set_option maxRecDepth 20000 in
theorem mo_wk_World_ask_L129 {w : Nat} {D : Nat → Nat → Prop} {T : Nat → Prop} {h : Hot} {K K' : Nat → Int32 → (Int32 → Mem → Prop) → Mem → Prop} {this : Nat} {Q Q' : Int32 → Mem → Prop} {h_Q : Hot} {M0 : Mem} (hD : Dok w D) (n0 : ow w D 47 this) (hK : ∀ {h' : Hot} {x0 : Nat} {x1 : Int32} {x3 : Mem} {q q' : Int32 → Mem → Prop}, ow w D 47 x0 → St w D T h' x3 → (∀ z0 z1, Ow w D T h' x3 z1 → q z0 z1 → q' z0 z1) → K x0 x1 q x3 → K' x0 x1 q' x3) (lQ : ∀ t, h_Q t = true → h t = true) (hQ : ∀ z0 z1, Ow w D T h_Q M0 z1 → Q z0 z1 → Q' z0 z1) : ∀ (n : Nat) (v1 : Int32) (v3 : Int32) (M : Mem), Ow w D T h M0 M → wk_World_ask_L129 K this Q n v1 v3 M → wk_World_ask_L129 K' this Q' n v1 v3 M
  | 0, _, _, _ => fun  _ h => h
  | n + 1, v1, v3, M => fun  hf => by
    unfold wk_World_ask_L129
    exact (mf_and fun _ => (mf_ite (mo_w_World_asks hD  (fun r19 M18 f1 => (have g2 : Ow w D T _ M0 M18 := (Ow.trans hf f1); (mf_ite (mo_wk_World_ask_j205 hD n0 @hK lQ hQ g2) (mo_w_World_up hD  (fun r27 M26 f3 => (have g4 : Ow w D T _ M0 M26 := (Ow.trans g2 f3); (mo_w_World_changesFinal hD  (fun r29 M28 f5 => (have g6 : Ow w D T _ M0 M28 := (Ow.trans g4 f5); (mf_ite (mo_wk_World_ask_j205 hD n0 @hK lQ hQ g6) (hQ _ _  (Ow.dn lQ g6))))) g4.1))) g2.1)))) hf.1) (mf_and fun _ => (mo_w_World_find hD  (fun r33 M32 f7 => (have g8 : Ow w D T _ M0 M32 := (Ow.trans hf f7); (hK n0 g8.1 (fun r35 M34 f9 => (have g10 : Ow w D T _ M0 M34 := (Ow.trans g8 f9); (mf_ite (mo_wk_World_ask_L129 hD n0 @hK lQ hQ _ _ _ _  g10) (mf_and fun _ => (hQ _ _  (Ow.dn lQ g10))))))))) hf.1))))
set_option maxRecDepth 20000 in
theorem mo_wk_World_ask_L57 {w : Nat} {D : Nat → Nat → Prop} {T : Nat → Prop} {h : Hot} {K K' : Nat → Int32 → (Int32 → Mem → Prop) → Mem → Prop} {this : Nat} {Q Q' : Int32 → Mem → Prop} {h_Q : Hot} {M0 : Mem} (hD : Dok w D) (n0 : ow w D 47 this) (hK : ∀ {h' : Hot} {x0 : Nat} {x1 : Int32} {x3 : Mem} {q q' : Int32 → Mem → Prop}, ow w D 47 x0 → St w D T h' x3 → (∀ z0 z1, Ow w D T h' x3 z1 → q z0 z1 → q' z0 z1) → K x0 x1 q x3 → K' x0 x1 q' x3) (lQ : ∀ t, h_Q t = true → h t = true) (hQ : ∀ z0 z1, Ow w D T h_Q M0 z1 → Q z0 z1 → Q' z0 z1) : ∀ (n : Nat) (v1 : Int32) (v2 : Int32) (v3 : Int32) (M : Mem), Ow w D T h M0 M → wk_World_ask_L57 K this Q n v1 v2 v3 M → wk_World_ask_L57 K' this Q' n v1 v2 v3 M
  | 0, _, _, _, _ => fun  _ h => h
  | n + 1, v1, v2, v3, M => fun  hf => by
    unfold wk_World_ask_L57
    exact (mf_and fun _ => (mf_ite (hK n0 hf.1 (fun r14 M13 f1 => (have g2 : Ow w D T _ M0 M13 := (Ow.trans hf f1); (mf_ite (Exists.imp fun n38 => (mo_wk_World_ask_L129 hD n0 @hK lQ hQ _ _ _ _  g2)) (mf_and fun _ => (hQ _ _  (Ow.dn lQ g2))))))) (mf_and fun _ => (mo_w_World_find hD  (fun r42 M41 f3 => (have g4 : Ow w D T _ M0 M41 := (Ow.trans hf f3); (mf_ite (mo_w_World_isFace hD  (fun r45 M44 f5 => (have g6 : Ow w D T _ M0 M44 := (Ow.trans g4 f5); (mf_ite (hQ _ _  (Ow.dn lQ g6)) (mo_wk_World_ask_L57 hD n0 @hK lQ hQ _ _ _ _ _  g6)))) g4.1) (hQ _ _  (Ow.dn lQ g4))))) hf.1))))
set_option maxRecDepth 20000 in
theorem mo_wk_World_ask_j55 {w : Nat} {D : Nat → Nat → Prop} {T : Nat → Prop} {h : Hot} {K K' : Nat → Int32 → (Int32 → Mem → Prop) → Mem → Prop} {this : Nat} {Q Q' : Int32 → Mem → Prop} {h_Q : Hot} {v1 : Int32} {v2 : Int32} {M : Mem} {M0 : Mem} (hD : Dok w D) (n0 : ow w D 47 this) (hK : ∀ {h' : Hot} {x0 : Nat} {x1 : Int32} {x3 : Mem} {q q' : Int32 → Mem → Prop}, ow w D 47 x0 → St w D T h' x3 → (∀ z0 z1, Ow w D T h' x3 z1 → q z0 z1 → q' z0 z1) → K x0 x1 q x3 → K' x0 x1 q' x3) (lQ : ∀ t, h_Q t = true → h t = true) (hQ : ∀ z0 z1, Ow w D T h_Q M0 z1 → Q z0 z1 → Q' z0 z1) : Ow w D T h M0 M → wk_World_ask_j55 K this Q v1 v2 M → wk_World_ask_j55 K' this Q' v1 v2 M := by
  intro hf
  unfold wk_World_ask_j55
  exact (Exists.imp fun n47 => (mo_wk_World_ask_L57 hD n0 @hK lQ hQ _ _ _ _ _  hf))
set_option maxRecDepth 20000 in
theorem mo_wk_World_ask {w : Nat} {D : Nat → Nat → Prop} {T : Nat → Prop} {h : Hot} {K K' : Nat → Int32 → (Int32 → Mem → Prop) → Mem → Prop} {this : Nat} {a1 : Int32} {Q Q' : Int32 → Mem → Prop} {M : Mem} (hD : Dok w D) (n0 : ow w D 47 this) (hK : ∀ {h' : Hot} {x0 : Nat} {x1 : Int32} {x3 : Mem} {q q' : Int32 → Mem → Prop}, ow w D 47 x0 → St w D T h' x3 → (∀ z0 z1, Ow w D T h' x3 z1 → q z0 z1 → q' z0 z1) → K x0 x1 q x3 → K' x0 x1 q' x3) (hQ : ∀ z0 z1, Ow w D T h M z1 → Q z0 z1 → Q' z0 z1) : St w D T h M → wk_World_ask K this a1 Q M → wk_World_ask K' this a1 Q' M := by
  intro hs
  unfold wk_World_ask
  exact (mo_w_World_comesBack hD  (fun r2 M1 f1 => (have g2 : Ow w D T _ M M1 := (Ow.trans (Ow.rf hs) f1); (mf_ite (mf_and fun _ => (mo_w_World_find hD  (fun r6 M5 f3 => (have g4 : Ow w D T _ M M5 := (Ow.trans g2 f3); (mf_ite (mo_w_World_asks hD  (fun r9 M8 f5 => (have g6 : Ow w D T _ M M8 := (Ow.trans g4 f5); (mf_ite (mo_wk_World_ask_j55 hD n0 @hK (fun _ e => e) hQ g6) (mf_and fun _ => (mf_ite (mo_wk_World_ask_j55 hD n0 @hK (fun _ e => e) hQ g6) (hQ _ _  g6)))))) g4.1) (hQ _ _  g4)))) g2.1)) (hQ _ _  g2)))) (Ow.rf hs).1)
set_option maxRecDepth 20000 in
theorem mo_wk_World_link {w : Nat} {D : Nat → Nat → Prop} {T : Nat → Prop} {h : Hot} {K K' : Nat → Int32 → (Int32 → Mem → Prop) → Mem → Prop} {this : Nat} {a1 : Int32} {Q Q' : Int32 → Mem → Prop} {M : Mem} (hD : Dok w D) (n0 : ow w D 47 this) (hK : ∀ {h' : Hot} {x0 : Nat} {x1 : Int32} {x3 : Mem} {q q' : Int32 → Mem → Prop}, ow w D 47 x0 → St w D T h' x3 → (∀ z0 z1, Ow w D T h' x3 z1 → q z0 z1 → q' z0 z1) → K x0 x1 q x3 → K' x0 x1 q' x3) (hQ : ∀ z0 z1, Ow w D T h M z1 → Q z0 z1 → Q' z0 z1) : St w D T h M → wk_World_link K this a1 Q M → wk_World_link K' this a1 Q' M := by
  intro hs
  unfold wk_World_link
  exact (mf_and fun _ => (mf_ite (mo_wk_World_ask hD n0 @hK (fun r4 M3 f1 => (have g2 : Ow w D T _ M M3 := (Ow.trans (Ow.rf hs) f1); (mf_and fun _ => (mf_and fun _ => (hQ _ _  (Ow.wI (ow.to n0 rfl rfl) g2)))))) (Ow.rf hs).1) (mf_and fun _ => (hQ _ _  (Ow.rf hs)))))
set_option maxRecDepth 20000 in
theorem mo_wr_World_link {w : Nat} {D : Nat → Nat → Prop} {T : Nat → Prop} (hD : Dok w D) : ∀ (n : Nat) {h : Hot} {x0 : Nat} {x1 : Int32} {x3 : Mem} {Q Q' : Int32 → Mem → Prop}, ow w D 47 x0 → St w D T h x3 → (∀ z0 z1, Ow w D T h x3 z1 → Q z0 z1 → Q' z0 z1) → wr_World_link n x0 x1 Q x3 → wr_World_link n x0 x1 Q' x3
  | 0 => fun _ _ _ h => h
  | n + 1 => fun n0 hs hq => mo_wk_World_link hD n0 (fun u0 hs hq => mo_wr_World_link hD n u0 hs hq) hq hs
set_option maxRecDepth 20000 in
theorem mo_w_World_link {w : Nat} {D : Nat → Nat → Prop} {T : Nat → Prop} {h : Hot} {this : Nat} {a1 : Int32} {Q Q' : Int32 → Mem → Prop} {M : Mem} (hD : Dok w D) (n0 : ow w D 47 this) (hQ : ∀ z0 z1, Ow w D T h M z1 → Q z0 z1 → Q' z0 z1) : St w D T h M → w_World_link this a1 Q M → w_World_link this a1 Q' M := by
  intro hs
  unfold w_World_link
  exact (Exists.imp fun n => (mf_and fun _ => (mo_wr_World_link hD _ n0 (Ow.rf hs).1 (fun z2 z3 f1 => hQ z2 z3 (Ow.trans (Ow.rf hs) f1)))))
set_option maxRecDepth 20000 in
theorem mo_w_Machine_linkedClass {w : Nat} {D : Nat → Nat → Prop} {T : Nat → Prop} {h : Hot} {this : Nat} {a1 : Int32} {Q Q' : Int32 → Mem → Prop} {M : Mem} (hD : Dok w D) (n0 : ow w D 47 this) (hQ : ∀ z0 z1, Ow w D T h M z1 → Q z0 z1 → Q' z0 z1) : St w D T h M → w_Machine_linkedClass this a1 Q M → w_Machine_linkedClass this a1 Q' M := by
  intro hs
  unfold w_Machine_linkedClass
  exact (mo_w_Machine_findClass hD  (fun r2 M1 f1 => (have g2 : Ow w D T _ M M1 := (Ow.trans (Ow.rf hs) f1); (mf_ite (mo_w_World_link hD n0 (fun r5 M4 f3 => (have g4 : Ow w D T _ M M4 := (Ow.trans g2 f3); (mf_ite (hQ _ _  g4) (hQ _ _  g4)))) g2.1) (hQ _ _  g2)))) (Ow.rf hs).1)
set_option maxRecDepth 20000 in
theorem mo_w_World_typesOf {w : Nat} {D : Nat → Nat → Prop} {T : Nat → Prop} {h : Hot} {this : Nat} {a1 : Int32} {Q Q' : Int32 → Mem → Prop} {M : Mem} (hD : Dok w D)  (hQ : ∀ z0 z1, Ow w D T h M z1 → Q z0 z1 → Q' z0 z1) : St w D T h M → w_World_typesOf this a1 Q M → w_World_typesOf this a1 Q' M := by
  intro hs
  unfold w_World_typesOf
  exact (hQ _ _  (Ow.rf hs))
set_option maxRecDepth 20000 in
theorem mo_w_World_isLike {w : Nat} {D : Nat → Nat → Prop} {T : Nat → Prop} {h : Hot} {this : Nat} {a1 : Int32} {a2 : Int32} {Q Q' : Int32 → Mem → Prop} {M : Mem} (hD : Dok w D)  (hQ : ∀ z0 z1, Ow w D T h M z1 → Q z0 z1 → Q' z0 z1) : St w D T h M → w_World_isLike this a1 a2 Q M → w_World_isLike this a1 a2 Q' M := by
  intro hs
  unfold w_World_isLike
  exact (mf_and fun _ => (mo_w_World_refName hD  (fun r3 M2 f1 => (have g2 : Ow w D T _ M M2 := (Ow.trans (Ow.rf hs) f1); (mf_ite (mf_and fun _ => (mo_w_World_refType hD  (fun r7 M6 f3 => (have g4 : Ow w D T _ M M6 := (Ow.trans g2 f3); (mf_ite (mo_w_World_typesOf hD  (fun r10 M9 f5 => (have g6 : Ow w D T _ M M9 := (Ow.trans g4 f5); (mo_w_World_refArguments hD  (fun r12 M11 f7 => (have g8 : Ow w D T _ M M11 := (Ow.trans g6 f7); (mo_w_World_sameArguments hD  (fun r14 M13 f9 => (have g10 : Ow w D T _ M M13 := (Ow.trans g8 f9); (mf_ite (hQ _ _  g10) (hQ _ _  g10)))) g8.1))) g6.1))) g4.1) (hQ _ _  g4)))) g2.1)) (hQ _ _  g2)))) (Ow.rf hs).1))
set_option maxRecDepth 20000 in
theorem mo_w_World_ownLike_j51 {w : Nat} {D : Nat → Nat → Prop} {T : Nat → Prop} {h : Hot} {this : Nat} {Q Q' : Int32 → Mem → Prop} {h_Q : Hot} {k8 k8' : Int32 → Int32 → Int32 → Int32 → Mem → Prop} {h_k8 : Hot} {v1 : Int32} {v2 : Int32} {v3 : Int32} {v4 : Int32} {M : Mem} {M0 : Mem} (hD : Dok w D)  (lQ : ∀ t, h_Q t = true → h t = true) (hQ : ∀ z0 z1, Ow w D T h_Q M0 z1 → Q z0 z1 → Q' z0 z1) (lk8 : ∀ t, h_k8 t = true → h t = true) (hk8 : ∀ z0 z1 z2 z3 z4, Ow w D T h_k8 M0 z4 → k8 z0 z1 z2 z3 z4 → k8' z0 z1 z2 z3 z4) : Ow w D T h M0 M → w_World_ownLike_j51 this Q k8 v1 v2 v3 v4 M → w_World_ownLike_j51 this Q' k8' v1 v2 v3 v4 M := by
  intro hf
  unfold w_World_ownLike_j51
  exact (hk8 _ _ _ _ _  (Ow.dn lk8 hf))
set_option maxRecDepth 20000 in
theorem mo_w_World_ownLike_L8 {w : Nat} {D : Nat → Nat → Prop} {T : Nat → Prop} {h : Hot} {this : Nat} {Q Q' : Int32 → Mem → Prop} {h_Q : Hot} {M0 : Mem} (hD : Dok w D)  (lQ : ∀ t, h_Q t = true → h t = true) (hQ : ∀ z0 z1, Ow w D T h_Q M0 z1 → Q z0 z1 → Q' z0 z1) : ∀ (n : Nat) (v1 : Int32) (v2 : Int32) (v3 : Int32) (v4 : Int32) (M : Mem), Ow w D T h M0 M → w_World_ownLike_L8 this Q n v1 v2 v3 v4 M → w_World_ownLike_L8 this Q' n v1 v2 v3 v4 M
  | 0, _, _, _, _, _ => fun  _ h => h
  | n + 1, v1, v2, v3, v4, M => fun  hf => by
    unfold w_World_ownLike_L8
    exact (mf_and fun _ => (mf_and fun _ => (mf_ite (hQ _ _  (Ow.dn lQ hf)) (mo_w_World_isLike hD  (fun r6 M5 f1 => (have g2 : Ow w D T _ M0 M5 := (Ow.trans hf f1); (mf_ite (mo_w_World_ownLike_j51 hD  lQ hQ (fun _ e => e) (fun y0 y1 y2 y3 y4  hf => mo_w_World_ownLike_L8 hD  lQ hQ n y0 y1 y2 y3 y4  hf) g2) (mf_and fun _ => (mf_ite (hQ _ _  (Ow.dn lQ g2)) (mo_w_World_ownLike_j51 hD  lQ hQ (fun _ e => e) (fun y0 y1 y2 y3 y4  hf => mo_w_World_ownLike_L8 hD  lQ hQ n y0 y1 y2 y3 y4  hf) g2)))))) hf.1))))
set_option maxRecDepth 20000 in
theorem mo_w_World_ownLike {w : Nat} {D : Nat → Nat → Prop} {T : Nat → Prop} {h : Hot} {this : Nat} {a1 : Int32} {a2 : Int32} {a3 : Int32} {Q Q' : Int32 → Mem → Prop} {M : Mem} (hD : Dok w D)  (hQ : ∀ z0 z1, Ow w D T h M z1 → Q z0 z1 → Q' z0 z1) : St w D T h M → w_World_ownLike this a1 a2 a3 Q M → w_World_ownLike this a1 a2 a3 Q' M := by
  intro hs
  unfold w_World_ownLike
  exact (mf_and fun _ => (Exists.imp fun n10 => (mo_w_World_ownLike_L8 hD  (fun _ e => e) hQ _ _ _ _ _ _  (Ow.rf hs))))
set_option maxRecDepth 20000 in
theorem mo_w_World_nextStamp {w : Nat} {D : Nat → Nat → Prop} {T : Nat → Prop} {h : Hot} {this : Nat} {Q Q' : Mem → Prop} {M : Mem} (hD : Dok w D) (n0 : ow w D 5 this) (hQ : ∀ z0, Ow w D T h M z0 → Q z0 → Q' z0) : St w D T h M → w_World_nextStamp this Q M → w_World_nextStamp this Q' M := by
  intro hs
  unfold w_World_nextStamp
  exact (mf_ite (mf_and fun _ => (Exists.imp fun M2 => (mf_and fun e1 => (have g2 : Ow w D T _ M M2 := Ow.of e1 (Ow.wfl (ow.to n0 rfl rfl) (Ow.wI n0 (Ow.rf hs))); (hQ _  (Ow.wI n0 g2)))))) (hQ _  (Ow.wI n0 (Ow.rf hs))))
set_option maxRecDepth 20000 in
theorem mo_wk_World_lookInFaces_j123 {w : Nat} {D : Nat → Nat → Prop} {T : Nat → Prop} {h : Hot} {K K' : Nat → Int32 → Int32 → Int32 → (Mem → Prop) → Mem → Prop} {this : Nat} {Q Q' : Mem → Prop} {h_Q : Hot} {k3 k3' : Int32 → Int32 → Int32 → Int32 → Mem → Prop} {h_k3 : Hot} {v1 : Int32} {v2 : Int32} {v3 : Int32} {v4 : Int32} {M : Mem} {M0 : Mem} (hD : Dok w D)  (hK : ∀ {h' : Hot} {x0 : Nat} {x1 : Int32} {x2 : Int32} {x3 : Int32} {x5 : Mem} {q q' : Mem → Prop}, ow w D 77 x0 → St w D T h' x5 → (∀ z0, Ow w D T h' x5 z0 → q z0 → q' z0) → K x0 x1 x2 x3 q x5 → K' x0 x1 x2 x3 q' x5) (lQ : ∀ t, h_Q t = true → h t = true) (hQ : ∀ z0, Ow w D T h_Q M0 z0 → Q z0 → Q' z0) (lk3 : ∀ t, h_k3 t = true → h t = true) (hk3 : ∀ z0 z1 z2 z3 z4, Ow w D T h_k3 M0 z4 → k3 z0 z1 z2 z3 z4 → k3' z0 z1 z2 z3 z4) : Ow w D T h M0 M → wk_World_lookInFaces_j123 K this Q k3 v1 v2 v3 v4 M → wk_World_lookInFaces_j123 K' this Q' k3' v1 v2 v3 v4 M := by
  intro hf
  unfold wk_World_lookInFaces_j123
  exact (hk3 _ _ _ _ _  (Ow.dn lk3 hf))
set_option maxRecDepth 20000 in
theorem mo_wk_World_lookInFaces_j115 {w : Nat} {D : Nat → Nat → Prop} {T : Nat → Prop} {h : Hot} {K K' : Nat → Int32 → Int32 → Int32 → (Mem → Prop) → Mem → Prop} {this : Nat} {Q Q' : Mem → Prop} {h_Q : Hot} {k3 k3' : Int32 → Int32 → Int32 → Int32 → Mem → Prop} {h_k3 : Hot} {v1 : Int32} {v2 : Int32} {v3 : Int32} {v4 : Int32} {v5 : Int32} {M : Mem} {M0 : Mem} (hD : Dok w D) (n0 : ow w D 77 this) (hK : ∀ {h' : Hot} {x0 : Nat} {x1 : Int32} {x2 : Int32} {x3 : Int32} {x5 : Mem} {q q' : Mem → Prop}, ow w D 77 x0 → St w D T h' x5 → (∀ z0, Ow w D T h' x5 z0 → q z0 → q' z0) → K x0 x1 x2 x3 q x5 → K' x0 x1 x2 x3 q' x5) (lQ : ∀ t, h_Q t = true → h t = true) (hQ : ∀ z0, Ow w D T h_Q M0 z0 → Q z0 → Q' z0) (lk3 : ∀ t, h_k3 t = true → h t = true) (hk3 : ∀ z0 z1 z2 z3 z4, Ow w D T h_k3 M0 z4 → k3 z0 z1 z2 z3 z4 → k3' z0 z1 z2 z3 z4) : Ow w D T h M0 M → wk_World_lookInFaces_j115 K this Q k3 v1 v2 v3 v4 v5 M → wk_World_lookInFaces_j115 K' this Q' k3' v1 v2 v3 v4 v5 M := by
  intro hf
  unfold wk_World_lookInFaces_j115
  exact (hK n0 hf.1 (fun M12 f1 => (have g2 : Ow w D T _ M0 M12 := (Ow.trans hf f1); (mo_wk_World_lookInFaces_j123 hD  @hK lQ hQ lk3 hk3 g2))))
set_option maxRecDepth 20000 in
theorem mo_wk_World_lookInFaces_j109 {w : Nat} {D : Nat → Nat → Prop} {T : Nat → Prop} {h : Hot} {K K' : Nat → Int32 → Int32 → Int32 → (Mem → Prop) → Mem → Prop} {this : Nat} {Q Q' : Mem → Prop} {h_Q : Hot} {k3 k3' : Int32 → Int32 → Int32 → Int32 → Mem → Prop} {h_k3 : Hot} {v1 : Int32} {v2 : Int32} {v3 : Int32} {v4 : Int32} {v5 : Int32} {v6 : Int32} {M : Mem} {M0 : Mem} (hD : Dok w D) (n0 : ow w D 5 this) (hK : ∀ {h' : Hot} {x0 : Nat} {x1 : Int32} {x2 : Int32} {x3 : Int32} {x5 : Mem} {q q' : Mem → Prop}, ow w D 77 x0 → St w D T h' x5 → (∀ z0, Ow w D T h' x5 z0 → q z0 → q' z0) → K x0 x1 x2 x3 q x5 → K' x0 x1 x2 x3 q' x5) (lQ : ∀ t, h_Q t = true → h t = true) (hQ : ∀ z0, Ow w D T h_Q M0 z0 → Q z0 → Q' z0) (lk3 : ∀ t, h_k3 t = true → h t = true) (hk3 : ∀ z0 z1 z2 z3 z4, Ow w D T h_k3 M0 z4 → k3 z0 z1 z2 z3 z4 → k3' z0 z1 z2 z3 z4) : Ow w D T h M0 M → wk_World_lookInFaces_j109 K this Q k3 v1 v2 v3 v4 v5 v6 M → wk_World_lookInFaces_j109 K' this Q' k3' v1 v2 v3 v4 v5 v6 M := by
  intro hf
  unfold wk_World_lookInFaces_j109
  exact (have g1 : Ow w D T _ M0 (sI M 5 this 62 v6) := (Ow.wI n0 hf); (mo_wk_World_lookInFaces_j115 hD (ow.to n0 rfl rfl) @hK lQ hQ lk3 hk3 g1))
set_option maxRecDepth 20000 in
theorem mo_wk_World_lookInFaces_L3 {w : Nat} {D : Nat → Nat → Prop} {T : Nat → Prop} {h : Hot} {K K' : Nat → Int32 → Int32 → Int32 → (Mem → Prop) → Mem → Prop} {this : Nat} {Q Q' : Mem → Prop} {h_Q : Hot} {M0 : Mem} (hD : Dok w D) (n0 : ow w D 77 this) (hK : ∀ {h' : Hot} {x0 : Nat} {x1 : Int32} {x2 : Int32} {x3 : Int32} {x5 : Mem} {q q' : Mem → Prop}, ow w D 77 x0 → St w D T h' x5 → (∀ z0, Ow w D T h' x5 z0 → q z0 → q' z0) → K x0 x1 x2 x3 q x5 → K' x0 x1 x2 x3 q' x5) (lQ : ∀ t, h_Q t = true → h t = true) (hQ : ∀ z0, Ow w D T h_Q M0 z0 → Q z0 → Q' z0) : ∀ (n : Nat) (v1 : Int32) (v2 : Int32) (v3 : Int32) (v4 : Int32) (M : Mem), Ow w D T h M0 M → wk_World_lookInFaces_L3 K this Q n v1 v2 v3 v4 M → wk_World_lookInFaces_L3 K' this Q' n v1 v2 v3 v4 M
  | 0, _, _, _, _, _ => fun  _ h => h
  | n + 1, v1, v2, v3, v4, M => fun  hf => by
    unfold wk_World_lookInFaces_L3
    exact (mf_and fun _ => (mf_ite (hQ _  (Ow.dn lQ hf)) (mf_and fun _ => (mo_w_World_find hD  (fun r5 M4 f1 => (have g2 : Ow w D T _ M0 M4 := (Ow.trans hf f1); (mf_and fun _ => (mf_ite (mo_wk_World_lookInFaces_j123 hD  @hK lQ hQ (fun _ e => e) (fun y0 y1 y2 y3 y4  hf => mo_wk_World_lookInFaces_L3 hD n0 @hK lQ hQ n y0 y1 y2 y3 y4  hf) g2) (mf_and fun _ => (have g3 : Ow w D T _ M0 (sI M4 77 this r5.toNatClampNeg (mI M4 5 this 61)) := (Ow.wI n0 g2); (mo_w_World_ownLike hD  (fun r10 M9 f4 => (have g5 : Ow w D T _ M0 M9 := (Ow.trans g3 f4); (mf_ite (mo_wk_World_lookInFaces_j115 hD n0 @hK lQ hQ (fun _ e => e) (fun y0 y1 y2 y3 y4  hf => mo_wk_World_lookInFaces_L3 hD n0 @hK lQ hQ n y0 y1 y2 y3 y4  hf) g5) (mf_ite (mo_wk_World_lookInFaces_j109 hD (ow.to n0 rfl rfl) @hK lQ hQ (fun _ e => e) (fun y0 y1 y2 y3 y4  hf => mo_wk_World_lookInFaces_L3 hD n0 @hK lQ hQ n y0 y1 y2 y3 y4  hf) g5) (mf_and fun _ => (mf_ite (mo_wk_World_lookInFaces_j115 hD n0 @hK lQ hQ (fun _ e => e) (fun y0 y1 y2 y3 y4  hf => mo_wk_World_lookInFaces_L3 hD n0 @hK lQ hQ n y0 y1 y2 y3 y4  hf) g5) (mf_and fun _ => (mf_ite (mo_wk_World_lookInFaces_j109 hD (ow.to n0 rfl rfl) @hK lQ hQ (fun _ e => e) (fun y0 y1 y2 y3 y4  hf => mo_wk_World_lookInFaces_L3 hD n0 @hK lQ hQ n y0 y1 y2 y3 y4  hf) g5) (mo_wk_World_lookInFaces_j115 hD n0 @hK lQ hQ (fun _ e => e) (fun y0 y1 y2 y3 y4  hf => mo_wk_World_lookInFaces_L3 hD n0 @hK lQ hQ n y0 y1 y2 y3 y4  hf) g5))))))))) g3.1))))))) hf.1))))
set_option maxRecDepth 20000 in
theorem mo_wk_World_lookInFaces {w : Nat} {D : Nat → Nat → Prop} {T : Nat → Prop} {h : Hot} {K K' : Nat → Int32 → Int32 → Int32 → (Mem → Prop) → Mem → Prop} {this : Nat} {a1 : Int32} {a2 : Int32} {a3 : Int32} {Q Q' : Mem → Prop} {M : Mem} (hD : Dok w D) (n0 : ow w D 77 this) (hK : ∀ {h' : Hot} {x0 : Nat} {x1 : Int32} {x2 : Int32} {x3 : Int32} {x5 : Mem} {q q' : Mem → Prop}, ow w D 77 x0 → St w D T h' x5 → (∀ z0, Ow w D T h' x5 z0 → q z0 → q' z0) → K x0 x1 x2 x3 q x5 → K' x0 x1 x2 x3 q' x5) (hQ : ∀ z0, Ow w D T h M z0 → Q z0 → Q' z0) : St w D T h M → wk_World_lookInFaces K this a1 a2 a3 Q M → wk_World_lookInFaces K' this a1 a2 a3 Q' M := by
  intro hs
  unfold wk_World_lookInFaces
  exact (Exists.imp fun n18 => (mo_wk_World_lookInFaces_L3 hD n0 @hK (fun _ e => e) hQ _ _ _ _ _ _  (Ow.rf hs)))
set_option maxRecDepth 20000 in
theorem mo_wr_World_lookInFaces {w : Nat} {D : Nat → Nat → Prop} {T : Nat → Prop} (hD : Dok w D) : ∀ (n : Nat) {h : Hot} {x0 : Nat} {x1 : Int32} {x2 : Int32} {x3 : Int32} {x5 : Mem} {Q Q' : Mem → Prop}, ow w D 77 x0 → St w D T h x5 → (∀ z0, Ow w D T h x5 z0 → Q z0 → Q' z0) → wr_World_lookInFaces n x0 x1 x2 x3 Q x5 → wr_World_lookInFaces n x0 x1 x2 x3 Q' x5
  | 0 => fun _ _ _ h => h
  | n + 1 => fun n0 hs hq => mo_wk_World_lookInFaces hD n0 (fun u0 hs hq => mo_wr_World_lookInFaces hD n u0 hs hq) hq hs
set_option maxRecDepth 20000 in
theorem mo_w_World_lookInFaces {w : Nat} {D : Nat → Nat → Prop} {T : Nat → Prop} {h : Hot} {this : Nat} {a1 : Int32} {a2 : Int32} {a3 : Int32} {Q Q' : Mem → Prop} {M : Mem} (hD : Dok w D) (n0 : ow w D 77 this) (hQ : ∀ z0, Ow w D T h M z0 → Q z0 → Q' z0) : St w D T h M → w_World_lookInFaces this a1 a2 a3 Q M → w_World_lookInFaces this a1 a2 a3 Q' M := by
  intro hs
  unfold w_World_lookInFaces
  exact (Exists.imp fun n => (mf_and fun _ => (mo_wr_World_lookInFaces hD _ n0 (Ow.rf hs).1 (fun z2 f1 => hQ z2 (Ow.trans (Ow.rf hs) f1)))))
set_option maxRecDepth 20000 in
theorem mo_w_World_method_L50 {w : Nat} {D : Nat → Nat → Prop} {T : Nat → Prop} {h : Hot} {this : Nat} {Q Q' : Int32 → Mem → Prop} {h_Q : Hot} {M0 : Mem} (hD : Dok w D) (n0 : ow w D 77 this) (lQ : ∀ t, h_Q t = true → h t = true) (hQ : ∀ z0 z1, Ow w D T h_Q M0 z1 → Q z0 z1 → Q' z0 z1) : ∀ (n : Nat) (v2 : Int32) (v3 : Int32) (v4 : Int32) (M : Mem), Ow w D T h M0 M → w_World_method_L50 this Q n v2 v3 v4 M → w_World_method_L50 this Q' n v2 v3 v4 M
  | 0, _, _, _, _ => fun  _ h => h
  | n + 1, v2, v3, v4, M => fun  hf => by
    unfold w_World_method_L50
    exact (mf_ite (hQ _ _  (Ow.dn lQ hf)) (mo_w_World_lookInFaces hD n0 (fun M4 f1 => (have g2 : Ow w D T _ M0 M4 := (Ow.trans hf f1); (mo_w_World_up hD  (fun r6 M5 f3 => (have g4 : Ow w D T _ M0 M5 := (Ow.trans g2 f3); (mo_w_World_method_L50 hD n0 lQ hQ _ _ _ _ _  g4))) g2.1))) hf.1))
set_option maxRecDepth 20000 in
theorem mo_w_World_method_L3 {w : Nat} {D : Nat → Nat → Prop} {T : Nat → Prop} {h : Hot} {this : Nat} {Q Q' : Int32 → Mem → Prop} {h_Q : Hot} {M0 : Mem} (hD : Dok w D) (n0 : ow w D 5 this) (lQ : ∀ t, h_Q t = true → h t = true) (hQ : ∀ z0 z1, Ow w D T h_Q M0 z1 → Q z0 z1 → Q' z0 z1) : ∀ (n : Nat) (v1 : Int32) (v2 : Int32) (v3 : Int32) (v4 : Int32) (M : Mem), Ow w D T h M0 M → w_World_method_L3 this Q n v1 v2 v3 v4 M → w_World_method_L3 this Q' n v1 v2 v3 v4 M
  | 0, _, _, _, _, _ => fun  _ h => h
  | n + 1, v1, v2, v3, v4, M => fun  hf => by
    unfold w_World_method_L3
    exact (mf_ite (have g1 : Ow w D T _ M0 (sI M 5 this 62 (-2 : Int32)) := (Ow.wI n0 hf); (mo_w_World_nextStamp hD n0 (fun M2 f2 => (have g3 : Ow w D T _ M0 M2 := (Ow.trans g1 f2); (Exists.imp fun n7 => (mo_w_World_method_L50 hD (ow.to n0 rfl rfl) lQ hQ _ _ _ _ _  g3)))) g1.1)) (mo_w_World_ownLike hD  (fun r9 M8 f4 => (have g5 : Ow w D T _ M0 M8 := (Ow.trans hf f4); (mf_ite (mo_w_World_up hD  (fun r12 M11 f6 => (have g7 : Ow w D T _ M0 M11 := (Ow.trans g5 f6); (mo_w_World_method_L3 hD n0 lQ hQ _ _ _ _ _ _  g7))) g5.1) (hQ _ _  (Ow.dn lQ g5))))) hf.1))
set_option maxRecDepth 20000 in
theorem mo_w_World_method {w : Nat} {D : Nat → Nat → Prop} {T : Nat → Prop} {h : Hot} {this : Nat} {a1 : Int32} {a2 : Int32} {a3 : Int32} {Q Q' : Int32 → Mem → Prop} {M : Mem} (hD : Dok w D) (n0 : ow w D 5 this) (hQ : ∀ z0 z1, Ow w D T h M z1 → Q z0 z1 → Q' z0 z1) : St w D T h M → w_World_method this a1 a2 a3 Q M → w_World_method this a1 a2 a3 Q' M := by
  intro hs
  unfold w_World_method
  exact (Exists.imp fun n13 => (mo_w_World_method_L3 hD n0 (fun _ e => e) hQ _ _ _ _ _ _  (Ow.rf hs)))
set_option maxRecDepth 20000 in
theorem mo_w_Machine_findMethod_j58 {w : Nat} {D : Nat → Nat → Prop} {T : Nat → Prop} {h : Hot} {this : Nat} {Q Q' : Int32 → Mem → Prop} {h_Q : Hot} {M : Mem} {M0 : Mem} (hD : Dok w D)  (lQ : ∀ t, h_Q t = true → h t = true) (hQ : ∀ z0 z1, Ow w D T h_Q M0 z1 → Q z0 z1 → Q' z0 z1) : Ow w D T h M0 M → w_Machine_findMethod_j58 this Q M → w_Machine_findMethod_j58 this Q' M := by
  intro hf
  unfold w_Machine_findMethod_j58
  exact (mo_w_Machine_thrown hD  (fun r15 M14 f1 => (have g2 : Ow w D T _ M0 M14 := (Ow.trans hf f1); (hQ _ _  (Ow.dn lQ g2)))) hf.1)
set_option maxRecDepth 20000 in
theorem mo_w_Machine_findMethod_j252 {w : Nat} {D : Nat → Nat → Prop} {T : Nat → Prop} {h : Hot} {this : Nat} {Q Q' : Int32 → Mem → Prop} {h_Q : Hot} {v5 : Int32} {v6 : Int32} {s0 : Int32} {M : Mem} {M0 : Mem} (hD : Dok w D)  (lQ : ∀ t, h_Q t = true → h t = true) (hQ : ∀ z0 z1, Ow w D T h_Q M0 z1 → Q z0 z1 → Q' z0 z1) : Ow w D T h M0 M → w_Machine_findMethod_j252 this Q v5 v6 s0 M → w_Machine_findMethod_j252 this Q' v5 v6 s0 M := by
  intro hf
  unfold w_Machine_findMethod_j252
  exact (mf_ite (hQ _ _  (Ow.dn lQ hf)) (mf_ite (hQ _ _  (Ow.dn lQ hf)) (mo_w_Machine_thrown hD  (fun r31 M30 f1 => (have g2 : Ow w D T _ M0 M30 := (Ow.trans hf f1); (hQ _ _  (Ow.dn lQ g2)))) hf.1)))
set_option maxRecDepth 20000 in
theorem mo_w_Machine_findMethod_j247 {w : Nat} {D : Nat → Nat → Prop} {T : Nat → Prop} {h : Hot} {this : Nat} {Q Q' : Int32 → Mem → Prop} {h_Q : Hot} {v5 : Int32} {v6 : Int32} {M : Mem} {M0 : Mem} (hD : Dok w D)  (lQ : ∀ t, h_Q t = true → h t = true) (hQ : ∀ z0 z1, Ow w D T h_Q M0 z1 → Q z0 z1 → Q' z0 z1) : Ow w D T h M0 M → w_Machine_findMethod_j247 this Q v5 v6 M → w_Machine_findMethod_j247 this Q' v5 v6 M := by
  intro hf
  unfold w_Machine_findMethod_j247
  exact (mo_w_Machine_findMethod_j252 hD  lQ hQ hf)
set_option maxRecDepth 20000 in
theorem mo_w_Machine_findMethod_j216 {w : Nat} {D : Nat → Nat → Prop} {T : Nat → Prop} {h : Hot} {this : Nat} {Q Q' : Int32 → Mem → Prop} {h_Q : Hot} {v2 : Int32} {v5 : Int32} {v6 : Int32} {s0 : Int32} {s1 : Int32} {M : Mem} {M0 : Mem} (hD : Dok w D)  (lQ : ∀ t, h_Q t = true → h t = true) (hQ : ∀ z0 z1, Ow w D T h_Q M0 z1 → Q z0 z1 → Q' z0 z1) : Ow w D T h M0 M → w_Machine_findMethod_j216 this Q v2 v5 v6 s0 s1 M → w_Machine_findMethod_j216 this Q' v2 v5 v6 s0 s1 M := by
  intro hf
  unfold w_Machine_findMethod_j216
  exact (mf_ite (mf_ite (mo_w_Machine_findMethod_j247 hD  lQ hQ hf) (mf_ite (mo_w_Machine_findMethod_j247 hD  lQ hQ hf) (mf_ite (mo_w_Machine_findMethod_j252 hD  lQ hQ hf) (mo_w_Machine_findMethod_j247 hD  lQ hQ hf)))) (mo_w_Machine_thrown hD  (fun r35 M34 f1 => (have g2 : Ow w D T _ M0 M34 := (Ow.trans hf f1); (hQ _ _  (Ow.dn lQ g2)))) hf.1))
set_option maxRecDepth 20000 in
theorem mo_w_Machine_findMethod_j205 {w : Nat} {D : Nat → Nat → Prop} {T : Nat → Prop} {h : Hot} {this : Nat} {Q Q' : Int32 → Mem → Prop} {h_Q : Hot} {v2 : Int32} {v5 : Int32} {v6 : Int32} {s0 : Int32} {M : Mem} {M0 : Mem} (hD : Dok w D)  (lQ : ∀ t, h_Q t = true → h t = true) (hQ : ∀ z0 z1, Ow w D T h_Q M0 z1 → Q z0 z1 → Q' z0 z1) : Ow w D T h M0 M → w_Machine_findMethod_j205 this Q v2 v5 v6 s0 M → w_Machine_findMethod_j205 this Q' v2 v5 v6 s0 M := by
  intro hf
  unfold w_Machine_findMethod_j205
  exact (mf_ite (mo_w_Machine_findMethod_j216 hD  lQ hQ hf) (mo_w_Machine_findMethod_j216 hD  lQ hQ hf))
set_option maxRecDepth 20000 in
theorem mo_w_Machine_findMethod_j193 {w : Nat} {D : Nat → Nat → Prop} {T : Nat → Prop} {h : Hot} {this : Nat} {Q Q' : Int32 → Mem → Prop} {h_Q : Hot} {v2 : Int32} {v5 : Int32} {v6 : Int32} {M : Mem} {M0 : Mem} (hD : Dok w D)  (lQ : ∀ t, h_Q t = true → h t = true) (hQ : ∀ z0 z1, Ow w D T h_Q M0 z1 → Q z0 z1 → Q' z0 z1) : Ow w D T h M0 M → w_Machine_findMethod_j193 this Q v2 v5 v6 M → w_Machine_findMethod_j193 this Q' v2 v5 v6 M := by
  intro hf
  unfold w_Machine_findMethod_j193
  exact (mf_ite (mo_w_Machine_findMethod_j205 hD  lQ hQ hf) (mo_w_Machine_findMethod_j205 hD  lQ hQ hf))
set_option maxRecDepth 20000 in
theorem mo_w_Machine_findMethod_j172 {w : Nat} {D : Nat → Nat → Prop} {T : Nat → Prop} {h : Hot} {this : Nat} {Q Q' : Int32 → Mem → Prop} {h_Q : Hot} {v2 : Int32} {v5 : Int32} {v6 : Int32} {M : Mem} {M0 : Mem} (hD : Dok w D)  (lQ : ∀ t, h_Q t = true → h t = true) (hQ : ∀ z0 z1, Ow w D T h_Q M0 z1 → Q z0 z1 → Q' z0 z1) : Ow w D T h M0 M → w_Machine_findMethod_j172 this Q v2 v5 v6 M → w_Machine_findMethod_j172 this Q' v2 v5 v6 M := by
  intro hf
  unfold w_Machine_findMethod_j172
  exact (mo_w_World_asks hD  (fun r39 M38 f1 => (have g2 : Ow w D T _ M0 M38 := (Ow.trans hf f1); (mf_ite (mo_w_Machine_findMethod_j193 hD  lQ hQ g2) (mo_w_Machine_thrown hD  (fun r42 M41 f3 => (have g4 : Ow w D T _ M0 M41 := (Ow.trans g2 f3); (hQ _ _  (Ow.dn lQ g4)))) g2.1)))) hf.1)
set_option maxRecDepth 20000 in
theorem mo_w_Machine_findMethod_j105 {w : Nat} {D : Nat → Nat → Prop} {T : Nat → Prop} {h : Hot} {this : Nat} {Q Q' : Int32 → Mem → Prop} {h_Q : Hot} {v2 : Int32} {v3 : Int32} {s0 : Int32} {M : Mem} {M0 : Mem} (hD : Dok w D)  (lQ : ∀ t, h_Q t = true → h t = true) (hQ : ∀ z0 z1, Ow w D T h_Q M0 z1 → Q z0 z1 → Q' z0 z1) : Ow w D T h M0 M → w_Machine_findMethod_j105 this Q v2 v3 s0 M → w_Machine_findMethod_j105 this Q' v2 v3 s0 M := by
  intro hf
  unfold w_Machine_findMethod_j105
  exact (mf_ite (mf_and fun _ => (mf_ite (mo_w_Machine_findMethod_j193 hD  lQ hQ hf) (mf_ite (mo_w_Machine_findMethod_j193 hD  lQ hQ hf) (mf_ite (mo_w_Machine_findMethod_j172 hD  lQ hQ hf) (mf_and fun _ => (mf_and fun _ => (mf_ite (mo_w_Machine_findMethod_j193 hD  lQ hQ hf) (mo_w_Machine_findMethod_j172 hD  lQ hQ hf)))))))) (mo_w_Machine_thrown hD  (fun r47 M46 f1 => (have g2 : Ow w D T _ M0 M46 := (Ow.trans hf f1); (hQ _ _  (Ow.dn lQ g2)))) hf.1))
set_option maxRecDepth 20000 in
theorem mo_w_Machine_findMethod_j67 {w : Nat} {D : Nat → Nat → Prop} {T : Nat → Prop} {h : Hot} {this : Nat} {Q Q' : Int32 → Mem → Prop} {h_Q : Hot} {v1 : Int32} {v2 : Int32} {v3 : Int32} {v4 : Int32} {M : Mem} {M0 : Mem} (hD : Dok w D) (n0 : ow w D 5 this) (lQ : ∀ t, h_Q t = true → h t = true) (hQ : ∀ z0 z1, Ow w D T h_Q M0 z1 → Q z0 z1 → Q' z0 z1) : Ow w D T h M0 M → w_Machine_findMethod_j67 this Q v1 v2 v3 v4 M → w_Machine_findMethod_j67 this Q' v1 v2 v3 v4 M := by
  intro hf
  unfold w_Machine_findMethod_j67
  exact (mo_w_World_refName hD  (fun r17 M16 f1 => (have g2 : Ow w D T _ M0 M16 := (Ow.trans hf f1); (mf_ite (mo_w_World_ownLike hD  (fun r20 M19 f3 => (have g4 : Ow w D T _ M0 M19 := (Ow.trans g2 f3); (mo_w_Machine_findMethod_j105 hD  lQ hQ g4))) g2.1) (mo_w_World_method hD n0 (fun r49 M48 f5 => (have g6 : Ow w D T _ M0 M48 := (Ow.trans g2 f5); (mo_w_Machine_findMethod_j105 hD  lQ hQ g6))) g2.1)))) hf.1)
set_option maxRecDepth 20000 in
theorem mo_w_Machine_findMethod_j40 {w : Nat} {D : Nat → Nat → Prop} {T : Nat → Prop} {h : Hot} {this : Nat} {Q Q' : Int32 → Mem → Prop} {h_Q : Hot} {v1 : Int32} {v2 : Int32} {v3 : Int32} {v4 : Int32} {M : Mem} {M0 : Mem} (hD : Dok w D) (n0 : ow w D 5 this) (lQ : ∀ t, h_Q t = true → h t = true) (hQ : ∀ z0 z1, Ow w D T h_Q M0 z1 → Q z0 z1 → Q' z0 z1) : Ow w D T h M0 M → w_Machine_findMethod_j40 this Q v1 v2 v3 v4 M → w_Machine_findMethod_j40 this Q' v1 v2 v3 v4 M := by
  intro hf
  unfold w_Machine_findMethod_j40
  exact (mf_ite (mo_w_World_isFace hD  (fun r12 M11 f1 => (have g2 : Ow w D T _ M0 M11 := (Ow.trans hf f1); (mf_ite (mo_w_Machine_findMethod_j58 hD  lQ hQ g2) (mo_w_Machine_findMethod_j67 hD n0 lQ hQ g2)))) hf.1) (mo_w_Machine_findMethod_j67 hD n0 lQ hQ hf))
set_option maxRecDepth 20000 in
theorem mo_w_Machine_findMethod {w : Nat} {D : Nat → Nat → Prop} {T : Nat → Prop} {h : Hot} {this : Nat} {a1 : Int32} {a2 : Int32} {a3 : Int32} {Q Q' : Int32 → Mem → Prop} {M : Mem} (hD : Dok w D) (n0 : ow w D 47 this) (hQ : ∀ z0 z1, Ow w D T h M z1 → Q z0 z1 → Q' z0 z1) : St w D T h M → w_Machine_findMethod this a1 a2 a3 Q M → w_Machine_findMethod this a1 a2 a3 Q' M := by
  intro hs
  unfold w_Machine_findMethod
  exact (mo_w_World_refClass hD  (fun r2 M1 f1 => (have g2 : Ow w D T _ M M1 := (Ow.trans (Ow.rf hs) f1); (mo_w_Machine_linkedClass hD n0 (fun r4 M3 f3 => (have g4 : Ow w D T _ M M3 := (Ow.trans g2 f3); (mf_ite (mf_ite (mo_w_World_isFace hD  (fun r8 M7 f5 => (have g6 : Ow w D T _ M M7 := (Ow.trans g4 f5); (mf_ite (mo_w_Machine_findMethod_j40 hD (ow.to n0 rfl rfl) (fun _ e => e) hQ g6) (mo_w_Machine_findMethod_j58 hD  (fun _ e => e) hQ g6)))) g4.1) (mo_w_Machine_findMethod_j40 hD (ow.to n0 rfl rfl) (fun _ e => e) hQ g4)) (hQ _ _  g4)))) g2.1))) (Ow.rf hs).1)
set_option maxRecDepth 20000 in
theorem mo_w_Machine_lengthen {w : Nat} {D : Nat → Nat → Prop} {T : Nat → Prop} {h : Hot} {this : Nat} {Q Q' : Mem → Prop} {M : Mem} (hD : Dok w D) (n0 : ow w D 6 this) (hQ : ∀ z0, Ow w D T h M z0 → Q z0 → Q' z0) : St w D T h M → w_Machine_lengthen this Q M → w_Machine_lengthen this Q' M := by
  intro hs
  unfold w_Machine_lengthen
  exact (mf_and fun _ => (mf_and fun _ => (Exists.imp fun i2 => (mf_and fun e1 => (Exists.imp fun M1 => (mf_and fun e2 => (have g3 : Ow w D T _ M M1 := Ow.of e2 (Ow.wmk e1 rfl (Ow.rf hs)); (mf_and fun _ => (mf_and fun _ => (Exists.imp fun i7 => (mf_and fun e4 => (Exists.imp fun M6 => (mf_and fun e5 => (have g6 : Ow w D T _ M M6 := Ow.of e5 (Ow.wmk e4 rfl g3); (mf_and fun _ => (mf_and fun _ => (Exists.imp fun i12 => (mf_and fun e7 => (Exists.imp fun M11 => (mf_and fun e8 => (have g9 : Ow w D T _ M M11 := Ow.of e8 (Ow.wmk e7 rfl g6); (mf_and fun _ => (mf_and fun _ => (Exists.imp fun i17 => (mf_and fun e10 => (Exists.imp fun M16 => (mf_and fun e11 => (have g12 : Ow w D T _ M M16 := Ow.of e11 (Ow.wmk e10 rfl g9); (Exists.imp fun i21 => (mf_and fun e13 => (mf_and fun _ => (mf_and fun _ => (mf_and fun _ => (mf_and fun _ => (mf_and fun _ => (Exists.imp fun M22 => (mf_and fun e15 => (have g16 : Ow w D T _ M M22 := Ow.of e15 (Ow.wcp (ow.fr (Ow.rf hs) rfl e1) g12); (Exists.imp fun i28 => (mf_and fun e17 => (mf_and fun _ => (mf_and fun _ => (mf_and fun _ => (mf_and fun _ => (mf_and fun _ => (Exists.imp fun M29 => (mf_and fun e19 => (have g20 : Ow w D T _ M M29 := Ow.of e19 (Ow.wcp (ow.fr g3 rfl e4) g16); (Exists.imp fun i35 => (mf_and fun e21 => (mf_and fun _ => (mf_and fun _ => (mf_and fun _ => (mf_and fun _ => (mf_and fun _ => (Exists.imp fun M36 => (mf_and fun e23 => (have g24 : Ow w D T _ M M36 := Ow.of e23 (Ow.wcp (ow.fr g6 rfl e7) g20); (Exists.imp fun i42 => (mf_and fun e25 => (mf_and fun _ => (mf_and fun _ => (mf_and fun _ => (mf_and fun _ => (mf_and fun _ => (Exists.imp fun M43 => (mf_and fun e27 => (have g28 : Ow w D T _ M M43 := Ow.of e27 (Ow.wcp (ow.fr g9 rfl e10) g24); (Exists.imp fun M49 => (mf_and fun e29 => (have g30 : Ow w D T _ M M49 := Ow.of e29 (Ow.wR rfl n0 (ow.fr g6 rfl e7) (Ow.wR rfl n0 (ow.fr g3 rfl e4) (Ow.wR rfl n0 (ow.fr (Ow.rf hs) rfl e1) g28))); (hQ _  (Ow.wR rfl n0 (ow.fr g9 rfl e10) g30)))))))))))))))))))))))))))))))))))))))))))))))))))))))))))))))))))))))))
set_option maxRecDepth 20000 in
theorem mo_w_Machine_event_j80 {w : Nat} {D : Nat → Nat → Prop} {T : Nat → Prop} {h : Hot} {this : Nat} {Q Q' : Mem → Prop} {h_Q : Hot} {v4 : Int32} {s0 : Int32} {s1 : Int32} {M : Mem} {M0 : Mem} (hD : Dok w D) (n0 : ow w D 87 this) (lQ : ∀ t, h_Q t = true → h t = true) (hQ : ∀ z0, Ow w D T h_Q M0 z0 → Q z0 → Q' z0) : Ow w D T h M0 M → w_Machine_event_j80 this Q v4 s0 s1 M → w_Machine_event_j80 this Q' v4 s0 s1 M := by
  intro hf
  unfold w_Machine_event_j80
  exact (mf_and fun _ => (Exists.imp fun i11 => (mf_and fun e1 => (mf_and fun _ => (Exists.imp fun M13 => (mf_and fun e3 => (have g4 : Ow w D T _ M0 M13 := Ow.of e3 (Ow.wI n0 (Ow.wI n0 hf)); (hQ _  (Ow.dn lQ (Ow.wI (ow.to n0 rfl rfl) g4))))))))))
set_option maxRecDepth 20000 in
theorem mo_w_Machine_event {w : Nat} {D : Nat → Nat → Prop} {T : Nat → Prop} {h : Hot} {this : Nat} {a1 : Int32} {a2 : Int32} {a3 : Int32} {Q Q' : Mem → Prop} {M : Mem} (hD : Dok w D) (n0 : ow w D 87 this) (hQ : ∀ z0, Ow w D T h M z0 → Q z0 → Q' z0) : St w D T h M → w_Machine_event this a1 a2 a3 Q M → w_Machine_event this a1 a2 a3 Q' M := by
  intro hs
  unfold w_Machine_event
  exact (mf_ite (hQ _  (Ow.rf hs)) (mf_and fun _ => (Exists.imp fun i3 => (mf_and fun e1 => (mf_and fun _ => (Exists.imp fun M5 => (mf_and fun e3 => (have g4 : Ow w D T _ M M5 := Ow.of e3 (Ow.wI n0 (Ow.wI n0 (Ow.rf hs))); (mf_and fun _ => (Exists.imp fun M7 => (mf_and fun e5 => (have g6 : Ow w D T _ M M7 := Ow.of e5 (Ow.wI n0 g4); (mf_ite (mf_and fun _ => (mo_w_Machine_event_j80 hD n0 (fun _ e => e) hQ g6)) (mo_w_Machine_event_j80 hD n0 (fun _ e => e) hQ g6))))))))))))))
set_option maxRecDepth 20000 in
theorem mo_w_Machine_classOf {w : Nat} {D : Nat → Nat → Prop} {T : Nat → Prop} {h : Hot} {this : Nat} {a1 : Int32} {Q Q' : Int32 → Mem → Prop} {M : Mem} (hD : Dok w D)  (hQ : ∀ z0 z1, Ow w D T h M z1 → Q z0 z1 → Q' z0 z1) : St w D T h M → w_Machine_classOf this a1 Q M → w_Machine_classOf this a1 Q' M := by
  intro hs
  unfold w_Machine_classOf
  exact (mf_ite (mf_and fun _ => (hQ _ _  (Ow.rf hs))) (Exists.imp fun i3 => (mf_and fun e1 => (mf_and fun _ => (hQ _ _  (Ow.rf hs))))))
set_option maxRecDepth 20000 in
theorem mo_w_World_isBelow_j137 {w : Nat} {D : Nat → Nat → Prop} {T : Nat → Prop} {h : Hot} {this : Nat} {Q Q' : Int32 → Mem → Prop} {h_Q : Hot} {k23 k23' : Int32 → Int32 → Mem → Prop} {h_k23 : Hot} {k49 k49' : Int32 → Int32 → Int32 → Int32 → Mem → Prop} {h_k49 : Hot} {v2 : Int32} {v3 : Int32} {v4 : Int32} {v5 : Int32} {M : Mem} {M0 : Mem} (hD : Dok w D)  (lQ : ∀ t, h_Q t = true → h t = true) (hQ : ∀ z0 z1, Ow w D T h_Q M0 z1 → Q z0 z1 → Q' z0 z1) (lk23 : ∀ t, h_k23 t = true → h t = true) (hk23 : ∀ z0 z1 z2, Ow w D T h_k23 M0 z2 → k23 z0 z1 z2 → k23' z0 z1 z2) (lk49 : ∀ t, h_k49 t = true → h t = true) (hk49 : ∀ z0 z1 z2 z3 z4, Ow w D T h_k49 M0 z4 → k49 z0 z1 z2 z3 z4 → k49' z0 z1 z2 z3 z4) : Ow w D T h M0 M → w_World_isBelow_j137 this Q k23 k49 v2 v3 v4 v5 M → w_World_isBelow_j137 this Q' k23' k49' v2 v3 v4 v5 M := by
  intro hf
  unfold w_World_isBelow_j137
  exact (hk49 _ _ _ _ _  (Ow.dn lk49 hf))
set_option maxRecDepth 20000 in
theorem mo_w_World_isBelow_j91 {w : Nat} {D : Nat → Nat → Prop} {T : Nat → Prop} {h : Hot} {this : Nat} {Q Q' : Int32 → Mem → Prop} {h_Q : Hot} {k23 k23' : Int32 → Int32 → Mem → Prop} {h_k23 : Hot} {k49 k49' : Int32 → Int32 → Int32 → Int32 → Mem → Prop} {h_k49 : Hot} {v2 : Int32} {v3 : Int32} {v4 : Int32} {v5 : Int32} {s0 : Int32} {M : Mem} {M0 : Mem} (hD : Dok w D) (n0 : ow w D 77 this) (lQ : ∀ t, h_Q t = true → h t = true) (hQ : ∀ z0 z1, Ow w D T h_Q M0 z1 → Q z0 z1 → Q' z0 z1) (lk23 : ∀ t, h_k23 t = true → h t = true) (hk23 : ∀ z0 z1 z2, Ow w D T h_k23 M0 z2 → k23 z0 z1 z2 → k23' z0 z1 z2) (lk49 : ∀ t, h_k49 t = true → h t = true) (hk49 : ∀ z0 z1 z2 z3 z4, Ow w D T h_k49 M0 z4 → k49 z0 z1 z2 z3 z4 → k49' z0 z1 z2 z3 z4) : Ow w D T h M0 M → w_World_isBelow_j91 this Q k23 k49 v2 v3 v4 v5 s0 M → w_World_isBelow_j91 this Q' k23' k49' v2 v3 v4 v5 s0 M := by
  intro hf
  unfold w_World_isBelow_j91
  exact (mf_ite (mo_w_World_isBelow_j137 hD  lQ hQ lk23 hk23 lk49 hk49 hf) (mf_and fun _ => (mf_ite (mo_w_World_isBelow_j137 hD  lQ hQ lk23 hk23 lk49 hk49 hf) (mf_and fun _ => (mf_and fun _ => (Exists.imp fun M19 => (mf_and fun e1 => (have g2 : Ow w D T _ M0 M19 := Ow.of e1 (Ow.wI (ow.to n0 rfl rfl) (Ow.wI n0 hf)); (mo_w_World_isBelow_j137 hD  lQ hQ lk23 hk23 lk49 hk49 g2)))))))))
set_option maxRecDepth 20000 in
theorem mo_w_World_isBelow_L49 {w : Nat} {D : Nat → Nat → Prop} {T : Nat → Prop} {h : Hot} {this : Nat} {Q Q' : Int32 → Mem → Prop} {h_Q : Hot} {k23 k23' : Int32 → Int32 → Mem → Prop} {h_k23 : Hot} {M0 : Mem} (hD : Dok w D) (n0 : ow w D 77 this) (lQ : ∀ t, h_Q t = true → h t = true) (hQ : ∀ z0 z1, Ow w D T h_Q M0 z1 → Q z0 z1 → Q' z0 z1) (lk23 : ∀ t, h_k23 t = true → h t = true) (hk23 : ∀ z0 z1 z2, Ow w D T h_k23 M0 z2 → k23 z0 z1 z2 → k23' z0 z1 z2) : ∀ (n : Nat) (v2 : Int32) (v3 : Int32) (v4 : Int32) (v5 : Int32) (M : Mem), Ow w D T h M0 M → w_World_isBelow_L49 this Q k23 n v2 v3 v4 v5 M → w_World_isBelow_L49 this Q' k23' n v2 v3 v4 v5 M
  | 0, _, _, _, _, _ => fun  _ h => h
  | n + 1, v2, v3, v4, v5, M => fun  hf => by
    unfold w_World_isBelow_L49
    exact (mf_and fun _ => (mf_ite (hk23 _ _ _  (Ow.dn lk23 hf)) (mf_ite (mf_and fun _ => (mo_w_World_find hD  (fun r13 M12 f1 => (have g2 : Ow w D T _ M0 M12 := (Ow.trans hf f1); (mo_w_World_isBelow_j91 hD n0 lQ hQ lk23 hk23 (fun _ e => e) (fun y0 y1 y2 y3 y4  hf => mo_w_World_isBelow_L49 hD n0 lQ hQ lk23 hk23 n y0 y1 y2 y3 y4  hf) g2))) hf.1)) (mo_w_World_up hD  (fun r21 M20 f3 => (have g4 : Ow w D T _ M0 M20 := (Ow.trans hf f3); (mo_w_World_isBelow_j91 hD n0 lQ hQ lk23 hk23 (fun _ e => e) (fun y0 y1 y2 y3 y4  hf => mo_w_World_isBelow_L49 hD n0 lQ hQ lk23 hk23 n y0 y1 y2 y3 y4  hf) g4))) hf.1))))
set_option maxRecDepth 20000 in
theorem mo_w_World_isBelow_L23 {w : Nat} {D : Nat → Nat → Prop} {T : Nat → Prop} {h : Hot} {this : Nat} {Q Q' : Int32 → Mem → Prop} {h_Q : Hot} {M0 : Mem} (hD : Dok w D) (n0 : ow w D 77 this) (lQ : ∀ t, h_Q t = true → h t = true) (hQ : ∀ z0 z1, Ow w D T h_Q M0 z1 → Q z0 z1 → Q' z0 z1) : ∀ (n : Nat) (v2 : Int32) (v3 : Int32) (M : Mem), Ow w D T h M0 M → w_World_isBelow_L23 this Q n v2 v3 M → w_World_isBelow_L23 this Q' n v2 v3 M
  | 0, _, _, _ => fun  _ h => h
  | n + 1, v2, v3, M => fun  hf => by
    unfold w_World_isBelow_L23
    exact (mf_ite (hQ _ _  (Ow.dn lQ hf)) (mf_and fun _ => (mf_ite (hQ _ _  (Ow.dn lQ hf)) (Exists.imp fun n22 => (mo_w_World_isBelow_L49 hD n0 lQ hQ (fun _ e => e) (fun y0 y1 y2  hf => mo_w_World_isBelow_L23 hD n0 lQ hQ n y0 y1 y2  hf) _ _ _ _ _ _  hf)))))
set_option maxRecDepth 20000 in
theorem mo_w_World_isBelow {w : Nat} {D : Nat → Nat → Prop} {T : Nat → Prop} {h : Hot} {this : Nat} {a1 : Int32} {a2 : Int32} {Q Q' : Int32 → Mem → Prop} {M : Mem} (hD : Dok w D) (n0 : ow w D 5 this) (hQ : ∀ z0 z1, Ow w D T h M z1 → Q z0 z1 → Q' z0 z1) : St w D T h M → w_World_isBelow this a1 a2 Q M → w_World_isBelow this a1 a2 Q' M := by
  intro hs
  unfold w_World_isBelow
  exact (mo_w_World_nextStamp hD n0 (fun M1 f1 => (have g2 : Ow w D T _ M M1 := (Ow.trans (Ow.rf hs) f1); (mf_and fun _ => (mf_and fun _ => (Exists.imp fun M4 => (mf_and fun e3 => (have g4 : Ow w D T _ M M4 := Ow.of e3 (Ow.wI (ow.to n0 rfl rfl) (Ow.wI (ow.to n0 rfl rfl) g2)); (Exists.imp fun n23 => (mo_w_World_isBelow_L23 hD (ow.to n0 rfl rfl) (fun _ e => e) hQ _ _ _ _  g4))))))))) (Ow.rf hs).1)
set_option maxRecDepth 20000 in
theorem mo_w_Machine_set {w : Nat} {D : Nat → Nat → Prop} {T : Nat → Prop} {h : Hot} {this : Nat} {a1 : Int32} {a2 : Int32} {a3 : Int32} {Q Q' : Mem → Prop} {M : Mem} (hD : Dok w D) (n0 : ow w D 6 this) (hQ : ∀ z0, Ow w D T h M z0 → Q z0 → Q' z0) : St w D T h M → w_Machine_set this a1 a2 a3 Q M → w_Machine_set this a1 a2 a3 Q' M := by
  intro hs
  unfold w_Machine_set
  exact (Exists.imp fun i1 => (mf_and fun e1 => (have o2 : ow w D 7 i1 := (Ow.r1 e1 rfl rfl n0 (Ow.rf hs)); (mf_and fun _ => (Exists.imp fun i3 => (mf_and fun e3 => (have o4 : ow w D 7 i3 := (Ow.r1 e3 rfl rfl n0 (Ow.wI (ow.to o2 rfl rfl) (Ow.rf hs))); (mf_and fun _ => (Exists.imp fun M5 => (mf_and fun e5 => (have g6 : Ow w D T _ M M5 := Ow.of e5 (Ow.wI (ow.to o4 rfl rfl) (Ow.wI (ow.to o2 rfl rfl) (Ow.rf hs))); (hQ _  g6))))))))))))
set_option maxRecDepth 20000 in
theorem mo_w_Machine_methodEvent {w : Nat} {D : Nat → Nat → Prop} {T : Nat → Prop} {h : Hot} {this : Nat} {a1 : Int32} {a2 : Int32} {Q Q' : Mem → Prop} {M : Mem} (hD : Dok w D) (n0 : ow w D 87 this) (hQ : ∀ z0, Ow w D T h M z0 → Q z0 → Q' z0) : St w D T h M → w_Machine_methodEvent this a1 a2 Q M → w_Machine_methodEvent this a1 a2 Q' M := by
  intro hs
  unfold w_Machine_methodEvent
  exact (mf_and fun _ => (mo_w_Machine_event hD n0 (fun M2 f1 => (have g2 : Ow w D T _ M M2 := (Ow.trans (Ow.rf hs) f1); (hQ _  g2))) (Ow.rf hs).1))
set_option maxRecDepth 20000 in
theorem mo_w_Machine_handled_j212 {w : Nat} {D : Nat → Nat → Prop} {T : Nat → Prop} {h : Hot} {this : Nat} {Q Q' : Int32 → Mem → Prop} {h_Q : Hot} {k13 k13' : Int32 → Int32 → Int32 → Int32 → Mem → Prop} {h_k13 : Hot} {v1 : Int32} {v2 : Int32} {v3 : Int32} {v4 : Int32} {M : Mem} {M0 : Mem} (hD : Dok w D)  (lQ : ∀ t, h_Q t = true → h t = true) (hQ : ∀ z0 z1, Ow w D T h_Q M0 z1 → Q z0 z1 → Q' z0 z1) (lk13 : ∀ t, h_k13 t = true → h t = true) (hk13 : ∀ z0 z1 z2 z3 z4, Ow w D T h_k13 M0 z4 → k13 z0 z1 z2 z3 z4 → k13' z0 z1 z2 z3 z4) : Ow w D T h M0 M → w_Machine_handled_j212 this Q k13 v1 v2 v3 v4 M → w_Machine_handled_j212 this Q' k13' v1 v2 v3 v4 M := by
  intro hf
  unfold w_Machine_handled_j212
  exact (hk13 _ _ _ _ _  (Ow.dn lk13 hf))
set_option maxRecDepth 20000 in
theorem mo_w_Machine_handled_j132 {w : Nat} {D : Nat → Nat → Prop} {T : Nat → Prop} {h : Hot} {this : Nat} {Q Q' : Int32 → Mem → Prop} {h_Q : Hot} {k13 k13' : Int32 → Int32 → Int32 → Int32 → Mem → Prop} {h_k13 : Hot} {v1 : Int32} {v2 : Int32} {v3 : Int32} {v4 : Int32} {v5 : Int32} {s0 : Int32} {M : Mem} {M0 : Mem} (hD : Dok w D) (n0 : ow w D 5 this) (lQ : ∀ t, h_Q t = true → h t = true) (hQ : ∀ z0 z1, Ow w D T h_Q M0 z1 → Q z0 z1 → Q' z0 z1) (lk13 : ∀ t, h_k13 t = true → h t = true) (hk13 : ∀ z0 z1 z2 z3 z4, Ow w D T h_k13 M0 z4 → k13 z0 z1 z2 z3 z4 → k13' z0 z1 z2 z3 z4) : Ow w D T h M0 M → w_Machine_handled_j132 this Q k13 v1 v2 v3 v4 v5 s0 M → w_Machine_handled_j132 this Q' k13' v1 v2 v3 v4 v5 s0 M := by
  intro hf
  unfold w_Machine_handled_j132
  exact (mf_ite (mo_w_Machine_handled_j212 hD  lQ hQ lk13 hk13 hf) (mo_w_Machine_classOf hD  (fun r18 M17 f1 => (have g2 : Ow w D T _ M0 M17 := (Ow.trans hf f1); (mo_w_World_isBelow hD n0 (fun r20 M19 f3 => (have g4 : Ow w D T _ M0 M19 := (Ow.trans g2 f3); (mf_ite (mo_w_Machine_handled_j212 hD  lQ hQ lk13 hk13 g4) (Exists.imp fun i22 => (mf_and fun e5 => (have o6 : ow w D 7 i22 := (Ow.r1 e5 rfl rfl (ow.to n0 rfl rfl) g4); (mf_and fun _ => (mf_and fun _ => (Exists.imp fun M25 => (mf_and fun e7 => (have g8 : Ow w D T _ M0 M25 := Ow.of e7 (Ow.wI (ow.to o6 rfl rfl) g4); (Exists.imp fun i26 => (mf_and fun e9 => (have o10 : ow w D 7 i26 := (Ow.r1 e9 rfl rfl (ow.to n0 rfl rfl) g8); (mf_and fun _ => (have g11 : Ow w D T _ M0 (sI M25 91 i26 v1.toNatClampNeg (1 : Int32)) := (Ow.wI (ow.to o10 rfl rfl) g8); (mo_w_Machine_set hD (ow.to n0 rfl rfl) (fun M28 f12 => (have g13 : Ow w D T _ M0 M28 := (Ow.trans g11 f12); (mo_w_Machine_methodEvent hD (ow.to n0 rfl rfl) (fun M29 f14 => (have g15 : Ow w D T _ M0 M29 := (Ow.trans g13 f14); (hQ _ _  (Ow.dn lQ g15)))) g13.1))) g11.1))))))))))))))))) g2.1))) hf.1))
set_option maxRecDepth 20000 in
theorem mo_w_Machine_handled_L13 {w : Nat} {D : Nat → Nat → Prop} {T : Nat → Prop} {h : Hot} {this : Nat} {Q Q' : Int32 → Mem → Prop} {h_Q : Hot} {M0 : Mem} (hD : Dok w D) (n0 : ow w D 5 this) (lQ : ∀ t, h_Q t = true → h t = true) (hQ : ∀ z0 z1, Ow w D T h_Q M0 z1 → Q z0 z1 → Q' z0 z1) : ∀ (n : Nat) (v1 : Int32) (v2 : Int32) (v3 : Int32) (v4 : Int32) (M : Mem), Ow w D T h M0 M → w_Machine_handled_L13 this Q n v1 v2 v3 v4 M → w_Machine_handled_L13 this Q' n v1 v2 v3 v4 M
  | 0, _, _, _, _, _ => fun  _ h => h
  | n + 1, v1, v2, v3, v4, M => fun  hf => by
    unfold w_Machine_handled_L13
    exact (mf_and fun _ => (mf_ite (hQ _ _  (Ow.dn lQ hf)) (mf_and fun _ => (Exists.imp fun i6 => (mf_and fun e1 => (mf_and fun _ => (mf_and fun _ => (mf_ite (mo_w_Machine_handled_j212 hD  lQ hQ (fun _ e => e) (fun y0 y1 y2 y3 y4  hf => mo_w_Machine_handled_L13 hD n0 lQ hQ n y0 y1 y2 y3 y4  hf) hf) (Exists.imp fun i10 => (mf_and fun e3 => (mf_and fun _ => (mf_and fun _ => (mf_ite (mf_and fun _ => (mf_ite (mo_w_Machine_handled_j132 hD n0 lQ hQ (fun _ e => e) (fun y0 y1 y2 y3 y4  hf => mo_w_Machine_handled_L13 hD n0 lQ hQ n y0 y1 y2 y3 y4  hf) hf) (mf_and fun _ => (mo_w_World_find hD  (fun r32 M31 f5 => (have g6 : Ow w D T _ M0 M31 := (Ow.trans hf f5); (mo_w_Machine_handled_j132 hD n0 lQ hQ (fun _ e => e) (fun y0 y1 y2 y3 y4  hf => mo_w_Machine_handled_L13 hD n0 lQ hQ n y0 y1 y2 y3 y4  hf) g6))) hf.1)))) (mo_w_Machine_handled_j212 hD  lQ hQ (fun _ e => e) (fun y0 y1 y2 y3 y4  hf => mo_w_Machine_handled_L13 hD n0 lQ hQ n y0 y1 y2 y3 y4  hf) hf))))))))))))))
set_option maxRecDepth 20000 in
theorem mo_w_Machine_handled {w : Nat} {D : Nat → Nat → Prop} {T : Nat → Prop} {h : Hot} {this : Nat} {a1 : Int32} {a2 : Int32} {Q Q' : Int32 → Mem → Prop} {M : Mem} (hD : Dok w D) (n0 : ow w D 5 this) (hQ : ∀ z0 z1, Ow w D T h M z1 → Q z0 z1 → Q' z0 z1) : St w D T h M → w_Machine_handled this a1 a2 Q M → w_Machine_handled this a1 a2 Q' M := by
  intro hs
  unfold w_Machine_handled
  exact (Exists.imp fun i1 => (mf_and fun e1 => (mf_and fun _ => (Exists.imp fun n33 => (mo_w_Machine_handled_L13 hD n0 (fun _ e => e) hQ _ _ _ _ _ _  (Ow.rf hs))))))
set_option maxRecDepth 20000 in
theorem mo_w_Machine_ruleOf {w : Nat} {D : Nat → Nat → Prop} {T : Nat → Prop} {h : Hot} {this : Nat} {a1 : Int32} {Q Q' : Int32 → Mem → Prop} {M : Mem} (hD : Dok w D)  (hQ : ∀ z0 z1, Ow w D T h M z1 → Q z0 z1 → Q' z0 z1) : St w D T h M → w_Machine_ruleOf this a1 Q M → w_Machine_ruleOf this a1 Q' M := by
  intro hs
  unfold w_Machine_ruleOf
  exact (mf_ite (hQ _ _  (Ow.rf hs)) (Exists.imp fun i2 => (mf_and fun e1 => (mf_and fun _ => (hQ _ _  (Ow.rf hs))))))
set_option maxRecDepth 20000 in
theorem mo_wk_Machine_throwOne_j181 {w : Nat} {D : Nat → Nat → Prop} {T : Nat → Prop} {h : Hot} {K K' : Nat → Int32 → Int32 → (Mem → Prop) → Mem → Prop} {this : Nat} {Q Q' : Mem → Prop} {h_Q : Hot} {k0 k0' : Int32 → Mem → Prop} {h_k0 : Hot} {v1 : Int32} {M : Mem} {M0 : Mem} (hD : Dok w D)  (hK : ∀ {h' : Hot} {x0 : Nat} {x1 : Int32} {x2 : Int32} {x4 : Mem} {q q' : Mem → Prop}, ow w D 6 x0 → St w D T h' x4 → (∀ z0, Ow w D T h' x4 z0 → q z0 → q' z0) → K x0 x1 x2 q x4 → K' x0 x1 x2 q' x4) (lQ : ∀ t, h_Q t = true → h t = true) (hQ : ∀ z0, Ow w D T h_Q M0 z0 → Q z0 → Q' z0) (lk0 : ∀ t, h_k0 t = true → h t = true) (hk0 : ∀ z0 z1, Ow w D T h_k0 M0 z1 → k0 z0 z1 → k0' z0 z1) : Ow w D T h M0 M → wk_Machine_throwOne_j181 K this Q k0 v1 M → wk_Machine_throwOne_j181 K' this Q' k0' v1 M := by
  intro hf
  unfold wk_Machine_throwOne_j181
  exact (hk0 _ _  (Ow.dn lk0 hf))
set_option maxRecDepth 20000 in
theorem mo_wk_Machine_throwOne_j128 {w : Nat} {D : Nat → Nat → Prop} {T : Nat → Prop} {h : Hot} {K K' : Nat → Int32 → Int32 → (Mem → Prop) → Mem → Prop} {this : Nat} {Q Q' : Mem → Prop} {h_Q : Hot} {k0 k0' : Int32 → Mem → Prop} {h_k0 : Hot} {v1 : Int32} {M : Mem} {M0 : Mem} (hD : Dok w D)  (hK : ∀ {h' : Hot} {x0 : Nat} {x1 : Int32} {x2 : Int32} {x4 : Mem} {q q' : Mem → Prop}, ow w D 6 x0 → St w D T h' x4 → (∀ z0, Ow w D T h' x4 z0 → q z0 → q' z0) → K x0 x1 x2 q x4 → K' x0 x1 x2 q' x4) (lQ : ∀ t, h_Q t = true → h t = true) (hQ : ∀ z0, Ow w D T h_Q M0 z0 → Q z0 → Q' z0) (lk0 : ∀ t, h_k0 t = true → h t = true) (hk0 : ∀ z0 z1, Ow w D T h_k0 M0 z1 → k0 z0 z1 → k0' z0 z1) : Ow w D T h M0 M → wk_Machine_throwOne_j128 K this Q k0 v1 M → wk_Machine_throwOne_j128 K' this Q' k0' v1 M := by
  intro hf
  unfold wk_Machine_throwOne_j128
  exact (mo_wk_Machine_throwOne_j181 hD  @hK lQ hQ lk0 hk0 hf)
set_option maxRecDepth 20000 in
theorem mo_wk_Machine_throwOne_j85 {w : Nat} {D : Nat → Nat → Prop} {T : Nat → Prop} {h : Hot} {K K' : Nat → Int32 → Int32 → (Mem → Prop) → Mem → Prop} {this : Nat} {Q Q' : Mem → Prop} {h_Q : Hot} {k0 k0' : Int32 → Mem → Prop} {h_k0 : Hot} {v1 : Int32} {s0 : Int32} {M : Mem} {M0 : Mem} (hD : Dok w D) (n0 : ow w D 6 this) (hK : ∀ {h' : Hot} {x0 : Nat} {x1 : Int32} {x2 : Int32} {x4 : Mem} {q q' : Mem → Prop}, ow w D 6 x0 → St w D T h' x4 → (∀ z0, Ow w D T h' x4 z0 → q z0 → q' z0) → K x0 x1 x2 q x4 → K' x0 x1 x2 q' x4) (lQ : ∀ t, h_Q t = true → h t = true) (hQ : ∀ z0, Ow w D T h_Q M0 z0 → Q z0 → Q' z0) (lk0 : ∀ t, h_k0 t = true → h t = true) (hk0 : ∀ z0 z1, Ow w D T h_k0 M0 z1 → k0 z0 z1 → k0' z0 z1) : Ow w D T h M0 M → wk_Machine_throwOne_j85 K this Q k0 v1 s0 M → wk_Machine_throwOne_j85 K' this Q' k0' v1 s0 M := by
  intro hf
  unfold wk_Machine_throwOne_j85
  exact (Exists.imp fun i33 => (mf_and fun e1 => (have o2 : ow w D 7 i33 := (Ow.r1 e1 rfl rfl n0 hf); (mf_ite (have g3 : Ow w D T _ M0 (sI M 7 i33 1 ((mI M 7 i33 1) - (1 : Int32))) := (Ow.wI o2 hf); (mo_wk_Machine_throwOne_j128 hD  @hK lQ hQ lk0 hk0 g3)) (have g4 : Ow w D T _ M0 (sI M 7 i33 1 ((mI M 7 i33 1) - (1 : Int32))) := (Ow.wI o2 hf); (mo_w_Machine_classOf hD  (fun r36 M35 f5 => (have g6 : Ow w D T _ M0 M35 := (Ow.trans g4 f5); (mo_w_World_isBelow hD (ow.to n0 rfl rfl) (fun r38 M37 f7 => (have g8 : Ow w D T _ M0 M37 := (Ow.trans g6 f7); (mf_ite (hK n0 g8.1 (fun M40 f9 => (have g10 : Ow w D T _ M0 M40 := (Ow.trans g8 f9); (hQ _  (Ow.dn lQ g10))))) (mo_wk_Machine_throwOne_j128 hD  @hK lQ hQ lk0 hk0 g8)))) g6.1))) g4.1))))))
set_option maxRecDepth 20000 in
theorem mo_wk_Machine_throwOne_L0 {w : Nat} {D : Nat → Nat → Prop} {T : Nat → Prop} {h : Hot} {K K' : Nat → Int32 → Int32 → (Mem → Prop) → Mem → Prop} {this : Nat} {Q Q' : Mem → Prop} {h_Q : Hot} {M0 : Mem} (hD : Dok w D) (n0 : ow w D 6 this) (hK : ∀ {h' : Hot} {x0 : Nat} {x1 : Int32} {x2 : Int32} {x4 : Mem} {q q' : Mem → Prop}, ow w D 6 x0 → St w D T h' x4 → (∀ z0, Ow w D T h' x4 z0 → q z0 → q' z0) → K x0 x1 x2 q x4 → K' x0 x1 x2 q' x4) (lQ : ∀ t, h_Q t = true → h t = true) (hQ : ∀ z0, Ow w D T h_Q M0 z0 → Q z0 → Q' z0) : ∀ (n : Nat) (v1 : Int32) (M : Mem), Ow w D T h M0 M → wk_Machine_throwOne_L0 K this Q n v1 M → wk_Machine_throwOne_L0 K' this Q' n v1 M
  | 0, _, _ => fun  _ h => h
  | n + 1, v1, M => fun  hf => by
    unfold wk_Machine_throwOne_L0
    exact (Exists.imp fun i1 => (mf_and fun e1 => (mf_ite (Exists.imp fun i3 => (mf_and fun e3 => (have o4 : ow w D 7 i3 := (Ow.r1 e3 rfl rfl n0 hf); (Exists.imp fun i4 => (mf_and fun e5 => (have o6 : ow w D 7 i4 := (Ow.r1 e5 rfl rfl n0 (Ow.wI o4 hf)); (have g7 : Ow w D T _ M0 (sI M 7 i3 11 (2 : Int32)) := (Ow.wI o4 hf); (mo_w_Machine_classOf hD  (fun r6 M5 f8 => (have g9 : Ow w D T _ M0 M5 := (Ow.trans g7 f8); (Exists.imp fun i7 => (mf_and fun e10 => (have o11 : ow w D 7 i7 := (Ow.r1 e10 rfl rfl n0 (Ow.wI o6 g9)); (have g12 : Ow w D T _ M0 (sI M5 7 i4 15 r6) := (Ow.wI o6 g9); (mo_w_Machine_ruleOf hD  (fun r9 M8 f13 => (have g14 : Ow w D T _ M0 M8 := (Ow.trans g12 f13); (hQ _  (Ow.dn lQ (Ow.wI o11 g14))))) g12.1))))))) g7.1)))))))) (Exists.imp fun i10 => (mf_and fun e15 => (Exists.imp fun i11 => (mf_and fun e17 => (mf_and fun _ => (mf_ite (mo_w_Machine_handled hD (ow.to n0 rfl rfl) (fun r15 M14 f19 => (have g20 : Ow w D T _ M0 M14 := (Ow.trans hf f19); (mf_ite (Exists.imp fun i17 => (mf_and fun e21 => (mf_and fun _ => (mo_w_Machine_methodEvent hD (ow.to n0 rfl rfl) (fun M19 f23 => (have g24 : Ow w D T _ M0 M19 := (Ow.trans g20 f23); (Exists.imp fun i20 => (mf_and fun e25 => (have o26 : ow w D 7 i20 := (Ow.r1 e25 rfl rfl n0 g24); (Exists.imp fun i21 => (mf_and fun e27 => (have o28 : ow w D 7 i21 := (Ow.r1 e27 rfl rfl n0 (Ow.wI o26 g24)); (Exists.imp fun M22 => (mf_and fun e29 => (have g30 : Ow w D T _ M0 M22 := Ow.of e29 (Ow.wI o28 (Ow.wI o26 g24)); (mo_wk_Machine_throwOne_j181 hD  @hK lQ hQ (fun _ e => e) (fun y0 y1  hf => mo_wk_Machine_throwOne_L0 hD n0 @hK lQ hQ n y0 y1  hf) g30)))))))))))) g20.1)))) (hQ _  (Ow.dn lQ g20))))) hf.1) (Exists.imp fun i23 => (mf_and fun e31 => (mf_and fun _ => (mf_and fun _ => (Exists.imp fun M26 => (mf_and fun e33 => (have g34 : Ow w D T _ M0 M26 := Ow.of e33 (Ow.wI (ow.to n0 rfl rfl) hf); (Exists.imp fun i27 => (mf_and fun e35 => (mf_and fun _ => (mo_w_Machine_event hD (ow.to n0 rfl rfl) (fun M29 f37 => (have g38 : Ow w D T _ M0 M29 := (Ow.trans g34 f37); (Exists.imp fun i30 => (mf_and fun e39 => (mf_and fun _ => (mf_ite (mo_wk_Machine_throwOne_j85 hD n0 @hK lQ hQ (fun _ e => e) (fun y0 y1  hf => mo_wk_Machine_throwOne_L0 hD n0 @hK lQ hQ n y0 y1  hf) g38) (mo_wk_Machine_throwOne_j85 hD n0 @hK lQ hQ (fun _ e => e) (fun y0 y1  hf => mo_wk_Machine_throwOne_L0 hD n0 @hK lQ hQ n y0 y1  hf) g38))))))) g34.1))))))))))))))))))))
set_option maxRecDepth 20000 in
theorem mo_wk_Machine_throwOne {w : Nat} {D : Nat → Nat → Prop} {T : Nat → Prop} {h : Hot} {K K' : Nat → Int32 → Int32 → (Mem → Prop) → Mem → Prop} {this : Nat} {a1 : Int32} {Q Q' : Mem → Prop} {M : Mem} (hD : Dok w D) (n0 : ow w D 6 this) (hK : ∀ {h' : Hot} {x0 : Nat} {x1 : Int32} {x2 : Int32} {x4 : Mem} {q q' : Mem → Prop}, ow w D 6 x0 → St w D T h' x4 → (∀ z0, Ow w D T h' x4 z0 → q z0 → q' z0) → K x0 x1 x2 q x4 → K' x0 x1 x2 q' x4) (hQ : ∀ z0, Ow w D T h M z0 → Q z0 → Q' z0) : St w D T h M → wk_Machine_throwOne K this a1 Q M → wk_Machine_throwOne K' this a1 Q' M := by
  intro hs
  unfold wk_Machine_throwOne
  exact (Exists.imp fun n41 => (mo_wk_Machine_throwOne_L0 hD n0 @hK (fun _ e => e) hQ _ _ _  (Ow.rf hs)))
set_option maxRecDepth 20000 in
theorem mo_wk_Machine_fail_j16 {w : Nat} {D : Nat → Nat → Prop} {T : Nat → Prop} {h : Hot} {K K' : Nat → Int32 → Int32 → (Mem → Prop) → Mem → Prop} {this : Nat} {Q Q' : Mem → Prop} {h_Q : Hot} {v1 : Int32} {v2 : Int32} {M : Mem} {M0 : Mem} (hD : Dok w D) (n0 : ow w D 6 this) (hK : ∀ {h' : Hot} {x0 : Nat} {x1 : Int32} {x2 : Int32} {x4 : Mem} {q q' : Mem → Prop}, ow w D 6 x0 → St w D T h' x4 → (∀ z0, Ow w D T h' x4 z0 → q z0 → q' z0) → K x0 x1 x2 q x4 → K' x0 x1 x2 q' x4) (lQ : ∀ t, h_Q t = true → h t = true) (hQ : ∀ z0, Ow w D T h_Q M0 z0 → Q z0 → Q' z0) : Ow w D T h M0 M → wk_Machine_fail_j16 K this Q v1 v2 M → wk_Machine_fail_j16 K' this Q' v1 v2 M := by
  intro hf
  unfold wk_Machine_fail_j16
  exact (Exists.imp fun i4 => (mf_and fun e1 => (have o2 : ow w D 301 i4 := (Ow.r1 e1 rfl rfl n0 hf); (mf_and fun _ => (Exists.imp fun i6 => (mf_and fun e3 => (have o4 : ow w D 301 i6 := (Ow.r1 e3 rfl rfl n0 (Ow.wI o2 hf)); (mf_and fun _ => (Exists.imp fun M8 => (mf_and fun e5 => (have g6 : Ow w D T _ M0 M8 := Ow.of e5 (Ow.wI o4 (Ow.wI o2 hf)); (Exists.imp fun i9 => (mf_and fun e7 => (have o8 : ow w D 301 i9 := (Ow.r1 e7 rfl rfl n0 g6); (mf_and fun _ => (Exists.imp fun i11 => (mf_and fun e9 => (have o10 : ow w D 301 i11 := (Ow.r1 e9 rfl rfl n0 (Ow.wI o8 g6)); (mf_and fun _ => (Exists.imp fun M13 => (mf_and fun e11 => (have g12 : Ow w D T _ M0 M13 := Ow.of e11 (Ow.wI o10 (Ow.wI o8 g6)); (have g13 : Ow w D T _ M0 (sI M13 6 this 21 ((mI M13 6 this 21) + (1 : Int32))) := (Ow.wI n0 g12); (mo_wk_Machine_throwOne hD n0 @hK (fun M14 f14 => (have g15 : Ow w D T _ M0 M14 := (Ow.trans g13 f14); (hQ _  (Ow.dn lQ g15)))) g13.1))))))))))))))))))))))))
set_option maxRecDepth 20000 in
theorem mo_wk_Machine_fail {w : Nat} {D : Nat → Nat → Prop} {T : Nat → Prop} {h : Hot} {K K' : Nat → Int32 → Int32 → (Mem → Prop) → Mem → Prop} {this : Nat} {a1 : Int32} {a2 : Int32} {Q Q' : Mem → Prop} {M : Mem} (hD : Dok w D) (n0 : ow w D 6 this) (hK : ∀ {h' : Hot} {x0 : Nat} {x1 : Int32} {x2 : Int32} {x4 : Mem} {q q' : Mem → Prop}, ow w D 6 x0 → St w D T h' x4 → (∀ z0, Ow w D T h' x4 z0 → q z0 → q' z0) → K x0 x1 x2 q x4 → K' x0 x1 x2 q' x4) (hQ : ∀ z0, Ow w D T h M z0 → Q z0 → Q' z0) : St w D T h M → wk_Machine_fail K this a1 a2 Q M → wk_Machine_fail K' this a1 a2 Q' M := by
  intro hs
  unfold wk_Machine_fail
  exact (Exists.imp fun i1 => (mf_and fun e1 => (mf_ite (mo_w_Machine_lengthen hD n0 (fun M3 f3 => (have g4 : Ow w D T _ M M3 := (Ow.trans (Ow.rf hs) f3); (mo_wk_Machine_fail_j16 hD n0 @hK (fun _ e => e) hQ g4))) (Ow.rf hs).1) (mo_wk_Machine_fail_j16 hD n0 @hK (fun _ e => e) hQ (Ow.rf hs)))))
set_option maxRecDepth 20000 in
theorem mo_wr_Machine_fail {w : Nat} {D : Nat → Nat → Prop} {T : Nat → Prop} (hD : Dok w D) : ∀ (n : Nat) {h : Hot} {x0 : Nat} {x1 : Int32} {x2 : Int32} {x4 : Mem} {Q Q' : Mem → Prop}, ow w D 6 x0 → St w D T h x4 → (∀ z0, Ow w D T h x4 z0 → Q z0 → Q' z0) → wr_Machine_fail n x0 x1 x2 Q x4 → wr_Machine_fail n x0 x1 x2 Q' x4
  | 0 => fun _ _ _ h => h
  | n + 1 => fun n0 hs hq => mo_wk_Machine_fail hD n0 (fun u0 hs hq => mo_wr_Machine_fail hD n u0 hs hq) hq hs
set_option maxRecDepth 20000 in
theorem mo_w_Machine_fail {w : Nat} {D : Nat → Nat → Prop} {T : Nat → Prop} {h : Hot} {this : Nat} {a1 : Int32} {a2 : Int32} {Q Q' : Mem → Prop} {M : Mem} (hD : Dok w D) (n0 : ow w D 6 this) (hQ : ∀ z0, Ow w D T h M z0 → Q z0 → Q' z0) : St w D T h M → w_Machine_fail this a1 a2 Q M → w_Machine_fail this a1 a2 Q' M := by
  intro hs
  unfold w_Machine_fail
  exact (Exists.imp fun n => (mf_and fun _ => (mo_wr_Machine_fail hD _ n0 (Ow.rf hs).1 (fun z2 f1 => hQ z2 (Ow.trans (Ow.rf hs) f1)))))
set_option maxRecDepth 20000 in
theorem mo_w_Machine_throwOne {w : Nat} {D : Nat → Nat → Prop} {T : Nat → Prop} {h : Hot} {this : Nat} {a1 : Int32} {Q Q' : Mem → Prop} {M : Mem} (hD : Dok w D) (n0 : ow w D 6 this) (hQ : ∀ z0, Ow w D T h M z0 → Q z0 → Q' z0) : St w D T h M → w_Machine_throwOne this a1 Q M → w_Machine_throwOne this a1 Q' M := by
  intro hs
  unfold w_Machine_throwOne
  exact (Exists.imp fun n => (mf_and fun _ => (mo_wk_Machine_throwOne hD n0 (fun u0 hs hq => mo_wr_Machine_fail hD _ u0 hs hq) (fun z2 f1 => hQ z2 (Ow.trans (Ow.rf hs) f1)) (Ow.rf hs).1)))
set_option maxRecDepth 20000 in
theorem mo_w_Machine_fails {w : Nat} {D : Nat → Nat → Prop} {T : Nat → Prop} {h : Hot} {this : Nat} {a1 : Int32} {Q Q' : Mem → Prop} {M : Mem} (hD : Dok w D) (n0 : ow w D 6 this) (hQ : ∀ z0, Ow w D T h M z0 → Q z0 → Q' z0) : St w D T h M → w_Machine_fails this a1 Q M → w_Machine_fails this a1 Q' M := by
  intro hs
  unfold w_Machine_fails
  exact (mf_and fun _ => (mf_and fun _ => (mo_w_Machine_fail hD n0 (fun M3 f1 => (have g2 : Ow w D T _ M M3 := (Ow.trans (Ow.rf hs) f1); (hQ _  g2))) (Ow.rf hs).1)))
set_option maxRecDepth 20000 in
theorem mo_w_Machine_begins_L61 {w : Nat} {D : Nat → Nat → Prop} {T : Nat → Prop} {h : Hot} {this : Nat} {Q Q' : Mem → Prop} {h_Q : Hot} {M0 : Mem} (hD : Dok w D) (n0 : ow w D 6 this) (lQ : ∀ t, h_Q t = true → h t = true) (hQ : ∀ z0, Ow w D T h_Q M0 z0 → Q z0 → Q' z0) : ∀ (n : Nat) (v1 : Int32) (v2 : Int32) (M : Mem), Ow w D T h M0 M → w_Machine_begins_L61 this Q n v1 v2 M → w_Machine_begins_L61 this Q' n v1 v2 M
  | 0, _, _, _ => fun  _ h => h
  | n + 1, v1, v2, M => fun  hf => by
    unfold w_Machine_begins_L61
    exact (mf_and fun _ => (mf_and fun _ => (mf_ite (Exists.imp fun i12 => (mf_and fun e1 => (have o2 : ow w D 7 i12 := (Ow.r1 e1 rfl rfl n0 hf); (Exists.imp fun i13 => (mf_and fun e3 => (mf_and fun _ => (Exists.imp fun i15 => (mf_and fun e5 => (have o6 : ow w D 7 i15 := (Ow.r1 e5 rfl rfl n0 (Ow.wI (ow.to o2 rfl rfl) hf)); (Exists.imp fun i16 => (mf_and fun e7 => (mf_and fun _ => (Exists.imp fun M18 => (mf_and fun e9 => (have g10 : Ow w D T _ M0 M18 := Ow.of e9 (Ow.wI (ow.to o6 rfl rfl) (Ow.wI (ow.to o2 rfl rfl) hf)); (Exists.imp fun i19 => (mf_and fun e11 => (have o12 : ow w D 7 i19 := (Ow.r1 e11 rfl rfl n0 g10); (hQ _  (Ow.dn lQ (Ow.wI o12 g10))))))))))))))))))))) (mf_and fun _ => (mf_and fun _ => (have g13 : Ow w D T _ M0 (sI M 54 this v2.toNatClampNeg (mI M 52 this v2.toNatClampNeg)) := (Ow.wI (ow.to n0 rfl rfl) hf); (mo_w_Machine_begins_L61 hD n0 lQ hQ _ _ _ _  g13)))))))
set_option maxRecDepth 20000 in
theorem mo_w_Machine_begins {w : Nat} {D : Nat → Nat → Prop} {T : Nat → Prop} {h : Hot} {this : Nat} {a1 : Int32} {Q Q' : Mem → Prop} {M : Mem} (hD : Dok w D) (n0 : ow w D 46 this) (hQ : ∀ z0, Ow w D T h M z0 → Q z0 → Q' z0) : St w D T h M → w_Machine_begins this a1 Q M → w_Machine_begins this a1 Q' M := by
  intro hs
  unfold w_Machine_begins
  exact (mf_and fun _ => (Exists.imp fun i2 => (mf_and fun e1 => (mf_and fun _ => (Exists.imp fun M4 => (mf_and fun e3 => (have g4 : Ow w D T _ M M4 := Ow.of e3 (Ow.wI (ow.to n0 rfl rfl) (Ow.wI n0 (Ow.rf hs))); (mf_and fun _ => (Exists.imp fun M6 => (mf_and fun e5 => (have g6 : Ow w D T _ M M6 := Ow.of e5 (Ow.wI (ow.to n0 rfl rfl) (Ow.wI (ow.to n0 rfl rfl) g4)); (mo_w_Machine_event hD (ow.to n0 rfl rfl) (fun M7 f7 => (have g8 : Ow w D T _ M M7 := (Ow.trans g6 f7); (mf_and fun _ => (Exists.imp fun n22 => (mo_w_Machine_begins_L61 hD (ow.to n0 rfl rfl) (fun _ e => e) hQ _ _ _ _  g8))))) g6.1))))))))))))
set_option maxRecDepth 20000 in
theorem mo_w_Machine_mustStart_j82 {w : Nat} {D : Nat → Nat → Prop} {T : Nat → Prop} {h : Hot} {this : Nat} {Q Q' : Int32 → Mem → Prop} {h_Q : Hot} {v1 : Int32} {s0 : Int32} {M : Mem} {M0 : Mem} (hD : Dok w D) (n0 : ow w D 46 this) (lQ : ∀ t, h_Q t = true → h t = true) (hQ : ∀ z0 z1, Ow w D T h_Q M0 z1 → Q z0 z1 → Q' z0 z1) : Ow w D T h M0 M → w_Machine_mustStart_j82 this Q v1 s0 M → w_Machine_mustStart_j82 this Q' v1 s0 M := by
  intro hf
  unfold w_Machine_mustStart_j82
  exact (mf_ite (mo_w_Machine_begins hD n0 (fun M12 f1 => (have g2 : Ow w D T _ M0 M12 := (Ow.trans hf f1); (hQ _ _  (Ow.dn lQ g2)))) hf.1) (hQ _ _  (Ow.dn lQ (Ow.wI (ow.to n0 rfl rfl) hf))))
set_option maxRecDepth 20000 in
theorem mo_w_Machine_mustStart {w : Nat} {D : Nat → Nat → Prop} {T : Nat → Prop} {h : Hot} {this : Nat} {a1 : Int32} {Q Q' : Int32 → Mem → Prop} {M : Mem} (hD : Dok w D) (n0 : ow w D 6 this) (hQ : ∀ z0 z1, Ow w D T h M z1 → Q z0 z1 → Q' z0 z1) : St w D T h M → w_Machine_mustStart this a1 Q M → w_Machine_mustStart this a1 Q' M := by
  intro hs
  unfold w_Machine_mustStart
  exact (mf_and fun _ => (mf_ite (hQ _ _  (Ow.rf hs)) (mf_and fun _ => (mf_ite (mf_and fun _ => (Exists.imp fun i6 => (mf_and fun e1 => (mf_ite (hQ _ _  (Ow.rf hs)) (Exists.imp fun i8 => (mf_and fun e3 => (have o4 : ow w D 7 i8 := (Ow.r1 e3 rfl rfl n0 (Ow.rf hs)); (hQ _ _  (Ow.wI o4 (Ow.rf hs)))))))))) (mf_and fun _ => (mf_ite (mo_w_Machine_mustStart_j82 hD (ow.to n0 rfl rfl) (fun _ e => e) hQ (Ow.rf hs)) (mo_w_World_link hD (ow.to n0 rfl rfl) (fun r14 M13 f5 => (have g6 : Ow w D T _ M M13 := (Ow.trans (Ow.rf hs) f5); (mo_w_Machine_mustStart_j82 hD (ow.to n0 rfl rfl) (fun _ e => e) hQ g6))) (Ow.rf hs).1)))))))
set_option maxRecDepth 20000 in
theorem mo_w_Machine_isReady_j20 {w : Nat} {D : Nat → Nat → Prop} {T : Nat → Prop} {h : Hot} {this : Nat} {Q Q' : Int32 → Mem → Prop} {h_Q : Hot} {v2 : Int32} {M : Mem} {M0 : Mem} (hD : Dok w D)  (lQ : ∀ t, h_Q t = true → h t = true) (hQ : ∀ z0 z1, Ow w D T h_Q M0 z1 → Q z0 z1 → Q' z0 z1) : Ow w D T h M0 M → w_Machine_isReady_j20 this Q v2 M → w_Machine_isReady_j20 this Q' v2 M := by
  intro hf
  unfold w_Machine_isReady_j20
  exact (mf_ite (hQ _ _  (Ow.dn lQ hf)) (hQ _ _  (Ow.dn lQ hf)))
set_option maxRecDepth 20000 in
theorem mo_w_Machine_isReady {w : Nat} {D : Nat → Nat → Prop} {T : Nat → Prop} {h : Hot} {this : Nat} {a1 : Int32} {Q Q' : Int32 → Mem → Prop} {M : Mem} (hD : Dok w D) (n0 : ow w D 6 this) (hQ : ∀ z0 z1, Ow w D T h M z1 → Q z0 z1 → Q' z0 z1) : St w D T h M → w_Machine_isReady this a1 Q M → w_Machine_isReady this a1 Q' M := by
  intro hs
  unfold w_Machine_isReady
  exact (mo_w_Machine_mustStart hD n0 (fun r2 M1 f1 => (have g2 : Ow w D T _ M M1 := (Ow.trans (Ow.rf hs) f1); (mf_ite (mo_w_Machine_fails hD n0 (fun M4 f3 => (have g4 : Ow w D T _ M M4 := (Ow.trans g2 f3); (mo_w_Machine_isReady_j20 hD  (fun _ e => e) hQ g4))) g2.1) (mo_w_Machine_isReady_j20 hD  (fun _ e => e) hQ g2)))) (Ow.rf hs).1)
set_option maxRecDepth 20000 in
theorem mo_w_Machine_enter_L103 {w : Nat} {D : Nat → Nat → Prop} {T : Nat → Prop} {h : Hot} {this : Nat} {Q Q' : Int32 → Mem → Prop} {h_Q : Hot} {M0 : Mem} (hD : Dok w D) (n0 : ow w D 6 this) (lQ : ∀ t, h_Q t = true → h t = true) (hQ : ∀ z0 z1, Ow w D T h_Q M0 z1 → Q z0 z1 → Q' z0 z1) : ∀ (n : Nat) (v2 : Int32) (v3 : Int32) (M : Mem), Ow w D T h M0 M → w_Machine_enter_L103 this Q n v2 v3 M → w_Machine_enter_L103 this Q' n v2 v3 M
  | 0, _, _, _ => fun  _ h => h
  | n + 1, v2, v3, M => fun  hf => by
    unfold w_Machine_enter_L103
    exact (mf_ite (hQ _ _  (Ow.dn lQ hf)) (mo_w_Machine_set hD n0 (fun M20 f1 => (have g2 : Ow w D T _ M0 M20 := (Ow.trans hf f1); (mo_w_Machine_enter_L103 hD n0 lQ hQ _ _ _ _  g2))) hf.1))
set_option maxRecDepth 20000 in
theorem mo_w_Machine_enter {w : Nat} {D : Nat → Nat → Prop} {T : Nat → Prop} {h : Hot} {this : Nat} {a1 : Int32} {Q Q' : Int32 → Mem → Prop} {M : Mem} (hD : Dok w D) (n0 : ow w D 6 this) (hQ : ∀ z0 z1, Ow w D T h M z1 → Q z0 z1 → Q' z0 z1) : St w D T h M → w_Machine_enter this a1 Q M → w_Machine_enter this a1 Q' M := by
  intro hs
  unfold w_Machine_enter
  exact (Exists.imp fun i1 => (mf_and fun e1 => (mf_ite (mo_w_Machine_fail hD n0 (fun M3 f3 => (have g4 : Ow w D T _ M M3 := (Ow.trans (Ow.rf hs) f3); (hQ _ _  g4))) (Ow.rf hs).1) (Exists.imp fun i4 => (mf_and fun e5 => (Exists.imp fun i5 => (mf_and fun e7 => (have o8 : ow w D 7 i5 := (Ow.r1 e7 rfl rfl n0 (Ow.rf hs)); (Exists.imp fun i6 => (mf_and fun e9 => (have o10 : ow w D 7 i6 := (Ow.r1 e9 rfl rfl n0 (Ow.wI o8 (Ow.rf hs))); (Exists.imp fun M7 => (mf_and fun e11 => (have g12 : Ow w D T _ M M7 := Ow.of e11 (Ow.wI o10 (Ow.wI o8 (Ow.rf hs))); (Exists.imp fun i8 => (mf_and fun e13 => (have o14 : ow w D 7 i8 := (Ow.r1 e13 rfl rfl n0 g12); (mf_and fun _ => (Exists.imp fun i10 => (mf_and fun e15 => (have o16 : ow w D 7 i10 := (Ow.r1 e15 rfl rfl n0 (Ow.wI (ow.to o14 rfl rfl) g12)); (mf_and fun _ => (Exists.imp fun M12 => (mf_and fun e17 => (have g18 : Ow w D T _ M M12 := Ow.of e17 (Ow.wI (ow.to o16 rfl rfl) (Ow.wI (ow.to o14 rfl rfl) g12)); (Exists.imp fun i13 => (mf_and fun e19 => (have o20 : ow w D 7 i13 := (Ow.r1 e19 rfl rfl n0 g18); (mf_and fun _ => (Exists.imp fun i15 => (mf_and fun e21 => (have o22 : ow w D 7 i15 := (Ow.r1 e21 rfl rfl n0 (Ow.wI (ow.to o20 rfl rfl) g18)); (mf_and fun _ => (Exists.imp fun M17 => (mf_and fun e23 => (have g24 : Ow w D T _ M M17 := Ow.of e23 (Ow.wI (ow.to o22 rfl rfl) (Ow.wI (ow.to o20 rfl rfl) g18)); (mo_w_Machine_methodEvent hD (ow.to n0 rfl rfl) (fun M18 f25 => (have g26 : Ow w D T _ M M18 := (Ow.trans g24 f25); (Exists.imp fun n21 => (mo_w_Machine_enter_L103 hD n0 (fun _ e => e) hQ _ _ _ _  g26)))) g24.1)))))))))))))))))))))))))))))))))))))
set_option maxRecDepth 20000 in
theorem mo_w_Machine_first_L53 {w : Nat} {D : Nat → Nat → Prop} {T : Nat → Prop} {h : Hot} {this : Nat} {Q Q' : Mem → Prop} {h_Q : Hot} {M0 : Mem} (hD : Dok w D) (n0 : ow w D 6 this) (lQ : ∀ t, h_Q t = true → h t = true) (hQ : ∀ z0, Ow w D T h_Q M0 z0 → Q z0 → Q' z0) : ∀ (n : Nat) (v1 : Int32) (v2 : Int32) (M : Mem), Ow w D T h M0 M → w_Machine_first_L53 this Q n v1 v2 M → w_Machine_first_L53 this Q' n v1 v2 M
  | 0, _, _, _ => fun  _ h => h
  | n + 1, v1, v2, M => fun  hf => by
    unfold w_Machine_first_L53
    exact (mf_and fun _ => (mf_ite (hQ _  (Ow.dn lQ hf)) (Exists.imp fun i14 => (mf_and fun e1 => (mf_and fun _ => (mo_w_Machine_set hD n0 (fun M16 f3 => (have g4 : Ow w D T _ M0 M16 := (Ow.trans hf f3); (mo_w_Machine_first_L53 hD n0 lQ hQ _ _ _ _  g4))) hf.1))))))
set_option maxRecDepth 20000 in
theorem mo_w_Machine_first {w : Nat} {D : Nat → Nat → Prop} {T : Nat → Prop} {h : Hot} {this : Nat} {Q Q' : Mem → Prop} {M : Mem} (hD : Dok w D) (n0 : ow w D 47 this) (hQ : ∀ z0, Ow w D T h M z0 → Q z0 → Q' z0) : St w D T h M → w_Machine_first this Q M → w_Machine_first this Q' M := by
  intro hs
  unfold w_Machine_first
  exact (Exists.imp fun i1 => (mf_and fun e1 => (mo_w_Machine_findMethod hD n0 (fun r3 M2 f3 => (have g4 : Ow w D T _ M M2 := (Ow.trans (Ow.rf hs) f3); (mf_ite (mf_and fun _ => (mo_w_Machine_isReady hD (ow.to n0 rfl rfl) (fun r7 M6 f5 => (have g6 : Ow w D T _ M M6 := (Ow.trans g4 f5); (mf_ite (hQ _  g6) (mo_w_Machine_enter hD (ow.to n0 rfl rfl) (fun r10 M9 f7 => (have g8 : Ow w D T _ M M9 := (Ow.trans g6 f7); (mf_ite (hQ _  g8) (Exists.imp fun n17 => (mo_w_Machine_first_L53 hD (ow.to n0 rfl rfl) (fun _ e => e) hQ _ _ _ _  g8))))) g6.1)))) g4.1)) (mo_w_Machine_fails hD (ow.to n0 rfl rfl) (fun M18 f9 => (have g10 : Ow w D T _ M M18 := (Ow.trans g4 f9); (hQ _  g10))) g4.1)))) (Ow.rf hs).1)))
set_option maxRecDepth 20000 in
theorem mo_w_Machine_ownStart_L10 {w : Nat} {D : Nat → Nat → Prop} {T : Nat → Prop} {h : Hot} {this : Nat} {Q Q' : Int32 → Mem → Prop} {h_Q : Hot} {M0 : Mem} (hD : Dok w D)  (lQ : ∀ t, h_Q t = true → h t = true) (hQ : ∀ z0 z1, Ow w D T h_Q M0 z1 → Q z0 z1 → Q' z0 z1) : ∀ (n : Nat) (v1 : Int32) (v2 : Int32) (M : Mem), Ow w D T h M0 M → w_Machine_ownStart_L10 this Q n v1 v2 M → w_Machine_ownStart_L10 this Q' n v1 v2 M
  | 0, _, _, _ => fun  _ h => h
  | n + 1, v1, v2, M => fun  hf => by
    unfold w_Machine_ownStart_L10
    exact (mf_and fun _ => (mf_and fun _ => (mf_ite (hQ _ _  (Ow.dn lQ hf)) (mf_and fun _ => (mf_ite (hQ _ _  (Ow.dn lQ hf)) (mo_w_Machine_ownStart_L10 hD  lQ hQ _ _ _ _  hf))))))
set_option maxRecDepth 20000 in
theorem mo_w_Machine_ownStart {w : Nat} {D : Nat → Nat → Prop} {T : Nat → Prop} {h : Hot} {this : Nat} {a1 : Int32} {Q Q' : Int32 → Mem → Prop} {M : Mem} (hD : Dok w D)  (hQ : ∀ z0 z1, Ow w D T h M z1 → Q z0 z1 → Q' z0 z1) : St w D T h M → w_Machine_ownStart this a1 Q M → w_Machine_ownStart this a1 Q' M := by
  intro hs
  unfold w_Machine_ownStart
  exact (mf_and fun _ => (Exists.imp fun n7 => (mo_w_Machine_ownStart_L10 hD  (fun _ e => e) hQ _ _ _ _  (Ow.rf hs))))
set_option maxRecDepth 20000 in
theorem mo_w_Machine_startEnds {w : Nat} {D : Nat → Nat → Prop} {T : Nat → Prop} {h : Hot} {this : Nat} {a1 : Int32} {Q Q' : Mem → Prop} {M : Mem} (hD : Dok w D) (n0 : ow w D 46 this) (hQ : ∀ z0, Ow w D T h M z0 → Q z0 → Q' z0) : St w D T h M → w_Machine_startEnds this a1 Q M → w_Machine_startEnds this a1 Q' M := by
  intro hs
  unfold w_Machine_startEnds
  exact (mf_and fun _ => (have g1 : Ow w D T _ M (sI M 46 this a1.toNatClampNeg (2 : Int32)) := (Ow.wI n0 (Ow.rf hs)); (mo_w_Machine_event hD (ow.to n0 rfl rfl) (fun M2 f2 => (have g3 : Ow w D T _ M M2 := (Ow.trans g1 f2); (Exists.imp fun i3 => (mf_and fun e4 => (have o5 : ow w D 7 i3 := (Ow.r1 e4 rfl rfl (ow.to n0 rfl rfl) g3); (hQ _  (Ow.wI o5 g3))))))) g1.1)))
set_option maxRecDepth 20000 in
theorem mo_w_Machine_start_j49 {w : Nat} {D : Nat → Nat → Prop} {T : Nat → Prop} {h : Hot} {this : Nat} {Q Q' : Mem → Prop} {h_Q : Hot} {v1 : Int32} {v2 : Int32} {M : Mem} {M0 : Mem} (hD : Dok w D) (n0 : ow w D 6 this) (lQ : ∀ t, h_Q t = true → h t = true) (hQ : ∀ z0, Ow w D T h_Q M0 z0 → Q z0 → Q' z0) : Ow w D T h M0 M → w_Machine_start_j49 this Q v1 v2 M → w_Machine_start_j49 this Q' v1 v2 M := by
  intro hf
  unfold w_Machine_start_j49
  exact (Exists.imp fun i14 => (mf_and fun e1 => (have o2 : ow w D 7 i14 := (Ow.r1 e1 rfl rfl n0 hf); (mf_and fun _ => (have g3 : Ow w D T _ M0 (sI M 93 i14 v1.toNatClampNeg (1 : Int32)) := (Ow.wI (ow.to o2 rfl rfl) hf); (mo_w_Machine_ownStart hD  (fun r17 M16 f4 => (have g5 : Ow w D T _ M0 M16 := (Ow.trans g3 f4); (mf_ite (mo_w_Machine_startEnds hD (ow.to n0 rfl rfl) (fun M19 f6 => (have g7 : Ow w D T _ M0 M19 := (Ow.trans g5 f6); (hQ _  (Ow.dn lQ g7)))) g5.1) (mo_w_Machine_enter hD n0 (fun r21 M20 f8 => (have g9 : Ow w D T _ M0 M20 := (Ow.trans g5 f8); (hQ _  (Ow.dn lQ g9)))) g5.1)))) g3.1))))))
set_option maxRecDepth 20000 in
theorem mo_w_Machine_start {w : Nat} {D : Nat → Nat → Prop} {T : Nat → Prop} {h : Hot} {this : Nat} {a1 : Int32} {Q Q' : Mem → Prop} {M : Mem} (hD : Dok w D) (n0 : ow w D 6 this) (hQ : ∀ z0, Ow w D T h M z0 → Q z0 → Q' z0) : St w D T h M → w_Machine_start this a1 Q M → w_Machine_start this a1 Q' M := by
  intro hs
  unfold w_Machine_start
  exact (Exists.imp fun i1 => (mf_and fun e1 => (mf_and fun _ => (Exists.imp fun i3 => (mf_and fun e3 => (mf_and fun _ => (mf_ite (mo_w_World_isFace hD  (fun r7 M6 f5 => (have g6 : Ow w D T _ M M6 := (Ow.trans (Ow.rf hs) f5); (mf_ite (mo_w_World_up hD  (fun r10 M9 f7 => (have g8 : Ow w D T _ M M9 := (Ow.trans g6 f7); (mo_w_Machine_isReady hD n0 (fun r12 M11 f9 => (have g10 : Ow w D T _ M M11 := (Ow.trans g8 f9); (mf_ite (hQ _  g10) (mo_w_Machine_start_j49 hD n0 (fun _ e => e) hQ g10)))) g8.1))) g6.1) (mo_w_Machine_start_j49 hD n0 (fun _ e => e) hQ g6)))) (Ow.rf hs).1) (mo_w_Machine_start_j49 hD n0 (fun _ e => e) hQ (Ow.rf hs)))))))))
set_option maxRecDepth 20000 in
theorem mo_wk_World_fieldByFaces_L86 {w : Nat} {D : Nat → Nat → Prop} {T : Nat → Prop} {h : Hot} {K K' : Nat → Int32 → Int32 → Int32 → (Int32 → Mem → Prop) → Mem → Prop} {this : Nat} {Q Q' : Int32 → Mem → Prop} {h_Q : Hot} {M0 : Mem} (hD : Dok w D) (n0 : ow w D 77 this) (hK : ∀ {h' : Hot} {x0 : Nat} {x1 : Int32} {x2 : Int32} {x3 : Int32} {x5 : Mem} {q q' : Int32 → Mem → Prop}, ow w D 77 x0 → St w D T h' x5 → (∀ z0 z1, Ow w D T h' x5 z1 → q z0 z1 → q' z0 z1) → K x0 x1 x2 x3 q x5 → K' x0 x1 x2 x3 q' x5) (lQ : ∀ t, h_Q t = true → h t = true) (hQ : ∀ z0 z1, Ow w D T h_Q M0 z1 → Q z0 z1 → Q' z0 z1) : ∀ (n : Nat) (v1 : Int32) (v2 : Int32) (v3 : Int32) (v4 : Int32) (M : Mem), Ow w D T h M0 M → wk_World_fieldByFaces_L86 K this Q n v1 v2 v3 v4 M → wk_World_fieldByFaces_L86 K' this Q' n v1 v2 v3 v4 M
  | 0, _, _, _, _, _ => fun  _ h => h
  | n + 1, v1, v2, v3, v4, M => fun  hf => by
    unfold wk_World_fieldByFaces_L86
    exact (mf_and fun _ => (mf_ite (hQ _ _  (Ow.dn lQ hf)) (mf_and fun _ => (mo_w_World_find hD  (fun r13 M12 f1 => (have g2 : Ow w D T _ M0 M12 := (Ow.trans hf f1); (hK n0 g2.1 (fun r15 M14 f3 => (have g4 : Ow w D T _ M0 M14 := (Ow.trans g2 f3); (mf_ite (mo_wk_World_fieldByFaces_L86 hD n0 @hK lQ hQ _ _ _ _ _ _  g4) (hQ _ _  (Ow.dn lQ g4)))))))) hf.1))))
set_option maxRecDepth 20000 in
theorem mo_wk_World_fieldByFaces_j77 {w : Nat} {D : Nat → Nat → Prop} {T : Nat → Prop} {h : Hot} {K K' : Nat → Int32 → Int32 → Int32 → (Int32 → Mem → Prop) → Mem → Prop} {this : Nat} {Q Q' : Int32 → Mem → Prop} {h_Q : Hot} {k34 k34' : Int32 → Int32 → Int32 → Int32 → Mem → Prop} {h_k34 : Hot} {v1 : Int32} {v2 : Int32} {v3 : Int32} {v4 : Int32} {M : Mem} {M0 : Mem} (hD : Dok w D)  (hK : ∀ {h' : Hot} {x0 : Nat} {x1 : Int32} {x2 : Int32} {x3 : Int32} {x5 : Mem} {q q' : Int32 → Mem → Prop}, ow w D 77 x0 → St w D T h' x5 → (∀ z0 z1, Ow w D T h' x5 z1 → q z0 z1 → q' z0 z1) → K x0 x1 x2 x3 q x5 → K' x0 x1 x2 x3 q' x5) (lQ : ∀ t, h_Q t = true → h t = true) (hQ : ∀ z0 z1, Ow w D T h_Q M0 z1 → Q z0 z1 → Q' z0 z1) (lk34 : ∀ t, h_k34 t = true → h t = true) (hk34 : ∀ z0 z1 z2 z3 z4, Ow w D T h_k34 M0 z4 → k34 z0 z1 z2 z3 z4 → k34' z0 z1 z2 z3 z4) : Ow w D T h M0 M → wk_World_fieldByFaces_j77 K this Q k34 v1 v2 v3 v4 M → wk_World_fieldByFaces_j77 K' this Q' k34' v1 v2 v3 v4 M := by
  intro hf
  unfold wk_World_fieldByFaces_j77
  exact (hk34 _ _ _ _ _  (Ow.dn lk34 hf))
set_option maxRecDepth 20000 in
theorem mo_wk_World_fieldByFaces_L34 {w : Nat} {D : Nat → Nat → Prop} {T : Nat → Prop} {h : Hot} {K K' : Nat → Int32 → Int32 → Int32 → (Int32 → Mem → Prop) → Mem → Prop} {this : Nat} {Q Q' : Int32 → Mem → Prop} {h_Q : Hot} {M0 : Mem} (hD : Dok w D) (n0 : ow w D 77 this) (hK : ∀ {h' : Hot} {x0 : Nat} {x1 : Int32} {x2 : Int32} {x3 : Int32} {x5 : Mem} {q q' : Int32 → Mem → Prop}, ow w D 77 x0 → St w D T h' x5 → (∀ z0 z1, Ow w D T h' x5 z1 → q z0 z1 → q' z0 z1) → K x0 x1 x2 x3 q x5 → K' x0 x1 x2 x3 q' x5) (lQ : ∀ t, h_Q t = true → h t = true) (hQ : ∀ z0 z1, Ow w D T h_Q M0 z1 → Q z0 z1 → Q' z0 z1) : ∀ (n : Nat) (v1 : Int32) (v2 : Int32) (v3 : Int32) (v4 : Int32) (M : Mem), Ow w D T h M0 M → wk_World_fieldByFaces_L34 K this Q n v1 v2 v3 v4 M → wk_World_fieldByFaces_L34 K' this Q' n v1 v2 v3 v4 M
  | 0, _, _, _, _, _ => fun  _ h => h
  | n + 1, v1, v2, v3, v4, M => fun  hf => by
    unfold wk_World_fieldByFaces_L34
    exact (mf_and fun _ => (mf_and fun _ => (mf_ite (Exists.imp fun n17 => (mo_wk_World_fieldByFaces_L86 hD n0 @hK lQ hQ _ _ _ _ _ _  hf)) (mf_and fun _ => (mf_ite (mf_and fun _ => (mf_ite (hQ _ _  (Ow.dn lQ hf)) (mo_wk_World_fieldByFaces_j77 hD  @hK lQ hQ (fun _ e => e) (fun y0 y1 y2 y3 y4  hf => mo_wk_World_fieldByFaces_L34 hD n0 @hK lQ hQ n y0 y1 y2 y3 y4  hf) hf))) (mo_wk_World_fieldByFaces_j77 hD  @hK lQ hQ (fun _ e => e) (fun y0 y1 y2 y3 y4  hf => mo_wk_World_fieldByFaces_L34 hD n0 @hK lQ hQ n y0 y1 y2 y3 y4  hf) hf))))))
set_option maxRecDepth 20000 in
theorem mo_wk_World_fieldByFaces {w : Nat} {D : Nat → Nat → Prop} {T : Nat → Prop} {h : Hot} {K K' : Nat → Int32 → Int32 → Int32 → (Int32 → Mem → Prop) → Mem → Prop} {this : Nat} {a1 : Int32} {a2 : Int32} {a3 : Int32} {Q Q' : Int32 → Mem → Prop} {M : Mem} (hD : Dok w D) (n0 : ow w D 77 this) (hK : ∀ {h' : Hot} {x0 : Nat} {x1 : Int32} {x2 : Int32} {x3 : Int32} {x5 : Mem} {q q' : Int32 → Mem → Prop}, ow w D 77 x0 → St w D T h' x5 → (∀ z0 z1, Ow w D T h' x5 z1 → q z0 z1 → q' z0 z1) → K x0 x1 x2 x3 q x5 → K' x0 x1 x2 x3 q' x5) (hQ : ∀ z0 z1, Ow w D T h M z1 → Q z0 z1 → Q' z0 z1) : St w D T h M → wk_World_fieldByFaces K this a1 a2 a3 Q M → wk_World_fieldByFaces K' this a1 a2 a3 Q' M := by
  intro hs
  unfold wk_World_fieldByFaces
  exact (mf_and fun _ => (mf_ite (hQ _ _  (Ow.rf hs)) (mf_and fun _ => (mf_and fun _ => (Exists.imp fun x5 => (mf_and fun _ => (Exists.imp fun n22 => (have g1 : Ow w D T _ M (sI M 77 this a1.toNatClampNeg (mI M 5 this 61)) := (Ow.wI n0 (Ow.rf hs)); (mo_wk_World_fieldByFaces_L34 hD n0 @hK (fun _ e => e) hQ _ _ _ _ _ _  g1)))))))))
set_option maxRecDepth 20000 in
theorem mo_wr_World_fieldByFaces {w : Nat} {D : Nat → Nat → Prop} {T : Nat → Prop} (hD : Dok w D) : ∀ (n : Nat) {h : Hot} {x0 : Nat} {x1 : Int32} {x2 : Int32} {x3 : Int32} {x5 : Mem} {Q Q' : Int32 → Mem → Prop}, ow w D 77 x0 → St w D T h x5 → (∀ z0 z1, Ow w D T h x5 z1 → Q z0 z1 → Q' z0 z1) → wr_World_fieldByFaces n x0 x1 x2 x3 Q x5 → wr_World_fieldByFaces n x0 x1 x2 x3 Q' x5
  | 0 => fun _ _ _ h => h
  | n + 1 => fun n0 hs hq => mo_wk_World_fieldByFaces hD n0 (fun u0 hs hq => mo_wr_World_fieldByFaces hD n u0 hs hq) hq hs
set_option maxRecDepth 20000 in
theorem mo_w_World_fieldByFaces {w : Nat} {D : Nat → Nat → Prop} {T : Nat → Prop} {h : Hot} {this : Nat} {a1 : Int32} {a2 : Int32} {a3 : Int32} {Q Q' : Int32 → Mem → Prop} {M : Mem} (hD : Dok w D) (n0 : ow w D 77 this) (hQ : ∀ z0 z1, Ow w D T h M z1 → Q z0 z1 → Q' z0 z1) : St w D T h M → w_World_fieldByFaces this a1 a2 a3 Q M → w_World_fieldByFaces this a1 a2 a3 Q' M := by
  intro hs
  unfold w_World_fieldByFaces
  exact (Exists.imp fun n => (mf_and fun _ => (mo_wr_World_fieldByFaces hD _ n0 (Ow.rf hs).1 (fun z2 z3 f1 => hQ z2 z3 (Ow.trans (Ow.rf hs) f1)))))
set_option maxRecDepth 20000 in
theorem mo_w_World_field_L7 {w : Nat} {D : Nat → Nat → Prop} {T : Nat → Prop} {h : Hot} {this : Nat} {Q Q' : Int32 → Mem → Prop} {h_Q : Hot} {M0 : Mem} (hD : Dok w D) (n0 : ow w D 77 this) (lQ : ∀ t, h_Q t = true → h t = true) (hQ : ∀ z0 z1, Ow w D T h_Q M0 z1 → Q z0 z1 → Q' z0 z1) : ∀ (n : Nat) (v2 : Int32) (v3 : Int32) (v4 : Int32) (M : Mem), Ow w D T h M0 M → w_World_field_L7 this Q n v2 v3 v4 M → w_World_field_L7 this Q' n v2 v3 v4 M
  | 0, _, _, _, _ => fun  _ h => h
  | n + 1, v2, v3, v4, M => fun  hf => by
    unfold w_World_field_L7
    exact (mf_ite (hQ _ _  (Ow.dn lQ hf)) (mo_w_World_fieldByFaces hD n0 (fun r4 M3 f1 => (have g2 : Ow w D T _ M0 M3 := (Ow.trans hf f1); (mf_ite (mo_w_World_up hD  (fun r7 M6 f3 => (have g4 : Ow w D T _ M0 M6 := (Ow.trans g2 f3); (mo_w_World_field_L7 hD n0 lQ hQ _ _ _ _ _  g4))) g2.1) (hQ _ _  (Ow.dn lQ g2))))) hf.1))
set_option maxRecDepth 20000 in
theorem mo_w_World_field {w : Nat} {D : Nat → Nat → Prop} {T : Nat → Prop} {h : Hot} {this : Nat} {a1 : Int32} {a2 : Int32} {a3 : Int32} {Q Q' : Int32 → Mem → Prop} {M : Mem} (hD : Dok w D) (n0 : ow w D 5 this) (hQ : ∀ z0 z1, Ow w D T h M z1 → Q z0 z1 → Q' z0 z1) : St w D T h M → w_World_field this a1 a2 a3 Q M → w_World_field this a1 a2 a3 Q' M := by
  intro hs
  unfold w_World_field
  exact (mo_w_World_nextStamp hD n0 (fun M1 f1 => (have g2 : Ow w D T _ M M1 := (Ow.trans (Ow.rf hs) f1); (Exists.imp fun n8 => (mo_w_World_field_L7 hD (ow.to n0 rfl rfl) (fun _ e => e) hQ _ _ _ _ _  g2)))) (Ow.rf hs).1)
set_option maxRecDepth 20000 in
theorem mo_w_World_classOfField_j30 {w : Nat} {D : Nat → Nat → Prop} {T : Nat → Prop} {h : Hot} {this : Nat} {Q Q' : Int32 → Mem → Prop} {h_Q : Hot} {k3 k3' : Int32 → Int32 → Mem → Prop} {h_k3 : Hot} {v1 : Int32} {v2 : Int32} {M : Mem} {M0 : Mem} (hD : Dok w D)  (lQ : ∀ t, h_Q t = true → h t = true) (hQ : ∀ z0 z1, Ow w D T h_Q M0 z1 → Q z0 z1 → Q' z0 z1) (lk3 : ∀ t, h_k3 t = true → h t = true) (hk3 : ∀ z0 z1 z2, Ow w D T h_k3 M0 z2 → k3 z0 z1 z2 → k3' z0 z1 z2) : Ow w D T h M0 M → w_World_classOfField_j30 this Q k3 v1 v2 M → w_World_classOfField_j30 this Q' k3' v1 v2 M := by
  intro hf
  unfold w_World_classOfField_j30
  exact (hk3 _ _ _  (Ow.dn lk3 hf))
set_option maxRecDepth 20000 in
theorem mo_w_World_classOfField_L3 {w : Nat} {D : Nat → Nat → Prop} {T : Nat → Prop} {h : Hot} {this : Nat} {Q Q' : Int32 → Mem → Prop} {h_Q : Hot} {M0 : Mem} (hD : Dok w D)  (lQ : ∀ t, h_Q t = true → h t = true) (hQ : ∀ z0 z1, Ow w D T h_Q M0 z1 → Q z0 z1 → Q' z0 z1) : ∀ (n : Nat) (v1 : Int32) (v2 : Int32) (M : Mem), Ow w D T h M0 M → w_World_classOfField_L3 this Q n v1 v2 M → w_World_classOfField_L3 this Q' n v1 v2 M
  | 0, _, _, _ => fun  _ h => h
  | n + 1, v1, v2, M => fun  hf => by
    unfold w_World_classOfField_L3
    exact (mf_and fun _ => (mf_ite (mo_w_World_classOfField_j30 hD  lQ hQ (fun _ e => e) (fun y0 y1 y2  hf => mo_w_World_classOfField_L3 hD  lQ hQ n y0 y1 y2  hf) hf) (mf_and fun _ => (mf_and fun _ => (mf_ite (hQ _ _  (Ow.dn lQ hf)) (mo_w_World_classOfField_j30 hD  lQ hQ (fun _ e => e) (fun y0 y1 y2  hf => mo_w_World_classOfField_L3 hD  lQ hQ n y0 y1 y2  hf) hf))))))
set_option maxRecDepth 20000 in
theorem mo_w_World_classOfField {w : Nat} {D : Nat → Nat → Prop} {T : Nat → Prop} {h : Hot} {this : Nat} {a1 : Int32} {Q Q' : Int32 → Mem → Prop} {M : Mem} (hD : Dok w D)  (hQ : ∀ z0 z1, Ow w D T h M z1 → Q z0 z1 → Q' z0 z1) : St w D T h M → w_World_classOfField this a1 Q M → w_World_classOfField this a1 Q' M := by
  intro hs
  unfold w_World_classOfField
  exact (Exists.imp fun n6 => (mo_w_World_classOfField_L3 hD  (fun _ e => e) hQ _ _ _ _  (Ow.rf hs)))
set_option maxRecDepth 20000 in
theorem mo_w_Machine_findField_j214 {w : Nat} {D : Nat → Nat → Prop} {T : Nat → Prop} {h : Hot} {this : Nat} {Q Q' : Int32 → Mem → Prop} {h_Q : Hot} {v3 : Int32} {v6 : Int32} {v8 : Int32} {s0 : Int32} {M : Mem} {M0 : Mem} (hD : Dok w D)  (lQ : ∀ t, h_Q t = true → h t = true) (hQ : ∀ z0 z1, Ow w D T h_Q M0 z1 → Q z0 z1 → Q' z0 z1) : Ow w D T h M0 M → w_Machine_findField_j214 this Q v3 v6 v8 s0 M → w_Machine_findField_j214 this Q' v3 v6 v8 s0 M := by
  intro hf
  unfold w_Machine_findField_j214
  exact (mf_ite (hQ _ _  (Ow.dn lQ hf)) (mf_ite (hQ _ _  (Ow.dn lQ hf)) (mf_ite (mo_w_World_asks hD  (fun r32 M31 f1 => (have g2 : Ow w D T _ M0 M31 := (Ow.trans hf f1); (mf_ite (hQ _ _  (Ow.dn lQ g2)) (mo_w_Machine_thrown hD  (fun r35 M34 f3 => (have g4 : Ow w D T _ M0 M34 := (Ow.trans g2 f3); (hQ _ _  (Ow.dn lQ g4)))) g2.1)))) hf.1) (hQ _ _  (Ow.dn lQ hf)))))
set_option maxRecDepth 20000 in
theorem mo_w_Machine_findField_j213 {w : Nat} {D : Nat → Nat → Prop} {T : Nat → Prop} {h : Hot} {this : Nat} {Q Q' : Int32 → Mem → Prop} {h_Q : Hot} {v3 : Int32} {v6 : Int32} {v8 : Int32} {M : Mem} {M0 : Mem} (hD : Dok w D)  (lQ : ∀ t, h_Q t = true → h t = true) (hQ : ∀ z0 z1, Ow w D T h_Q M0 z1 → Q z0 z1 → Q' z0 z1) : Ow w D T h M0 M → w_Machine_findField_j213 this Q v3 v6 v8 M → w_Machine_findField_j213 this Q' v3 v6 v8 M := by
  intro hf
  unfold w_Machine_findField_j213
  exact (mo_w_Machine_findField_j214 hD  lQ hQ hf)
set_option maxRecDepth 20000 in
theorem mo_w_Machine_findField_j206 {w : Nat} {D : Nat → Nat → Prop} {T : Nat → Prop} {h : Hot} {this : Nat} {Q Q' : Int32 → Mem → Prop} {h_Q : Hot} {v3 : Int32} {v6 : Int32} {v8 : Int32} {s0 : Int32} {s1 : Int32} {M : Mem} {M0 : Mem} (hD : Dok w D)  (lQ : ∀ t, h_Q t = true → h t = true) (hQ : ∀ z0 z1, Ow w D T h_Q M0 z1 → Q z0 z1 → Q' z0 z1) : Ow w D T h M0 M → w_Machine_findField_j206 this Q v3 v6 v8 s0 s1 M → w_Machine_findField_j206 this Q' v3 v6 v8 s0 s1 M := by
  intro hf
  unfold w_Machine_findField_j206
  exact (mf_ite (mo_w_Machine_findField_j214 hD  lQ hQ hf) (mo_w_Machine_findField_j213 hD  lQ hQ hf))
set_option maxRecDepth 20000 in
theorem mo_w_Machine_findField_j170 {w : Nat} {D : Nat → Nat → Prop} {T : Nat → Prop} {h : Hot} {this : Nat} {Q Q' : Int32 → Mem → Prop} {h_Q : Hot} {v2 : Int32} {v3 : Int32} {v4 : Int32} {v6 : Int32} {v7 : Int32} {v8 : Int32} {M : Mem} {M0 : Mem} (hD : Dok w D)  (lQ : ∀ t, h_Q t = true → h t = true) (hQ : ∀ z0 z1, Ow w D T h_Q M0 z1 → Q z0 z1 → Q' z0 z1) : Ow w D T h M0 M → w_Machine_findField_j170 this Q v2 v3 v4 v6 v7 v8 M → w_Machine_findField_j170 this Q' v2 v3 v4 v6 v7 v8 M := by
  intro hf
  unfold w_Machine_findField_j170
  exact (mf_and fun _ => (mf_ite (mf_and fun _ => (mf_ite (mo_w_Machine_findField_j206 hD  lQ hQ hf) (mo_w_Machine_findField_j206 hD  lQ hQ hf))) (mo_w_Machine_findField_j213 hD  lQ hQ hf)))
set_option maxRecDepth 20000 in
theorem mo_w_Machine_findField_j161 {w : Nat} {D : Nat → Nat → Prop} {T : Nat → Prop} {h : Hot} {this : Nat} {Q Q' : Int32 → Mem → Prop} {h_Q : Hot} {M : Mem} {M0 : Mem} (hD : Dok w D)  (lQ : ∀ t, h_Q t = true → h t = true) (hQ : ∀ z0 z1, Ow w D T h_Q M0 z1 → Q z0 z1 → Q' z0 z1) : Ow w D T h M0 M → w_Machine_findField_j161 this Q M → w_Machine_findField_j161 this Q' M := by
  intro hf
  unfold w_Machine_findField_j161
  exact (mo_w_Machine_thrown hD  (fun r37 M36 f1 => (have g2 : Ow w D T _ M0 M36 := (Ow.trans hf f1); (hQ _ _  (Ow.dn lQ g2)))) hf.1)
set_option maxRecDepth 20000 in
theorem mo_w_Machine_findField_j141 {w : Nat} {D : Nat → Nat → Prop} {T : Nat → Prop} {h : Hot} {this : Nat} {Q Q' : Int32 → Mem → Prop} {h_Q : Hot} {v2 : Int32} {v3 : Int32} {v4 : Int32} {v6 : Int32} {v7 : Int32} {v8 : Int32} {s0 : Int32} {M : Mem} {M0 : Mem} (hD : Dok w D)  (lQ : ∀ t, h_Q t = true → h t = true) (hQ : ∀ z0 z1, Ow w D T h_Q M0 z1 → Q z0 z1 → Q' z0 z1) : Ow w D T h M0 M → w_Machine_findField_j141 this Q v2 v3 v4 v6 v7 v8 s0 M → w_Machine_findField_j141 this Q' v2 v3 v4 v6 v7 v8 s0 M := by
  intro hf
  unfold w_Machine_findField_j141
  exact (mf_ite (mf_ite (mo_w_World_isFace hD  (fun r21 M20 f1 => (have g2 : Ow w D T _ M0 M20 := (Ow.trans hf f1); (mf_ite (mo_w_Machine_findField_j170 hD  lQ hQ g2) (mo_w_Machine_findField_j161 hD  lQ hQ g2)))) hf.1) (mo_w_Machine_findField_j170 hD  lQ hQ hf)) (mo_w_Machine_findField_j161 hD  lQ hQ hf))
set_option maxRecDepth 20000 in
theorem mo_w_Machine_findField_j129 {w : Nat} {D : Nat → Nat → Prop} {T : Nat → Prop} {h : Hot} {this : Nat} {Q Q' : Int32 → Mem → Prop} {h_Q : Hot} {v2 : Int32} {v3 : Int32} {v4 : Int32} {v6 : Int32} {v7 : Int32} {v8 : Int32} {M : Mem} {M0 : Mem} (hD : Dok w D)  (lQ : ∀ t, h_Q t = true → h t = true) (hQ : ∀ z0 z1, Ow w D T h_Q M0 z1 → Q z0 z1 → Q' z0 z1) : Ow w D T h M0 M → w_Machine_findField_j129 this Q v2 v3 v4 v6 v7 v8 M → w_Machine_findField_j129 this Q' v2 v3 v4 v6 v7 v8 M := by
  intro hf
  unfold w_Machine_findField_j129
  exact (mf_ite (mo_w_Machine_findField_j141 hD  lQ hQ hf) (mo_w_Machine_findField_j141 hD  lQ hQ hf))
set_option maxRecDepth 20000 in
theorem mo_w_Machine_findField {w : Nat} {D : Nat → Nat → Prop} {T : Nat → Prop} {h : Hot} {this : Nat} {a1 : Int32} {a2 : Int32} {a3 : Int32} {a4 : Int32} {Q Q' : Int32 → Mem → Prop} {M : Mem} (hD : Dok w D) (n0 : ow w D 47 this) (hQ : ∀ z0 z1, Ow w D T h M z1 → Q z0 z1 → Q' z0 z1) : St w D T h M → w_Machine_findField this a1 a2 a3 a4 Q M → w_Machine_findField this a1 a2 a3 a4 Q' M := by
  intro hs
  unfold w_Machine_findField
  exact (mo_w_World_refClass hD  (fun r2 M1 f1 => (have g2 : Ow w D T _ M M1 := (Ow.trans (Ow.rf hs) f1); (mo_w_Machine_linkedClass hD n0 (fun r4 M3 f3 => (have g4 : Ow w D T _ M M3 := (Ow.trans g2 f3); (mf_ite (mo_w_World_refName hD  (fun r7 M6 f5 => (have g6 : Ow w D T _ M M6 := (Ow.trans g4 f5); (mo_w_World_refType hD  (fun r9 M8 f7 => (have g8 : Ow w D T _ M M8 := (Ow.trans g6 f7); (mo_w_World_field hD (ow.to n0 rfl rfl) (fun r11 M10 f9 => (have g10 : Ow w D T _ M M10 := (Ow.trans g8 f9); (mf_ite (mo_w_World_classOfField hD  (fun r14 M13 f11 => (have g12 : Ow w D T _ M M13 := (Ow.trans g10 f11); (mf_and fun _ => (mf_ite (mo_w_Machine_findField_j129 hD  (fun _ e => e) hQ g12) (mf_and fun _ => (mf_ite (mo_w_Machine_findField_j129 hD  (fun _ e => e) hQ g12) (mo_w_World_asks hD  (fun r41 M40 f13 => (have g14 : Ow w D T _ M M40 := (Ow.trans g12 f13); (mf_ite (mo_w_Machine_findField_j129 hD  (fun _ e => e) hQ g14) (mo_w_Machine_thrown hD  (fun r44 M43 f15 => (have g16 : Ow w D T _ M M43 := (Ow.trans g14 f15); (hQ _ _  g16))) g14.1)))) g12.1))))))) g10.1) (mo_w_Machine_thrown hD  (fun r46 M45 f17 => (have g18 : Ow w D T _ M M45 := (Ow.trans g10 f17); (hQ _ _  g18))) g10.1)))) g8.1))) g6.1))) g4.1) (hQ _ _  g4)))) g2.1))) (Ow.rf hs).1)
set_option maxRecDepth 20000 in
theorem mo_w_Machine_finds_j33 {w : Nat} {D : Nat → Nat → Prop} {T : Nat → Prop} {h : Hot} {this : Nat} {Q Q' : Int32 → Mem → Prop} {h_Q : Hot} {v4 : Int32} {M : Mem} {M0 : Mem} (hD : Dok w D)  (lQ : ∀ t, h_Q t = true → h t = true) (hQ : ∀ z0 z1, Ow w D T h_Q M0 z1 → Q z0 z1 → Q' z0 z1) : Ow w D T h M0 M → w_Machine_finds_j33 this Q v4 M → w_Machine_finds_j33 this Q' v4 M := by
  intro hf
  unfold w_Machine_finds_j33
  exact (mo_w_Machine_findClass hD  (fun r5 M4 f1 => (have g2 : Ow w D T _ M0 M4 := (Ow.trans hf f1); (hQ _ _  (Ow.dn lQ g2)))) hf.1)
set_option maxRecDepth 20000 in
theorem mo_w_Machine_finds_j143 {w : Nat} {D : Nat → Nat → Prop} {T : Nat → Prop} {h : Hot} {this : Nat} {Q Q' : Int32 → Mem → Prop} {h_Q : Hot} {v1 : Int32} {s0 : Int32} {s1 : Int32} {s2 : Int32} {M : Mem} {M0 : Mem} (hD : Dok w D) (n0 : ow w D 47 this) (lQ : ∀ t, h_Q t = true → h t = true) (hQ : ∀ z0 z1, Ow w D T h_Q M0 z1 → Q z0 z1 → Q' z0 z1) : Ow w D T h M0 M → w_Machine_finds_j143 this Q v1 s0 s1 s2 M → w_Machine_finds_j143 this Q' v1 s0 s1 s2 M := by
  intro hf
  unfold w_Machine_finds_j143
  exact (mo_w_Machine_findField hD n0 (fun r29 M28 f1 => (have g2 : Ow w D T _ M0 M28 := (Ow.trans hf f1); (hQ _ _  (Ow.dn lQ g2)))) hf.1)
set_option maxRecDepth 20000 in
theorem mo_w_Machine_finds_j138 {w : Nat} {D : Nat → Nat → Prop} {T : Nat → Prop} {h : Hot} {this : Nat} {Q Q' : Int32 → Mem → Prop} {h_Q : Hot} {v1 : Int32} {s0 : Int32} {s1 : Int32} {M : Mem} {M0 : Mem} (hD : Dok w D) (n0 : ow w D 47 this) (lQ : ∀ t, h_Q t = true → h t = true) (hQ : ∀ z0 z1, Ow w D T h_Q M0 z1 → Q z0 z1 → Q' z0 z1) : Ow w D T h M0 M → w_Machine_finds_j138 this Q v1 s0 s1 M → w_Machine_finds_j138 this Q' v1 s0 s1 M := by
  intro hf
  unfold w_Machine_finds_j138
  exact (mo_w_Machine_finds_j143 hD n0 lQ hQ hf)
set_option maxRecDepth 20000 in
theorem mo_w_Machine_finds_j126 {w : Nat} {D : Nat → Nat → Prop} {T : Nat → Prop} {h : Hot} {this : Nat} {Q Q' : Int32 → Mem → Prop} {h_Q : Hot} {v1 : Int32} {v3 : Int32} {s0 : Int32} {s1 : Int32} {M : Mem} {M0 : Mem} (hD : Dok w D) (n0 : ow w D 47 this) (lQ : ∀ t, h_Q t = true → h t = true) (hQ : ∀ z0 z1, Ow w D T h_Q M0 z1 → Q z0 z1 → Q' z0 z1) : Ow w D T h M0 M → w_Machine_finds_j126 this Q v1 v3 s0 s1 M → w_Machine_finds_j126 this Q' v1 v3 s0 s1 M := by
  intro hf
  unfold w_Machine_finds_j126
  exact (mf_ite (mo_w_Machine_finds_j138 hD n0 lQ hQ hf) (mf_ite (mo_w_Machine_finds_j138 hD n0 lQ hQ hf) (mo_w_Machine_finds_j143 hD n0 lQ hQ hf)))
set_option maxRecDepth 20000 in
theorem mo_w_Machine_finds {w : Nat} {D : Nat → Nat → Prop} {T : Nat → Prop} {h : Hot} {this : Nat} {a1 : Int32} {a2 : Int32} {Q Q' : Int32 → Mem → Prop} {M : Mem} (hD : Dok w D) (n0 : ow w D 47 this) (hQ : ∀ z0 z1, Ow w D T h M z1 → Q z0 z1 → Q' z0 z1) : St w D T h M → w_Machine_finds this a1 a2 Q M → w_Machine_finds this a1 a2 Q' M := by
  intro hs
  unfold w_Machine_finds
  exact (mf_and fun _ => (mf_and fun _ => (mf_ite (mo_w_Machine_finds_j33 hD  (fun _ e => e) hQ (Ow.rf hs)) (mf_ite (mo_w_Machine_finds_j33 hD  (fun _ e => e) hQ (Ow.rf hs)) (mf_ite (mo_w_Machine_linkedClass hD n0 (fun r9 M8 f1 => (have g2 : Ow w D T _ M M8 := (Ow.trans (Ow.rf hs) f1); (mf_ite (hQ _ _  g2) (mf_and fun _ => (mf_ite (hQ _ _  g2) (mo_w_World_asks hD  (fun r14 M13 f3 => (have g4 : Ow w D T _ M M13 := (Ow.trans g2 f3); (mf_ite (hQ _ _  g4) (mo_w_Machine_thrown hD  (fun r17 M16 f5 => (have g6 : Ow w D T _ M M16 := (Ow.trans g4 f5); (hQ _ _  g6))) g4.1)))) g2.1)))))) (Ow.rf hs).1) (mo_w_Works_isIn hD  (fun r19 M18 f7 => (have g8 : Ow w D T _ M M18 := (Ow.trans (Ow.rf hs) f7); (mf_ite (mo_w_Works_isIn hD  (fun r22 M21 f9 => (have g10 : Ow w D T _ M M21 := (Ow.trans g8 f9); (mf_ite (hQ _ _  g10) (mo_w_Machine_findMethod hD n0 (fun r25 M24 f11 => (have g12 : Ow w D T _ M M24 := (Ow.trans g10 f11); (hQ _ _  g12))) g10.1)))) g8.1) (mf_ite (mo_w_Machine_finds_j126 hD n0 (fun _ e => e) hQ g8) (mo_w_Machine_finds_j126 hD n0 (fun _ e => e) hQ g8))))) (Ow.rf hs).1))))))
set_option maxRecDepth 20000 in
theorem mo_w_Machine_number {w : Nat} {D : Nat → Nat → Prop} {T : Nat → Prop} {h : Hot} {this : Nat} {a1 : Int32} {Q Q' : Int32 → Mem → Prop} {M : Mem} (hD : Dok w D)  (hQ : ∀ z0 z1, Ow w D T h M z1 → Q z0 z1 → Q' z0 z1) : St w D T h M → w_Machine_number this a1 Q M → w_Machine_number this a1 Q' M := by
  intro hs
  unfold w_Machine_number
  exact (Exists.imp fun i1 => (mf_and fun e1 => (mf_and fun _ => (hQ _ _  (Ow.rf hs)))))
set_option maxRecDepth 20000 in
theorem mo_w_Machine_step {w : Nat} {D : Nat → Nat → Prop} {T : Nat → Prop} {h : Hot} {this : Nat} {a1 : Int32} {Q Q' : Mem → Prop} {M : Mem} (hD : Dok w D) (n0 : ow w D 6 this) (hQ : ∀ z0, Ow w D T h M z0 → Q z0 → Q' z0) : St w D T h M → w_Machine_step this a1 Q M → w_Machine_step this a1 Q' M := by
  intro hs
  unfold w_Machine_step
  exact (Exists.imp fun i1 => (mf_and fun e1 => (have o2 : ow w D 7 i1 := (Ow.r1 e1 rfl rfl n0 (Ow.rf hs)); (mf_and fun _ => (mf_and fun _ => (Exists.imp fun M4 => (mf_and fun e3 => (have g4 : Ow w D T _ M M4 := Ow.of e3 (Ow.wI (ow.to n0 rfl rfl) (Ow.wI o2 (Ow.rf hs))); (mf_ite (hQ _  (Ow.wI (ow0 rfl) g4)) (hQ _  g4))))))))))
set_option maxRecDepth 20000 in
theorem mo_w_Machine_push {w : Nat} {D : Nat → Nat → Prop} {T : Nat → Prop} {h : Hot} {this : Nat} {a1 : Int32} {a2 : Int32} {Q Q' : Mem → Prop} {M : Mem} (hD : Dok w D) (n0 : ow w D 6 this) (hQ : ∀ z0, Ow w D T h M z0 → Q z0 → Q' z0) : St w D T h M → w_Machine_push this a1 a2 Q M → w_Machine_push this a1 a2 Q' M := by
  intro hs
  unfold w_Machine_push
  exact (mo_w_Machine_set hD n0 (fun M1 f1 => (have g2 : Ow w D T _ M M1 := (Ow.trans (Ow.rf hs) f1); (hQ _  (Ow.wI n0 g2)))) (Ow.rf hs).1)
set_option maxRecDepth 20000 in
theorem mo_w_Machine_comes {w : Nat} {D : Nat → Nat → Prop} {T : Nat → Prop} {h : Hot} {this : Nat} {a1 : Int32} {a2 : Int32} {a3 : Int32} {Q Q' : Mem → Prop} {M : Mem} (hD : Dok w D) (n0 : ow w D 6 this) (hQ : ∀ z0, Ow w D T h M z0 → Q z0 → Q' z0) : St w D T h M → w_Machine_comes this a1 a2 a3 Q M → w_Machine_comes this a1 a2 a3 Q' M := by
  intro hs
  unfold w_Machine_comes
  exact (have g1 : Ow w D T _ M (sI M 6 this 34 ((mI M 6 this 34) - a1)) := (Ow.wI n0 (Ow.rf hs)); (mo_w_Machine_push hD n0 (fun M1 f2 => (have g3 : Ow w D T _ M M1 := (Ow.trans g1 f2); (hQ _  g3))) g1.1))
set_option maxRecDepth 20000 in
theorem mo_w_Machine_goesTo {w : Nat} {D : Nat → Nat → Prop} {T : Nat → Prop} {h : Hot} {this : Nat} {a1 : Int32} {a2 : Int32} {Q Q' : Mem → Prop} {M : Mem} (hD : Dok w D) (n0 : ow w D 6 this) (hQ : ∀ z0, Ow w D T h M z0 → Q z0 → Q' z0) : St w D T h M → w_Machine_goesTo this a1 a2 Q M → w_Machine_goesTo this a1 a2 Q' M := by
  intro hs
  unfold w_Machine_goesTo
  exact (Exists.imp fun i1 => (mf_and fun e1 => (have o2 : ow w D 7 i1 := (Ow.r1 e1 rfl rfl n0 (Ow.rf hs)); (mf_and fun _ => (Exists.imp fun i3 => (mf_and fun e3 => (have o4 : ow w D 7 i3 := (Ow.r1 e3 rfl rfl n0 (Ow.wI (ow.to o2 rfl rfl) (Ow.rf hs))); (mf_and fun _ => (Exists.imp fun M5 => (mf_and fun e5 => (have g6 : Ow w D T _ M M5 := Ow.of e5 (Ow.wI (ow.to o4 rfl rfl) (Ow.wI (ow.to o2 rfl rfl) (Ow.rf hs))); (hQ _  g6))))))))))))
set_option maxRecDepth 20000 in
theorem mo_w_Machine_reckon_j191 {w : Nat} {D : Nat → Nat → Prop} {T : Nat → Prop} {h : Hot} {this : Nat} {Q Q' : Mem → Prop} {h_Q : Hot} {v1 : Int32} {v3 : Int32} {v6 : Int32} {M : Mem} {M0 : Mem} (hD : Dok w D) (n0 : ow w D 6 this) (lQ : ∀ t, h_Q t = true → h t = true) (hQ : ∀ z0, Ow w D T h_Q M0 z0 → Q z0 → Q' z0) : Ow w D T h M0 M → w_Machine_reckon_j191 this Q v1 v3 v6 M → w_Machine_reckon_j191 this Q' v1 v3 v6 M := by
  intro hf
  unfold w_Machine_reckon_j191
  exact (mo_w_Machine_comes hD n0 (fun M5 f1 => (have g2 : Ow w D T _ M0 M5 := (Ow.trans hf f1); (mo_w_Machine_goesTo hD n0 (fun M6 f3 => (have g4 : Ow w D T _ M0 M6 := (Ow.trans g2 f3); (hQ _  (Ow.dn lQ g4)))) g2.1))) hf.1)
set_option maxRecDepth 20000 in
theorem mo_w_Machine_reckon_j133 {w : Nat} {D : Nat → Nat → Prop} {T : Nat → Prop} {h : Hot} {this : Nat} {Q Q' : Mem → Prop} {h_Q : Hot} {v1 : Int32} {v3 : Int32} {s0 : Int32} {M : Mem} {M0 : Mem} (hD : Dok w D) (n0 : ow w D 6 this) (lQ : ∀ t, h_Q t = true → h t = true) (hQ : ∀ z0, Ow w D T h_Q M0 z0 → Q z0 → Q' z0) : Ow w D T h M0 M → w_Machine_reckon_j133 this Q v1 v3 s0 M → w_Machine_reckon_j133 this Q' v1 v3 s0 M := by
  intro hf
  unfold w_Machine_reckon_j133
  exact (mo_w_Machine_reckon_j191 hD n0 lQ hQ hf)
set_option maxRecDepth 20000 in
theorem mo_w_Machine_reckon {w : Nat} {D : Nat → Nat → Prop} {T : Nat → Prop} {h : Hot} {this : Nat} {a1 : Int32} {a2 : Int32} {a3 : Int32} {Q Q' : Mem → Prop} {M : Mem} (hD : Dok w D) (n0 : ow w D 6 this) (hQ : ∀ z0, Ow w D T h M z0 → Q z0 → Q' z0) : St w D T h M → w_Machine_reckon this a1 a2 a3 Q M → w_Machine_reckon this a1 a2 a3 Q' M := by
  intro hs
  unfold w_Machine_reckon
  exact (mo_w_Machine_number hD  (fun r2 M1 f1 => (have g2 : Ow w D T _ M M1 := (Ow.trans (Ow.rf hs) f1); (mo_w_Machine_number hD  (fun r4 M3 f3 => (have g4 : Ow w D T _ M M3 := (Ow.trans g2 f3); (mf_ite (mo_w_Machine_reckon_j191 hD n0 (fun _ e => e) hQ g4) (mf_ite (mo_w_Machine_reckon_j191 hD n0 (fun _ e => e) hQ g4) (mf_ite (mo_w_Machine_reckon_j191 hD n0 (fun _ e => e) hQ g4) (mf_ite (mf_ite (mo_w_Machine_fail hD n0 (fun M23 f5 => (have g6 : Ow w D T _ M M23 := (Ow.trans g4 f5); (hQ _  g6))) g4.1) (mf_ite (mf_and fun _ => (mo_w_Machine_reckon_j133 hD n0 (fun _ e => e) hQ g4)) (mf_and fun _ => (mo_w_Machine_reckon_j133 hD n0 (fun _ e => e) hQ g4)))) (mf_ite (mf_ite (mo_w_Machine_fail hD n0 (fun M18 f7 => (have g8 : Ow w D T _ M M18 := (Ow.trans g4 f7); (hQ _  g8))) g4.1) (mf_ite (mf_and fun _ => (mo_w_Machine_reckon_j133 hD n0 (fun _ e => e) hQ g4)) (mf_and fun _ => (mo_w_Machine_reckon_j133 hD n0 (fun _ e => e) hQ g4)))) (mf_ite (mo_w_Machine_reckon_j191 hD n0 (fun _ e => e) hQ g4) (mf_ite (mo_w_Machine_reckon_j191 hD n0 (fun _ e => e) hQ g4) (mf_ite (mo_w_Machine_reckon_j191 hD n0 (fun _ e => e) hQ g4) (mf_ite (mo_w_Machine_reckon_j191 hD n0 (fun _ e => e) hQ g4) (mf_ite (mo_w_Machine_reckon_j191 hD n0 (fun _ e => e) hQ g4) (mo_w_Machine_reckon_j191 hD n0 (fun _ e => e) hQ g4))))))))))))) g2.1))) (Ow.rf hs).1)
set_option maxRecDepth 20000 in
theorem mo_w_Machine_holds {w : Nat} {D : Nat → Nat → Prop} {T : Nat → Prop} {h : Hot} {this : Nat} {a1 : Int32} {a2 : Int32} {a3 : Int32} {Q Q' : Int32 → Mem → Prop} {M : Mem} (hD : Dok w D)  (hQ : ∀ z0 z1, Ow w D T h M z1 → Q z0 z1 → Q' z0 z1) : St w D T h M → w_Machine_holds this a1 a2 a3 Q M → w_Machine_holds this a1 a2 a3 Q' M := by
  intro hs
  unfold w_Machine_holds
  exact (mf_ite (mf_ite (hQ _ _  (Ow.rf hs)) (hQ _ _  (Ow.rf hs))) (mf_ite (mf_ite (hQ _ _  (Ow.rf hs)) (hQ _ _  (Ow.rf hs))) (mf_ite (mf_ite (hQ _ _  (Ow.rf hs)) (hQ _ _  (Ow.rf hs))) (mf_ite (mf_ite (hQ _ _  (Ow.rf hs)) (hQ _ _  (Ow.rf hs))) (mf_ite (mf_ite (hQ _ _  (Ow.rf hs)) (hQ _ _  (Ow.rf hs))) (mf_ite (mf_ite (hQ _ _  (Ow.rf hs)) (hQ _ _  (Ow.rf hs))) (mf_ite (mf_ite (hQ _ _  (Ow.rf hs)) (hQ _ _  (Ow.rf hs))) (mf_ite (mf_ite (hQ _ _  (Ow.rf hs)) (hQ _ _  (Ow.rf hs))) (mf_ite (mf_ite (hQ _ _  (Ow.rf hs)) (hQ _ _  (Ow.rf hs))) (mf_ite (mf_ite (hQ _ _  (Ow.rf hs)) (hQ _ _  (Ow.rf hs))) (mf_ite (mf_ite (hQ _ _  (Ow.rf hs)) (hQ _ _  (Ow.rf hs))) (mf_ite (mf_ite (hQ _ _  (Ow.rf hs)) (hQ _ _  (Ow.rf hs))) (mf_ite (mf_ite (hQ _ _  (Ow.rf hs)) (hQ _ _  (Ow.rf hs))) (mf_ite (mf_ite (hQ _ _  (Ow.rf hs)) (hQ _ _  (Ow.rf hs))) (mf_ite (mf_ite (hQ _ _  (Ow.rf hs)) (hQ _ _  (Ow.rf hs))) (mf_ite (mf_ite (hQ _ _  (Ow.rf hs)) (hQ _ _  (Ow.rf hs))) (mf_ite (hQ _ _  (Ow.rf hs)) (hQ _ _  (Ow.rf hs)))))))))))))))))))
set_option maxRecDepth 20000 in
theorem mo_w_Machine_jump_j115 {w : Nat} {D : Nat → Nat → Prop} {T : Nat → Prop} {h : Hot} {this : Nat} {Q Q' : Mem → Prop} {h_Q : Hot} {s0 : Int32} {s1 : Int32} {s3 : Int32} {M : Mem} {M0 : Mem} (hD : Dok w D) (n0 : ow w D 6 this) (lQ : ∀ t, h_Q t = true → h t = true) (hQ : ∀ z0, Ow w D T h_Q M0 z0 → Q z0 → Q' z0) : Ow w D T h M0 M → w_Machine_jump_j115 this Q s0 s1 s3 M → w_Machine_jump_j115 this Q' s0 s1 s3 M := by
  intro hf
  unfold w_Machine_jump_j115
  exact (mf_and fun _ => (mo_w_Machine_goesTo hD n0 (fun M14 f1 => (have g2 : Ow w D T _ M0 M14 := (Ow.trans hf f1); (hQ _  (Ow.dn lQ g2)))) hf.1))
set_option maxRecDepth 20000 in
theorem mo_w_Machine_jump_j113 {w : Nat} {D : Nat → Nat → Prop} {T : Nat → Prop} {h : Hot} {this : Nat} {Q Q' : Mem → Prop} {h_Q : Hot} {v8 : Int32} {s0 : Int32} {s2 : Int32} {M : Mem} {M0 : Mem} (hD : Dok w D) (n0 : ow w D 6 this) (lQ : ∀ t, h_Q t = true → h t = true) (hQ : ∀ z0, Ow w D T h_Q M0 z0 → Q z0 → Q' z0) : Ow w D T h M0 M → w_Machine_jump_j113 this Q v8 s0 s2 M → w_Machine_jump_j113 this Q' v8 s0 s2 M := by
  intro hf
  unfold w_Machine_jump_j113
  exact (mo_w_Machine_jump_j115 hD n0 lQ hQ hf)
set_option maxRecDepth 20000 in
theorem mo_w_Machine_jump_j228 {w : Nat} {D : Nat → Nat → Prop} {T : Nat → Prop} {h : Hot} {this : Nat} {Q Q' : Mem → Prop} {h_Q : Hot} {s0 : Int32} {s1 : Int32} {M : Mem} {M0 : Mem} (hD : Dok w D) (n0 : ow w D 6 this) (lQ : ∀ t, h_Q t = true → h t = true) (hQ : ∀ z0, Ow w D T h_Q M0 z0 → Q z0 → Q' z0) : Ow w D T h M0 M → w_Machine_jump_j228 this Q s0 s1 M → w_Machine_jump_j228 this Q' s0 s1 M := by
  intro hf
  unfold w_Machine_jump_j228
  exact (mo_w_Machine_goesTo hD n0 (fun M26 f1 => (have g2 : Ow w D T _ M0 M26 := (Ow.trans hf f1); (hQ _  (Ow.dn lQ g2)))) hf.1)
set_option maxRecDepth 20000 in
theorem mo_w_Machine_jump_j196 {w : Nat} {D : Nat → Nat → Prop} {T : Nat → Prop} {h : Hot} {this : Nat} {Q Q' : Mem → Prop} {h_Q : Hot} {v1 : Int32} {v2 : Int32} {v3 : Int32} {v4 : Int32} {v7 : Int32} {v8 : Int32} {s0 : Int32} {s1 : Int32} {M : Mem} {M0 : Mem} (hD : Dok w D) (n0 : ow w D 6 this) (lQ : ∀ t, h_Q t = true → h t = true) (hQ : ∀ z0, Ow w D T h_Q M0 z0 → Q z0 → Q' z0) : Ow w D T h M0 M → w_Machine_jump_j196 this Q v1 v2 v3 v4 v7 v8 s0 s1 M → w_Machine_jump_j196 this Q' v1 v2 v3 v4 v7 v8 s0 s1 M := by
  intro hf
  unfold w_Machine_jump_j196
  exact (have g1 : Ow w D T _ M0 (sI M 6 this 34 (s1 - s0)) := (Ow.wI n0 hf); (mo_w_Machine_holds hD  (fun r24 M23 f2 => (have g3 : Ow w D T _ M0 M23 := (Ow.trans g1 f2); (mf_ite (mo_w_Machine_jump_j228 hD n0 lQ hQ g3) (mf_and fun _ => (mo_w_Machine_jump_j228 hD n0 lQ hQ g3))))) g1.1))
set_option maxRecDepth 20000 in
theorem mo_w_Machine_jump_j179 {w : Nat} {D : Nat → Nat → Prop} {T : Nat → Prop} {h : Hot} {this : Nat} {Q Q' : Mem → Prop} {h_Q : Hot} {v1 : Int32} {v2 : Int32} {v3 : Int32} {v4 : Int32} {v6 : Int32} {v7 : Int32} {s0 : Int32} {M : Mem} {M0 : Mem} (hD : Dok w D) (n0 : ow w D 6 this) (lQ : ∀ t, h_Q t = true → h t = true) (hQ : ∀ z0, Ow w D T h_Q M0 z0 → Q z0 → Q' z0) : Ow w D T h M0 M → w_Machine_jump_j179 this Q v1 v2 v3 v4 v6 v7 s0 M → w_Machine_jump_j179 this Q' v1 v2 v3 v4 v6 v7 s0 M := by
  intro hf
  unfold w_Machine_jump_j179
  exact (mf_ite (mo_w_Machine_jump_j196 hD n0 lQ hQ hf) (mo_w_Machine_jump_j196 hD n0 lQ hQ hf))
set_option maxRecDepth 20000 in
theorem mo_w_Machine_jump_j166 {w : Nat} {D : Nat → Nat → Prop} {T : Nat → Prop} {h : Hot} {this : Nat} {Q Q' : Mem → Prop} {h_Q : Hot} {v1 : Int32} {v2 : Int32} {v3 : Int32} {v4 : Int32} {v5 : Int32} {v6 : Int32} {s0 : Int32} {M : Mem} {M0 : Mem} (hD : Dok w D) (n0 : ow w D 6 this) (lQ : ∀ t, h_Q t = true → h t = true) (hQ : ∀ z0, Ow w D T h_Q M0 z0 → Q z0 → Q' z0) : Ow w D T h M0 M → w_Machine_jump_j166 this Q v1 v2 v3 v4 v5 v6 s0 M → w_Machine_jump_j166 this Q' v1 v2 v3 v4 v5 v6 s0 M := by
  intro hf
  unfold w_Machine_jump_j166
  exact (mf_ite (mo_w_Machine_jump_j179 hD n0 lQ hQ hf) (mo_w_Machine_jump_j179 hD n0 lQ hQ hf))
set_option maxRecDepth 20000 in
theorem mo_w_Machine_jump_j149 {w : Nat} {D : Nat → Nat → Prop} {T : Nat → Prop} {h : Hot} {this : Nat} {Q Q' : Mem → Prop} {h_Q : Hot} {v1 : Int32} {v2 : Int32} {v3 : Int32} {v4 : Int32} {v5 : Int32} {s0 : Int32} {M : Mem} {M0 : Mem} (hD : Dok w D) (n0 : ow w D 6 this) (lQ : ∀ t, h_Q t = true → h t = true) (hQ : ∀ z0, Ow w D T h_Q M0 z0 → Q z0 → Q' z0) : Ow w D T h M0 M → w_Machine_jump_j149 this Q v1 v2 v3 v4 v5 s0 M → w_Machine_jump_j149 this Q' v1 v2 v3 v4 v5 s0 M := by
  intro hf
  unfold w_Machine_jump_j149
  exact (mf_ite (mo_w_Machine_jump_j166 hD n0 lQ hQ hf) (mo_w_Machine_number hD  (fun r29 M28 f1 => (have g2 : Ow w D T _ M0 M28 := (Ow.trans hf f1); (mo_w_Machine_jump_j166 hD n0 lQ hQ g2))) hf.1))
set_option maxRecDepth 20000 in
theorem mo_w_Machine_jump_j144 {w : Nat} {D : Nat → Nat → Prop} {T : Nat → Prop} {h : Hot} {this : Nat} {Q Q' : Mem → Prop} {h_Q : Hot} {v1 : Int32} {v2 : Int32} {v3 : Int32} {v4 : Int32} {v5 : Int32} {M : Mem} {M0 : Mem} (hD : Dok w D) (n0 : ow w D 6 this) (lQ : ∀ t, h_Q t = true → h t = true) (hQ : ∀ z0, Ow w D T h_Q M0 z0 → Q z0 → Q' z0) : Ow w D T h M0 M → w_Machine_jump_j144 this Q v1 v2 v3 v4 v5 M → w_Machine_jump_j144 this Q' v1 v2 v3 v4 v5 M := by
  intro hf
  unfold w_Machine_jump_j144
  exact (mo_w_Machine_jump_j149 hD n0 lQ hQ hf)
set_option maxRecDepth 20000 in
theorem mo_w_Machine_jump {w : Nat} {D : Nat → Nat → Prop} {T : Nat → Prop} {h : Hot} {this : Nat} {a1 : Int32} {a2 : Int32} {a3 : Int32} {a4 : Int32} {Q Q' : Mem → Prop} {M : Mem} (hD : Dok w D) (n0 : ow w D 6 this) (hQ : ∀ z0, Ow w D T h M z0 → Q z0 → Q' z0) : St w D T h M → w_Machine_jump this a1 a2 a3 a4 Q M → w_Machine_jump this a1 a2 a3 a4 Q' M := by
  intro hs
  unfold w_Machine_jump
  exact (mf_ite (mf_and fun _ => (mo_w_Machine_goesTo hD n0 (fun M3 f1 => (have g2 : Ow w D T _ M M3 := (Ow.trans (Ow.rf hs) f1); (hQ _  g2))) (Ow.rf hs).1)) (mo_w_Machine_number hD  (fun r5 M4 f3 => (have g4 : Ow w D T _ M M4 := (Ow.trans (Ow.rf hs) f3); (mf_ite (mf_and fun _ => (Exists.imp fun x8 => (mf_and fun _ => (mf_and fun _ => (Exists.imp fun x10 => (mf_and fun _ => (mf_and fun _ => (mf_ite (have g5 : Ow w D T _ M (sI M4 6 this 34 ((mI M4 6 this 34) - (1 : Int32))) := (Ow.wI n0 g4); (mo_w_Machine_jump_j113 hD n0 (fun _ e => e) hQ g5)) (mf_ite (have g6 : Ow w D T _ M (sI M4 6 this 34 ((mI M4 6 this 34) - (1 : Int32))) := (Ow.wI n0 g4); (mo_w_Machine_jump_j113 hD n0 (fun _ e => e) hQ g6)) (have g7 : Ow w D T _ M (sI M4 6 this 34 ((mI M4 6 this 34) - (1 : Int32))) := (Ow.wI n0 g4); (mo_w_Machine_jump_j115 hD n0 (fun _ e => e) hQ g7))))))))))) (mo_w_Works_isIn hD  (fun r17 M16 f8 => (have g9 : Ow w D T _ M M16 := (Ow.trans g4 f8); (mf_ite (mf_ite (mo_w_Machine_jump_j144 hD n0 (fun _ e => e) hQ g9) (mf_ite (mo_w_Machine_jump_j144 hD n0 (fun _ e => e) hQ g9) (mo_w_Machine_jump_j149 hD n0 (fun _ e => e) hQ g9))) (mo_w_Machine_jump_j144 hD n0 (fun _ e => e) hQ g9)))) g4.1)))) (Ow.rf hs).1))
set_option maxRecDepth 20000 in
theorem mo_w_Machine_makes_j74 {w : Nat} {D : Nat → Nat → Prop} {T : Nat → Prop} {h : Hot} {this : Nat} {Q Q' : Int32 → Mem → Prop} {h_Q : Hot} {M : Mem} {M0 : Mem} (hD : Dok w D) (n0 : ow w D 6 this) (lQ : ∀ t, h_Q t = true → h t = true) (hQ : ∀ z0 z1, Ow w D T h_Q M0 z1 → Q z0 z1 → Q' z0 z1) : Ow w D T h M0 M → w_Machine_makes_j74 this Q M → w_Machine_makes_j74 this Q' M := by
  intro hf
  unfold w_Machine_makes_j74
  exact (mo_w_Machine_fail hD n0 (fun M6 f1 => (have g2 : Ow w D T _ M0 M6 := (Ow.trans hf f1); (hQ _ _  (Ow.dn lQ g2)))) hf.1)
set_option maxRecDepth 20000 in
theorem mo_w_Machine_makes_j236 {w : Nat} {D : Nat → Nat → Prop} {T : Nat → Prop} {h : Hot} {this : Nat} {Q Q' : Int32 → Mem → Prop} {h_Q : Hot} {v3 : Int32} {s0 : Int32} {M : Mem} {M0 : Mem} (hD : Dok w D) (n0 : ow w D 6 this) (lQ : ∀ t, h_Q t = true → h t = true) (hQ : ∀ z0 z1, Ow w D T h_Q M0 z1 → Q z0 z1 → Q' z0 z1) : Ow w D T h M0 M → w_Machine_makes_j236 this Q v3 s0 M → w_Machine_makes_j236 this Q' v3 s0 M := by
  intro hf
  unfold w_Machine_makes_j236
  exact (mo_w_Machine_comes hD n0 (fun M23 f1 => (have g2 : Ow w D T _ M0 M23 := (Ow.trans hf f1); (hQ _ _  (Ow.dn lQ g2)))) hf.1)
set_option maxRecDepth 20000 in
theorem mo_w_Machine_makes_L189 {w : Nat} {D : Nat → Nat → Prop} {T : Nat → Prop} {h : Hot} {this : Nat} {Q Q' : Int32 → Mem → Prop} {h_Q : Hot} {M0 : Mem} (hD : Dok w D) (n0 : ow w D 6 this) (lQ : ∀ t, h_Q t = true → h t = true) (hQ : ∀ z0 z1, Ow w D T h_Q M0 z1 → Q z0 z1 → Q' z0 z1) : ∀ (n : Nat) (v1 : Int32) (v2 : Int32) (v3 : Int32) (v4 : Int32) (M : Mem), Ow w D T h M0 M → w_Machine_makes_L189 this Q n v1 v2 v3 v4 M → w_Machine_makes_L189 this Q' n v1 v2 v3 v4 M
  | 0, _, _, _, _, _ => fun  _ h => h
  | n + 1, v1, v2, v3, v4, M => fun  hf => by
    unfold w_Machine_makes_L189
    exact (mf_ite (mf_ite (have g1 : Ow w D T _ M0 (sI M 6 this 7 ((mI M 6 this 7) + v2)) := (Ow.wI n0 hf); (mo_w_Machine_makes_j236 hD n0 lQ hQ g1)) (have g2 : Ow w D T _ M0 (sI M 6 this 7 ((mI M 6 this 7) + v2)) := (Ow.wI n0 hf); (mo_w_Machine_makes_j236 hD n0 lQ hQ g2))) (mf_and fun _ => (have g3 : Ow w D T _ M0 (sI M 84 this ((mI M 6 this 7) + v4).toNatClampNeg (0 : Int32)) := (Ow.wI (ow.to n0 rfl rfl) hf); (mo_w_Machine_makes_L189 hD n0 lQ hQ _ _ _ _ _ _  g3))))
set_option maxRecDepth 20000 in
theorem mo_w_Machine_makes_j161 {w : Nat} {D : Nat → Nat → Prop} {T : Nat → Prop} {h : Hot} {this : Nat} {Q Q' : Int32 → Mem → Prop} {h_Q : Hot} {v1 : Int32} {v2 : Int32} {v3 : Int32} {s0 : Int32} {s1 : Int32} {M : Mem} {M0 : Mem} (hD : Dok w D) (n0 : ow w D 79 this) (lQ : ∀ t, h_Q t = true → h t = true) (hQ : ∀ z0 z1, Ow w D T h_Q M0 z1 → Q z0 z1 → Q' z0 z1) : Ow w D T h M0 M → w_Machine_makes_j161 this Q v1 v2 v3 s0 s1 M → w_Machine_makes_j161 this Q' v1 v2 v3 s0 s1 M := by
  intro hf
  unfold w_Machine_makes_j161
  exact (mf_and fun _ => (mf_and fun _ => (Exists.imp fun M17 => (mf_and fun e1 => (have g2 : Ow w D T _ M0 M17 := Ow.of e1 (Ow.wI (ow.to n0 rfl rfl) (Ow.wI n0 hf)); (mf_and fun _ => (mf_and fun _ => (Exists.imp fun M20 => (mf_and fun e3 => (have g4 : Ow w D T _ M0 M20 := Ow.of e3 (Ow.wI (hD.2.2.2.1 (ow.to n0 rfl rfl)) (Ow.wI (ow.to n0 rfl rfl) g2)); (Exists.imp fun n25 => (mo_w_Machine_makes_L189 hD (ow.to n0 rfl rfl) lQ hQ _ _ _ _ _ _  g4))))))))))))
set_option maxRecDepth 20000 in
theorem mo_w_Machine_makes_L93 {w : Nat} {D : Nat → Nat → Prop} {T : Nat → Prop} {h : Hot} {this : Nat} {Q Q' : Int32 → Mem → Prop} {h_Q : Hot} {M0 : Mem} (hD : Dok w D) (n0 : ow w D 512 this) (lQ : ∀ t, h_Q t = true → h t = true) (hQ : ∀ z0 z1, Ow w D T h_Q M0 z1 → Q z0 z1 → Q' z0 z1) : ∀ (n : Nat) (v1 : Int32) (v2 : Int32) (M : Mem), Ow w D T h M0 M → w_Machine_makes_L93 this Q n v1 v2 M → w_Machine_makes_L93 this Q' n v1 v2 M
  | 0, _, _, _ => fun  _ h => h
  | n + 1, v1, v2, M => fun  hf => by
    unfold w_Machine_makes_L93
    exact (mf_and fun _ => (mf_ite (mf_and fun _ => (have g1 : Ow w D T _ M0 (sI M 512 this (mI M 6 this 14).toNatClampNeg ((1 : Int32) &&& 1)) := (Ow.wI n0 hf); (mo_w_JMath_max hD  (fun r13 M12 f2 => (have g3 : Ow w D T _ M0 M12 := (Ow.trans g1 f2); (mf_ite (have g4 : Ow w D T _ M0 (sI M12 6 this 15 r13) := (Ow.wI (ow.to n0 rfl rfl) g3); (mo_w_Machine_makes_j161 hD (ow.to n0 rfl rfl) lQ hQ g4)) (have g5 : Ow w D T _ M0 (sI M12 6 this 15 r13) := (Ow.wI (ow.to n0 rfl rfl) g3); (mo_w_Machine_makes_j161 hD (ow.to n0 rfl rfl) lQ hQ g5))))) g1.1))) (have g6 : Ow w D T _ M0 (sI M 6 this 14 ((mI M 6 this 14) + (1 : Int32))) := (Ow.wI (ow.to n0 rfl rfl) hf); (mo_w_Machine_makes_L93 hD n0 lQ hQ _ _ _ _  g6))))
set_option maxRecDepth 20000 in
theorem mo_w_Machine_makes_j52 {w : Nat} {D : Nat → Nat → Prop} {T : Nat → Prop} {h : Hot} {this : Nat} {Q Q' : Int32 → Mem → Prop} {h_Q : Hot} {v1 : Int32} {v2 : Int32} {M : Mem} {M0 : Mem} (hD : Dok w D) (n0 : ow w D 6 this) (lQ : ∀ t, h_Q t = true → h t = true) (hQ : ∀ z0 z1, Ow w D T h_Q M0 z1 → Q z0 z1 → Q' z0 z1) : Ow w D T h M0 M → w_Machine_makes_j52 this Q v1 v2 M → w_Machine_makes_j52 this Q' v1 v2 M := by
  intro hf
  unfold w_Machine_makes_j52
  exact (mf_ite (mo_w_Machine_makes_j74 hD n0 lQ hQ hf) (mf_ite (Exists.imp fun n26 => (have g1 : Ow w D T _ M0 (sI M 6 this 6 ((mI M 6 this 6) + (1 : Int32))) := (Ow.wI n0 hf); (mo_w_Machine_makes_L93 hD (ow.to n0 rfl rfl) lQ hQ _ _ _ _  g1))) (mo_w_Machine_makes_j74 hD n0 lQ hQ hf)))
set_option maxRecDepth 20000 in
theorem mo_w_Machine_makes_j26 {w : Nat} {D : Nat → Nat → Prop} {T : Nat → Prop} {h : Hot} {this : Nat} {Q Q' : Int32 → Mem → Prop} {h_Q : Hot} {v1 : Int32} {s0 : Int32} {M : Mem} {M0 : Mem} (hD : Dok w D) (n0 : ow w D 6 this) (lQ : ∀ t, h_Q t = true → h t = true) (hQ : ∀ z0 z1, Ow w D T h_Q M0 z1 → Q z0 z1 → Q' z0 z1) : Ow w D T h M0 M → w_Machine_makes_j26 this Q v1 s0 M → w_Machine_makes_j26 this Q' v1 s0 M := by
  intro hf
  unfold w_Machine_makes_j26
  exact (mf_ite (mf_ite (mf_ite (mo_w_Machine_makes_j74 hD n0 lQ hQ hf) (mo_w_Machine_makes_j52 hD n0 lQ hQ hf)) (mo_w_Machine_makes_j52 hD n0 lQ hQ hf)) (mo_w_Machine_fail hD n0 (fun M27 f1 => (have g2 : Ow w D T _ M0 M27 := (Ow.trans hf f1); (hQ _ _  (Ow.dn lQ g2)))) hf.1))
set_option maxRecDepth 20000 in
theorem mo_w_Machine_makes {w : Nat} {D : Nat → Nat → Prop} {T : Nat → Prop} {h : Hot} {this : Nat} {a1 : Int32} {Q Q' : Int32 → Mem → Prop} {M : Mem} (hD : Dok w D) (n0 : ow w D 6 this) (hQ : ∀ z0 z1, Ow w D T h M z1 → Q z0 z1 → Q' z0 z1) : St w D T h M → w_Machine_makes this a1 Q M → w_Machine_makes this a1 Q' M := by
  intro hs
  unfold w_Machine_makes
  exact (mf_ite (mf_and fun _ => (mo_w_Machine_makes_j26 hD n0 (fun _ e => e) hQ (Ow.rf hs))) (mo_w_Machine_number hD  (fun r29 M28 f1 => (have g2 : Ow w D T _ M M28 := (Ow.trans (Ow.rf hs) f1); (mo_w_Machine_makes_j26 hD n0 (fun _ e => e) hQ g2))) (Ow.rf hs).1))
set_option maxRecDepth 20000 in
theorem mo_w_Machine_lock_j87 {w : Nat} {D : Nat → Nat → Prop} {T : Nat → Prop} {h : Hot} {this : Nat} {Q Q' : Int32 → Mem → Prop} {h_Q : Hot} {M : Mem} {M0 : Mem} (hD : Dok w D) (n0 : ow w D 6 this) (lQ : ∀ t, h_Q t = true → h t = true) (hQ : ∀ z0 z1, Ow w D T h_Q M0 z1 → Q z0 z1 → Q' z0 z1) : Ow w D T h M0 M → w_Machine_lock_j87 this Q M → w_Machine_lock_j87 this Q' M := by
  intro hf
  unfold w_Machine_lock_j87
  exact (mo_w_Machine_fail hD n0 (fun M7 f1 => (have g2 : Ow w D T _ M0 M7 := (Ow.trans hf f1); (hQ _ _  (Ow.dn lQ g2)))) hf.1)
set_option maxRecDepth 20000 in
theorem mo_w_Machine_lock_j124 {w : Nat} {D : Nat → Nat → Prop} {T : Nat → Prop} {h : Hot} {this : Nat} {Q Q' : Int32 → Mem → Prop} {h_Q : Hot} {s0 : Int32} {s1 : Int32} {s2 : Int32} {s3 : Nat} {M : Mem} {M0 : Mem} (hD : Dok w D) (n0 : ow w D 301 s3) (n1 : ow w D 6 this) (lQ : ∀ t, h_Q t = true → h t = true) (hQ : ∀ z0 z1, Ow w D T h_Q M0 z1 → Q z0 z1 → Q' z0 z1) : Ow w D T h M0 M → w_Machine_lock_j124 this Q s0 s1 s2 s3 M → w_Machine_lock_j124 this Q' s0 s1 s2 s3 M := by
  intro hf
  unfold w_Machine_lock_j124
  exact (mf_and fun _ => (Exists.imp fun M16 => (mf_and fun e1 => (have g2 : Ow w D T _ M0 M16 := Ow.of e1 (Ow.wI n1 (Ow.wI n0 hf)); (hQ _ _  (Ow.dn lQ g2))))))
set_option maxRecDepth 20000 in
theorem mo_w_Machine_lock_j96 {w : Nat} {D : Nat → Nat → Prop} {T : Nat → Prop} {h : Hot} {this : Nat} {Q Q' : Int32 → Mem → Prop} {h_Q : Hot} {v1 : Int32} {v3 : Nat} {v4 : Nat} {v5 : Int32} {M : Mem} {M0 : Mem} (hD : Dok w D) (n0 : ow w D 301 v4) (n1 : ow w D 301 v3) (n2 : ow w D 6 this) (lQ : ∀ t, h_Q t = true → h t = true) (hQ : ∀ z0 z1, Ow w D T h_Q M0 z1 → Q z0 z1 → Q' z0 z1) : Ow w D T h M0 M → w_Machine_lock_j96 this Q v1 v3 v4 v5 M → w_Machine_lock_j96 this Q' v1 v3 v4 v5 M := by
  intro hf
  unfold w_Machine_lock_j96
  exact (Exists.imp fun i11 => (mf_and fun e1 => (mf_and fun _ => (mf_and fun _ => (mf_ite (have g3 : Ow w D T _ M0 (sI M 301 v4 v5.toNatClampNeg (mI M 7 i11 0)) := (Ow.wI n0 hf); (mo_w_Machine_lock_j124 hD n1 n2 lQ hQ g3)) (have g4 : Ow w D T _ M0 (sI M 301 v4 v5.toNatClampNeg (mI M 7 i11 0)) := (Ow.wI n0 hf); (mo_w_Machine_lock_j124 hD n1 n2 lQ hQ g4)))))))
set_option maxRecDepth 20000 in
theorem mo_w_Machine_lock_j57 {w : Nat} {D : Nat → Nat → Prop} {T : Nat → Prop} {h : Hot} {this : Nat} {Q Q' : Int32 → Mem → Prop} {h_Q : Hot} {v1 : Int32} {v3 : Nat} {v4 : Nat} {s0 : Int32} {M : Mem} {M0 : Mem} (hD : Dok w D) (n0 : ow w D 6 this) (n1 : ow w D 301 v4) (n2 : ow w D 301 v3) (lQ : ∀ t, h_Q t = true → h t = true) (hQ : ∀ z0 z1, Ow w D T h_Q M0 z1 → Q z0 z1 → Q' z0 z1) : Ow w D T h M0 M → w_Machine_lock_j57 this Q v1 v3 v4 s0 M → w_Machine_lock_j57 this Q' v1 v3 v4 s0 M := by
  intro hf
  unfold w_Machine_lock_j57
  exact (mf_ite (mf_and fun _ => (mf_ite (mo_w_Machine_lock_j87 hD n0 lQ hQ hf) (mf_and fun _ => (Exists.imp fun i9 => (mf_and fun e1 => (mf_ite (mo_w_Machine_lock_j96 hD n1 n2 n0 lQ hQ hf) (mo_w_Machine_lock_j87 hD n0 lQ hQ hf))))))) (mo_w_Machine_lock_j96 hD n1 n2 n0 lQ hQ hf))
set_option maxRecDepth 20000 in
theorem mo_w_Machine_lock_j37 {w : Nat} {D : Nat → Nat → Prop} {T : Nat → Prop} {h : Hot} {this : Nat} {Q Q' : Int32 → Mem → Prop} {h_Q : Hot} {v1 : Int32} {v2 : Int32} {v3 : Nat} {s0 : Nat} {M : Mem} {M0 : Mem} (hD : Dok w D) (n0 : ow w D 6 this) (n1 : ow w D 301 s0) (n2 : ow w D 301 v3) (lQ : ∀ t, h_Q t = true → h t = true) (hQ : ∀ z0 z1, Ow w D T h_Q M0 z1 → Q z0 z1 → Q' z0 z1) : Ow w D T h M0 M → w_Machine_lock_j37 this Q v1 v2 v3 s0 M → w_Machine_lock_j37 this Q' v1 v2 v3 s0 M := by
  intro hf
  unfold w_Machine_lock_j37
  exact (mf_ite (mo_w_Machine_lock_j57 hD n0 n1 n2 lQ hQ hf) (mo_w_Machine_lock_j57 hD n0 n1 n2 lQ hQ hf))
set_option maxRecDepth 20000 in
theorem mo_w_Machine_lock_j18 {w : Nat} {D : Nat → Nat → Prop} {T : Nat → Prop} {h : Hot} {this : Nat} {Q Q' : Int32 → Mem → Prop} {h_Q : Hot} {v1 : Int32} {v2 : Int32} {s0 : Nat} {M : Mem} {M0 : Mem} (hD : Dok w D) (n0 : ow w D 6 this) (n1 : ow w D 301 s0) (lQ : ∀ t, h_Q t = true → h t = true) (hQ : ∀ z0 z1, Ow w D T h_Q M0 z1 → Q z0 z1 → Q' z0 z1) : Ow w D T h M0 M → w_Machine_lock_j18 this Q v1 v2 s0 M → w_Machine_lock_j18 this Q' v1 v2 s0 M := by
  intro hf
  unfold w_Machine_lock_j18
  exact (mf_ite (mo_w_Machine_lock_j37 hD n0 (hD.2.2.2.2 n0) n1 lQ hQ hf) (Exists.imp fun i17 => (mf_and fun e1 => (have o2 : ow w D 301 i17 := (Ow.r1 e1 rfl rfl n0 hf); (mo_w_Machine_lock_j37 hD n0 o2 n1 lQ hQ hf)))))
set_option maxRecDepth 20000 in
theorem mo_w_Machine_lock {w : Nat} {D : Nat → Nat → Prop} {T : Nat → Prop} {h : Hot} {this : Nat} {a1 : Int32} {a2 : Int32} {Q Q' : Int32 → Mem → Prop} {M : Mem} (hD : Dok w D) (n0 : ow w D 6 this) (hQ : ∀ z0 z1, Ow w D T h M z1 → Q z0 z1 → Q' z0 z1) : St w D T h M → w_Machine_lock this a1 a2 Q M → w_Machine_lock this a1 a2 Q' M := by
  intro hs
  unfold w_Machine_lock
  exact (mf_ite (mo_w_Machine_lock_j18 hD n0 (hD.2.2.2.1 n0) (fun _ e => e) hQ (Ow.rf hs)) (Exists.imp fun i18 => (mf_and fun e1 => (have o2 : ow w D 301 i18 := (Ow.r1 e1 rfl rfl n0 (Ow.rf hs)); (mo_w_Machine_lock_j18 hD n0 o2 (fun _ e => e) hQ (Ow.rf hs))))))
set_option maxRecDepth 20000 in
theorem mo_w_Machine_inThing_j177 {w : Nat} {D : Nat → Nat → Prop} {T : Nat → Prop} {h : Hot} {this : Nat} {Q Q' : Int32 → Mem → Prop} {h_Q : Hot} {v1 : Int32} {v2 : Int32} {s0 : Int32} {M : Mem} {M0 : Mem} (hD : Dok w D) (n0 : ow w D 6 this) (lQ : ∀ t, h_Q t = true → h t = true) (hQ : ∀ z0 z1, Ow w D T h_Q M0 z1 → Q z0 z1 → Q' z0 z1) : Ow w D T h M0 M → w_Machine_inThing_j177 this Q v1 v2 s0 M → w_Machine_inThing_j177 this Q' v1 v2 s0 M := by
  intro hf
  unfold w_Machine_inThing_j177
  exact (mo_w_Machine_number hD  (fun r3 M2 f1 => (have g2 : Ow w D T _ M0 M2 := (Ow.trans hf f1); (mf_and fun _ => (mo_w_Works_isIn hD  (fun r6 M5 f3 => (have g4 : Ow w D T _ M0 M5 := (Ow.trans g2 f3); (mf_ite (mo_w_Machine_fail hD n0 (fun M8 f5 => (have g6 : Ow w D T _ M0 M8 := (Ow.trans g4 f5); (hQ _ _  (Ow.dn lQ g6)))) g4.1) (mf_ite (mf_and fun _ => (mf_and fun _ => (mo_w_Machine_comes hD n0 (fun M12 f7 => (have g8 : Ow w D T _ M0 M12 := (Ow.trans g4 f7); (hQ _ _  (Ow.dn lQ g8)))) g4.1))) (mf_and fun _ => (mo_w_Machine_number hD  (fun r15 M14 f9 => (have g10 : Ow w D T _ M0 M14 := (Ow.trans g4 f9); (mf_and fun _ => (Exists.imp fun M17 => (mf_and fun e11 => (have g12 : Ow w D T _ M0 M17 := Ow.of e11 (Ow.wI (ow.to n0 rfl rfl) g10); (hQ _ _  (Ow.dn lQ (Ow.wI n0 g12))))))))) g4.1)))))) g2.1)))) hf.1)
set_option maxRecDepth 20000 in
theorem mo_w_Machine_inThing_j98 {w : Nat} {D : Nat → Nat → Prop} {T : Nat → Prop} {h : Hot} {this : Nat} {Q Q' : Int32 → Mem → Prop} {h_Q : Hot} {s0 : Int32} {s1 : Int32} {s2 : Int32} {M : Mem} {M0 : Mem} (hD : Dok w D) (n0 : ow w D 6 this) (lQ : ∀ t, h_Q t = true → h t = true) (hQ : ∀ z0 z1, Ow w D T h_Q M0 z1 → Q z0 z1 → Q' z0 z1) : Ow w D T h M0 M → w_Machine_inThing_j98 this Q s0 s1 s2 M → w_Machine_inThing_j98 this Q' s0 s1 s2 M := by
  intro hf
  unfold w_Machine_inThing_j98
  exact (mo_w_Machine_comes hD n0 (fun M38 f1 => (have g2 : Ow w D T _ M0 M38 := (Ow.trans hf f1); (hQ _ _  (Ow.dn lQ g2)))) hf.1)
set_option maxRecDepth 20000 in
theorem mo_w_Machine_inThing {w : Nat} {D : Nat → Nat → Prop} {T : Nat → Prop} {h : Hot} {this : Nat} {a1 : Int32} {a2 : Int32} {Q Q' : Int32 → Mem → Prop} {M : Mem} (hD : Dok w D) (n0 : ow w D 6 this) (hQ : ∀ z0 z1, Ow w D T h M z1 → Q z0 z1 → Q' z0 z1) : St w D T h M → w_Machine_inThing this a1 a2 Q M → w_Machine_inThing this a1 a2 Q' M := by
  intro hs
  unfold w_Machine_inThing
  exact (mf_ite (mf_and fun _ => (mo_w_Machine_comes hD n0 (fun M40 f1 => (have g2 : Ow w D T _ M M40 := (Ow.trans (Ow.rf hs) f1); (hQ _ _  g2))) (Ow.rf hs).1)) (mf_ite (mf_and fun _ => (mf_and fun _ => (mf_and fun _ => (mf_and fun _ => (mf_ite (mo_w_Machine_inThing_j98 hD n0 (fun _ e => e) hQ (Ow.rf hs)) (mo_w_Machine_inThing_j98 hD n0 (fun _ e => e) hQ (Ow.rf hs))))))) (mf_ite (mf_and fun _ => (mf_and fun _ => (mo_w_Machine_number hD  (fun r30 M29 f3 => (have g4 : Ow w D T _ M M29 := (Ow.trans (Ow.rf hs) f3); (mf_and fun _ => (Exists.imp fun M32 => (mf_and fun e5 => (have g6 : Ow w D T _ M M32 := Ow.of e5 (Ow.wI (ow.to n0 rfl rfl) g4); (hQ _ _  (Ow.wI n0 g6)))))))) (Ow.rf hs).1))) (mf_ite (mo_w_Machine_lock hD n0 (fun r26 M25 f7 => (have g8 : Ow w D T _ M M25 := (Ow.trans (Ow.rf hs) f7); (mf_and fun _ => (hQ _ _  g8)))) (Ow.rf hs).1) (mf_ite (mo_w_Machine_lock hD n0 (fun r24 M23 f9 => (have g10 : Ow w D T _ M M23 := (Ow.trans (Ow.rf hs) f9); (mf_and fun _ => (hQ _ _  g10)))) (Ow.rf hs).1) (mf_ite (mo_w_Machine_inThing_j177 hD n0 (fun _ e => e) hQ (Ow.rf hs)) (mo_w_Machine_inThing_j177 hD n0 (fun _ e => e) hQ (Ow.rf hs))))))))
set_option maxRecDepth 20000 in
theorem mo_w_Machine_things_j178 {w : Nat} {D : Nat → Nat → Prop} {T : Nat → Prop} {h : Hot} {this : Nat} {Q Q' : Mem → Prop} {h_Q : Hot} {v1 : Int32} {v4 : Int32} {M : Mem} {M0 : Mem} (hD : Dok w D) (n0 : ow w D 6 this) (lQ : ∀ t, h_Q t = true → h t = true) (hQ : ∀ z0, Ow w D T h_Q M0 z0 → Q z0 → Q' z0) : Ow w D T h M0 M → w_Machine_things_j178 this Q v1 v4 M → w_Machine_things_j178 this Q' v1 v4 M := by
  intro hf
  unfold w_Machine_things_j178
  exact (mo_w_Machine_goesTo hD n0 (fun M5 f1 => (have g2 : Ow w D T _ M0 M5 := (Ow.trans hf f1); (hQ _  (Ow.dn lQ g2)))) hf.1)
set_option maxRecDepth 20000 in
theorem mo_w_Machine_things_j12 {w : Nat} {D : Nat → Nat → Prop} {T : Nat → Prop} {h : Hot} {this : Nat} {Q Q' : Mem → Prop} {h_Q : Hot} {v1 : Int32} {v3 : Int32} {v4 : Int32} {M : Mem} {M0 : Mem} (hD : Dok w D) (n0 : ow w D 6 this) (lQ : ∀ t, h_Q t = true → h t = true) (hQ : ∀ z0, Ow w D T h_Q M0 z0 → Q z0 → Q' z0) : Ow w D T h M0 M → w_Machine_things_j12 this Q v1 v3 v4 M → w_Machine_things_j12 this Q' v1 v3 v4 M := by
  intro hf
  unfold w_Machine_things_j12
  exact (mo_w_Machine_makes hD n0 (fun r3 M2 f1 => (have g2 : Ow w D T _ M0 M2 := (Ow.trans hf f1); (mf_ite (hQ _  (Ow.dn lQ g2)) (mo_w_Machine_things_j178 hD n0 lQ hQ g2)))) hf.1)
set_option maxRecDepth 20000 in
theorem mo_w_Machine_things_j111 {w : Nat} {D : Nat → Nat → Prop} {T : Nat → Prop} {h : Hot} {this : Nat} {Q Q' : Mem → Prop} {h_Q : Hot} {v1 : Int32} {v4 : Int32} {s0 : Int32} {s1 : Int32} {M : Mem} {M0 : Mem} (hD : Dok w D) (n0 : ow w D 6 this) (lQ : ∀ t, h_Q t = true → h t = true) (hQ : ∀ z0, Ow w D T h_Q M0 z0 → Q z0 → Q' z0) : Ow w D T h M0 M → w_Machine_things_j111 this Q v1 v4 s0 s1 M → w_Machine_things_j111 this Q' v1 v4 s0 s1 M := by
  intro hf
  unfold w_Machine_things_j111
  exact (have g1 : Ow w D T _ M0 (sI M 6 this 34 (s1 - s0)) := (Ow.wI n0 hf); (mo_w_Machine_things_j178 hD n0 lQ hQ g1))
set_option maxRecDepth 20000 in
theorem mo_w_Machine_things_j95 {w : Nat} {D : Nat → Nat → Prop} {T : Nat → Prop} {h : Hot} {this : Nat} {Q Q' : Mem → Prop} {h_Q : Hot} {v1 : Int32} {v3 : Int32} {v4 : Int32} {M : Mem} {M0 : Mem} (hD : Dok w D) (n0 : ow w D 6 this) (lQ : ∀ t, h_Q t = true → h t = true) (hQ : ∀ z0, Ow w D T h_Q M0 z0 → Q z0 → Q' z0) : Ow w D T h M0 M → w_Machine_things_j95 this Q v1 v3 v4 M → w_Machine_things_j95 this Q' v1 v3 v4 M := by
  intro hf
  unfold w_Machine_things_j95
  exact (mf_ite (mo_w_Machine_things_j111 hD n0 lQ hQ hf) (mo_w_Machine_things_j111 hD n0 lQ hQ hf))
set_option maxRecDepth 20000 in
theorem mo_w_Machine_things_j72 {w : Nat} {D : Nat → Nat → Prop} {T : Nat → Prop} {h : Hot} {this : Nat} {Q Q' : Mem → Prop} {h_Q : Hot} {v1 : Int32} {v3 : Int32} {v4 : Int32} {s0 : Int32} {s1 : Int32} {M : Mem} {M0 : Mem} (hD : Dok w D) (n0 : ow w D 6 this) (lQ : ∀ t, h_Q t = true → h t = true) (hQ : ∀ z0, Ow w D T h_Q M0 z0 → Q z0 → Q' z0) : Ow w D T h M0 M → w_Machine_things_j72 this Q v1 v3 v4 s0 s1 M → w_Machine_things_j72 this Q' v1 v3 v4 s0 s1 M := by
  intro hf
  unfold w_Machine_things_j72
  exact (mo_w_Machine_push hD n0 (fun M12 f1 => (have g2 : Ow w D T _ M0 M12 := (Ow.trans hf f1); (mo_w_Machine_things_j95 hD n0 lQ hQ g2))) hf.1)
set_option maxRecDepth 20000 in
theorem mo_w_Machine_things_j33 {w : Nat} {D : Nat → Nat → Prop} {T : Nat → Prop} {h : Hot} {this : Nat} {Q Q' : Mem → Prop} {h_Q : Hot} {v1 : Int32} {v3 : Int32} {v4 : Int32} {M : Mem} {M0 : Mem} (hD : Dok w D) (n0 : ow w D 6 this) (lQ : ∀ t, h_Q t = true → h t = true) (hQ : ∀ z0, Ow w D T h_Q M0 z0 → Q z0 → Q' z0) : Ow w D T h M0 M → w_Machine_things_j33 this Q v1 v3 v4 M → w_Machine_things_j33 this Q' v1 v3 v4 M := by
  intro hf
  unfold w_Machine_things_j33
  exact (mf_ite (mf_and fun _ => (mf_and fun _ => (mf_ite (mo_w_Machine_things_j72 hD n0 lQ hQ hf) (mo_w_Machine_things_j72 hD n0 lQ hQ hf)))) (mo_w_Machine_number hD  (fun r15 M14 f1 => (have g2 : Ow w D T _ M0 M14 := (Ow.trans hf f1); (mf_and fun _ => (have g3 : Ow w D T _ M0 (sI M14 54 this (mI M 6 this 36).toNatClampNeg r15) := (Ow.wI (ow.to n0 rfl rfl) g2); (mo_w_Machine_things_j95 hD n0 lQ hQ g3))))) hf.1))
set_option maxRecDepth 20000 in
theorem mo_w_Machine_things_j145 {w : Nat} {D : Nat → Nat → Prop} {T : Nat → Prop} {h : Hot} {this : Nat} {Q Q' : Mem → Prop} {h_Q : Hot} {v1 : Int32} {v3 : Int32} {v4 : Int32} {s0 : Int32} {M : Mem} {M0 : Mem} (hD : Dok w D) (n0 : ow w D 6 this) (lQ : ∀ t, h_Q t = true → h t = true) (hQ : ∀ z0, Ow w D T h_Q M0 z0 → Q z0 → Q' z0) : Ow w D T h M0 M → w_Machine_things_j145 this Q v1 v3 v4 s0 M → w_Machine_things_j145 this Q' v1 v3 v4 s0 M := by
  intro hf
  unfold w_Machine_things_j145
  exact (mo_w_Machine_number hD  (fun r20 M19 f1 => (have g2 : Ow w D T _ M0 M19 := (Ow.trans hf f1); (mf_ite (mo_w_Machine_fail hD n0 (fun M22 f3 => (have g4 : Ow w D T _ M0 M22 := (Ow.trans g2 f3); (hQ _  (Ow.dn lQ g4)))) g2.1) (mo_w_Machine_inThing hD n0 (fun r24 M23 f5 => (have g6 : Ow w D T _ M0 M23 := (Ow.trans g2 f5); (mf_ite (hQ _  (Ow.dn lQ g6)) (mo_w_Machine_things_j178 hD n0 lQ hQ g6)))) g2.1)))) hf.1)
set_option maxRecDepth 20000 in
theorem mo_w_Machine_things_j140 {w : Nat} {D : Nat → Nat → Prop} {T : Nat → Prop} {h : Hot} {this : Nat} {Q Q' : Mem → Prop} {h_Q : Hot} {v1 : Int32} {v3 : Int32} {v4 : Int32} {M : Mem} {M0 : Mem} (hD : Dok w D) (n0 : ow w D 6 this) (lQ : ∀ t, h_Q t = true → h t = true) (hQ : ∀ z0, Ow w D T h_Q M0 z0 → Q z0 → Q' z0) : Ow w D T h M0 M → w_Machine_things_j140 this Q v1 v3 v4 M → w_Machine_things_j140 this Q' v1 v3 v4 M := by
  intro hf
  unfold w_Machine_things_j140
  exact (mo_w_Machine_things_j145 hD n0 lQ hQ hf)
set_option maxRecDepth 20000 in
theorem mo_w_Machine_things {w : Nat} {D : Nat → Nat → Prop} {T : Nat → Prop} {h : Hot} {this : Nat} {a1 : Int32} {a2 : Int32} {a3 : Int32} {a4 : Int32} {Q Q' : Mem → Prop} {M : Mem} (hD : Dok w D) (n0 : ow w D 6 this) (hQ : ∀ z0, Ow w D T h M z0 → Q z0 → Q' z0) : St w D T h M → w_Machine_things this a1 a2 a3 a4 Q M → w_Machine_things this a1 a2 a3 a4 Q' M := by
  intro hs
  unfold w_Machine_things
  exact (mf_ite (mo_w_Machine_things_j12 hD n0 (fun _ e => e) hQ (Ow.rf hs)) (mf_ite (mo_w_Machine_things_j12 hD n0 (fun _ e => e) hQ (Ow.rf hs)) (mf_ite (mo_w_Machine_things_j33 hD n0 (fun _ e => e) hQ (Ow.rf hs)) (mf_ite (mo_w_Machine_things_j33 hD n0 (fun _ e => e) hQ (Ow.rf hs)) (mf_ite (mo_w_Machine_things_j145 hD n0 (fun _ e => e) hQ (Ow.rf hs)) (mf_ite (mo_w_Machine_things_j140 hD n0 (fun _ e => e) hQ (Ow.rf hs)) (mf_ite (mo_w_Machine_things_j140 hD n0 (fun _ e => e) hQ (Ow.rf hs)) (mo_w_Machine_things_j145 hD n0 (fun _ e => e) hQ (Ow.rf hs)))))))))
set_option maxRecDepth 20000 in
theorem mo_w_Machine_calls_j181 {w : Nat} {D : Nat → Nat → Prop} {T : Nat → Prop} {h : Hot} {this : Nat} {Q Q' : Mem → Prop} {h_Q : Hot} {M : Mem} {M0 : Mem} (hD : Dok w D) (n0 : ow w D 6 this) (lQ : ∀ t, h_Q t = true → h t = true) (hQ : ∀ z0, Ow w D T h_Q M0 z0 → Q z0 → Q' z0) : Ow w D T h M0 M → w_Machine_calls_j181 this Q M → w_Machine_calls_j181 this Q' M := by
  intro hf
  unfold w_Machine_calls_j181
  exact (mo_w_Machine_fail hD n0 (fun M6 f1 => (have g2 : Ow w D T _ M0 M6 := (Ow.trans hf f1); (hQ _  (Ow.dn lQ g2)))) hf.1)
set_option maxRecDepth 20000 in
theorem mo_w_Machine_calls_L286 {w : Nat} {D : Nat → Nat → Prop} {T : Nat → Prop} {h : Hot} {this : Nat} {Q Q' : Mem → Prop} {h_Q : Hot} {M0 : Mem} (hD : Dok w D) (n0 : ow w D 6 this) (lQ : ∀ t, h_Q t = true → h t = true) (hQ : ∀ z0, Ow w D T h_Q M0 z0 → Q z0 → Q' z0) : ∀ (n : Nat) (v1 : Int32) (v7 : Int32) (v8 : Int32) (v9 : Int32) (v10 : Int32) (M : Mem), Ow w D T h M0 M → w_Machine_calls_L286 this Q n v1 v7 v8 v9 v10 M → w_Machine_calls_L286 this Q' n v1 v7 v8 v9 v10 M
  | 0, _, _, _, _, _, _ => fun  _ h => h
  | n + 1, v1, v7, v8, v9, v10, M => fun  hf => by
    unfold w_Machine_calls_L286
    exact (mf_ite (Exists.imp fun i17 => (mf_and fun e1 => (have o2 : ow w D 7 i17 := (Ow.r1 e1 rfl rfl n0 hf); (mf_and fun _ => (hQ _  (Ow.dn lQ (Ow.wI (ow.to o2 rfl rfl) hf))))))) (Exists.imp fun i19 => (mf_and fun e3 => (mf_and fun _ => (Exists.imp fun i21 => (mf_and fun e5 => (mf_and fun _ => (mo_w_Machine_set hD n0 (fun M23 f7 => (have g8 : Ow w D T _ M0 M23 := (Ow.trans hf f7); (mo_w_Machine_calls_L286 hD n0 lQ hQ _ _ _ _ _ _ _  g8))) hf.1))))))))
set_option maxRecDepth 20000 in
theorem mo_w_Machine_calls_j202 {w : Nat} {D : Nat → Nat → Prop} {T : Nat → Prop} {h : Hot} {this : Nat} {Q Q' : Mem → Prop} {h_Q : Hot} {v1 : Int32} {v5 : Int32} {s0 : Int32} {s1 : Int32} {M : Mem} {M0 : Mem} (hD : Dok w D) (n0 : ow w D 6 this) (lQ : ∀ t, h_Q t = true → h t = true) (hQ : ∀ z0, Ow w D T h_Q M0 z0 → Q z0 → Q' z0) : Ow w D T h M0 M → w_Machine_calls_j202 this Q v1 v5 s0 s1 M → w_Machine_calls_j202 this Q' v1 v5 s0 s1 M := by
  intro hf
  unfold w_Machine_calls_j202
  exact (mf_and fun _ => (mf_ite (mo_w_Machine_enter hD n0 (fun r13 M12 f1 => (have g2 : Ow w D T _ M0 M12 := (Ow.trans hf f1); (mf_ite (hQ _  (Ow.dn lQ g2)) (Exists.imp fun x15 => (mf_and fun _ => (Exists.imp fun n24 => (mo_w_Machine_calls_L286 hD n0 lQ hQ _ _ _ _ _ _ _  g2))))))) hf.1) (Exists.imp fun i25 => (mf_and fun e3 => (mf_and fun _ => (have g5 : Ow w D T _ M0 (sI M 6 this 34 ((mI M 6 this 34) - (s1 + s0))) := (Ow.wI n0 hf); (mo_w_Machine_goesTo hD n0 (fun M27 f6 => (have g7 : Ow w D T _ M0 M27 := (Ow.trans g5 f6); (hQ _  (Ow.dn lQ g7)))) g5.1)))))))
set_option maxRecDepth 20000 in
theorem mo_w_Machine_calls_j160 {w : Nat} {D : Nat → Nat → Prop} {T : Nat → Prop} {h : Hot} {this : Nat} {Q Q' : Mem → Prop} {h_Q : Hot} {v1 : Int32} {v4 : Int32} {v5 : Int32} {v6 : Int32} {M : Mem} {M0 : Mem} (hD : Dok w D) (n0 : ow w D 6 this) (lQ : ∀ t, h_Q t = true → h t = true) (hQ : ∀ z0, Ow w D T h_Q M0 z0 → Q z0 → Q' z0) : Ow w D T h M0 M → w_Machine_calls_j160 this Q v1 v4 v5 v6 M → w_Machine_calls_j160 this Q' v1 v4 v5 v6 M := by
  intro hf
  unfold w_Machine_calls_j160
  exact (mf_ite (mo_w_Machine_calls_j181 hD n0 lQ hQ hf) (mf_and fun _ => (mf_ite (mf_ite (mo_w_Machine_calls_j202 hD n0 lQ hQ hf) (mo_w_Machine_calls_j202 hD n0 lQ hQ hf)) (mo_w_Machine_calls_j181 hD n0 lQ hQ hf))))
set_option maxRecDepth 20000 in
theorem mo_w_Machine_calls_j143 {w : Nat} {D : Nat → Nat → Prop} {T : Nat → Prop} {h : Hot} {this : Nat} {Q Q' : Mem → Prop} {h_Q : Hot} {v1 : Int32} {v2 : Int32} {v4 : Int32} {v6 : Int32} {v7 : Int32} {M : Mem} {M0 : Mem} (hD : Dok w D) (n0 : ow w D 5 this) (lQ : ∀ t, h_Q t = true → h t = true) (hQ : ∀ z0, Ow w D T h_Q M0 z0 → Q z0 → Q' z0) : Ow w D T h M0 M → w_Machine_calls_j143 this Q v1 v2 v4 v6 v7 M → w_Machine_calls_j143 this Q' v1 v2 v4 v6 v7 M := by
  intro hf
  unfold w_Machine_calls_j143
  exact (mo_w_Machine_classOf hD  (fun r50 M49 f1 => (have g2 : Ow w D T _ M0 M49 := (Ow.trans hf f1); (mo_w_World_method hD n0 (fun r52 M51 f3 => (have g4 : Ow w D T _ M0 M51 := (Ow.trans g2 f3); (mo_w_Machine_calls_j160 hD (ow.to n0 rfl rfl) lQ hQ g4))) g2.1))) hf.1)
set_option maxRecDepth 20000 in
theorem mo_w_Machine_calls_j86 {w : Nat} {D : Nat → Nat → Prop} {T : Nat → Prop} {h : Hot} {this : Nat} {Q Q' : Mem → Prop} {h_Q : Hot} {v1 : Int32} {v2 : Int32} {v3 : Int32} {v4 : Int32} {v5 : Int32} {v6 : Int32} {v7 : Int32} {s0 : Int32} {M : Mem} {M0 : Mem} (hD : Dok w D) (n0 : ow w D 6 this) (lQ : ∀ t, h_Q t = true → h t = true) (hQ : ∀ z0, Ow w D T h_Q M0 z0 → Q z0 → Q' z0) : Ow w D T h M0 M → w_Machine_calls_j86 this Q v1 v2 v3 v4 v5 v6 v7 s0 M → w_Machine_calls_j86 this Q' v1 v2 v3 v4 v5 v6 v7 s0 M := by
  intro hf
  unfold w_Machine_calls_j86
  exact (mf_ite (mo_w_Machine_calls_j160 hD n0 lQ hQ hf) (mf_ite (mo_w_Machine_classOf hD  (fun r38 M37 f1 => (have g2 : Ow w D T _ M0 M37 := (Ow.trans hf f1); (mo_w_JMath_max hD  (fun r40 M39 f3 => (have g4 : Ow w D T _ M0 M39 := (Ow.trans g2 f3); (mo_w_World_refClass hD  (fun r42 M41 f5 => (have g6 : Ow w D T _ M0 M41 := (Ow.trans g4 f5); (mo_w_World_find hD  (fun r44 M43 f7 => (have g8 : Ow w D T _ M0 M43 := (Ow.trans g6 f7); (mo_w_World_isBelow hD (ow.to n0 rfl rfl) (fun r46 M45 f9 => (have g10 : Ow w D T _ M0 M45 := (Ow.trans g8 f9); (mf_ite (mo_w_Machine_fail hD n0 (fun M48 f11 => (have g12 : Ow w D T _ M0 M48 := (Ow.trans g10 f11); (hQ _  (Ow.dn lQ g12)))) g10.1) (mo_w_Machine_calls_j143 hD (ow.to n0 rfl rfl) lQ hQ g10)))) g8.1))) g6.1))) g4.1))) g2.1))) hf.1) (mo_w_Machine_calls_j143 hD (ow.to n0 rfl rfl) lQ hQ hf)))
set_option maxRecDepth 20000 in
theorem mo_w_Machine_calls_j85 {w : Nat} {D : Nat → Nat → Prop} {T : Nat → Prop} {h : Hot} {this : Nat} {Q Q' : Mem → Prop} {h_Q : Hot} {v1 : Int32} {v2 : Int32} {v3 : Int32} {v4 : Int32} {v5 : Int32} {v6 : Int32} {v7 : Int32} {M : Mem} {M0 : Mem} (hD : Dok w D) (n0 : ow w D 6 this) (lQ : ∀ t, h_Q t = true → h t = true) (hQ : ∀ z0, Ow w D T h_Q M0 z0 → Q z0 → Q' z0) : Ow w D T h M0 M → w_Machine_calls_j85 this Q v1 v2 v3 v4 v5 v6 v7 M → w_Machine_calls_j85 this Q' v1 v2 v3 v4 v5 v6 v7 M := by
  intro hf
  unfold w_Machine_calls_j85
  exact (mo_w_Machine_calls_j86 hD n0 lQ hQ hf)
set_option maxRecDepth 20000 in
theorem mo_w_Machine_calls_j66 {w : Nat} {D : Nat → Nat → Prop} {T : Nat → Prop} {h : Hot} {this : Nat} {Q Q' : Mem → Prop} {h_Q : Hot} {v1 : Int32} {v2 : Int32} {v3 : Int32} {v4 : Int32} {v5 : Int32} {v6 : Int32} {v7 : Int32} {M : Mem} {M0 : Mem} (hD : Dok w D) (n0 : ow w D 6 this) (lQ : ∀ t, h_Q t = true → h t = true) (hQ : ∀ z0, Ow w D T h_Q M0 z0 → Q z0 → Q' z0) : Ow w D T h M0 M → w_Machine_calls_j66 this Q v1 v2 v3 v4 v5 v6 v7 M → w_Machine_calls_j66 this Q' v1 v2 v3 v4 v5 v6 v7 M := by
  intro hf
  unfold w_Machine_calls_j66
  exact (mf_and fun _ => (mf_ite (mo_w_Machine_calls_j86 hD n0 lQ hQ hf) (mo_w_Machine_calls_j85 hD n0 lQ hQ hf)))
set_option maxRecDepth 20000 in
theorem mo_w_Machine_calls_j27 {w : Nat} {D : Nat → Nat → Prop} {T : Nat → Prop} {h : Hot} {this : Nat} {Q Q' : Mem → Prop} {h_Q : Hot} {v1 : Int32} {v2 : Int32} {v3 : Int32} {v4 : Int32} {v5 : Int32} {s0 : Int32} {M : Mem} {M0 : Mem} (hD : Dok w D) (n0 : ow w D 6 this) (lQ : ∀ t, h_Q t = true → h t = true) (hQ : ∀ z0, Ow w D T h_Q M0 z0 → Q z0 → Q' z0) : Ow w D T h M0 M → w_Machine_calls_j27 this Q v1 v2 v3 v4 v5 s0 M → w_Machine_calls_j27 this Q' v1 v2 v3 v4 v5 s0 M := by
  intro hf
  unfold w_Machine_calls_j27
  exact (mf_ite (mo_w_Machine_calls_j160 hD n0 lQ hQ hf) (mo_w_Machine_number hD  (fun r29 M28 f1 => (have g2 : Ow w D T _ M0 M28 := (Ow.trans hf f1); (mf_ite (mo_w_Machine_fail hD n0 (fun M31 f3 => (have g4 : Ow w D T _ M0 M31 := (Ow.trans g2 f3); (hQ _  (Ow.dn lQ g4)))) g2.1) (mf_ite (mo_w_Machine_calls_j66 hD n0 lQ hQ g2) (mf_ite (mo_w_Machine_calls_j66 hD n0 lQ hQ g2) (mo_w_Machine_calls_j85 hD n0 lQ hQ g2)))))) hf.1))
set_option maxRecDepth 20000 in
theorem mo_w_Machine_calls {w : Nat} {D : Nat → Nat → Prop} {T : Nat → Prop} {h : Hot} {this : Nat} {a1 : Int32} {a2 : Int32} {a3 : Int32} {Q Q' : Mem → Prop} {M : Mem} (hD : Dok w D) (n0 : ow w D 6 this) (hQ : ∀ z0, Ow w D T h M z0 → Q z0 → Q' z0) : St w D T h M → w_Machine_calls this a1 a2 a3 Q M → w_Machine_calls this a1 a2 a3 Q' M := by
  intro hs
  unfold w_Machine_calls
  exact (mo_w_World_refArguments hD  (fun r2 M1 f1 => (have g2 : Ow w D T _ M M1 := (Ow.trans (Ow.rf hs) f1); (mf_ite (mo_w_Machine_calls_j27 hD n0 (fun _ e => e) hQ g2) (mo_w_Machine_calls_j27 hD n0 (fun _ e => e) hQ g2)))) (Ow.rf hs).1)
set_option maxRecDepth 20000 in
theorem mo_w_Machine_turn {w : Nat} {D : Nat → Nat → Prop} {T : Nat → Prop} {h : Hot} {this : Nat} {a1 : Int32} {Q Q' : Mem → Prop} {M : Mem} (hD : Dok w D) (n0 : ow w D 6 this) (hQ : ∀ z0, Ow w D T h M z0 → Q z0 → Q' z0) : St w D T h M → w_Machine_turn this a1 Q M → w_Machine_turn this a1 Q' M := by
  intro hs
  unfold w_Machine_turn
  exact (Exists.imp fun i1 => (mf_and fun e1 => (mf_and fun _ => (Exists.imp fun x3 => (mf_and fun _ => (Exists.imp fun i4 => (mf_and fun e3 => (mf_and fun _ => (Exists.imp fun x6 => (mf_and fun _ => (Exists.imp fun i7 => (mf_and fun e5 => (mf_and fun _ => (Exists.imp fun x9 => (mf_and fun _ => (Exists.imp fun i10 => (mf_and fun e7 => (mf_and fun _ => (Exists.imp fun x12 => (mf_and fun _ => (mo_w_Machine_set hD n0 (fun M13 f9 => (have g10 : Ow w D T _ M M13 := (Ow.trans (Ow.rf hs) f9); (mo_w_Machine_set hD n0 (fun M14 f11 => (have g12 : Ow w D T _ M M14 := (Ow.trans g10 f11); (mf_ite (mo_w_Machine_push hD n0 (fun M16 f13 => (have g14 : Ow w D T _ M M16 := (Ow.trans g12 f13); (hQ _  g14))) g12.1) (hQ _  g12)))) g10.1))) (Ow.rf hs).1)))))))))))))))))))))
set_option maxRecDepth 20000 in
theorem mo_w_Machine_isRow {w : Nat} {D : Nat → Nat → Prop} {T : Nat → Prop} {h : Hot} {this : Nat} {a1 : Int32} {Q Q' : Int32 → Mem → Prop} {M : Mem} (hD : Dok w D)  (hQ : ∀ z0 z1, Ow w D T h M z1 → Q z0 z1 → Q' z0 z1) : St w D T h M → w_Machine_isRow this a1 Q M → w_Machine_isRow this a1 Q' M := by
  intro hs
  unfold w_Machine_isRow
  exact (mf_ite (hQ _ _  (Ow.rf hs)) (mf_and fun _ => (mf_ite (hQ _ _  (Ow.rf hs)) (hQ _ _  (Ow.rf hs)))))
set_option maxRecDepth 20000 in
theorem mo_w_Machine_isOf_j100 {w : Nat} {D : Nat → Nat → Prop} {T : Nat → Prop} {h : Hot} {this : Nat} {Q Q' : Int32 → Mem → Prop} {h_Q : Hot} {s0 : Int32} {s1 : Int32} {M : Mem} {M0 : Mem} (hD : Dok w D) (n0 : ow w D 6 this) (lQ : ∀ t, h_Q t = true → h t = true) (hQ : ∀ z0 z1, Ow w D T h_Q M0 z1 → Q z0 z1 → Q' z0 z1) : Ow w D T h M0 M → w_Machine_isOf_j100 this Q s0 s1 M → w_Machine_isOf_j100 this Q' s0 s1 M := by
  intro hf
  unfold w_Machine_isOf_j100
  exact (mo_w_Machine_comes hD n0 (fun M18 f1 => (have g2 : Ow w D T _ M0 M18 := (Ow.trans hf f1); (hQ _ _  (Ow.dn lQ g2)))) hf.1)
set_option maxRecDepth 20000 in
theorem mo_w_Machine_isOf_j80 {w : Nat} {D : Nat → Nat → Prop} {T : Nat → Prop} {h : Hot} {this : Nat} {Q Q' : Int32 → Mem → Prop} {h_Q : Hot} {v2 : Int32} {s0 : Int32} {M : Mem} {M0 : Mem} (hD : Dok w D) (n0 : ow w D 6 this) (lQ : ∀ t, h_Q t = true → h t = true) (hQ : ∀ z0 z1, Ow w D T h_Q M0 z1 → Q z0 z1 → Q' z0 z1) : Ow w D T h M0 M → w_Machine_isOf_j80 this Q v2 s0 M → w_Machine_isOf_j80 this Q' v2 s0 M := by
  intro hf
  unfold w_Machine_isOf_j80
  exact (mf_ite (mf_ite (mo_w_Machine_isOf_j100 hD n0 lQ hQ hf) (mo_w_Machine_isOf_j100 hD n0 lQ hQ hf)) (mf_ite (mo_w_Machine_fail hD n0 (fun M20 f1 => (have g2 : Ow w D T _ M0 M20 := (Ow.trans hf f1); (mf_and fun _ => (hQ _ _  (Ow.dn lQ g2))))) hf.1) (mf_and fun _ => (hQ _ _  (Ow.dn lQ hf)))))
set_option maxRecDepth 20000 in
theorem mo_w_Machine_isOf {w : Nat} {D : Nat → Nat → Prop} {T : Nat → Prop} {h : Hot} {this : Nat} {a1 : Int32} {a2 : Int32} {Q Q' : Int32 → Mem → Prop} {M : Mem} (hD : Dok w D) (n0 : ow w D 6 this) (hQ : ∀ z0 z1, Ow w D T h M z1 → Q z0 z1 → Q' z0 z1) : St w D T h M → w_Machine_isOf this a1 a2 Q M → w_Machine_isOf this a1 a2 Q' M := by
  intro hs
  unfold w_Machine_isOf
  exact (mo_w_Machine_number hD  (fun r2 M1 f1 => (have g2 : Ow w D T _ M M1 := (Ow.trans (Ow.rf hs) f1); (mf_ite (mf_ite (mo_w_Machine_comes hD n0 (fun M5 f3 => (have g4 : Ow w D T _ M M5 := (Ow.trans g2 f3); (hQ _ _  g4))) g2.1) (hQ _ _  g2)) (mo_w_Machine_findClass hD  (fun r7 M6 f5 => (have g6 : Ow w D T _ M M6 := (Ow.trans g2 f5); (mf_ite (mo_w_Machine_isRow hD  (fun r10 M9 f7 => (have g8 : Ow w D T _ M M9 := (Ow.trans g6 f7); (mf_ite (mo_w_Machine_classOf hD  (fun r13 M12 f9 => (have g10 : Ow w D T _ M M12 := (Ow.trans g8 f9); (mo_w_World_isBelow hD (ow.to n0 rfl rfl) (fun r15 M14 f11 => (have g12 : Ow w D T _ M M14 := (Ow.trans g10 f11); (mo_w_Machine_isOf_j80 hD n0 (fun _ e => e) hQ g12))) g10.1))) g8.1) (mf_ite (mo_w_Machine_isOf_j80 hD n0 (fun _ e => e) hQ g8) (mo_w_Machine_isOf_j80 hD n0 (fun _ e => e) hQ g8))))) g6.1) (mo_w_Machine_fails hD n0 (fun M22 f13 => (have g14 : Ow w D T _ M M22 := (Ow.trans g6 f13); (hQ _ _  g14))) g6.1)))) g2.1)))) (Ow.rf hs).1)
set_option maxRecDepth 20000 in
theorem mo_w_Machine_leave_j144 {w : Nat} {D : Nat → Nat → Prop} {T : Nat → Prop} {h : Hot} {this : Nat} {Q Q' : Mem → Prop} {h_Q : Hot} {v4 : Int32} {s0 : Int32} {s1 : Nat} {M : Mem} {M0 : Mem} (hD : Dok w D) (n0 : ow w D 7 s1) (n1 : ow w D 6 this) (lQ : ∀ t, h_Q t = true → h t = true) (hQ : ∀ z0, Ow w D T h_Q M0 z0 → Q z0 → Q' z0) : Ow w D T h M0 M → w_Machine_leave_j144 this Q v4 s0 s1 M → w_Machine_leave_j144 this Q' v4 s0 s1 M := by
  intro hf
  unfold w_Machine_leave_j144
  exact (Exists.imp fun i14 => (mf_and fun e1 => (mf_ite (Exists.imp fun i16 => (mf_and fun e3 => (have o4 : ow w D 7 i16 := (Ow.r1 e3 rfl rfl n1 (Ow.wI n0 hf)); (have g5 : Ow w D T _ M0 (sI M 7 s1 14 s0) := (Ow.wI n0 hf); (mo_w_Machine_classOf hD  (fun r18 M17 f6 => (have g7 : Ow w D T _ M0 M17 := (Ow.trans g5 f6); (hQ _  (Ow.dn lQ (Ow.wI o4 g7))))) g5.1))))) (hQ _  (Ow.dn lQ (Ow.wI n0 hf))))))
set_option maxRecDepth 20000 in
theorem mo_w_Machine_leave_j126 {w : Nat} {D : Nat → Nat → Prop} {T : Nat → Prop} {h : Hot} {this : Nat} {Q Q' : Mem → Prop} {h_Q : Hot} {v4 : Int32} {v5 : Int32} {s0 : Int32} {s1 : Nat} {M : Mem} {M0 : Mem} (hD : Dok w D) (n0 : ow w D 7 s1) (n1 : ow w D 6 this) (lQ : ∀ t, h_Q t = true → h t = true) (hQ : ∀ z0, Ow w D T h_Q M0 z0 → Q z0 → Q' z0) : Ow w D T h M0 M → w_Machine_leave_j126 this Q v4 v5 s0 s1 M → w_Machine_leave_j126 this Q' v4 v5 s0 s1 M := by
  intro hf
  unfold w_Machine_leave_j126
  exact (Exists.imp fun i12 => (mf_and fun e1 => (have o2 : ow w D 7 i12 := (Ow.r1 e1 rfl rfl n1 (Ow.wI n0 hf)); (mf_ite (have g3 : Ow w D T _ M0 (sI M 7 s1 13 s0) := (Ow.wI n0 hf); (mo_w_Machine_leave_j144 hD o2 n1 lQ hQ g3)) (have g4 : Ow w D T _ M0 (sI M 7 s1 13 s0) := (Ow.wI n0 hf); (mo_w_Machine_leave_j144 hD o2 n1 lQ hQ g4))))))
set_option maxRecDepth 20000 in
theorem mo_w_Machine_leave_j248 {w : Nat} {D : Nat → Nat → Prop} {T : Nat → Prop} {h : Hot} {this : Nat} {Q Q' : Mem → Prop} {h_Q : Hot} {v6 : Int32} {M : Mem} {M0 : Mem} (hD : Dok w D) (n0 : ow w D 6 this) (lQ : ∀ t, h_Q t = true → h t = true) (hQ : ∀ z0, Ow w D T h_Q M0 z0 → Q z0 → Q' z0) : Ow w D T h M0 M → w_Machine_leave_j248 this Q v6 M → w_Machine_leave_j248 this Q' v6 M := by
  intro hf
  unfold w_Machine_leave_j248
  exact (Exists.imp fun i32 => (mf_and fun e1 => (mf_and fun _ => (mo_w_Machine_goesTo hD n0 (fun M34 f3 => (have g4 : Ow w D T _ M0 M34 := (Ow.trans hf f3); (hQ _  (Ow.dn lQ g4)))) hf.1))))
set_option maxRecDepth 20000 in
theorem mo_w_Machine_leave_j28 {w : Nat} {D : Nat → Nat → Prop} {T : Nat → Prop} {h : Hot} {this : Nat} {Q Q' : Mem → Prop} {h_Q : Hot} {v2 : Int32} {v3 : Int32} {v4 : Int32} {s0 : Int32} {M : Mem} {M0 : Mem} (hD : Dok w D) (n0 : ow w D 87 this) (lQ : ∀ t, h_Q t = true → h t = true) (hQ : ∀ z0, Ow w D T h_Q M0 z0 → Q z0 → Q' z0) : Ow w D T h M0 M → w_Machine_leave_j28 this Q v2 v3 v4 s0 M → w_Machine_leave_j28 this Q' v2 v3 v4 s0 M := by
  intro hf
  unfold w_Machine_leave_j28
  exact (mo_w_Machine_methodEvent hD n0 (fun M3 f1 => (have g2 : Ow w D T _ M0 M3 := (Ow.trans hf f1); (Exists.imp fun i4 => (mf_and fun e3 => (have o4 : ow w D 7 i4 := (Ow.r1 e3 rfl rfl (ow.to n0 rfl rfl) g2); (Exists.imp fun i5 => (mf_and fun e5 => (have o6 : ow w D 7 i5 := (Ow.r1 e5 rfl rfl (ow.to n0 rfl rfl) (Ow.wI o4 g2)); (Exists.imp fun M6 => (mf_and fun e7 => (have g8 : Ow w D T _ M0 M6 := Ow.of e7 (Ow.wI o6 (Ow.wI o4 g2)); (Exists.imp fun i7 => (mf_and fun e9 => (mf_ite (Exists.imp fun i9 => (mf_and fun e11 => (have o12 : ow w D 7 i9 := (Ow.r1 e11 rfl rfl (ow.to n0 rfl rfl) g8); (Exists.imp fun i10 => (mf_and fun e13 => (have o14 : ow w D 7 i10 := (Ow.r1 e13 rfl rfl (ow.to n0 rfl rfl) (Ow.wI o12 g8)); (mf_ite (have g15 : Ow w D T _ M0 (sI M6 7 i9 11 (0 : Int32)) := (Ow.wI o12 g8); (mo_w_Machine_leave_j126 hD o14 (ow.to n0 rfl rfl) lQ hQ g15)) (mf_ite (have g16 : Ow w D T _ M0 (sI M6 7 i9 11 (0 : Int32)) := (Ow.wI o12 g8); (mo_w_Machine_leave_j126 hD o14 (ow.to n0 rfl rfl) lQ hQ g16)) (mf_ite (have g17 : Ow w D T _ M0 (sI M6 7 i9 11 (0 : Int32)) := (Ow.wI o12 g8); (mo_w_Machine_leave_j126 hD o14 (ow.to n0 rfl rfl) lQ hQ g17)) (have g18 : Ow w D T _ M0 (sI M6 7 i9 11 (0 : Int32)) := (Ow.wI o12 g8); (mo_w_Machine_isRow hD  (fun r22 M21 f19 => (have g20 : Ow w D T _ M0 M21 := (Ow.trans g18 f19); (mf_ite (mo_w_Machine_leave_j126 hD o14 (ow.to n0 rfl rfl) lQ hQ g20) (mo_w_Machine_leave_j126 hD o14 (ow.to n0 rfl rfl) lQ hQ g20)))) g18.1))))))))))) (Exists.imp fun i24 => (mf_and fun e21 => (Exists.imp fun i25 => (mf_and fun e23 => (mf_and fun _ => (mf_ite (Exists.imp fun i28 => (mf_and fun e25 => (mf_and fun _ => (Exists.imp fun M30 => (mf_and fun e27 => (have g28 : Ow w D T _ M0 M30 := Ow.of e27 (Ow.wI (ow.to n0 rfl rfl) (Ow.wI (ow.to n0 rfl rfl) g8)); (mf_ite (mo_w_Machine_leave_j248 hD (ow.to n0 rfl rfl) lQ hQ g28) (mo_w_Machine_push hD (ow.to n0 rfl rfl) (fun M35 f29 => (have g30 : Ow w D T _ M0 M35 := (Ow.trans g28 f29); (mo_w_Machine_leave_j248 hD (ow.to n0 rfl rfl) lQ hQ g30))) g28.1)))))))) (Exists.imp fun i36 => (mf_and fun e31 => (mf_and fun _ => (mo_w_Machine_startEnds hD (ow.to n0 rfl rfl) (fun M38 f33 => (have g34 : Ow w D T _ M0 M38 := (Ow.trans g8 f33); (hQ _  (Ow.dn lQ g34)))) g8.1)))))))))))))))))))))))) hf.1)
set_option maxRecDepth 20000 in
theorem mo_w_Machine_leave_j15 {w : Nat} {D : Nat → Nat → Prop} {T : Nat → Prop} {h : Hot} {this : Nat} {Q Q' : Mem → Prop} {h_Q : Hot} {v2 : Int32} {v3 : Int32} {s0 : Int32} {M : Mem} {M0 : Mem} (hD : Dok w D) (n0 : ow w D 87 this) (lQ : ∀ t, h_Q t = true → h t = true) (hQ : ∀ z0, Ow w D T h_Q M0 z0 → Q z0 → Q' z0) : Ow w D T h M0 M → w_Machine_leave_j15 this Q v2 v3 s0 M → w_Machine_leave_j15 this Q' v2 v3 s0 M := by
  intro hf
  unfold w_Machine_leave_j15
  exact (mf_ite (mo_w_Machine_leave_j28 hD n0 lQ hQ hf) (mo_w_Machine_leave_j28 hD n0 lQ hQ hf))
set_option maxRecDepth 20000 in
theorem mo_w_Machine_leave {w : Nat} {D : Nat → Nat → Prop} {T : Nat → Prop} {h : Hot} {this : Nat} {a1 : Int32} {a2 : Int32} {a3 : Int32} {Q Q' : Mem → Prop} {M : Mem} (hD : Dok w D) (n0 : ow w D 87 this) (hQ : ∀ z0, Ow w D T h M z0 → Q z0 → Q' z0) : St w D T h M → w_Machine_leave this a1 a2 a3 Q M → w_Machine_leave this a1 a2 a3 Q' M := by
  intro hs
  unfold w_Machine_leave
  exact (mf_ite (mo_w_Machine_leave_j15 hD n0 (fun _ e => e) hQ (Ow.rf hs)) (mo_w_Machine_number hD  (fun r40 M39 f1 => (have g2 : Ow w D T _ M M39 := (Ow.trans (Ow.rf hs) f1); (mo_w_Machine_leave_j15 hD n0 (fun _ e => e) hQ g2))) (Ow.rf hs).1))
set_option maxRecDepth 20000 in
theorem mo_w_Machine_act_j642 {w : Nat} {D : Nat → Nat → Prop} {T : Nat → Prop} {h : Hot} {this : Nat} {Q Q' : Mem → Prop} {h_Q : Hot} {v1 : Int32} {v6 : Int32} {M : Mem} {M0 : Mem} (hD : Dok w D) (n0 : ow w D 6 this) (lQ : ∀ t, h_Q t = true → h t = true) (hQ : ∀ z0, Ow w D T h_Q M0 z0 → Q z0 → Q' z0) : Ow w D T h M0 M → w_Machine_act_j642 this Q v1 v6 M → w_Machine_act_j642 this Q' v1 v6 M := by
  intro hf
  unfold w_Machine_act_j642
  exact (mo_w_Machine_goesTo hD n0 (fun M19 f1 => (have g2 : Ow w D T _ M0 M19 := (Ow.trans hf f1); (hQ _  (Ow.dn lQ g2)))) hf.1)
set_option maxRecDepth 20000 in
theorem mo_w_Machine_act_j486 {w : Nat} {D : Nat → Nat → Prop} {T : Nat → Prop} {h : Hot} {this : Nat} {Q Q' : Mem → Prop} {h_Q : Hot} {v1 : Int32} {v6 : Int32} {s0 : Int32} {s1 : Int32} {s2 : Int32} {M : Mem} {M0 : Mem} (hD : Dok w D) (n0 : ow w D 6 this) (lQ : ∀ t, h_Q t = true → h t = true) (hQ : ∀ z0, Ow w D T h_Q M0 z0 → Q z0 → Q' z0) : Ow w D T h M0 M → w_Machine_act_j486 this Q v1 v6 s0 s1 s2 M → w_Machine_act_j486 this Q' v1 v6 s0 s1 s2 M := by
  intro hf
  unfold w_Machine_act_j486
  exact (mo_w_Machine_set hD n0 (fun M111 f1 => (have g2 : Ow w D T _ M0 M111 := (Ow.trans hf f1); (mo_w_Machine_act_j642 hD n0 lQ hQ g2))) hf.1)
set_option maxRecDepth 20000 in
theorem mo_w_Machine_act_j430 {w : Nat} {D : Nat → Nat → Prop} {T : Nat → Prop} {h : Hot} {this : Nat} {Q Q' : Mem → Prop} {h_Q : Hot} {v1 : Int32} {v6 : Int32} {s0 : Int32} {s1 : Int32} {M : Mem} {M0 : Mem} (hD : Dok w D) (n0 : ow w D 6 this) (lQ : ∀ t, h_Q t = true → h t = true) (hQ : ∀ z0, Ow w D T h_Q M0 z0 → Q z0 → Q' z0) : Ow w D T h M0 M → w_Machine_act_j430 this Q v1 v6 s0 s1 M → w_Machine_act_j430 this Q' v1 v6 s0 s1 M := by
  intro hf
  unfold w_Machine_act_j430
  exact (mo_w_Machine_push hD n0 (fun M118 f1 => (have g2 : Ow w D T _ M0 M118 := (Ow.trans hf f1); (mo_w_Machine_act_j642 hD n0 lQ hQ g2))) hf.1)
set_option maxRecDepth 20000 in
theorem mo_w_Machine_act_j100 {w : Nat} {D : Nat → Nat → Prop} {T : Nat → Prop} {h : Hot} {this : Nat} {Q Q' : Mem → Prop} {h_Q : Hot} {v1 : Int32} {v3 : Int32} {v4 : Int32} {v6 : Int32} {M : Mem} {M0 : Mem} (hD : Dok w D) (n0 : ow w D 6 this) (lQ : ∀ t, h_Q t = true → h t = true) (hQ : ∀ z0, Ow w D T h_Q M0 z0 → Q z0 → Q' z0) : Ow w D T h M0 M → w_Machine_act_j100 this Q v1 v3 v4 v6 M → w_Machine_act_j100 this Q' v1 v3 v4 v6 M := by
  intro hf
  unfold w_Machine_act_j100
  exact (mo_w_Machine_things hD n0 (fun M125 f1 => (have g2 : Ow w D T _ M0 M125 := (Ow.trans hf f1); (hQ _  (Ow.dn lQ g2)))) hf.1)
set_option maxRecDepth 20000 in
theorem mo_w_Machine_act_j53 {w : Nat} {D : Nat → Nat → Prop} {T : Nat → Prop} {h : Hot} {this : Nat} {Q Q' : Mem → Prop} {h_Q : Hot} {v1 : Int32} {v2 : Int32} {v3 : Int32} {v4 : Int32} {v5 : Int32} {v6 : Int32} {M : Mem} {M0 : Mem} (hD : Dok w D) (n0 : ow w D 6 this) (lQ : ∀ t, h_Q t = true → h t = true) (hQ : ∀ z0, Ow w D T h_Q M0 z0 → Q z0 → Q' z0) : Ow w D T h M0 M → w_Machine_act_j53 this Q v1 v2 v3 v4 v5 v6 M → w_Machine_act_j53 this Q' v1 v2 v3 v4 v5 v6 M := by
  intro hf
  unfold w_Machine_act_j53
  exact (mo_w_Works_isIn hD  (fun r8 M7 f1 => (have g2 : Ow w D T _ M0 M7 := (Ow.trans hf f1); (mf_ite (mo_w_Works_isIn hD  (fun r11 M10 f3 => (have g4 : Ow w D T _ M0 M10 := (Ow.trans g2 f3); (mf_ite (mo_w_Works_isIn hD  (fun r14 M13 f5 => (have g6 : Ow w D T _ M0 M13 := (Ow.trans g4 f5); (mf_ite (mo_w_Works_isIn hD  (fun r17 M16 f7 => (have g8 : Ow w D T _ M0 M16 := (Ow.trans g6 f7); (mf_ite (mf_ite (mo_w_Machine_push hD n0 (fun M123 f9 => (have g10 : Ow w D T _ M0 M123 := (Ow.trans g8 f9); (mo_w_Machine_act_j642 hD n0 lQ hQ g10))) g8.1) (mf_ite (mo_w_Machine_push hD n0 (fun M122 f11 => (have g12 : Ow w D T _ M0 M122 := (Ow.trans g8 f11); (mo_w_Machine_act_j642 hD n0 lQ hQ g12))) g8.1) (mf_ite (Exists.imp fun i119 => (mf_and fun e13 => (mf_and fun _ => (mf_ite (mo_w_Machine_act_j430 hD n0 lQ hQ g8) (mo_w_Machine_act_j430 hD n0 lQ hQ g8))))) (mf_ite (Exists.imp fun i115 => (mf_and fun e15 => (mf_and fun _ => (mf_ite (mo_w_Machine_act_j430 hD n0 lQ hQ g8) (mo_w_Machine_act_j430 hD n0 lQ hQ g8))))) (mf_ite (Exists.imp fun i112 => (mf_and fun e17 => (mf_and fun _ => (mf_ite (have g19 : Ow w D T _ M0 (sI M16 6 this 34 ((mI M16 6 this 34) - (1 : Int32))) := (Ow.wI n0 g8); (mo_w_Machine_act_j486 hD n0 lQ hQ g19)) (have g20 : Ow w D T _ M0 (sI M16 6 this 34 ((mI M16 6 this 34) - (1 : Int32))) := (Ow.wI n0 g8); (mo_w_Machine_act_j486 hD n0 lQ hQ g20)))))) (mf_ite (Exists.imp fun i108 => (mf_and fun e21 => (mf_and fun _ => (mf_ite (have g23 : Ow w D T _ M0 (sI M16 6 this 34 ((mI M16 6 this 34) - (1 : Int32))) := (Ow.wI n0 g8); (mo_w_Machine_act_j486 hD n0 lQ hQ g23)) (have g24 : Ow w D T _ M0 (sI M16 6 this 34 ((mI M16 6 this 34) - (1 : Int32))) := (Ow.wI n0 g8); (mo_w_Machine_act_j486 hD n0 lQ hQ g24)))))) (mf_ite (Exists.imp fun i103 => (mf_and fun e25 => (have o26 : ow w D 7 i103 := (Ow.r1 e25 rfl rfl n0 g8); (mf_and fun _ => (mf_and fun _ => (mf_and fun _ => (Exists.imp fun M107 => (mf_and fun e27 => (have g28 : Ow w D T _ M0 M107 := Ow.of e27 (Ow.wI (ow.to o26 rfl rfl) g8); (mo_w_Machine_act_j642 hD n0 lQ hQ g28)))))))))) (mf_ite (mo_w_Machine_act_j642 hD n0 lQ hQ g8) (mf_ite (mo_w_Machine_act_j642 hD n0 lQ hQ g8) (mf_ite (mo_w_Machine_act_j642 hD n0 lQ hQ g8) (mf_ite (mo_w_Machine_act_j642 hD n0 lQ hQ g8) (mf_ite (mo_w_Machine_act_j642 hD n0 lQ hQ g8) (mf_ite (mo_w_Machine_number hD  (fun r101 M100 f29 => (have g30 : Ow w D T _ M0 M100 := (Ow.trans g8 f29); (mo_w_Machine_comes hD n0 (fun M102 f31 => (have g32 : Ow w D T _ M0 M102 := (Ow.trans g30 f31); (mo_w_Machine_act_j642 hD n0 lQ hQ g32))) g30.1))) g8.1) (mf_ite (mo_w_Machine_act_j642 hD n0 lQ hQ g8) (mf_ite (mo_w_Machine_act_j642 hD n0 lQ hQ g8) (mf_ite (mo_w_Machine_act_j642 hD n0 lQ hQ g8) (mf_ite (mo_w_Machine_act_j642 hD n0 lQ hQ g8) (mf_ite (mo_w_Machine_act_j642 hD n0 lQ hQ g8) (mf_ite (have g33 : Ow w D T _ M0 (sI M16 6 this 34 ((mI M16 6 this 34) - (1 : Int32))) := (Ow.wI n0 g8); (mo_w_Machine_act_j642 hD n0 lQ hQ g33)) (mf_ite (mo_w_Machine_number hD  (fun r96 M95 f34 => (have g35 : Ow w D T _ M0 M95 := (Ow.trans g8 f34); (Exists.imp fun i97 => (mf_and fun e36 => (mf_and fun _ => (mo_w_Machine_push hD n0 (fun M99 f38 => (have g39 : Ow w D T _ M0 M99 := (Ow.trans g35 f38); (mo_w_Machine_act_j642 hD n0 lQ hQ g39))) g35.1)))))) g8.1) (mf_ite (mo_w_Machine_turn hD n0 (fun M94 f40 => (have g41 : Ow w D T _ M0 M94 := (Ow.trans g8 f40); (mo_w_Machine_act_j642 hD n0 lQ hQ g41))) g8.1) (mf_ite (mo_w_Machine_turn hD n0 (fun M93 f42 => (have g43 : Ow w D T _ M0 M93 := (Ow.trans g8 f42); (mo_w_Machine_act_j642 hD n0 lQ hQ g43))) g8.1) (mf_ite (mo_w_Machine_act_j642 hD n0 lQ hQ g8) (mf_ite (mo_w_Machine_act_j642 hD n0 lQ hQ g8) (mf_ite (mo_w_Machine_act_j642 hD n0 lQ hQ g8) (mf_ite (mo_w_Machine_act_j642 hD n0 lQ hQ g8) (mf_ite (mo_w_Machine_act_j642 hD n0 lQ hQ g8) (mf_ite (mo_w_Machine_act_j642 hD n0 lQ hQ g8) (mf_ite (mo_w_Machine_act_j642 hD n0 lQ hQ g8) (mf_ite (mo_w_Machine_act_j642 hD n0 lQ hQ g8) (mf_ite (mo_w_Machine_act_j642 hD n0 lQ hQ g8) (mf_ite (mo_w_Machine_act_j642 hD n0 lQ hQ g8) (mf_ite (mo_w_Machine_act_j642 hD n0 lQ hQ g8) (mf_ite (mo_w_Machine_act_j642 hD n0 lQ hQ g8) (mf_ite (mo_w_Machine_act_j642 hD n0 lQ hQ g8) (mf_ite (mo_w_Machine_act_j642 hD n0 lQ hQ g8) (mf_ite (mo_w_Machine_act_j642 hD n0 lQ hQ g8) (mf_ite (mo_w_Machine_act_j642 hD n0 lQ hQ g8) (mf_ite (mo_w_Machine_act_j642 hD n0 lQ hQ g8) (mf_ite (mo_w_Machine_act_j642 hD n0 lQ hQ g8) (mf_ite (mo_w_Machine_act_j642 hD n0 lQ hQ g8) (mf_ite (mo_w_Machine_act_j642 hD n0 lQ hQ g8) (mf_ite (mo_w_Machine_act_j642 hD n0 lQ hQ g8) (mf_ite (mo_w_Machine_act_j642 hD n0 lQ hQ g8) (mf_ite (mo_w_Machine_act_j642 hD n0 lQ hQ g8) (mf_ite (mo_w_Machine_act_j642 hD n0 lQ hQ g8) (mf_ite (mo_w_Machine_act_j642 hD n0 lQ hQ g8) (mf_ite (mo_w_Machine_act_j642 hD n0 lQ hQ g8) (mf_ite (mo_w_Machine_act_j642 hD n0 lQ hQ g8) (mf_ite (mo_w_Machine_act_j642 hD n0 lQ hQ g8) (mf_ite (mo_w_Machine_act_j642 hD n0 lQ hQ g8) (mf_ite (mo_w_Machine_act_j642 hD n0 lQ hQ g8) (mf_ite (mo_w_Machine_act_j642 hD n0 lQ hQ g8) (mf_ite (mo_w_Machine_isOf hD n0 (fun r91 M90 f44 => (have g45 : Ow w D T _ M0 M90 := (Ow.trans g8 f44); (mf_ite (hQ _  (Ow.dn lQ g45)) (mo_w_Machine_act_j642 hD n0 lQ hQ g45)))) g8.1) (mf_ite (mo_w_Machine_isOf hD n0 (fun r88 M87 f46 => (have g47 : Ow w D T _ M0 M87 := (Ow.trans g8 f46); (mf_ite (hQ _  (Ow.dn lQ g47)) (mo_w_Machine_act_j642 hD n0 lQ hQ g47)))) g8.1) (mf_ite (mo_w_Machine_number hD  (fun r83 M82 f48 => (have g49 : Ow w D T _ M0 M82 := (Ow.trans g8 f48); (mf_ite (mo_w_Machine_fail hD n0 (fun M85 f50 => (have g51 : Ow w D T _ M0 M85 := (Ow.trans g49 f50); (hQ _  (Ow.dn lQ g51)))) g49.1) (mo_w_Machine_throwOne hD n0 (fun M86 f52 => (have g53 : Ow w D T _ M0 M86 := (Ow.trans g49 f52); (hQ _  (Ow.dn lQ g53)))) g49.1)))) g8.1) (mf_ite (mo_w_Machine_leave hD (ow.to n0 rfl rfl) (fun M81 f54 => (have g55 : Ow w D T _ M0 M81 := (Ow.trans g8 f54); (hQ _  (Ow.dn lQ g55)))) g8.1) (mf_ite (mo_w_Machine_leave hD (ow.to n0 rfl rfl) (fun M80 f56 => (have g57 : Ow w D T _ M0 M80 := (Ow.trans g8 f56); (hQ _  (Ow.dn lQ g57)))) g8.1) (mf_ite (mo_w_Machine_leave hD (ow.to n0 rfl rfl) (fun M79 f58 => (have g59 : Ow w D T _ M0 M79 := (Ow.trans g8 f58); (hQ _  (Ow.dn lQ g59)))) g8.1) (mo_w_Machine_act_j642 hD n0 lQ hQ g8)))))))))))))))))))))))))))))))))))))))))))))))))))))))))))) (mo_w_Machine_calls hD n0 (fun M124 f60 => (have g61 : Ow w D T _ M0 M124 := (Ow.trans g8 f60); (hQ _  (Ow.dn lQ g61)))) g8.1)))) g6.1) (mo_w_Machine_act_j100 hD n0 lQ hQ g6)))) g4.1) (mo_w_Machine_act_j100 hD n0 lQ hQ g4)))) g2.1) (mo_w_Machine_jump hD n0 (fun M126 f62 => (have g63 : Ow w D T _ M0 M126 := (Ow.trans g2 f62); (hQ _  (Ow.dn lQ g63)))) g2.1)))) hf.1)
set_option maxRecDepth 20000 in
theorem mo_w_Machine_act {w : Nat} {D : Nat → Nat → Prop} {T : Nat → Prop} {h : Hot} {this : Nat} {a1 : Int32} {a2 : Int32} {a3 : Int32} {a4 : Int32} {Q Q' : Mem → Prop} {M : Mem} (hD : Dok w D) (n0 : ow w D 6 this) (hQ : ∀ z0, Ow w D T h M z0 → Q z0 → Q' z0) : St w D T h M → w_Machine_act this a1 a2 a3 a4 Q M → w_Machine_act this a1 a2 a3 a4 Q' M := by
  intro hs
  unfold w_Machine_act
  exact (mf_and fun _ => (Exists.imp fun i2 => (mf_and fun e1 => (mf_and fun _ => (mo_w_Works_isIn hD  (fun r5 M4 f3 => (have g4 : Ow w D T _ M M4 := (Ow.trans (Ow.rf hs) f3); (mf_ite (mo_w_Machine_act_j53 hD n0 (fun _ e => e) hQ g4) (mf_ite (mo_w_Machine_act_j53 hD n0 (fun _ e => e) hQ g4) (mo_w_Machine_reckon hD n0 (fun M128 f5 => (have g6 : Ow w D T _ M M128 := (Ow.trans g4 f5); (hQ _  g6))) g4.1))))) (Ow.rf hs).1)))))
set_option maxRecDepth 20000 in
theorem mo_w_Machine_instruction_j304 {w : Nat} {D : Nat → Nat → Prop} {T : Nat → Prop} {h : Hot} {this : Nat} {Q Q' : Mem → Prop} {h_Q : Hot} {s0 : Int32} {M : Mem} {M0 : Mem} (hD : Dok w D) (n0 : ow w D 6 this) (lQ : ∀ t, h_Q t = true → h t = true) (hQ : ∀ z0, Ow w D T h_Q M0 z0 → Q z0 → Q' z0) : Ow w D T h M0 M → w_Machine_instruction_j304 this Q s0 M → w_Machine_instruction_j304 this Q' s0 M := by
  intro hf
  unfold w_Machine_instruction_j304
  exact (mo_w_Machine_fails hD n0 (fun M25 f1 => (have g2 : Ow w D T _ M0 M25 := (Ow.trans hf f1); (hQ _  (Ow.dn lQ g2)))) hf.1)
set_option maxRecDepth 20000 in
theorem mo_w_Machine_instruction_j284 {w : Nat} {D : Nat → Nat → Prop} {T : Nat → Prop} {h : Hot} {this : Nat} {Q Q' : Mem → Prop} {h_Q : Hot} {M : Mem} {M0 : Mem} (hD : Dok w D) (n0 : ow w D 6 this) (lQ : ∀ t, h_Q t = true → h t = true) (hQ : ∀ z0, Ow w D T h_Q M0 z0 → Q z0 → Q' z0) : Ow w D T h M0 M → w_Machine_instruction_j284 this Q M → w_Machine_instruction_j284 this Q' M := by
  intro hf
  unfold w_Machine_instruction_j284
  exact (mf_ite (mo_w_Machine_instruction_j304 hD n0 lQ hQ hf) (mo_w_Machine_instruction_j304 hD n0 lQ hQ hf))
set_option maxRecDepth 20000 in
theorem mo_w_Machine_instruction_j252 {w : Nat} {D : Nat → Nat → Prop} {T : Nat → Prop} {h : Hot} {this : Nat} {Q Q' : Mem → Prop} {h_Q : Hot} {v1 : Int32} {v2 : Int32} {v3 : Int32} {v4 : Int32} {v5 : Int32} {M : Mem} {M0 : Mem} (hD : Dok w D) (n0 : ow w D 6 this) (lQ : ∀ t, h_Q t = true → h t = true) (hQ : ∀ z0, Ow w D T h_Q M0 z0 → Q z0 → Q' z0) : Ow w D T h M0 M → w_Machine_instruction_j252 this Q v1 v2 v3 v4 v5 M → w_Machine_instruction_j252 this Q' v1 v2 v3 v4 v5 M := by
  intro hf
  unfold w_Machine_instruction_j252
  exact (mf_ite (hQ _  (Ow.dn lQ hf)) (mf_ite (hQ _  (Ow.dn lQ hf)) (mo_w_Machine_step hD n0 (fun M22 f1 => (have g2 : Ow w D T _ M0 M22 := (Ow.trans hf f1); (mf_ite (mo_w_Machine_instruction_j284 hD n0 lQ hQ g2) (mf_ite (mo_w_Machine_instruction_j284 hD n0 lQ hQ g2) (mo_w_Machine_act hD n0 (fun M27 f3 => (have g4 : Ow w D T _ M0 M27 := (Ow.trans g2 f3); (hQ _  (Ow.dn lQ g4)))) g2.1))))) hf.1)))
set_option maxRecDepth 20000 in
theorem mo_w_Machine_instruction_j206 {w : Nat} {D : Nat → Nat → Prop} {T : Nat → Prop} {h : Hot} {this : Nat} {Q Q' : Mem → Prop} {h_Q : Hot} {v1 : Int32} {v2 : Int32} {v3 : Int32} {v4 : Int32} {v5 : Int32} {M : Mem} {M0 : Mem} (hD : Dok w D) (n0 : ow w D 6 this) (lQ : ∀ t, h_Q t = true → h t = true) (hQ : ∀ z0, Ow w D T h_Q M0 z0 → Q z0 → Q' z0) : Ow w D T h M0 M → w_Machine_instruction_j206 this Q v1 v2 v3 v4 v5 M → w_Machine_instruction_j206 this Q' v1 v2 v3 v4 v5 M := by
  intro hf
  unfold w_Machine_instruction_j206
  exact (mf_ite (mo_w_Machine_number hD  (fun r18 M17 f1 => (have g2 : Ow w D T _ M0 M17 := (Ow.trans hf f1); (mf_ite (mo_w_Machine_instruction_j252 hD n0 lQ hQ g2) (Exists.imp fun i28 => (mf_and fun e3 => (mo_w_Machine_number hD  (fun r30 M29 f5 => (have g6 : Ow w D T _ M0 M29 := (Ow.trans g2 f5); (mo_w_Machine_isLockedFor hD  (fun r32 M31 f7 => (have g8 : Ow w D T _ M0 M31 := (Ow.trans g6 f7); (mf_ite (mo_w_Machine_instruction_j252 hD n0 lQ hQ g8) (Exists.imp fun i34 => (mf_and fun e9 => (have o10 : ow w D 7 i34 := (Ow.r1 e9 rfl rfl n0 g8); (mo_w_Machine_number hD  (fun r36 M35 f11 => (have g12 : Ow w D T _ M0 M35 := (Ow.trans g8 f11); (have g13 : Ow w D T _ M0 (sI M35 7 i34 18 r36) := (Ow.wI o10 g12); (mo_w_Machine_instruction_j252 hD n0 lQ hQ g13)))) g8.1))))))) g6.1))) g2.1)))))) hf.1) (mo_w_Machine_instruction_j252 hD n0 lQ hQ hf))
set_option maxRecDepth 20000 in
theorem mo_w_Machine_instruction_j171 {w : Nat} {D : Nat → Nat → Prop} {T : Nat → Prop} {h : Hot} {this : Nat} {Q Q' : Mem → Prop} {h_Q : Hot} {v1 : Int32} {v2 : Int32} {v3 : Int32} {v4 : Int32} {v5 : Int32} {M : Mem} {M0 : Mem} (hD : Dok w D) (n0 : ow w D 6 this) (lQ : ∀ t, h_Q t = true → h t = true) (hQ : ∀ z0, Ow w D T h_Q M0 z0 → Q z0 → Q' z0) : Ow w D T h M0 M → w_Machine_instruction_j171 this Q v1 v2 v3 v4 v5 M → w_Machine_instruction_j171 this Q' v1 v2 v3 v4 v5 M := by
  intro hf
  unfold w_Machine_instruction_j171
  exact (mf_ite (mo_w_Machine_instruction_j206 hD n0 lQ hQ hf) (mf_ite (mf_and fun _ => (mo_w_Machine_mustStart hD n0 (fun r40 M39 f1 => (have g2 : Ow w D T _ M0 M39 := (Ow.trans hf f1); (mo_w_Machine_instruction_j252 hD n0 lQ hQ g2))) hf.1)) (mo_w_Machine_instruction_j206 hD n0 lQ hQ hf)))
set_option maxRecDepth 20000 in
theorem mo_w_Machine_instruction_j151 {w : Nat} {D : Nat → Nat → Prop} {T : Nat → Prop} {h : Hot} {this : Nat} {Q Q' : Mem → Prop} {h_Q : Hot} {v1 : Int32} {v2 : Int32} {v3 : Int32} {v4 : Int32} {M : Mem} {M0 : Mem} (hD : Dok w D) (n0 : ow w D 6 this) (lQ : ∀ t, h_Q t = true → h t = true) (hQ : ∀ z0, Ow w D T h_Q M0 z0 → Q z0 → Q' z0) : Ow w D T h M0 M → w_Machine_instruction_j151 this Q v1 v2 v3 v4 M → w_Machine_instruction_j151 this Q' v1 v2 v3 v4 M := by
  intro hf
  unfold w_Machine_instruction_j151
  exact (mo_w_World_classOfField hD  (fun r43 M42 f1 => (have g2 : Ow w D T _ M0 M42 := (Ow.trans hf f1); (mo_w_Machine_mustStart hD n0 (fun r45 M44 f3 => (have g4 : Ow w D T _ M0 M44 := (Ow.trans g2 f3); (mo_w_Machine_instruction_j252 hD n0 lQ hQ g4))) g2.1))) hf.1)
set_option maxRecDepth 20000 in
theorem mo_w_Machine_instruction_j130 {w : Nat} {D : Nat → Nat → Prop} {T : Nat → Prop} {h : Hot} {this : Nat} {Q Q' : Mem → Prop} {h_Q : Hot} {v1 : Int32} {v2 : Int32} {v3 : Int32} {v4 : Int32} {v5 : Int32} {M : Mem} {M0 : Mem} (hD : Dok w D) (n0 : ow w D 6 this) (lQ : ∀ t, h_Q t = true → h t = true) (hQ : ∀ z0, Ow w D T h_Q M0 z0 → Q z0 → Q' z0) : Ow w D T h M0 M → w_Machine_instruction_j130 this Q v1 v2 v3 v4 v5 M → w_Machine_instruction_j130 this Q' v1 v2 v3 v4 v5 M := by
  intro hf
  unfold w_Machine_instruction_j130
  exact (mf_ite (mo_w_Machine_instruction_j171 hD n0 lQ hQ hf) (mf_ite (mo_w_Machine_instruction_j151 hD n0 lQ hQ hf) (mf_ite (mo_w_Machine_instruction_j151 hD n0 lQ hQ hf) (mo_w_Machine_instruction_j171 hD n0 lQ hQ hf))))
set_option maxRecDepth 20000 in
theorem mo_w_Machine_instruction_j97 {w : Nat} {D : Nat → Nat → Prop} {T : Nat → Prop} {h : Hot} {this : Nat} {Q Q' : Mem → Prop} {h_Q : Hot} {v1 : Int32} {v2 : Int32} {v3 : Int32} {v4 : Int32} {s0 : Int32} {M : Mem} {M0 : Mem} (hD : Dok w D) (n0 : ow w D 6 this) (lQ : ∀ t, h_Q t = true → h t = true) (hQ : ∀ z0, Ow w D T h_Q M0 z0 → Q z0 → Q' z0) : Ow w D T h M0 M → w_Machine_instruction_j97 this Q v1 v2 v3 v4 s0 M → w_Machine_instruction_j97 this Q' v1 v2 v3 v4 s0 M := by
  intro hf
  unfold w_Machine_instruction_j97
  exact (mf_ite (have g1 : Ow w D T _ M0 (sI M 6 this 36 s0) := (Ow.wI n0 hf); (mo_w_Machine_instruction_j130 hD n0 lQ hQ g1)) (mf_ite (have g2 : Ow w D T _ M0 (sI M 6 this 36 s0) := (Ow.wI n0 hf); (mo_w_Machine_mustStart hD n0 (fun r49 M48 f3 => (have g4 : Ow w D T _ M0 M48 := (Ow.trans g2 f3); (mo_w_Machine_instruction_j252 hD n0 lQ hQ g4))) g2.1)) (have g5 : Ow w D T _ M0 (sI M 6 this 36 s0) := (Ow.wI n0 hf); (mo_w_Machine_instruction_j130 hD n0 lQ hQ g5))))
