/-! B: the end of a method in the works -/
theorem usP_ok {line : Nat} : ∀ (ls : List Nm) (pf : Nat), ∀ u ∈ usP line pf ls, u.2.1 ≤ 4 ∧ u.2.2.2 = line
  | [], pf, u, hu => by cases hu
  | a :: l, pf, u, hu => by
    rcases List.mem_cons.mp hu with q | q
    · rw [q]; exact ⟨by dsimp only; omega, rfl⟩
    · exact usP_ok l (pf + 1) u q
theorem usE_ok : ∀ (E : List (PI ⊕ PH)) (q pf h : Nat), (∀ i ∈ lfE E, i.2.2.2 ≤ 100000) → (∀ x ∈ rgE E, x.2.2.2.2 ≤ 100000) → ∀ u ∈ usE q pf h E, u.2.1 ≤ 4 ∧ u.2.2.2 ≤ 100000
  | [], _, _, _, _, _, u, hu => by cases hu
  | .inl i :: E, q, pf, h, h1, h2, u, hu => by
    have hu' : u ∈ newU i.1 q pf i.2.2.2 i.2.1.2.2.1 ++ usE (q + 1) (pf + pkN i) h E := hu
    rcases List.mem_append.mp hu' with z | z
    · have hi := h1 i List.mem_cons_self
      unfold newU at z
      split at z
      · obtain ⟨nm, -, e⟩ := List.mem_map.mp z
        rw [← e]; exact ⟨by dsimp only; omega, hi⟩
      · split at z
        · obtain ⟨a, b⟩ := usP_ok _ _ u z
          rw [b]; exact ⟨a, hi⟩
        · cases z
    · exact usE_ok E _ _ _ (fun j hj => h1 j (List.mem_cons_of_mem _ hj)) h2 u z
  | .inr x :: E, q, pf, h, h1, h2, u, hu => by
    have hu' : u ∈ [(x.1, 2, 4 * h, x.2.2.2.2), (x.2.1, 3, 4 * h + 1, x.2.2.2.2), (x.2.2.1, 4, 4 * h + 2, x.2.2.2.2)] ++ usE q pf (h + 1) E := hu
    rcases List.mem_append.mp hu' with z | z
    · have hx := h2 x List.mem_cons_self
      simp only [List.mem_cons, List.not_mem_nil, or_false] at z
      rcases z with z | z | z <;> (rw [z]; exact ⟨by dsimp only; omega, hx⟩)
    · exact usE_ok E _ _ _ h1 (fun j hj => h2 j (List.mem_cons_of_mem _ hj)) u z
theorem tgE_at {LS : List Lb} {w : Nat} {M : Mem} : ∀ (E : List (PI ⊕ PH)) (q pf h : Nat), tgE LS w q pf h E M → (∀ i, i < (lfE E).length → tgI LS w (q + i) (pf + pkS ((lfE E).take i)) (gpi (lfE E) i) M) ∧ ∀ i, i < (rgE E).length → tgH LS w (h + i) (gh (rgE E) i) M
  | [], q, pf, h, _ => ⟨fun i hi => absurd hi (Nat.not_lt_zero i), fun i hi => absurd hi (Nat.not_lt_zero i)⟩
  | .inl x :: E, q, pf, h, ht => by
    obtain ⟨a, b⟩ := ht
    obtain ⟨c, d⟩ := tgE_at E (q + 1) (pf + pkN x) h b
    refine ⟨fun i hi => ?_, d⟩
    cases i with
    | zero => exact a
    | succ i =>
      have := c i (by have : i + 1 < (x :: lfE E).length := hi; simp at this; omega)
      have e1 : pf + pkS ((lfE (Sum.inl x :: E)).take (i + 1)) = pf + pkN x + pkS ((lfE E).take i) := by
        show pf + pkS ((x :: lfE E).take (i + 1)) = _
        rw [List.take_succ_cons]; simp [pkS]; omega
      rw [e1, show q + (i + 1) = q + 1 + i by omega]
      exact this
  | .inr x :: E, q, pf, h, ht => by
    obtain ⟨a, b⟩ := ht
    obtain ⟨c, d⟩ := tgE_at E q pf (h + 1) b
    refine ⟨c, fun i hi => ?_⟩
    cases i with
    | zero => exact a
    | succ i =>
      have := d i (by have : i + 1 < (x :: rgE E).length := hi; simp at this; omega)
      rw [show h + (i + 1) = h + 1 + i by omega]
      exact this
/-- an instruction's words, but for labels -/
def insO (x : Ins) : Opr := (x.2.1, x.2.2.1, x.2.2.2.1.map (fun _ => []), x.2.2.2.2.1, x.2.2.2.2.2.1, x.2.2.2.2.2.2.1, x.2.2.2.2.2.2.2.1)
abbrev gtn (l : List Nat) (j : Nat) : Nat := l.getD j 0
/-- an instruction whose labels are numbers -/
def cFi (A : List Nm) (w nk np nr q : Nat) (x : Ins) (M : Mem) : Prop := (mI M 66 w q = Int32.ofNat x.1 ∧ x.1 < 62) ∧ (∃ pf, cOp A w nr q x.1 pf (insO x) M ∧ (x.1 = 40 → pf + x.2.2.2.1.length ≤ np ∧ ∀ j, j < x.2.2.2.1.length → mI M 74 w (pf + j) = Int32.ofNat (gtn x.2.2.2.1 j))) ∧ (isJ x.1 → mI M 67 w q = Int32.ofNat (gtn x.2.2.2.1 0)) ∧ cFm A w nk q x.2.2.2.2.2.2.2.2 M ∧ x.2.2.2.2.2.2.1.length ≤ 6 ∧ (isJ x.1 → x.2.2.2.1.length = 1) ∧ (¬ isJ x.1 → x.1 ≠ 40 → x.2.2.2.1 = [])
def cFh (A : List Nm) (w h : Nat) (x : Hnd) (M : Mem) : Prop := mI M 75 w (4 * h) = Int32.ofNat x.1 ∧ mI M 75 w (4 * h + 1) = Int32.ofNat x.2.1 ∧ mI M 75 w (4 * h + 2) = Int32.ofNat x.2.2.1 ∧ mI M 75 w (4 * h + 3) = nc A x.2.2.2 ∧ x.2.2.2 ∈ A
abbrev gin (L : List Ins) (i : Nat) : Ins := L.getD i (0, 0, 0, [], [], [], [], (0, []), none)
abbrev ghn (H : List Hnd) (i : Nat) : Hnd := H.getD i (0, 0, 0, [])
/-- a method's code and handlers -/
def cMc (A : List Nm) (w nq nk np nh nr m : Nat) (x : Mth) (M : Mem) : Prop := ∃ q0 h0, (mI M 62 w m = Int32.ofNat q0 ∧ mI M 63 w m = Int32.ofNat x.2.2.2.2.2.2.1.length ∧ q0 + x.2.2.2.2.2.2.1.length ≤ nq ∧ x.2.2.2.2.2.2.1.length ≤ 80 ∧ mI M 64 w m = Int32.ofNat h0 ∧ mI M 65 w m = Int32.ofNat x.2.2.2.2.2.2.2.length ∧ h0 + x.2.2.2.2.2.2.2.length ≤ nh ∧ x.2.2.2.2.2.2.2.length ≤ 8) ∧ (∀ i, i < x.2.2.2.2.2.2.1.length → cFi A w nk np nr (q0 + i) (gin x.2.2.2.2.2.2.1 i) M) ∧ ∀ i, i < x.2.2.2.2.2.2.2.length → cFh A w (h0 + i) (ghn x.2.2.2.2.2.2.2 i) M
theorem Wr.lo {w q pf h : Nat} {b : Nat → Nat} {M M' : Mem} (a : Wr w q pf h M M') (b7 : b 67 ≤ q) (b4 : b 74 ≤ pf) (b5 : b 75 ≤ 4 * h) : Lo w b M M' := by
  refine ⟨fun f hf => ⟨fun i k e => ?_, fun i => a.2.2 f i⟩, fun i k _ _ => a.o (by decide) i k, fun i k _ _ _ => a.o (by decide) i k, fun i => a.2.2 211 i⟩
  refine a.1 f i k (fun z => ?_) (fun z => ?_) (fun z => ?_)
  · obtain ⟨z1, z2, z3, -⟩ := z; subst z1; rcases e with e | e
    · exact e z2
    · omega
  · obtain ⟨z1, z2, z3⟩ := z; subst z1; rcases e with e | e
    · exact e z2
    · omega
  · obtain ⟨z1, z2, z3, -⟩ := z; subst z1; rcases e with e | e
    · exact e z2
    · omega
theorem Wr.ex {w q pf h : Nat} {b : Nat → Nat} {M M' : Mem} (a : Wr w q pf h M M') (b7 : b 67 ≤ q) (b4 : b 74 ≤ pf) (b5 : b 75 ≤ 4 * h) : Ex w b M M' :=
  ⟨⟨a.lo b7 b4 b5, ⟨(a.2.1 3 0 1).1, a.o (by decide) 0 17, a.o (by decide) w 1⟩, fun f _ _ => a.2.2 f 0⟩, a.o (by decide) 0 2, a.o (by decide) 0 3, a.o (by decide) 0 4⟩
theorem cRf.wr {A : List Nm} {w r q pf h : Nat} {k m : Nm} {ks : List Kd} {κ : Kd} {M M' : Mem} (c : cRf A w r k m ks κ M) (a : Wr w q pf h M M') : cRf A w r k m ks κ M' := by
  unfold cRf
  rw [a.o (f := 76) (by decide), a.o (f := 76) (by decide), a.o (f := 76) (by decide), a.o (f := 76) (by decide)]
  exact ⟨c.1, c.2.1, c.2.2.1, c.2.2.2.1, fun i x y => by rw [a.o (f := 211) (by decide)]; exact c.2.2.2.2 i x y⟩
theorem cOp.wr {A : List Nm} {w nr q o pf q0 p0 h0 : Nat} {x : Opr} {M M' : Mem} (c : cOp A w nr q o pf x M) (a : Wr w q0 p0 h0 M M') (ho : o < 62) (h66 : mI M 66 w q = Int32.ofNat o) : cOp A w nr q o pf x M' := by
  have e8 := a.o (f := 68) (by decide) w q
  have e9 := a.o (f := 69) (by decide) w q
  have e7 : ¬ isJ o → mI M' 67 w q = mI M 67 w q := fun hj => a.1 67 w q (fun z => by
    obtain ⟨-, -, -, o', z1, z2⟩ := z
    have : o' ≤ 39 := z1.2
    rw [h66] at z2
    have := (oN_inj (by omega) (by omega)).mp z2
    rw [this] at hj; exact hj z1) (fun z => absurd z.1 (by decide)) (fun z => absurd z.1 (by decide))
  refine ⟨?_, fun z => e9.trans (c.2 z)⟩
  have c := c.1
  unfold cOp0 at c ⊢
  by_cases c1 : isN o
  · rw [if_pos c1] at c ⊢
    rw [e7 (fun z => by have h1 : o = 41 ∨ o = 54 ∨ o = 55 := c1; have h2 : o ≤ 39 := z.2; omega)]; exact c
  rw [if_neg c1] at c ⊢
  by_cases c2 : isFo o ∨ isMo o
  · rw [if_pos c2] at c ⊢
    have h1 : (46 ≤ o ∧ o ≤ 49) ∨ (50 ≤ o ∧ o ≤ 53) := c2
    rw [e7 (fun z => by have h2 : o ≤ 39 := z.2; omega)]
    obtain ⟨r, r1, r2, r3⟩ := c
    exact ⟨r, r1, r2, r3.wr a⟩
  rw [if_neg c2] at c ⊢
  by_cases c3 : o = 40
  · rw [if_pos c3] at c ⊢
    rw [e7 (fun z => by have h2 : o ≤ 39 := z.2; omega), e8, e9]; exact c
  rw [if_neg c3] at c ⊢
  by_cases c4 : isJ o
  · rw [if_pos c4] at c ⊢; exact c
  rw [if_neg c4] at c ⊢
  rw [e7 c4, e8]; exact c
theorem cFm.wr {A : List Nm} {w nk q q0 p0 h0 : Nat} {f : Option (List Kd × List Kd)} {M M' : Mem} (c : cFm A w nk q f M) (a : Wr w q0 p0 h0 M M') : cFm A w nk q f M' := by
  cases f with
  | none => exact ⟨(a.o (f := 70) (by decide) w q).trans c.1, (a.o (f := 71) (by decide) w q).trans c.2.1, (a.o (f := 72) (by decide) w q).trans c.2.2⟩
  | some f =>
    obtain ⟨kf, x, b, c, d, e⟩ := c
    exact ⟨kf, x, (a.o (f := 70) (by decide) w q).trans b, (a.o (f := 71) (by decide) w q).trans c, (a.o (f := 72) (by decide) w q).trans d, fun i hi => by rw [a.o (f := 73) (by decide)]; exact e i hi⟩
theorem cOp.same {A : List Nm} {w nr q o pf : Nat} {x y : Opr} {M : Mem} (c : cOp A w nr q o pf x M) (h : y.1 = x.1 ∧ y.2.1 = x.2.1 ∧ y.2.2.1.length = x.2.2.1.length ∧ y.2.2.2 = x.2.2.2) : cOp A w nr q o pf y M := by
  obtain ⟨h1, h2, h3, h4⟩ := h
  refine ⟨?_, c.2⟩
  have c := c.1
  unfold cOp0 at c ⊢
  rw [h1, h2, h3, h4]; exact c
theorem gpi_mem {L : List PI} {i : Nat} (h : i < L.length) : gpi L i ∈ L := by
  show L.getD i _ ∈ L
  rw [List.getD_eq_getElem?_getD, List.getElem?_eq_getElem h]; exact List.getElem_mem h
theorem mem_gpi {L : List PI} {x : PI} (h : x ∈ L) : ∃ i, i < L.length ∧ gpi L i = x := by
  obtain ⟨i, hi, e⟩ := List.mem_iff_getElem.mp h
  exact ⟨i, hi, by show L.getD i _ = x; rw [List.getD_eq_getElem?_getD, List.getElem?_eq_getElem hi]; exact e⟩
theorem mem_gh {L : List PH} {x : PH} (h : x ∈ L) : ∃ i, i < L.length ∧ gh L i = x := by
  obtain ⟨i, hi, e⟩ := List.mem_iff_getElem.mp h
  exact ⟨i, hi, by show L.getD i _ = x; rw [List.getD_eq_getElem?_getD, List.getElem?_eq_getElem hi]; exact e⟩
theorem pkS_take {L : List PI} : ∀ {i : Nat}, i < L.length → pkS (L.take i) + pkN (gpi L i) ≤ pkS L := by
  induction L with
  | nil => intro i h; exact absurd h (Nat.not_lt_zero i)
  | cons a l ih =>
    intro i h
    have e : pkS (a :: l) = pkN a + pkS l := by simp [pkS]
    rw [e]
    cases i with
    | zero => show pkS [] + pkN a ≤ _; simp [pkS]
    | succ i =>
      have := ih (i := i) (by simp at h; omega)
      rw [List.take_succ_cons]
      have e2 : pkS (a :: l.take i) = pkN a + pkS (l.take i) := by simp [pkS]
      rw [e2]
      show pkN a + pkS (l.take i) + pkN (gpi l i) ≤ _
      omega
theorem gin_map {LS : List Lb} {L : List PI} {i : Nat} (h : i < L.length) : gin (L.map (insOf LS)) i = insOf LS (gpi L i) := by
  show (L.map (insOf LS)).getD i _ = insOf LS (L.getD i _)
  rw [List.getD_eq_getElem?_getD, List.getElem?_map, List.getElem?_eq_getElem h, List.getD_eq_getElem?_getD, List.getElem?_eq_getElem h]; rfl
theorem ghn_map {LS : List Lb} {L : List PH} {i : Nat} (h : i < L.length) : ghn (L.map (hndOf LS)) i = hndOf LS (gh L i) := by
  show (L.map (hndOf LS)).getD i _ = hndOf LS (L.getD i _)
  rw [List.getD_eq_getElem?_getD, List.getElem?_map, List.getElem?_eq_getElem h, List.getD_eq_getElem?_getD, List.getElem?_eq_getElem h]; rfl
theorem gtn_map {LS : List Lb} {ls : List Nm} {j : Nat} (h : j < ls.length) : gtn (ls.map (lbN LS)) j = lbN LS (ls.getD j []) := by
  show (ls.map (lbN LS)).getD j _ = _
  rw [List.getD_eq_getElem?_getD, List.getElem?_map, List.getElem?_eq_getElem h, List.getD_eq_getElem?_getD, List.getElem?_eq_getElem h]; rfl
/-- an instruction becomes a finished one -/
theorem cIn.fin {A : List Nm} {w nk np nr q pf q0 p0 h0 : Nat} {x : PI} {LS : List Lb} {M M' : Mem} (c : cIn A w nk nr q pf x M) (a : Wr w q0 p0 h0 M M') (t : tgI LS w q pf x M') (hp : pf + pkN x ≤ np) : cFi A w nk np nr q (insOf LS x) M' := by
  obtain ⟨⟨c1, c2⟩, c3, c4, c5, c6, c7⟩ := c
  have hlen : ((insOf LS x).2.2.2.1).length = x.2.1.2.2.1.length := by show (x.2.1.2.2.1.map (lbN LS)).length = _; simp
  refine ⟨⟨(a.o (f := 66) (by decide) w q).trans c1, c2⟩, ⟨pf, ?_, fun h40 => ?_⟩, fun hj => ?_, c4.wr a, c5, fun hj => ?_, fun hj h40 => ?_⟩
  · refine cOp.same (c3.wr a c2 c1) ⟨rfl, rfl, ?_, rfl⟩
    show ((x.2.1.2.2.1.map (lbN LS)).map (fun _ => ([] : Nm))).length = _
    simp
  · have h40' : x.1 = 40 := h40
    have hpk : pkN x = x.2.1.2.2.1.length := by unfold pkN; rw [if_pos h40']
    rw [hlen]
    refine ⟨by omega, fun j hj => ?_⟩
    rw [t.2 h40' j hj]
    congr 1
    exact (gtn_map hj).symm
  · have h1 := c6.1 hj
    rw [t.1 hj]
    congr 1
    exact (gtn_map (by omega)).symm
  · rw [hlen]; exact c6.1 hj
  · have := c6.2 hj h40
    show x.2.1.2.2.1.map (lbN LS) = []
    rw [this]; rfl
