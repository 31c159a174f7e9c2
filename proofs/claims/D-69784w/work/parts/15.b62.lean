/-! B: a method while its lines come, in the works -/
def pkN (i : PI) : Nat := if i.1 = 40 then i.2.1.2.2.1.length else 0
def pkS (L : List PI) : Nat := (L.map pkN).sum
theorem pkS_app (L : List PI) (i : PI) : pkS (L ++ [i]) = pkS L + pkN i := by simp [pkS]
/-- instructions and handlers in the order of their lines -/
def lfE : List (PI ⊕ PH) → List PI
  | [] => []
  | .inl i :: E => i :: lfE E
  | .inr _ :: E => lfE E
def rgE : List (PI ⊕ PH) → List PH
  | [] => []
  | .inl _ :: E => rgE E
  | .inr h :: E => h :: rgE E
/-- the uses of labels in them -/
def usE : Nat → Nat → Nat → List (PI ⊕ PH) → List Us
  | _, _, _, [] => []
  | q, pf, h, .inl i :: E => newU i.1 q pf i.2.2.2 i.2.1.2.2.1 ++ usE (q + 1) (pf + pkN i) h E
  | q, pf, h, .inr x :: E => [(x.1, 2, 4 * h, x.2.2.2.2), (x.2.1, 3, 4 * h + 1, x.2.2.2.2), (x.2.2.1, 4, 4 * h + 2, x.2.2.2.2)] ++ usE q pf (h + 1) E
theorem lfE_app : ∀ (E F : List (PI ⊕ PH)), lfE (E ++ F) = lfE E ++ lfE F
  | [], F => rfl
  | .inl i :: E, F => by show i :: lfE (E ++ F) = i :: (lfE E ++ lfE F); rw [lfE_app E F]
  | .inr h :: E, F => lfE_app E F
theorem rgE_app : ∀ (E F : List (PI ⊕ PH)), rgE (E ++ F) = rgE E ++ rgE F
  | [], F => rfl
  | .inl i :: E, F => rgE_app E F
  | .inr h :: E, F => by show h :: rgE (E ++ F) = h :: (rgE E ++ rgE F); rw [rgE_app E F]
theorem usE_app : ∀ (E F : List (PI ⊕ PH)) (q pf h : Nat), usE q pf h (E ++ F) = usE q pf h E ++ usE (q + (lfE E).length) (pf + pkS (lfE E)) (h + (rgE E).length) F
  | [], F, q, pf, h => by simp [usE, lfE, rgE, pkS]
  | .inl i :: E, F, q, pf, h => by
    show newU i.1 q pf i.2.2.2 i.2.1.2.2.1 ++ usE (q + 1) (pf + pkN i) h (E ++ F) = (newU i.1 q pf i.2.2.2 i.2.1.2.2.1 ++ usE (q + 1) (pf + pkN i) h E) ++ usE (q + (i :: lfE E).length) (pf + pkS (i :: lfE E)) (h + (rgE E).length) F
    rw [usE_app E F, List.append_assoc, show q + (i :: lfE E).length = q + 1 + (lfE E).length by simp; omega, show pf + pkS (i :: lfE E) = pf + pkN i + pkS (lfE E) by simp [pkS]; omega]
  | .inr x :: E, F, q, pf, h => by
    show [(x.1, 2, 4 * h, x.2.2.2.2), (x.2.1, 3, 4 * h + 1, x.2.2.2.2), (x.2.2.1, 4, 4 * h + 2, x.2.2.2.2)] ++ usE q pf (h + 1) (E ++ F) = ([(x.1, 2, 4 * h, x.2.2.2.2), (x.2.1, 3, 4 * h + 1, x.2.2.2.2), (x.2.2.1, 4, 4 * h + 2, x.2.2.2.2)] ++ usE q pf (h + 1) E) ++ usE (q + (lfE E).length) (pf + pkS (lfE E)) (h + (x :: rgE E).length) F
    rw [usE_app E F, List.append_assoc, show h + (x :: rgE E).length = h + 1 + (rgE E).length by simp; omega]
abbrev glb (LS : List Lb) (i : Nat) : Lb := LS.getD i ([], 0, 0)
def cLb (A : List Nm) (LS : List Lb) (M : Mem) : Prop := mI M 3 0 5 = Int32.ofNat LS.length ∧ ∀ i, i < LS.length → (mI M 23 0 i = nc A (glb LS i).1 ∧ (glb LS i).1 ∈ A) ∧ (mI M 24 0 i = Int32.ofNat (glb LS i).2.1 ∧ (glb LS i).2.1 ≤ 80) ∧ mI M 25 0 i = Int32.ofNat (glb LS i).2.2 ∧ (glb LS i).2.2 ≤ 100000
theorem cLb.pre {A A' : List Nm} {LS : List Lb} {M : Mem} (h : cLb A LS M) (hp : A <+: A') : cLb A' LS M := ⟨h.1, fun i hi => ⟨⟨(h.2 i hi).1.1.trans (nc_pre hp (h.2 i hi).1.2).symm, hp.subset (h.2 i hi).1.2⟩, (h.2 i hi).2⟩⟩
theorem cLb.fr {A : List Nm} {LS : List Lb} {M M' : Mem} {S : Nat} (h : cLb A LS M) (hf : Fr S M M') (s9 : S.testBit (cd 3 5) = false := by rfl) (s1 : S.testBit 23 = false := by rfl) (s2 : S.testBit 24 = false := by rfl) (s3 : S.testBit 25 = false := by rfl) : cLb A LS M' :=
  ⟨(hf.I s9 0).trans h.1, fun i hi => by rw [hf.Ia (f := 23) rfl s1, hf.Ia (f := 24) rfl s2, hf.Ia (f := 25) rfl s3]; exact h.2 i hi⟩
theorem cLb.add {A : List Nm} {LS : List Lb} {M M' : Mem} {nm : Nm} {at' line : Nat} (h : cLb A LS M) (hm : nm ∈ A) (ha : at' ≤ 80) (hln : line ≤ 100000) (e5 : mI M' 3 0 5 = Int32.ofNat (LS.length + 1)) (e23 : ∀ k, mI M' 23 0 k = if k = LS.length then nc A nm else mI M 23 0 k) (e24 : ∀ k, mI M' 24 0 k = if k = LS.length then Int32.ofNat at' else mI M 24 0 k) (e25 : ∀ k, mI M' 25 0 k = if k = LS.length then Int32.ofNat line else mI M 25 0 k) : cLb A (LS ++ [(nm, at', line)]) M' := by
  have hl : (LS ++ [(nm, at', line)]).length = LS.length + 1 := by simp
  refine ⟨by rw [hl]; exact e5, fun i hi => ?_⟩
  rw [hl] at hi
  rw [e23, e24, e25]
  by_cases c : i < LS.length
  · have g : glb (LS ++ [(nm, at', line)]) i = glb LS i := by simp [glb, List.getD_eq_getElem?_getD, List.getElem?_append_left c]
    rw [if_neg (by omega), if_neg (by omega), if_neg (by omega), g]; exact h.2 i c
  · have : i = LS.length := by omega
    have g : glb (LS ++ [(nm, at', line)]) i = (nm, at', line) := by rw [this]; simp [glb, List.getD_eq_getElem?_getD]
    rw [if_pos this, if_pos this, if_pos this, g]
    exact ⟨⟨rfl, hm⟩, ⟨rfl, ha⟩, rfl, hln⟩
abbrev gpi (L : List PI) (i : Nat) : PI := L.getD i (0, noO, none, 0)
def lbOk (o : Nat) (ls : List Nm) : Prop := (isJ o → ls.length = 1) ∧ (¬ isJ o → o ≠ 40 → ls = [])
/-- an instruction, but for its labels -/
def cIn (A : List Nm) (w nk nr q pf : Nat) (x : PI) (M : Mem) : Prop := (mI M 66 w q = Int32.ofNat x.1 ∧ x.1 < 62) ∧ cOp A w nr q x.1 pf x.2.1 M ∧ cFm A w nk q x.2.2.1 M ∧ (x.2.1.2.2.2.2.2.1.length ≤ 6 ∧ lbOk x.1 x.2.1.2.2.1 ∧ x.2.2.2 ≤ 100000)
theorem cOp.mono {A : List Nm} {w nr nr' q o pf : Nat} {x : Opr} {M : Mem} (h : cOp A w nr q o pf x M) (hn : nr ≤ nr') : cOp A w nr' q o pf x M := by
  refine ⟨?_, h.2⟩
  have h := h.1
  unfold cOp0 at h ⊢
  by_cases c1 : isN o
  · rw [if_pos c1] at h ⊢; exact h
  rw [if_neg c1] at h ⊢
  by_cases c2 : isFo o ∨ isMo o
  · rw [if_pos c2] at h ⊢
    obtain ⟨r, a, b, c⟩ := h
    exact ⟨r, by omega, b, c⟩
  rw [if_neg c2] at h ⊢; exact h
theorem cIn.pre {A A' : List Nm} {w nk nr q pf : Nat} {x : PI} {M : Mem} (h : cIn A w nk nr q pf x M) (hp : A <+: A') : cIn A' w nk nr q pf x M := ⟨h.1, h.2.1.pre hp, h.2.2.1.pre hp, h.2.2.2⟩
theorem cIn.mono {A : List Nm} {w nk nk' nr nr' q pf : Nat} {x : PI} {M : Mem} (h : cIn A w nk nr q pf x M) (hk : nk ≤ nk') (hn : nr ≤ nr') : cIn A w nk' nr' q pf x M := ⟨h.1, h.2.1.mono hn, h.2.2.1.mono hk, h.2.2.2⟩
/-- bounds of a method's lines -/
def bQ (m nq nk nh nr f : Nat) : Nat := if 66 ≤ f ∧ f ≤ 72 then nq else if f = 63 ∨ f = 65 then m else if f = 73 then nk else if f = 75 then 4 * nh else if f = 76 then 4 * nr else if f = 212 then 6 * nr else 10000000
theorem bQ66 {m nq nk nh nr f : Nat} (h : 66 ≤ f ∧ f ≤ 72) : bQ m nq nk nh nr f = nq := if_pos h
theorem cIn.lo {A : List Nm} {w nk nr q pf m nq nh : Nat} {x : PI} {M M' : Mem} (h : cIn A w nk nr q pf x M) (hx : Lo w (bQ m nq nk nh nr) M M') (hq : q < nq) : cIn A w nk nr q pf x M' := by
  have hb : ∀ f, 66 ≤ f → f ≤ 72 → q < bQ m nq nk nh nr f := fun f a b => by rw [bQ66 ⟨a, b⟩]; exact hq
  exact ⟨⟨((hx.1 66 rfl).1 w q (Or.inr (hb 66 (by omega) (by omega)))).trans h.1.1, h.1.2⟩, h.2.1.lo hx (Or.inl (hb 67 (by omega) (by omega))) (hb 68 (by omega) (by omega)) (hb 69 (by omega) (by omega)) (Nat.le_refl _) (Nat.le_refl _), h.2.2.1.lo hx (hb 70 (by omega) (by omega)) (hb 71 (by omega) (by omega)) (hb 72 (by omega) (by omega)) (Nat.le_refl _), h.2.2.2⟩
def cCd (A : List Nm) (w nk nr q0 np0 : Nat) (L : List PI) (M : Mem) : Prop := ∀ i, i < L.length → cIn A w nk nr (q0 + i) (np0 + pkS (L.take i)) (gpi L i) M
theorem cCd.pre {A A' : List Nm} {w nk nr q0 np0 : Nat} {L : List PI} {M : Mem} (h : cCd A w nk nr q0 np0 L M) (hp : A <+: A') : cCd A' w nk nr q0 np0 L M := fun i hi => (h i hi).pre hp
theorem cCd.mono {A : List Nm} {w nk nk' nr nr' q0 np0 : Nat} {L : List PI} {M : Mem} (h : cCd A w nk nr q0 np0 L M) (hk : nk ≤ nk') (hn : nr ≤ nr') : cCd A w nk' nr' q0 np0 L M := fun i hi => (h i hi).mono hk hn
theorem cCd.lo {A : List Nm} {w nk nr q0 np0 m nq nh : Nat} {L : List PI} {M M' : Mem} (h : cCd A w nk nr q0 np0 L M) (hx : Lo w (bQ m nq nk nh nr) M M') (hq : q0 + L.length ≤ nq) : cCd A w nk nr q0 np0 L M' := fun i hi => (h i hi).lo hx (by omega)
theorem cCd.add {A : List Nm} {w nk nr q0 np0 : Nat} {L : List PI} {x : PI} {M : Mem} (h : cCd A w nk nr q0 np0 L M) (hx : cIn A w nk nr (q0 + L.length) (np0 + pkS L) x M) : cCd A w nk nr q0 np0 (L ++ [x]) M := fun i hi => by
  rw [List.length_append, List.length_singleton] at hi
  by_cases c : i < L.length
  · have g : gpi (L ++ [x]) i = gpi L i := by simp [gpi, List.getD_eq_getElem?_getD, List.getElem?_append_left c]
    rw [g, List.take_append_of_le_length (by omega)]; exact h i c
  · have e : i = L.length := by omega
    have g : gpi (L ++ [x]) i = x := by rw [e]; simp [gpi, List.getD_eq_getElem?_getD]
    rw [g, List.take_append_of_le_length (by omega), e, List.take_length]; exact hx
abbrev gh (H : List PH) (i : Nat) : PH := H.getD i ([], [], [], [], 0)
def cHc (A : List Nm) (w nh0 : Nat) (H : List PH) (M : Mem) : Prop := ∀ i, i < H.length → (mI M 75 w (4 * (nh0 + i) + 3) = nc A (gh H i).2.2.2.1 ∧ (gh H i).2.2.2.1 ∈ A) ∧ (gh H i).2.2.2.2 ≤ 100000
theorem cHc.pre {A A' : List Nm} {w nh0 : Nat} {H : List PH} {M : Mem} (h : cHc A w nh0 H M) (hp : A <+: A') : cHc A' w nh0 H M := fun i hi => ⟨⟨(h i hi).1.1.trans (nc_pre hp (h i hi).1.2).symm, hp.subset (h i hi).1.2⟩, (h i hi).2⟩
theorem cHc.lo {A : List Nm} {w nh0 m nq nk nh nr : Nat} {H : List PH} {M M' : Mem} (h : cHc A w nh0 H M) (hx : Lo w (bQ m nq nk nh nr) M M') (hq : nh0 + H.length ≤ nh) : cHc A w nh0 H M' := fun i hi => ⟨⟨((hx.1 75 rfl).1 w _ (Or.inr (by show _ < 4 * nh; omega))).trans (h i hi).1.1, (h i hi).1.2⟩, (h i hi).2⟩
theorem cHc.add {A : List Nm} {w nh0 : Nat} {H : List PH} {x : PH} {M : Mem} (h : cHc A w nh0 H M) (hx : mI M 75 w (4 * (nh0 + H.length) + 3) = nc A x.2.2.2.1 ∧ x.2.2.2.1 ∈ A) (hln : x.2.2.2.2 ≤ 100000) : cHc A w nh0 (H ++ [x]) M := fun i hi => by
  rw [List.length_append, List.length_singleton] at hi
  by_cases c : i < H.length
  · have g : gh (H ++ [x]) i = gh H i := by simp [gh, List.getD_eq_getElem?_getD, List.getElem?_append_left c]
    rw [g]; exact h i c
  · have e : i = H.length := by omega
    have g : gh (H ++ [x]) i = x := by rw [e]; simp [gh, List.getD_eq_getElem?_getD]
    rw [g, e]; exact ⟨hx, hln⟩
/-- numbers of a method: its own, where its code, picks, handlers begin; how much there is: code, kinds, picks, handlers, references; a bound of its labels and uses -/
def cPM (A : List Nm) (w m q0 np0 nh0 nq nk np nh nr nu : Nat) (P : PM) (M : Mem) : Prop :=
  ((mI M 5 w 39 = Int32.ofNat nq ∧ mI M 5 w 47 = Int32.ofNat nk ∧ mI M 5 w 49 = Int32.ofNat np ∧ mI M 5 w 51 = Int32.ofNat nh ∧ mI M 5 w 53 = Int32.ofNat nr) ∧ (nq = q0 + P.2.1.length ∧ np = np0 + pkS P.2.1 ∧ nh = nh0 + P.2.2.1.length)) ∧
  (mI M 62 w m = Int32.ofNat q0 ∧ mI M 63 w m = Int32.ofNat P.2.1.length ∧ P.2.1.length ≤ 80 ∧ mI M 64 w m = Int32.ofNat nh0 ∧ mI M 65 w m = Int32.ofNat P.2.2.1.length ∧ P.2.2.1.length ≤ 8) ∧
  (cCd A w nk nr q0 np0 P.2.1 M ∧ cHc A w nh0 P.2.2.1 M) ∧ (cLb A P.2.2.2.1 M ∧ P.2.2.2.1.length ≤ nu) ∧
  (∃ E, (lfE E = P.2.1 ∧ rgE E = P.2.2.1) ∧ cUs A (usE q0 np0 nh0 E) M ∧ (usE q0 np0 nh0 E).length ≤ nu) ∧ cPf A w nk P.2.2.2.2 M ∧ ∀ f, P.2.2.2.2 = some f → f.2.2 ≤ 100000
theorem cPM.wk {A A' : List Nm} {w m q0 np0 nh0 nq nk np nh nr nu : Nat} {P : PM} {M M' : Mem} (h : cPM A w m q0 np0 nh0 nq nk np nh nr nu P M) (hk : Wk M M') (hp : A <+: A') : cPM A' w m q0 np0 nh0 nq nk np nh nr nu P M' := by
  obtain ⟨⟨⟨a1, a2, a3, a4, a5⟩, b⟩, ⟨c1, c2, c3, c4, c5, c6⟩, ⟨d1, d2⟩, ⟨e1, e2⟩, ⟨E, f1, f2, f3⟩, g1, g2⟩ := h
  have lo : Lo w (bQ m nq nk nh nr) M M' := (Lo.rf w _ M).wk hk.wq
  refine ⟨⟨⟨(hk.1.I (f := 5) (k := 39) rfl w).trans a1, (hk.1.I (f := 5) (k := 47) rfl w).trans a2, (hk.1.I (f := 5) (k := 49) rfl w).trans a3, (hk.1.I (f := 5) (k := 51) rfl w).trans a4, (hk.1.I (f := 5) (k := 53) rfl w).trans a5⟩, b⟩, ⟨(hk.1.Ia (f := 62) rfl rfl w m).trans c1, (hk.1.Ia (f := 63) rfl rfl w m).trans c2, c3, (hk.1.Ia (f := 64) rfl rfl w m).trans c4, (hk.1.Ia (f := 65) rfl rfl w m).trans c5, c6⟩, ⟨(d1.lo lo (by omega)).pre hp, (d2.lo lo (by omega)).pre hp⟩, ⟨(e1.fr hk.1).pre hp, e2⟩, ⟨E, f1, (f2.fr hk.1).pre hp, f3⟩, (g1.fr hk.1).pre hp, g2⟩
theorem pOpr_lb {o : Nat} {ts t' : List Tok} {x : Opr} (h : pOpr o ts = .inr (x, t')) : lbOk o x.2.2.1 := by
  unfold pOpr at h
  unfold lbOk
  by_cases c1 : o = 1
  · rw [if_pos c1] at h; split at h
    · cases h
    · cases h; exact ⟨fun q => by have : 23 ≤ o := q.1; omega, fun _ _ => rfl⟩
  rw [if_neg c1] at h
  by_cases c2 : 3 ≤ o ∧ o ≤ 6
  · rw [if_pos c2] at h; split at h
    · cases h
    · cases h; exact ⟨fun q => by have : 23 ≤ o := q.1; omega, fun _ _ => rfl⟩
  rw [if_neg c2] at h
  by_cases c3 : o = 7
  · rw [if_pos c3] at h; split at h
    · cases h
    · split at h
      · cases h
      · cases h; exact ⟨fun q => by have : 23 ≤ o := q.1; omega, fun _ _ => rfl⟩
  rw [if_neg c3] at h
  by_cases c4 : isJ o
  · rw [if_pos c4] at h; split at h
    · cases h
    · cases h; exact ⟨fun _ => rfl, fun q => absurd c4 q⟩
  rw [if_neg c4] at h
  by_cases c5 : o = 40
  · exact ⟨fun q => absurd q c4, fun _ q => absurd c5 q⟩
  rw [if_neg c5] at h
  refine ⟨fun q => absurd q c4, fun _ _ => ?_⟩
  by_cases c6 : isN o
  · rw [if_pos c6] at h; split at h
    · cases h
    · cases h; rfl
  rw [if_neg c6] at h
  by_cases c7 : isFo o
  · rw [if_pos c7] at h; split at h
    · cases h
    · cases h; rfl
  rw [if_neg c7] at h
  by_cases c8 : isMo o
  · rw [if_pos c8] at h; split at h
    · cases h
    · cases h; rfl
  rw [if_neg c8] at h
  cases h; rfl
