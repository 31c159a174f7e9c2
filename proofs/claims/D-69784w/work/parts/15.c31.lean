/-! B: worlds of the works that a definition leaves: printed by lo_w.py -/
def LoW (w : Nat) (b : Nat → Nat) (M M' : Mem) : Prop := (∀ f, wFm f = true → (∀ k, k < b f → mI M' f w k = mI M f w k) ∧ mL M' f w = mL M f w) ∧ (∀ k, k < 65 → mI M' 5 w k = mI M 5 w k) ∧ (∀ i k, (i = 2 * w + 1 → k < b 211) → (i = 2 * w + 2 → k < b 212) → (i = 2 * w + 1 ∨ i = 2 * w + 2) → mI M' 211 i k = mI M 211 i k) ∧ ∀ i, mL M' 211 i = mL M 211 i
theorem cKs.loW {A : List Nm} {w kf : Nat} {ks : List Kd} {b : Nat → Nat} {M M' : Mem} (h : cKs A w kf ks M) (hx : LoW w b M M') (hb : kf + ks.length ≤ b 73) : cKs A w kf ks M' := fun i hi => ⟨((hx.1 73 rfl).1 (kf + i) (id (by omega))).trans (h i hi).1, (h i hi).2⟩
theorem cRf.loW {A : List Nm} {w r : Nat} {k m : Nm} {ks : List Kd} {κ : Kd} {b : Nat → Nat} {M M' : Mem} (h : cRf A w r k m ks κ M) (hx : LoW w b M M') (h1 : 4 * r + 4 ≤ b 76) (h2 : 6 * r + 6 ≤ b 212) : cRf A w r k m ks κ M' := by
  have e : ∀ j, j < b 76 → mI M' 76 w j = mI M 76 w j := fun j hj => (hx.1 76 rfl).1 j (id hj)
  have e2 : ∀ j, j < b 212 → mI M' 211 (2 * w + 2) j = mI M 211 (2 * w + 2) j := fun j hj => hx.2.2.1 (2 * w + 2) j (fun q => by omega) (fun _ => hj) (by omega)
  unfold cRf
  rw [e _ (by omega), e _ (by omega), e _ (by omega), e _ (by omega)]
  exact ⟨h.1, h.2.1, h.2.2.1, h.2.2.2.1, fun i a c => by rw [e2 _ (by omega)]; exact h.2.2.2.2 i a c⟩
theorem cOp.loW {A : List Nm} {w nr q o pf : Nat} {x : Opr} {b : Nat → Nat} {M M' : Mem} (h : cOp A w nr q o pf x M) (hx : LoW w b M M') (h7 : q < b 67 ∨ mI M' 67 w q = mI M 67 w q) (h8 : q < b 68) (h9 : q < b 69) (h76 : 4 * nr ≤ b 76) (h212 : 6 * nr ≤ b 212) : cOp A w nr q o pf x M' := by
  have e7 : mI M' 67 w q = mI M 67 w q := h7.elim (fun q' => (hx.1 67 rfl).1 q (id q')) id
  have e8 : mI M' 68 w q = mI M 68 w q := (hx.1 68 rfl).1 q (id h8)
  have e9 : mI M' 69 w q = mI M 69 w q := (hx.1 69 rfl).1 q (id h9)
  refine ⟨?_, fun z => e9.trans (h.2 z)⟩
  have h := h.1
  unfold cOp0 at h ⊢
  rw [e7, e8, e9]
  by_cases c1 : isN o
  · rw [if_pos c1] at h ⊢; exact h
  rw [if_neg c1] at h ⊢
  by_cases c2 : isFo o ∨ isMo o
  · rw [if_pos c2] at h ⊢
    obtain ⟨r, a, b', c⟩ := h
    exact ⟨r, a, b', c.loW hx (by omega) (by omega)⟩
  rw [if_neg c2] at h ⊢; exact h
theorem cFm.loW {A : List Nm} {w nk q : Nat} {f : Option (List Kd × List Kd)} {b : Nat → Nat} {M M' : Mem} (h : cFm A w nk q f M) (hx : LoW w b M M') (h0 : q < b 70) (h1 : q < b 71) (h2 : q < b 72) (h3 : nk ≤ b 73) : cFm A w nk q f M' := by
  have e0 : mI M' 70 w q = mI M 70 w q := (hx.1 70 rfl).1 q (id h0)
  have e1 : mI M' 71 w q = mI M 71 w q := (hx.1 71 rfl).1 q (id h1)
  have e2 : mI M' 72 w q = mI M 72 w q := (hx.1 72 rfl).1 q (id h2)
  cases f with
  | none => exact ⟨e0.trans h.1, e1.trans h.2.1, e2.trans h.2.2⟩
  | some f =>
    obtain ⟨kf, a, b', c, d, e⟩ := h
    exact ⟨kf, a, e0.trans b', e1.trans c, e2.trans d, e.loW hx (by rw [List.length_append]; omega)⟩
theorem cHd.loW {A : List Nm} {w c m : Nat} {x : Mth} {b : Nat → Nat} {M M' : Mem} (h : cHd A w c m x M) (hx : LoW w b M M') (hb : ∀ f, 55 ≤ f → f ≤ 61 → m < b f) (hb2 : 6 * m + 6 ≤ b 211) : cHd A w c m x M' := by
  have e : ∀ f, 55 ≤ f → f ≤ 61 → mI M' f w m = mI M f w m := fun f a c => (hx.1 f (by
    unfold wFm; rw [Bool.or_eq_true, Bool.and_eq_true]; exact Or.inl ⟨Nat.ble_eq.mpr (by omega), Nat.ble_eq.mpr (by omega)⟩)).1 m (id (hb f a c))
  have e2 : ∀ j, j < b 211 → mI M' 211 (2 * w + 1) j = mI M 211 (2 * w + 1) j := fun j hj => hx.2.2.1 (2 * w + 1) j (fun _ => hj) (fun q => by omega) (by omega)
  obtain ⟨h1, h2, h3, ⟨h4, h5, h6⟩, h7, h8, h9⟩ := h
  unfold cHd
  rw [e 55 (by omega) (by omega), e 56 (by omega) (by omega), e 57 (by omega) (by omega), e 58 (by omega) (by omega), e 59 (by omega) (by omega), e 60 (by omega) (by omega), e 61 (by omega) (by omega)]
  exact ⟨h1, h2, h3, ⟨h4, h5, fun i hi => by rw [e2 _ (by omega)]; exact h6 i hi⟩, h7, h8, h9⟩
theorem cFi.loW {A : List Nm} {w nk np nr q nq : Nat} {x : Ins} {b : Nat → Nat} {M M' : Mem} (h : cFi A w nk np nr q x M) (hx : LoW w b M M') (hq : q < nq) (hb : ∀ f, 66 ≤ f → f ≤ 72 → nq ≤ b f) (h73 : nk ≤ b 73) (h74 : np ≤ b 74) (h76 : 4 * nr ≤ b 76) (h212 : 6 * nr ≤ b 212) : cFi A w nk np nr q x M' := by
  obtain ⟨h1, ⟨pf, h2, h3⟩, h4, h5, h6⟩ := h
  have hb' : ∀ f, 66 ≤ f → f ≤ 72 → q < b f := fun f a c => by have := hb f a c; omega
  refine ⟨⟨((hx.1 66 rfl).1 q (id (hb' 66 (by omega) (by omega)))).trans h1.1, h1.2⟩, ⟨pf, h2.loW hx (Or.inl (hb' 67 (by omega) (by omega))) (hb' 68 (by omega) (by omega)) (hb' 69 (by omega) (by omega)) h76 h212, fun q' => ⟨(h3 q').1, fun j hj => ?_⟩⟩, fun q' => ((hx.1 67 rfl).1 q (id (hb' 67 (by omega) (by omega)))).trans (h4 q'), h5.loW hx (hb' 70 (by omega) (by omega)) (hb' 71 (by omega) (by omega)) (hb' 72 (by omega) (by omega)) h73, h6⟩
  rw [(hx.1 74 rfl).1 _ (id (by have := (h3 q').1; omega))]
  exact (h3 q').2 j hj
theorem cFh.loW {A : List Nm} {w h : Nat} {x : Hnd} {b : Nat → Nat} {M M' : Mem} (c : cFh A w h x M) (hx : LoW w b M M') (hb : 4 * h + 4 ≤ b 75) : cFh A w h x M' := by
  have e : ∀ j, j < b 75 → mI M' 75 w j = mI M 75 w j := fun j hj => (hx.1 75 rfl).1 j (id hj)
  unfold cFh
  rw [e _ (by omega), e _ (by omega), e _ (by omega), e _ (by omega)]; exact c
theorem cMc.loW {A : List Nm} {w nm nq nk np nh nr m : Nat} {x : Mth} {b : Nat → Nat} {M M' : Mem} (h : cMc A w nq nk np nh nr m x M) (hx : LoW w b M M') (hm : m < nm) (hb : bM nm nq nk np nh nr b) : cMc A w nq nk np nh nr m x M' := by
  obtain ⟨q0, h0, ⟨a1, a2, a3, a4, a5, a6, a7, a8⟩, b', c⟩ := h
  obtain ⟨k1, k2, k3, k4, k5, k6, k7, k8⟩ := hb
  have e : ∀ f, 62 ≤ f → f ≤ 65 → mI M' f w m = mI M f w m := fun f a c => (hx.1 f (by
    unfold wFm; rw [Bool.or_eq_true, Bool.and_eq_true]; exact Or.inl ⟨Nat.ble_eq.mpr (by omega), Nat.ble_eq.mpr (by omega)⟩)).1 m (id (by have := k1 f (by omega) (by omega); omega))
  refine ⟨q0, h0, ⟨(e 62 (by omega) (by omega)).trans a1, (e 63 (by omega) (by omega)).trans a2, a3, a4, (e 64 (by omega) (by omega)).trans a5, (e 65 (by omega) (by omega)).trans a6, a7, a8⟩, fun i hi => (b' i hi).loW hx (by omega : q0 + i < nq) k3 k4 k5 k7 k8, fun i hi => (c i hi).loW hx (by omega)⟩
theorem cMs.loW {A : List Nm} {W : List Cls} {w e nq nk np nh nr : Nat} {b : Nat → Nat} {M M' : Mem} (h : cMs A W w e nq nk np nh nr M) (hx : LoW w b M M') (h43 : W.length ≤ b 43) (h44 : W.length ≤ b 44) (hb : bM (allM W).length nq nk np nh nr b) : cMs A W w e nq nk np nh nr M' := by
  obtain ⟨⟨⟨a1, a2⟩, a3, a4⟩, c1, c2⟩ := h
  refine ⟨⟨⟨((hx.1 43 rfl).2).trans a1, ((hx.1 44 rfl).2).trans a2⟩, fun f x y => ?_, (hx.2.2.2 _).trans a4⟩, fun c hc => ?_, fun c hc k hk => ?_⟩
  · rw [(hx.1 f (by unfold wFm; rw [Bool.or_eq_true, Bool.and_eq_true]; exact Or.inl ⟨Nat.ble_eq.mpr (by omega), Nat.ble_eq.mpr (by omega)⟩)).2]; exact a3 f x y
  · rw [(hx.1 43 rfl).1 c (id (by omega)), (hx.1 44 rfl).1 c (id (by omega))]; exact c1 c hc
  · have hlt := moff_at hc hk
    exact ⟨(c2 c hc k hk).1.loW hx (fun f x y => by have := hb.1 f (by omega) (by omega); omega) (by have := hb.2.1; omega), (c2 c hc k hk).2.loW hx hlt hb⟩

theorem cRm.loW {w : Nat} {b : Nat → Nat} {M M' : Mem} (h : cRm w M) (hx : LoW w b M M') : cRm w M' :=
  ⟨fun f a c => by rw [(hx.1 f (by unfold wFm; rw [Bool.or_eq_true, Bool.and_eq_true]; exact Or.inl ⟨Nat.ble_eq.mpr (by omega), Nat.ble_eq.mpr (by omega)⟩)).2]; exact h.1 f a c, ((hx.1 73 rfl).2).trans h.2.1, ((hx.1 74 rfl).2).trans h.2.2.1, ((hx.1 75 rfl).2).trans h.2.2.2.1, ((hx.1 76 rfl).2).trans h.2.2.2.2.1, (hx.2.2.2 _).trans h.2.2.2.2.2.1, fun f a c => by rw [(hx.1 f (by unfold wFm; rw [Bool.or_eq_true, Bool.and_eq_true]; exact Or.inl ⟨Nat.ble_eq.mpr (by omega), Nat.ble_eq.mpr (by omega)⟩)).2]; exact h.2.2.2.2.2.2 f a c⟩
theorem cFl.loW {A : List Nm} {W : List Cls} {w : Nat} {b : Nat → Nat} {M M' : Mem} (h : cFl A W w M) (hx : LoW w b M M') (e17 : mI M' 5 w 17 = mI M 5 w 17) (h1 : W.length ≤ b 41 ∧ W.length ≤ b 42) (h2 : ∀ f, (49 ≤ f ∧ f ≤ 54) ∨ f = 511 → (allF W).length ≤ b f) : cFl A W w M' := by
  obtain ⟨⟨a1, ⟨b1, b2', b3, b4, b5, b6, b7⟩, a3, a4⟩, d, g⟩ := h
  refine ⟨⟨e17.trans a1, ⟨((hx.1 49 rfl).2).trans b1, ((hx.1 50 rfl).2).trans b2', ((hx.1 51 rfl).2).trans b3, ((hx.1 52 rfl).2).trans b4, ((hx.1 511 rfl).2).trans b5, ((hx.1 53 rfl).2).trans b6, ((hx.1 54 rfl).2).trans b7⟩, ((hx.1 41 rfl).2).trans a3, ((hx.1 42 rfl).2).trans a4⟩, fun j hj => ?_, fun i hi => ?_⟩
  · rw [(hx.1 41 rfl).1 j (id (by omega)), (hx.1 42 rfl).1 j (id (by omega))]; exact d j hj
  · rw [(hx.1 49 rfl).1 i (id (by have := h2 49 (by omega); omega)), (hx.1 50 rfl).1 i (id (by have := h2 50 (by omega); omega)), (hx.1 51 rfl).1 i (id (by have := h2 51 (by omega); omega)), (hx.1 52 rfl).1 i (id (by have := h2 52 (by omega); omega)), (hx.1 511 rfl).1 i (id (by have := h2 511 (by omega); omega))]; exact g i hi
theorem cCl.loW {A : List Nm} {W : List Cls} {w : Nat} {b : Nat → Nat} {M M' : Mem} (h : cCl A W w M) (hx : LoW w b M M') (e2 : mI M' 5 w 2 = mI M 5 w 2) (h1 : ∀ f, 36 ≤ f → f ≤ 40 → (if f = 38 then 4 * W.length else W.length) ≤ b f) : cCl A W w M' := by
  have hw : ∀ f, 36 ≤ f → f ≤ 40 → wFm f = true := fun f a c => by
    unfold wFm; rw [Bool.or_eq_true, Bool.and_eq_true]; exact Or.inl ⟨Nat.ble_eq.mpr (by omega), Nat.ble_eq.mpr (by omega)⟩
  exact h.of e2 (fun f a c k hk => (hx.1 f (hw f a c)).1 k (id (Nat.lt_of_lt_of_le hk (h1 f a c)))) (fun f a c => (hx.1 f (hw f a c)).2)
theorem Lo.other {w i : Nat} {b b' : Nat → Nat} {M M' : Mem} (h : Lo w b M M') (hi : i ≠ w) : LoW i b' M M' :=
  ⟨fun f hf => ⟨fun k _ => (h.1 f hf).1 i k (Or.inl hi), (h.1 f hf).2 i⟩, fun k hk => h.2.1 i k hi hk, fun j k _ _ q => h.2.2.1 j k (by omega) (fun q' => by omega) (fun q' => by omega), h.2.2.2⟩
theorem CWx.other {A A' : List Nm} {W : List Cls} {i w : Nat} {br : Int32} {nq nk np nh nr : Nat} {b : Nat → Nat} {M M' : Mem} (h : CWx A W i br nq nk np nh nr M) (hx0 : Lo w b M M') (hi : i ≠ w) (hp : A <+: A') (hl : A'.length ≤ 200000) : CWx A' W i br nq nk np nh nr M' := by
  have hx : LoW i (bA W.length (allF W).length (allM W).length nq nk np nh nr) M M' := hx0.other hi
  have h5 : ∀ k, k < 65 → mI M' 5 i k = mI M 5 i k := hx.2.1
  obtain ⟨⟨c1, c2, c3⟩, m, ⟨k1, k2, k3, k4, k5, k6⟩, r, e⟩ := h
  refine ⟨⟨(c1.loW hx (h5 2 (by omega)) (fun f a c => ?_)).pre hp hl, (c2.loW hx (h5 17 (by omega)) ⟨Nat.le_refl _, Nat.le_refl _⟩ (fun f q => ?_)).pre hp, (h5 1 (by omega)).trans c3⟩, (m.loW hx (Nat.le_refl _) (Nat.le_refl _) bA_M).pre hp, ⟨(h5 26 (by omega)).trans k1, (h5 39 (by omega)).trans k2, (h5 47 (by omega)).trans k3, (h5 49 (by omega)).trans k4, (h5 51 (by omega)).trans k5, (h5 53 (by omega)).trans k6⟩, r.loW hx, e⟩
  · unfold bA
    by_cases q : f = 38
    · rw [if_pos q, if_pos q]; exact Nat.le_refl _
    · rw [if_neg q, if_neg q, if_pos (by omega)]; exact Nat.le_refl _
  · rw [bA_at (by omega)]; unfold bT; rw [if_neg (by omega), if_pos q]; exact Nat.le_refl _

