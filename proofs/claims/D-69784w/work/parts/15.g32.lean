/-! THE MACHINE: acts that are no steps come to an end -/
/-- what start units are worth -/
def uwU : List Un → Nat
  | [] => 0
  | .inl _ :: U => uwU U
  | .inr k :: U => (if k.2 = true then 1 else 4) + uwU U
def peT (s : Ms) (t : Nat) : Nat := if lSt (zN s t) = 1 ∧ (gU s t).length = 0 then 1 else 0
def caT (s : Ms) (t : Nat) : Nat := if lSt (zN s t) = 1 ∧ waitS s t = false then 1 else 0
def ownT (s : Ms) (t : Nat) : Nat := uwU (gU s t) + peT s t + caT s t
def muS (s : Ms) : Nat := 5 * nC0 (zC s) + (ownT s 0 + ownT s 1 + ownT s 2)
section
variable {br : Int32} {W : List Cls} {s s' s2 : Ms} {t t' c j a k : Nat} {lo st : List Vl} {U V : List Un} {q : Nat × Nat} {i : Ins} {o : Option Kd}
theorem mu_A (ht : t < 3) (ho : ∀ t', t' < 3 → t' ≠ t → ownT s' t' ≤ ownT s t') (h : 5 * nC0 (zC s') + ownT s' t < 5 * nC0 (zC s) + ownT s t) : muS s' < muS s := by
  have e : t = 0 ∨ t = 1 ∨ t = 2 := by omega
  unfold muS
  rcases e with z | z | z <;> subst z
  · have := ho 1 (by omega) (by omega)
    have := ho 2 (by omega) (by omega)
    omega
  · have := ho 0 (by omega) (by omega)
    have := ho 2 (by omega) (by omega)
    omega
  · have := ho 0 (by omega) (by omega)
    have := ho 1 (by omega) (by omega)
    omega
theorem mu_B (ht : t < 3) (ho : ∀ t', t' < 3 → t' ≠ t → ownT s' t' ≤ ownT s t' + 1) (h : 5 * nC0 (zC s') + ownT s' t + 2 < 5 * nC0 (zC s) + ownT s t) : muS s' < muS s := by
  have e : t = 0 ∨ t = 1 ∨ t = 2 := by omega
  unfold muS
  rcases e with z | z | z <;> subst z
  · have := ho 1 (by omega) (by omega)
    have := ho 2 (by omega) (by omega)
    omega
  · have := ho 0 (by omega) (by omega)
    have := ho 2 (by omega) (by omega)
    omega
  · have := ho 0 (by omega) (by omega)
    have := ho 1 (by omega) (by omega)
    omega
theorem caT_le : caT s t ≤ 1 := by unfold caT; split <;> omega
theorem peT_le : peT s t ≤ 1 := by unfold peT; split <;> omega
/-- whoever waits goes on waiting -/
theorem wait_mono (hX : LX W s t') (hN : zN s' t' = zN s t') (hH : zH s' = zH s) (hF : ∃ l, zF s' = zF s ++ l) (hC : ∀ k, zC s k = 1 → zC s' k = 1 ∧ zO s' k = zO s k) (h : waitS s t' = true) : waitS s' t' = true := by
  unfold waitS at h ⊢
  rw [hN]
  cases e : lWt (zN s t') with
  | none => rw [e] at h; cases h
  | some y =>
    have hx := hX.2.2 y e
    rw [e] at h
    cases y with
    | inl r =>
      dsimp only at h hx ⊢
      have hl : lkR s' r = lkR s r := by
        unfold lkR
        by_cases c8 : 800 < r.toNatClampNeg
        · rw [if_pos c8, if_pos c8]
          obtain ⟨n, -, en, hn⟩ := hx.1.n
          obtain ⟨l, hl⟩ := hF
          have hlt : r.toNatClampNeg - 801 < (zF s).length := by
            rcases hn with z | z | z <;> omega
          show ((zF s').getD _ _).2.2 = ((zF s).getD _ _).2.2
          rw [hl, List.getD_eq_getElem?_getD, List.getD_eq_getElem?_getD, List.getElem?_append_left hlt]
        · rw [if_neg c8, if_neg c8]
          show ((zH s').2.2.2.1 _).2.2.2 = ((zH s).2.2.2.1 _).2.2.2
          rw [hH]
      have h := of_decide_eq_true h
      refine decide_eq_true ?_
      show 0 < (lkR s' r).1 ∧ (lkR s' r).2 ≠ Int32.ofNat t'
      rw [hl]; exact h
    | inr k =>
      dsimp only at h ⊢
      have h := of_decide_eq_true h
      obtain ⟨k1, k2⟩ := hC k h.1
      exact decide_eq_true ⟨k1, by rw [k2]; exact h.2⟩
theorem ownT_B (hN : zN s' t' = zN s t') : ownT s' t' ≤ ownT s t' + 1 := by
  have := caT_le (s := s') (t := t')
  have e1 : peT s' t' = peT s t' := by
    unfold peT
    show (if lSt (zN s' t') = 1 ∧ (lU (zN s' t')).length = 0 then 1 else 0) = _
    rw [hN]
  have e2 : uwU (gU s' t') = uwU (gU s t') := by show uwU (lU (zN s' t')) = _; rw [hN]
  unfold ownT
  rw [e1, e2]; omega
theorem ownT_A (hN : zN s' t' = zN s t') (hw : waitS s t' = true → waitS s' t' = true) : ownT s' t' ≤ ownT s t' := by
  have e1 : peT s' t' = peT s t' := by
    unfold peT
    show (if lSt (zN s' t') = 1 ∧ (lU (zN s' t')).length = 0 then 1 else 0) = _
    rw [hN]
  have e2 : uwU (gU s' t') = uwU (gU s t') := by show uwU (lU (zN s' t')) = _; rw [hN]
  have e3 : caT s' t' ≤ caT s t' := by
    unfold caT
    rw [hN]
    by_cases c1 : lSt (zN s t') = 1 ∧ waitS s' t' = false
    · have : waitS s t' = false := by
        cases e : waitS s t' with
        | false => rfl
        | true => have := hw e; rw [c1.2] at this; cases this
      rw [if_pos c1, if_pos ⟨c1.1, this⟩]; omega
    · rw [if_neg c1]; omega
  unfold ownT
  rw [e1, e2]; omega
/-- a thread with a unit -/
theorem ownT_U (h : gU s' t ≠ []) : ownT s' t ≤ uwU (gU s' t) + 1 := by
  have h1 := caT_le (s := s') (t := t)
  have h2 : peT s' t = 0 := by
    unfold peT
    rw [if_neg (fun z => h (List.length_eq_zero_iff.mp z.2))]
  unfold ownT
  omega
theorem ownT_on (hon : lSt (zN s t) = 1) (hw0 : lWt (zN s t) = none) : caT s t = 1 := by
  unfold caT waitS
  rw [hw0, if_pos ⟨hon, rfl⟩]
theorem ownT_dn (h : lSt (zN s' t) ≠ 1) (hg : gU s' t = []) : ownT s' t = 0 := by
  unfold ownT peT caT
  rw [hg, if_neg (fun z => h z.1), if_neg (fun z => h z.1)]; rfl
theorem unw_own : ∀ (U : List Un) (r : Int32) (s : Ms), ownT (unw W t U r s) t ≤ uwU U + 1 ∧ nC0 (zC (unw W t U r s)) ≤ nC0 (zC s)
  | [], r, s => by
    have e : zN (unw W t [] r s) t = qR (zN s t) 2 (0, 0, Int32.ofNat (clN s r), ruR s r) := up1_s
    refine ⟨?_, Nat.le_refl _⟩
    rw [ownT_dn (by rw [e]; show ¬ (2 : Nat) = 1; decide) (by show lU (zN (unw W t [] r s) t) = []; rw [e])]
    omega
  | .inr (k, own) :: U, r, s => by
    have e1 : uwU U ≤ uwU (.inr (k, own) :: U) := by
      show uwU U ≤ (if own = true then 1 else 4) + uwU U
      omega
    have eC : zC (evS (yC s (up1 (zC s) k 3)) t 6 k none) = up1 (zC s) k 3 := evS_r.2.1
    have hm := nC0_mv (f := zC s) (k := k) (v := 3) (by decide)
    unfold unw
    by_cases c1 : own = true ∧ bel W (clN s r) 10 = false
    · rw [if_pos c1]
      have ih := unw_own U (lastF (addFt (evS (yC s (up1 (zC s) k 3)) t 6 k none) 20 0)) (addFt (evS (yC s (up1 (zC s) k 3)) t 6 k none) 20 0)
      have e2 : zC (addFt (evS (yC s (up1 (zC s) k 3)) t 6 k none) 20 0) = up1 (zC s) k 3 := eC
      rw [e2] at ih
      exact ⟨by omega, by omega⟩
    · rw [if_neg c1]
      have ih := unw_own U r (evS (yC s (up1 (zC s) k 3)) t 6 k none)
      rw [eC] at ih
      exact ⟨by omega, by omega⟩
  | .inl (c, j, a, lo, st) :: U, r, s => by
    unfold unw
    cases ec : catH W a (clN s r) (hs (gmt (gc W c) j)) with
    | none =>
      have eC : zC (evS s t 3 c (some j)) = zC s := evS_r.2.1
      have ih := unw_own U r (evS s t 3 c (some j))
      rw [eC] at ih
      exact ih
    | some g =>
      have eg : gU (evS (sU s t (.inl (c, j, g, lo, [(r, true)]) :: U)) t 7 c (some j)) t = .inl (c, j, g, lo, [(r, true)]) :: U := by
        show lU (zN (evS _ _ _ _ _) t) = _
        rw [evS_r.2.2.2.2.2.2.2.1]; exact gU_sU
      have := ownT_U (s' := evS (sU s t (.inl (c, j, g, lo, [(r, true)]) :: U)) t 7 c (some j)) (t := t) (by rw [eg]; simp)
      rw [eg] at this
      refine ⟨this, ?_⟩
      show nC0 (zC (evS _ _ _ _ _)) ≤ _
      rw [evS_r.2.1]; exact Nat.le_refl _
/-- a class is wanted: it begins, or one waits -/
theorem must_mu (hW : WO W) (hM : MO W s t none (gU s t)) (hon : lSt (zN s t) = 1) (hw0 : lWt (zN s t) = none) (hk : k < W.length) (hr : (mustS br W t s k).1 = 1 ∨ (mustS br W t s k).1 = 3) : muS (mustS br W t s k).2.2 < muS s := by
  have ht := hM.2.1.1
  have hca := ownT_on hon hw0
  have hX := hM.2.1.2
  have hC := hM.1.1.2.2.2.2
  have h51 := hW.2.2.2
  unfold mustS at hr ⊢
  by_cases e2 : zC s k = 2
  · rw [if_pos e2] at hr; exact absurd hr (show ¬ ((0 : Nat) = 1 ∨ (0 : Nat) = 3) by decide)
  rw [if_neg e2] at hr ⊢
  by_cases e1 : zC s k = 1
  · rw [if_pos e1] at hr ⊢
    by_cases eo : zO s k = Int32.ofNat t
    · rw [if_pos eo] at hr; exact absurd hr (show ¬ ((0 : Nat) = 1 ∨ (0 : Nat) = 3) by decide)
    · rw [if_neg eo]
      show muS (sWt s t (some (.inr k))) < muS s
      have eN : zN (sWt s t (some (.inr k))) t = qW (zN s t) (some (.inr k)) := up1_s
      refine mu_A ht (fun t' h3 hn => ownT_A (up1_o hn) (wait_mono (hX t' h3) (up1_o hn) rfl ⟨[], (List.append_nil _).symm⟩ (fun _ z => ⟨z, rfl⟩))) ?_
      have c0 : caT (sWt s t (some (.inr k))) t = 0 := by
        have : waitS (sWt s t (some (.inr k))) t = true := by
          unfold waitS
          rw [eN]
          exact decide_eq_true ⟨e1, eo⟩
        unfold caT
        rw [this, if_neg (fun z => by cases z.2)]
      have p0 : peT (sWt s t (some (.inr k))) t = peT s t := by
        unfold peT
        show (if lSt (zN (sWt s t (some (.inr k))) t) = 1 ∧ (lU (zN (sWt s t (some (.inr k))) t)).length = 0 then 1 else 0) = _
        rw [eN]
      have u0 : uwU (gU (sWt s t (some (.inr k))) t) = uwU (gU s t) := by
        show uwU (lU (zN (sWt s t (some (.inr k))) t)) = _
        rw [eN]
      unfold ownT
      rw [c0, p0, u0, hca]
      show 5 * nC0 (zC s) + _ < _
      omega
  rw [if_neg e1] at hr ⊢
  by_cases e3 : zC s k = 3
  · rw [if_pos e3] at hr; exact absurd hr (show ¬ ((2 : Nat) = 1 ∨ (2 : Nat) = 3) by decide)
  rw [if_neg e3] at hr ⊢
  have e0 : zC s k = 0 := by rcases (hC.2.1 k).1 with z | z | z | z; exact z; exact absurd z e1; exact absurd z e2; exact absurd z e3
  by_cases el : (lkN br W 60 (zL s) k).1 = 1
  · rw [if_pos el]
    show muS (begS W t (yL s (lkN br W 60 (zL s) k).2) k) < muS s
    generalize (lkN br W 60 (zL s) k).2 = L
    have hkp := KpM.begs (W := W) (t := t) (s := yL s L) (k := k)
    have eX : zH (begS W t (yL s L) k) = zH s ∧ zF (begS W t (yL s L) k) = zF s ∧ zC (begS W t (yL s L) k) = up1 (zC s) k 1 ∧ zO (begS W t (yL s L) k) = up1 (zO s) k (Int32.ofNat t) := by
      obtain ⟨-, x2, x3, -, -, x6, x7, -⟩ := evS_r (s := yB (yO (yC (yL s L) (up1 (zC (yL s L)) k 1)) (up1 (zO (yL s L)) k (Int32.ofNat t))) (zB (yL s L) ++ [k])) (t' := t) (w := 4) (k := k) (m := none)
      exact ⟨x6, x7, x2, x3⟩
    have eg : gU (begS W t (yL s L) k) t = .inr (k, false) :: gU s t := gU_sU
    have hz := nC0_up (f := zC s) (k := k) (v := 1) (by omega) e0 (by decide)
    refine mu_A ht (fun t' h3 hn => ownT_A (hkp.2.2 t' hn) (wait_mono (hX t' h3) (hkp.2.2 t' hn) eX.1 ⟨[], by rw [eX.2.1]; simp⟩ (fun k' z => ?_))) ?_
    · have : k' ≠ k := fun y => by rw [y, e0] at z; exact absurd z (by decide)
      rw [eX.2.2.1, eX.2.2.2, up1_o this, up1_o this]; exact ⟨z, rfl⟩
    · have h1 := ownT_U (s' := begS W t (yL s L) k) (t := t) (by rw [eg]; simp)
      rw [eg] at h1
      have h1 : ownT (begS W t (yL s L) k) t ≤ 4 + uwU (gU s t) + 1 := h1
      rw [eX.2.2.1]
      have : uwU (gU s t) + 1 ≤ ownT s t := by unfold ownT; omega
      omega
  · rw [if_neg el] at hr; exact absurd hr (by show ¬ ((2 : Nat) = 1 ∨ (2 : Nat) = 3); decide)
theorem must_2 (hr : (mustS br W t s k).1 = 0 ∨ (mustS br W t s k).1 = 2) : ∃ L, (mustS br W t s k).2.2 = yL s L := by
  unfold mustS at hr ⊢
  by_cases e2 : zC s k = 2
  · rw [if_pos e2]; exact ⟨zL s, rfl⟩
  rw [if_neg e2] at hr ⊢
  by_cases e1 : zC s k = 1
  · rw [if_pos e1] at hr ⊢
    by_cases eo : zO s k = Int32.ofNat t
    · rw [if_pos eo]; exact ⟨zL s, rfl⟩
    · rw [if_neg eo] at hr; exact absurd hr (by show ¬ ((3 : Nat) = 0 ∨ (3 : Nat) = 2); decide)
  rw [if_neg e1] at hr ⊢
  by_cases e3 : zC s k = 3
  · rw [if_pos e3]; exact ⟨zL s, rfl⟩
  rw [if_neg e3] at hr ⊢
  by_cases el : (lkN br W 60 (zL s) k).1 = 1
  · rw [if_pos el] at hr; exact absurd hr (by show ¬ ((1 : Nat) = 0 ∨ (1 : Nat) = 2); decide)
  · rw [if_neg el]; exact ⟨_, rfl⟩
/-- a first act that fails -/
theorem first_mu (ht : t < 3) (hX : ∀ t', t' < 3 → LX W s t') (hon : lSt (zN s t) = 1) (hw0 : lWt (zN s t) = none) (hg : gU s t = []) {L : LkS} {f : Nat} {ru : Int32} : muS (failS W t (yL s L) f ru) < muS s := by
  have hca := ownT_on hon hw0
  have hkp := KpM.fail (W := W) (t := t) (s := yL s L) (f := f) (ru := ru)
  have hl := fail_nil (W := W) (s := yL s L) (t := t) hg (f := f) (ru := ru)
  have hpe : peT s t = 1 := by unfold peT; rw [if_pos ⟨hon, by rw [hg]; rfl⟩]
  have eq : failS W t (yL s L) f ru = unw W t [] (lastF (addFt (yL s L) f ru)) (addFt (yL s L) f ru) := by
    unfold failS
    rw [show gU (yL s L) t = [] from hg]
  have hg' : gU (failS W t (yL s L) f ru) t = [] := by
    rw [eq]
    show lU (zN (unw W t [] (lastF (addFt (yL s L) f ru)) (addFt (yL s L) f ru)) t) = []
    rw [show zN (unw W t [] (lastF (addFt (yL s L) f ru)) (addFt (yL s L) f ru)) t = qR (zN s t) 2 _ from up1_s]
  have eX : zH (failS W t (yL s L) f ru) = zH s ∧ zF (failS W t (yL s L) f ru) = zF s ++ [(f, ru, 0, 0)] ∧ zC (failS W t (yL s L) f ru) = zC s ∧ zO (failS W t (yL s L) f ru) = zO s := by
    rw [eq]; exact ⟨rfl, rfl, rfl, rfl⟩
  refine mu_A ht (fun t' h3 hn => ownT_A (hkp.2.2 t' hn) (wait_mono (hX t' h3) (hkp.2.2 t' hn) eX.1 ⟨_, eX.2.1⟩ (fun k' z => ?_))) ?_
  · rw [eX.2.2.1, eX.2.2.2]; exact ⟨z, rfl⟩
  · rw [ownT_dn (by omega) hg', eX.2.2.1]
    unfold ownT
    omega
/-- a start that fails -/
theorem fails_mu (ht : t < 3) {own : Bool} (hg : gU s t = .inr (k, own) :: U) {X : Nat} (hX : uwU U + 3 < X) (hC : zC s = zC s') (hN : ∀ t', t' ≠ t → zN s t' = zN s' t') (ho : X ≤ ownT s' t) {f : Nat} {ru : Int32} : muS (failS W t s f ru) < muS s' := by
  have hkp := KpM.fail (W := W) (t := t) (s := s) (f := f) (ru := ru)
  refine mu_B ht (fun t' h3 hn => ownT_B ((hkp.2.2 t' hn).trans (hN t' hn))) ?_
  have key : ownT (failS W t s f ru) t ≤ uwU U + 1 ∧ nC0 (zC (failS W t s f ru)) ≤ nC0 (zC s) := by
    unfold failS
    rw [hg]
    unfold unw
    have hm := nC0_mv (f := zC s) (k := k) (v := 3) (by decide)
    have eC : zC (evS (yC (addFt s f ru) (up1 (zC (addFt s f ru)) k 3)) t 6 k none) = up1 (zC s) k 3 := evS_r.2.1
    by_cases c1 : own = true ∧ bel W (clN (addFt s f ru) (lastF (addFt s f ru))) 10 = false
    · rw [if_pos c1]
      have ih := unw_own (W := W) (t := t) U (lastF (addFt (evS (yC (addFt s f ru) (up1 (zC (addFt s f ru)) k 3)) t 6 k none) 20 0)) (addFt (evS (yC (addFt s f ru) (up1 (zC (addFt s f ru)) k 3)) t 6 k none) 20 0)
      have e2 : zC (addFt (evS (yC (addFt s f ru) (up1 (zC (addFt s f ru)) k 3)) t 6 k none) 20 0) = up1 (zC s) k 3 := eC
      rw [e2] at ih
      exact ⟨ih.1, by omega⟩
    · rw [if_neg c1]
      have ih := unw_own (W := W) (t := t) U (lastF (addFt s f ru)) (evS (yC (addFt s f ru) (up1 (zC (addFt s f ru)) k 3)) t 6 k none)
      rw [eC] at ih
      exact ⟨ih.1, by omega⟩
  rw [hC] at key
  omega
theorem startg_mu (ht : t < 3) (hon : lSt (zN s t) = 1) (hw0 : lWt (zN s t) = none) (hg : gU s t = .inr (k, false) :: U) : muS (startG W t s k U) < muS s := by
  have hca := ownT_on hon hw0
  have ho : uwU U + 5 ≤ ownT s t := by
    unfold ownT
    rw [hg]
    show uwU U + 5 ≤ 4 + uwU U + _ + _
    omega
  unfold startG
  split
  · rename_i m _
    have eg : gU (sU s t (.inr (k, true) :: U)) t = .inr (k, true) :: U := gU_sU
    unfold enterS
    split
    · exact fails_mu (s' := s) ht eg (X := uwU U + 5) (by omega) rfl (fun t' hn => up1_o hn) ho
    · refine mu_B ht (fun t' h3 hn => ownT_B (((KpM.su.trans KpM.su).trans KpM.ev).2.2 t' hn)) ?_
      generalize hs1 : evS (sU (sU s t (.inr (k, true) :: U)) t (.inl (k, m, 0, [] ++ List.replicate (20 - ([] : List Vl).length) (0, false), []) :: .inr (k, true) :: U)) t 1 k (some m) = s1
      have eg1 : gU s1 t = .inl (k, m, 0, [] ++ List.replicate (20 - ([] : List Vl).length) (0, false), []) :: .inr (k, true) :: U := by
        rw [← hs1]
        show lU (zN (evS _ _ _ _ _) t) = _
        rw [evS_r.2.2.2.2.2.2.2.1]; exact gU_sU
      have h1 := ownT_U (s' := s1) (t := t) (by rw [eg1]; simp)
      rw [eg1] at h1
      have h1 : ownT s1 t ≤ 1 + uwU U + 1 := h1
      have eC : zC s1 = zC s := by rw [← hs1]; exact evS_r.2.1
      rw [eC]
      omega
  · refine mu_B ht (fun t' h3 hn => ownT_B (((KpM.yc.trans KpM.su).trans KpM.ev).2.2 t' hn)) ?_
    generalize hs1 : evS (sU (yC s (up1 (zC s) k 2)) t U) t 5 k none = s1
    have eg1 : gU s1 t = U := by
      rw [← hs1]
      show lU (zN (evS _ _ _ _ _) t) = _
      rw [evS_r.2.2.2.2.2.2.2.1]; exact gU_sU
    have eC : zC s1 = up1 (zC s) k 2 := by rw [← hs1]; exact evS_r.2.1
    have hm := nC0_mv (f := zC s) (k := k) (v := 2) (by decide)
    have h1 := caT_le (s := s1) (t := t)
    have h2 := peT_le (s := s1) (t := t)
    rw [eC]
    unfold ownT at ho ⊢
    rw [eg1]
    omega
theorem tick_K {op : Nat} : zK (tickS s t op) = zK s + 1 := rfl
/-- an act that is no step -/
theorem adv_mu (hW : WO W) (hM : MO W s t none (gU s t)) (hon : lSt (zN s t) = 1) (hw0 : lWt (zN s t) = none) (hk : zK (advS br W t s) = zK s) : muS (advS br W t s) < muS s := by
  have ht := hM.2.1.1
  have hX := hM.2.1.2
  have hca := ownT_on hon hw0
  unfold advS at hk ⊢
  cases eg : gU s t with
  | nil =>
    dsimp only
    have hok := fMth_ok (br := br) (W := W) (a := zL s) (kn := (lCa (zN s t)).1) (x := (lCa (zN s t)).2.1) (o := 52) (acc := fun _ => false) hM.1.1.1.2.1 hW.2.2.2
    have hm : LkM W (zL s) (fMth br W (zL s) (lCa (zN s t)).1 (lCa (zN s t)).2.1 52 (fun _ => false)).2 := by rw [hok.2]; exact lkd_M hW.2.2.2 hM.1.1.1
    unfold firstS
    cases ef : fMth br W (zL s) (lCa (zN s t)).1 (lCa (zN s t)).2.1 52 (fun _ => false) with
    | mk y L =>
      rw [ef] at hm
      have hM1 := hM.lL hm
      cases y with
      | inl e => exact first_mu ht hX hon hw0 eg
      | inr q =>
        obtain ⟨c1, hlk, -, hf1, -, -⟩ := fMth_in ef
        have hqm := fMth1_ok (fnd_lt (lkd_in hlk).1) hf1
        have hmu : ((mustS br W t (yL s L) q.1).1 = 1 ∨ (mustS br W t (yL s L) q.1).1 = 3) → muS (mustS br W t (yL s L) q.1).2.2 < muS s := fun z => must_mu hW hM1 hon hw0 hqm.1 z
        have h2 := must_2 (br := br) (W := W) (t := t) (s := yL s L) (k := q.1)
        obtain ⟨m0, -, -, m3⟩ := mustS_ok (br := br) (k := q.1) hW hM1 hon hqm.1
        dsimp only
        generalize mustS br W t (yL s L) q.1 = mr at m0 m3 hmu h2
        obtain ⟨r0, e, s1⟩ := mr
        dsimp only at m0 m3 hmu h2 ⊢
        match r0, m0, m3, hmu, h2 with
        | 0, m0, _, _, _ =>
          obtain ⟨es, -, -⟩ := m0 rfl
          subst es
          have h40 : ¬ frs (gU (yL s L) t) = 40 := by
            show ¬ frs (gU s t) = 40
            rw [eg]; decide
          show muS (enterS W t (yL s L) [] q.1 q.2 _) < muS s
          unfold enterS
          rw [if_neg h40]
          generalize hfr : (((q.1, q.2, 0, _, []) : Fm)) = fr
          have hkp : KpM t s (evS (sU (yL s L) t [.inl fr]) t 1 q.1 (some q.2)) := KpM.trans (s' := sU (yL s L) t [.inl fr]) (KpM.trans (s' := yL s L) (KpM.of rfl rfl rfl) KpM.su) KpM.ev
          obtain ⟨-, x2, x3, -, -, x6, x7, x8, -⟩ := evS_r (s := sU (yL s L) t [.inl fr]) (t' := t) (w := 1) (k := q.1) (m := some q.2)
          refine mu_A ht (fun t' h3 hn => ownT_A (hkp.2.2 t' hn) (wait_mono (hX t' h3) (hkp.2.2 t' hn) x6 ⟨[], x7.trans (List.append_nil _).symm⟩ (fun k' z => ?_))) ?_
          · rw [x2, x3]; exact ⟨z, rfl⟩
          · have eg1 : gU (evS (sU (yL s L) t [.inl fr]) t 1 q.1 (some q.2)) t = [.inl fr] := by
              show lU (zN (evS _ _ _ _ _) t) = _
              rw [x8]; exact gU_sU
            have h1 := ownT_U (s' := evS (sU (yL s L) t [.inl fr]) t 1 q.1 (some q.2)) (t := t) (by rw [eg1]; simp)
            rw [eg1] at h1
            have h1 : ownT (evS (sU (yL s L) t [.inl fr]) t 1 q.1 (some q.2)) t ≤ 0 + 1 := h1
            have hpe : peT s t = 1 := by unfold peT; rw [if_pos ⟨hon, by rw [eg]; rfl⟩]
            have h2' : 2 ≤ ownT s t := by unfold ownT; omega
            rw [x2]
            show 5 * nC0 (zC s) + _ < _
            omega
        | 1, _, _, hmu, _ => exact hmu (Or.inl rfl)
        | 2, _, _, _, h2 =>
          obtain ⟨L2, eL⟩ := h2 (Or.inr rfl)
          subst eL
          exact first_mu (L := L2) ht hX hon hw0 eg
        | 3, _, _, hmu, _ => exact hmu (Or.inr rfl)
        | n + 4, _, m3, _, _ => exact absurd m3 (by omega)
  | cons u U =>
    rw [eg] at hk
    have hM' := hM
    rw [eg] at hM'
    cases u with
    | inr ko =>
      obtain ⟨k, own⟩ := ko
      dsimp only
      have how : own = false := hM'.2.2.2.1.1.1
      subst how
      have hst := hM'.2.2.2.1.1.2.1
      have ho : uwU U + 5 ≤ ownT s t := by
        unfold ownT
        rw [eg]
        show uwU U + 5 ≤ 4 + uwU U + _ + _
        omega
      unfold startS
      by_cases c1 : false = false ∧ isFc W k = false
      · rw [if_pos c1]
        obtain ⟨p, hp, hpl, -⟩ := hM.1.1.1.1.up hst.1.2 hst.2.1 (by have := hst.1.1; omega)
        rw [hp]
        dsimp only
        have hmu : ((mustS br W t s p).1 = 1 ∨ (mustS br W t s p).1 = 3) → muS (mustS br W t s p).2.2 < muS s := fun z => must_mu hW hM hon hw0 hpl z
        have h2 := must_2 (br := br) (W := W) (t := t) (s := s) (k := p)
        obtain ⟨m0, -, -, m3⟩ := mustS_ok (br := br) (k := p) hW hM hon hpl
        generalize mustS br W t s p = mr at m0 m3 hmu h2
        obtain ⟨r0, e, s1⟩ := mr
        dsimp only at m0 m3 hmu h2 ⊢
        match r0, m0, m3, hmu, h2 with
        | 0, m0, _, _, _ =>
          obtain ⟨es, -, -⟩ := m0 rfl
          subst es
          exact startg_mu ht hon hw0 eg
        | 1, _, _, hmu, _ => exact hmu (Or.inl rfl)
        | 2, _, _, _, h2 =>
          obtain ⟨L2, eL⟩ := h2 (Or.inr rfl)
          subst eL
          exact fails_mu (s := yL s L2) (s' := s) ht eg (X := uwU U + 5) (by omega) rfl (fun _ _ => rfl) ho
        | 3, _, _, hmu, _ => exact hmu (Or.inr rfl)
        | n + 4, _, m3, _, _ => exact absurd m3 (by omega)
      · rw [if_neg c1]
        exact startg_mu ht hon hw0 eg
    | inl f =>
      obtain ⟨c, j, a, lo, st⟩ := f
      dsimp only at hk ⊢
      unfold insS at hk ⊢
      dsimp only at hk ⊢
      generalize hi : gin (co (gmt (gc W c) j)) a = i at hk ⊢
      by_cases cw : i.1 = 60 ∧ (tv st 0).1 ≠ 0 ∧ lckd s t (tv st 0).1
      · rw [if_pos cw]
        generalize (tv st 0).1 = r at cw
        have eN : zN (sWt s t (some (.inl r))) t = qW (zN s t) (some (.inl r)) := up1_s
        refine mu_A ht (fun t' h3 hn => ownT_A (up1_o hn) (wait_mono (hX t' h3) (up1_o hn) rfl ⟨[], (List.append_nil _).symm⟩ (fun _ z => ⟨z, rfl⟩))) ?_
        have c0 : caT (sWt s t (some (.inl r))) t = 0 := by
          have : waitS (sWt s t (some (.inl r))) t = true := by
            unfold waitS
            rw [eN]
            exact decide_eq_true cw.2.2
          unfold caT
          rw [this, if_neg (fun z => by cases z.2)]
        have p0 : peT (sWt s t (some (.inl r))) t = peT s t := by
          unfold peT
          show (if lSt (zN (sWt s t (some (.inl r))) t) = 1 ∧ (lU (zN (sWt s t (some (.inl r))) t)).length = 0 then 1 else 0) = _
          rw [eN]
        have u0 : uwU (gU (sWt s t (some (.inl r))) t) = uwU (gU s t) := by
          show uwU (lU (zN (sWt s t (some (.inl r))) t)) = _
          rw [eN]
        unfold ownT
        rw [c0, p0, u0, hca]
        show 5 * nC0 (zC s) + _ < _
        omega
      rw [if_neg cw] at hk ⊢
      have nf : ∀ {s1 : Ms} {e : Int32}, zK s1 = zK s → zK (failC W t (tickS s1 t i.1) e) ≠ zK s := fun {s1 e} h1 z => by
        have := (KpM.fail (W := W) (t := t) (s := tickS s1 t i.1) (f := e.toNatClampNeg % 100) (ru := Int32.ofNat (e.toNatClampNeg / 100))).1.2
        have h2 : zK s1 + 1 = zK s := this.symm.trans z
        omega
      have na : ∀ {s1 : Ms} {q : Nat × Nat}, zK s1 = zK s → zK (doS W t (tickS s1 t i.1) c j a lo st U i q) ≠ zK s := fun {s1 q} h1 z => by
        have := (KpM.act (W := W) (t := t) (s := tickS s1 t i.1) (c := c) (j := j) (a := a) (lo := lo) (st := st) (U := U) (i := i) (q := q)).1.2
        have h2 : zK s1 + 1 = zK s := this.symm.trans z
        omega
      have hok := fIns_ok (br := br) (c := c) (x := gmt (gc W c) j) (i := i) hW.2.2.2 hM.1.1.1
      have hok2 : LkM W (zL s) (if i.1 = 54 ∨ i.1 = 55 then ((.inr (0, 0), zL s) : FR) else fIns br W (zL s) c (gmt (gc W c) j) i).2 := by
        split
        · exact LkM.rf hM.1.1.1
        · exact hok.2
      have hlt : ∀ q, (if i.1 = 54 ∨ i.1 = 55 then ((.inr (0, 0), zL s) : FR) else fIns br W (zL s) c (gmt (gc W c) j) i).1 = .inr q → strt i.1 → q.1 < W.length := fun q e cs => by
        rw [if_neg (by unfold strt at cs; omega)] at e
        have := fIns_lt (L := (fIns br W (zL s) c (gmt (gc W c) j) i).2) (q := q) (Prod.ext e rfl)
        unfold strt at cs
        rcases cs with z | z | z | z
        · exact this.1 z
        · exact (this.2.1 (by omega)).1
        · exact (this.2.1 (by omega)).1
        · exact (this.2.2 (by omega)).1
      generalize (if i.1 = 54 ∨ i.1 = 55 then ((.inr (0, 0), zL s) : FR) else fIns br W (zL s) c (gmt (gc W c) j) i) = fr at hok2 hlt hk ⊢
      obtain ⟨y, L⟩ := fr
      have hML := hM.lL (L := L) hok2
      cases y with
      | inl e => exact absurd hk (nf rfl)
      | inr q =>
        dsimp only at hk ⊢
        by_cases cs : strt i.1
        · rw [if_pos cs] at hk ⊢
          have hql := hlt q rfl cs
          have hmk := (KpM.must (br := br) (W := W) (t := t) (s := yL s L) (k := q.1)).1.2
          have hmu : ((mustS br W t (yL s L) q.1).1 = 1 ∨ (mustS br W t (yL s L) q.1).1 = 3) → muS (mustS br W t (yL s L) q.1).2.2 < muS s := fun z => must_mu hW hML hon hw0 hql z
          obtain ⟨-, -, -, m3⟩ := mustS_ok (br := br) (k := q.1) hW hML hon hql
          generalize mustS br W t (yL s L) q.1 = mr at m3 hmu hmk hk ⊢
          obtain ⟨r0, e, s1⟩ := mr
          dsimp only at m3 hmu hmk hk ⊢
          match r0, m3, hmu, hk with
          | 0, _, _, hk => exact absurd hk (na hmk)
          | 1, _, hmu, _ => exact hmu (Or.inl rfl)
          | 2, _, _, hk => exact absurd hk (nf hmk)
          | 3, _, hmu, _ => exact hmu (Or.inr rfl)
          | n + 4, m3, _, _ => exact absurd m3 (by omega)
        · rw [if_neg cs] at hk
          exact absurd hk (na rfl)
theorem uw_le : ∀ {U : List Un}, uwU U ≤ 4 * (sts U).length
  | [] => Nat.le_refl _
  | .inl _ :: U => uw_le (U := U)
  | .inr k :: U => by
    have := uw_le (U := U)
    show (if k.2 = true then 1 else 4) + uwU U ≤ 4 * ((sts U).length + 1)
    split <;> omega
theorem mu_max (hW : WO W) (h : MA W s) : muS s < 900 := by
  have h0 := nC0_le (f := zC s)
  have ho : ∀ t, t < 3 → ownT s t ≤ 206 := fun t ht => by
    have h1 := (h.2.2.1 t ht).1.nst hW
    have h2 := uw_le (U := gU s t)
    have h3 := caT_le (s := s) (t := t)
    have h4 := peT_le (s := s) (t := t)
    unfold ownT; omega
  have := ho 0 (by omega)
  have := ho 1 (by omega)
  have := ho 2 (by omega)
  unfold muS; omega
/-- waiting is over -/
theorem wt_none (h : MO W s t none (gU s t)) : MO W (sWt s t none) t none (gU (sWt s t none) t) := by
  have hs : sle s (sWt s t none) := sle_of rfl rfl
  have e : zN (sWt s t none) t = qW (zN s t) none := up1_s
  have eg : gU (sWt s t none) t = gU s t := by show lU (zN (sWt s t none) t) = _; rw [e]
  rw [eg]
  refine h.mv (h.1.1.same rfl rfl rfl rfl rfl rfl) h.1.2.1 h.1.2.2 hs (fun _ z => z) (fun t' _ hne => up1_o hne) ?_ (Nat.le_refl _) (fun _ _ _ _ _ => ⟨rfl, rfl⟩) (h.2.2.2.1.mv hs (fun _ z => z) (fun _ _ => ⟨rfl, rfl⟩)) h.2.2.2.2
  obtain ⟨x1, x2, x3⟩ := h.2.1.2 t h.2.1.1
  unfold LX
  rw [e]
  exact ⟨x1, x2, fun z hz => by cases hz⟩
theorem wt_mu (hM : MO W s t none (gU s t)) (hc : canG s t) : muS (sWt s t none) ≤ muS s := by
  have ht := hM.2.1.1
  have hX := hM.2.1.2
  have e : zN (sWt s t none) t = qW (zN s t) none := up1_s
  have ho : ∀ t', t' < 3 → ownT (sWt s t none) t' ≤ ownT s t' := fun t' h3 => by
    by_cases hn : t' = t
    · subst hn
      have c0 : caT s t' = 1 := by unfold caT; rw [if_pos hc]
      have c1 := caT_le (s := sWt s t' none) (t := t')
      have p0 : peT (sWt s t' none) t' = peT s t' := by
        unfold peT
        show (if lSt (zN (sWt s t' none) t') = 1 ∧ (lU (zN (sWt s t' none) t')).length = 0 then 1 else 0) = _
        rw [e]
      have u0 : uwU (gU (sWt s t' none) t') = uwU (gU s t') := by
        show uwU (lU (zN (sWt s t' none) t')) = _
        rw [e]
      unfold ownT
      rw [p0, u0, c0]; omega
    · exact ownT_A (up1_o hn) (wait_mono (hX t' h3) (up1_o hn) rfl ⟨[], (List.append_nil _).symm⟩ (fun _ z => ⟨z, rfl⟩))
  have := ho 0 (by omega)
  have := ho 1 (by omega)
  have := ho 2 (by omega)
  unfold muS
  show 5 * nC0 (zC s) + _ ≤ _
  omega
end
