/-! the works' pen: types, a label -/
theorem pnKs_mono {ks : List Kd} {p : Pen} {i : Nat} : ∀ {k : Nat}, i ≤ k → (pnKs ks i p).1.length ≤ (pnKs ks k p).1.length
  | 0, h => by rw [show i = 0 by omega]; exact Nat.le_refl _
  | k + 1, h => by
    by_cases e : i = k + 1
    · rw [e]; exact Nat.le_refl _
    · have h1 := pnKs_mono (ks := ks) (p := p) (i := i) (k := k) (by omega)
      show _ ≤ (pnK (gk ks k) (if k = 0 then pnKs ks k p else pnS 44 (pnKs ks k p))).1.length
      split
      · exact Nat.le_trans h1 pnK_le
      · exact Nat.le_trans h1 (Nat.le_trans pnS_le pnK_le)
section
variable {A : List Nm} {P : List Int32} {p : Pen} {b v : Int32} {M M' : Mem} {Q : Mem → Prop} {nm : Nm} {k r fr : Nat} {κ res : Kd} {ks : List Kd}
theorem c_ptL (hB : Base A) (hA : A.length ≤ 200000) (hks : ks.length ≤ 6) (hfr : fr < 1000000) (hr : pkd res ∧ kok A res) (hl : (pnT ks res p).1.length ≤ LPg) : ∀ n i M, i ≤ ks.length → ks.length - i < n → CNm A M → cP (pnKs ks i (pnS 40 p)) M → fr + ks.length ≤ mL M 211 r → (∀ j, j < ks.length → mI M 211 r (fr + j) = kC A (gk ks j) ∧ kok A (gk ks j) ∧ pkd (gk ks j)) → (∀ M', cP (pnT ks res p) M' → Fr SPn M M' → Q M') → w_Writer_types_L9 0 Q n r (Int32.ofNat fr) (Int32.ofNat ks.length) (kC A res) (Int32.ofNat i) M
  | 0, i, M, hi, hn, hC, h, hL, hk, hQ => absurd hn (by omega)
  | n + 1, i, M, hi, hn, hC, h, hL, hk, hQ => by
    have lT : (pnS 41 (pnKs ks ks.length (pnS 40 p))).1.length ≤ LPg := Nat.le_trans pnK_le hl
    have lK : (pnKs ks ks.length (pnS 40 p)).1.length ≤ LPg := Nat.le_trans pnS_le lT
    unfold w_Writer_types_L9
    by_cases e : i = ks.length
    · subst e
      refine itp (le_oN (Nat.le_refl _) (by omega)) (c_ps h lT (fun M1 h1 f1 => ?_))
      exact c_pk (hC.fr f1) hB hA h1 hr.1 hr.2 hl (fun M2 h2 f2 => hQ M2 h2 (f1.trans f2))
    refine itn (nle_oN (by omega) (by omega)) ?_
    have le1 : (pnKs ks (i + 1) (pnS 40 p)).1.length ≤ LPg := Nat.le_trans (pnKs_mono (by omega)) lK
    have go : ∀ q M1, cP q M1 → Fr SPn M M1 → pnK (gk ks i) q = pnKs ks (i + 1) (pnS 40 p) → w_Writer_types_j26 0 Q (w_Writer_types_L9 0 Q n) r (Int32.ofNat fr) (Int32.ofNat ks.length) (kC A res) (Int32.ofNat i) M1 := fun q M1 h1 f1 eq => by
      unfold w_Writer_types_j26
      have hL1 : mL M1 211 r = mL M 211 r := f1.L rfl r
      have hk1 : ∀ j, mI M1 211 r j = mI M 211 r j := fun j => f1.Ia rfl rfl r j
      rw [oN_add, oN_tnc (k := fr + i) (by omega), hL1, hk1, (hk i (by omega)).1]
      refine ⟨(vp_oN (by omega)).mpr (by omega), ?_⟩
      refine c_pk (hC.fr f1) hB hA h1 (hk i (by omega)).2.2 (hk i (by omega)).2.1 (by rw [eq]; exact le1) (fun M2 h2 f2 => ?_)
      rw [eq] at h2
      rw [lit32 1, oN_add]
      have f12 := f1.trans f2
      exact c_ptL hB hA hks hfr hr hl n (i + 1) M2 (by omega) (by omega) (hC.fr f12) h2 (by rw [f12.L rfl r]; exact hL) (fun j hj => by rw [f12.Ia rfl rfl r]; exact hk j hj) (fun M3 h3 f3 => hQ M3 h3 (f12.trans f3))
    by_cases e0 : i = 0
    · subst e0
      exact itp (by decide) (go _ M h (Fr.rf _ _) rfl)
    · refine itn (nle_oN (b := 0) (by omega) (by omega)) ?_
      have ek : pnK (gk ks i) (pnS 44 (pnKs ks i (pnS 40 p))) = pnKs ks (i + 1) (pnS 40 p) := by
        show _ = pnK (gk ks i) (if i = 0 then pnKs ks i (pnS 40 p) else pnS 44 (pnKs ks i (pnS 40 p)))
        rw [if_neg e0]
      refine c_ps h ?_ (fun M1 h1 f1 => go _ M1 h1 f1 ek)
      refine Nat.le_trans pnK_le (?_ : (pnK (gk ks i) _).1.length ≤ LPg)
      rw [ek]; exact le1
theorem c_pt (hC : CNm A M) (hB : Base A) (hA : A.length ≤ 200000) (hks : ks.length ≤ 6) (hfr : fr < 1000000) (h : cP p M) (hr : pkd res ∧ kok A res) (hL : fr + ks.length ≤ mL M 211 r) (hk : ∀ j, j < ks.length → mI M 211 r (fr + j) = kC A (gk ks j) ∧ kok A (gk ks j) ∧ pkd (gk ks j)) (hl : (pnT ks res p).1.length ≤ LPg) (hQ : ∀ M', cP (pnT ks res p) M' → Fr SPn M M' → Q M') : w_Writer_types 0 r (Int32.ofNat fr) (Int32.ofNat ks.length) (kC A res) Q M := by
  have l1 : (pnS 40 p).1.length ≤ LPg := Nat.le_trans pnKs_le (Nat.le_trans pnS_le (Nat.le_trans pnK_le hl))
  unfold w_Writer_types
  refine c_ps h l1 (fun M1 h1 f1 => ⟨ks.length + 1, ?_⟩)
  exact c_ptL hB hA hks hfr hr hl _ 0 M1 (Nat.zero_le _) (by omega) (hC.fr f1) h1 (by rw [f1.L rfl r]; exact hL) (fun j hj => by rw [f1.Ia rfl rfl r]; exact hk j hj) (fun M2 h2 f2 => hQ M2 h2 (f1.trans f2))
theorem c_plb (h : cP p M) (hk : k < mL M 96 0) (hk2 : k < 1000000) (e : mI M 96 0 k = v) (hl : (pnB v p).1.length ≤ LPg) (hQ : ∀ M', cP (pnB v p) M' → Fr SPn M M' → Q M') : w_Writer_label 0 (Int32.ofNat k) Q M := by
  have hl0 : (p.1 ++ spc p.2 ++ [76] ++ dgi v).length ≤ LPg := hl
  rw [List.length_append, List.length_append, List.length_append, List.length_singleton] at hl0
  unfold LPg at hl0
  unfold w_Writer_label
  refine c_wspace h (by omega) (fun M1 h1 f1 => ?_)
  refine c_wputs h1 (by rw [List.length_append]; omega) (fun M2 h2 f2 => ⟨Or.inr rfl, ?_⟩)
  have f12 := f1.trans f2
  have f3 : Fr SPn M (sI M2 8 0 3 1) := Fr.wI rfl f12
  rw [oN_tnc (k := k) (by omega), show mI (sI M2 8 0 3 1) 96 0 k = v from (f3.Ia rfl rfl 0 k).trans e, show mL (sI M2 8 0 3 1) 96 0 = mL M 96 0 from f3.L rfl 0]
  refine ⟨(vp_oN (by omega)).mpr hk, ?_⟩
  have h3 : cPn (p.1 ++ spc p.2 ++ [76]) true (sI M2 8 0 3 1) := by
    obtain ⟨g1, f, t, e1, e2, eg⟩ := h2
    exact ⟨g1, f, true, e1, rfl, by cases f <;> rfl⟩
  refine c_wdigits h3 (by rw [List.length_append, List.length_append, List.length_singleton]; omega) (fun M4 h4 f4 => hQ M4 ?_ (f3.trans f4))
  have h4 : cPn (p.1 ++ spc p.2 ++ [76] ++ [] ++ dgi v) false M4 := h4
  rw [List.append_nil] at h4
  exact h4
end
