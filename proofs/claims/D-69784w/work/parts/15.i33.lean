/-! the works' writer: a method's code -/
noncomputable def pnEl (x : Mth) (p : Pen) : Pen := if tls x (co x).length = true then pnE (pnS 58 (pnLb x (co x).length (pnL 2 p))) else p
theorem pnIn_le {x : Mth} {i : Ins} {p : Pen} : p.1.length ≤ (pnIn x i p).1.length := by
  refine Nat.le_trans (pnW_le (nm := wA i.1)) ?_
  unfold pnIn
  split
  · split
    · exact Nat.le_trans pnN_le pnN_le
    · exact pnN_le
  split
  · exact pnB_le
  split
  · exact Nat.le_trans pnN_le pnPk_le
  split
  · exact pnW_le
  split
  · split
    · exact Nat.le_trans pnW_le (Nat.le_trans pnS_le (Nat.le_trans pnW_le (Nat.le_trans pnS_le (Nat.le_trans pnKs_le (Nat.le_trans pnS_le pnK_le)))))
    · exact Nat.le_trans pnW_le (Nat.le_trans pnS_le (Nat.le_trans pnW_le pnK_le))
  · exact Nat.le_refl _
theorem pnFr_le {f : List Kd × List Kd} {p : Pen} : p.1.length ≤ (pnFr f p).1.length := Nat.le_trans pnL_le (Nat.le_trans pnW_le (Nat.le_trans pnKs_le (Nat.le_trans pnS_le (Nat.le_trans pnKs_le pnE_le))))
theorem pnC1_le {x : Mth} {k : Nat} {p : Pen} : p.1.length ≤ (pnC1 x k p).1.length := by
  unfold pnC1
  dsimp only
  have h1 : ∀ r : Pen, r.1.length ≤ (pnE (pnIn x (gin (co x) k) (if tls x k = true then pnS 58 (pnLb x k (pnL 2 r)) else pnL 2 r))).1.length := fun r => by
    refine Nat.le_trans ?_ (Nat.le_trans pnIn_le pnE_le)
    split
    · exact Nat.le_trans pnL_le (Nat.le_trans pnB_le pnS_le)
    · exact pnL_le
  cases iF (gin (co x) k) with
  | none => exact h1 p
  | some f => exact Nat.le_trans pnFr_le (h1 _)
theorem pnCs_mono {x : Mth} {p : Pen} {i : Nat} : ∀ {k : Nat}, i ≤ k → (pnCs x i p).1.length ≤ (pnCs x k p).1.length
  | 0, h => by rw [show i = 0 by omega]; exact Nat.le_refl _
  | k + 1, h => by
    by_cases e : i = k + 1
    · rw [e]; exact Nat.le_refl _
    · exact Nat.le_trans (pnCs_mono (k := k) (by omega)) pnC1_le
theorem pnEl_le {x : Mth} {p : Pen} : p.1.length ≤ (pnEl x p).1.length := by
  unfold pnEl
  split
  · exact Nat.le_trans pnL_le (Nat.le_trans pnB_le (Nat.le_trans pnS_le pnE_le))
  · exact Nat.le_refl _
theorem kd_pk {κ : Kd} (h : kdOk κ) : pkd κ := by
  unfold pkd
  rcases h with z | z | z | z
  · rw [z]; exact Or.inl rfl
  · rw [z]; exact Or.inr (Or.inl rfl)
  · rw [z]; exact Or.inr (Or.inr (Or.inl rfl))
  · exact Or.inr (Or.inr (Or.inr (Or.inr (Or.inr (Or.inr z)))))
section
variable {A : List Nm} {W : List Cls} {w m q0 h0 : Nat} {br : Int32} {nq nk np nh nr : Nat} {q : LkS} {M M' : Mem} {Q : Mem → Prop} {p p0 : Pen} {x : Mth} {i : Ins}
theorem c_pm156 (hA : A.length ≤ 200000) (hx : wfM x) (hK : KB w nq nk np nh nr) (hl : (pnHs x (hs x).length (pnEl x (pnCs x (co x).length p0))).1.length ≤ LPg) : ∀ n k M, k ≤ (co x).length → (co x).length - k < n → MtW A W w br nq nk np nh nr q m q0 h0 x M → (∀ j, j ≤ (co x).length → tls x j ≠ true → mI M 96 0 j = -1) → cP (pnCs x k p0) M → (∀ M', cP (pnHs x (hs x).length (pnEl x (pnCs x (co x).length p0))) M' → Fr SPn M M' → Q M') → w_Writer_method_L156 0 Q n (Int32.ofNat m) (Int32.ofNat (co x).length) (Int32.ofNat k) M
  | 0, k, M, hk, hn, hM, hu, h, hQ => absurd hn (by omega)
  | n + 1, k, M, hk, hn, hM, hu, h, hQ => by
    have hL := L_le w
    have h80 := hx.2.2.1.1
    obtain ⟨⟨a1, a2, a3⟩, ⟨⟨b1, b2', b3, b4⟩, ⟨l1, l2, l3, l4⟩, c1, c2, c3⟩, d1, d2⟩ := id hM
    have lE : (pnEl x (pnCs x (co x).length p0)).1.length ≤ LPg := Nat.le_trans (pnHs_mono (i := 0) (Nat.zero_le _)) hl
    have lC : (pnCs x (co x).length p0).1.length ≤ LPg := Nat.le_trans pnEl_le lE
    have hr80 : ∀ k, rnk (tls x) k ≤ k := fun k => rnk_le k
    unfold w_Writer_method_L156
    by_cases e : k = (co x).length
    · subst e
      refine itp (le_oN (Nat.le_refl _) (by omega)) ?_
      have tail : ∀ M1, cP (pnEl x (pnCs x (co x).length p0)) M1 → Fr SPn M M1 → w_Writer_method_j272 0 Q (Int32.ofNat m) M1 := fun M1 h1 f1 => by
        unfold w_Writer_method_j272
        exact ⟨(hs x).length + 1, c_pm274 hx hK hl _ 0 M1 (Nat.zero_le _) (by omega) (hM.fr hK f1) h1 (fun M2 h2 f2 => hQ M2 h2 (f1.trans f2))⟩
      rw [oN_tnc (k := (co x).length) (by omega), a2.1]
      refine ⟨(vp_oN (by omega)).mpr (by omega), ?_⟩
      unfold pnEl at tail lE
      by_cases c : tls x (co x).length = true
      · rw [if_pos c] at tail lE
        rw [a2.2 _ (Nat.le_refl _) c]
        have l1 := Nat.le_trans pnE_le lE
        have l2 := Nat.le_trans pnS_le l1
        refine itn (oN_nonneg (by have := hr80 (co x).length; omega)) (c_pl (n := 2) (by omega) h (Nat.le_trans pnB_le l2) (fun M1 h1 f1 => ?_))
        refine c_plx (a2.fr f1) h1 (Nat.le_refl _) h80 c l2 (fun M2 h2 f2 => c_ps h2 l1 (fun M3 h3 f3 => c_pe h3 lE (fun M4 h4 f4 => ?_)))
        exact tail M4 h4 (((f1.trans f2).trans f3).trans f4)
      · rw [if_neg c] at tail lE
        rw [hu _ (Nat.le_refl _) c]
        exact itp (by decide) (tail M h (Fr.rf _ _))
    have hkl : k < (co x).length := by omega
    have hI := d1 k hkl
    have hwf : wfI (co x).length (gin (co x) k) := hx.2.2.1.2 _ (getD_mem hkl)
    have ln1 : (pnC1 x k (pnCs x k p0)).1.length ≤ LPg := Nat.le_trans (pnCs_mono (i := k + 1) (by omega)) lC
    refine itn (nle_oN (by omega) (by omega)) ⟨w, a1.2.2.2, by rw [l1]; exact (vp_oN (by omega)).mpr c1, w, a1.2.2.2, ?_⟩
    have hK1 := hK.1
    rw [oN_tnc (k := m) (by omega), b1, oN_add, oN_tnc (k := q0 + k) (by omega), a3.1 70 (by omega) (by omega)]
    refine ⟨(vp_oN (by omega)).mpr (by omega), ?_⟩
    have rest : ∀ r M1, cP r M1 → Fr SPn M M1 → pnE (pnIn x (gin (co x) k) (if tls x k = true then pnS 58 (pnLb x k (pnL 2 r)) else pnL 2 r)) = pnC1 x k (pnCs x k p0) → w_Writer_method_j193 0 Q (w_Writer_method_L156 0 Q n) (Int32.ofNat m) (Int32.ofNat (co x).length) (Int32.ofNat k) (Int32.ofNat (q0 + k)) M1 := fun r M1 h1 f1 er => by
      rw [← er] at ln1
      have lI := Nat.le_trans pnE_le ln1
      have lJ := Nat.le_trans pnIn_le lI
      have lL : (pnL 2 r).1.length ≤ LPg := by
        by_cases c : tls x k = true
        · rw [if_pos c] at lJ; exact Nat.le_trans pnB_le (Nat.le_trans pnS_le lJ)
        · rw [if_neg c] at lJ; exact lJ
      have ins : ∀ M2, cP (if tls x k = true then pnS 58 (pnLb x k (pnL 2 r)) else pnL 2 r) M2 → Fr SPn M M2 → w_Writer_method_j227 0 Q (w_Writer_method_L156 0 Q n) (Int32.ofNat m) (Int32.ofNat (co x).length) (Int32.ofNat k) (Int32.ofNat (q0 + k)) M2 := fun M2 h2 f2 => by
        unfold w_Writer_method_j227
        have hM2 := hM.fr hK f2
        refine c_pinstr hA (by omega) hK h80 (fun t ht => ⟨Nat.le_of_lt (wf_t hx hkl ht), tls_iff.2 (Or.inl ⟨k, hkl, ht⟩)⟩) hwf.2.1.2.2.2.2.1 (kd_pk hwf.2.1.2.2.2.2.2.1) ⟨hM2.1.1, hM2.1.2.1, hM2.2.2.1 k hkl, hM2.1.2.2⟩ h2 lI (fun M3 h3 f3 => c_pe h3 ln1 (fun M4 h4 f4 => ?_))
        rw [er] at h4
        rw [lit32 1, oN_add]
        have f34 := (f2.trans f3).trans f4
        exact c_pm156 hA hx hK hl n (k + 1) M4 (by omega) (by omega) (hM.fr hK f34) (fun j hj hj2 => (f34.Ia rfl rfl 0 j).trans (hu j hj hj2)) h4 (fun M5 h5 f5 => hQ M5 h5 (f34.trans f5))
      unfold w_Writer_method_j193
      refine c_pl (n := 2) (by omega) h1 lL (fun M2 h2 f2 => ?_)
      have f2 := f1.trans f2
      have a2' := a2.fr f2
      rw [oN_tnc (k := k) (by omega), a2'.1]
      refine ⟨(vp_oN (by omega)).mpr (by omega), ?_⟩
      by_cases c : tls x k = true
      · rw [if_pos c] at ins lJ
        rw [a2'.2 k (by omega) c]
        refine itn (oN_nonneg (by have := hr80 k; omega)) (c_plx a2' h2 (by omega) h80 c (Nat.le_trans pnS_le lJ) (fun M3 h3 f3 => ?_))
        have f3 := f2.trans f3
        have a3' := a2.fr f3
        unfold w_Writer_method_j212
        rw [oN_tnc (k := k) (by omega), a3'.1, a3'.2 k (by omega) c]
        refine ⟨(vp_oN (by omega)).mpr (by omega), itn (oN_nonneg (by have := hr80 k; omega)) (c_ps h3 lJ (fun M4 h4 f4 => ins M4 h4 (f3.trans f4)))⟩
      · rw [if_neg c] at ins lJ
        have eu : mI M2 96 0 k = -1 := (f2.Ia rfl rfl 0 k).trans (hu k (by omega) c)
        rw [eu]
        refine itp (by decide) ?_
        unfold w_Writer_method_j212
        rw [oN_tnc (k := k) (by omega), a2'.1, eu]
        exact ⟨(vp_oN (by omega)).mpr (by omega), itp (by decide) (ins M2 h2 f2)⟩
    have hcf := hI.2.2.2.1
    unfold pnC1 at rest ln1
    dsimp only at rest ln1
    cases ef : iF (gin (co x) k) with
    | none =>
      have ef' : (gin (co x) k).2.2.2.2.2.2.2.2 = none := ef
      rw [ef'] at hcf
      have e70 : mI M 70 w (q0 + k) = -1 := hcf.1
      rw [ef] at rest
      rw [e70]
      exact itp (by decide) (rest _ M h (Fr.rf _ _) rfl)
    | some f =>
      have ef' : (gin (co x) k).2.2.2.2.2.2.2.2 = some f := ef
      rw [ef'] at hcf
      obtain ⟨ls, ss⟩ := f
      obtain ⟨kf, k1, k2, k3, k4, k5⟩ := hcf
      rw [ef] at rest ln1
      rw [k2]
      have hKk := hK.2.1
      have lF : (pnFr (ls, ss) (pnCs x k p0)).1.length ≤ LPg := by
        refine Nat.le_trans ?_ ln1
        refine Nat.le_trans ?_ (Nat.le_trans pnIn_le pnE_le)
        split
        · exact Nat.le_trans pnL_le (Nat.le_trans pnB_le pnS_le)
        · exact pnL_le
      refine itn (oN_nonneg (by omega)) (c_pframe (kf := kf) (ls := ls) (ss := ss) hA a1 ⟨⟨k2, k3, k4, k5⟩, ⟨by rw [a3.1 70 (by omega) (by omega)]; omega, by rw [a3.1 71 (by omega) (by omega)]; omega, by rw [a3.1 72 (by omega) (by omega)]; omega, by rw [a3.2.1]; omega⟩, by omega, by omega, hwf.2.2.2.2 _ ef⟩ h lF (fun M1 h1 f1 => rest _ M1 h1 f1 rfl))
end
