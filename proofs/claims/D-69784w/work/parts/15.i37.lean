/-! the works' writer: print, written -/
section
variable {A : List Nm} {W : List Cls} {w c : Nat} {br : Int32} {nq nk np nh nr : Nat} {q : LkS} {M M' : Mem} {Q : Int32 → Mem → Prop} {p p0 : Pen}
theorem c_pw75 (hA : A.length ≤ 200000) (hK : KB w nq nk np nh nr) (h51 : W.length ≤ 51) (hc : c < W.length) (hx : ∀ m ∈ (gc W c).2.2.2.2.2, wfM m) (hty : ∀ f, f < (gc W c).2.2.2.2.1.length → tyOk (gfl (gc W c) f).2.1) (hl : (pnC (gc W c) p0).1.length ≤ LPg) : ∀ n j M, j ≤ (gc W c).2.2.1.length → (gc W c).2.2.1.length - j < n → KWr A W w br nq nk np nh nr q M → mL M 96 0 = 81 → cP (pnFc (gc W c) j (pnHe (gc W c) p0)) M → (∀ M', cP (pnC (gc W c) p0) M' → Fr SPm M M' → Q (Int32.ofNat (pnC (gc W c) p0).1.length) M') → w_Writer_write_L75 0 Q n (Int32.ofNat c) (Int32.ofNat j) M
  | 0, j, M, hj, hn, hW, l96, h, hQ => absurd hn (by omega)
  | n + 1, j, M, hj, hn, hW, l96, h, hQ => by
    obtain ⟨⟨l37, l38, l39, l40⟩, hcl⟩ := hW.1.1.1.1.2
    obtain ⟨-, ⟨e39, h4, e38⟩, -⟩ := hcl c hc
    obtain ⟨⟨-, -, l41, l42⟩, fl2, -⟩ := id hW.1.1.1.2.1
    obtain ⟨⟨e41, e42⟩, h8, -⟩ := fl2 c hc
    have hl' := hl
    unfold pnC at hl' hQ
    have lE : (pnE (pnFc (gc W c) (gc W c).2.2.1.length (pnHe (gc W c) p0))).1.length ≤ LPg := Nat.le_trans (pnFds_mono (i := 0) (Nat.zero_le _)) (Nat.le_trans (pnMs_mono (i := 0) (Nat.zero_le _)) (Nat.le_trans pnL_le (Nat.le_trans pnW_le (Nat.le_trans pnE_le hl'))))
    have lF := Nat.le_trans pnE_le lE
    unfold w_Writer_write_L75
    refine ⟨w, hW.2.2.2, ?_⟩
    rw [oN_tnc (k := c) (by omega), l39, e39]
    refine ⟨(vp_oN (by omega)).mpr (by omega), ?_⟩
    by_cases e : j = (gc W c).2.2.1.length
    · subst e
      refine itp (le_oN (Nat.le_refl _) (by omega)) (c_pe h lE (fun M1 h1 f1 => ?_))
      have hW1 := hW.fr f1
      refine ⟨w, hW1.2.2.2, by rw [f1.L rfl w, l41]; exact (vp_oN (by omega)).mpr (by omega), (gc W c).2.2.2.2.1.length + 1, ?_⟩
      rw [(f1.Ia rfl rfl w c).trans e41]
      have fm : Fr SPm M M1 := f1.sub (by rfl)
      exact c_pw131 hA hK h51 hc hx hty hl' _ 0 M1 (Nat.zero_le _) (by omega) hW1 ((f1.L rfl 0).trans l96) h1 (fun M2 h2 f2 => hQ M2 h2 (fm.trans f2))
    have hjl : j < (gc W c).2.2.1.length := by omega
    have lW : (pnW (gf (gc W c) j) (pnS 44 (pnFc (gc W c) j (pnHe (gc W c) p0)))).1.length ≤ LPg := Nat.le_trans (pnFc_mono (i := j + 1) (by omega)) lF
    refine itn (nle_oN (by omega) (by omega)) (c_ps h (Nat.le_trans pnW_le lW) (fun M1 h1 f1 => ?_))
    have hW1 := hW.fr f1
    refine ⟨w, hW1.2.2.2, ?_⟩
    rw [show (4 : Int32) * Int32.ofNat c = Int32.ofNat (4 * c) from oN_mul 4 _, oN_add, oN_tnc (k := 4 * c + j) (by omega), f1.L rfl w, l38, (f1.Ia rfl rfl w _).trans (e38 j hjl).1]
    refine ⟨(vp_oN (by omega)).mpr (by omega), c_pw hW1.2.1 h1 (idx_at (e38 j hjl).2) lW (fun M2 h2 f2 => ?_)⟩
    rw [lit32 1, oN_add]
    have f12 := f1.trans f2
    have fm : Fr SPm M M2 := f12.sub (by rfl)
    exact c_pw75 hA hK h51 hc hx hty hl n (j + 1) M2 (by omega) (by omega) (hW.fr f12) ((f12.L rfl 0).trans l96) h2 (fun M3 h3 f3 => by unfold pnC at h3 ⊢; exact hQ M3 h3 (fm.trans f3))
end
