/-! the works' writer: a class, whole -/
section
variable {A : List Nm} {W : List Cls} {w c : Nat} {br : Int32} {nq nk np nh nr : Nat} {q : LkS} {M M' : Mem} {Q : Int32 → Mem → Prop} {p p0 : Pen}
theorem c_pw175 (hA : A.length ≤ 200000) (hK : KB w nq nk np nh nr) (h51 : W.length ≤ 51) (hc : c < W.length) (hx : ∀ m ∈ (gc W c).2.2.2.2.2, wfM m) (hl : (pnE (pnW (wA 68) (pnL 0 (pnMs (gc W c) (gc W c).2.2.2.2.2.length p0)))).1.length ≤ LPg) : ∀ n j M, j ≤ (gc W c).2.2.2.2.2.length → (gc W c).2.2.2.2.2.length - j < n → KWr A W w br nq nk np nh nr q M → mL M 96 0 = 81 → cP (pnMs (gc W c) j p0) M → (∀ M', cP (pnE (pnW (wA 68) (pnL 0 (pnMs (gc W c) (gc W c).2.2.2.2.2.length p0)))) M' → Fr SPm M M' → Q (Int32.ofNat (pnE (pnW (wA 68) (pnL 0 (pnMs (gc W c) (gc W c).2.2.2.2.2.length p0)))).1.length) M') → w_Writer_write_L175 0 Q n (Int32.ofNat c) (Int32.ofNat (moff W c + j)) M
  | 0, j, M, hj, hn, hW, l96, h, hQ => absurd hn (by omega)
  | n + 1, j, M, hj, hn, hW, l96, h, hQ => by
    obtain ⟨e43, e44, m3, m4, -⟩ := hW.1.1.mo (e := 0) hc
    obtain ⟨⟨l43, l44⟩, -⟩ := hW.1.1.2.1.1
    have lW := Nat.le_trans pnE_le hl
    have lL := Nat.le_trans pnW_le lW
    have lM := Nat.le_trans pnL_le lL
    unfold w_Writer_write_L175
    refine ⟨w, hW.2.2.2, ?_⟩
    rw [oN_tnc (k := c) (by omega), l43, e43]
    refine ⟨(vp_oN (by omega)).mpr (by omega), w, hW.2.2.2, by rw [l44]; exact (vp_oN (by omega)).mpr (by omega), ?_⟩
    rw [e44, oN_add]
    by_cases e : j = (gc W c).2.2.2.2.2.length
    · subst e
      refine itp (le_oN (Nat.le_refl _) (by omega)) (c_pl (n := 0) (by omega) h lL (fun M1 h1 f1 => ?_))
      refine c_pw (k := 68) (hW.fr f1).2.1 h1 (hW.2.2.1.at (by decide +kernel)) lW (fun M2 h2 f2 => c_pe h2 hl (fun M3 h3 f3 => ?_))
      rw [h3.1.2.1]
      exact hQ M3 h3 (((f1.trans f2).trans f3).sub (by rfl))
    refine itn (nle_oN (by omega) (by omega)) ?_
    have hjl : j < (gc W c).2.2.2.2.2.length := by omega
    refine c_pmethod hA hK hW l96 hc hjl rfl (hx _ (getD_mem hjl)) h (Nat.le_trans (pnMs_mono (i := j + 1) (by omega)) lM) (fun M1 h1 f1 => ?_)
    rw [lit32 1, oN_add]
    exact c_pw175 hA hK h51 hc hx hl n (j + 1) M1 (by omega) (by omega) (hW.fm f1) ((f1.L rfl 0).trans l96) h1 (fun M2 h2 f2 => hQ M2 h2 (f1.trans f2))
theorem c_pw131 (hA : A.length ≤ 200000) (hK : KB w nq nk np nh nr) (h51 : W.length ≤ 51) (hc : c < W.length) (hx : ∀ m ∈ (gc W c).2.2.2.2.2, wfM m) (hty : ∀ f, f < (gc W c).2.2.2.2.1.length → tyOk (gfl (gc W c) f).2.1) (hl : (pnE (pnW (wA 68) (pnL 0 (pnMs (gc W c) (gc W c).2.2.2.2.2.length (pnFds (gc W c) (gc W c).2.2.2.2.1.length p0))))).1.length ≤ LPg) : ∀ n j M, j ≤ (gc W c).2.2.2.2.1.length → (gc W c).2.2.2.2.1.length - j < n → KWr A W w br nq nk np nh nr q M → mL M 96 0 = 81 → cP (pnFds (gc W c) j p0) M → (∀ M', cP (pnE (pnW (wA 68) (pnL 0 (pnMs (gc W c) (gc W c).2.2.2.2.2.length (pnFds (gc W c) (gc W c).2.2.2.2.1.length p0))))) M' → Fr SPm M M' → Q (Int32.ofNat (pnE (pnW (wA 68) (pnL 0 (pnMs (gc W c) (gc W c).2.2.2.2.2.length (pnFds (gc W c) (gc W c).2.2.2.2.1.length p0))))).1.length) M') → w_Writer_write_L131 0 Q n (Int32.ofNat c) (Int32.ofNat (foff W c + j)) M
  | 0, j, M, hj, hn, hW, l96, h, hQ => absurd hn (by omega)
  | n + 1, j, M, hj, hn, hW, l96, h, hQ => by
    obtain ⟨e43, e44, m3, m4, -⟩ := hW.1.1.mo (e := 0) hc
    obtain ⟨⟨l43, l44⟩, -⟩ := hW.1.1.2.1.1
    obtain ⟨⟨-, -, l41, l42⟩, fl2, -⟩ := id hW.1.1.1.2.1
    obtain ⟨⟨e41, e42⟩, h8, -⟩ := fl2 c hc
    have hfo := foff_le (W := W) (fun c hc => ⟨(fl2 c hc).2.1, (fl2 c hc).2.2⟩) c (by omega)
    have lF : (pnFds (gc W c) (gc W c).2.2.2.2.1.length p0).1.length ≤ LPg := Nat.le_trans (pnMs_mono (i := 0) (Nat.zero_le _)) (Nat.le_trans pnL_le (Nat.le_trans pnW_le (Nat.le_trans pnE_le hl)))
    unfold w_Writer_write_L131
    refine ⟨w, hW.2.2.2, ?_⟩
    rw [oN_tnc (k := c) (by omega), l41, e41]
    refine ⟨(vp_oN (by omega)).mpr (by omega), w, hW.2.2.2, by rw [l42]; exact (vp_oN (by omega)).mpr (by omega), ?_⟩
    rw [e42, oN_add]
    by_cases e : j = (gc W c).2.2.2.2.1.length
    · subst e
      refine itp (le_oN (Nat.le_refl _) (by omega)) ⟨w, hW.2.2.2, by rw [l43]; exact (vp_oN (by omega)).mpr (by omega), (gc W c).2.2.2.2.2.length + 1, ?_⟩
      rw [e43]
      exact c_pw175 hA hK h51 hc hx hl _ 0 M (Nat.zero_le _) (by omega) hW l96 h hQ
    refine itn (nle_oN (by omega) (by omega)) ?_
    have hjl : j < (gc W c).2.2.2.2.1.length := by omega
    refine c_pfield hA h51 hW h hc hjl (hty j hjl) (Nat.le_trans (pnFds_mono (i := j + 1) (by omega)) lF) (fun M1 h1 f1 => ?_)
    rw [lit32 1, oN_add]
    have fm : Fr SPm M M1 := f1.sub (by rfl)
    exact c_pw131 hA hK h51 hc hx hty hl n (j + 1) M1 (by omega) (by omega) (hW.fr f1) ((f1.L rfl 0).trans l96) h1 (fun M2 h2 f2 => hQ M2 h2 (fm.trans f2))
end
