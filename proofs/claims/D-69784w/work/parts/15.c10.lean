/-! B: the end of a method in the twin: rule 9 -/
theorem ct_refuse {rule pl : Nat} {Q X : Mem → Prop} {M : Mem} (hX : ∀ M', ThT (rule, pl) M' → X M') : w_Model_refuse 0 (Int32.ofNat rule) (Int32.ofNat pl) Q X M := by
  unfold w_Model_refuse
  exact hX _ ⟨by simp only [mI_sI, mI_sR, mI_sJ, mR_sI, mL_sI, mL_sR, mR_sR, Nat.reduceEqDiff, and_false, false_and, if_false, and_self, true_and, and_true, if_true], by simp only [mI_sI, mI_sR, mI_sJ, mR_sI, mL_sI, mL_sR, mR_sR, Nat.reduceEqDiff, and_false, false_and, if_false, and_self, true_and, and_true, if_true]⟩
theorem ct_refuseE {G : List Sl} {US : UST} {A : List Nm} {w : Nat} {z : Nat × Nat × Nat × Nat × Nat × Nat} {M0 M : Mem} {rule pl : Nat} {Q X : Mem → Prop} (h : JE G US A w z M0 M) (hx : Gx G w) (hX : ∀ M', ThT (rule, pl) M' → JE G US A w z M0 M' → X M') : w_Model_refuse 0 (Int32.ofNat rule) (Int32.ofNat pl) Q X M :=
  mf_w_Model_refuse (Q := fun _ => False) (X := fun M' => ThT (rule, pl) M') (fun M' hf hp => hp.elim) (fun M' hf hp => hX M' hp (h.fr hx hf)) (ct_refuse (fun M' a => a))
theorem nv_s {A : List Nm} {k : Nat} (hk : k ≤ 80) : (-1 : Int32) - Int32.ofNat k < 0 ∧ ¬ (-1 : Int32) - Int32.ofNat k = -2147483648 ∧ (-1 : Int32) - ((-1 : Int32) - Int32.ofNat k) = Int32.ofNat k := by
  have key : ∀ k : Fin 81, (-1 : Int32) - Int32.ofNat k.val < 0 ∧ ¬ (-1 : Int32) - Int32.ofNat k.val = -2147483648 ∧ (-1 : Int32) - ((-1 : Int32) - Int32.ofNat k.val) = Int32.ofNat k.val := by decide
  exact key ⟨k, by omega⟩
theorem ct_nines {G : List Sl} {US : UST} {A : List Nm} {S : List Sg} {W : List Cls} {w c : Nat} {br : Int32} {q0 nl0 nq nl nf nk : Nat} {p : PM} {NL : List Nine} {z : Nat × Nat × Nat × Nat × Nat × Nat} {L ts : List Tok} {M0 M : Mem} {Q X : Mem → Prop} (h : JM G US A S W w c br q0 nl0 nq nl nf nk p NL z L ts M0 M) (hx : Gx G w) (hc : c < W.length) (hm12 : (gc W c).2.2.2.2.2.length < 12) (hN : NLk p NL)
    (hX : ∀ l M', minL (lines9 p) = some l → ThT (9, l) M' → JE G US A w z M0 M' → X M')
    (hQ : minL (lines9 p) = none → ∃ d, w_Model_endMethod_L112 0 Q X d (Int32.ofNat p.2.1.length) (Int32.ofNat (8 * (12 * c + (gc W c).2.2.2.2.2.length))) 0 M) : w_Model_endMethod 0 Q X M := by
  have ew : mR M 11 0 45 = some (12, w) := h.2.1.1.1.2.1
  have hm := h.2.2.1.1.1
  have h80 := hm.2.2.2.1
  have hWl := h.2.1.1.1.1.1.1.2.2.1
  have hAl := h.1.1.2.2.1
  have l150 : mL M 150 w = 612 := h.2.1.1.2.2.1.1 150 (by omega) (by omega)
  have hTG := h.2.2.2.2.1.1.1
  obtain ⟨m1, m2, m3, m4, m5⟩ := XL_in hx.2.2.2.2.1
  obtain ⟨⟨n1, n2⟩, n3, n4, n5⟩ := h.2.2.1.2.2
  have hLb := h.2.2.1.2.1
  unfold w_Model_endMethod
  refine ⟨w, ew, ?_⟩
  rw [hm.2.2.1.2, oN_tnc (k := 12 * c + (gc W c).2.2.2.2.2.length) (by omega), l150, hm.2.1.2.1]
  refine ⟨(vp_oN (by omega)).mpr (by omega), NL.length + 1, ?_⟩
  have main : ∀ d i, NL.length - i < d → i ≤ NL.length → (∀ j, j < i → badN p.2.2.2.1 p.2.1.length (gni NL j) = false) → w_Model_endMethod_L15 0 Q X d (Int32.ofNat p.2.1.length) (Int32.ofNat i) M := by
    intro d
    induction d with
    | zero => intro i h; omega
    | succ d ih =>
      intro i hd' hi hb
      unfold w_Model_endMethod_L15
      rw [n1]
      by_cases ei : i = NL.length
      · refine itp (le_oN (by omega) (by omega)) ?_
        rw [hm.2.2.1.2, lit32 8, oN_mul]
        exact hQ (hN.none (fun j hj => hb j (by omega)))
      · refine itn (nle_oN (by omega) (by omega)) ?_
        obtain ⟨d1, d2, d3, d4, d5, d6⟩ := n5 i (by omega)
        have hmem := gni_mem (NL := NL) (i := i) (by omega)
        have ti : (Int32.ofNat i).toNatClampNeg = i := oN_tnc (by omega)
        have el1 : mL M 300 (rdI M sNn) = rl M sNn := rfl
        have el2 : mL M 300 (rdI M sNp) = rl M sNp := rfl
        have el3 : mL M 501 (rdI M sNm) = rl M sNm := rfl
        have er1 : mI M 300 (rdI M sNn) i = nv A (gni NL i) := d1
        have er2 : mI M 300 (rdI M sNp) i = Int32.ofNat (gni NL i).2.2.2.1 := d2
        have er3 : mI M 501 (rdI M sNm) i = b2 (gni NL i).2.2.2.2 := d3
        have v1 : vp_in (Int32.ofNat i) (mL M 300 (rdI M sNn)) := by rw [el1]; exact (vp_oN (by omega)).mpr (by omega)
        have v2 : vp_in (Int32.ofNat i) (mL M 300 (rdI M sNp)) := by rw [el2]; exact (vp_oN (by omega)).mpr (by omega)
        have v3 : vp_in (Int32.ofNat i) (mL M 501 (rdI M sNm)) := by rw [el3]; exact (vp_oN (by omega)).mpr (by omega)
        have r1 := (hTG sNn m1).1.1
        have r2 := (hTG sNp m2).1.1
        have r3 := (hTG sNm m3).1.1
        -- it breaks rule 9
        have j84 : badN p.2.2.2.1 p.2.1.length (gni NL i) = true → w_Model_endMethod_j84 0 Q X (w_Model_endMethod_L15 0 Q X d) (Int32.ofNat p.2.1.length) (Int32.ofNat i) M := by
          intro q
          unfold w_Model_endMethod_j84
          refine ⟨rdI M sNp, r2, v2, ?_⟩
          rw [ti, er2]
          exact ct_refuseE (rule := 9) h.je hx (fun M' a b => hX _ M' (hN.first (by omega) hb q) a b)
        have j96 : badN p.2.2.2.1 p.2.1.length (gni NL i) = false → w_Model_endMethod_j96 0 Q X (w_Model_endMethod_L15 0 Q X d) (Int32.ofNat p.2.1.length) (Int32.ofNat i) M := by
          intro q
          unfold w_Model_endMethod_j96
          rw [lit32 1, oN_add]
          refine ih (i + 1) (by omega) (by omega) (fun j hj => ?_)
          by_cases ej : j = i
          · rw [ej]; exact q
          · exact hb j (by omega)
        refine ⟨rdI M sNn, r1, v1, ?_⟩
        rw [ti, er1]
        have k012 : (gni NL i).1 = 0 ∨ (gni NL i).1 = 1 ∨ (gni NL i).1 = 2 := by omega
        rcases k012 with q | q | q
        · have en : nv A (gni NL i) = -2147483648 := by unfold nv; rw [if_pos q]
          rw [en] at er1 ⊢
          refine itn (by decide) ⟨rdI M sNn, r1, v1, ?_⟩
          unfold w_Model_endMethod_j53
          refine ⟨rdI M sNn, r1, v1, ?_⟩
          rw [ti, er1]
          exact itp rfl (j84 (by unfold badN; rw [decide_eq_true q]; rfl))
        · have hm' := d4 q
          have hix := List.idxOf_lt_length_iff.mpr hm'
          have en : nv A (gni NL i) = nc A (gni NL i).2.1 := by unfold nv; rw [if_neg (by omega), if_pos q]
          rw [en] at er1 ⊢
          have hnn : (0 : Int32) ≤ nc A (gni NL i).2.1 := oN_zero_le (by omega)
          refine itp hnn ⟨rdI M sNn, r1, v1, ?_⟩
          rw [er1]
          refine ct_labelOf hx.2.2.2.2.1 hTG hLb hAl hm' ?_
          have ebad : badN p.2.2.2.1 p.2.1.length (gni NL i) = bad9 p.2.2.2.1 p.2.1.length (gni NL i).2.1 (gni NL i).2.2.2.2 := by
            unfold badN
            rw [decide_eq_false (by omega : ¬ (gni NL i).1 = 0), decide_eq_true q, decide_eq_false (by omega : ¬ (gni NL i).1 = 2)]
            simp
          unfold w_Model_endMethod_j53
          refine ⟨rdI M sNn, r1, v1, ?_⟩
          rw [ti, er1]
          have hne : ¬ nc A (gni NL i).2.1 = -2147483648 := fun z' => by rw [z'] at hnn; exact absurd hnn (by decide)
          refine itn hne ?_
          unfold bad9 at ebad
          cases el : lbl p.2.2.2.1 (gni NL i).2.1 with
          | none =>
            rw [el] at ebad
            exact itp (by decide) (j84 ebad)
          | some k =>
            rw [el] at ebad
            have ebad : badN p.2.2.2.1 p.2.1.length (gni NL i) = (decide (k = p.2.1.length) && !(gni NL i).2.2.2.2) := ebad
            have hk := lbl_le hLb el
            refine itn (oN_nonneg (by omega)) ?_
            by_cases ck : k = p.2.1.length
            · refine itp (by rw [ck]) ⟨rdI M sNm, r3, v3, ?_⟩
              rw [er3]
              rw [decide_eq_true ck] at ebad
              cases em : (gni NL i).2.2.2.2 with
              | false => rw [em] at ebad; exact itp rfl (j84 ebad)
              | true => rw [em] at ebad; exact itn (by decide) (j96 ebad)
            · rw [decide_eq_false ck] at ebad
              exact itn (ne_oN ck (by omega) (by omega)) (j96 (by rw [ebad]; rfl))
        · have en : nv A (gni NL i) = (-1 : Int32) - Int32.ofNat (gni NL i).2.2.1 := by unfold nv; rw [if_neg (by omega), if_neg (by omega)]
          obtain ⟨s1, s2, s3⟩ := nv_s (A := A) d6
          have hmay : (gni NL i).2.2.2.2 = false := by
            rcases hN.2.1 _ hmem with ⟨a, -⟩ | ⟨a, -⟩ | ⟨-, a, -⟩
            · omega
            · omega
            · exact a
          have ebad : badN p.2.2.2.1 p.2.1.length (gni NL i) = decide ((gni NL i).2.2.1 = p.2.1.length) := by
            unfold badN
            rw [decide_eq_false (by omega : ¬ (gni NL i).1 = 0), decide_eq_false (by omega : ¬ (gni NL i).1 = 1), decide_eq_true q]
            simp
          rw [en] at er1 ⊢
          generalize (-1 : Int32) - Int32.ofNat (gni NL i).2.2.1 = gv at s1 s2 s3 er1 ⊢
          refine itn (fun z' => absurd z' (Int32.not_le.mpr s1)) ⟨rdI M sNn, r1, v1, ?_⟩
          rw [er1, s3]
          unfold w_Model_endMethod_j53
          refine ⟨rdI M sNn, r1, v1, ?_⟩
          rw [ti, er1]
          refine itn s2 (itn (oN_nonneg (by omega)) ?_)
          by_cases ck : (gni NL i).2.2.1 = p.2.1.length
          · refine itp (by rw [ck]) ⟨rdI M sNm, r3, v3, ?_⟩
            rw [er3, hmay]
            rw [decide_eq_true ck] at ebad
            exact itp rfl (j84 ebad)
          · rw [decide_eq_false ck] at ebad
            exact itn (ne_oN ck (by omega) (by omega)) (j96 ebad)
  exact main _ 0 (by omega) (by omega) (fun j hj => by omega)
