theorem ct_labelN {G : List Sl} {A : List Nm} {LS : List Lb} {nm : Nm} {Q : Int32 → Mem → Prop} {M : Mem} (hl : Gl G) (hTG : TG G M) (h : tLb A LS M) (hA : A.length ≤ 200000) (hm : nm ∈ A) (hs : (lbl LS nm).isSome = true) (hQ : Q (Int32.ofNat (lbN LS nm)) M) : w_Model_labelOf 0 (nc A nm) Q M := by
  refine ct_labelOf hl hTG h hA hm ?_
  unfold lbN at hQ
  cases e : lbl LS nm with
  | none => rw [e] at hs; cases hs
  | some k => rw [e] at hQ; exact hQ
theorem ct_hloop {G : List Sl} {US : UST} {A : List Nm} {S : List Sg} {W : List Cls} {w c : Nat} {br : Int32} {q0 nl0 nq nl nf nk : Nat} {p : PM} {z : Nat × Nat × Nat × Nat × Nat × Nat} {L ts : List Tok} {M0 : Mem} {Q X : Mem → Prop} (hx : Gx G w) (hc : c < W.length) (hm12 : (gc W c).2.2.2.2.2.length < 12) (hzc : z.1 ≤ c) (hL : L ≠ []) (hal : allL p) (hs : p.2.2.1.Pairwise (fun a b => a.2.2.2.2 ≤ b.2.2.2.2))
    (hX : ∀ l M', minL (lines10 p) = some l → ThT (10, l) M' → JE G US A w z M0 M' → X M')
    (hX8 : ∀ M', minL (lines10 p) = none → p.2.1.length = 0 → ThT (8, (hd L).2.2.2) M' → JE G US A w z M0 M' → X M')
    (hQ : ∀ M', minL (lines10 p) = none → p.2.1.length ≠ 0 → JH G US A S W w c br q0 nl0 nq nl nf nk p z L ts M0 p.2.2.1.length 0 M' → w_Model_endMethod_j265 0 Q X M') :
    ∀ d hh M1, p.2.2.1.length - hh < d → hh ≤ p.2.2.1.length → (∀ j, j < hh → ¬ lbN p.2.2.2.1 (gh p.2.2.1 j).2.1 ≤ lbN p.2.2.2.1 (gh p.2.2.1 j).1) → JH G US A S W w c br q0 nl0 nq nl nf nk p z L ts M0 hh 0 M1 → w_Model_endMethod_L112 0 Q X d (Int32.ofNat p.2.1.length) (Int32.ofNat (8 * (12 * c + (gc W c).2.2.2.2.2.length))) (Int32.ofNat hh) M1 := by
  intro d
  induction d with
  | zero => intro hh M1 h; omega
  | succ d ih =>
    intro hh M1 hd' hi hb h
    have ew : mR M1 11 0 45 = some (12, w) := h.2.1.1.1.2.1
    have hm := h.2.2.1.1
    have hH8 := hm.2.2.2.2
    have hWl := h.2.1.1.1.1.1.1.2.2.1
    have hAl := h.1.1.2.2.1
    have l151 : mL M1 151 w = 612 := h.2.1.1.2.2.1.1 151 (by omega) (by omega)
    have hTG := h.2.2.2.2.1.1.1
    have h80 := hm.2.2.2.1
    obtain ⟨p8, p9⟩ := h.1.pl hL
    unfold w_Model_endMethod_L112
    refine ⟨w, ew, ?_⟩
    rw [hm.2.2.1.2, oN_tnc (k := 12 * c + (gc W c).2.2.2.2.2.length) (by omega), l151, hm.2.1.2.2]
    refine ⟨(vp_oN (by omega)).mpr (by omega), ?_⟩
    by_cases ei : hh = p.2.2.1.length
    · refine itp (le_oN (by omega) (by omega)) ?_
      have hno := lines10_none (p := p) (fun j hj => hb j (by omega))
      by_cases c0 : p.2.1.length = 0
      · refine itp (by rw [c0]; rfl) ⟨(vp_oN (a := 0) (by omega)).mpr p9, ?_⟩
        have e0 : mI M1 108 0 (0 : Int32).toNatClampNeg = Int32.ofNat (hd L).2.2.2 := p8
        rw [e0]
        exact ct_refuseE (rule := 8) h.je hx (fun M' a b => hX8 M' hno c0 a b)
      · refine itn (ne_oN (b := 0) c0 (by omega) (by omega)) (hQ M1 hno c0 ?_)
        rw [← ei]; exact h
    · refine itn (nle_oN (by omega) (by omega)) ⟨w, ew, w, ew, ?_⟩
      obtain ⟨x, y, u⟩ := h.2.2.1.2.2.2.1.2.2 hh (Nat.le_refl _) (by omega)
      have hlb := h.2.2.1.2.2.2.2
      obtain ⟨s1, s2, s3⟩ := hal.2 _ (gh_mem (H := p.2.2.1) (i := hh) (by omega))
      have l1 := lbN_le (nm := (gh p.2.2.1 hh).1) hlb
      have l2 := lbN_le (nm := (gh p.2.2.1 hh).2.1) hlb
      have v : ∀ f, 152 ≤ f → f ≤ 155 → vp_in (Int32.ofNat (8 * (12 * c + (gc W c).2.2.2.2.2.length) + hh)) (mL M1 f w) := fun f a b => by rw [h.2.1.1.2.2.2.1 f a b]; exact (vp_oN (by omega)).mpr (by omega)
      rw [oN_add, oN_tnc (k := 8 * (12 * c + (gc W c).2.2.2.2.2.length) + hh) (by omega), x.1]
      refine ⟨v 152 (by omega) (by omega), ct_labelN hx.2.2.2.2.1 hTG hlb hAl y.1 s1 ?_⟩
      refine ⟨v 152 (by omega) (by omega), w, ew, w, ew, v 153 (by omega) (by omega), ?_⟩
      have e153 : mI (sI M1 152 w (8 * (12 * c + (gc W c).2.2.2.2.2.length) + hh) (Int32.ofNat (lbN p.2.2.2.1 (gh p.2.2.1 hh).1))) 153 w (8 * (12 * c + (gc W c).2.2.2.2.2.length) + hh) = nc A (gh p.2.2.1 hh).2.1 := by simp only [mI_sI, mI_sR, mI_sJ, mR_sI, mL_sI, mL_sR, mR_sR, Nat.reduceEqDiff, and_false, false_and, if_false, and_self, true_and, and_true, if_true]; exact x.2.1
      rw [e153]
      refine ct_labelN hx.2.2.2.2.1 (M := sI M1 152 w (8 * (12 * c + (gc W c).2.2.2.2.2.length) + hh) (Int32.ofNat (lbN p.2.2.2.1 (gh p.2.2.1 hh).1))) hTG (hlb.of rfl (fun s hs => ⟨fun k => ?_, rfl⟩)) hAl y.2.1 s2 ?_
      · show mI _ s.2.2.2 _ k = mI M1 s.2.2.2 _ k
        have := (hx.1.ob s (hx.2.2.2.2.1 s hs)).2.1
        rw [mI_sI, if_neg (fun q => by omega)]; rfl
      refine ⟨v 153 (by omega) (by omega), w, ew, w, ew, v 154 (by omega) (by omega), ?_⟩
      have e154 : mI (sI (sI M1 152 w (8 * (12 * c + (gc W c).2.2.2.2.2.length) + hh) (Int32.ofNat (lbN p.2.2.2.1 (gh p.2.2.1 hh).1))) 153 w (8 * (12 * c + (gc W c).2.2.2.2.2.length) + hh) (Int32.ofNat (lbN p.2.2.2.1 (gh p.2.2.1 hh).2.1))) 154 w (8 * (12 * c + (gc W c).2.2.2.2.2.length) + hh) = nc A (gh p.2.2.1 hh).2.2.1 := by simp only [mI_sI, mI_sR, mI_sJ, mR_sI, mL_sI, mL_sR, mR_sR, Nat.reduceEqDiff, and_false, false_and, if_false, and_self, true_and, and_true, if_true]; exact x.2.2.1
      rw [e154]
      refine ct_labelN hx.2.2.2.2.1 (M := sI (sI M1 152 w (8 * (12 * c + (gc W c).2.2.2.2.2.length) + hh) (Int32.ofNat (lbN p.2.2.2.1 (gh p.2.2.1 hh).1))) 153 w (8 * (12 * c + (gc W c).2.2.2.2.2.length) + hh) (Int32.ofNat (lbN p.2.2.2.1 (gh p.2.2.1 hh).2.1))) hTG (hlb.of rfl (fun s hs => ⟨fun k => ?_, rfl⟩)) hAl y.2.2 s3 ?_
      · show mI _ s.2.2.2 _ k = mI M1 s.2.2.2 _ k
        have := (hx.1.ob s (hx.2.2.2.2.1 s hs)).2.1
        rw [mI_sI, if_neg (fun q => by omega), mI_sI, if_neg (fun q => by omega)]; rfl
      have hs' := h.hStep hx hc hm12 hzc (by omega) rfl rfl rfl
      refine ⟨v 154 (by omega) (by omega), w, ew, v 152 (by omega) (by omega), w, ew, v 153 (by omega) (by omega), ?_⟩
      have q152 : mI (sI (sI (sI M1 152 w (8 * (12 * c + (gc W c).2.2.2.2.2.length) + hh) (Int32.ofNat (lbN p.2.2.2.1 (gh p.2.2.1 hh).1))) 153 w (8 * (12 * c + (gc W c).2.2.2.2.2.length) + hh) (Int32.ofNat (lbN p.2.2.2.1 (gh p.2.2.1 hh).2.1))) 154 w (8 * (12 * c + (gc W c).2.2.2.2.2.length) + hh) (Int32.ofNat (lbN p.2.2.2.1 (gh p.2.2.1 hh).2.2.1))) 152 w (8 * (12 * c + (gc W c).2.2.2.2.2.length) + hh) = Int32.ofNat (lbN p.2.2.2.1 (gh p.2.2.1 hh).1) := by simp only [mI_sI, mI_sR, mI_sJ, mR_sI, mL_sI, mL_sR, mR_sR, Nat.reduceEqDiff, and_false, false_and, if_false, and_self, true_and, and_true, if_true]
      have q153 : mI (sI (sI (sI M1 152 w (8 * (12 * c + (gc W c).2.2.2.2.2.length) + hh) (Int32.ofNat (lbN p.2.2.2.1 (gh p.2.2.1 hh).1))) 153 w (8 * (12 * c + (gc W c).2.2.2.2.2.length) + hh) (Int32.ofNat (lbN p.2.2.2.1 (gh p.2.2.1 hh).2.1))) 154 w (8 * (12 * c + (gc W c).2.2.2.2.2.length) + hh) (Int32.ofNat (lbN p.2.2.2.1 (gh p.2.2.1 hh).2.2.1))) 153 w (8 * (12 * c + (gc W c).2.2.2.2.2.length) + hh) = Int32.ofNat (lbN p.2.2.2.1 (gh p.2.2.1 hh).2.1) := by simp only [mI_sI, mI_sR, mI_sJ, mR_sI, mL_sI, mL_sR, mR_sR, Nat.reduceEqDiff, and_false, false_and, if_false, and_self, true_and, and_true, if_true]
      rw [q152, q153]
      have e109 : mI (sI (sI (sI M1 152 w (8 * (12 * c + (gc W c).2.2.2.2.2.length) + hh) (Int32.ofNat (lbN p.2.2.2.1 (gh p.2.2.1 hh).1))) 153 w (8 * (12 * c + (gc W c).2.2.2.2.2.length) + hh) (Int32.ofNat (lbN p.2.2.2.1 (gh p.2.2.1 hh).2.1))) 154 w (8 * (12 * c + (gc W c).2.2.2.2.2.length) + hh) (Int32.ofNat (lbN p.2.2.2.1 (gh p.2.2.1 hh).2.2.1))) 109 0 hh = Int32.ofNat (gh p.2.2.1 hh).2.2.2.2 := by simp only [mI_sI, mI_sR, mI_sJ, mR_sI, mL_sI, mL_sR, mR_sR, Nat.reduceEqDiff, and_false, false_and, if_false, and_self, true_and, and_true, if_true]; exact u
      generalize sI (sI (sI M1 152 w (8 * (12 * c + (gc W c).2.2.2.2.2.length) + hh) (Int32.ofNat (lbN p.2.2.2.1 (gh p.2.2.1 hh).1))) 153 w (8 * (12 * c + (gc W c).2.2.2.2.2.length) + hh) (Int32.ofNat (lbN p.2.2.2.1 (gh p.2.2.1 hh).2.1))) 154 w (8 * (12 * c + (gc W c).2.2.2.2.2.length) + hh) (Int32.ofNat (lbN p.2.2.2.1 (gh p.2.2.1 hh).2.2.1)) = M2 at hs' e109 ⊢
      by_cases cl : lbN p.2.2.2.1 (gh p.2.2.1 hh).1 < lbN p.2.2.2.1 (gh p.2.2.1 hh).2.1
      · refine itp (lt_oN cl (by omega)) ?_
        unfold w_Model_endMethod_j243
        rw [lit32 1, oN_add]
        refine ih (hh + 1) M2 (by omega) (by omega) (fun j hj => ?_) hs'
        by_cases ej : j = hh
        · rw [ej]; omega
        · exact hb j (by omega)
      · refine itn (nlt_oN (by omega) (by omega)) ?_
        have l109 : mL M2 109 0 = 8 := hs'.2.2.1.2.2.2.1.1
        rw [l109, oN_tnc (k := hh) (by omega), e109]
        refine ⟨(vp_oN (by omega)).mpr (by omega), ?_⟩
        exact ct_refuseE (rule := 10) hs'.je hx (fun M' a b => hX _ M' (lines10_first hs (by omega) hb (by omega)) a b)
