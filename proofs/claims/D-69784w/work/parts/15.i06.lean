/-! THE OPERATIONS reach, reached, in the twin: whole -/
section
variable {G : List Sl} {US : UST} {A : List Nm} {S : List Sg} {W : List Cls} {w k c j q n ab : Nat} {br x a b cc : Int32} {nq nl nf nk B F : Nat} {M M' M0 : Mem} {s : Ms} {Q : Mem → Prop} {i : Ins} {on : Nat → Bool} {L0 : LkS} {V : RV} {m : Nat × Nat} {z : RV × LkS} {C : Nat → Int32} {xm : Mth}
theorem fIns_41 {a L1 : LkS} {p : Nat × Nat} {y : Mth} (ef : fIns br W a c y i = (.inr p, L1)) (h41 : i.1 = 41) : fnd W (iK i) = some p.1 := by
  unfold fIns at ef
  rw [if_neg (by omega), if_pos h41] at ef
  cases el : lkd br W a (iK i) with
  | mk y L =>
    rw [el] at ef
    cases y with
    | inl e => cases ef
    | inr d =>
      dsimp only at ef
      split at ef
      · cases ef
      · cases ef; exact (lkd_in el).1
theorem lkN_LG {L : LkS} (h : LG L) : LG (lkN br W 60 L k).2 := (lkN_rl (br := br) (W := W) 60 L k h).2
theorem ct_calls203 (hW : WO W) (h12 : W12 W) (h110 : 51 ≤ mL M0 110 0 ∧ mL M0 110 0 < 1000000) (hab : ab < W.length) (cm : isMo i.1) : ∀ d k z M, W.length - k < d → k ≤ W.length → Rt G US A S W w br nq nl nf nk L0 z M0 M → TI1 A S w nl nf nk nq q n i M → (∀ M', Rt G US A S W w br nq nl nf nk L0 (clsV br W (xi i) ab ((List.range W.length).drop k) z) M0 M' → Q M') → w_Model_reachFrom_L203 0 Q d (Int32.ofNat q) (Int32.ofNat ab) (Int32.ofNat k) M := by
  intro d
  induction d with
  | zero => intro k z M h; omega
  | succ d ih =>
    intro k z M hn hk h hI hQ
    have h51 := hW.2.2.2
    have e45 := h.1.1.r45
    have hG : Ga G := h.1.1.2.1.1
    have hGw : Gw G w := h.1.1.2.1.2.2.2.1
    have hq39 := hI.2.1
    have e2 : mI M 12 w 2 = Int32.ofNat W.length := h.1.1.cl.1.1.1
    unfold w_Model_reachFrom_L203
    refine ⟨w, e45, ?_⟩
    rw [e2]
    by_cases ck : k = W.length
    · rw [ck, List.drop_eq_nil_of_le (by rw [List.length_range]; exact Nat.le_refl _)] at hQ
      exact itp (le_oN (by omega) (by omega)) (hQ M h)
    have hkl : k < W.length := by omega
    rw [range_drop hkl] at hQ
    unfold clsV at hQ
    have e132 : mI M 132 w k = (gc W k).2.2.2.1 := (h.1.1.cl.2.2 k hkl).2.2
    have l132 : mL M 132 w = 51 := h.1.1.cl.2.1.2.2.2
    refine itn (nle_oN (by omega) (by omega)) ⟨w, e45, by rw [l132]; exact (vp_oN (by omega)).mpr (by omega), ?_⟩
    rw [oN_tnc (k := k) (by omega), e132]
    have nx : ∀ z' M', Rt G US A S W w br nq nl nf nk L0 z' M0 M' → TI1 A S w nl nf nk nq q n i M' → (∀ M', Rt G US A S W w br nq nl nf nk L0 (clsV br W (xi i) ab ((List.range W.length).drop (k + 1)) z') M0 M' → Q M') → w_Model_reachFrom_j288 0 Q (w_Model_reachFrom_L203 0 Q d) (Int32.ofNat q) (Int32.ofNat ab) (Int32.ofNat k) M' := by
      intro z' M' h' hI' hQ'
      unfold w_Model_reachFrom_j288
      rw [lit32 1, oN_add]
      exact ih (k + 1) z' M' (by omega) (by omega) h' hI' hQ'
    by_cases c6 : (gc W k).2.2.2.1 &&& 6 = 0
    · refine itp c6 ?_
      refine ct_isBelow e45 h.1.1.cl hkl (by omega) (fun b1 hb => ?_)
      cases b1 with
      | false =>
        have nb : ¬ bel W k ab = true := fun q => by have := hb.mpr (bel_iff.mp q); cases this
        rw [if_neg (fun q => nb q.2)] at hQ
        exact itp rfl (nx z M h hI hQ)
      | true =>
        have yb : bel W k ab = true := bel_iff.mpr (hb.mp rfl)
        rw [if_pos ⟨c6, yb⟩] at hQ
        refine itn (by decide) ?_
        refine ct_isLinked hW.2.1 h.1 h.2.1.1.1.1 hkl (fun M2 b2' i2 lo2 fr2 => ?_)
        have hmk := lkN_M (br := br) (W := W) (a := z.2) (k := k) h51 h.2.1.1.1 hkl
        have h2 : Rt G US A S W w br nq nl nf nk L0 (z.1, (lkN br W 60 z.2 k).2) M0 M2 := ⟨b2', ⟨h.2.1.1.tr hmk, lkN_LG h.2.1.2⟩, h.2.2.1.trans (fr2.sub rfl), h.2.2.2.fr fr2⟩
        have hI2 := hI.fr fr2 hG hGw
        by_cases c1 : (lkN br W 60 z.2 k).1 = 1
        · rw [if_pos c1] at hQ
          rw [decide_eq_true c1]
          obtain ⟨⟨ra, rb, rc, rd⟩, ⟨ra2, rb2, rc2, rd2⟩, ra3, rb3, rc3⟩ := h2.1.1.rdA hI2 (Or.inr cm)
          rw [if_neg (by unfold isFo; unfold isMo at cm; omega)] at rc3
          have e452 := h2.1.1.r45
          refine itn (by decide) ⟨w, e452, _, ra2, (vp_oN (by omega)).mpr rb2, w, e452, _, ra3, (vp_oN (by omega)).mpr rb3, ?_⟩
          rw [oN_tnc (k := q) (by omega), rc2, rc3]
          have hx : xOk A S (xi i) := by
            obtain ⟨⟨-, ⟨-, -, -, -, t5, -, t7⟩, -⟩, -, -⟩ := hI2
            have t7 := t7 cm
            exact ⟨t5 (Or.inr cm), t7.1, t7.2.1, t7.2.2.1, t7.2.2.2.1⟩
          have hl1 : (lkN br W 60 z.2 k).2.1 k = 1 := by rw [lkN_own]; exact c1
          refine ct_dispatch (x := xi i) h2.1 i2 hx hkl hl1 (by rw [h2.2.2.1.L (f := 110) rfl]; exact h110) (fun M3 f3 th => ?_)
          have h3 : Rt G US A S W w br nq nl nf nk L0 (z.1, (lkN br W 60 z.2 k).2) M0 M3 := ⟨h2.1.mfr f3, h2.2.1, h2.2.2.1.trans (f3.sub rfl), h2.2.2.2.fr f3⟩
          have hI3 := hI2.fr f3 hG hGw
          have hdo : ∀ m, dspW W (xi i) k = .inr m → m.1 < W.length ∧ m.2 < (gc W m.1).2.2.2.2.2.length := fun m hm => by
            unfold dspW at hm
            split at hm
            · cases hm
            · rename_i m' em
              split at hm
              · cases hm
              · cases hm; exact ⟨(mthW_ok hkl em).1, (mthW_ok hkl em).2.1⟩
          cases ed : dspW W (xi i) k with
          | inl e =>
            rw [ed] at hQ
            exact itp (show (-1 : Int32) < 0 by decide) (nx _ M3 h3 hI3 hQ)
          | inr m =>
            rw [ed] at hQ
            have hm := hdo m ed
            have hm12 := h12.2 m.1
            have hmt : mT m = 12 * m.1 + m.2 := rfl
            refine itn (show ¬ Int32.ofNat (mT m) < 0 by rw [Int32.not_lt]; exact oN_zero_le (by omega)) ?_
            show w_Model_addReached 0 (Int32.ofNat (12 * m.1 + m.2)) _ M3
            exact ct_addReached h12 h3.2.2.2 hm (fun M4 f4 v4 => nx _ M4 (h3.cm f4 v4) (hI3.fr f4 hG hGw) hQ)
        · rw [if_neg c1] at hQ
          rw [decide_eq_false c1]
          exact itp rfl (nx _ M2 h2 hI2 hQ)
    · rw [if_neg (fun q => c6 q.1)] at hQ
      exact itn c6 (nx z M h hI hQ)
theorem ct_reachFrom (hW : WO W) (h12 : W12 W) (h110 : 51 ≤ mL M0 110 0 ∧ mL M0 110 0 < 1000000) (hC : ∀ k, k < W.length → mI M0 137 w k = C k) (h21 : ∀ k, k < 21 → C k = 2) (hc : c < W.length) (hj : j < (gc W c).2.2.2.2.2.length) (h : Rt G US A S W w br nq nl nf nk L0 z M0 M) (hI : TI1 A S w nl nf nk nq q n i M) (h30 : mR M 12 w 30 = some (401, rdI M (sOp w)) ∧ q < mL M 401 (rdI M (sOp w))) (e30 : mI M 401 (rdI M (sOp w)) q = Int32.ofNat i.1) (hns : iM i ≠ nStart)
    (hQ : ∀ M', Rt G US A S W w br nq nl nf nk L0 (rchI br W C c (gmt (gc W c) j) i z) M0 M' → Q M') : w_Model_reachFrom 0 (Int32.ofNat (12 * c + j)) (Int32.ofNat q) Q M := by
  obtain ⟨hB, hWF, hWC, h51⟩ := id hW
  have h62 : i.1 < 62 := hI.2.2.1
  have hq39 := hI.2.1
  have hc12 := (h.1.1.mcn hc).2
  have e45 := h.1.1.r45
  have hG : Ga G := h.1.1.2.1.1
  have hGw : Gw G w := h.1.1.2.1.2.2.2.1
  have hok := fIns_ok (br := br) (c := c) (x := gmt (gc W c) j) (i := i) h51 h.2.1.1.1
  have hrl := fIns_rl (br := br) (c := c) (x := gmt (gc W c) j) (i := i) h.2.1.1.1.2.1 h.2.1.2 h51
  have e12 : Int32.ofNat (12 * c + j) / (12 : Int32) = Int32.ofNat c := by rw [show (12 : Int32) = Int32.ofNat 12 from rfl, oN_div (by omega) (by omega)]; congr 1; omega
  have hL : 51 ≤ mL M 110 0 ∧ mL M 110 0 < 1000000 := by rw [h.2.2.1.L (f := 110) rfl]; exact h110
  unfold rchI at hQ
  -- starts
  have sts : ∀ (p : Nat × Nat) z' L1 M1, z'.2 = L1 → fIns br W z.2 c (gmt (gc W c) j) i = (.inr p, L1) → (i.1 = 41 ∨ isFo i.1 ∨ isMo i.1) → p.1 < W.length → Rt G US A S W w br nq nl nf nk L0 z' M0 M1 → (∀ M', Rt G US A S W w br nq nl nf nk L0 (stsV W C 60 (some p.1) z'.1, z'.2) M0 M' → Q M') → w_Model_addStarts 0 (Int32.ofNat p.1) Q M1 := by
    intro p z' L1 M1 ez ef hop hp h1 hQ1
    unfold w_Model_addStarts
    have hl := (fIns_lk hB h51 h.2.1.1.1 ef hop).1
    have hrk := rk_le (W := W) (c := p.1)
    exact ⟨60, ct_addStarts hW h12 C hC h21 60 (some p.1) z' M1 h1 (fun d hd => by cases hd; exact ⟨hp, Or.inr ⟨by rw [ez]; exact hl, by omega⟩⟩) (by omega) hQ1⟩
  unfold w_Model_reachFrom
  refine ⟨w, e45, _, h30.1, (vp_oN (by omega)).mpr h30.2, ?_⟩
  rw [oN_tnc (k := q) (by omega), e30]
  by_cases c41 : i.1 = 41
  · rw [if_pos (Or.inl c41)] at hQ
    refine itp (by rw [c41]; rfl) ?_
    refine mf_w_Model_foretold (Q := fun v M' => LKt G US A S W w br nq nl nf nk (fIns br W z.2 c (gmt (gc W c) j) i).2 M' ∧ v = fto (fIns br W z.2 c (gmt (gc W c) j) i).1) (fun v M1 hf hp => ?_) (ct_foretold hW h.2.1.1.1 h.1 hL hc hj hI h30 e30 hns (fun M' a => ⟨a, rfl⟩))
    obtain ⟨a1, ev⟩ := hp
    subst ev
    cases ef : fIns br W z.2 c (gmt (gc W c) j) i with
    | mk y L1 =>
      rw [ef] at hQ hok a1 hrl
      have h1 : Rt G US A S W w br nq nl nf nk L0 (z.1, L1) M0 M1 := ⟨a1, ⟨h.2.1.1.tr hok.2, hrl.2⟩, h.2.2.1.trans (hf.sub rfl), h.2.2.2.fr hf⟩
      cases y with
      | inl e =>
        obtain ⟨m, hm10, hru, em⟩ := hrl.1
        have hne : ¬ fto (.inl e) = 0 := by
          show ¬ e / 100 = 0
          rw [em, show (100 : Int32) = Int32.ofNat 100 from rfl, oN_div (by omega) (by omega)]
          exact ne_oN (b := 0) (by unfold isRu at hru; omega) (by omega) (by omega)
        exact itn hne (hQ M1 h1)
      | inr p =>
        dsimp only at hQ
        rw [if_neg (by unfold isMo; omega)] at hQ
        have hI1 := hI.fr hf hG hGw
        have hp := (fIns_lt ef).1 c41
        have hfd := fIns_41 ef c41
        obtain ⟨⟨r1, v1⟩, -, -, -⟩ := hI1.rw' h1.1.1
        have hcl := hI1.nm (by unfold isN; omega)
        refine itp rfl ⟨w, h1.1.1.r45, _, r1, (vp_oN (by omega)).mpr v1, ?_⟩
        rw [hcl.1]
        refine ct_classOf h1.1.1.r45 h1.1.1.cl.1 hcl.2 ?_
        rw [hfd]
        exact sts p (z.1, L1) L1 M1 rfl ef (Or.inl c41) hp h1 hQ
  refine itn (ne_oN (b := 41) c41 (by omega) (by omega)) ?_
  have fld : (i.1 = 48 ∨ i.1 = 49) → w_Model_reachFrom_j55 0 Q (Int32.ofNat (12 * c + j)) (Int32.ofNat q) (Int32.ofNat i.1) M := fun h4 => by
    have cf : isFo i.1 := by unfold isFo; omega
    rw [if_pos (by omega)] at hQ
    have eF : fIns br W z.2 c (gmt (gc W c) j) i = fFld br W z.2 (iK i) (iM i) (iR i) (decide (48 ≤ i.1)) (decide (i.1 = 47 ∨ i.1 = 49)) c (gmt (gc W c) j).1 := by
      unfold fIns
      rw [if_neg (by omega), if_neg (by omega), if_pos cf]
    unfold w_Model_reachFrom_j55
    refine mf_w_Model_findField (Q := fun v M' => LKt G US A S W w br nq nl nf nk (fIns br W z.2 c (gmt (gc W c) j) i).2 M' ∧ v = rcT fT (fIns br W z.2 c (gmt (gc W c) j) i).1) (fun v M1 hf hp => ?_) (ct_findField hWF h.1 h.2.1.1.1.1 h.2.1.1.1.2.1 hWC hI cf hc hj (fun M1 k1 k2 => by rw [← eF] at k1 ⊢; exact ⟨k1, rfl⟩))
    obtain ⟨a1, ev⟩ := hp
    subst ev
    cases ef : fIns br W z.2 c (gmt (gc W c) j) i with
    | mk y L1 =>
      rw [ef] at hQ hok a1 hrl
      have h1 : Rt G US A S W w br nq nl nf nk L0 (z.1, L1) M0 M1 := ⟨a1, ⟨h.2.1.1.tr hok.2, hrl.2⟩, h.2.2.1.trans (hf.sub rfl), h.2.2.2.fr hf⟩
      cases y with
      | inl e => exact itp (show (-1 : Int32) < 0 by decide) (hQ M1 h1)
      | inr p =>
        dsimp only at hQ
        rw [if_neg (by unfold isMo; omega)] at hQ
        have hp := (fIns_lt ef).2.1 cf
        have hf8 : p.2 < 8 := Nat.lt_of_lt_of_le hp.2 (h1.1.1.1.1.1.2.1.2 p.1 hp.1).1.2
        have hft : fT p = 8 * p.1 + p.2 := rfl
        refine itn (show ¬ Int32.ofNat (fT p) < 0 by rw [Int32.not_lt]; exact oN_zero_le (by omega)) ⟨by decide, ?_⟩
        show w_Model_addStarts 0 (Int32.ofNat (fT p) / 8) _ M1
        have e8 : Int32.ofNat (fT p) / (8 : Int32) = Int32.ofNat p.1 := by rw [show (8 : Int32) = Int32.ofNat 8 from rfl, oN_div (by omega) (by omega), hft]; congr 1; omega
        rw [e8]
        exact sts p (z.1, L1) L1 M1 rfl ef (Or.inr (Or.inl cf)) hp.1 h1 hQ
  by_cases c48 : i.1 = 48
  · exact itp (by rw [c48]; rfl) (fld (Or.inl c48))
  refine itn (ne_oN (b := 48) c48 (by omega) (by omega)) ?_
  by_cases c49 : i.1 = 49
  · exact itp (by rw [c49]; rfl) (fld (Or.inr c49))
  refine itn (ne_oN (b := 49) c49 (by omega) (by omega)) ?_
  by_cases c50 : i.1 < 50
  · rw [if_neg (fun e => by unfold isMo at e; omega)] at hQ
    exact itp (lt_oN (b := 50) c50 (by omega)) (hQ M h)
  refine itn (nlt_oN (b := 50) (by omega) (by omega)) ?_
  by_cases c53 : i.1 ≤ 53
  · have cm : isMo i.1 := by unfold isMo; omega
    rw [if_pos (Or.inr (Or.inr (Or.inr cm)))] at hQ
    have eF : fIns br W z.2 c (gmt (gc W c) j) i = fMth br W z.2 (iK i) (xi i) i.1 (fun d => decide (d = c)) := by
      unfold fIns
      rw [if_neg (by omega), if_neg (by omega), if_neg (by unfold isFo; omega), if_pos cm]
    have hx : xOk A S (xi i) := by
      obtain ⟨⟨-, ⟨-, -, -, -, t5, -, t7⟩, -⟩, -, -⟩ := hI
      have t7 := t7 cm
      exact ⟨t5 (Or.inr cm), t7.1, t7.2.1, t7.2.2.1, t7.2.2.2.1⟩
    obtain ⟨⟨ra, rb, rc, rd⟩, ⟨ra2, rb2, rc2, rd2⟩, ra3, rb3, rc3⟩ := h.1.1.rdA hI (Or.inr cm)
    rw [if_neg (by unfold isFo; omega)] at rc3
    refine itp (le_oN (b := 53) c53 (by omega)) ⟨w, e45, _, ra, (vp_oN (by omega)).mpr rb, w, e45, _, ra2, (vp_oN (by omega)).mpr rb2, w, e45, _, ra3, (vp_oN (by omega)).mpr rb3, by decide, ?_⟩
    rw [rc, rc2, rc3, e12]
    refine mf_w_Model_findMethod (Q := fun v M' => LKt G US A S W w br nq nl nf nk (fIns br W z.2 c (gmt (gc W c) j) i).2 M' ∧ v = rcT mT (fIns br W z.2 c (gmt (gc W c) j) i).1) (fun v M1 hf hp => ?_) (ct_findMethod (br := br) (o := i.1) (x := xi i) (kn := iK i) (acc := fun d => decide (d = c)) (v5 := Int32.ofNat c) hWF h.1 h.2.1.1.1.1 h.2.1.1.1.2.1 hx rd hns (by omega) (Or.inr (Or.inr ⟨c, hc, rfl, fun d => rfl⟩)) hL (fun M1 k1 k2 => by rw [← eF] at k1 ⊢; exact ⟨k1, rfl⟩))
    obtain ⟨a1, ev⟩ := hp
    subst ev
    cases ef : fIns br W z.2 c (gmt (gc W c) j) i with
    | mk y L1 =>
      rw [ef] at hQ hok a1 hrl
      have h1 : Rt G US A S W w br nq nl nf nk L0 (z.1, L1) M0 M1 := ⟨a1, ⟨h.2.1.1.tr hok.2, hrl.2⟩, h.2.2.1.trans (hf.sub rfl), h.2.2.2.fr hf⟩
      cases y with
      | inl e => exact itn (show ¬ (0 : Int32) ≤ -1 by decide) (hQ M1 h1)
      | inr p =>
        dsimp only at hQ
        rw [if_pos cm] at hQ
        have hp := (fIns_lt ef).2.2 cm
        have hp12 := h12.2 p.1
        have hpt : mT p = 12 * p.1 + p.2 := rfl
        have hI1 := hI.fr hf hG hGw
        refine itp (show (0 : Int32) ≤ Int32.ofNat (mT p) from oN_zero_le (by omega)) ?_
        show (if Int32.ofNat i.1 = 52 then w_Model_reachFrom_j163 0 Q (Int32.ofNat i.1) (Int32.ofNat (12 * p.1 + p.2)) M1 else _)
        have ep : Int32.ofNat (12 * p.1 + p.2) / (12 : Int32) = Int32.ofNat p.1 := by rw [show (12 : Int32) = Int32.ofNat 12 from rfl, oN_div (by omega) (by omega)]; congr 1; omega
        have one : i.1 ≠ 52 → (∀ M', Rt G US A S W w br nq nl nf nk L0 (addV z.1 p, L1) M0 M' → Q M') → w_Model_reachFrom_j163 0 Q (Int32.ofNat i.1) (Int32.ofNat (12 * p.1 + p.2)) M1 := fun n52 hq => by
          unfold w_Model_reachFrom_j163
          exact ct_addReached h12 h1.2.2.2 hp (fun M2 f2 v2 => itn (ne_oN (b := 52) n52 (by omega) (by omega)) (hq M2 (h1.cm f2 v2)))
        by_cases c52 : i.1 = 52
        · rw [if_pos c52] at hQ
          refine itp (by rw [c52]; rfl) ?_
          unfold w_Model_reachFrom_j163
          refine ct_addReached h12 h1.2.2.2 hp (fun M2 f2 v2 => itp (by rw [c52]; rfl) ⟨by decide, ?_⟩)
          rw [ep]
          exact sts p (addV z.1 p, L1) L1 M2 rfl ef (Or.inr (Or.inr cm)) hp.1 (h1.cm f2 v2) hQ
        rw [if_neg c52] at hQ
        refine itn (ne_oN (b := 52) c52 (by omega) (by omega)) ?_
        by_cases c51 : i.1 = 51
        · rw [if_pos (Or.inl c51)] at hQ
          exact itp (by rw [c51]; rfl) (one c52 hQ)
        have hHd := h1.1.1.hd hp.1 hp.2
        have l146 := h1.1.1.ml (f := 146) (by omega) (by omega)
        have h51p := hp.1
        refine itn (ne_oN (b := 51) c51 (by omega) (by omega)) ⟨w, h1.1.1.r45, by show vp_in (Int32.ofNat (12 * p.1 + p.2)) _; rw [l146]; exact (vp_oN (by omega)).mpr (by omega), ?_⟩
        show (if mI M1 146 w (Int32.ofNat (12 * p.1 + p.2)).toNatClampNeg &&& 4 = 0 then _ else w_Model_reachFrom_j163 0 Q (Int32.ofNat i.1) (Int32.ofNat (12 * p.1 + p.2)) M1)
        rw [oN_tnc (k := 12 * p.1 + p.2) (by omega), hHd.2.2.2.1]
        by_cases c4 : (gmt (gc W p.1) p.2).2.2.2.1 &&& 4 = 0
        · rw [if_neg (fun e => e.elim c51 (fun e => e c4))] at hQ
          obtain ⟨ab, hab⟩ := (fIns_lk hB h51 h.2.1.1.1 ef (Or.inr (Or.inr cm))).2 cm
          rw [hab] at hQ
          dsimp only at hQ
          obtain ⟨⟨sa, sb, sc, sd⟩, -, -⟩ := h1.1.1.rdA hI1 (Or.inr cm)
          refine itp c4 ⟨w, h1.1.1.r45, _, sa, (vp_oN (by omega)).mpr sb, ?_⟩
          rw [sc]
          refine ct_classOf h1.1.1.r45 h1.1.1.cl.1 sd ?_
          rw [hab]
          exact ⟨W.length + 1, ct_calls203 hW h12 h110 (fnd_lt hab) cm (W.length + 1) 0 (z.1, L1) M1 (by omega) (Nat.zero_le _) h1 hI1 hQ⟩
        · rw [if_pos (Or.inr c4)] at hQ
          exact itn c4 (one c52 hQ)
  · rw [if_neg (fun e => by unfold isMo at e; omega)] at hQ
    exact itn (nle_oN (b := 53) (by omega) (by omega)) (hQ M h)
end
