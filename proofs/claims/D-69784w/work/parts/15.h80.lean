/-! THE OPERATION foretell, in the twin -/
def fto : Int32 ⊕ (Nat × Nat) → Int32
  | .inl e => e / 100
  | .inr _ => 0
section
variable {G : List Sl} {US : UST} {A : List Nm} {S : List Sg} {W : List Cls} {w c j k t q n : Nat} {br x a b cc : Int32} {nq nl nf nk B F : Nat} {M M' : Mem} {s : Ms} {Q : Int32 → Mem → Prop} {i : Ins} {on : Nat → Bool} {L : LkS}
theorem TB.insT (h : TB G US A S W w br nq nl nf nk M) (hW : WO W) (hc : c < W.length) (hj : j < (gc W c).2.2.2.2.2.length) (hk : k < (co (gmt (gc W c) j)).length) : ∃ q0, (mI M 149 w (12 * c + j) = Int32.ofNat q0 ∧ mI M 150 w (12 * c + j) = Int32.ofNat (co (gmt (gc W c) j)).length) ∧ TI1 A S w nl nf nk nq (q0 + k) (co (gmt (gc W c) j)).length (gin (co (gmt (gc W c) j)) k) M ∧ (mR M 12 w 30 = some (401, rdI M (sOp w)) ∧ q0 + k < mL M 401 (rdI M (sOp w))) ∧ mI M 401 (rdI M (sOp w)) (q0 + k) = Int32.ofNat (gin (co (gmt (gc W c) j)) k).1 ∧ q0 + k < 3900 := by
  obtain ⟨q0, a1, a2, ⟨a3, a4⟩, hI, -, -⟩ := h.ms.2.2 c hc j hj
  have hb := h.1.1.2.2.2
  have hR := h.1.1.2.2.1.1
  have hla : k < (gmt (gc W c) j).2.2.2.2.2.2.1.length := hk
  have ri : nq ≤ mL M 401 (rdI M (sOp w)) := hR (sOp w) (by simp)
  have ti := hI k hla
  have n39 : nq ≤ 3900 := by omega
  have hmem : gin (co (gmt (gc W c) j)) k ∈ co (gmt (gc W c) j) := by
    show (co (gmt (gc W c) j)).getD k _ ∈ _
    rw [List.getD_eq_getElem?_getD, List.getElem?_eq_getElem hk]; exact List.getElem_mem hk
  exact ⟨q0, ⟨a1, a2⟩, ⟨ti, ⟨by omega, n39⟩, wo_ins hW hc hj hmem⟩, ⟨h.slt (s := sOp w) (by simp), by omega⟩, ti.1.1, by omega⟩
theorem ct_foretold (hW : WO W) (hC : LInv W L.1 ∧ LB L ∧ KJ W L.1) (h : LKt G US A S W w br nq nl nf nk L M) (hL : 51 ≤ mL M 110 0 ∧ mL M 110 0 < 1000000) (hc : c < W.length) (hj : j < (gc W c).2.2.2.2.2.length) (hI : TI1 A S w nl nf nk nq q n i M) (h30 : mR M 12 w 30 = some (401, rdI M (sOp w)) ∧ q < mL M 401 (rdI M (sOp w))) (e30 : mI M 401 (rdI M (sOp w)) q = Int32.ofNat i.1) (hns : iM i ≠ nStart)
    (hQ : ∀ M', LKt G US A S W w br nq nl nf nk (fIns br W L c (gmt (gc W c) j) i).2 M' → Q (fto (fIns br W L c (gmt (gc W c) j) i).1) M') : w_Model_foretold 0 (Int32.ofNat (12 * c + j)) (Int32.ofNat q) Q M := by
  obtain ⟨hB, hWF, hWC, h51⟩ := id hW
  have h62 : i.1 < 62 := hI.2.2.1
  have hq39 := hI.2.1
  have h12 := (h.1.mcn hc).2
  have e45 := h.1.r45
  have hok := fIns_ok (br := br) (c := c) (x := gmt (gc W c) j) (i := i) h51 hC
  have e12 : Int32.ofNat (12 * c + j) / (12 : Int32) = Int32.ofNat c := by rw [show (12 : Int32) = Int32.ofNat 12 from rfl, oN_div (by omega) (by omega)]; congr 1; omega
  -- what was thrown
  have thr : ∀ (z : Int32 ⊕ (Nat × Nat)) (f : Nat × Nat → Nat) M1, thOk z → (∀ e, z = .inl e → tThr e M1) → (∀ p, z = .inr p → f p < 100000) → Q (fto z) M1 → (if 0 ≤ rcT f z then Q 0 M1 else Q (mI M1 11 0 81) M1) := fun z f M1 h1 h2 h3 h4 => by
    cases z with
    | inl e =>
      refine itn (show ¬ (0 : Int32) ≤ -1 by decide) ?_
      rw [(h2 e rfl).1, ← div100 h1.1]; exact h4
    | inr p => exact itp (show (0 : Int32) ≤ Int32.ofNat (f p) from oN_zero_le (by have := h3 p rfl; omega)) h4
  unfold w_Model_foretold
  refine ⟨w, e45, _, h30.1, (vp_oN (by omega)).mpr h30.2, ?_⟩
  rw [oN_tnc (k := q) (by omega), e30]
  by_cases cf : isFo i.1
  · have o4 : 46 ≤ i.1 ∧ i.1 ≤ 49 := cf
    have eF : fIns br W L c (gmt (gc W c) j) i = fFld br W L (iK i) (iM i) (iR i) (decide (48 ≤ i.1)) (decide (i.1 = 47 ∨ i.1 = 49)) c (gmt (gc W c) j).1 := by
      unfold fIns
      rw [if_neg (by omega), if_neg (by omega), if_pos cf]
    refine itn (nlt_oN (b := 46) (by omega) (by omega)) (itn (nlt_oN (a := 49) (by omega) (by omega)) ?_)
    refine ct_findField hWF h hC.1 hC.2.1 hWC hI cf hc hj (fun M1 k1 k2 => ?_)
    rw [← eF] at k1 k2 ⊢
    refine thr _ _ M1 hok.1 k2 (fun p hp => ?_) (hQ M1 k1)
    have hh := (fIns_lt (a := L) (c := c) (x := gmt (gc W c) j) (i := i) (q := p) (L := (fIns br W L c (gmt (gc W c) j) i).2) (br := br) (by rw [← hp])).2.1 cf
    have hf8 : p.2 < 8 := Nat.lt_of_lt_of_le hh.2 (h.1.1.1.1.2.1.2 p.1 hh.1).1.2
    show 8 * p.1 + p.2 < _
    omega
  · have go41 : w_Model_foretold_j41 0 Q (Int32.ofNat (12 * c + j)) (Int32.ofNat q) (Int32.ofNat i.1) M := by
      unfold w_Model_foretold_j41
      by_cases cm : isMo i.1
      · have o4 : 50 ≤ i.1 ∧ i.1 ≤ 53 := cm
        have eF : fIns br W L c (gmt (gc W c) j) i = fMth br W L (iK i) (xi i) i.1 (fun d => decide (d = c)) := by
          unfold fIns
          rw [if_neg (by omega), if_neg (by omega), if_neg cf, if_pos cm]
        have hx : xOk A S (xi i) := by
          obtain ⟨⟨-, ⟨-, -, -, -, t5, -, t7⟩, -⟩, -, -⟩ := hI
          have t7 := t7 cm
          exact ⟨t5 (Or.inr cm), t7.1, t7.2.1, t7.2.2.1, t7.2.2.2.1⟩
        obtain ⟨⟨ra, rb, rc, rd⟩, ⟨ra2, rb2, rc2, rd2⟩, ra3, rb3, rc3⟩ := h.1.rdA hI (Or.inr cm)
        rw [if_neg cf] at rc3
        refine itn (nlt_oN (b := 50) (by omega) (by omega)) (itn (nlt_oN (a := 53) (by omega) (by omega)) ⟨w, e45, _, ra, (vp_oN (by omega)).mpr rb, w, e45, _, ra2, (vp_oN (by omega)).mpr rb2, w, e45, _, ra3, (vp_oN (by omega)).mpr rb3, by decide, ?_⟩)
        rw [oN_tnc (k := q) (by omega), rc, rc2, rc3, e12]
        refine ct_findMethod (br := br) (o := i.1) (x := xi i) (kn := iK i) (acc := fun d => decide (d = c)) (v5 := Int32.ofNat c) hWF h hC.1 hC.2.1 hx rd hns (by omega) (Or.inr (Or.inr ⟨c, hc, rfl, fun d => rfl⟩)) hL (fun M1 k1 k2 => ?_)
        rw [← eF] at k1 k2 ⊢
        refine thr _ _ M1 hok.1 k2 (fun p hp => ?_) (hQ M1 k1)
        have hh := (fIns_lt (a := L) (c := c) (x := gmt (gc W c) j) (i := i) (q := p) (L := (fIns br W L c (gmt (gc W c) j) i).2) (br := br) (by rw [← hp])).2.2 cm
        have h12p := (h.1.mcn hh.1).2
        show 12 * p.1 + p.2 < _
        omega
      · have go101 : w_Model_foretold_j101 0 Q (Int32.ofNat q) (Int32.ofNat i.1) M := by
          unfold w_Model_foretold_j101
          by_cases h54 : i.1 = 54 ∨ i.1 = 55
          · have fin : w_Model_foretold_j113 0 Q (Int32.ofNat q) M := by
              unfold w_Model_foretold_j113
              obtain ⟨⟨r1, v1⟩, -, -, -⟩ := hI.rw' h.1
              have hcl := hI.nm (by unfold isN; omega)
              refine ⟨w, e45, _, r1, (vp_oN (by omega)).mpr v1, ?_⟩
              rw [oN_tnc (k := q) (by omega), hcl.1]
              have hq2 := hQ M
              unfold fIns at hq2
              rw [if_pos h54] at hq2
              refine ct_classOf e45 h.1.cl.1 hcl.2 ?_
              cases ef : fnd W (iK i) with
              | none =>
                rw [ef] at hq2
                exact itn (show ¬ (0 : Int32) ≤ -2 by decide) (hq2 h)
              | some d =>
                rw [ef] at hq2
                exact itp (show (0 : Int32) ≤ Int32.ofNat d from oN_zero_le (by have := fnd_lt ef; omega)) (hq2 h)
            rcases h54 with z | z
            · exact itp (by rw [z]; rfl) fin
            · exact itn (by rw [z]; decide) (itp (by rw [z]; rfl) fin)
          refine itn (ne_oN (b := 54) (fun z => h54 (Or.inl z)) (by omega) (by omega)) (itn (ne_oN (b := 55) (fun z => h54 (Or.inr z)) (by omega) (by omega)) ?_)
          by_cases c41 : i.1 = 41
          · refine itp (by rw [c41]; rfl) ?_
            obtain ⟨⟨r1, v1⟩, -, -, -⟩ := hI.rw' h.1
            have hcl := hI.nm (by unfold isN; omega)
            refine ⟨w, e45, _, r1, (vp_oN (by omega)).mpr v1, ?_⟩
            rw [oN_tnc (k := q) (by omega), hcl.1]
            have hq2 := hQ
            unfold fIns at hq2
            rw [if_neg h54, if_pos c41] at hq2
            refine ct_findLinked hWF h hC.1 hC.2.1 hcl.2 (fun M1 k1 k2 k3 => ?_)
            have hko := lkd_ok (br := br) (k := iK i) hC.2.1 h51
            cases el : lkd br W L (iK i) with
            | mk y L1 =>
              rw [el] at hq2 k1 k3 hko
              cases y with
              | inl e =>
                refine itn (show ¬ (0 : Int32) ≤ -1 by decide) ?_
                rw [(k3 e rfl).1, ← div100 hko.1.1]; exact hq2 M1 k1
              | inr d =>
                dsimp only at hq2
                have hd := fnd_lt (lkd_in el).1
                refine itp (show (0 : Int32) ≤ Int32.ofNat d from oN_zero_le (by omega)) ?_
                have e132 : mI M1 132 w d = (gc W d).2.2.2.1 := (k1.1.cl.2.2 d hd).2.2
                have l132 : mL M1 132 w = 51 := k1.1.cl.2.1.2.2.2
                refine ct_isOff (bit := 7) k1.1.1.1.1.1 ?_
                cases eb : brk br 7 with
                | false =>
                  rw [if_neg (fun z => by rw [eb] at z; cases z.2)] at hq2
                  exact itn (by decide) (hq2 M1 k1)
                | true =>
                  refine itp rfl ⟨w, k1.1.r45, by rw [l132]; exact (vp_oN (by omega)).mpr (by omega), ?_⟩
                  rw [oN_tnc (k := d) (by omega), e132]
                  by_cases c6 : (gc W d).2.2.2.1 &&& 6 = 0
                  · rw [if_neg (fun z => z.1 c6)] at hq2
                    exact itp c6 (hq2 M1 k1)
                  · rw [if_pos ⟨c6, eb⟩] at hq2
                    exact itn c6 (hq2 M1 k1)
          · refine itn (ne_oN (b := 41) c41 (by omega) (by omega)) ?_
            have hq2 := hQ M
            unfold fIns at hq2
            rw [if_neg h54, if_neg c41, if_neg cf, if_neg cm] at hq2
            exact hq2 h
        by_cases c50 : i.1 < 50
        · exact itp (lt_oN (b := 50) c50 (by omega)) go101
        · exact itn (nlt_oN (b := 50) (by omega) (by omega)) (itp (lt_oN (a := 53) (by unfold isMo at cm; omega) (by omega)) go101)
    by_cases c46 : i.1 < 46
    · exact itp (lt_oN (b := 46) c46 (by omega)) go41
    · exact itn (nlt_oN (b := 46) (by omega) (by omega)) (itp (lt_oN (a := 49) (by unfold isFo at cf; omega) (by omega)) go41)
/-- the instructions of a method -/
theorem ct_frtC (hW : WO W) (hNS : NSi W) (hc : c < W.length) (hj : j < (gc W c).2.2.2.2.2.length) {k42 : Int32 → Int32 → Int32 → Int32 → Mem → Prop} {R : (Nat ⊕ (Nat × Int32)) × LkS} {L0 : LkS} {m110 : Nat} (h110 : 51 ≤ m110 ∧ m110 < 1000000)
    (hfin : ∀ left L' M', LKt G US A S W w br nq nl nf nk L' M' → mL M' 110 0 = m110 → LkM W L0 L' → LG L' → left < 2147483648 → R = (.inl left, L') → k42 (Int32.ofNat c) b (Int32.ofNat left) (Int32.ofNat (j + 1)) M')
    (hhit : ∀ k e L' M', LKt G US A S W w br nq nl nf nk L' M' → mL M' 110 0 = m110 → LkM W L0 L' → R = (.inr (k, e), L') → Q (frtA b (some (j, k, e))) M') :
    ∀ d k left L M, (co (gmt (gc W c) j)).length - k < d → k ≤ (co (gmt (gc W c) j)).length → left < 2147483648 → LKt G US A S W w br nq nl nf nk L M → mL M 110 0 = m110 → LkM W L0 L → LG L → R = frtC br W c (gmt (gc W c) j) ((co (gmt (gc W c) j)).drop k) k left L → w_Model_foretell_L68 0 Q k42 d (Int32.ofNat c) b (Int32.ofNat left) (Int32.ofNat j) (Int32.ofNat (12 * c + j)) (Int32.ofNat k) M := by
  intro d
  induction d with
  | zero => intro k left L M h; omega
  | succ d ih =>
    intro k left L M hd hk hlf lk hl hm hlg hR
    have h51 := hW.2.2.2
    have h12 := (lk.1.mcn hc).2
    have e45 := lk.1.r45
    have h80 : (co (gmt (gc W c) j)).length ≤ 80 := by
      obtain ⟨q0, a1, a2, ⟨a3, a4⟩, -⟩ := lk.1.ms.2.2 c hc j hj
      exact a4
    have e150 : mI M 150 w (12 * c + j) = Int32.ofNat (co (gmt (gc W c) j)).length := by
      obtain ⟨q0, a1, a2, -⟩ := lk.1.ms.2.2 c hc j hj
      exact a2
    have l150 := lk.1.ml (f := 150) (by omega) (by omega)
    have l149 := lk.1.ml (f := 149) (by omega) (by omega)
    unfold w_Model_foretell_L68
    rw [oN_tnc (k := 12 * c + j) (by omega)]
    refine ⟨w, e45, by rw [l150]; exact (vp_oN (by omega)).mpr (by omega), ?_⟩
    rw [e150]
    by_cases ck : k = (co (gmt (gc W c) j)).length
    · refine itp (le_oN (by omega) (by omega)) ?_
      rw [lit32 1, oN_add]
      rw [ck, List.drop_eq_nil_of_le (Nat.le_refl _)] at hR
      exact hfin left L M lk hl hm hlg hlf hR
    · have hkl : k < (co (gmt (gc W c) j)).length := by omega
      obtain ⟨q0, ⟨e149, -⟩, hI, h30, e30, hq39⟩ := lk.1.insT hW hc hj hkl
      refine itn (nle_oN (by omega) (by omega)) ⟨w, e45, by rw [l149]; exact (vp_oN (by omega)).mpr (by omega), ?_⟩
      rw [e149, oN_add]
      have hdr := List.drop_eq_getElem_cons hkl
      obtain ⟨-, hgin, -⟩ := gin_at hdr
      rw [hdr, ← hgin] at hR
      have hok := fIns_ok (br := br) (c := c) (x := gmt (gc W c) j) (i := gin (co (gmt (gc W c) j)) k) h51 hm.1
      have hrl := fIns_rl (br := br) (c := c) (x := gmt (gc W c) j) (i := gin (co (gmt (gc W c) j)) k) hm.1.2.1 hlg h51
      refine mf_w_Model_foretold (Q := fun v M' => LKt G US A S W w br nq nl nf nk (fIns br W L c (gmt (gc W c) j) (gin (co (gmt (gc W c) j)) k)).2 M' ∧ v = fto (fIns br W L c (gmt (gc W c) j) (gin (co (gmt (gc W c) j)) k)).1) (fun v M1 hf hp => ?_) (ct_foretold hW hm.1 lk (by rw [hl]; exact h110) hc hj hI h30 e30 (hNS c j k hc) (fun M' a => ⟨a, rfl⟩))
      obtain ⟨a1, ev⟩ := hp
      subst ev
      have hl1 : mL M1 110 0 = m110 := (hf.L (f := 110) rfl 0).trans hl
      unfold frtC at hR
      cases ef : fIns br W L c (gmt (gc W c) j) (gin (co (gmt (gc W c) j)) k) with
      | mk y L1 =>
        rw [ef] at hR hok a1 hrl
        have hm1 : LkM W L0 L1 := hm.tr hok.2
        cases y with
        | inl e =>
          dsimp only at hR
          obtain ⟨m, hm10, hmm, em⟩ := hrl.1
          have hd100 : fto (.inl e) = Int32.ofNat (m / 100) := by
            show e / 100 = _
            rw [em, show (100 : Int32) = Int32.ofNat 100 from rfl, oN_div (by omega) (by omega)]
          have hpos : 1 ≤ m / 100 := by unfold isRu at hmm; omega
          have np : ¬ fto (.inl e) ≤ 0 := by rw [hd100]; exact nle_oN (b := 0) (by omega) (by omega)
          refine itn np ?_
          by_cases cl : left = 0
          · rw [if_pos cl] at hR
            refine itp (by rw [cl]; rfl) ?_
            have hfin2 : Q (if b = 0 then Int32.ofNat j else if b = 1 then Int32.ofNat k else e / 100) M1 := hhit k e L1 M1 a1 hl1 hm1 hR
            by_cases c0 : b = 0
            · rw [if_pos c0] at hfin2; exact itp c0 hfin2
            rw [if_neg c0] at hfin2
            refine itn c0 ?_
            by_cases c1 : b = 1
            · rw [if_pos c1] at hfin2; exact itp c1 hfin2
            rw [if_neg c1] at hfin2
            exact itn c1 hfin2
          · rw [if_neg cl] at hR
            refine itn (ne_oN (b := 0) cl (by omega) (by omega)) ?_
            unfold w_Model_foretell_j138 w_Model_foretell_j150
            refine itn np ?_
            rw [lit32 1, oN_add, oN_sub (by omega)]
            exact ih (k + 1) (left - 1) L1 M1 (by omega) (by omega) (by omega) a1 hl1 hm1 hrl.2 hR
        | inr q =>
          dsimp only at hR
          refine itp (show fto (.inr q) ≤ 0 from Int32.le_refl _) ?_
          unfold w_Model_foretell_j138 w_Model_foretell_j150
          refine itp (show fto (.inr q) ≤ 0 from Int32.le_refl _) ?_
          rw [show Int32.ofNat left - 0 = Int32.ofNat left from Int32.sub_zero _, lit32 1, oN_add]
          exact ih (k + 1) left L1 M1 (by omega) (by omega) hlf a1 hl1 hm1 hrl.2 hR
/-- foretell, in the twin -/
theorem ct_wforetell (hk : k < 3) (hOn : tOn on M) (hon : on k = true) (hW : WO W) (hNS : NSi W) (hG : GL W s) (hLG : LG (zL s)) (h : TAx G US A S W k br nq nl nf nk B F x s M) (hQ : ∀ M', TAx G US A S W k br nq nl nf nk B F x (frtO br W cc a b s).2 M' → LkM W (zL s) (zL (frtO br W cc a b s).2) → Q (frtO br W cc a b s).1 M') : w_Model_foretell 0 (Int32.ofNat k) cc a b Q M := by
  have hQ' : ∀ y, frtO br W cc a b s = y → ∀ M', TAx G US A S W k br nq nl nf nk B F x y.2 M' → LkM W (zL s) (zL y.2) → Q y.1 M' := fun y hy => by rw [← hy]; exact hQ
  unfold frtO at hQ'
  have bad : ((cc < 0 ∨ Int32.ofNat W.length ≤ cc) ∨ a < 0 ∨ b < 0 ∨ 2 < b) → Q (-1) M := fun z => hQ' _ (if_pos z) M h (LkM.rf hG.1)
  have e2 : mI M 12 k 2 = Int32.ofNat W.length := h.1.1.cl.1.1.1
  have h51 := hW.2.2.2
  unfold w_Model_foretell
  refine ct_isClass hk hOn hon h51 e2 (fun z => itp rfl (bad (Or.inl z))) (fun c hc ei ei2 nz => ?_)
  refine itn (by decide) ?_
  by_cases ca : a < 0
  · exact itp ca (bad (Or.inr (Or.inl ca)))
  refine itn ca ?_
  by_cases cb : b < 0
  · exact itp cb (bad (Or.inr (Or.inr (Or.inl cb))))
  refine itn cb ?_
  by_cases cb2 : b ≤ 2
  · have nb2 : ¬ 2 < b := fun z => absurd cb2 (Int32.not_le.mpr z)
    have hQ2 := hQ' _ (if_neg (fun z => z.elim nz (fun z => z.elim ca (fun z => z.elim cb nb2))))
    rw [ei2] at hQ2
    obtain ⟨a1, a2⟩ := hOn.at hk
    refine itp cb2 ⟨a1, k, a2, (gc W c).2.2.2.2.2.length + 1, ?_⟩
    rw [ei]
    have ea := tnc_oN ca
    have hlf : a.toNatClampNeg < 2147483648 := tnc_lt _
    generalize a.toNatClampNeg = l0 at hQ2 ea hlf
    rw [← ea]
    have hT : TA G US A S W k br nq nl nf nk B F x s (sR M 11 0 45 (some (12, k))) := h
    have h110 := hT.2.2.2.2.2.1.2
    generalize sR M 11 0 45 (some (12, k)) = M0 at hT h110
    have fin : ∀ y L1 M1, frtM br W c (gc W c).2.2.2.2.2 0 l0 (zL s) = (y, L1) → LKt G US A S W k br nq nl nf nk L1 M1 → LkM W (zL s) L1 → Fr F_Model_foretell M0 M1 → Q (frtA b y) M1 := fun y L1 M1 e lk hm hf => by
      rw [e] at hQ2
      exact hQ2 M1 (hT.lk hf lk).xx hm
    have main : ∀ d j left L M1, (gc W c).2.2.2.2.2.length - j < d → j ≤ (gc W c).2.2.2.2.2.length → left < 2147483648 → LKt G US A S W k br nq nl nf nk L M1 → mL M1 110 0 = mL M0 110 0 → LkM W (zL s) L → LG L → frtM br W c (gc W c).2.2.2.2.2 0 l0 (zL s) = frtM br W c ((gc W c).2.2.2.2.2.drop j) j left L → w_Model_foretell_L42 0 (fun v M' => Fr F_Model_foretell M0 M' → Q v M') d (Int32.ofNat c) b (Int32.ofNat left) (Int32.ofNat j) M1 := by
      intro d
      induction d with
      | zero => intro j left L M1 hd; omega
      | succ d ih =>
        intro j left L M1 hd hj hlf' lk hl hm hlg he
        have h12 := lk.1.mcn hc
        have l136 : mL M1 136 k = 51 := lk.1.1.1.1.1.2.2.2.2.1
        unfold w_Model_foretell_L42
        refine ⟨k, lk.1.r45, by rw [l136]; exact (vp_oN (by omega)).mpr (by omega), ?_⟩
        rw [oN_tnc (k := c) (by omega), h12.1]
        by_cases cj : j = (gc W c).2.2.2.2.2.length
        · refine itp (le_oN (by omega) (by omega)) (fun hf => ?_)
          rw [cj, List.drop_eq_nil_of_le (Nat.le_refl _)] at he
          exact fin none L M1 he lk hm hf
        · have hjl : j < (gc W c).2.2.2.2.2.length := by omega
          refine itn (nle_oN (by omega) (by omega)) ⟨(co (gmt (gc W c) j)).length + 1, ?_⟩
          have hdr := List.drop_eq_getElem_cons hjl
          have hg : (gc W c).2.2.2.2.2[j] = gmt (gc W c) j := by
            show _ = (gc W c).2.2.2.2.2.getD j _
            rw [List.getD_eq_getElem?_getD, List.getElem?_eq_getElem hjl]; rfl
          rw [hdr, hg, frtM_c] at he
          rw [show (12 : Int32) * Int32.ofNat c + Int32.ofNat j = Int32.ofNat (12 * c + j) by rw [show (12 : Int32) = Int32.ofNat 12 from rfl, oN_mul, oN_add]]
          refine ct_frtC (R := frtC br W c (gmt (gc W c) j) (co (gmt (gc W c) j)) 0 left L) (L0 := L) (m110 := mL M0 110 0) hW hNS hc hjl h110 (fun left' L' M' a1 a2 a3 a3' a4 a5 => ?_) (fun q e L' M' a1 a2 a3 a4 => ?_) _ 0 left L M1 (by omega) (Nat.zero_le _) hlf' lk hl (LkM.rf hm.1) hlg rfl
          · rw [a5] at he
            exact ih (j + 1) left' L' M' (by omega) (by omega) a4 a1 a2 (hm.tr a3) a3' he
          · rw [a4] at he
            exact fin (some (j, q, e)) L' M' he a1 (hm.tr a3)
    refine mf_w_Model_foretell_L42 (M0 := M0) (Q := fun v M' => Fr F_Model_foretell M0 M' → Q v M') (fun _ _ hf hp => hp hf) _ _ _ _ _ _ (Fr.rf _ _) ?_
    exact main ((gc W c).2.2.2.2.2.length + 1) 0 l0 (zL s) M0 (by omega) (Nat.zero_le _) hlf hT.1 rfl (LkM.rf hG.1) hLG rfl
  · exact itn cb2 (bad (Or.inr (Or.inr (Or.inr (Int32.not_le.mp cb2)))))
end
