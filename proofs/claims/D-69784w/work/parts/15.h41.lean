/-! THE OPERATION object: kinds of cells -/
abbrev inF (f : Fld) : Bool := decide (f.2.2.1 &&& 1 = 0)
abbrev gf1 (l : List Fld) (k : Nat) : Fld := l.getD k ([], (0, []), 0, 0, false)
theorem own_at : ∀ {l : List Fld} {j : Nat}, j < instF l → ∃ f, f < l.length ∧ (gf1 l f).2.2.1 &&& 1 = 0 ∧ instF (l.take f) = j ∧ gk ((l.filter inF).map (fun f => f.2.1)) j = (gf1 l f).2.1
  | [], j, h => absurd h (Nat.not_lt_zero _)
  | x :: l, j, h => by
    by_cases c1 : x.2.2.1 &&& 1 = 0
    · have e1 : ∀ l', (x :: l').filter inF = x :: l'.filter inF := fun l' => List.filter_cons_of_pos (by rw [show inF x = true from decide_eq_true c1])
      have hi : ∀ l', instF (x :: l') = instF l' + 1 := fun l' => by
        show ((x :: l').filter inF).length = _
        rw [e1]; rfl
      rw [hi] at h
      rcases Nat.eq_zero_or_pos j with z | z
      · subst z
        refine ⟨0, Nat.succ_pos _, c1, rfl, ?_⟩
        rw [e1]; rfl
      · obtain ⟨f, f1, f2, f3, f4⟩ := own_at (l := l) (j := j - 1) (by omega)
        refine ⟨f + 1, Nat.succ_lt_succ f1, f2, ?_, ?_⟩
        · show instF (x :: l.take f) = j
          rw [hi, f3]; omega
        · rw [e1]
          obtain ⟨j', hj'⟩ : ∃ j', j = j' + 1 := ⟨j - 1, by omega⟩
          subst hj'; exact f4
    · have e1 : ∀ l', (x :: l').filter inF = l'.filter inF := fun l' => List.filter_cons_of_neg (by rw [show inF x = false from decide_eq_false c1]; decide)
      have hi : ∀ l', instF (x :: l') = instF l' := fun l' => by
        show ((x :: l').filter inF).length = _
        rw [e1]; rfl
      rw [hi] at h
      obtain ⟨f, f1, f2, f3, f4⟩ := own_at (l := l) (j := j) h
      refine ⟨f + 1, Nat.succ_lt_succ f1, f2, ?_, ?_⟩
      · show instF (x :: l.take f) = j
        rw [hi, f3]
      · rw [e1]; exact f4
theorem instF_mono {l : List Fld} {i : Nat} : ∀ {f : Nat}, i ≤ f → f ≤ l.length → instF (l.take i) ≤ instF (l.take f)
  | 0, h, _ => by rw [Nat.le_zero.mp h]; exact Nat.le_refl _
  | f + 1, h, hl => by
    by_cases e : i = f + 1
    · rw [e]; exact Nat.le_refl _
    · have h1 := instF_mono (l := l) (i := i) (f := f) (by omega) (by omega)
      rw [instF_take (by omega)]
      omega
theorem instF_strict {l : List Fld} {i f : Nat} (h : i < f) (hl : f ≤ l.length) (hi : (gf1 l i).2.2.1 &&& 1 = 0) : instF (l.take i) < instF (l.take f) := by
  have h1 := instF_mono (l := l) (i := i + 1) (f := f) h hl
  rw [instF_take (by omega), if_pos hi] at h1
  omega
section
variable {W : List Cls} {lk : Nat → Int32} {c p n : Nat}
/-- the class that tells what lies in a cell -/
theorem kd_own (hB : BI W) (h51 : W.length ≤ 51) (hI : LInv W lk) (hc : c < W.length) (hl : lk c = 1) (hn : n < osz W c) (hu : oszU W c ≤ n) : ∃ f, f < (gc W c).2.2.2.2.1.length ∧ (gfl (gc W c) f).2.2.1 &&& 1 = 0 ∧ oszU W c + instF ((gc W c).2.2.2.2.1.take f) = n ∧ gk (ofk W c) n = (gfl (gc W c) f).2.1 := by
  have c0 : c ≠ 0 := fun z => by
    subst z
    rw [osz_0, hB.2 0 (by omega), show instF (gc W21 0).2.2.2.2.1 = 0 from rfl] at hn
    omega
  obtain ⟨p, eu, hpl, lp, hmu⟩ := hI.upm hc hl c0
  have e1 : osz W c = oszU W c + instF (gc W c).2.2.2.2.1 := osz_up hI eu hpl (Or.inr lp) (by have := mu_lt (c := c) h51; omega)
  have e2 : oszU W c = osz W p := by unfold oszU; rw [eu]
  have e3 := ofk_up h51 hI hc hl eu
  obtain ⟨f, f1, f2, f3, f4⟩ := own_at (l := (gc W c).2.2.2.2.1) (j := n - oszU W c) (by omega)
  refine ⟨f, f1, f2, by omega, ?_⟩
  rw [e3]
  show (ofk W p ++ ownK W c).getD n _ = _
  have hlp : (ofk W p).length = oszU W c := by rw [ofk_len, e2]
  rw [List.getD_eq_getElem?_getD, List.getElem?_append_right (by omega), hlp]
  rw [← List.getD_eq_getElem?_getD]
  exact f4
theorem kd_up (h51 : W.length ≤ 51) (hI : LInv W lk) (hc : c < W.length) (hl : lk c = 1) (hn : n < oszU W c) : ∃ p, upW W c = some p ∧ p < W.length ∧ lk p = 1 ∧ mu W p < mu W c ∧ n < osz W p ∧ oszU W c = osz W p ∧ gk (ofk W c) n = gk (ofk W p) n := by
  have c0 : c ≠ 0 := fun z => by
    subst z
    have : oszU W 0 = 0 := by unfold oszU; rw [show upW W 0 = none from by unfold upW; rw [if_pos rfl]]
    omega
  obtain ⟨p, eu, hpl, lp, hmu⟩ := hI.upm hc hl c0
  have e2 : oszU W c = osz W p := by unfold oszU; rw [eu]
  have e3 := ofk_up h51 hI hc hl eu
  refine ⟨p, eu, hpl, lp, hmu, by omega, e2, ?_⟩
  rw [e3]
  show (ofk W p ++ ownK W c).getD n _ = _
  rw [List.getD_eq_getElem?_getD, List.getElem?_append_left (by rw [ofk_len]; omega), ← List.getD_eq_getElem?_getD]
end
section
variable {A : List Nm} {W : List Cls} {w k C B F K n c d : Nat} {br : Int32} {nq nk np nh nr : Nat} {s : Ms} {M M' : Mem} {Q : Int32 → Mem → Prop}
theorem c_fkind (hB : BI W) (h : LKw A W w br nq nk np nh nr (zL s) M) (h51 : W.length ≤ 51) (hI : LInv W (zL s).1) : ∀ x c, mu W c < x → c < W.length → (zL s).1 c = 1 → n < osz W c → (kok A (gk (ofk W c) n) → Q (kC A (gk (ofk W c) n)) M) → w_World_fieldKind_L2 w Q x (Int32.ofNat n) (Int32.ofNat c) M
  | 0, c, hx, _, _, _, _ => absurd hx (by omega)
  | x + 1, c, hx, hc, hl, hn, hQ => by
    obtain ⟨⟨-, ⟨l49, l50, l51, -, -, l53, -⟩, l41, -⟩, fl2, fl3⟩ := h.1.1.2.1
    obtain ⟨⟨e41, -⟩, h8, -⟩ := fl2 c hc
    obtain ⟨e47, -, e53⟩ := h.2.2.2.1 c hc hl
    have l47 : mL M 47 w = 51 := h.1.2.2.2.1.2.2.2.2.2.2 47 (by omega) (by omega)
    have hfo := foff_le (W := W) (fun c hc => ⟨(fl2 c hc).2.1, (fl2 c hc).2.2⟩) W.length (Nat.le_refl _)
    rw [foff_all] at hfo
    have hos : osz W c ≤ 8 * 52 := oszN_le (fun c => by
      by_cases hc : c < W.length
      · exact (fl2 c hc).2.1
      · have : gc W c = gc [] 0 := by
          show W.getD c _ = [].getD 0 _
          rw [List.getD_eq_getElem?_getD, List.getElem?_eq_none (by omega)]; rfl
        rw [this]; exact Nat.zero_le _) 52 c
    unfold w_World_fieldKind_L2
    rw [oN_tnc (k := c) (by omega), e47, e41]
    refine ⟨by rw [l47]; exact (vp_oN (by omega)).mpr (by omega), ?_⟩
    by_cases cu : oszU W c ≤ n
    · obtain ⟨f, f1, f2, f3, f4⟩ := kd_own hB h51 hI hc hl hn cu
      rw [f4] at hQ
      refine itp ((oN_le (by omega) (by omega)).mpr cu) ⟨by rw [l41]; exact (vp_oN (by omega)).mpr (by omega), (gc W c).2.2.2.2.1.length + 1, ?_⟩
      have loop : ∀ y i, (gc W c).2.2.2.2.1.length - i < y → i ≤ f → w_World_fieldKind_L29 w Q y (Int32.ofNat n) (Int32.ofNat (foff W c + i)) M := by
        intro y
        induction y with
        | zero => intro i hy; exact absurd hy (by omega)
        | succ y ih =>
          intro i hy hi
          have hil : i < (gc W c).2.2.2.2.1.length := by omega
          obtain ⟨g1, g2⟩ := gF1_at hc hil
          obtain ⟨-, ⟨k50, ko⟩, k51, -⟩ := fl3 _ g1
          rw [g2] at k50 ko k51
          unfold w_World_fieldKind_L29 w_World_fieldKind_j52
          rw [oN_tnc (k := foff W c + i) (by omega), k51, show Int32.ofNat (foff W c + i) + (1 : Int32) = Int32.ofNat (foff W c + (i + 1)) from oN_add _ 1]
          refine ⟨by rw [l51]; exact (vp_oN (by omega)).mpr (by omega), ?_⟩
          by_cases ci : (gfl (gc W c) i).2.2.1 &&& 1 = 0
          · have e := e53 i hil ci
            have ht := instF_mono (l := (gc W c).2.2.2.2.1) (i := i) (f := f) hi (by omega)
            rw [e]
            refine itp ci ⟨by rw [l53]; exact (vp_oN (by omega)).mpr (by omega), ?_⟩
            by_cases ef : i = f
            · subst ef
              refine itp (by rw [f3]) ⟨by rw [l50]; exact (vp_oN (by omega)).mpr (by omega), ?_⟩
              rw [k50]; exact hQ ko
            · have hs := instF_strict (l := (gc W c).2.2.2.2.1) (i := i) (f := f) (by omega) (by omega) ci
              refine itn (fun z => ?_) (ih (i + 1) (by omega) (by omega))
              have := (oN_inj (by omega) (by omega)).mp z
              omega
          · have ef : i ≠ f := fun z => ci (by rw [z]; exact f2)
            exact itn ci (ih (i + 1) (by omega) (by omega))
      exact loop ((gc W c).2.2.2.2.1.length + 1) 0 (by omega) (by omega)
    · obtain ⟨p, eu, hpl, lp, hmu, hnp, e2, e4⟩ := kd_up h51 hI hc hl (show n < oszU W c by omega)
      rw [e4] at hQ
      have hou : oszU W c ≤ 8 * 52 := by
        have := osz_up hI eu hpl (Or.inr lp) (by have := mu_lt (c := c) h51; omega)
        omega
      refine itn (fun z => cu ((oN_le (by omega) (by omega)).mp z)) (c_up h.1.1.1 hc ?_)
      rw [eu]
      exact c_fkind hB h h51 hI x p (by omega) hpl lp hnp hQ
theorem c_fieldKind (hB : BI W) (h : LKw A W w br nq nk np nh nr (zL s) M) (h51 : W.length ≤ 51) (hI : LInv W (zL s).1) (hc : c < W.length) (hl : (zL s).1 c = 1) (hn : n < osz W c) (hQ : kok A (gk (ofk W c) n) → Q (kC A (gk (ofk W c) n)) M) : w_World_fieldKind w (Int32.ofNat c) (Int32.ofNat n) Q M := by
  unfold w_World_fieldKind
  exact ⟨53, c_fkind hB h h51 hI 53 c (by have := mu_lt (c := c) h51; omega) hc hl hn hQ⟩
end
section
variable {G : List Sl} {US : UST} {A : List Nm} {S : List Sg} {W : List Cls} {k C B F K ud t c n w : Nat} {br x : Int32} {nq nl nf nk : Nat} {s : Ms} {M M' : Mem} {Q : Int32 → Mem → Prop} {lk : Nat → Int32}
theorem ct_refField (hB : BI W) (hWC : WC W) (h : TB G US A S W w br nq nl nf nk M) (hI : LInv W lk) : ∀ y c, mu W c < y → c < W.length → lk c = 1 → n < osz W c → Q (b2 (decide ((gk (ofk W c) n).1 ≠ 0))) M → w_Model_isRefField_L9 0 Q y (Int32.ofNat n) (Int32.ofNat c) (oC (upW W c)) M
  | 0, c, hx, _, _, _, _ => absurd hx (by omega)
  | y + 1, c, hx, hc, hl, hn, hQ => by
    have R5 := h.r45
    have h51 := h.l51
    have hLA := h.2.2.1
    obtain ⟨⟨-, l140, l141, -⟩, hf⟩ := h.1.1.1.2.1
    have l135 : mL M 135 w = 51 := h.1.1.1.1.2.2.2.1
    have hos : ∀ c, osz W c ≤ 8 * 52 := fun c => oszN_le (fun c => by
      by_cases hc : c < W.length
      · exact (hf c hc).1.2
      · have : gc W c = gc [] 0 := by
          show W.getD c _ = [].getD 0 _
          rw [List.getD_eq_getElem?_getD, List.getElem?_eq_none (by omega)]; rfl
        rw [this]; exact Nat.zero_le _) 52 c
    obtain ⟨⟨e135, h8⟩, hf⟩ := hf c hc
    have c0 : c ≠ 0 := fun z => by
      subst z
      rw [osz_0, hB.2 0 (by omega), show instF (gc W21 0).2.2.2.2.1 = 0 from rfl] at hn
      omega
    obtain ⟨p, eu, hpl, lp, hmu⟩ := hI.upm hc hl c0
    have e2 : oszU W c = osz W p := by unfold oszU; rw [eu]
    rw [eu]
    show w_Model_isRefField_L9 0 Q (y + 1) (Int32.ofNat n) (Int32.ofNat c) (Int32.ofNat p) M
    unfold w_Model_isRefField_L9
    refine itn (oN_nonneg (show p < 2147483648 by omega)) ?_
    have fo : ∀ {Q' : Int32 → Mem → Prop}, Q' (Int32.ofNat (osz W p)) M → w_Model_fieldsOf 0 (Int32.ofNat p) Q' M := fun hq => by
      unfold w_Model_fieldsOf
      exact ⟨53, ct_fieldsOf h hI 52 p 0 (mu_lt h51) hpl lp (fun z hz => by rw [hz, Nat.zero_add]; exact hq)⟩
    refine fo ?_
    have hop := hos p
    have hoc := hos c
    by_cases cu : oszU W c ≤ n
    · obtain ⟨f, f1, f2, f3, f4⟩ := kd_own hB h51 hI hc hl hn cu
      rw [f4] at hQ
      refine itp ((oN_le (by omega) (by omega)).mpr (by omega)) ?_
      unfold w_Model_isRefField_j37
      refine itn (oN_nonneg (show p < 2147483648 by omega)) (fo ?_)
      unfold w_Model_isRefField_j53
      refine ⟨(gc W c).2.2.2.2.1.length + 1, ?_⟩
      rw [sub_n (by omega), show (8 : Int32) * Int32.ofNat c = Int32.ofNat (8 * c) from oN_mul 8 _]
      have loop : ∀ z i, (gc W c).2.2.2.2.1.length - i < z → i ≤ f → w_Model_isRefField_L62 0 Q z (Int32.ofNat c) (Int32.ofNat (n - osz W p - instF ((gc W c).2.2.2.2.1.take i))) (Int32.ofNat (8 * c + i)) M := by
        intro z
        induction z with
        | zero => intro i hy; exact absurd hy (by omega)
        | succ z ih =>
          intro i hy hi
          have hil : i < (gc W c).2.2.2.2.1.length := by omega
          obtain ⟨-, ⟨k140, ko⟩, k141, -⟩ := hf i hil
          have ht := instF_mono (l := (gc W c).2.2.2.2.1) (i := i) (f := f) hi (by omega)
          have hone := instF_take hil
          unfold w_Model_isRefField_L62 w_Model_isRefField_j124
          refine ⟨w, R5, ?_⟩
          rw [oN_tnc (k := c) (by omega), e135, show (8 : Int32) * Int32.ofNat c = Int32.ofNat (8 * c) from oN_mul 8 _, oN_add]
          refine ⟨by rw [l135]; exact (vp_oN (by omega)).mpr (by omega), itn (fun z' => by have := (oN_le (by omega) (by omega)).mp z'; omega) ⟨w, R5, ?_⟩⟩
          rw [oN_tnc (k := 8 * c + i) (by omega), k141, show Int32.ofNat (8 * c + i) + (1 : Int32) = Int32.ofNat (8 * c + (i + 1)) from oN_add _ 1]
          refine ⟨by rw [l141]; exact (vp_oN (by omega)).mpr (by omega), ?_⟩
          by_cases ci : (gfl (gc W c) i).2.2.1 &&& 1 = 0
          · have hone : instF ((gc W c).2.2.2.2.1.take (i + 1)) = instF ((gc W c).2.2.2.2.1.take i) + 1 := by rw [hone, if_pos ci]
            refine itp ci ?_
            by_cases ef : i = f
            · subst ef
              refine itp (by rw [show n - osz W p - instF ((gc W c).2.2.2.2.1.take i) = 0 by omega]; rfl) ⟨w, R5, by rw [l140]; exact (vp_oN (by omega)).mpr (by omega), ?_⟩
              rw [k140]
              have hty : tyOk (gfl (gc W c) i).2.1 := ((hWC.1 _ (gc_mem hc)).1.1 _ (getD_mem hil)).1
              have hk0 := kt_num hty ko (by omega)
              by_cases k0 : (gfl (gc W c) i).2.1.1 = 0
              · rw [decide_eq_false (fun z => z k0)] at hQ
                have k1 : (gfl (gc W c) i).2.1 = (0, []) := by
                  rcases hty with y | y | y
                  · exact y
                  · rw [y] at k0; exact absurd k0 (by decide)
                  · rw [y] at k0; exact absurd k0 (by decide)
                exact itp (hk0.mpr k1) hQ
              · rw [decide_eq_true k0] at hQ
                exact itn (fun z => k0 (by rw [hk0.mp z])) hQ
            · have hs := instF_strict (l := (gc W c).2.2.2.2.1) (i := i) (f := f) (by omega) (by omega) ci
              refine itn (fun z' => ?_) ?_
              · have := (oN_inj (b := 0) (by omega) (by omega)).mp z'
                omega
              · rw [show Int32.ofNat (n - osz W p - instF ((gc W c).2.2.2.2.1.take i)) + (-1 : Int32) = Int32.ofNat (n - osz W p - instF ((gc W c).2.2.2.2.1.take (i + 1))) from by
                  rw [hone, show (-1 : Int32) = -(Int32.ofNat 1) from rfl, ← Int32.sub_eq_add_neg, sub_n (by omega)]
                  congr 1]
                exact ih (i + 1) (by omega) (by omega)
          · have hone : instF ((gc W c).2.2.2.2.1.take (i + 1)) = instF ((gc W c).2.2.2.2.1.take i) := by rw [hone, if_neg ci]; rfl
            have ef : i ≠ f := fun z => ci (by rw [z]; exact f2)
            rw [← hone]
            exact itn ci (ih (i + 1) (by omega) (by omega))
      have g := loop ((gc W c).2.2.2.2.1.length + 1) 0 (by omega) (by omega)
      rw [show n - osz W p - instF ((gc W c).2.2.2.2.1.take 0) = n - osz W p from rfl] at g
      exact g
    · obtain ⟨p', eu', hpl', lp', hmu', hnp, e2', e4⟩ := kd_up h51 hI hc hl (show n < oszU W c by omega)
      rw [eu] at eu'
      cases eu'
      rw [e4] at hQ
      refine itn (fun z => by have := (oN_le (by omega) (by omega)).mp z; omega) (ct_parentOf R5 h.cl hpl ?_)
      exact ct_refField hB hWC h hI y p (by omega) hpl lp hnp hQ
end
