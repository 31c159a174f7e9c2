/-! B: linking in the twin: whole -/
theorem lkFs_ne0 {br : Int32} {W : List Cls} {K : LkS → Nat → Int32 × LkS} {r : Int32} {c : Nat} (hK : ∀ s d, edge true W c d → (K s d).1 ≠ 0) : ∀ fs s, (∀ f ∈ fs, f ∈ (gc W c).2.2.1 ∧ ∃ d, fnd W f = some d) → (lkFs K W fs s).1 = some r → r ≠ 0
  | [], s, _, h => by cases h
  | f :: fs, s, hf, h => by
    obtain ⟨f1, d, f2⟩ := hf f (List.mem_cons_self ..)
    unfold lkFs at h
    rw [f2] at h
    simp only at h
    split at h
    · exact lkFs_ne0 (br := br) hK fs _ (fun g hg => hf g (List.mem_cons_of_mem _ hg)) h
    · cases h; exact hK s d (edge_face f1 f2)
theorem lkEnd_ne0 {br : Int32} {W : List Cls} {c : Nat} {s : LkS} : (lkEnd br W c s).1 ≠ 0 := by
  unfold lkEnd
  split
  · show ¬ (2515 : Int32) = 0; decide
  · split
    · show ¬ (1 : Int32) = 0; decide
    · rename_i j r a e
      have : ∀ L k, chkC W c k L = some (j, r, a) → r ≤ 60 := by
        intro L
        induction L with
        | nil => intro k z; cases z
        | cons x L ihL =>
          intro k z
          unfold chkC at z
          split at z
          · exact ihL _ z
          · cases z; exact chkM_le
      have := this _ _ e
      show ¬ (100 * Int32.ofNat r + 17 : Int32) = 0
      rw [show (100 : Int32) * Int32.ofNat r = Int32.ofNat (100 * r) from oN_mul 100 r, show Int32.ofNat (100 * r) + (17 : Int32) = Int32.ofNat (100 * r + 17) from oN_add (100 * r) 17]
      exact ne_oN (b := 0) (by omega) (by omega) (by omega)
theorem askF_ne0 {br : Int32} {W : List Cls} {K : LkS → Nat → Int32 × LkS} {c : Nat} (hK : ¬ ring W c → ∀ s d, edge true W c d → (K s d).1 ≠ 0) (s : LkS) : (askF br W K s c).1 ≠ 0 := by
  unfold askF
  by_cases hr : ring W c
  · rw [if_pos (ringB_iff.mpr hr)]; show ¬ (2416 : Int32) = 0; decide
  rw [if_neg (fun z => hr (ringB_iff.mp z))]
  cases hp : fnd W (gc W c).2.1 with
  | none => show ¬ (2011 : Int32) = 0; decide
  | some p =>
    by_cases c3 : (brk br 3 && decide (¬ (gc W p).2.2.2.1 &&& 5 = 0)) = true
    · simp only [if_pos c3]; show ¬ (2115 : Int32) = 0; decide
    simp only [if_neg c3]
    cases hb : badF W (gc W c).2.2.1 with
    | some r =>
      have : ∀ l, badF W l = some r → r = 2211 ∨ r = 2315 := by
        intro l
        induction l with
        | nil => intro q; cases q
        | cons f l ih =>
          intro q
          unfold badF at q
          split at q
          · cases q; exact Or.inl rfl
          · split at q
            · exact ih q
            · cases q; exact Or.inr rfl
      show r ≠ 0
      rcases this _ hb with q | q <;> rw [q] <;> decide
    | none =>
      have ep := edge_par hp
      by_cases c1 : (K s p).1 = 1
      · simp only [if_pos c1]
        have h5 := fun r => lkFs_ne0 (br := br) (K := K) (r := r) (hK hr) (gc W c).2.2.1 (K s p).2 (fun f hf => ⟨hf, badF_none hb f hf⟩)
        generalize lkFs K W (gc W c).2.2.1 (K s p).2 = t at h5
        obtain ⟨t1, t2⟩ := t
        cases t1 with
        | some r => exact h5 r rfl
        | none => exact lkEnd_ne0
      · simp only [if_neg c1]
        exact hK hr s p ep
theorem lkN_ne0 {br : Int32} {W : List Cls} : ∀ n s c, c < W.length → rk W c < n → (lkN br W n s c).1 ≠ 0
  | 0, s, c, _, h => absurd h (by omega)
  | n + 1, s, c, hc, hn => by
    unfold lkN
    by_cases h0 : s.1 c = 0
    · rw [if_pos h0]
      exact askF_ne0 (fun hr s d hd => lkN_ne0 n s d (edge_lt hc hd) (by have := rk_lt hc hd hr; omega)) s
    · rw [if_neg h0]; exact h0
section
variable {G : List Sl} {US : UST} {A : List Nm} {S : List Sg} {W : List Cls} {w c k u p : Nat} {br : Int32} {nq nl nf nk : Nat} {M M' : Mem} {s : LkS} {Q : Int32 → Mem → Prop}
theorem ct_linkCode {n : Nat} (h : LKt G US A S W w br nq nl nf nk s M) (hWF : WF W) (hI : LInv W s.1) (hc : c < W.length) (h21 : 21 ≤ c) (hn : rk W c < n + 2)
    (hKc : ¬ ring W c → ∀ d, edge true W c d → ∀ t M Q, LInv W t.1 → LKt G US A S W w br nq nl nf nk t M → (∀ M', LKt G US A S W w br nq nl nf nk (lkN br W (n + 1) t d).2 M' → LoL w M M' → Q (b2 (decide ((lkN br W (n + 1) t d).1 = 1))) M') → wr_Model_isLinked (n + 1) 0 (Int32.ofNat d) Q M)
    (hQ : ∀ M', LKt G US A S W w br nq nl nf nk (askF br W (lkN br W (n + 1)) s c).2 M' → LoL w M M' → Q (if (askF br W (lkN br W (n + 1)) s c).1 = 1 then 0 else (askF br W (lkN br W (n + 1)) s c).1) M') : wk_Model_linkCode (wr_Model_isLinked (n + 1)) 0 (Int32.ofNat c) Q M := by
  have hb := h.1
  have hcl := hb.cl
  have h51 := hb.l51
  have l138 : ∀ {t M}, LKt G US A S W w br nq nl nf nk t M → mL M 138 w = 51 := fun h => h.1.1.1.1.1.2.2.2.2.2.2
  unfold wk_Model_linkCode
  refine ct_directs (told := true) hb.r45 hcl hc (fun m0 hm0 => ct_upFrom (told := true) hb.r45 hcl (fun d hd hdm => edge_lt hc ((hm0 d hd).mp hdm)) (fun m hm => ?_))
  have hring : bs m c = true ↔ ring W c := by
    rw [hm c (by omega)]
    constructor
    · rintro ⟨v, hv, hv0, hr⟩; exact ⟨v, (hm0 v hv).mp hv0, hr⟩
    · rintro ⟨v, hv, hr⟩
      have := edge_lt hc hv
      exact ⟨v, by omega, (hm0 v (by omega)).mpr hv, hr⟩
  unfold askF at hQ
  by_cases hr : ring W c
  · refine itp ((bs_test (by omega)).mpr (hring.mpr hr)) ?_
    rw [if_pos (ringB_iff.mpr hr)] at hQ
    exact hQ M h (LoL.rf _ _)
  refine itn (fun z => hr (hring.mp ((bs_test (by omega)).mp z))) ⟨w, hb.r45, ?_⟩
  rw [if_neg (fun z => hr (ringB_iff.mp z))] at hQ
  obtain ⟨⟨r37, rp, -⟩, ⟨r39, f4, r38⟩, -⟩ := hcl.2.2 c hc
  rw [oN_tnc (k := c) (by omega), r37, hcl.2.1.1]
  refine ⟨(vp_oN (by omega)).mpr (by omega), ct_findP hb.r45 hcl rp ?_⟩
  cases hp : fnd W (gc W c).2.1 with
  | none =>
    rw [hp] at hQ
    exact itn (show ¬ (0 : Int32) ≤ -2 by decide) (hQ M h (LoL.rf _ _))
  | some p =>
  rw [hp] at hQ
  simp only at hQ
  have hpl := fnd_lt hp
  have ep := edge_par hp
  have r40 := (hcl.2.2 p hpl).2.2
  refine itp (le_oN (a := 0) (Nat.zero_le _) (by omega)) ?_
  have go : (brk br 3 && decide (¬ (gc W p).2.2.2.1 &&& 5 = 0)) = false → wk_Model_linkCode_j72 (wr_Model_isLinked (n + 1)) 0 Q (Int32.ofNat c) (Int32.ofNat p) M := fun e => by
    rw [e] at hQ
    simp only [Bool.false_eq_true, if_false] at hQ
    unfold wk_Model_linkCode_j72
    -- faces, looked at
    have loop1 : ∀ m j, (gc W c).2.2.1.length - j < m → j ≤ (gc W c).2.2.1.length → badF W (gc W c).2.2.1 = badF W ((gc W c).2.2.1.drop j) → wk_Model_linkCode_L74 (wr_Model_isLinked (n + 1)) 0 Q m (Int32.ofNat c) (Int32.ofNat p) (Int32.ofNat j) M := by
      intro m
      induction m with
      | zero => intro j hm; exact absurd hm (by omega)
      | succ m ih =>
        intro j hm hj he
        unfold wk_Model_linkCode_L74
        refine ⟨w, hb.r45, ?_⟩
        rw [oN_tnc (k := c) (by omega), r39, hcl.2.1.2.2.1]
        refine ⟨(vp_oN (by omega)).mpr (by omega), ?_⟩
        by_cases cj : (gc W c).2.2.1.length ≤ j
        · refine itp (le_oN (by omega) (by omega)) ?_
          rw [List.drop_eq_nil_of_le cj] at he
          replace he : badF W (gc W c).2.2.1 = none := he
          rw [he] at hQ
          simp only at hQ
          refine hKc hr p ep s M _ hI h (fun M2 h2 lo2 => ?_)
          by_cases c1 : (lkN br W (n + 1) s p).1 = 1
          · rw [decide_eq_true c1]
            refine itn (by decide) ?_
            simp only [if_pos c1] at hQ
            have hI2 : LInv W (lkN br W (n + 1) s p).2.1 := lkN_inv (n + 1) s p hpl (by have := rk_lt hc ep hr; omega) hI
            have hp2 : (lkN br W (n + 1) s p).2.1 p = 1 := by rw [lkN_own, c1]
            generalize (lkN br W (n + 1) s p).2 = t at hQ h2 hI2 hp2
            have hbn := he
            clear c1 he ih
            -- faces, linked
            have loop2 : ∀ m j t M2, (gc W c).2.2.1.length - j < m → j ≤ (gc W c).2.2.1.length → LKt G US A S W w br nq nl nf nk t M2 → LInv W t.1 → t.1 p = 1 → LoL w M M2 → (∀ M', LKt G US A S W w br nq nl nf nk (match lkFs (lkN br W (n + 1)) W ((gc W c).2.2.1.drop j) t with | (some r, s2) => (r, s2) | (none, s2) => lkEnd br W c s2).2 M' → LoL w M M' → Q (if (match lkFs (lkN br W (n + 1)) W ((gc W c).2.2.1.drop j) t with | (some r, s2) => (r, s2) | (none, s2) => lkEnd br W c s2).1 = 1 then 0 else (match lkFs (lkN br W (n + 1)) W ((gc W c).2.2.1.drop j) t with | (some r, s2) => (r, s2) | (none, s2) => lkEnd br W c s2).1) M') → wk_Model_linkCode_L160 (wr_Model_isLinked (n + 1)) 0 Q m (Int32.ofNat c) (Int32.ofNat j) M2 := by
              intro m
              induction m with
              | zero => intro j t M2 hm; exact absurd hm (by omega)
              | succ m ih =>
                intro j t M2 hm hj h2 hI2 hp2 lo12 hQ
                have hcl2 := h2.1.cl
                obtain ⟨-, ⟨r39, f4, r38⟩, -⟩ := hcl2.2.2 c hc
                unfold wk_Model_linkCode_L160
                refine ⟨w, h2.1.r45, ?_⟩
                rw [oN_tnc (k := c) (by omega), r39, hcl2.2.1.2.2.1]
                refine ⟨(vp_oN (by omega)).mpr (by omega), ?_⟩
                by_cases cj : (gc W c).2.2.1.length ≤ j
                · refine itp (le_oN (by omega) (by omega)) ?_
                  rw [List.drop_eq_nil_of_le cj] at hQ
                  exact ct_linkEnd h2 hWF hI2 hc h21 hr hp hp2 (fun M' a b => hQ M' a (lo12.trans b))
                have hjl : j < (gc W c).2.2.1.length := by omega
                obtain ⟨e38, m38⟩ := r38 j hjl
                refine itn (nle_oN (by omega) (by omega)) ⟨w, h2.1.r45, ?_⟩
                rw [show (4 : Int32) * Int32.ofNat c = Int32.ofNat (4 * c) from oN_mul 4 c, oN_add, oN_tnc (k := 4 * c + j) (by omega), e38, hcl2.2.1.2.1]
                refine ⟨(vp_oN (by omega)).mpr (by omega), ct_classOf h2.1.r45 hcl2.1 m38 ?_⟩
                rw [lkFs_drop hjl] at hQ
                have hQ := hQ
                cases ef : fnd W (gf (gc W c) j) with
                | none =>
                  have hb := (badF_none (W := W) (L := (gc W c).2.2.1) hbn (gf (gc W c) j) (by
                    show (gc W c).2.2.1.getD j [] ∈ _
                    rw [List.getD_eq_getElem?_getD, List.getElem?_eq_getElem hjl]; exact List.getElem_mem hjl))
                  rw [ef] at hb
                  exact hb.elim fun d q => by cases q
                | some d =>
                  have ed : edge true W c d := edge_face (by
                    show (gc W c).2.2.1.getD j [] ∈ _
                    rw [List.getD_eq_getElem?_getD, List.getElem?_eq_getElem hjl]; exact List.getElem_mem hjl) ef
                  have hdl := edge_lt hc ed
                  have ef' : fnd W ((gc W c).2.2.1.getD j []) = some d := ef
                  rw [ef'] at hQ
                  simp only at hQ
                  refine hKc hr d ed t M2 _ hI2 h2 (fun M3 h3 lo3 => ?_)
                  by_cases c1 : (lkN br W (n + 1) t d).1 = 1
                  · rw [decide_eq_true c1]
                    refine itn (by decide) ?_
                    simp only [if_pos c1] at hQ
                    rw [show Int32.ofNat j + (1 : Int32) = Int32.ofNat (j + 1) from oN_add j 1]
                    refine ih (j + 1) _ M3 (by omega) (by omega) h3 (lkN_inv (n + 1) t d hdl (by have := rk_lt hc ed hr; omega) hI2) ?_ (lo12.trans lo3) hQ
                    rw [lkN_kp (n + 1) t d p (by rw [hp2]; decide)]; exact hp2
                  · rw [decide_eq_false c1]
                    refine itp rfl ⟨w, h3.1.r45, ?_⟩
                    simp only [if_neg c1] at hQ
                    show vp_in (Int32.ofNat d) (mL M3 138 w) ∧ Q (mI M3 138 w (Int32.ofNat d).toNatClampNeg) M3
                    rw [oN_tnc (k := d) (by omega), h3.2.1 d hdl, lkN_own, l138 h3]
                    exact ⟨(vp_oN (by omega)).mpr (by omega), hQ M3 h3 (lo12.trans lo3)⟩
            exact ⟨(gc W c).2.2.1.length + 1, loop2 _ 0 t M2 (by omega) (by omega) h2 hI2 hp2 lo2 (by rw [List.drop_zero]; exact hQ)⟩
          · rw [decide_eq_false c1]
            refine itp rfl ⟨w, h2.1.r45, ?_⟩
            simp only [if_neg c1] at hQ
            show vp_in (Int32.ofNat p) (mL M2 138 w) ∧ Q (mI M2 138 w (Int32.ofNat p).toNatClampNeg) M2
            rw [oN_tnc (k := p) (by omega), h2.2.1 p hpl, lkN_own, l138 h2]
            exact ⟨(vp_oN (by omega)).mpr (by omega), hQ M2 h2 lo2⟩
        have hjl : j < (gc W c).2.2.1.length := by omega
        obtain ⟨e38, m38⟩ := r38 j hjl
        refine itn (nle_oN (by omega) (by omega)) ⟨w, hb.r45, ?_⟩
        rw [show (4 : Int32) * Int32.ofNat c = Int32.ofNat (4 * c) from oN_mul 4 c, oN_add, oN_tnc (k := 4 * c + j) (by omega), e38, hcl.2.1.2.1]
        refine ⟨(vp_oN (by omega)).mpr (by omega), ct_classOf hb.r45 hcl.1 m38 ?_⟩
        rw [badF_drop hjl] at he
        cases ef : fnd W (gf (gc W c) j) with
        | none =>
          have ef' : fnd W ((gc W c).2.2.1.getD j []) = none := ef
          rw [ef'] at he
          rw [he] at hQ
          exact itn (show ¬ (0 : Int32) ≤ -2 by decide) (hQ M h (LoL.rf _ _))
        | some d =>
          have ef' : fnd W ((gc W c).2.2.1.getD j []) = some d := ef
          rw [ef'] at he
          have hdl := fnd_lt ef
          have r40d := (hcl.2.2 d hdl).2.2
          refine itp (le_oN (a := 0) (Nat.zero_le _) (by omega)) ⟨w, hb.r45, ?_⟩
          show vp_in (Int32.ofNat d) (mL M 132 w) ∧ (if mI M 132 w (Int32.ofNat d).toNatClampNeg &&& (4 : Int32) = 0 then _ else _)
          rw [oN_tnc (k := d) (by omega), r40d, hcl.2.1.2.2.2]
          refine ⟨(vp_oN (by omega)).mpr (by omega), ?_⟩
          simp only at he
          by_cases eF : (gc W d).2.2.2.1 &&& 4 = 0
          · have : isFc W d = false := by unfold isFc; exact decide_eq_false (fun z => z eF)
            rw [this] at he
            rw [he] at hQ
            exact itp eF (hQ M h (LoL.rf _ _))
          · have : isFc W d = true := by unfold isFc; exact decide_eq_true eF
            rw [this] at he
            refine itn eF ?_
            rw [show Int32.ofNat j + (1 : Int32) = Int32.ofNat (j + 1) from oN_add j 1]
            exact ih (j + 1) (by omega) (by omega) he
    exact ⟨(gc W c).2.2.1.length + 1, loop1 _ 0 (by omega) (by omega) (by rw [List.drop_zero])⟩
  rw [lit32 3]
  refine ct_isOff hb.1.1.1.1 ?_
  cases eb : brk br 3 with
  | false => exact itn (by decide) (go (by rw [eb]; rfl))
  | true =>
    refine itp rfl ⟨w, hb.r45, ?_⟩
    show vp_in (Int32.ofNat p) (mL M 132 w) ∧ (if mI M 132 w (Int32.ofNat p).toNatClampNeg &&& (5 : Int32) = 0 then _ else _)
    rw [oN_tnc (k := p) (by omega), r40, hcl.2.1.2.2.2]
    refine ⟨(vp_oN (by omega)).mpr (by omega), ?_⟩
    by_cases c5 : (gc W p).2.2.2.1 &&& 5 = 0
    · exact itp c5 (go (by rw [eb, decide_eq_false (fun z => z c5)]; rfl))
    · refine itn c5 ?_
      rw [eb, decide_eq_true c5] at hQ
      exact hQ M h (LoL.rf _ _)
/-- linking a class -/
theorem ct_linkN (hWF : WF W) : ∀ n c s M Q, LKt G US A S W w br nq nl nf nk s M → LInv W s.1 → c < W.length → rk W c < n → (∀ M', LKt G US A S W w br nq nl nf nk (lkN br W n s c).2 M' → LoL w M M' → Q (b2 (decide ((lkN br W n s c).1 = 1))) M') → wr_Model_isLinked n 0 (Int32.ofNat c) Q M := by
  intro n
  induction n with
  | zero => intro c s M Q _ _ _ hn; exact absurd hn (by omega)
  | succ n ih =>
    intro c s M Q h hI hc hn hQ
    have h51 := h.1.l51
    have l138 : ∀ {t M}, LKt G US A S W w br nq nl nf nk t M → mL M 138 w = 51 := fun h => h.1.1.1.1.1.2.2.2.2.2.2
    have hp := rk_pos hc
    obtain ⟨m, em⟩ : ∃ m, n = m + 1 := ⟨n - 1, by omega⟩
    subst em
    show wk_Model_isLinked (wr_Model_isLinked (m + 1)) 0 (Int32.ofNat c) Q M
    unfold wk_Model_isLinked
    unfold lkN at hQ
    refine ⟨w, h.1.r45, ?_⟩
    rw [oN_tnc (k := c) (by omega), h.2.1 c hc, l138 h]
    refine ⟨(vp_oN (by omega)).mpr (by omega), ?_⟩
    have fin : ∀ {t M1} {r : Int32}, LKt G US A S W w br nq nl nf nk t M1 → t.1 c = r → Q (b2 (decide (r = 1))) M1 → wk_Model_isLinked_j36 (wr_Model_isLinked (m + 1)) 0 Q (Int32.ofNat c) M1 := fun {t M1 r} h1 e q => by
      unfold wk_Model_isLinked_j36
      refine ⟨w, h1.1.r45, ?_⟩
      rw [oN_tnc (k := c) (by omega), h1.2.1 c hc, l138 h1, e]
      refine ⟨(vp_oN (by omega)).mpr (by omega), ?_⟩
      by_cases er : r = 1
      · rw [decide_eq_true er] at q; exact itp er q
      · rw [decide_eq_false er] at q; exact itn er q
    by_cases h0 : s.1 c = 0
    · rw [if_pos h0] at hQ
      have h21 : 21 ≤ c := by
        by_cases x : 21 ≤ c
        · exact x
        · have := hI.1.2.2.2.2 c (by omega)
          rw [h0] at this; exact absurd this (by decide)
      refine itp h0 (ct_linkCode (n := m) h hWF hI hc h21 hn (fun hr d hd t M1 Q1 hI1 h1 hQ1 => ih d t M1 Q1 h1 hI1 (edge_lt hc hd) (by have := rk_lt hc hd hr; omega) hQ1) (fun M1 h1 lo1 => ⟨w, h1.1.r45, ?_⟩))
      have hset : ∀ v : Int32, (askF br W (lkN br W (m + 1)) s c).1 = v → wk_Model_isLinked_j35 (wr_Model_isLinked (m + 1)) 0 Q (Int32.ofNat c) v (Int32.ofNat c) w M1 := fun v ev => by
        unfold wk_Model_isLinked_j35
        obtain ⟨h2, lo2⟩ := h1.w138 (c := c) (r := v)
        rw [l138 h1, oN_tnc (k := c) (by omega)]
        refine ⟨(vp_oN (by omega)).mpr (by omega), fin h2 (r := v) (by show LSm _ c v c = v; unfold LSm; rw [if_pos rfl]) ?_⟩
        have := hQ _ (by rw [ev]; exact h2) (lo1.trans lo2)
        rw [ev] at this; exact this
      have hne0 : (askF br W (lkN br W (m + 1)) s c).1 = 0 → False := askF_ne0 (fun hr s d hd => lkN_ne0 (m + 1) s d (edge_lt hc hd) (by have := rk_lt hc hd hr; omega)) s
      by_cases e1 : (askF br W (lkN br W (m + 1)) s c).1 = 1
      · rw [if_pos e1]; exact itp rfl (hset 1 e1)
      · rw [if_neg e1]; exact itn hne0 (hset _ rfl)
    · rw [if_neg h0] at hQ
      exact itn h0 (fin h rfl (hQ M h (LoL.rf _ _)))
theorem ct_isLinked (hWF : WF W) (h : LKt G US A S W w br nq nl nf nk s M) (hI : LInv W s.1) (hc : c < W.length) (hQ : ∀ M', LKt G US A S W w br nq nl nf nk (lkN br W 60 s c).2 M' → LInv W (lkN br W 60 s c).2.1 → LoL w M M' → Fr F_Model_isLinked M M' → Q (b2 (decide ((lkN br W 60 s c).1 = 1))) M') : w_Model_isLinked 0 (Int32.ofNat c) Q M := by
  have h51 := h.1.l51
  have hr := rk_le (W := W) (c := c)
  refine ⟨60, by omega, mf_wr_Model_isLinked 60 (Q := fun r M' => r = b2 (decide ((lkN br W 60 s c).1 = 1)) ∧ LKt G US A S W w br nq nl nf nk (lkN br W 60 s c).2 M' ∧ LoL w M M') (fun r M' hf ⟨e, a, b⟩ => ?_) (ct_linkN hWF 60 c s M _ h hI hc (by omega) (fun M' a b => ⟨rfl, a, b⟩))⟩
  rw [e]
  exact hQ M' a (lkN_inv 60 s c hc (by omega) hI) b hf
end
