/-! the twin writes a class -/
def txFd (x : Fld) : List Int32 := stW 29 ++ txF x.2.2.1 ++ x.1 ++ [32] ++ kdW x.2.1 ++ (if x.2.2.2.2 = true then stW 33 ++ dgi x.2.2.2.1 else []) ++ [10]
def txFds (c : Cls) : Nat → List Int32
  | 0 => []
  | k + 1 => txFds c k ++ txFd (gfl c k)
noncomputable def txMs (c : Cls) : Nat → List Int32
  | 0 => []
  | k + 1 => txMs c k ++ txM (gmt c k)
def txFc (c : Cls) : Nat → List Int32
  | 0 => []
  | k + 1 => txFc c k ++ ([44, 32] ++ gf c k)
def txHe (c : Cls) : List Int32 := fl1 c.2.2.2.1 1 (wA 69) ++ fl1 c.2.2.2.1 2 (wA 70) ++ fl1 c.2.2.2.1 4 (wA 71) ++ stW 26 ++ c.1 ++ [58, 32] ++ c.2.1
noncomputable def txC (c : Cls) : List Int32 := txHe c ++ txFc c c.2.2.1.length ++ [10] ++ txFds c c.2.2.2.2.1.length ++ txMs c c.2.2.2.2.2.length ++ stW 14 ++ [10]
theorem txFds_mono {c : Cls} {i : Nat} : ∀ {k : Nat}, i ≤ k → (txFds c i).length ≤ (txFds c k).length
  | 0, h => by rw [show i = 0 by omega]; exact Nat.le_refl _
  | k + 1, h => by
    by_cases e : i = k + 1
    · rw [e]; exact Nat.le_refl _
    · have := txFds_mono (c := c) (i := i) (k := k) (by omega)
      show _ ≤ (txFds c k ++ txFd (gfl c k)).length
      rw [List.length_append]; omega
theorem txMs_mono {c : Cls} {i : Nat} : ∀ {k : Nat}, i ≤ k → (txMs c i).length ≤ (txMs c k).length
  | 0, h => by rw [show i = 0 by omega]; exact Nat.le_refl _
  | k + 1, h => by
    by_cases e : i = k + 1
    · rw [e]; exact Nat.le_refl _
    · have := txMs_mono (c := c) (i := i) (k := k) (by omega)
      show _ ≤ (txMs c k ++ txM (gmt c k)).length
      rw [List.length_append]; omega
theorem txFc_mono {c : Cls} {i : Nat} : ∀ {k : Nat}, i ≤ k → (txFc c i).length ≤ (txFc c k).length
  | 0, h => by rw [show i = 0 by omega]; exact Nat.le_refl _
  | k + 1, h => by
    by_cases e : i = k + 1
    · rw [e]; exact Nat.le_refl _
    · have := txFc_mono (c := c) (i := i) (k := k) (by omega)
      show _ ≤ (txFc c k ++ ([44, 32] ++ gf c k)).length
      rw [List.length_append]; omega
section
variable {G : List Sl} {US : UST} {A : List Nm} {S : List Sg} {W : List Cls} {w : Nat} {br : Int32} {nq nl nf nk : Nat} {P P' : List Int32} {M M1 M' : Mem} {Q : Int32 → Mem → Prop} {k f q d m q0 c j : Nat} {v : Int32} {x : Mth} {i : Ins}
/-- a class while it is written -/
def TPc (G : List Sl) (US : UST) (A : List Nm) (S : List Sg) (W : List Cls) (w : Nat) (br : Int32) (nq nl nf nk : Nat) (c : Nat) (P : List Int32) (M : Mem) : Prop := (TPn G US A S W w br nq nl nf nk P M ∧ mL M 518 0 = 81) ∧ c < W.length ∧ c < 51 ∧ (∀ m ∈ (gc W c).2.2.2.2.2, wfM m) ∧ (∀ f, f < (gc W c).2.2.2.2.1.length → tyOk (gfl (gc W c) f).2.1) ∧ (gc W c).2.1 ≠ []
theorem TPc.pf {R : Nat} (h : TPc G US A S W w br nq nl nf nk c P M) (h1 : TPn G US A S W w br nq nl nf nk P' M') (f1 : PgF G R M M') (hR : R.testBit 5518 = false := by rfl) : TPc G US A S W w br nq nl nf nk c P' M' := ⟨⟨h1, (f1.2.1.L hR 0).trans h.1.2⟩, h.2⟩
theorem TPc.rw (h : TPc G US A S W w br nq nl nf nk c P M) (e : P = P') : TPc G US A S W w br nq nl nf nk c P' M := e ▸ h
theorem ct_p325 (hl : P.length + (txMs (gc W c) (gc W c).2.2.2.2.2.length ++ stW 14 ++ [10]).length ≤ LPt) : ∀ n k M, k ≤ (gc W c).2.2.2.2.2.length → (gc W c).2.2.2.2.2.length - k < n → TPc G US A S W w br nq nl nf nk c (P ++ txMs (gc W c) k) M → (∀ M', TPc G US A S W w br nq nl nf nk c (P ++ (txMs (gc W c) (gc W c).2.2.2.2.2.length ++ stW 14 ++ [10])) M' → PgF G SPu M M' → Q (Int32.ofNat (P ++ (txMs (gc W c) (gc W c).2.2.2.2.2.length ++ stW 14 ++ [10])).length) M') → w_Model_print_L325 0 Q n (Int32.ofNat c) (Int32.ofNat (12 * c + k)) M
  | 0, k, M, hk, hn, h, hQ => absurd hn (by omega)
  | n + 1, k, M, hk, hn, h, hQ => by
    have hl' : P.length + (txMs (gc W c) (gc W c).2.2.2.2.2.length ++ stW 14 ++ [10]).length ≤ 26000 := hl
    simp only [List.length_append, List.length_singleton] at hl'
    obtain ⟨⟨hp, h518⟩, hc, hc51, hwf, -⟩ := id h
    obtain ⟨e136, h12⟩ := hp.1.1.mcn hc
    have l136 : mL M 136 w = 51 := hp.1.1.1.1.1.1.2.2.2.2.1
    unfold w_Model_print_L325
    refine ⟨w, hp.1.1.r45, by rw [l136]; exact (vp_oN (by omega)).mpr hc51, ?_⟩
    rw [oN_tnc (k := c) (by omega), e136, lit32 12, oN_mul, oN_add]
    by_cases e : k = (gc W c).2.2.2.2.2.length
    · subst e
      refine itp (le_oN (Nat.le_refl _) (by omega)) (ct_pW (k := 14) (by decide) hp (by simp only [List.length_append]; show _ ≤ 26000; omega) (fun M1 h1 f1 => ?_))
      refine ct_pb h1 (by simp only [List.length_append]; show _ < 26000; omega) (fun M2 h2 f2 => ?_)
      have f2 := f1.trans f2
      have e95 := h2.2.1
      have ee : P ++ txMs (gc W c) (gc W c).2.2.2.2.2.length ++ stW 14 ++ [10] = P ++ (txMs (gc W c) (gc W c).2.2.2.2.2.length ++ stW 14 ++ [10]) := by simp only [List.append_assoc]
      rw [ee] at h2 e95
      rw [e95]
      exact hQ M2 (h.pf h2 f2) f2.up
    have hkl : k < (gc W c).2.2.2.2.2.length := by omega
    have hm1 := txMs_mono (c := gc W c) (i := k + 1) (k := (gc W c).2.2.2.2.2.length) (by omega)
    have esx : txMs (gc W c) (k + 1) = txMs (gc W c) k ++ txM (gmt (gc W c) k) := rfl
    rw [esx, List.length_append] at hm1
    refine itn (nle_oN (by omega) (by omega)) (ct_pMt hc hkl rfl (hwf _ (getD_mem hkl)).q hp h518 (by simp only [List.length_append]; show _ ≤ 26000; omega) (fun M1 h1 f1 => ?_))
    rw [lit32 1, oN_add]
    refine ct_p325 hl n (k + 1) M1 (by omega) (by omega) ((h.pf h1 f1).rw ?_) (fun M2 h2 f2 => hQ M2 h2 (f1.trans f2))
    rw [esx, List.append_assoc]
theorem ct_p206 (hl : P.length + (txFds (gc W c) (gc W c).2.2.2.2.1.length ++ (txMs (gc W c) (gc W c).2.2.2.2.2.length ++ stW 14 ++ [10])).length ≤ LPt) : ∀ n k M, k ≤ (gc W c).2.2.2.2.1.length → (gc W c).2.2.2.2.1.length - k < n → TPc G US A S W w br nq nl nf nk c (P ++ txFds (gc W c) k) M → (∀ M', TPc G US A S W w br nq nl nf nk c (P ++ (txFds (gc W c) (gc W c).2.2.2.2.1.length ++ (txMs (gc W c) (gc W c).2.2.2.2.2.length ++ stW 14 ++ [10]))) M' → PgF G SPu M M' → Q (Int32.ofNat (P ++ (txFds (gc W c) (gc W c).2.2.2.2.1.length ++ (txMs (gc W c) (gc W c).2.2.2.2.2.length ++ stW 14 ++ [10]))).length) M') → w_Model_print_L206 0 Q n (Int32.ofNat c) (Int32.ofNat (8 * c + k)) M
  | 0, k, M, hk, hn, h, hQ => absurd hn (by omega)
  | n + 1, k, M, hk, hn, h, hQ => by
    have hl' : P.length + (txFds (gc W c) (gc W c).2.2.2.2.1.length ++ (txMs (gc W c) (gc W c).2.2.2.2.2.length ++ stW 14 ++ [10])).length ≤ 26000 := hl
    simp only [List.length_append, List.length_singleton] at hl'
    obtain ⟨⟨hp, h518⟩, hc, hc51, -, hty, -⟩ := id h
    have F0 := hp.1.1.fl
    obtain ⟨⟨e135, h8⟩, -⟩ := F0.2 c hc
    have l135 : mL M 135 w = 51 := hp.1.1.1.1.1.1.2.2.2.1
    unfold w_Model_print_L206
    refine ⟨w, hp.1.1.r45, by rw [l135]; exact (vp_oN (by omega)).mpr hc51, ?_⟩
    rw [oN_tnc (k := c) (by omega), e135, lit32 8, oN_mul, oN_add]
    by_cases e : k = (gc W c).2.2.2.2.1.length
    · subst e
      refine itp (le_oN (Nat.le_refl _) (by omega)) ⟨(gc W c).2.2.2.2.2.length + 1, ?_⟩
      rw [lit32 12, oN_mul]
      have ee : P ++ (txFds (gc W c) (gc W c).2.2.2.2.1.length ++ (txMs (gc W c) (gc W c).2.2.2.2.2.length ++ stW 14 ++ [10])) = P ++ txFds (gc W c) (gc W c).2.2.2.2.1.length ++ (txMs (gc W c) (gc W c).2.2.2.2.2.length ++ stW 14 ++ [10]) := by simp only [List.append_assoc]
      rw [ee] at hQ
      exact ct_p325 (by simp only [List.length_append, List.length_singleton]; show _ ≤ 26000; omega) _ 0 M (Nat.zero_le _) (by omega) (h.rw (by show _ = _ ++ []; rw [List.append_nil])) hQ
    have hkl : k < (gc W c).2.2.2.2.1.length := by omega
    have hm1 := txFds_mono (c := gc W c) (i := k + 1) (k := (gc W c).2.2.2.2.1.length) (by omega)
    have esx : txFds (gc W c) (k + 1) = txFds (gc W c) k ++ txFd (gfl (gc W c) k) := rfl
    rw [esx, List.length_append] at hm1
    have efd : txFd (gfl (gc W c) k) = stW 29 ++ txF (gfl (gc W c) k).2.2.1 ++ (gfl (gc W c) k).1 ++ [32] ++ kdW (gfl (gc W c) k).2.1 ++ (if (gfl (gc W c) k).2.2.2.2 = true then stW 33 ++ dgi (gfl (gc W c) k).2.2.2.1 else []) ++ [10] := rfl
    have hm2 := hm1
    rw [efd] at hm2
    simp only [List.length_append, List.length_singleton] at hm2
    have FF : ∀ {P2 : List Int32} {M2 : Mem}, TPn G US A S W w br nq nl nf nk P2 M2 → (mL M2 139 w = 408 ∧ mL M2 140 w = 408 ∧ mL M2 141 w = 408 ∧ mL M2 142 w = 408 ∧ mL M2 523 w = 408 ∧ mL M2 143 w = 408) := fun z => z.1.1.fl.1
    have FG := fun {P2 : List Int32} {M2 : Mem} (z : TPn G US A S W w br nq nl nf nk P2 M2) => (z.1.1.fl.2 c hc).2 k hkl
    have v4 : ∀ {n : Nat}, n = 408 → vp_in (Int32.ofNat (8 * c + k)) n := fun e => by rw [e]; exact (vp_oN (by omega)).mpr (by omega)
    refine itn (nle_oN (by omega) (by omega)) (ct_pW (k := 29) (by decide) hp (by simp only [List.length_append]; show _ ≤ 26000; omega) (fun M1 h1 f1 => ?_))
    obtain ⟨-, -, a141, -⟩ := FG h1
    refine ⟨w, h1.1.1.r45, v4 (FF h1).2.2.1, ?_⟩
    rw [oN_tnc (k := 8 * c + k) (by omega), a141]
    refine ct_pFl h1 (by simp only [List.length_append]; show _ ≤ 26000; omega) (fun M2 h2 f2 => ?_)
    obtain ⟨⟨a139, m139⟩, -⟩ := FG h2
    refine ⟨w, h2.1.1.r45, v4 (FF h2).1, ?_⟩
    rw [a139]
    refine ct_pNm m139 h2 (by simp only [List.length_append]; show _ ≤ 26000; omega) (fun M3 h3 f3 => ?_)
    refine ct_pb h3 (by simp only [List.length_append]; show _ < 26000; omega) (fun M4 h4 f4 => ?_)
    obtain ⟨-, ⟨a140, k140⟩, -⟩ := FG h4
    refine ⟨w, h4.1.1.r45, v4 (FF h4).2.1, ?_⟩
    rw [a140]
    refine ct_pTy (hty k hkl).kd k140 h4 (by simp only [List.length_append, List.length_singleton]; show _ ≤ 26000; omega) (fun M5 h5 f5 => ?_)
    have f5 := ((f1.trans f2).trans f3).trans (f4.trans f5)
    obtain ⟨-, -, -, -, a523⟩ := FG h5
    refine ⟨w, h5.1.1.r45, v4 (FF h5).2.2.2.2.1, ?_⟩
    rw [a523]
    have fin : ∀ P1 M6, TPn G US A S W w br nq nl nf nk P1 M6 → PgF G SPt M M6 → P1 ++ [10] = P ++ txFds (gc W c) k ++ txFd (gfl (gc W c) k) → w_Model_print_j308 0 Q (w_Model_print_L206 0 Q n) (Int32.ofNat c) (Int32.ofNat (8 * c + k)) M6 := fun P1 M6 h6 f6 e6 => by
      have el := congrArg List.length e6
      simp only [List.length_append, List.length_singleton] at el
      unfold w_Model_print_j308
      refine ct_pb h6 (show _ < 26000 by omega) (fun M7 h7 f7 => ?_)
      have f7 := f6.trans f7
      rw [lit32 1, oN_add]
      refine ct_p206 hl n (k + 1) M7 (by omega) (by omega) ((h.pf h7 f7).rw ?_) (fun M8 h8 f8 => hQ M8 h8 (f7.up.trans f8))
      rw [e6, esx, List.append_assoc]
    by_cases c5 : (gfl (gc W c) k).2.2.2.2 = true
    · rw [c5]
      rw [if_pos c5] at hm2 efd
      simp only [List.length_append] at hm2
      refine itn (by decide) (ct_pW (k := 33) (by decide) h5 (by simp only [List.length_append, List.length_singleton]; show _ ≤ 26000; omega) (fun M6 h6 f6 => ?_))
      obtain ⟨-, -, -, a142, -⟩ := FG h6
      refine ⟨w, h6.1.1.r45, v4 (FF h6).2.2.2.1, ?_⟩
      rw [a142]
      refine ct_pI h6 (by simp only [List.length_append, List.length_singleton]; show _ ≤ 26000; omega) (fun M7 h7 f7 => fin _ M7 h7 (f5.trans (f6.trans f7)) ?_)
      rw [efd]
      simp only [List.append_assoc]
    · rw [Bool.eq_false_iff.2 c5]
      rw [if_neg c5] at efd
      refine itp rfl (fin _ M5 h5 f5 ?_)
      rw [efd]
      simp only [List.append_assoc, List.nil_append, List.append_nil]
theorem ct_p152 (hl : P.length + (txFc (gc W c) (gc W c).2.2.1.length ++ ([10] ++ (txFds (gc W c) (gc W c).2.2.2.2.1.length ++ (txMs (gc W c) (gc W c).2.2.2.2.2.length ++ stW 14 ++ [10])))).length ≤ LPt) : ∀ n k M, k ≤ (gc W c).2.2.1.length → (gc W c).2.2.1.length - k < n → TPc G US A S W w br nq nl nf nk c (P ++ txFc (gc W c) k) M → (∀ M', TPc G US A S W w br nq nl nf nk c (P ++ (txFc (gc W c) (gc W c).2.2.1.length ++ ([10] ++ (txFds (gc W c) (gc W c).2.2.2.2.1.length ++ (txMs (gc W c) (gc W c).2.2.2.2.2.length ++ stW 14 ++ [10]))))) M' → PgF G SPu M M' → Q (Int32.ofNat (P ++ (txFc (gc W c) (gc W c).2.2.1.length ++ ([10] ++ (txFds (gc W c) (gc W c).2.2.2.2.1.length ++ (txMs (gc W c) (gc W c).2.2.2.2.2.length ++ stW 14 ++ [10]))))).length) M') → w_Model_print_L152 0 Q n (Int32.ofNat c) (Int32.ofNat k) M
  | 0, k, M, hk, hn, h, hQ => absurd hn (by omega)
  | n + 1, k, M, hk, hn, h, hQ => by
    have hl' : P.length + (txFc (gc W c) (gc W c).2.2.1.length ++ ([10] ++ (txFds (gc W c) (gc W c).2.2.2.2.1.length ++ (txMs (gc W c) (gc W c).2.2.2.2.2.length ++ stW 14 ++ [10])))).length ≤ 26000 := hl
    simp only [List.length_append, List.length_singleton] at hl'
    obtain ⟨⟨hp, h518⟩, hc, hc51, -⟩ := id h
    obtain ⟨-, ⟨l131, l133, l134, l132⟩, hcl⟩ := hp.1.1.cl
    obtain ⟨-, ⟨e134, h4, -⟩, -⟩ := hcl c hc
    unfold w_Model_print_L152
    refine ⟨w, hp.1.1.r45, by rw [l134]; exact (vp_oN (by omega)).mpr hc51, ?_⟩
    rw [oN_tnc (k := c) (by omega), e134]
    by_cases e : k = (gc W c).2.2.1.length
    · subst e
      refine itp (le_oN (Nat.le_refl _) (by omega)) (ct_pb hp (by simp only [List.length_append]; show _ < 26000; omega) (fun M1 h1 f1 => ⟨(gc W c).2.2.2.2.1.length + 1, ?_⟩))
      rw [lit32 8, oN_mul]
      have ee : P ++ (txFc (gc W c) (gc W c).2.2.1.length ++ ([10] ++ (txFds (gc W c) (gc W c).2.2.2.2.1.length ++ (txMs (gc W c) (gc W c).2.2.2.2.2.length ++ stW 14 ++ [10])))) = P ++ txFc (gc W c) (gc W c).2.2.1.length ++ [10] ++ (txFds (gc W c) (gc W c).2.2.2.2.1.length ++ (txMs (gc W c) (gc W c).2.2.2.2.2.length ++ stW 14 ++ [10])) := by simp only [List.append_assoc]
      rw [ee] at hQ
      exact ct_p206 (by simp only [List.length_append, List.length_singleton]; show _ ≤ 26000; omega) _ 0 M1 (Nat.zero_le _) (by omega) ((h.pf h1 f1).rw (by show _ = _ ++ []; rw [List.append_nil])) (fun M2 h2 f2 => hQ M2 h2 (f1.up.trans f2))
    have hkl : k < (gc W c).2.2.1.length := by omega
    have hm1 := txFc_mono (c := gc W c) (i := k + 1) (k := (gc W c).2.2.1.length) (by omega)
    have esx : txFc (gc W c) (k + 1) = txFc (gc W c) k ++ ([44, 32] ++ gf (gc W c) k) := rfl
    have e28 : stW 28 = [44, 32] := rfl
    rw [esx, List.length_append, List.length_append] at hm1
    simp only [List.length_cons, List.length_nil] at hm1
    refine itn (nle_oN (by omega) (by omega)) (ct_pW (k := 28) (by decide) hp (by rw [e28]; simp only [List.length_append, List.length_cons, List.length_nil]; show _ ≤ 26000; omega) (fun M1 h1 f1 => ?_))
    rw [e28] at h1
    obtain ⟨-, ⟨-, l133, -⟩, hcl⟩ := h1.1.1.cl
    obtain ⟨-, ⟨-, -, hfc⟩, -⟩ := hcl c hc
    obtain ⟨e133, m133⟩ := hfc k hkl
    refine ⟨w, h1.1.1.r45, ?_⟩
    rw [lit32 4, oN_mul, oN_add, l133, oN_tnc (k := 4 * c + k) (by omega), e133]
    refine ⟨(vp_oN (by omega)).mpr (by omega), ct_pNm m133 h1 (by simp only [List.length_append, List.length_cons, List.length_nil]; show _ ≤ 26000; omega) (fun M2 h2 f2 => ?_)⟩
    have f2 := f1.trans f2
    rw [lit32 1, oN_add]
    refine ct_p152 hl n (k + 1) M2 (by omega) (by omega) ((h.pf h2 f2).rw ?_) (fun M3 h3 f3 => hQ M3 h3 (f2.up.trans f3))
    rw [esx]
    simp only [List.append_assoc]
theorem ct_pCl (h : TPc G US A S W w br nq nl nf nk c [] M) (hl : (txC (gc W c)).length ≤ LPt) (hQ : ∀ M', TPc G US A S W w br nq nl nf nk c (txC (gc W c)) M' → PgF G SPu M M' → Q (Int32.ofNat (txC (gc W c)).length) M') : ∃ i7, mR M 11 0 45 = some (12, i7) ∧ vp_in (Int32.ofNat c) (mL M 132 i7) ∧ if mI M 132 i7 (Int32.ofNat c).toNatClampNeg &&& 1 = 0 then w_Model_print_j52 0 Q (Int32.ofNat c) 0 M else w_Model_print_j52 0 Q (Int32.ofNat c) 1 M := by
  have hl : (txC (gc W c)).length ≤ 26000 := hl
  have ex : txC (gc W c) = txHe (gc W c) ++ (txFc (gc W c) (gc W c).2.2.1.length ++ ([10] ++ (txFds (gc W c) (gc W c).2.2.2.2.1.length ++ (txMs (gc W c) (gc W c).2.2.2.2.2.length ++ stW 14 ++ [10])))) := by
    unfold txC
    simp only [List.append_assoc]
  rw [ex] at hl hQ
  rw [List.length_append] at hl
  have ehe : txHe (gc W c) = fl1 (gc W c).2.2.2.1 1 (wA 69) ++ fl1 (gc W c).2.2.2.1 2 (wA 70) ++ fl1 (gc W c).2.2.2.1 4 (wA 71) ++ stW 26 ++ (gc W c).1 ++ [58, 32] ++ (gc W c).2.1 := rfl
  have hl2 := hl
  rw [ehe] at hl2
  simp only [List.length_append, List.length_cons, List.length_nil] at hl2
  obtain ⟨⟨hp, h518⟩, hc, hc51, -, -, hpar⟩ := id h
  have L : ∀ {P2 : List Int32} {M2 : Mem}, TPn G US A S W w br nq nl nf nk P2 M2 → (vp_in (Int32.ofNat c) (mL M2 132 w) ∧ vp_in (Int32.ofNat c) (mL M2 130 w) ∧ vp_in (Int32.ofNat c) (mL M2 131 w)) ∧ mI M2 132 w c = (gc W c).2.2.2.1 ∧ (mI M2 130 w c = nc A (gc W c).1 ∧ (gc W c).1 ∈ A) ∧ mI M2 131 w c = nc A (gc W c).2.1 ∧ (gc W c).2.1 ∈ A := fun z => by
    obtain ⟨nm, ⟨l131, l133, l134, l132⟩, hcl⟩ := z.1.1.cl
    obtain ⟨⟨e131, m131, -⟩, -, e132⟩ := hcl c hc
    refine ⟨⟨by rw [l132]; exact (vp_oN (by omega)).mpr hc51, ?_, by rw [l131]; exact (vp_oN (by omega)).mpr hc51⟩, e132, ?_, ?_⟩
    · rw [nm.1.2.1]; exact (vp_oN (by omega)).mpr hc51
    · exact nm.2 c hc
    · have m2 := m131.resolve_left hpar
      refine ⟨?_, m2⟩
      rw [e131]
      unfold pcT
      rw [if_neg hpar]
  have tc : (Int32.ofNat c).toNatClampNeg = c := oN_tnc (by omega)
  refine ⟨w, hp.1.1.r45, (L hp).1.1, ?_⟩
  rw [tc, (L hp).2.1]
  unfold w_Model_print_j52
  refine ct_fl (kk := 23) (nm := wA 69) (by decide) (by decide +kernel) hp (by show _ ≤ 26000; simp only [List.length_nil]; omega) (fun M1 h1 f1 => ?_)
  refine ⟨w, h1.1.1.r45, (L h1).1.1, ?_⟩
  rw [tc, (L h1).2.1]
  unfold w_Model_print_j78
  refine ct_fl (kk := 24) (nm := wA 70) (by decide) (by decide +kernel) h1 (by show _ ≤ 26000; simp only [List.length_append, List.length_nil]; omega) (fun M2 h2 f2 => ?_)
  refine ⟨w, h2.1.1.r45, (L h2).1.1, ?_⟩
  rw [tc, (L h2).2.1]
  unfold w_Model_print_j104
  refine ct_fl (kk := 25) (nm := wA 71) (by decide) (by decide +kernel) h2 (by show _ ≤ 26000; simp only [List.length_append, List.length_nil]; omega) (fun M3 h3 f3 => ?_)
  refine ct_pW (k := 26) (by decide) h3 (by show _ ≤ 26000; simp only [List.length_append, List.length_nil]; omega) (fun M4 h4 f4 => ?_)
  refine ⟨w, h4.1.1.r45, (L h4).1.2.1, ?_⟩
  rw [tc, (L h4).2.2.1.1]
  refine ct_pNm (L h4).2.2.1.2 h4 (by show _ ≤ 26000; simp only [List.length_append, List.length_nil]; omega) (fun M5 h5 f5 => ?_)
  have e27 : stW 27 = [58, 32] := rfl
  refine ct_pW (k := 27) (by decide) h5 (by rw [e27]; show _ ≤ 26000; simp only [List.length_append, List.length_cons, List.length_nil]; omega) (fun M6 h6 f6 => ?_)
  rw [e27] at h6
  refine ⟨w, h6.1.1.r45, (L h6).1.2.2, ?_⟩
  rw [(L h6).2.2.2.1]
  refine ct_pNm (L h6).2.2.2.2 h6 (by show _ ≤ 26000; simp only [List.length_append, List.length_cons, List.length_nil]; omega) (fun M7 h7 f7 => ⟨(gc W c).2.2.1.length + 1, ?_⟩)
  have f7 := ((f1.trans f2).trans (f3.trans f4)).trans ((f5.trans f6).trans f7)
  have h7 : TPn G US A S W w br nq nl nf nk (txHe (gc W c)) M7 := by
    rw [ehe]
    simpa only [List.append_assoc, List.nil_append] using h7
  exact ct_p152 (by show _ ≤ 26000; omega) _ 0 M7 (Nat.zero_le _) (by omega) ((h.pf h7 f7).rw (by show _ = _ ++ []; rw [List.append_nil])) (fun M8 h8 f8 => hQ M8 h8 (f7.up.trans f8))
end
