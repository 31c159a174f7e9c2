/-! the twin writes a method -/
noncomputable def txCs (x : Mth) : Nat → List Int32
  | 0 => []
  | k + 1 => txCs x k ++ txC1 x k
noncomputable def txEl (x : Mth) : List Int32 := if tls x (co x).length = true then [32, 32] ++ txL x (co x).length ++ [58] ++ [10] else []
noncomputable def txHn (x : Mth) (y : Hnd) : List Int32 := stW 41 ++ txL x y.1 ++ [32] ++ txL x y.2.1 ++ [32] ++ txL x y.2.2.1 ++ [32] ++ y.2.2.2 ++ [10]
noncomputable def txHs (x : Mth) : Nat → List Int32
  | 0 => []
  | k + 1 => txHs x k ++ txHn x (ghn (hs x) k)
def txMh (x : Mth) : List Int32 := stW 34 ++ txF x.2.2.2.1 ++ x.1 ++ txT x.2.1 x.2.2.1 ++ [10]
def txRm (x : Mth) : List Int32 := stW 37 ++ dgi x.2.2.2.2.1 ++ [32] ++ dgi x.2.2.2.2.2.1 ++ [10]
noncomputable def txM (x : Mth) : List Int32 := txMh x ++ (if x.2.2.2.1 &&& 8 = 0 then txRm x ++ (txCs x (co x).length ++ (txEl x ++ txHs x (hs x).length)) else [])
theorem txHs_mono {x : Mth} {i : Nat} : ∀ {k : Nat}, i ≤ k → (txHs x i).length ≤ (txHs x k).length
  | 0, h => by rw [show i = 0 by omega]; exact Nat.le_refl _
  | k + 1, h => by
    by_cases e : i = k + 1
    · rw [e]; exact Nat.le_refl _
    · have := txHs_mono (x := x) (i := i) (k := k) (by omega)
      show _ ≤ (txHs x k ++ txHn x (ghn (hs x) k)).length
      rw [List.length_append]; omega
theorem txCs_mono {x : Mth} {i : Nat} : ∀ {k : Nat}, i ≤ k → (txCs x i).length ≤ (txCs x k).length
  | 0, h => by rw [show i = 0 by omega]; exact Nat.le_refl _
  | k + 1, h => by
    by_cases e : i = k + 1
    · rw [e]; exact Nat.le_refl _
    · have := txCs_mono (x := x) (i := i) (k := k) (by omega)
      show _ ≤ (txCs x k ++ txC1 x k).length
      rw [List.length_append]; omega
section
variable {G : List Sl} {US : UST} {A : List Nm} {S : List Sg} {W : List Cls} {w : Nat} {br : Int32} {nq nl nf nk : Nat} {P P' : List Int32} {M M1 M' : Mem} {Q : Mem → Prop} {k f q d m q0 : Nat} {v : Int32} {x : Mth} {i : Ins}
theorem TMt.rw (h : TMt G US A S W w br nq nl nf nk m q0 x P M) (e : P = P') : TMt G US A S W w br nq nl nf nk m q0 x P' M := e ▸ h
theorem ct_m420 (hl : P.length + (txHs x (hs x).length).length ≤ LPt) : ∀ f i M, i ≤ (hs x).length → (hs x).length - i < f → TMt G US A S W w br nq nl nf nk m q0 x (P ++ txHs x i) M → tTd x M → (∀ M', TMt G US A S W w br nq nl nf nk m q0 x (P ++ txHs x (hs x).length) M' → PgF G SPt M M' → Q M') → w_Model_putMethod_L420 0 Q f (Int32.ofNat (8 * m + (hs x).length)) (Int32.ofNat (8 * m + i)) M
  | 0, i, M, hi, hf, h, hT, hQ => absurd hf (by omega)
  | f + 1, i, M, hi, hf, h, hT, hQ => by
    have hl' : P.length + (txHs x (hs x).length).length ≤ 26000 := hl
    obtain ⟨q1, q2, q3, q4, q5, q6⟩ := h.hb
    unfold w_Model_putMethod_L420
    by_cases e : i = (hs x).length
    · subst e
      exact itp (le_oN (Nat.le_refl _) (by omega)) (hQ M h (PgF.rf h.1.1.1.1.1.2.2.2))
    have hil : i < (hs x).length := by omega
    refine itn (nle_oN (by omega) (by omega)) ?_
    obtain ⟨⟨u0, -⟩, ⟨u1, -⟩, u2, -⟩ := tls_hQ h.2.2.2 hil
    have hm1 := txHs_mono (x := x) (i := i + 1) (k := (hs x).length) (by omega)
    have esx : txHs x (i + 1) = txHs x i ++ txHn x (ghn (hs x) i) := rfl
    rw [esx, List.length_append] at hm1
    have etx : txHn x (ghn (hs x) i) = stW 41 ++ txL x (ghn (hs x) i).1 ++ [32] ++ txL x (ghn (hs x) i).2.1 ++ [32] ++ txL x (ghn (hs x) i).2.2.1 ++ [32] ++ (ghn (hs x) i).2.2.2 ++ [10] := rfl
    rw [etx] at hm1
    simp only [List.length_append, List.length_singleton] at hm1
    have vin : ∀ (g : Nat) {P2 : List Int32} (M2 : Mem), TMt G US A S W w br nq nl nf nk m q0 x P2 M2 → 152 ≤ g → g ≤ 155 → vp_in (Int32.ofNat (8 * m + i)) (mL M2 g w) := fun g P2 M2 z z1 z2 => by
      rw [z.2.2.1.2.2 g z1 z2]; exact (vp_oN (by omega)).mpr (by omega)
    refine ct_pW (k := 41) (by decide) h.1.1 (by simp only [List.length_append]; show _ ≤ 26000; omega) (fun M1 h1 f1 => ?_)
    have g1 := h.pf h1 f1.up
    have t1 := hT.pf f1
    obtain ⟨a1, -⟩ := g1.2.1.2.2 i hil
    refine ⟨w, g1.1.1.1.1.r45, vin 152 M1 g1 (by omega) (by omega), ?_⟩
    rw [oN_tnc (k := 8 * m + i) (by omega), a1]
    refine ct_pLb q1 u0 t1 g1.1.1 (by simp only [List.length_append]; show _ ≤ 26000; omega) (fun M2 h2 f2 => ?_)
    refine ct_pb h2 (by simp only [List.length_append]; show _ < 26000; omega) (fun M3 h3 f3 => ?_)
    have f3 := f2.trans f3
    have g3 := g1.pf h3 f3.up
    have t3 := t1.pf f3
    obtain ⟨-, a2, -⟩ := g3.2.1.2.2 i hil
    refine ⟨w, g3.1.1.1.1.r45, vin 153 M3 g3 (by omega) (by omega), ?_⟩
    rw [a2]
    refine ct_pLb q1 u1 t3 g3.1.1 (by simp only [List.length_append, List.length_singleton]; show _ ≤ 26000; omega) (fun M4 h4 f4 => ?_)
    refine ct_pb h4 (by simp only [List.length_append, List.length_singleton]; show _ < 26000; omega) (fun M5 h5 f5 => ?_)
    have f5 := f4.trans f5
    have g5 := g3.pf h5 f5.up
    have t5 := t3.pf f5
    obtain ⟨-, -, a3, -⟩ := g5.2.1.2.2 i hil
    refine ⟨w, g5.1.1.1.1.r45, vin 154 M5 g5 (by omega) (by omega), ?_⟩
    rw [a3]
    refine ct_pLb q1 u2 t5 g5.1.1 (by simp only [List.length_append, List.length_singleton]; show _ ≤ 26000; omega) (fun M6 h6 f6 => ?_)
    refine ct_pb h6 (by simp only [List.length_append, List.length_singleton]; show _ < 26000; omega) (fun M7 h7 f7 => ?_)
    have f7 := f6.trans f7
    have g7 := g5.pf h7 f7.up
    have t7 := t5.pf f7
    obtain ⟨-, -, -, a4, mm⟩ := g7.2.1.2.2 i hil
    have fin : w_Model_putMethod_j525 0 Q (w_Model_putMethod_L420 0 Q f) (Int32.ofNat (8 * m + (hs x).length)) (Int32.ofNat (8 * m + i)) (nc A (ghn (hs x) i).2.2.2) M7 := by
      unfold w_Model_putMethod_j525
      refine ct_pNm mm g7.1.1 (by simp only [List.length_append, List.length_singleton]; show _ ≤ 26000; omega) (fun M8 h8 f8 => ?_)
      refine ct_pb h8 (by simp only [List.length_append, List.length_singleton]; show _ < 26000; omega) (fun M9 h9 f9 => ?_)
      have f9 := f8.trans f9
      rw [lit32 1, oN_add]
      have fa := ((f1.trans f3).trans f5).trans (f7.trans f9)
      refine ct_m420 hl f (i + 1) M9 (by omega) (by omega) ((g7.pf h9 f9.up).rw ?_) (t7.pf f9) (fun Mz hz fz => hQ Mz hz (fa.trans fz))
      rw [esx, etx]
      simp only [List.append_assoc]
    refine ⟨w, g7.1.1.1.1.r45, vin 155 M7 g7 (by omega) (by omega), ?_⟩
    rw [a4]
    unfold anyC
    by_cases ea : (ghn (hs x) i).2.2.2 = nAny
    · rw [if_pos ea]
      have z := g7.1.1.1.1.1.2.2.1 (24, nAny) (by simp [kF])
      refine itn (by decide) ?_
      rw [z.1]
      rw [ea] at fin
      exact fin
    · rw [if_neg ea]
      have hA := g7.1.1.1.1.2.2.1
      have hi2 := List.idxOf_lt_length_of_mem mm
      refine itp ?_ ⟨w, g7.1.1.1.1.r45, vin 155 M7 g7 (by omega) (by omega), ?_⟩
      · unfold nc
        exact oN_zero_le (by omega)
      · rw [a4]
        unfold anyC
        rw [if_neg ea]
        exact fin
theorem ct_m359 {n : Nat} (hn : n = (co x).length) (hl : P.length + (txCs x (co x).length ++ (txEl x ++ txHs x (hs x).length)).length ≤ LPt) : ∀ f i M, i ≤ n → n - i < f → TMt G US A S W w br nq nl nf nk m q0 x (P ++ txCs x i) M → tTd x M → (∀ M', TMt G US A S W w br nq nl nf nk m q0 x (P ++ (txCs x (co x).length ++ (txEl x ++ txHs x (hs x).length))) M' → PgF G SPt M M' → Q M') → w_Model_putMethod_L359 0 Q f (Int32.ofNat m) (Int32.ofNat q0) (Int32.ofNat n) (Int32.ofNat (8 * m + (hs x).length)) (Int32.ofNat i) M
  | 0, i, M, hi, hf, h, hT, hQ => absurd hf (by omega)
  | f + 1, i, M, hi, hf, h, hT, hQ => by
    have hl' : P.length + (txCs x (co x).length ++ (txEl x ++ txHs x (hs x).length)).length ≤ 26000 := hl
    simp only [List.length_append] at hl'
    obtain ⟨q1, q2, q3, q4, q5, q6⟩ := h.hb
    unfold w_Model_putMethod_L359
    by_cases e : i = n
    · subst e
      rw [hn] at h
      have go : ∀ P1 M1, TMt G US A S W w br nq nl nf nk m q0 x P1 M1 → PgF G SPt M M1 → P1 = P ++ txCs x (co x).length ++ txEl x → w_Model_putMethod_j414 0 Q (Int32.ofNat m) (Int32.ofNat (8 * m + (hs x).length)) M1 := fun P1 M1 h1 f1 e1 => by
        subst e1
        unfold w_Model_putMethod_j414
        refine ⟨(hs x).length + 1, ?_⟩
        rw [lit32 8, oN_mul]
        refine ct_m420 (P := P ++ txCs x (co x).length ++ txEl x) (by simp only [List.length_append]; show _ ≤ 26000; omega) _ 0 M1 (Nat.zero_le _) (by omega) (h1.rw (by show _ = _ ++ []; rw [List.append_nil])) (hT.pf f1) (fun M2 h2 f2 => hQ M2 (h2.rw ?_) (f1.trans f2))
        simp only [List.append_assoc]
      obtain ⟨m1, m2⟩ := id hT
      refine itp (le_oN (Nat.le_refl _) (by omega)) ⟨by rw [m1]; exact (vp_oN (by omega)).mpr (by omega), ?_⟩
      rw [oN_tnc (k := i) (by omega), m2 i (by omega)]
      cases eT : tls x i with
      | false =>
        have et : txEl x = [] := by unfold txEl; rw [← hn, eT, if_neg (by decide)]
        exact itp rfl (go _ M h (PgF.rf h.1.1.1.1.1.2.2.2) (by rw [et, List.append_nil]))
      | true =>
        have et : txEl x = [32, 32] ++ txL x i ++ [58] ++ [10] := by unfold txEl; rw [← hn, eT, if_pos rfl]
        have e40 : stW 40 = [32, 32] := rfl
        rw [et] at hl'
        simp only [List.length_append, List.length_cons, List.length_nil] at hl'
        refine itn (by decide) (ct_pW (k := 40) (by decide) h.1.1 (by rw [e40]; simp only [List.length_append, List.length_cons, List.length_nil]; show _ ≤ 26000; omega) (fun M1 h1 f1 => ?_))
        rw [e40] at h1
        refine ct_pLb q1 (by omega) (hT.pf f1) h1 (by simp only [List.length_append, List.length_cons, List.length_nil]; show _ ≤ 26000; omega) (fun M2 h2 f2 => ?_)
        refine ct_pb h2 (by simp only [List.length_append, List.length_cons, List.length_nil]; show _ < 26000; omega) (fun M3 h3 f3 => ?_)
        refine ct_pb h3 (by simp only [List.length_append, List.length_cons, List.length_nil]; show _ < 26000; omega) (fun M4 h4 f4 => ?_)
        have f4 := (f1.trans f2).trans (f3.trans f4)
        refine go _ M4 (h.pf h4 f4.up) f4 ?_
        rw [et]
        simp only [List.append_assoc]
    have hil : i < (co x).length := by omega
    refine itn (nle_oN (by omega) (by omega)) ?_
    have hm1 := txCs_mono (x := x) (i := i + 1) (k := (co x).length) (by omega)
    have esx : txCs x (i + 1) = txCs x i ++ txC1 x i := rfl
    rw [esx, List.length_append] at hm1
    rw [oN_add]
    refine ct_pIns hil (h.pi hT hil) (by rw [List.length_append]; show _ ≤ 26000; omega) (fun M1 h1 f1 => ?_)
    rw [lit32 1, oN_add]
    refine ct_m359 hn hl f (i + 1) M1 (by omega) (by omega) ((h.pf h1.1.1 f1.up).rw ?_) (hT.pf f1) (fun M2 h2 f2 => hQ M2 h2 (f1.trans f2))
    rw [esx, List.append_assoc]
end
