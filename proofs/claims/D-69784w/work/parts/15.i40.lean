/-! the twin's writing: words, names, numbers -/
def pgOk (F : Nat) : Bool := (tOk F && kOk F) && [cd 11 4, 105, 5105, cd 11 36, cd 11 37, 106, 5106, cd 11 38].all (fun b => !F.testBit b)
/-- a world of the twin at hand, and the page -/
def TPn (G : List Sl) (US : UST) (A : List Nm) (S : List Sg) (W : List Cls) (w : Nat) (br : Int32) (nq nl nf nk : Nat) (P : List Int32) (M : Mem) : Prop := (TB G US A S W w br nq nl nf nk M ∧ sPg ∈ G) ∧ tPg P M
theorem pgX (w : Nat) : ∀ s ∈ XW w, s ∉ [sPg] := fun s hs e => by
  rw [List.mem_singleton] at e
  subst e
  simp [sPg] at hs
theorem pgX2 : ∀ s ∈ [sB, sZ, sX, sTr, sF, sC, sRe, sNx, sTy], s ∉ [sPg] := by decide
section
variable {G : List Sl} {US : UST} {A : List Nm} {S : List Sg} {W : List Cls} {w : Nat} {br : Int32} {nq nl nf nk : Nat} {P : List Int32} {M M1 M' : Mem} {Q : Mem → Prop} {R k : Nat} {nm : Nm} {b v : Int32} {κ : Kd}
theorem TB.pf (h : TB G US A S W w br nq nl nf nk M) (hp : PgF G R M M') (hF : pgOk R = true := by rfl) : TB G US A S W w br nq nl nf nk M' := by
  unfold pgOk at hF
  simp only [Bool.and_eq_true, Bool.not_eq_true', List.all_cons, List.all_nil, and_true] at hF
  obtain ⟨⟨f1, f2⟩, b1, b2, b3, b4, b5, b6, b7, b8⟩ := hF
  exact ⟨⟨h.1.1.gf hp.2.1 hp.1 h.2.1.2.2.2.1 (pgX w) f1, h.1.2.1.gf hp.2.1 hp.1 h.2.1 pgX2 b1 b2 b3 b4 b5 b6 b7 b8, h.1.2.2.1.fr hp.2.1 f2, hp.1.1⟩, h.2⟩
theorem TPn.gp (h : TPn G US A S W w br nq nl nf nk P M) : Gp G := ⟨h.1.1.2.1.1, h.1.2⟩
theorem ct_pb (h : TPn G US A S W w br nq nl nf nk P M) (hl : P.length < LPt) (hQ : ∀ M', TPn G US A S W w br nq nl nf nk (P ++ [b]) M' → PgF G SPt M M' → Q M') : w_Model_put 0 b Q M :=
  ct_put h.gp h.1.1.1.2.2.2 h.2 hl (fun M' h1 f1 => hQ M' ⟨⟨h.1.1.pf f1, h.1.2⟩, h1⟩ f1)
theorem drop_at {l : List Int32} {i : Nat} (h : i < l.length) : l.drop i = l.getD i 0 :: l.drop (i + 1) := by
  rw [List.drop_eq_getElem_cons h]
  congr 1
  rw [List.getD_eq_getElem?_getD, List.getElem?_eq_getElem h]; rfl
theorem ct_pWL (hk : k < 42) : ∀ n i P M, i ≤ (stW k).length → (stW k).length - i < n → TPn G US A S W w br nq nl nf nk P M → P.length + ((stW k).length - i) ≤ LPt → (∀ M', TPn G US A S W w br nq nl nf nk (P ++ (stW k).drop i) M' → PgF G SPt M M' → Q M') → w_Model_putWord_L2 0 Q n k (Int32.ofNat i) M
  | 0, i, P, M, hi, hn, h, hl, hQ => absurd hn (by omega)
  | n + 1, i, P, M, hi, hn, h, hl, hQ => by
    have hk' : k < nStr := hk
    have hl : P.length + ((stW k).length - i) ≤ 26000 := hl
    have hle : (stW k).length ≤ 1000 := by
      have : ∀ k, k < 42 → (stW k).length ≤ 1000 := by decide +kernel
      exact this k hk
    unfold w_Model_putWord_L2
    refine ⟨hk', c_slen hk ?_⟩
    by_cases e : i = (stW k).length
    · refine itp (by rw [e]; exact le_oN (Nat.le_refl _) (by omega)) (hQ M ?_ (PgF.rf h.1.1.1.2.2.2))
      rw [e, List.drop_length, List.append_nil]; exact h
    refine itn (nle_oN (by omega) (by omega)) ⟨hk', c_char hk (by omega) (by omega) ?_⟩
    refine ct_pb h (show P.length < 26000 by omega) (fun M1 h1 f1 => ?_)
    rw [lit32 1, oN_add]
    refine ct_pWL hk n (i + 1) _ M1 (by omega) (by omega) h1 (by rw [List.length_append, List.length_singleton]; show _ ≤ 26000; omega) (fun M2 h2 f2 => hQ M2 ?_ (f1.trans f2))
    rw [drop_at (by omega), List.append_cons]
    exact h2
theorem ct_pW (hk : k < 42) (h : TPn G US A S W w br nq nl nf nk P M) (hl : P.length + (stW k).length ≤ LPt) (hQ : ∀ M', TPn G US A S W w br nq nl nf nk (P ++ stW k) M' → PgF G SPt M M' → Q M') : w_Model_putWord 0 k Q M := by
  unfold w_Model_putWord
  exact ⟨(stW k).length + 1, ct_pWL hk _ 0 P M (Nat.zero_le _) (by omega) h hl hQ⟩
theorem ct_pNL (hn : A[k]? = some nm) : ∀ n i P M, i ≤ nm.length → nm.length - i < n → TPn G US A S W w br nq nl nf nk P M → P.length + (nm.length - i) ≤ LPt → (∀ M', TPn G US A S W w br nq nl nf nk (P ++ nm.drop i) M' → PgF G SPt M M' → Q M') → w_Model_putName_L2 0 Q n (Int32.ofNat k) (Int32.ofNat i) M
  | 0, i, P, M, hi, hf, h, hl, hQ => absurd hf (by omega)
  | n + 1, i, P, M, hi, hf, h, hl, hQ => by
    have hl : P.length + (nm.length - i) ≤ 26000 := hl
    obtain ⟨⟨-, a1, -, b1, b2', -⟩, ⟨-, ok⟩, hr, -⟩ := h.1.1.1.2.1.1.1
    obtain ⟨hk, hg⟩ := gn_get hn
    have hok : okn nm := by rw [← hg]; exact ok _ (gn_mem hk)
    have h12 := hok.1
    obtain ⟨r1, r2, -⟩ := hr k hk
    rw [hg] at r1 r2
    have hsl := h.1.1.2.1.1.2.1
    have b1 : 12 * A.length ≤ mL M 401 (rdI M sB) := b1
    have b2' : A.length ≤ mL M 401 (rdI M sZ) := b2'
    have r1 : mI M 401 (rdI M sZ) k = Int32.ofNat nm.length := r1
    unfold w_Model_putName_L2
    refine ⟨_, (h.1.1.1.2.2.2 sZ hsl.2.1).1.1, (vp_oN (by omega)).mpr (by omega), ?_⟩
    rw [oN_tnc (k := k) (by omega), r1]
    by_cases e : i = nm.length
    · refine itp (by rw [e]; exact le_oN (Nat.le_refl _) (by omega)) (hQ M ?_ (PgF.rf h.1.1.1.2.2.2))
      rw [e, List.drop_length, List.append_nil]; exact h
    refine itn (nle_oN (by omega) (by omega)) ⟨_, (h.1.1.1.2.2.2 sB hsl.1).1.1, ?_⟩
    rw [lit32 12, oN_mul, oN_add, oN_tnc (k := 12 * k + i) (by omega)]
    have r2 : mI M 401 (rdI M sB) (12 * k + i) = nm.getD i 0 := r2 i (by omega)
    rw [r2]
    refine ⟨(vp_oN (by omega)).mpr (by omega), ct_pb h (show P.length < 26000 by omega) (fun M1 h1 f1 => ?_)⟩
    rw [lit32 1, oN_add]
    refine ct_pNL hn n (i + 1) _ M1 (by omega) (by omega) h1 (by rw [List.length_append, List.length_singleton]; show _ ≤ 26000; omega) (fun M2 h2 f2 => hQ M2 ?_ (f1.trans f2))
    rw [drop_at (by omega), List.append_cons]
    exact h2
theorem ct_pN (hn : A[k]? = some nm) (h : TPn G US A S W w br nq nl nf nk P M) (hl : P.length + nm.length ≤ LPt) (hQ : ∀ M', TPn G US A S W w br nq nl nf nk (P ++ nm) M' → PgF G SPt M M' → Q M') : w_Model_putName 0 (Int32.ofNat k) Q M := by
  unfold w_Model_putName
  exact ⟨nm.length + 1, ct_pNL hn _ 0 P M (Nat.zero_le _) (by omega) h hl hQ⟩
theorem ct_pNm (hm : nm ∈ A) (h : TPn G US A S W w br nq nl nf nk P M) (hl : P.length + nm.length ≤ LPt) (hQ : ∀ M', TPn G US A S W w br nq nl nf nk (P ++ nm) M' → PgF G SPt M M' → Q M') : w_Model_putName 0 (nc A nm) Q M := ct_pN (idx_at hm) h hl hQ
theorem ct_dg48 (n : Nat) (hn : n ≤ 2147483648) : ∀ f u P M, u < 10 ^ f → u < 1000000000000000 → TPn G US A S W w br nq nl nf nk P M → P.length + (dgF f n u).length ≤ LPt → (∀ M', TPn G US A S W w br nq nl nf nk (P ++ dgF f n u) M' → PgF G SPt M M' → Q M') → w_Model_putNumber_L48 0 Q (f + 1) (jN n) (jN u) M
  | 0, u, P, M, hu, hb, h, hl, hQ => by
    have e0 : u = 0 := by rw [Nat.pow_zero] at hu; omega
    subst e0
    unfold w_Model_putNumber_L48
    refine itp ((jN_cmp (a := 0) (b := 0) (by omega) (by omega)).mpr (Nat.le_refl _)) (hQ M ?_ (PgF.rf h.1.1.1.2.2.2))
    show TPn G US A S W w br nq nl nf nk (P ++ []) M
    rw [List.append_nil]; exact h
  | f + 1, u, P, M, hu, hb, h, hl, hQ => by
    have hl : P.length + (dgF (f + 1) n u).length ≤ 26000 := hl
    unfold w_Model_putNumber_L48
    by_cases e0 : u = 0
    · subst e0
      refine itp ((jN_cmp (a := 0) (b := 0) (by omega) (by omega)).mpr (Nat.le_refl _)) (hQ M ?_ (PgF.rf h.1.1.1.2.2.2))
      show TPn G US A S W w br nq nl nf nk (P ++ []) M
      rw [List.append_nil]; exact h
    have edg : dgF (f + 1) n u = Int32.ofNat (48 + n / u % 10) :: dgF f n (u / 10) := by
      rw [dgF, if_neg e0]
    rw [edg, List.length_cons] at hl
    have hle : n / u ≤ n := Nat.div_le_self n u
    have hm10 : n / u % 10 < 10 := Nat.mod_lt _ (by omega)
    refine itn (fun z => e0 (by have := (jN_cmp (a := u) (b := 0) (by omega) (by omega)).mp z; omega)) ⟨fun z => e0 ((jN_inj (a := u) (b := 0) (by omega) (by omega)).mp z), by decide, ?_⟩
    have ed : ((48 : Int64) + ((jN n / jN u) - (jN n / jN u) / (10 : Int64) * (10 : Int64))).toInt32 = Int32.ofNat (48 + n / u % 10) := by
      rw [jN_div (by omega) (by omega), show (10 : Int64) = jN 10 from rfl, jN_mod (by omega) (by omega), show (48 : Int64) = jN 48 from rfl, jN_add, jN_32 (by omega)]
    rw [ed]
    refine ct_pb h (show P.length < 26000 by omega) (fun M1 h1 f1 => ⟨by decide, ?_⟩)
    rw [show (10 : Int64) = jN 10 from rfl, jN_div (by omega) (by omega)]
    refine ct_dg48 n hn f (u / 10) _ M1 ?_ (by have := Nat.div_le_self u 10; omega) h1 (by rw [List.length_append, List.length_singleton]; show _ ≤ 26000; omega) (fun M2 h2 f2 => hQ M2 ?_ (f1.trans f2))
    · rw [Nat.pow_succ] at hu
      exact Nat.div_lt_of_lt_mul (by rw [Nat.mul_comm]; exact hu)
    · rw [edg, List.append_cons]
      exact h2
theorem u10 {n u : Nat} (h : 1 ≤ u) : 9 < n / u ↔ u * 10 ≤ n := by
  rw [Nat.mul_comm]
  exact Nat.le_div_iff_mul_le (k0 := h) (x := 10) (y := n)
theorem jN_cmp2 {a b : Nat} (ha : a < 1000000000000000000) (hb : b < 1000000000000000000) : 0 < lg_cmp (jN a) (jN b) ↔ b < a := by
  have := jN_cmp ha hb
  constructor
  · intro h
    by_cases c : a ≤ b
    · have := this.2 c
      rw [Int32.lt_iff_toInt_lt] at h
      rw [Int32.le_iff_toInt_le] at this
      omega
    · omega
  · intro h
    have h2 : ¬ lg_cmp (jN a) (jN b) ≤ 0 := fun z => absurd (this.1 z) (by omega)
    rw [Int32.le_iff_toInt_le] at h2
    rw [Int32.lt_iff_toInt_lt]
    omega
theorem ct_dg16 (v : Int32) (n : Nat) (hn : n ≤ 2147483648) : ∀ f u M, 1 ≤ u → n < u * 10 ^ (f + 1) → u * 10 ^ f ≤ 100000000000 → ((0 ≤ v → ∃ m, w_Model_putNumber_L48 0 Q m (jN n) (jN (unF (f + 1) n u)) M) ∧ (¬ 0 ≤ v → w_Model_put 0 45 (fun M1 => ∃ m, w_Model_putNumber_L48 0 Q m (jN n) (jN (unF (f + 1) n u)) M1) M)) → w_Model_putNumber_L16 0 Q (f + 1) v (jN n) (jN u) M
  | 0, u, M, hu, hlt, hb, hQ => by
    unfold w_Model_putNumber_L16
    rw [Nat.pow_zero, Nat.mul_one] at hb
    rw [Nat.pow_succ, Nat.pow_zero, Nat.one_mul] at hlt
    have hc : ¬ 9 < n / u := fun z => by have := (u10 hu).1 z; omega
    rw [show (10 : Int64) = jN 10 from rfl, jN_mul]
    refine itp ((jN_cmp2 (by omega) (by omega)).mpr hlt) ?_
    unfold unF at hQ
    rw [if_neg hc] at hQ
    by_cases c : 0 ≤ v
    · exact itp c (hQ.1 c)
    · exact itn c (hQ.2 c)
  | f + 1, u, M, hu, hlt, hb, hQ => by
    unfold w_Model_putNumber_L16
    have e : u * 10 ^ (f + 1) = u * 10 * 10 ^ f := by rw [Nat.pow_succ, Nat.mul_comm (10 ^ f) 10, Nat.mul_assoc]
    have hp : 1 ≤ 10 ^ f := Nat.le_trans Nat.one_le_two_pow (Nat.pow_le_pow_left (show 2 ≤ 10 by omega) f)
    have hub : u * 10 ≤ u * 10 * 10 ^ f := Nat.le_mul_of_pos_right (u * 10) hp
    rw [show (10 : Int64) = jN 10 from rfl, jN_mul]
    by_cases c : 9 < n / u
    · have c2 := (u10 hu).1 c
      refine itn (fun z => by have := (jN_cmp2 (by omega) (by omega)).mp z; omega) ?_
      refine ct_dg16 v n hn f (u * 10) M (by omega) ?_ (by rw [← e]; exact hb) ?_
      · have e2 : u * 10 ^ (f + 1 + 1) = u * 10 * 10 ^ (f + 1) := by rw [Nat.pow_succ (10) (f + 1), Nat.mul_comm (10 ^ (f + 1)) 10, Nat.mul_assoc]
        rw [← e2]; exact hlt
      · rw [show unF (f + 1 + 1) n u = unF (f + 1) n (u * 10) by rw [unF, if_pos c]] at hQ
        exact hQ
    · have c2 : n < u * 10 := by
        by_cases z : u * 10 ≤ n
        · exact absurd ((u10 hu).2 z) c
        · omega
      refine itp ((jN_cmp2 (by omega) (by omega)).mpr c2) ?_
      rw [show unF (f + 1 + 1) n u = u by rw [unF, if_neg c]] at hQ
      by_cases c : 0 ≤ v
      · exact itp c (hQ.1 c)
      · exact itn c (hQ.2 c)
theorem ct_pI (h : TPn G US A S W w br nq nl nf nk P M) (hl : P.length + (dgi v).length ≤ LPt) (hQ : ∀ M', TPn G US A S W w br nq nl nf nk (P ++ dgi v) M' → PgF G SPt M M' → Q M') : w_Model_putNumber 0 v Q M := by
  have ha := abs_le v
  have hl : P.length + (dgi v).length ≤ 26000 := hl
  have u2 : unF 12 v.toInt.natAbs 1 ≤ 2147483648 := by rcases unF_n 12 v.toInt.natAbs 1 with z | z <;> omega
  have go : ∀ P1 M2, TPn G US A S W w br nq nl nf nk P1 M2 → P1.length + (dgs v.toInt.natAbs).length ≤ 26000 → PgF G SPt M M2 → P1 ++ dgs v.toInt.natAbs = P ++ dgi v → ∃ m, w_Model_putNumber_L48 0 Q m (jN v.toInt.natAbs) (jN (unF 12 v.toInt.natAbs 1)) M2 := fun P1 M2 h2 hl2 f2 e => ⟨13, by
    show w_Model_putNumber_L48 0 Q (12 + 1) (jN v.toInt.natAbs) (jN (unF 12 v.toInt.natAbs 1)) M2
    refine ct_dg48 _ ha 12 _ P1 M2 (by omega) (by omega) h2 hl2 (fun M4 h4 f4 => hQ M4 ?_ (f2.trans f4))
    rw [← e]; exact h4⟩
  have all : w_Model_putNumber_j12 0 Q v (jN v.toInt.natAbs) M := by
    unfold w_Model_putNumber_j12
    refine ⟨12, ?_⟩
    show w_Model_putNumber_L16 0 Q (11 + 1) v (jN v.toInt.natAbs) (jN 1) M
    refine ct_dg16 v _ ha 11 1 M (by omega) (by omega) (by omega) ⟨fun c => ?_, fun c => ?_⟩
    · have e : dgi v = dgs v.toInt.natAbs := by unfold dgi; rw [if_pos c]; rfl
      rw [e] at hl
      exact go P M h hl (PgF.rf h.1.1.1.2.2.2) (by rw [e])
    · have e : dgi v = [45] ++ dgs v.toInt.natAbs := by unfold dgi; rw [if_neg c]
      rw [e, List.length_append, List.length_singleton] at hl
      refine ct_pb h (show P.length < 26000 by omega) (fun M1 h1 f1 => go _ M1 h1 (by rw [List.length_append, List.length_singleton]; omega) f1 ?_)
      rw [e, List.append_assoc]
  unfold w_Model_putNumber
  by_cases c : 0 ≤ v
  · refine itp c ?_
    rw [jN_of v c]; exact all
  · refine itn c ?_
    rw [jN_neg v c]; exact all
end
