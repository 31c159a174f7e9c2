/-! the twin writes kinds of a frame, labels -/
noncomputable def txL (x : Mth) (k : Nat) : List Int32 := [76] ++ dgi (Int32.ofNat (rnk (tls x) k))
def txFr (f : List Kd × List Kd) : List Int32 := stW 38 ++ txS [32] f.1 f.1.length ++ [59] ++ txS [32] f.2 f.2.length ++ [10]
/-- labels told, in the twin -/
def tTd (x : Mth) (M : Mem) : Prop := mL M 518 0 = 81 ∧ ∀ k, k ≤ (co x).length → mI M 518 0 k = b2 (tls x k)
theorem tTd.pf {G : List Sl} {x : Mth} {M M' : Mem} (h : tTd x M) (hf : PgF G SPt M M') : tTd x M' := ⟨(hf.2.1.L rfl 0).trans h.1, fun k hk => (hf.2.1.Ia rfl rfl 0 k).trans (h.2 k hk)⟩
theorem AT0_at : ∀ o, o < 62 → AT0[40 + o]? = some (wA o) := by decide +kernel
theorem pre_at {A B : List Nm} (h : B <+: A) {k : Nat} {nm : Nm} (e : B[k]? = some nm) : A[k]? = some nm := by
  obtain ⟨C, rfl⟩ := h
  have hk : k < B.length := by
    by_cases c : k < B.length
    · exact c
    · rw [List.getElem?_eq_none (by omega)] at e; exact absurd e (by simp)
  rw [List.getElem?_append_left hk]; exact e
section
variable {G : List Sl} {US : UST} {A : List Nm} {S : List Sg} {W : List Cls} {w : Nat} {br : Int32} {nq nl nf nk : Nat} {P : List Int32} {M M1 M' : Mem} {Q : Mem → Prop} {R k f q d : Nat} {nm : Nm} {b v : Int32} {κ : Kd} {ks ls ss : List Kd} {x : Mth} {i : Ins}
theorem TB.rk (h : TB G US A S W w br nq nl nf nk M) (hp : PgF G R M M') : Rk w nq nl nf nk M M' := Rk.gf hp.1 h.2.1.2.2.2.1 (pgX w)
theorem ct_pOp (ho : k < 62) (h : TPn G US A S W w br nq nl nf nk P M) (hl : P.length + (wA k).length ≤ LPt) (hQ : ∀ M', TPn G US A S W w br nq nl nf nk (P ++ wA k) M' → PgF G SPt M M' → Q M') : w_Model_putName 0 (mI M 11 0 26 + Int32.ofNat k) Q M := by
  have e1 := h.1.1.1.2.2.1 (26, nNop) (by simp [kF])
  have e2 : mI M 11 0 26 = Int32.ofNat 40 := by
    refine e1.1.trans ?_
    unfold nc
    rw [(AT0_op h.1.1.2.2.2 e1.2).1]
  rw [e2, oN_add]
  exact ct_pN (pre_at h.1.1.2.2.2 (AT0_at k ho)) h hl hQ
theorem ct_pKd {n : Nat} {v1 v2 v3 v4 : Int32} {K : Int32 → Int32 → Int32 → Int32 → Mem → Prop} (hn : n < 42) (hd : fkOk κ) (hk : kok A κ) (h : TPn G US A S W w br nq nl nf nk P M) (hl : P.length + ((stW n).length + (kdW κ).length) ≤ LPt) (hQ : ∀ M', TPn G US A S W w br nq nl nf nk (P ++ (stW n ++ kdW κ)) M' → PgF G SPt M M' → K v1 v2 v3 (v4 + 1) M') : w_Model_putKinds_j35 0 Q K v1 v2 v3 v4 (kt A κ) n M := by
  have hl : P.length + ((stW n).length + (kdW κ).length) ≤ 26000 := hl
  have hA := h.1.1.2.2.1
  unfold w_Model_putKinds_j35
  refine ct_pW hn h (show _ ≤ 26000 by omega) (fun M1 h1 f1 => ?_)
  have go : ∀ (nm : Nm), nm ∈ A → kdW κ = nm → w_Model_putKinds_j110 0 Q K v1 v2 v3 v4 (nc A nm) M1 := fun nm hm e => by
    unfold w_Model_putKinds_j110
    refine ct_pNm hm h1 (by rw [List.length_append, ← e]; show _ ≤ 26000; omega) (fun M2 h2 f2 => hQ M2 ?_ (f1.trans f2))
    rw [e, ← List.append_assoc]; exact h2
  have kf : ∀ (j : Nat) (nm : Nm), (j, nm) ∈ kF → kdW κ = nm → w_Model_putKinds_j110 0 Q K v1 v2 v3 v4 (mI M1 11 0 j) M1 := fun j nm hj e => by
    have z := h1.1.1.1.2.2.1 (j, nm) hj
    rw [z.1]
    exact go nm z.2 e
  rcases hd with e | e | e | e | e | e
  · subst e
    exact itp (show (1 : Int32) < 16 by decide) (itp rfl (kf 27 nNum (by simp [kF]) (by decide +kernel)))
  · subst e
    exact itp (show (2 : Int32) < 16 by decide) (itn (show ¬ (2 : Int32) = 1 by decide) (itp rfl (kf 20 nRow (by simp [kF]) (by decide +kernel))))
  · subst e
    exact itp (show (3 : Int32) < 16 by decide) (itn (show ¬ (3 : Int32) = 1 by decide) (itn (show ¬ (3 : Int32) = 2 by decide) (itp rfl (kf 28 nNull (by simp [kF]) (by decide +kernel)))))
  · subst e
    exact itp (show (4 : Int32) < 16 by decide) (itn (show ¬ (4 : Int32) = 1 by decide) (itn (show ¬ (4 : Int32) = 2 by decide) (itn (show ¬ (4 : Int32) = 3 by decide) (itp rfl (kf 22 nUnset (by simp [kF]) (by decide +kernel))))))
  · subst e
    exact itp (show (5 : Int32) < 16 by decide) (itn (show ¬ (5 : Int32) = 1 by decide) (itn (show ¬ (5 : Int32) = 2 by decide) (itn (show ¬ (5 : Int32) = 3 by decide) (itn (show ¬ (5 : Int32) = 4 by decide) (kf 23 nUnmade (by simp [kF]) (by decide +kernel))))))
  · have hi : A.idxOf κ.2 < A.length := List.idxOf_lt_length_of_mem (hk e)
    have ek : kt A κ = Int32.ofNat (A.idxOf κ.2 + 16) := by unfold kt; rw [if_pos e]
    have ew : kdW κ = κ.2 := by
      unfold kdW
      rw [e, if_neg (by decide), if_neg (by decide), if_neg (by decide), if_neg (by decide), if_neg (by decide), if_neg (by decide)]
    rw [ek]
    refine itn (nlt_oN (b := 16) (by omega) (by omega)) ?_
    rw [lit32 16, oN_sub (by omega), Nat.add_sub_cancel]
    exact go κ.2 (hk e) ew
theorem ct_pKsL (hf : f < nf) (he : d + ks.length ≤ ls.length + ss.length) (hg : ∀ j, j < ks.length → gk (ls ++ ss) (d + j) = gk ks j) : ∀ n j M, j ≤ ks.length → ks.length - j < n → tFr A w nk f ls ss M → TPn G US A S W w br nq nl nf nk (P ++ txS [32] ks j) M → P.length + (txS [32] ks ks.length).length ≤ LPt → (∀ M', TPn G US A S W w br nq nl nf nk (P ++ txS [32] ks ks.length) M' → PgF G SPt M M' → Q M') → w_Model_putKinds_L3 0 Q n (Int32.ofNat f) (Int32.ofNat d) (Int32.ofNat ks.length) (Int32.ofNat j) M
  | 0, j, M, hj, hn, hF, h, hl, hQ => absurd hn (by omega)
  | n + 1, j, M, hj, hn, hF, h, hl, hQ => by
    have hl : P.length + (txS [32] ks ks.length).length ≤ 26000 := hl
    obtain ⟨kf, a1, a2, a3, a4, a5, a6⟩ := id hF
    obtain ⟨⟨-, -, r3, r4, r5⟩, b1, b2', b3, b4, b5, b6⟩ := h.1.1.1.1.2.2
    have r3 : nf ≤ mL M 300 (rdI M (sFf w)) := r3 (sFf w) (by simp)
    have r4 : nk ≤ mL M 300 (rdI M (sFk w)) := r4
    unfold w_Model_putKinds_L3
    by_cases e : j = ks.length
    · subst e
      exact itp (le_oN (Nat.le_refl _) (by omega)) (hQ M h (PgF.rf h.1.1.1.2.2.2))
    refine itn (nle_oN (by omega) (by omega)) ?_
    have hkm := a5 _ (gk_mem (ks := ls ++ ss) (i := d + j) (by rw [List.length_append]; omega))
    have a6 := a6 (d + j) (by omega)
    rw [hg j (by omega)] at a6 hkm
    have a6 : mI M 300 (rdI M (sFk w)) (kf + (d + j)) = kt A (gk ks j) := a6
    have a1 : mI M 300 (rdI M (sFf w)) f = Int32.ofNat kf := a1
    have e45 := h.1.1.r45
    unfold w_Model_frameKind
    refine ⟨w, e45, _, h.1.1.slt (s := sFk w) (by simp), w, e45, _, h.1.1.slt (s := sFf w) (by simp), ?_⟩
    rw [oN_tnc (k := f) (by omega), a1, oN_add, oN_add, oN_tnc (k := kf + (d + j)) (by omega), a6]
    refine ⟨(vp_oN (by omega)).mpr (by omega), (vp_oN (by omega)).mpr (by omega), ?_⟩
    have hm1 := txS_mono (ks := ks) (f := [32]) (i := j + 1) (k := ks.length) (by omega)
    have esx : txS [32] ks (j + 1) = txS [32] ks j ++ ((if j = 0 then [32] else [44, 32]) ++ kdW (gk ks j)) := rfl
    have go : ∀ kk, kk < 42 → stW kk = (if j = 0 then [32] else [44, 32]) → w_Model_putKinds_j35 0 Q (w_Model_putKinds_L3 0 Q n) (Int32.ofNat f) (Int32.ofNat d) (Int32.ofNat ks.length) (Int32.ofNat j) (kt A (gk ks j)) kk M := fun kk hkk ekk => by
      rw [esx, List.length_append, List.length_append, ← ekk] at hm1
      refine ct_pKd hkk hkm.2 hkm.1 h (by rw [List.length_append]; show _ ≤ 26000; omega) (fun M1 h1 f1 => ?_)
      rw [lit32 1, oN_add]
      refine ct_pKsL hf he hg n (j + 1) M1 (by omega) (by omega) (hF.keep (h.1.1.rk f1) hf) ?_ hl (fun M2 h2 f2 => hQ M2 h2 (f1.trans f2))
      rw [esx, ← ekk, ← List.append_assoc]
      exact h1
    by_cases e0 : j = 0
    · exact itp (by rw [e0]; decide) (go 39 (by decide) (by rw [if_pos e0]; rfl))
    · exact itn (nle_oN (b := 0) (by omega) (by omega)) (go 28 (by decide) (by rw [if_neg e0]; rfl))
theorem ct_pKs (hf : f < nf) (he : d + ks.length ≤ ls.length + ss.length) (hg : ∀ j, j < ks.length → gk (ls ++ ss) (d + j) = gk ks j) (hF : tFr A w nk f ls ss M) (h : TPn G US A S W w br nq nl nf nk P M) (hl : P.length + (txS [32] ks ks.length).length ≤ LPt) (hQ : ∀ M', TPn G US A S W w br nq nl nf nk (P ++ txS [32] ks ks.length) M' → PgF G SPt M M' → Q M') : w_Model_putKinds 0 (Int32.ofNat f) (Int32.ofNat d) (Int32.ofNat ks.length) Q M := by
  unfold w_Model_putKinds
  exact ⟨ks.length + 1, ct_pKsL hf he hg _ 0 M (Nat.zero_le _) (by omega) hF (by show TPn G US A S W w br nq nl nf nk (P ++ []) M; rw [List.append_nil]; exact h) hl hQ⟩
theorem ct_pLbL (h80 : (co x).length ≤ 80) (hk : k ≤ (co x).length) : ∀ n j, j ≤ k → k - j < n → tTd x M → TPn G US A S W w br nq nl nf nk P M → P.length + (txL x k).length ≤ LPt → (∀ M', TPn G US A S W w br nq nl nf nk (P ++ txL x k) M' → PgF G SPt M M' → Q M') → w_Model_putLabel_L4 0 Q n (Int32.ofNat k) (Int32.ofNat (rnk (tls x) j)) (Int32.ofNat j) M
  | 0, j, hj, hn, hT, h, hl, hQ => absurd hn (by omega)
  | n + 1, j, hj, hn, hT, h, hl, hQ => by
    have hl : P.length + (txL x k).length ≤ 26000 := hl
    unfold w_Model_putLabel_L4
    by_cases e : j = k
    · subst e
      unfold txL at hl hQ
      rw [List.length_append, List.length_singleton] at hl
      refine itp (le_oN (Nat.le_refl _) (by omega)) (ct_pb h (show P.length < 26000 by omega) (fun M1 h1 f1 => ?_))
      refine ct_pI h1 (by rw [List.length_append, List.length_singleton]; show _ ≤ 26000; omega) (fun M2 h2 f2 => hQ M2 ?_ (f1.trans f2))
      rw [← List.append_assoc]; exact h2
    refine itn (nle_oN (by omega) (by omega)) ⟨(vp_oN (by omega)).mpr (by rw [hT.1]; omega), ?_⟩
    rw [oN_tnc (k := j) (by omega), hT.2 j (by omega)]
    unfold w_Model_putLabel_j24
    have er : rnk (tls x) (j + 1) = rnk (tls x) j + (if tls x j = true then 1 else 0) := rfl
    cases eT : tls x j with
    | true =>
      rw [eT, if_pos rfl] at er
      refine itn (by decide) ?_
      rw [lit32 1, oN_add, oN_add, ← er]
      exact ct_pLbL h80 hk n (j + 1) (by omega) (by omega) hT h hl hQ
    | false =>
      have er : rnk (tls x) (j + 1) = rnk (tls x) j := by rw [er, eT]; rfl
      refine itp rfl ?_
      rw [lit32 1, lit32 0, oN_add, oN_add, Nat.add_zero, ← er]
      exact ct_pLbL h80 hk n (j + 1) (by omega) (by omega) hT h hl hQ
theorem ct_pLb (h80 : (co x).length ≤ 80) (hk : k ≤ (co x).length) (hT : tTd x M) (h : TPn G US A S W w br nq nl nf nk P M) (hl : P.length + (txL x k).length ≤ LPt) (hQ : ∀ M', TPn G US A S W w br nq nl nf nk (P ++ txL x k) M' → PgF G SPt M M' → Q M') : w_Model_putLabel 0 (Int32.ofNat k) Q M := by
  unfold w_Model_putLabel
  exact ⟨k + 1, ct_pLbL h80 hk _ 0 (Nat.zero_le _) (by omega) hT h hl hQ⟩
end
