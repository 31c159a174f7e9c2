/-! B: linking in the twin -/
/-- links, starts and values of fields may change -/
theorem TW.ofL {A : List Nm} {S : List Sg} {W : List Cls} {w : Nat} {br : Int32} {e q0 nl0 nq nl nf nk : Nat} {M M' : Mem} (h : TW A S W w br e q0 nl0 nq nl nf nk M) (hA : ∀ f, tFm f = true → (f ≠ 137 → f ≠ 138 → f ≠ 143 → ∀ k, mI M' f w k = mI M f w k) ∧ mL M' f w = mL M f w) (h12 : ∀ k ∈ [1, 2, 35, 37, 41, 43], mI M' 12 w k = mI M 12 w k) (hR : mR M' 11 0 45 = mR M 11 0 45) (r : ∀ s ∈ XW w, (∀ k, rd M' s k = rd M s k) ∧ rl M' s = rl M s) : TW A S W w br e q0 nl0 nq nl nf nk M' := by
  obtain ⟨⟨⟨h1, h2, h3, h4⟩, ⟨f1, f2⟩, h6⟩, h7, h8, h9⟩ := h
  have tI : ∀ f, tFm f = true → f ≠ 137 → f ≠ 138 → f ≠ 143 → ∀ k, mI M' f w k = mI M f w k := fun f hf a b c k => (hA f hf).1 a b c k
  have tL : ∀ f, tFm f = true → mL M' f w = mL M f w := fun f hf => (hA f hf).2
  have rg : ∀ f, 130 ≤ f → f ≤ 155 → tFm f = true := fun f a b => by
    unfold tFm; rw [Bool.or_eq_true, Bool.and_eq_true]; exact Or.inl ⟨Nat.ble_eq.mpr a, Nat.ble_eq.mpr b⟩
  have hk := fun k hk => h12 k hk
  refine ⟨⟨⟨h1.of (hk 2 (by simp)) (fun f a b => tI f (rg f a (by omega)) (by omega) (by omega) (by omega)) (fun f a b => tL f (rg f a (by omega))), hR.trans h2, (hk 1 (by simp)).trans h3, ?_⟩, ⟨?_, fun c hc => ?_⟩, ?_⟩, ⟨(hk 35 (by simp)).trans h7.1, (hk 37 (by simp)).trans h7.2.1, (hk 41 (by simp)).trans h7.2.2.1, (hk 43 (by simp)).trans h7.2.2.2⟩, h8.of (fun s hs => (r s hs).2), h9⟩
  · rw [tL 135 rfl, tL 136 rfl, tL 137 rfl, tL 138 rfl]; exact h4
  · rw [tL 139 rfl, tL 140 rfl, tL 141 rfl, tL 142 rfl, tL 523 rfl, tL 143 rfl]; exact f1
  · rw [tI 135 rfl (by omega) (by omega) (by omega)]
    refine ⟨(f2 c hc).1, fun k hk => ?_⟩
    rw [tI 139 rfl (by omega) (by omega) (by omega), tI 140 rfl (by omega) (by omega) (by omega), tI 141 rfl (by omega) (by omega) (by omega), tI 142 rfl (by omega) (by omega) (by omega), tI 523 rfl (by omega) (by omega) (by omega)]; exact (f2 c hc).2 k hk
  · exact h6.keep (h6.1.of (fun f q k => tI f (rg f (by omega) (by omega)) (by omega) (by omega) (by omega) k) (fun f a b => tL f (rg f (by omega) (by omega)))) (Rk.of r) (fun f a b c hc k hk => tI f (rg f (by omega) (by omega)) (by omega) (by omega) (by omega) _) (fun f a b c hc k hk i hi => tI f (rg f (by omega) (by omega)) (by omega) (by omega) (by omega) _) (fun f a b => tL f (rg f (by omega) (by omega)))
/-- the twin's other worlds -/
def LoL (w : Nat) (M M' : Mem) : Prop := LoT w 0 M M' ∧ (∀ i k, i ≠ w → mI M' 156 i k = mI M 156 i k) ∧ ∀ i, mL M' 156 i = mL M 156 i
theorem LoL.rf (w : Nat) (M : Mem) : LoL w M M := ⟨LoT.rf _ _ _, fun _ _ _ => rfl, fun _ => rfl⟩
theorem LoL.trans {w : Nat} {M M1 M2 : Mem} (h : LoL w M M1) (h1 : LoL w M1 M2) : LoL w M M2 := ⟨h.1.trans h1.1, fun i k hi => (h1.2.1 i k hi).trans (h.2.1 i k hi), fun i => (h1.2.2 i).trans (h.2.2 i)⟩
/-- what checking needs at hand -/
def tLk (M : Mem) : Prop := (mL M 111 0 = 20 ∧ mL M 212 0 = 28 ∧ mL M 112 0 = 10) ∧ mI M 11 0 77 = 0
/-- a world of the twin with its links -/
def LKt (G : List Sl) (US : UST) (A : List Nm) (S : List Sg) (W : List Cls) (w : Nat) (br : Int32) (nq nl nf nk : Nat) (s : LkS) (M : Mem) : Prop := TB G US A S W w br nq nl nf nk M ∧ (∀ c, c < W.length → mI M 138 w c = s.1 c) ∧ (mL M 156 w = 3 ∧ mI M 156 w 0 = s.2.1 ∧ mI M 156 w 1 = s.2.2.1 ∧ mI M 156 w 2 = s.2.2.2) ∧ tLk M
def ltOk (F : Nat) : Bool := tbOk F && [156, 5156, 5111, 5212, 5112, cd 11 77].all (fun b => !F.testBit b)
section
variable {G : List Sl} {US : UST} {A : List Nm} {S : List Sg} {W : List Cls} {w c k u : Nat} {br : Int32} {nq nl nf nk : Nat} {M M' : Mem} {s : LkS} {Q : Int32 → Mem → Prop}
theorem TB.r45 (h : TB G US A S W w br nq nl nf nk M) : mR M 11 0 45 = some (12, w) := h.1.1.1.1.2.1
theorem TB.cl (h : TB G US A S W w br nq nl nf nk M) : tCl A W w M := h.1.1.1.1.1
theorem TB.l51 (h : TB G US A S W w br nq nl nf nk M) : W.length ≤ 51 := h.cl.1.1.2.2.1
theorem TB.ms (h : TB G US A S W w br nq nl nf nk M) : tMs A S W w 0 nq nl nf nk M := h.1.1.1.2.2
theorem TB.hd (h : TB G US A S W w br nq nl nf nk M) (hc : c < W.length) (hk : k < (gc W c).2.2.2.2.2.length) : tHd A S w (12 * c + k) (gmt (gc W c) k) M := (h.ms.1.2 c hc).2 k hk
theorem TB.mcn (h : TB G US A S W w br nq nl nf nk M) (hc : c < W.length) : mI M 136 w c = Int32.ofNat (gc W c).2.2.2.2.2.length ∧ (gc W c).2.2.2.2.2.length ≤ 12 := by
  have := (h.ms.1.2 c hc).1
  rw [show (if c + 1 = W.length then 0 else 0) = 0 by split <;> rfl, Nat.add_zero] at this
  exact this
theorem TB.ml {f : Nat} (h : TB G US A S W w br nq nl nf nk M) (h1 : 144 ≤ f) (h2 : f ≤ 151) : mL M f w = 612 := h.ms.1.1 f h1 h2
theorem TB.sl (h : TB G US A S W w br nq nl nf nk M) : S.length ≤ 100000 := by
  obtain ⟨-, ⟨-, -, s3, s4, -⟩, -⟩ := h.1.2.1.1
  omega
theorem TB.lo {F : Nat} (h : Fr F M M') (hF : tbOk F = true) : LoT w 0 M M' := by
  unfold tbOk at hF
  simp only [Bool.and_eq_true] at hF
  have := hF.1.2.1
  unfold tOk at this
  rw [Bool.and_eq_true] at this
  exact (LoT.rf _ _ _).fr h this.2
theorem LKt.fr {F : Nat} (h : LKt G US A S W w br nq nl nf nk s M) (hf : Fr F M M') (hF : ltOk F = true := by rfl) : LKt G US A S W w br nq nl nf nk s M' ∧ LoL w M M' := by
  unfold ltOk at hF
  simp only [Bool.and_eq_true, List.all_cons, List.all_nil, Bool.not_eq_true', and_true] at hF
  obtain ⟨s1, s2, s3, s4, s5, s6, s7⟩ := hF
  obtain ⟨h1, h2, ⟨h3, h4, h5, h6⟩, ⟨h7, h8, h9⟩, h10⟩ := h
  have lo : ∀ v, LoT v 0 M M' := fun v => TB.lo hf s1
  refine ⟨⟨h1.fr hf s1, fun c hc => (((lo (w + 1)).1 138 rfl).1 w c (Or.inl (by omega))).trans (h2 c hc), ⟨(hf.L s3 w).trans h3, (hf.Ia rfl s2 w 0).trans h4, (hf.Ia rfl s2 w 1).trans h5, (hf.Ia rfl s2 w 2).trans h6⟩, ⟨(hf.L s4 0).trans h7, (hf.L s5 0).trans h8, (hf.L s6 0).trans h9⟩, (hf.I s7 0).trans h10⟩, lo w, fun i k _ => hf.Ia rfl s2 i k, fun i => hf.L s3 i⟩
/-- a link is set -/
theorem LKt.w138 {r : Int32} (h : LKt G US A S W w br nq nl nf nk s M) : LKt G US A S W w br nq nl nf nk (LSm s.1 c r, s.2) (sI M 138 w c r) ∧ LoL w M (sI M 138 w c r) := by
  obtain ⟨⟨⟨h1, h2, h3, h4⟩, hx, h7⟩, hl, ⟨k3, k4, k5, k6⟩, hk⟩ := h
  have fj : Fr (348449143727040986586495598010130648530944) M (sI M 138 w c r) := Fr.wIa rfl rfl (Fr.rf _ _)
  have row : ∀ f i k, f ≠ 138 → mI (sI M 138 w c r) f i k = mI M f i k := fun f i k hf => by rw [mI_sI, if_neg (fun z => hf z.1)]
  refine ⟨⟨⟨⟨h1.ofL (fun f hf => ⟨fun _ a _ k => row f w k a, rfl⟩) (fun k _ => row 12 w k (by omega)) rfl (fun s hs => rd_fr fj hx.1 rfl (hx.2.2.2.1 s hs)), h2.fr fj hx, h3.fr fj, ((GF.rf h4).fr (X := []) fj hx.1).1⟩, hx, h7⟩, fun d hd => ?_, ⟨k3, (row 156 w 0 (by omega)).trans k4, (row 156 w 1 (by omega)).trans k5, (row 156 w 2 (by omega)).trans k6⟩, hk.1, (row 11 0 77 (by omega)).trans hk.2⟩, ⟨fun f hf => ⟨fun i k hi => ?_, fun i => rfl⟩, fun i k hi _ => row 12 i k (by omega)⟩, fun i k _ => row 156 i k (by omega), fun i => rfl⟩
  · show _ = LSm s.1 c r d
    unfold LSm
    rw [mI_sI]
    by_cases e : d = c
    · rw [if_pos ⟨rfl, rfl, e⟩, if_pos e]
    · rw [if_neg (fun z => e z.2.2), if_neg e]; exact hl d hd
  · rw [mI_sI, if_neg (fun z => ?_)]
    rcases hi with q | q
    · exact q z.2.1
    · have : tb 0 f = 0 := by unfold tb; (repeat' split) <;> rfl
      omega
/-- where checking failed -/
theorem LKt.w156 {a b d : Int32} (h : LKt G US A S W w br nq nl nf nk s M) : LKt G US A S W w br nq nl nf nk (s.1, a, b, d) (sI (sI (sI M 156 w 0 a) 156 w 1 b) 156 w 2 d) ∧ LoL w M (sI (sI (sI M 156 w 0 a) 156 w 1 b) 156 w 2 d) := by
  obtain ⟨h1, hl, ⟨k3, k4, k5, k6⟩, hk⟩ := h
  have fj : Fr (91343852333181432387730302044767688728495783936) M (sI (sI (sI M 156 w 0 a) 156 w 1 b) 156 w 2 d) := Fr.wIa rfl rfl (Fr.wIa rfl rfl (Fr.wIa rfl rfl (Fr.rf _ _)))
  have row : ∀ f i k, f ≠ 156 → mI (sI (sI (sI M 156 w 0 a) 156 w 1 b) 156 w 2 d) f i k = mI M f i k := fun f i k hf => by rw [mI_sI, if_neg (fun z => hf z.1), mI_sI, if_neg (fun z => hf z.1), mI_sI, if_neg (fun z => hf z.1)]
  refine ⟨⟨h1.fr fj, fun c hc => (row 138 w c (by omega)).trans (hl c hc), ⟨k3, ?_, ?_, ?_⟩, hk.1, (row 11 0 77 (by omega)).trans hk.2⟩, TB.lo fj rfl, fun i k hi => ?_, fun i => rfl⟩
  · simp only [mI_sI, mI_sR, mI_sJ, mR_sI, mL_sI, mL_sR, mR_sR, Nat.reduceEqDiff, and_false, false_and, if_false, and_self, true_and, and_true, if_true]
  · simp only [mI_sI, mI_sR, mI_sJ, mR_sI, mL_sI, mL_sR, mR_sR, Nat.reduceEqDiff, and_false, false_and, if_false, and_self, true_and, and_true, if_true]
  · simp only [mI_sI, mI_sR, mI_sJ, mR_sI, mL_sI, mL_sR, mR_sR, Nat.reduceEqDiff, and_false, false_and, if_false, and_self, true_and, and_true, if_true]
  · rw [mI_sI, if_neg (fun z => hi z.2.1), mI_sI, if_neg (fun z => hi z.2.1), mI_sI, if_neg (fun z => hi z.2.1)]
/-- the class's own method of a name and a signature -/
theorem ct_methodIn {x : Mth} (h : TB G US A S W w br nq nl nf nk M) (hu : u < W.length) (hx1 : x.1 ∈ A) (hx2 : sg A x.2.1 x.2.2.1 ∈ S) (hx3 : (∀ κ ∈ x.2.1, kok A κ ∧ kdOk κ) ∧ (kok A x.2.2.1 ∧ kdOk x.2.2.1)) (hQ : Q (match ownI x 0 (gc W u).2.2.2.2.2 with | none => -2 | some j => Int32.ofNat (12 * u + j)) M) : w_Model_methodIn 0 (Int32.ofNat u) (nc A x.1) (Int32.ofNat (S.idxOf (sg A x.2.1 x.2.2.1))) Q M := by
  have h51 := h.l51
  obtain ⟨e136, h12⟩ := h.mcn hu
  have hla := h.2.2.1
  have l136 : mL M 136 w = 51 := h.1.1.1.1.2.2.2.2.1
  have loop : ∀ n j, (gc W u).2.2.2.2.2.length - j < n → j ≤ (gc W u).2.2.2.2.2.length → ownI x 0 (gc W u).2.2.2.2.2 = ownI x j ((gc W u).2.2.2.2.2.drop j) → w_Model_methodIn_L6 0 Q n (Int32.ofNat u) (nc A x.1) (Int32.ofNat (S.idxOf (sg A x.2.1 x.2.2.1))) (Int32.ofNat (12 * u + j)) M := by
    intro n
    induction n with
    | zero => intro j hn; exact absurd hn (by omega)
    | succ n ih =>
      intro j hn hj he
      unfold w_Model_methodIn_L6 w_Model_methodIn_j56
      refine ⟨w, h.r45, ?_⟩
      rw [oN_tnc (k := u) (by omega), e136, l136, show (12 : Int32) * Int32.ofNat u = Int32.ofNat (12 * u) from oN_mul 12 u, oN_add]
      refine ⟨(vp_oN (by omega)).mpr (by omega), ?_⟩
      by_cases cj : (gc W u).2.2.2.2.2.length ≤ j
      · refine itp (le_oN (by omega) (by omega)) ?_
        rw [he, List.drop_eq_nil_of_le cj] at hQ; exact hQ
      have hjl : j < (gc W u).2.2.2.2.2.length := by omega
      obtain ⟨⟨y1, y2⟩, ⟨y3, y4⟩, ⟨y5, y6, -⟩, -⟩ := h.hd hu hjl
      refine itn (nle_oN (by omega) (by omega)) ⟨w, h.r45, ?_⟩
      rw [oN_tnc (k := 12 * u + j) (by omega), y1, h.ml (by omega) (by omega)]
      refine ⟨(vp_oN (by omega)).mpr (by omega), ?_⟩
      rw [ownI_drop (d := ([], [], (0, []), 0, 0, 0, [], [])) hjl] at he
      have he : ownI x 0 (gc W u).2.2.2.2.2 = if (gmt (gc W u) j).1 = x.1 ∧ (gmt (gc W u) j).2.1 = x.2.1 ∧ (gmt (gc W u) j).2.2.1 = x.2.2.1 then some j else ownI x (j + 1) ((gc W u).2.2.2.2.2.drop (j + 1)) := he
      have next : ¬ ((gmt (gc W u) j).1 = x.1 ∧ (gmt (gc W u) j).2.1 = x.2.1 ∧ (gmt (gc W u) j).2.2.1 = x.2.2.1) → w_Model_methodIn_L6 0 Q n (Int32.ofNat u) (nc A x.1) (Int32.ofNat (S.idxOf (sg A x.2.1 x.2.2.1))) (Int32.ofNat (12 * u + j) + 1) M := fun hne => by
        rw [if_neg hne] at he
        rw [show Int32.ofNat (12 * u + j) + (1 : Int32) = Int32.ofNat (12 * u + (j + 1)) from oN_add (12 * u + j) 1]
        exact ih (j + 1) (by omega) (by omega) he
      by_cases d1 : (gmt (gc W u) j).1 = x.1
      · refine itp (by rw [d1]) ⟨w, h.r45, ?_⟩
        rw [y3, h.ml (by omega) (by omega)]
        refine ⟨(vp_oN (by omega)).mpr (by omega), ?_⟩
        have iff := (idxS_inj y4 hx2 h.sl).trans (sg_inj y5 hx3.1 y6 hx3.2 hla)
        by_cases d2 : (gmt (gc W u) j).2.1 = x.2.1 ∧ (gmt (gc W u) j).2.2.1 = x.2.2.1
        · rw [if_pos ⟨d1, d2.1, d2.2⟩] at he
          rw [he] at hQ
          exact itp (iff.mpr d2) hQ
        · exact itn (fun z => d2 (iff.mp z)) (next (fun z => d2 z.2))
      · exact itn (fun z => d1 ((nc_inj (by omega) y2 hx1).mp z)) (next (fun z => d1 z.1))
  unfold w_Model_methodIn
  refine ⟨(gc W u).2.2.2.2.2.length + 1, ?_⟩
  rw [show (12 : Int32) * Int32.ofNat u = Int32.ofNat (12 * u + 0) from oN_mul 12 u]
  exact loop _ 0 (by omega) (by omega) rfl
end
