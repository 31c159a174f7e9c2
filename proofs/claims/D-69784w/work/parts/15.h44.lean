/-! THE OPERATION member (printed by gen/mb.py) -/
/-- a kind of a field, in short -/
def kd3 (κ : Kd) : Int32 := if κ.1 = 0 then 0 else if κ.1 = 1 then 1 else 2
def mbrO (W : List Cls) (i : Nat) (b a : Int32) : Int32 := if a = 5 ∨ a = 6 then (if b < 0 ∨ Int32.ofNat (gc W i).2.2.2.2.1.length ≤ b then -1 else if a = 5 then (gfl (gc W i) b.toNatClampNeg).2.2.1 else kd3 (gfl (gc W i) b.toNatClampNeg).2.1)
  else if b < 0 ∨ Int32.ofNat (gc W i).2.2.2.2.2.length ≤ b then -1 else if a = 0 then (gmt (gc W i) b.toNatClampNeg).2.2.2.1 else if a = 1 then Int32.ofNat (gmt (gc W i) b.toNatClampNeg).2.1.length else if a = 2 then (gmt (gc W i) b.toNatClampNeg).2.2.2.2.1 else if a = 3 then (gmt (gc W i) b.toNatClampNeg).2.2.2.2.2.1 else if a = 4 then Int32.ofNat (gmt (gc W i) b.toNatClampNeg).2.2.2.2.2.2.1.length else -1
def memO (W : List Cls) (c b a : Int32) : Int32 := if c < 0 ∨ Int32.ofNat W.length ≤ c then -1 else mbrO W c.toNatClampNeg b a
section
variable {A : List Nm} {W : List Cls} {k C B F K w n : Nat} {br a b c : Int32} {nq nk np nh nr : Nat} {s : Ms} {M M' : Mem} {Q : Int32 → Mem → Prop} {on : Nat → Bool}
/-- b is in 0 .. n - 1, as the works ask it -/
theorem c_isIn1 (hn : n < 1000000) (h0 : (b < 0 ∨ Int32.ofNat n ≤ b) → Q 0 M) (h1 : ∀ j, j < n → b = Int32.ofNat j → b.toNatClampNeg = j → ¬ (b < 0 ∨ Int32.ofNat n ≤ b) → Q 1 M) : w_Works_isIn b 0 (Int32.ofNat n - 1) Q M := by
  unfold w_Works_isIn
  by_cases c0 : b < 0
  · exact itp c0 (h0 (Or.inl c0))
  refine itn c0 ?_
  have hb := tnc_lt b
  by_cases c1 : Int32.ofNat n ≤ b
  · refine itp ?_ (h0 (Or.inr c1))
    rw [← tnc_oN c0] at c1 ⊢
    have c1 := (oN_le (by omega) hb).mp c1
    rcases Nat.eq_zero_or_pos n with z | z
    · rw [z]
      exact Int32.lt_of_lt_of_le (show Int32.ofNat 0 - 1 < 0 by decide) (oN_zero_le hb)
    · rw [show Int32.ofNat n - (1 : Int32) = Int32.ofNat (n - 1) from sub_n (n := 1) z]
      exact (oN_lt (by omega) hb).mpr (by omega)
  have hj := idx_lt (by omega) c0 c1
  refine itn (fun z => ?_) (h1 b.toNatClampNeg hj (tnc_oN c0).symm rfl (fun z => z.elim c0 c1))
  rw [show Int32.ofNat n - (1 : Int32) = Int32.ofNat (n - 1) from sub_n (n := 1) (by omega), ← tnc_oN c0] at z
  have := (oN_lt (by omega) hb).mp z
  omega
theorem kC_3 {κ : Kd} (hty : tyOk κ) (hl : A.length ≤ 200000) (ko : kok A κ) (hQ : Q (kd3 κ) M) : w_JMath_min (kC A κ) 2 Q M := by
  unfold w_JMath_min
  unfold kd3 at hQ
  rcases hty with y | y | y
  · rw [y] at hQ ⊢; exact itn (show ¬ (2 : Int32) < 0 by decide) hQ
  · rw [y] at hQ ⊢; exact itn (show ¬ (2 : Int32) < 1 by decide) hQ
  · rw [if_neg (by rw [y]; decide), if_neg (by rw [y]; decide)] at hQ
    unfold kC
    rw [if_pos y]
    have hi := List.idxOf_lt_length_of_mem (ko y)
    by_cases c2 : (2 : Int32) < Int32.ofNat (A.idxOf κ.2 + 2)
    · exact itp c2 hQ
    · refine itn c2 ?_
      have : A.idxOf κ.2 = 0 := by
        rcases Nat.eq_zero_or_pos (A.idxOf κ.2) with z | z
        · exact z
        · exact absurd ((oN_lt (a := 2) (by omega) (by omega)).mpr (by omega)) c2
      rw [this]; exact hQ
theorem c_wmember (hk : k < 3) (hOn : cOn on M) (hon : on k = true) (hW : WO W) (hnA : nA A) (h : RA A W (k + 1) br nq nk np nh nr C B F s M) (hQ : Q (memO W c b a) M) : w_Works_member 0 (Int32.ofNat k) c b a Q M := by
  unfold memO at hQ
  unfold w_Works_member
  refine c_isClass hk hOn hon hW.1.1 hW.2.2.2 h.1.1.1.1.1.1.1.1 (fun z => by rw [if_pos z] at hQ; exact itp rfl hQ) (fun i hi ei ei2 nz => ?_)
  rw [if_neg nz, ei2] at hQ
  obtain ⟨a1, a2⟩ := hOn.at hk hon
  have h51 := hW.2.2.2
  have hcw := h.1.1.1
  refine itn (by decide) ⟨a1, k + 1, a2, ?_⟩
  rw [ei]
  unfold mbrO at hQ
  have j32 : a = 5 ∨ a = 6 → w_Works_member_j32 0 Q (Int32.ofNat i) b a (k + 1) M := fun ha => by
    rw [if_pos ha] at hQ
    obtain ⟨⟨-, -, l41, l42⟩, fl2, -⟩ := hcw.1.2.1
    obtain ⟨⟨e41, e42⟩, h8, -⟩ := fl2 i hi
    unfold w_Works_member_j32 w_Works_isField
    rw [oN_tnc (k := i) (by omega), e42]
    refine ⟨by rw [l42]; exact (vp_oN (by omega)).mpr (by omega), c_isIn1 (by omega) (fun z => ⟨Or.inl rfl, ?_⟩) (fun j hj ej ej2 nb => ⟨Or.inr rfl, ?_⟩)⟩
    · rw [if_pos z] at hQ; exact itp rfl hQ
    rw [if_neg nb, ej2] at hQ
    have hty : tyOk (gfl (gc W i) j).2.1 := ((hW.2.2.1.1 _ (gc_mem hi)).1.1 _ (getD_mem hj)).1
    obtain ⟨⟨fo, l50, l51, -⟩, -, e51⟩ := h.fld hnA h51 (q := (i, j)) hi hj hty
    dsimp only at fo e51
    refine itn (by decide) ⟨by rw [l41]; exact (vp_oN (by omega)).mpr (by omega), ?_⟩
    rw [ej, e41, oN_add, oN_tnc (k := foff W i + j) (by omega), e51]
    by_cases c5 : a = 5
    · rw [if_pos c5] at hQ
      exact itp c5 ⟨by rw [l51]; exact (vp_oN (by omega)).mpr fo, hQ⟩
    · rw [if_neg c5] at hQ
      refine itn c5 ⟨by rw [l50]; exact (vp_oN (by omega)).mpr fo, ?_⟩
      obtain ⟨-, -, fl3⟩ := hcw.1.2.1
      obtain ⟨g1, g2⟩ := gF1_at hi hj
      obtain ⟨-, ⟨k50, ko⟩, -⟩ := fl3 _ g1
      rw [g2] at k50 ko
      rw [k50]
      exact kC_3 hty hnA.1 ko hQ
  by_cases c5 : a = 5
  · exact itp c5 (j32 (Or.inl c5))
  refine itn c5 ?_
  by_cases c6 : a = 6
  · exact itp c6 (j32 (Or.inr c6))
  refine itn c6 ?_
  rw [if_neg (fun z => z.elim c5 c6)] at hQ
  obtain ⟨e43, e44, m3, m4, -⟩ := hcw.mo (e := 0) hi
  have l44 : mL M 44 (k + 1) = 51 := hcw.2.1.1.1.2
  have l43 : mL M 43 (k + 1) = 51 := hcw.2.1.1.1.1
  unfold w_Works_isMethod
  rw [oN_tnc (k := i) (by omega), e44]
  refine ⟨by rw [l44]; exact (vp_oN (by omega)).mpr (by omega), c_isIn1 (by omega) (fun z => ⟨Or.inl rfl, ?_⟩) (fun j hj ej ej2 nb => ⟨Or.inr rfl, ?_⟩)⟩
  · rw [if_pos z] at hQ; exact itp rfl hQ
  rw [if_neg nb, ej2] at hQ
  obtain ⟨hH, q0, h0, ⟨-, e63, -⟩, -⟩ := hcw.2.1.2.2 i hi j hj
  have lm : ∀ f, 55 ≤ f → f ≤ 65 → vp_in (Int32.ofNat (moff W i + j)) (mL M f (k + 1)) := fun f x y => by rw [hcw.2.1.1.2.1 f x y]; exact (vp_oN (by omega)).mpr (by omega)
  refine itn (by decide) ⟨by rw [l43]; exact (vp_oN (by omega)).mpr (by omega), ?_⟩
  rw [ej, e43, oN_add, oN_tnc (k := moff W i + j) (by omega)]
  by_cases z0 : a = 0
  · rw [if_pos z0] at hQ
    exact itp z0 ⟨lm 57 (by omega) (by omega), by rw [hH.2.2.1]; exact hQ⟩
  rw [if_neg z0] at hQ
  refine itn z0 ?_
  by_cases z1 : a = 1
  · rw [if_pos z1] at hQ
    exact itp z1 ⟨lm 58 (by omega) (by omega), by rw [hH.2.2.2.1.1]; exact hQ⟩
  rw [if_neg z1] at hQ
  refine itn z1 ?_
  by_cases z2 : a = 2
  · rw [if_pos z2] at hQ
    exact itp z2 ⟨lm 60 (by omega) (by omega), by rw [hH.2.2.2.2.2.1]; exact hQ⟩
  rw [if_neg z2] at hQ
  refine itn z2 ?_
  by_cases z3 : a = 3
  · rw [if_pos z3] at hQ
    exact itp z3 ⟨lm 61 (by omega) (by omega), by rw [hH.2.2.2.2.2.2]; exact hQ⟩
  rw [if_neg z3] at hQ
  refine itn z3 ?_
  by_cases z4 : a = 4
  · rw [if_pos z4] at hQ
    exact itp z4 ⟨lm 63 (by omega) (by omega), by rw [e63]; exact hQ⟩
  rw [if_neg z4] at hQ
  refine itn z4 ?_
  exact hQ
end
section
variable {G : List Sl} {US : UST} {A : List Nm} {S : List Sg} {W : List Cls} {k C B F K ud t w : Nat} {br a b c x : Int32} {nq nl nf nk : Nat} {s : Ms} {M M' : Mem} {Q : Int32 → Mem → Prop} {on : Nat → Bool}
theorem ct_wmember (hk : k < 3) (hOn : tOn on M) (hon : on k = true) (hW : WO W) (h : TAx G US A S W k br nq nl nf nk B F x s M) (hQ : Q (memO W c b a) M) : w_Model_member 0 (Int32.ofNat k) c b a Q M := by
  have hT : TA G US A S W k br nq nl nf nk B F x s (sR M 11 0 45 (some (12, k))) := h
  unfold memO at hQ
  unfold w_Model_member
  refine ct_isClass hk hOn hon hW.2.2.2 (show mI M 12 k 2 = _ from hT.1.1.cl.1.1.1) (fun z => by rw [if_pos z] at hQ; exact itp rfl hQ) (fun i hi ei ei2 nz => ?_)
  rw [if_neg nz, ei2] at hQ
  obtain ⟨a1, a2⟩ := hOn.at hk
  have h51 := hW.2.2.2
  have hLA := hT.1.1.2.2.1
  refine itn (by decide) ?_
  unfold mbrO at hQ
  have out : a < 0 ∨ 6 < a → Q (-1) M := fun ho => by
    have hn : ∀ m : Int32, ¬ (m < 0 ∨ 6 < m) → a ≠ m := fun m hm e => hm (by rw [← e]; exact ho)
    rw [if_neg (fun z => z.elim (hn 5 (by decide)) (hn 6 (by decide))), if_neg (hn 0 (by decide)), if_neg (hn 1 (by decide)), if_neg (hn 2 (by decide)), if_neg (hn 3 (by decide)), if_neg (hn 4 (by decide))] at hQ
    split at hQ <;> exact hQ
  by_cases c0 : a < 0
  · exact itp c0 (out (Or.inl c0))
  refine itn c0 ?_
  by_cases c6 : 6 < a
  · exact itp c6 (out (Or.inr c6))
  refine itn c6 ?_
  by_cases b0 : b < 0
  · rw [if_pos (Or.inl b0), if_pos (Or.inl b0)] at hQ
    have hQ : Q (-1) M := by split at hQ <;> exact hQ
    exact itn (Int32.not_le.mpr b0) hQ
  refine itp (Int32.not_lt.mp b0) ⟨a1, k, a2, ?_⟩
  rw [ei]
  have hbb := tnc_lt b
  have hb := (tnc_oN b0).symm
  obtain ⟨⟨-, l140, l141, -, -, -⟩, hf⟩ := hT.1.1.1.1.1.2.1
  obtain ⟨⟨e135, h8⟩, hf⟩ := hf i hi
  have l135 : mL M 135 k = 51 := hT.1.1.1.1.1.1.2.2.2.1
  have l136 : mL M 136 k = 51 := hT.1.1.1.1.1.1.2.2.2.2.1
  have e135 : mI M 135 k i = Int32.ofNat (gc W i).2.2.2.2.1.length := e135
  have e136 : mI M 136 k i = Int32.ofNat (gc W i).2.2.2.2.2.length := (hT.1.1.mcn hi).1
  have h12 := (hT.1.1.mcn hi).2
  have l140 : mL M 140 k = 408 := l140
  have l141 : mL M 141 k = 408 := l141
  rw [oN_tnc (k := i) (by omega), e135, e136]
  have vv : ∀ {m : Nat}, m = 51 → vp_in (Int32.ofNat i) m := fun e => by rw [e]; exact (vp_oN (by omega)).mpr (by omega)
  unfold w_Model_member_j59
  by_cases c5 : 5 ≤ a
  · have ha : a = 5 ∨ a = 6 := by
      rw [Int32.le_iff_toInt_le, show (5 : Int32).toInt = 5 from rfl] at c5
      rw [Int32.lt_iff_toInt_lt, show (6 : Int32).toInt = 6 from rfl] at c6
      have : a.toInt = 5 ∨ a.toInt = 6 := by omega
      rcases this with z | z
      · exact Or.inl (Int32.toInt_inj.mp z)
      · exact Or.inr (Int32.toInt_inj.mp z)
    rw [if_pos ha] at hQ
    refine itp c5 ⟨vv l135, ?_⟩
    by_cases b1 : Int32.ofNat (gc W i).2.2.2.2.1.length ≤ b
    · rw [if_pos (Or.inr b1)] at hQ
      exact itn (Int32.not_lt.mpr b1) hQ
    rw [if_neg (fun z => z.elim b0 b1)] at hQ
    have hj := idx_lt (by omega) b0 b1
    refine itp (Int32.not_le.mp b1) ?_
    generalize b.toNatClampNeg = j at hj hb hQ
    subst hb
    obtain ⟨-, ⟨e140, ko⟩, e141, -⟩ := hf j hj
    have e140 : mI M 140 k (8 * i + j) = kt A (gfl (gc W i) j).2.1 := e140
    have e141 : mI M 141 k (8 * i + j) = (gfl (gc W i) j).2.2.1 := e141
    have hty : tyOk (gfl (gc W i) j).2.1 := ((hW.2.2.1.1 _ (gc_mem hi)).1.1 _ (getD_mem hj)).1
    have v8 : ∀ {m : Nat}, m = 408 → vp_in (Int32.ofNat (8 * i + j)) m := fun e => by rw [e]; exact (vp_oN (by omega)).mpr (by omega)
    rw [show (8 : Int32) * Int32.ofNat i = Int32.ofNat (8 * i) from oN_mul 8 _, oN_add, oN_tnc (k := 8 * i + j) (by omega), e141, e140]
    rcases ha with z | z <;> subst z
    · rw [if_pos rfl] at hQ
      exact itn (by decide) (itn (by decide) (itn (by decide) (itn (by decide) (itn (by decide) (itp rfl ⟨v8 l141, hQ⟩)))))
    · rw [if_neg (by decide)] at hQ
      refine itn (by decide) (itn (by decide) (itn (by decide) (itn (by decide) (itn (by decide) (itn (by decide) ⟨v8 l140, ?_⟩)))))
      unfold kd3 at hQ
      rcases hty with y | y | y
      · rw [y] at hQ ⊢; exact itp rfl hQ
      · rw [y] at hQ ⊢; exact itn (by show ¬ kt A (1, []) = 1; exact (by decide : ¬ (2 : Int32) = 1)) ⟨v8 l140, itp rfl hQ⟩
      · rw [if_neg (by rw [y]; decide), if_neg (by rw [y]; decide)] at hQ
        have hi' := List.idxOf_lt_length_of_mem (ko y)
        unfold kt
        rw [if_pos y]
        refine itn (fun z => by have := (oN_inj (b := 1) (by omega) (by omega)).mp z; omega) ⟨v8 l140, itn (fun z => by have := (oN_inj (b := 2) (by omega) (by omega)).mp z; omega) hQ⟩
  · have ha : a = 0 ∨ a = 1 ∨ a = 2 ∨ a = 3 ∨ a = 4 := by
      obtain ⟨n, hn, en, -⟩ := i61 (m := 6) (by decide) c0 c6
      have : n ≤ 4 := by
        rw [en] at c5
        rcases Nat.lt_or_ge n 5 with z | z
        · omega
        · exact absurd ((oN_le (a := 5) (b := n) (by omega) (by omega)).mpr z) c5
      have : n = 0 ∨ n = 1 ∨ n = 2 ∨ n = 3 ∨ n = 4 := by omega
      rw [en]
      rcases this with z | z | z | z | z <;> subst z <;> decide
    rw [if_neg (fun z => c5 (by rcases z with z | z <;> rw [z] <;> decide))] at hQ
    refine itn c5 ⟨vv l136, ?_⟩
    by_cases b1 : Int32.ofNat (gc W i).2.2.2.2.2.length ≤ b
    · rw [if_pos (Or.inr b1)] at hQ
      exact itn (Int32.not_lt.mpr b1) hQ
    rw [if_neg (fun z => z.elim b0 b1)] at hQ
    have hj := idx_lt (by omega) b0 b1
    refine itp (Int32.not_le.mp b1) ?_
    generalize b.toNatClampNeg = j at hj hb hQ
    subst hb
    have hH := hT.1.1.hd hi hj
    obtain ⟨q0, -, e150, -⟩ := hT.1.1.ms.2.2 i hi j hj
    have e146 : mI M 146 k (12 * i + j) = (gmt (gc W i) j).2.2.2.1 := hH.2.2.2.1
    have e147 : mI M 147 k (12 * i + j) = (gmt (gc W i) j).2.2.2.2.1 := hH.2.2.2.2.1
    have e148 : mI M 148 k (12 * i + j) = (gmt (gc W i) j).2.2.2.2.2.1 := hH.2.2.2.2.2
    have e145 : mI M 145 k (12 * i + j) = Int32.ofNat (S.idxOf (sg A (gmt (gc W i) j).2.1 (gmt (gc W i) j).2.2.1)) := hH.2.1.1
    have e150 : mI M 150 k (12 * i + j) = Int32.ofNat (gmt (gc W i) j).2.2.2.2.2.2.1.length := e150
    have lm : ∀ f, 144 ≤ f → f ≤ 151 → vp_in (Int32.ofNat (12 * i + j)) (mL M f k) := fun f p q => by rw [show mL M f k = 612 from hT.1.1.ml p q]; exact (vp_oN (by omega)).mpr (by omega)
    obtain ⟨s1, s2, s3, s4⟩ := hT.1.1.sgT (ks := (gmt (gc W i) j).2.1) (κ := (gmt (gc W i) j).2.2.1) hH.2.1.2
    rw [show (12 : Int32) * Int32.ofNat i = Int32.ofNat (12 * i) from oN_mul 12 _, oN_add, oN_tnc (k := 12 * i + j) (by omega), e145, e146, e147, e148, e150]
    rcases ha with z | z | z | z | z <;> subst z
    · rw [if_pos rfl] at hQ
      exact itp rfl ⟨lm 146 (by omega) (by omega), hQ⟩
    · rw [if_neg (by decide), if_pos rfl] at hQ
      refine itn (by decide) (itp rfl ⟨_, s1, lm 145 (by omega) (by omega), (vp_oN (by omega)).mpr s2, ?_⟩)
      rw [oN_tnc (k := S.idxOf (sg A (gmt (gc W i) j).2.1 (gmt (gc W i) j).2.2.1)) (by omega)]
      rw [show mI M 300 (rdI (sR M 11 0 45 (some (12, k))) sC) (S.idxOf (sg A (gmt (gc W i) j).2.1 (gmt (gc W i) j).2.2.1)) = _ from s4]; exact hQ
    · rw [if_neg (by decide), if_neg (by decide), if_pos rfl] at hQ
      exact itn (by decide) (itn (by decide) (itp rfl ⟨lm 147 (by omega) (by omega), hQ⟩))
    · rw [if_neg (by decide), if_neg (by decide), if_neg (by decide), if_pos rfl] at hQ
      exact itn (by decide) (itn (by decide) (itn (by decide) (itp rfl ⟨lm 148 (by omega) (by omega), hQ⟩)))
    · rw [if_neg (by decide), if_neg (by decide), if_neg (by decide), if_neg (by decide), if_pos rfl] at hQ
      exact itn (by decide) (itn (by decide) (itn (by decide) (itn (by decide) (itp rfl ⟨lm 150 (by omega) (by omega), hQ⟩))))
end
