/-! THE OPERATION world: the first that is not there -/
def frW (on : Nat → Bool) : Option Nat := if on 0 = false then some 0 else if on 1 = false then some 1 else if on 2 = false then some 2 else none
theorem frW_at {on : Nat → Bool} {k : Nat} (hk : k < 3) (h : ∀ j, j < k → on j = true) (h0 : on k = false) : frW on = some k := by
  unfold frW
  have : k = 0 ∨ k = 1 ∨ k = 2 := by omega
  rcases this with z | z | z <;> subst z
  · rw [if_pos h0]
  · rw [if_neg (by rw [h 0 (by omega)]; decide), if_pos h0]
  · rw [if_neg (by rw [h 0 (by omega)]; decide), if_neg (by rw [h 1 (by omega)]; decide), if_pos h0]
theorem frW_no {on : Nat → Bool} (h : ∀ j, j < 3 → on j = true) : frW on = none := by
  unfold frW
  rw [if_neg (by rw [h 0 (by omega)]; decide), if_neg (by rw [h 1 (by omega)]; decide), if_neg (by rw [h 2 (by omega)]; decide)]
section
variable {on : Nat → Bool} {a : Int32} {Q : Int32 → Mem → Prop} {M : Mem} {k : Nat}
theorem c_wworld (hOn : cOn on M) (l7 : mL M 702 1 = 3) (r7 : ∀ k, k < 3 → mR M 702 1 k = some (5, k + 1)) (hbad : (a < 0 ∨ 255 < a) → Q (-1) M) (hfull : ¬ (a < 0 ∨ 255 < a) → frW on = none → Q (-3) M) (hbeg : ∀ k, frW on = some k → k < 3 → ¬ (a < 0 ∨ 255 < a) → w_World_begin (k + 1) a (fun M12 => Q (Int32.ofNat k) M12) (sR M 702 0 k (some (5, k + 1)))) : w_Works_world 0 a Q M := by
  unfold w_Works_world w_Works_isIn
  by_cases c0 : a < 0
  · exact itp c0 (itp rfl (hbad (Or.inl c0)))
  refine itn c0 ?_
  by_cases c2 : 255 < a
  · exact itp c2 (itp rfl (hbad (Or.inr c2)))
  have nb : ¬ (a < 0 ∨ 255 < a) := fun z => z.elim c0 c2
  refine itn c2 (itn (by decide) ⟨4, ?_⟩)
  have lp : ∀ d k, 3 - k < d → k ≤ 3 → (∀ j, j < k → on j = true) → w_Works_world_L15 0 Q d a (Int32.ofNat k) M := by
    intro d
    induction d with
    | zero => intro k h; omega
    | succ d ih =>
      intro k hd hk hj
      unfold w_Works_world_L15
      by_cases c : k = 3
      · subst c
        refine itp (by decide) ?_
        unfold w_Works_world_j35
        exact itp rfl (hfull nb (frW_no hj))
      · have hk3 : k < 3 := by omega
        refine itn (nle_oN (a := 3) (by omega) (by omega)) ⟨by rw [hOn.1]; exact (vp_oN (by omega)).mpr hk3, ?_⟩
        rw [oN_tnc (k := k) (by omega), hOn.2 k hk3]
        by_cases ck : on k = true
        · rw [ck]
          refine itn (by intro z; cases z) ?_
          rw [lit32 1, oN_add]
          refine ih (k + 1) (by omega) (by omega) (fun j hj' => ?_)
          by_cases e : j = k
          · subst e; exact ck
          · exact hj j (by omega)
        · rw [Bool.not_eq_true] at ck
          rw [ck]
          refine itp rfl ?_
          unfold w_Works_world_j35
          have hv : vp_in (Int32.ofNat k) (mL M 702 0) := by rw [hOn.1]; exact (vp_oN (by omega)).mpr hk3
          refine itn (ne_oN (b := 3) c (by omega) (by omega)) ⟨by rw [l7]; exact (vp_oN (by omega)).mpr hk3, k + 1, by rw [oN_tnc (k := k) (by omega)]; exact r7 k hk3, hv, _, rfl, hv, k + 1, by rw [mR_sR, if_pos ⟨rfl, rfl, rfl⟩], ?_⟩
          rw [oN_tnc (k := k) (by omega)]
          exact hbeg k (frW_at hk3 hj ck) hk3 nb
  exact lp 4 0 (by omega) (by omega) (fun j hj => absurd hj (Nat.not_lt_zero j))
theorem ct_wworld (hOn : tOn on M) (hbad : (a < 0 ∨ 255 < a) → Q (-1) M) (hfull : ¬ (a < 0 ∨ 255 < a) → frW on = none → Q (-3) M) (hbeg : ∀ k, frW on = some k → k < 3 → ¬ (a < 0 ∨ 255 < a) → w_Model_beginWorld 0 k a (fun M9 => Q (Int32.ofNat k) M9) M) : w_Model_world 0 a Q M := by
  unfold w_Model_world
  by_cases c0 : a < 0
  · exact itp c0 (hbad (Or.inl c0))
  refine itn c0 ?_
  by_cases c2 : a ≤ 255
  · have nb : ¬ (a < 0 ∨ 255 < a) := fun z => z.elim c0 (fun q => absurd c2 (Int32.not_le.mpr q))
    refine itp c2 ⟨4, ?_⟩
    have lp : ∀ d k, 3 - k < d → k ≤ 3 → (∀ j, j < k → on j = true) → w_Model_world_L15 0 Q d a (Int32.ofNat k) M := by
      intro d
      induction d with
      | zero => intro k h; omega
      | succ d ih =>
        intro k hd hk hj
        unfold w_Model_world_L15
        by_cases c : k = 3
        · subst c
          exact itp (by decide) (hfull nb (frW_no hj))
        · have hk3 : k < 3 := by omega
          have hv : vp_in (Int32.ofNat k) (mL M 703 0) := by rw [hOn.1]; exact (vp_oN (by omega)).mpr (by omega)
          have hr : mR M 703 0 (Int32.ofNat k).toNatClampNeg = some (12, k) := by rw [oN_tnc (k := k) (by omega)]; exact (hOn.2 k hk3).1
          refine itn (nle_oN (a := 3) (by omega) (by omega)) ⟨hv, k, hr, ?_⟩
          rw [(hOn.2 k hk3).2]
          by_cases ck : on k = true
          · rw [ck]
            refine itn (by decide) ?_
            rw [lit32 1, oN_add]
            refine ih (k + 1) (by omega) (by omega) (fun j hj' => ?_)
            by_cases e : j = k
            · subst e; exact ck
            · exact hj j (by omega)
          · rw [Bool.not_eq_true] at ck
            rw [ck]
            exact itp rfl ⟨hv, k, hr, hbeg k (frW_at hk3 hj ck) hk3 nb⟩
    exact lp 4 0 (by omega) (by omega) (fun j hj => absurd hj (Nat.not_lt_zero j))
  · exact itn c2 (hbad (Or.inr (Int32.not_le.mp c2)))
end
