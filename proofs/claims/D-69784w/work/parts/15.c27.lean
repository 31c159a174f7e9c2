/-! B: which worlds there are -/
theorem in3 {a : Int32} (h0 : ¬ a < 0) (h3 : ¬ (3 : Int32) ≤ a) : ∃ k, k < 3 ∧ a = Int32.ofNat k := by
  rw [Int32.lt_iff_toInt_lt] at h0
  rw [Int32.le_iff_toInt_le] at h3
  have e0 : (0 : Int32).toInt = 0 := rfl
  have e3 : (3 : Int32).toInt = 3 := rfl
  rw [e0] at h0
  rw [e3] at h3
  have h : a.toInt = 0 ∨ a.toInt = 1 ∨ a.toInt = 2 := by omega
  rcases h with q | q | q
  · exact ⟨0, by omega, Int32.toInt_inj.mp q⟩
  · exact ⟨1, by omega, Int32.toInt_inj.mp q⟩
  · exact ⟨2, by omega, Int32.toInt_inj.mp q⟩
/-- the world that a number names, of those that are there -/
def wOf (on : Nat → Bool) (a : Int32) : Option Nat := if a = 0 then (if on 0 then some 0 else none) else if a = 1 then (if on 1 then some 1 else none) else if a = 2 then (if on 2 then some 2 else none) else none
theorem wOf_k {on : Nat → Bool} {k : Nat} (hk : k < 3) : wOf on (Int32.ofNat k) = if on k then some k else none := by
  have : k = 0 ∨ k = 1 ∨ k = 2 := by omega
  rcases this with e | e | e <;> subst e <;> rfl
theorem wOf_out {on : Nat → Bool} {a : Int32} (h : a < 0 ∨ (3 : Int32) ≤ a) : wOf on a = none := by
  unfold wOf
  rw [if_neg, if_neg, if_neg]
  all_goals intro q; rw [q] at h; revert h; decide
def cOn (on : Nat → Bool) (M : Mem) : Prop := mL M 702 0 = 3 ∧ ∀ k, k < 3 → mR M 702 0 k = if on k then some (5, k + 1) else none
def tOn (on : Nat → Bool) (M : Mem) : Prop := mL M 703 0 = 4 ∧ ∀ k, k < 3 → mR M 703 0 k = some (12, k) ∧ mI M 12 k 0 = b2 (on k)
theorem c_isWorld {on : Nat → Bool} {a : Int32} {Q : Int32 → Mem → Prop} {M : Mem} (h : cOn on M) (h1 : ∀ k, k < 3 → a = Int32.ofNat k → on k = true → wOf on a = some k → Q 1 M) (h0 : wOf on a = none → Q 0 M) : w_Works_isWorld 0 a Q M := by
  unfold w_Works_isWorld w_Works_isIn
  by_cases c0 : a < 0
  · exact itp c0 (itp rfl (h0 (wOf_out (Or.inl c0))))
  refine itn c0 ?_
  by_cases c3 : (2 : Int32) < a
  · refine itp c3 (itp rfl (h0 (wOf_out (Or.inr ?_))))
    rw [Int32.lt_iff_toInt_lt] at c3
    rw [Int32.le_iff_toInt_le]
    have e2 : (2 : Int32).toInt = 2 := rfl
    have e3 : (3 : Int32).toInt = 3 := rfl
    omega
  refine itn c3 (itn (by decide) ?_)
  obtain ⟨k, hk, e⟩ := in3 c0 (fun q => c3 (by
    rw [Int32.le_iff_toInt_le] at q
    rw [Int32.lt_iff_toInt_lt]
    have e2 : (2 : Int32).toInt = 2 := rfl
    have e3 : (3 : Int32).toInt = 3 := rfl
    omega))
  subst e
  rw [h.1, oN_tnc (by omega), h.2 k hk]
  refine ⟨(vp_oN (by omega)).mpr hk, ?_⟩
  cases c : on k with
  | true => exact itn (by simp) (h1 k hk rfl c (by rw [wOf_k hk, c]; rfl))
  | false => exact itp (by simp) (h0 (by rw [wOf_k hk, c]; rfl))
theorem ct_isWorld {on : Nat → Bool} {a : Int32} {Q : Int32 → Mem → Prop} {M : Mem} (h : tOn on M) (h1 : ∀ k, k < 3 → a = Int32.ofNat k → on k = true → wOf on a = some k → Q 1 M) (h0 : wOf on a = none → Q 0 M) : w_Model_isWorld 0 a Q M := by
  unfold w_Model_isWorld
  by_cases c0 : a < 0
  · exact itp c0 (h0 (wOf_out (Or.inl c0)))
  refine itn c0 ?_
  by_cases c3 : (3 : Int32) ≤ a
  · exact itp c3 (h0 (wOf_out (Or.inr c3)))
  refine itn c3 ?_
  obtain ⟨k, hk, e⟩ := in3 c0 c3
  subst e
  rw [h.1, oN_tnc (by omega)]
  refine ⟨(vp_oN (by omega)).mpr (by omega), k, (h.2 k hk).1, ?_⟩
  rw [(h.2 k hk).2]
  cases c : on k with
  | true => exact itn (by decide) (h1 k hk rfl c (by rw [wOf_k hk, c]; rfl))
  | false => exact itp rfl (h0 (by rw [wOf_k hk, c]; rfl))
