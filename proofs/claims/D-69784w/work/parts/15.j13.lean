/-! THE OPERATION text -/
abbrev gT (X : List (List Int32)) (t : Nat) : List Int32 := X.getD t []
/-- the texts of trials, in the works, in the twin -/
def cTx (X : List (List Int32)) (M : Mem) : Prop := (mI M 10 0 10 = Int32.ofNat X.length ∧ X.length ≤ 40) ∧ (mL M 701 0 = 40 ∧ mL M 98 0 = 40) ∧ ∃ π : Nat → Nat, (∀ t, t < 40 → mR M 701 0 t = some (400, π t) ∧ mL M 400 (π t) = 1260 ∧ π t ≠ 0 ∧ π t ≠ 41) ∧ (∀ t t', t < 40 → t' < 40 → π t = π t' → t = t') ∧ ∀ t, t < X.length → (mI M 98 0 t = Int32.ofNat (gT X t).length ∧ (gT X t).length ≤ 1204) ∧ ∀ i, i < (gT X t).length → mI M 400 (π t) i = gi (gT X t) i
def tTx (X : List (List Int32)) (M : Mem) : Prop := (mI M 11 0 121 = Int32.ofNat X.length ∧ X.length ≤ 40) ∧ (mL M 122 0 = 40 ∧ mL M 412 0 = 48160) ∧ ∀ t, t < X.length → (mI M 122 0 t = Int32.ofNat (gT X t).length ∧ (gT X t).length ≤ 1204) ∧ ∀ i, i < (gT X t).length → mI M 412 0 (1204 * t + i) = gi (gT X t) i
def txtO (X : List (List Int32)) (a b : Int32) : Int32 := if a < 0 ∨ Int32.ofNat X.length ≤ a then -1 else if b < 0 ∨ Int32.ofNat (gT X a.toNatClampNeg).length ≤ b then -1 else gi (gT X a.toNatClampNeg) b.toNatClampNeg &&& 255
section
variable {X : List (List Int32)} {a b : Int32} {M : Mem} {Q : Int32 → Mem → Prop} {n : Nat}
theorem c_isTrial (h : mI M 10 0 10 = Int32.ofNat n) (hn : n ≤ 40) (h0 : (a < 0 ∨ Int32.ofNat n ≤ a) → Q 0 M) (h1 : ∀ i, i < n → a = Int32.ofNat i → a.toNatClampNeg = i → ¬ (a < 0 ∨ Int32.ofNat n ≤ a) → Q 1 M) : w_Works_isTrial 0 a Q M := by
  unfold w_Works_isTrial
  rw [h]
  exact c_isIn1 (by omega) (fun z => ⟨Or.inl rfl, h0 z⟩) (fun i hi e e2 z => ⟨Or.inr rfl, h1 i hi e e2 z⟩)
theorem ct_isTrial (h : mI M 11 0 121 = Int32.ofNat n) (hn : n ≤ 40) (h0 : (a < 0 ∨ Int32.ofNat n ≤ a) → Q 0 M) (h1 : ∀ i, i < n → a = Int32.ofNat i → a.toNatClampNeg = i → ¬ (a < 0 ∨ Int32.ofNat n ≤ a) → Q 1 M) : w_Model_isTrial 0 a Q M := by
  unfold w_Model_isTrial
  rw [h]
  by_cases c1 : a < 0
  · exact itp c1 (h0 (Or.inl c1))
  refine itn c1 ?_
  by_cases c2 : Int32.ofNat n ≤ a
  · exact itp c2 (h0 (Or.inr c2))
  · exact itn c2 (h1 _ (idx_lt (by omega) c1 c2) (tnc_oN c1).symm rfl (fun z => z.elim c1 c2))
theorem c_wtext (h : cTx X M) (hQ : Q (txtO X a b) M) : w_Works_text 0 a b Q M := by
  obtain ⟨⟨e10, h40⟩, ⟨l701, l98⟩, π, hr, -, ht⟩ := h
  unfold txtO at hQ
  unfold w_Works_text
  refine c_isTrial e10 h40 (fun z => by rw [if_pos z] at hQ; exact itp rfl hQ) (fun t htl ea ea2 z => ?_)
  rw [if_neg z, ea2] at hQ
  obtain ⟨⟨e98, hl⟩, hc⟩ := ht t htl
  refine itn (by decide) ⟨by rw [l98, ea]; exact (vp_oN (by omega)).mpr (by omega), ?_⟩
  rw [ea, oN_tnc (k := t) (by omega), e98]
  refine c_isIn1 (by omega) (fun z => by rw [if_pos z] at hQ; exact itp rfl hQ) (fun i hi eb eb2 z => ?_)
  rw [if_neg z, eb2] at hQ
  obtain ⟨r1, r2, -⟩ := hr t (by omega)
  refine itn (by decide) ⟨by rw [l701]; exact (vp_oN (by omega)).mpr (by omega), π t, r1, by rw [r2, eb]; exact (vp_oN (by omega)).mpr (by omega), ?_⟩
  rw [eb2, hc i hi]; exact hQ
theorem ct_wtext (h : tTx X M) (hQ : Q (txtO X a b) M) : w_Model_text 0 a b Q M := by
  obtain ⟨⟨e121, h40⟩, ⟨l122, l412⟩, ht⟩ := h
  unfold txtO at hQ
  unfold w_Model_text
  refine ct_isTrial e121 h40 (fun z => by rw [if_pos z] at hQ; exact itp rfl hQ) (fun t htl ea ea2 z => ?_)
  rw [if_neg z, ea2] at hQ
  obtain ⟨⟨e122, hl⟩, hc⟩ := ht t htl
  refine itn (by decide) ?_
  by_cases c1 : b < 0
  · rw [if_pos (Or.inl c1)] at hQ
    exact itp c1 hQ
  refine itn c1 ⟨by rw [l122, ea]; exact (vp_oN (by omega)).mpr (by omega), ?_⟩
  rw [ea, oN_tnc (k := t) (by omega), e122]
  by_cases c2 : Int32.ofNat (gT X t).length ≤ b
  · rw [if_pos (Or.inr c2)] at hQ
    exact itn (Int32.not_lt.mpr c2) hQ
  · rw [if_neg (fun z => z.elim c1 c2)] at hQ
    have hi := idx_lt (n := (gT X t).length) (by omega) c1 c2
    have eb := tnc_oN c1
    refine itp (Int32.not_le.mp c2) ?_
    rw [← eb, lit32 1204, oN_mul, oN_add, oN_tnc (k := 1204 * t + b.toNatClampNeg) (by omega), l412, hc _ hi]
    exact ⟨(vp_oN (by omega)).mpr (by omega), hQ⟩
end
