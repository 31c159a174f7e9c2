/-! where a trial's last line begins: works and twin look for it from the end -/
section
variable {L : Trl} {M : Mem} {Q X : Mem → Prop} {r : Nat} {br : Int32}
/-- the byte ahead of the last line ends a line -/
theorem txt_10 (h : L ≠ []) {k : Nat} (hk : k + 1 = (txt L).length) : gi (txt L) k = 10 := by
  have e := txt_last h
  have hl := txt_len h
  have : k = (txt L.dropLast).length + (L.getLastD []).length := by omega
  rw [this, e, gi_r]
  have := gi_r (L.getLastD []) [10] 0
  rw [Nat.add_zero] at this
  rw [this]; rfl
theorem txt_in (h : L ≠ []) (h10 : (10 : Int32) ∉ L.getLastD []) {k : Nat} (h1 : (txt L.dropLast).length ≤ k) (h2 : k + 1 < (txt L).length) : gi (txt L) k ≠ 10 := by
  have e := txt_last h
  have hl := txt_len h
  obtain ⟨i, ei⟩ : ∃ i, k = (txt L.dropLast).length + i := ⟨k - (txt L.dropLast).length, by omega⟩
  have hi : i < (L.getLastD []).length := by omega
  rw [ei, e, gi_r, gi_l hi]
  intro z
  refine h10 ?_
  rw [← z]
  exact getD_mem hi
theorem c_wk5 (h : L ≠ []) (h10 : (10 : Int32) ∉ L.getLastD []) (hlen : (txt L).length ≤ 1204) (hT : (txt L).length ≤ mL M 400 r ∧ ∀ k, k < (txt L).length → mI M 400 r k = gi (txt L) k) (hQ : w_Works_work1_j27 0 Q X r (Int32.ofNat (txt L).length) br (Int32.ofNat (txt L.dropLast).length) M) : w_Works_work1 0 r (Int32.ofNat (txt L).length) br Q X M := by
  have hl := txt_len h
  have loop : ∀ n k, (txt L.dropLast).length ≤ k → k < (txt L).length → k < n → w_Works_work1_L5 0 Q X n r (Int32.ofNat (txt L).length) br (Int32.ofNat k) M := by
    intro n
    induction n with
    | zero => intro k _ _ z; exact absurd z (by omega)
    | succ n ih =>
      intro k h1 h2 h3
      unfold w_Works_work1_L5
      by_cases e0 : k = 0
      · subst e0
        have : (txt L.dropLast).length = 0 := by omega
        rw [this] at hQ
        exact itp (le_oN (b := 0) (Nat.le_refl _) (by omega)) hQ
      have es : Int32.ofNat k - 1 = Int32.ofNat (k - 1) := by
        have := oN_add (k - 1) 1
        rw [show k - 1 + 1 = k by omega] at this
        rw [← this, show (Int32.ofNat 1) = (1 : Int32) from rfl, Int32.add_sub_cancel]
      have ea : Int32.ofNat k + (-1 : Int32) = Int32.ofNat (k - 1) := by
        rw [← es, Int32.sub_eq_add_neg]
      refine itn (nle_oN (b := 0) (by omega) (by omega)) ?_
      rw [es, ea]
      refine ⟨(vp_oN (by omega)).mpr (by omega), ?_⟩
      rw [oN_tnc (k := k - 1) (by omega), hT.2 (k - 1) (by omega)]
      by_cases c : k = (txt L.dropLast).length
      · have hne : L.dropLast ≠ [] := fun z => by
          rw [z] at c
          exact e0 c
        have g : gi (txt L) (k - 1) = 10 := by
          have e := txt_last h
          rw [e, gi_l (by omega)]
          exact txt_10 hne (by omega)
        rw [c] at g ⊢
        exact itp g hQ
      · exact itn (txt_in h h10 (by omega) (by omega)) (ih (k - 1) (by omega) (by omega) (by omega))
  unfold w_Works_work1
  refine ⟨(txt L).length + 1, ?_⟩
  have es : Int32.ofNat (txt L).length - 1 = Int32.ofNat ((txt L).length - 1) := by
    have := oN_add ((txt L).length - 1) 1
    rw [show (txt L).length - 1 + 1 = (txt L).length by omega] at this
    rw [← this, show (Int32.ofNat 1) = (1 : Int32) from rfl, Int32.add_sub_cancel]
  rw [es]
  exact loop _ _ (by omega) (by omega) (by omega)
end
