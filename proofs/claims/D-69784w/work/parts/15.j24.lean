/-! where a trial's last line begins: twin -/
section
variable {L : Trl} {M : Mem} {Q X : Mem → Prop} {br : Int32}
theorem ct_wk7 (h : L ≠ []) (h10 : (10 : Int32) ∉ L.getLastD []) (hlen : (txt L).length ≤ 1204) (hT : (txt L).length ≤ mL M 402 2 ∧ ∀ k, k < (txt L).length → mI M 402 2 k = gi (txt L) k) (h123 : mI M 11 0 123 = Int32.ofNat (txt L).length) (hQ : w_Model_tryDraft_j30 0 Q X br (Int32.ofNat (txt L.dropLast).length) M) : w_Model_tryDraft 0 br Q X M := by
  have hl := txt_len h
  have loop : ∀ n k, (txt L.dropLast).length ≤ k → k < (txt L).length → k < n → w_Model_tryDraft_L7 0 Q X n br (Int32.ofNat k) M := by
    intro n
    induction n with
    | zero => intro k _ _ z; exact absurd z (by omega)
    | succ n ih =>
      intro k h1 h2 h3
      unfold w_Model_tryDraft_L7
      by_cases e0 : k = 0
      · subst e0
        have : (txt L.dropLast).length = 0 := by omega
        rw [this] at hQ
        exact itp (le_oN (b := 0) (Nat.le_refl _) (by omega)) hQ
      have es : Int32.ofNat k - 1 = Int32.ofNat (k - 1) := by
        have := oN_add (k - 1) 1
        rw [show k - 1 + 1 = k by omega] at this
        rw [← this, show (Int32.ofNat 1) = (1 : Int32) from rfl, Int32.add_sub_cancel]
      have ea : Int32.ofNat k + (-1 : Int32) = Int32.ofNat (k - 1) := by
        rw [← es, Int32.sub_eq_add_neg]
      refine itn (nle_oN (b := 0) (by omega) (by omega)) ?_
      rw [es, ea]
      refine ⟨(vp_oN (by omega)).mpr (by omega), ?_⟩
      rw [oN_tnc (k := k - 1) (by omega), hT.2 (k - 1) (by omega)]
      by_cases c : k = (txt L.dropLast).length
      · have hne : L.dropLast ≠ [] := fun z => by
          rw [z] at c
          exact e0 c
        have g : gi (txt L) (k - 1) = 10 := by
          have e := txt_last h
          rw [e, gi_l (by omega)]
          exact txt_10 hne (by omega)
        rw [c] at g ⊢
        exact itp g hQ
      · exact itn (txt_in h h10 (by omega) (by omega)) (ih (k - 1) (by omega) (by omega) (by omega))
  unfold w_Model_tryDraft
  refine ⟨(txt L).length + 1, ?_⟩
  have es : Int32.ofNat (txt L).length - 1 = Int32.ofNat ((txt L).length - 1) := by
    have := oN_add ((txt L).length - 1) 1
    rw [show (txt L).length - 1 + 1 = (txt L).length by omega] at this
    rw [← this, show (Int32.ofNat 1) = (1 : Int32) from rfl, Int32.add_sub_cancel]
  rw [h123, es]
  exact loop _ _ (by omega) (by omega) (by omega)
end
