/-! collect, in the twin -/
def clT (M : Mem) : Prop := mL M 521 0 = 801 ∧ mL M 120 0 = 801 ∧ mL M 121 0 = 4000
section
variable {G : List Sl} {US : UST} {A : List Nm} {S : List Sg} {W : List Cls} {w k C B F K ud t c r d : Nat} {br a b x y v2 : Int32} {nq nl nf nk : Nat} {s : Ms} {M M' M0 : Mem} {Q : Int32 → Mem → Prop} {on : Nat → Bool} {p p0 : MP} {m : Nat → Bool}
theorem ct_collect (hW : WO W) (hA : MA W s) (hN : NTs s) (hz : SzN s) (hty : ∀ c f, c < W.length → f < (gc W c).2.2.2.2.1.length → tyOk (gfl (gc W c) f).2.1) (h : TC G US A S W k br nq nl nf nk B F x s M) (hm : tMk mp0 M) (hQ : ∀ M', TA G US A S W k br nq nl nf nk B F x (colO W s).2 M' → Q (colO W s).1 M') : w_Model_collect_L50 0 Q (W.length - 21 + 1) 21 M := by
  have hG := hA.1.1
  have h0 : thr s 0 = false := hG.2.1.1.1.1
  refine ct_cl50 hW hG hty (fun M1 h1 hm1 => ?_) _ 21 _ (Nat.le_refl _) hW.1.1 (by omega) h hm
  refine ⟨4, ct_cl138 hW hA hN (fun M2 h2 hm2 => ?_) 4 0 M1 (by omega) (by omega) h1 hm1⟩
  refine ⟨802, ct_cl247 hW hA (fun p M3 h3 hm3 he => ?_) _ 0 _ M2 (by omega) (Nat.zero_le _) okP.z.mkl DM.root h2 hm2⟩
  refine ⟨801, ?_⟩
  have e1 : swK s (mrk W s) 1 = swK s (mrk W s) 0 := by rw [swK_s, swA_0 h0]
  have := ct_swL hG hz h3 ⟨hm3.1.1, fun n hn => by rw [hm3.2.1 n hn, he n]⟩ hQ 801 1 M3 (Nat.le_refl _) (by omega) (by omega) ?_
  · rw [e1] at this
    exact this
  obtain ⟨-, ⟨e50, -⟩, s524, s157, s161⟩ := h3.1.2.2.1.1
  refine ⟨Fr.rf _ _, s161, fun j hj => ?_, fun j hj => ?_, fun i hi => ?_, fun j hj _ => (s157 j hj).2.2.2.1, ?_⟩
  · rw [s524 j hj]
    by_cases ej : j < 1
    · rw [if_pos ej, show j = 0 by omega]
      unfold kp; rw [h0]; rfl
    · rw [if_neg ej]
  · rw [e1]; exact (s157 j hj).2.1
  · rw [e1] at hi; exact absurd hi (by show ¬ i < 0; omega)
  · rw [e1]; exact e50
theorem ct_cl27 (hW : WO W) (hA : MA W s) (hN : NTs s) (hz : SzN s) (hty : ∀ c f, c < W.length → f < (gc W c).2.2.2.2.1.length → tyOk (gfl (gc W c) f).2.1) (hQ : ∀ M', TA G US A S W k br nq nl nf nk B F x (colO W s).2 M' → Q (colO W s).1 M') : ∀ n r M, r ≤ 801 → 801 - r < n → TC G US A S W k br nq nl nf nk B F x s M → (mL M 521 0 = 801 ∧ mL M 120 0 = 801) → mI M 11 0 112 = 0 → (∀ j, j < r → mI M 521 0 j = 0) → w_Model_collect_L27 0 Q n (Int32.ofNat r) M
  | 0, r, M, h1, hn, h, hl, h2, h3 => absurd hn (by omega)
  | n + 1, r, M, h1, hn, h, hl, h2, h3 => by
    unfold w_Model_collect_L27
    by_cases er : r = 801
    · subst er
      refine itp (lt_oN (a := 800) (by omega) (by omega)) ⟨W.length - 21 + 1, ct_collect hW hA hN hz hty h ⟨hl, fun n hn => h3 n hn, h2, fun i hi => absurd hi (by show ¬ i < 0; omega)⟩ hQ⟩
    refine itn (nlt_oN (a := 800) (by omega) (by omega)) ?_
    rw [oN_tnc (k := r) (by omega), hl.1]
    refine ⟨(vp_oN (by omega)).mpr (by omega), ?_⟩
    rw [lit32 1, oN_add]
    have hf : Fr SMt M (sI M 521 0 r ((0 : Int32) &&& 1)) := Fr.wIa rfl rfl (Fr.rf _ _)
    refine ct_cl27 hW hA hN hz hty hQ n (r + 1) _ (by omega) (by omega) (TC.mk h hf) hl h2 (fun j hj => ?_)
    rw [mI_sI]
    by_cases ej : j = r
    · rw [if_pos ⟨rfl, rfl, ej⟩]; rfl
    · rw [if_neg (fun z => ej z.2.2)]; exact h3 j (by omega)
/-- collect, in the twin -/
theorem ct_wcollect (hk : k < 3) (hOn : tOn on M) (hon : on k = true) (hW : WO W) (hA : MA W s) (hN : NTs s) (hz : SzN s) (hty : ∀ c f, c < W.length → f < (gc W c).2.2.2.2.1.length → tyOk (gfl (gc W c) f).2.1) (hr : clT M) (h : TAx G US A S W k br nq nl nf nk B F x s M) (hQ : ∀ M', TAx G US A S W k br nq nl nf nk B F x (colO W s).2 M' → Fr F_Model_collect M M' → Q (colO W s).1 M') : w_Model_collect 0 (Int32.ofNat k) Q M := by
  refine mf_w_Model_collect (M := M) (Q := fun v M' => v = (colO W s).1 ∧ TAx G US A S W k br nq nl nf nk B F x (colO W s).2 M') (fun v M' hf hp => by rw [hp.1]; exact hQ M' hp.2 hf) ?_
  unfold w_Model_collect
  refine ct_isWorld hOn (fun j hj e _ _ => ?_) (fun q => by rw [wOf_k hk, hon] at q; cases q)
  refine itn (by decide) ?_
  obtain ⟨a1, a2⟩ := hOn.at hk
  have hT : TA G US A S W k br nq nl nf nk B F x s (sR M 11 0 45 (some (12, k))) := h
  refine ⟨a1, k, a2, 802, ?_⟩
  have hf : Fr SMt (sR M 11 0 45 (some (12, k))) (sI (sR M 11 0 45 (some (12, k))) 11 0 112 0) := Fr.wI rfl (Fr.rf _ _)
  exact ct_cl27 hW hA hN hz hty (fun M' h' => ⟨rfl, TA.xx h'⟩) 802 0 _ (by omega) (by omega) ⟨hT.mk hf, hr.2.2⟩ ⟨hr.1, hr.2.1⟩ (by rw [mI_sI, if_pos ⟨rfl, rfl, rfl⟩]) (fun j hj => absurd hj (by omega))
end
