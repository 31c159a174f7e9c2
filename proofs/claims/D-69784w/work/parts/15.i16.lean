/-! collect, in the works -/
def clC (k : Nat) (M : Mem) : Prop := mL M 513 (k + 1) = 801 ∧ mL M 82 (k + 1) = 801 ∧ mL M 83 (k + 1) = 4000
section
variable {A : List Nm} {W : List Cls} {w k C B F K c t r d : Nat} {br x v2 v3 : Int32} {nq nk np nh nr : Nat} {s : Ms} {M M' M0 : Mem} {p p0 : MP} {Q : Int32 → Mem → Prop} {m : Nat → Bool} {on : Nat → Bool}
theorem c_sweep (hA : MA W s) (hz : SzN s) (h : RC A W (k + 1) br nq nk np nh nr C B F s M) (hmk : mL M 513 (k + 1) = 801 ∧ ∀ n, n < 801 → mI M 513 (k + 1) n = b2 (mrk W s n)) (hQ : ∀ M', RA A W (k + 1) br nq nk np nh nr C B F (colO W s).2 M' → Q (colO W s).1 M') : w_Machine_sweep (k + 1) Q M := by
  have hG := hA.1.1
  have hc4 : (zH s).2.1 ≤ 4000 := hG.2.1.1.2.2
  have h0 : thr s 0 = false := hG.2.1.1.1.1
  obtain ⟨⟨⟨-, -, -, -, l84⟩, -⟩, ⟨e6, e7⟩, s512, s80, s84, l, mo, ⟨-, m1⟩, ⟨-, -, m2⟩, -, m3⟩ := id h.1.2.2.1.1
  unfold w_Machine_sweep
  rw [e7, oN_tnc (k := (zH s).2.1) (by omega), l84, h.2]
  refine ⟨by decide, by decide, oN_nonneg (by omega), by show 0 + _ ≤ _; omega, by show 0 + _ ≤ _; omega, _, rfl, mo + 1, ?_⟩
  have e1 : swK s (mrk W s) 1 = swK s (mrk W s) 0 := by rw [swK_s, swA_0 h0]
  have := c_swL hG hz h hmk hQ ⟨m1, m2, m3⟩ (mo + 1) 1 (cpI M 84 (k + 1) (0 : Int32).toNatClampNeg 83 (k + 1) (0 : Int32).toNatClampNeg (zH s).2.1) (Nat.le_refl _) (by omega) (by omega) ?_
  · rw [e1] at this
    exact this
  refine ⟨Fr.wcp rfl rfl (Fr.rf _ _), fun i hi => ?_, fun j hj => ?_, fun j hj => ?_, fun i hi => ?_, ?_⟩
  · rw [mI_cpI, if_pos ⟨rfl, rfl⟩, if_pos ⟨Nat.zero_le _, by show i < 0 + _; omega⟩]
    show mI M 84 (k + 1) (0 + (i - 0)) = _
    rw [show 0 + (i - 0) = i by omega]
    exact s84 i hi
  · rw [mI_cpI, if_neg (fun z => absurd z.1 (by decide)), s512 j hj]
    by_cases ej : j < 1
    · rw [if_pos ej, show j = 0 by omega]
      unfold kp; rw [h0]; rfl
    · rw [if_neg ej]
  · rw [mI_cpI, if_neg (fun z => absurd z.1 (by decide)), e1]
    exact (s80 j hj).2.1
  · rw [e1] at hi; exact absurd hi (by show ¬ i < 0; omega)
  · rw [mI_cpI, if_neg (fun z => absurd z.1 (by decide))]; exact e6
theorem c_collect (hW : WO W) (hA : MA W s) (hz : SzN s) (hnA : nA A) (hty : ∀ c f, c < W.length → f < (gc W c).2.2.2.2.1.length → tyOk (gfl (gc W c) f).2.1) (hr : clC k M) (h : RA A W (k + 1) br nq nk np nh nr C B F s M) (hQ : ∀ M', RA A W (k + 1) br nq nk np nh nr C B F (colO W s).2 M' → Q (colO W s).1 M') : w_Machine_collect (k + 1) Q M := by
  obtain ⟨r1, r2, r3⟩ := hr
  have h21 := hW.1.1
  unfold w_Machine_collect
  rw [r1]
  refine ⟨by decide, _, rfl, W.length - 21 + 1, ?_⟩
  have hf : Fr SMk M (sI (flI M 513 (k + 1) 0) 6 (k + 1) 18 0) := Fr.wI rfl (Fr.wfl rfl rfl (Fr.rf _ _))
  refine c_cl16 hW hnA hty (fun M1 h1 hm1 => ?_) _ 21 _ (Nat.le_refl _) h21 (by omega) ⟨h.mk hf, (hf.L rfl _).trans r3⟩ ?_
  · rw [h1.1.2.2.2.2.1.1]
    refine ⟨4, c_cl121 hW hA (fun M2 h2 hm2 => ?_) 4 0 M1 (by omega) (by omega) h1 hm1⟩
    refine ⟨(mkL mp0 (rtA W s)).2.length + unm (mkL mp0 (rtA W s)).1 800 + 1, ?_⟩
    refine c_cl230 hW hA hnA (fun p M3 h3 hm3 he => ?_) _ _ M2 (by omega) okP.z.mkl DM.root h2 hm2
    exact c_sweep hA hz h3 ⟨hm3.1.1, fun n hn => by rw [hm3.2.1 n hn, he n]⟩ hQ
  · refine ⟨⟨(hf.L rfl _).trans r1, (hf.L rfl _).trans r2⟩, fun n hn => ?_, ?_, fun i hi => absurd hi (by show ¬ i < 0; omega)⟩
    · rw [mI_sI, if_neg (fun z => absurd z.1 (by decide))]
      exact if_pos ⟨rfl, rfl, by rw [r1]; exact hn⟩
    · rw [mI_sI, if_pos ⟨rfl, rfl, rfl⟩]; rfl
/-- collect, in the works -/
theorem c_wcollect (hk : k < 3) (hOn : cOn on M) (hon : on k = true) (hW : WO W) (hA : MA W s) (hz : SzN s) (hnA : nA A) (hty : ∀ c f, c < W.length → f < (gc W c).2.2.2.2.1.length → tyOk (gfl (gc W c) f).2.1) (hr : clC k M) (h : RA A W (k + 1) br nq nk np nh nr C B F s M) (hQ : ∀ M', RA A W (k + 1) br nq nk np nh nr C B F (colO W s).2 M' → Fr F_Works_collect M M' → Q (colO W s).1 M') : w_Works_collect 0 (Int32.ofNat k) Q M := by
  refine mf_w_Works_collect (M := M) (Q := fun v M' => v = (colO W s).1 ∧ RA A W (k + 1) br nq nk np nh nr C B F (colO W s).2 M') (fun v M' hf hp => by rw [hp.1]; exact hQ M' hp.2 hf) ?_
  unfold w_Works_collect
  refine c_isWorld hOn (fun j hj e _ _ => ?_) (fun q => by rw [wOf_k hk, hon] at q; cases q)
  refine itn (by decide) ?_
  obtain ⟨a1, a2⟩ := hOn.at hk hon
  exact ⟨a1, k + 1, a2, c_collect hW hA hz hnA hty hr h (fun M' h' => ⟨rfl, h'⟩)⟩
end
