/-! THE OPERATION world: the machine of the works begins -/
abbrev SBm : Nat := (271716135220527900227848059256329966269188730667858255327503844906433456534544762688406381985936627786093076248115352858301925407375217963689482854356093998967025197673013625015250556563337049384353922832803457876972086447112126304937429229584710336072040343588885241823394725067950612901551524620041238146449890855761702802390828744578203936634013528579882951424221747919732956167814787469456972758147140795592978483217918016498167533366917548190695118259951619071009695002546748579419516029329516179520529855844150738855369847580420078013333050054727216946010904757884560475937912431485426740853998590579913037952841294859520286826982139437992918914918735428908110595503779543184855145539885827507548162765801606597041996169216)
/-- a machine at its beginning -/
def BgM (w : Nat) (M0 M : Mem) : Prop := ((mI M 6 w 3 = 0 ∧ mI M 6 w 4 = 50 ∧ mI M 6 w 5 = 50) ∧ mI M 6 w 6 = 0 ∧ mI M 6 w 7 = 0 ∧ mI M 6 w 21 = 0 ∧ mI M 6 w 26 = 0 ∧ mI M 6 w 14 = 1 ∧ mI M 6 w 15 = 0 ∧ mI M 6 w 29 = 0) ∧ (∀ r, r < 802 → mI M 512 w r = 0) ∧ (∀ o, o < 62 → mI M 88 w o = 0) ∧ (∀ t, t < 3 → clrd (3 * w + t) M ∧ mI M 7 (3 * w + t) 0 = mI M0 7 (3 * w + t) 0) ∧ Fr SBm M0 M ∧ (∀ i j, i ≠ w → (j < 40 → mI M 6 i j = mI M0 6 i j) ∧ mI M 512 i j = mI M0 512 i j ∧ mI M 88 i j = mI M0 88 i j) ∧ ∀ i j, (∀ t, t < 3 → i ≠ 3 * w + t) → mI M 7 i j = mI M0 7 i j
section
variable {w k : Nat} {M M' M0 : Mem} {Q : Mem → Prop}
theorem clrd.of {L : Nat} (h : clrd L M) (e : ∀ k, mI M' 7 L k = mI M 7 L k) : clrd L M' := by
  obtain ⟨⟨c1, c2, c3, c4, c5⟩, c6, c7, c8, c9, c10, c11⟩ := h
  exact ⟨⟨(e 1).trans c1, (e 2).trans c2, (e 10).trans c3, (e 11).trans c4, (e 12).trans c5⟩, (e 13).trans c6, (e 14).trans c7, (e 15).trans c8, (e 16).trans c9, (e 18).trans c10, (e 19).trans c11⟩
theorem shc6 : ∀ j, j < 40 → SHc.testBit (cd 6 j) = false := by decide
theorem c_mbegin (h7 : mL M 700 w = 3) (r7 : ∀ t, t < 3 → mR M 700 w t = some (7, 3 * w + t)) (l512 : mL M 512 w = 802) (l88 : mL M 88 w = 62) (hQ : ∀ M', BgM w M M' → Q M') : w_Machine_begin w Q M := by
  unfold w_Machine_begin
  rw [h7]
  refine ⟨4, ?_⟩
  have main : ∀ d t M1, 3 - t < d → t ≤ 3 → Fr SHc M M1 → (∀ t', t' < t → clrd (3 * w + t') M1) → (∀ t', t' < 3 → mI M1 7 (3 * w + t') 0 = mI M 7 (3 * w + t') 0) → (∀ i j, (∀ t, t < 3 → i ≠ 3 * w + t) → mI M1 7 i j = mI M 7 i j) → w_Machine_begin_L10 w Q d (Int32.ofNat 3) (Int32.ofNat t) M1 := by
    intro d
    induction d with
    | zero => intro t M1 h; omega
    | succ d ih =>
      intro t M1 hd ht hf hc h0 hi
      unfold w_Machine_begin_L10
      by_cases c : t = 3
      · refine itp (le_oN (by omega) (by omega)) ?_
        refine ⟨_, rfl, _, rfl, _, rfl, by show mL M1 512 w < _; rw [hf.L (f := 512) rfl, l512]; decide, _, rfl, by show mL M1 88 w < _; rw [hf.L (f := 88) rfl, l88]; decide, _, rfl, ?_⟩
        obtain ⟨M4, hM4⟩ : ∃ M4, M4 = sI (sI (sI (sI (sI (sI (sI (sI (sI M1 6 w 3 0) 6 w 5 50) 6 w 4 50) 6 w 6 0) 6 w 7 0) 6 w 21 0) 6 w 26 0) 6 w 14 1) 6 w 15 0 := ⟨_, rfl⟩
        have e50 : mI (sI (sI M1 6 w 3 0) 6 w 5 50) 6 w 5 = 50 := by rw [mI_sI, if_pos ⟨rfl, rfl, rfl⟩]
        rw [e50]
        show Q (flI (sI (flI (sI (sI (sI (sI (sI (sI (sI (sI (sI M1 6 w 3 0) 6 w 5 50) 6 w 4 50) 6 w 6 0) 6 w 7 0) 6 w 21 0) 6 w 26 0) 6 w 14 1) 6 w 15 0) 512 w 0) 6 w 29 0) 88 w 0)
        rw [← hM4]
        have l5 : mL M4 512 w = 802 := by rw [hM4]; exact (hf.L (f := 512) rfl w).trans l512
        have l8 : mL M4 88 w = 62 := by rw [hM4]; exact (hf.L (f := 88) rfl w).trans l88
        have hf4 : Fr SBm M M4 := by rw [hM4]; exact Fr.wI rfl (Fr.wI rfl (Fr.wI rfl (Fr.wI rfl (Fr.wI rfl (Fr.wI rfl (Fr.wI rfl (Fr.wI rfl (Fr.wI rfl (hf.sub rfl)))))))))
        have c6 : ((mI M4 6 w 3 = 0 ∧ mI M4 6 w 4 = 50 ∧ mI M4 6 w 5 = 50) ∧ mI M4 6 w 6 = 0 ∧ mI M4 6 w 7 = 0 ∧ mI M4 6 w 21 = 0 ∧ mI M4 6 w 26 = 0 ∧ mI M4 6 w 14 = 1 ∧ mI M4 6 w 15 = 0) := by
          rw [hM4]
          refine ⟨⟨?_, ?_, ?_⟩, ?_, ?_, ?_, ?_, ?_, ?_⟩ <;> simp only [mI_sI, mI_sR, mI_sJ, mR_sI, mL_sI, mL_sR, mR_sR, Nat.reduceEqDiff, and_false, false_and, if_false, and_self, true_and, and_true, if_true]
        have o6 : ∀ f i j, f ≠ 6 → mI M4 f i j = mI M1 f i j := fun f i j hne => by rw [hM4]; simp only [mI_sI, hne, false_and, if_false]
        have oi : ∀ i j, i ≠ w → mI M4 6 i j = mI M1 6 i j := fun i j hne => by rw [hM4]; simp only [mI_sI, hne, false_and, and_false, if_false]
        clear hM4
        obtain ⟨M5, hM5⟩ : ∃ M5, M5 = flI (sI (flI M4 512 w 0) 6 w 29 0) 88 w 0 := ⟨_, rfl⟩
        rw [← hM5]
        have r5 : ∀ f i j, mI M5 f i j = if f = 88 ∧ i = w ∧ j < 62 then 0 else if f = 6 ∧ i = w ∧ j = 29 then 0 else if f = 512 ∧ i = w ∧ j < 802 then 0 else mI M4 f i j := fun f i j => by
          rw [hM5]
          have e : mL (sI (flI M4 512 w 0) 6 w 29 0) 88 w = 62 := l8
          have e2 : mL M4 512 w = 802 := l5
          unfold flI
          rw [e2]
          have e3 : mL (sI (flK M4 512 w 0 802) 6 w 29 0) 88 w = 62 := l8
          rw [e3]
          rfl
        have hf5 : Fr SBm M M5 := by rw [hM5]; exact Fr.wfl rfl rfl (Fr.wI rfl (Fr.wfl rfl rfl hf4))
        clear hM5
        have r7' : ∀ i j, mI M5 7 i j = mI M1 7 i j := fun i j => by
          rw [r5, if_neg (fun z => absurd z.1 (by decide)), if_neg (fun z => absurd z.1 (by decide)), if_neg (fun z => absurd z.1 (by decide))]; exact o6 7 i j (by decide)
        have r6 : ∀ j, j ≠ 29 → mI M5 6 w j = mI M4 6 w j := fun j hj => by
          rw [r5, if_neg (fun z => absurd z.1 (by decide)), if_neg (fun z => hj z.2.2), if_neg (fun z => absurd z.1 (by decide))]
        refine hQ M5 ⟨⟨⟨(r6 3 (by decide)).trans c6.1.1, (r6 4 (by decide)).trans c6.1.2.1, (r6 5 (by decide)).trans c6.1.2.2⟩, (r6 6 (by decide)).trans c6.2.1, (r6 7 (by decide)).trans c6.2.2.1, (r6 21 (by decide)).trans c6.2.2.2.1, (r6 26 (by decide)).trans c6.2.2.2.2.1, (r6 14 (by decide)).trans c6.2.2.2.2.2.1, (r6 15 (by decide)).trans c6.2.2.2.2.2.2, ?_⟩, fun r hr => ?_, fun o ho => ?_, fun t' ht' => ⟨(hc t' (by omega)).of (fun k => r7' _ k), (r7' _ 0).trans (h0 t' ht')⟩, hf5, fun i j hi' => ⟨fun hj => ?_, ?_, ?_⟩, fun i j hi' => (r7' i j).trans (hi i j hi')⟩
        · rw [r5, if_neg (fun z => absurd z.1 (by decide)), if_pos ⟨rfl, rfl, rfl⟩]
        · rw [r5, if_neg (fun z => absurd z.1 (by decide)), if_neg (fun z => absurd z.1 (by decide)), if_pos ⟨rfl, rfl, hr⟩]
        · rw [r5, if_pos ⟨rfl, rfl, ho⟩]
        · rw [r5, if_neg (fun z => hi' z.2.1), if_neg (fun z => hi' z.2.1), if_neg (fun z => hi' z.2.1), oi i j hi']; exact hf.I (f := 6) (k := j) (shc6 j hj) i
        · rw [r5, if_neg (fun z => hi' z.2.1), if_neg (fun z => hi' z.2.1), if_neg (fun z => hi' z.2.1), o6 512 i j (by decide)]; exact hf.Ia (f := 512) rfl rfl i j
        · rw [r5, if_neg (fun z => hi' z.2.1), if_neg (fun z => hi' z.2.1), if_neg (fun z => hi' z.2.1), o6 88 i j (by decide)]; exact hf.Ia (f := 88) rfl rfl i j
      · refine itn (nle_oN (by omega) (by omega)) ⟨by rw [hf.L (f := 700) rfl, h7]; exact (vp_oN (by omega)).mpr (by omega), 3 * w + t, by rw [oN_tnc (k := t) (by omega), hf.Ra (f := 700) rfl rfl]; exact r7 t (by omega), ?_⟩
        refine c_clear (fun M2 hf2 hc2 e0 hi2 => ?_)
        rw [lit32 1, oN_add]
        refine ih (t + 1) M2 (by omega) (by omega) (hf.trans hf2) (fun t' ht' => ?_) (fun t' ht' => ?_) (fun i j hi' => (hi2 i (hi' t (by omega)) j).trans (hi i j hi'))
        · by_cases e : t' = t
          · subst e; exact hc2
          · exact (hc t' (by omega)).of (fun k => hi2 _ (by omega) k)
        · by_cases e : t' = t
          · subst e; exact e0.trans (h0 t' ht')
          · exact (hi2 _ (by omega) 0).trans (h0 t' ht')
  exact main 4 0 M (by omega) (by omega) (Fr.rf _ _) (fun t' ht' => absurd ht' (Nat.not_lt_zero t')) (fun _ _ => rfl) (fun _ _ _ => rfl)
end
