/-! THE MACHINE IN THE TWIN: faults, frames -/
section
variable {G : List Sl} {US : UST} {A : List Nm} {S : List Sg} {W : List Cls} {w c j a k t L : Nat} {br x r : Int32} {bb : Bool} {nq nl nf nk B F : Nat} {M M' : Mem} {s s' : Ms} {U V : List Un} {lo st lo' st' : List Vl} {o : Option Kd} {Q : Mem → Prop}
/-- what acts of the twin rest on -/
def TQc (W : List Cls) (F : Nat) (s : Ms) : Prop := WO W ∧ F < 1000000 ∧ (zF s).length + 100 < F
theorem ct_throwNew {f : Nat} {ru : Int32} (hq : TQc W F s) (h : TM G US A S W w br nq nl nf nk B F x bb t s (gU s t) M) (hM : MO W s t o (gU s t)) (hon : lSt (zN s t) = 1) (h1 : 1 ≤ f) (h2 : f < 21) (hQ : ∀ M', TM G US A S W w br nq nl nf nk B F x bb t (failS W t s f ru) (gU (failS W t s f ru) t) M' → Q M') : w_Model_throwNew 0 ru (Int32.ofNat f) Q M := by
  obtain ⟨hW, hFb, hF⟩ := hq
  have hl := hM.2.2.2.1.len hW
  unfold w_Model_throwNew
  refine ct_newFault h (by omega) hFb (fun M1 h1' => ?_)
  unfold w_Model_unwind
  rw [← lastT (s := s) (f := f) (ru := ru) (by omega)]
  refine ⟨(gU s t).length + 1, ct_unw hW hFb (gU s t) _ o (addFt s f ru) _ M1 _ h1' (hM.addF h1 h2) hon (thO.new hW.1 hM.1.1.1.1 h1 h2 (by omega)) (lastF_ne (by omega)) ?_ (by omega) hQ⟩
  show (zF s ++ _).length + (gU s t).length < F
  rw [List.length_append, List.length_singleton]; omega
theorem ct_throwC {e : Int32} (hq : TQc W F s) (h : TM G US A S W w br nq nl nf nk B F x bb t s (gU s t) M) (hM : MO W s t o (gU s t)) (hon : lSt (zN s t) = 1) (he : cdOk e ∧ e ≠ 0 ∧ e ≠ 1) (ht : tThr e M) (hQ : ∀ M', TM G US A S W w br nq nl nf nk B F x bb t (failC W t s e) (gU (failC W t s e) t) M' → Q M') : w_Model_throwNew 0 (mI M 11 0 81) (mI M 11 0 80) Q M := by
  obtain ⟨⟨n, hn, hn2, en⟩, h0, h1⟩ := he
  have hn3 : 11 ≤ n % 100 ∧ n % 100 ≤ 20 := hn2.resolve_left (fun z => by
    have : n = 0 ∨ n = 1 := by omega
    rcases this with y | y
    · exact h0 (by rw [en, y]; rfl)
    · exact h1 (by rw [en, y]; rfl))
  have et : e.toNatClampNeg = n := by rw [en, oN_tnc (by omega)]
  rw [ht.1, ht.2]
  exact ct_throwNew hq h hM hon (by rw [et]; omega) (by rw [et]; omega) hQ
/-- a frame more; its locals are 0 -/
theorem ct_newFrameK (h : TM G US A S W w br nq nl nf nk B F x bb t s U M) (hst : stk U) (hf : frs U < 40) (hl : U.length < 99) (hE : (zE s).length ≤ 400) (hQ : ∀ M', TM G US A S W w br nq nl nf nk B F x bb t (evS (sU s t (.inl (c, j, 0, z20, []) :: U)) t 1 c (some j)) (.inl (c, j, 0, z20, []) :: U) M' → (∀ k, k < 44 * frs U → mI M' 176 (3 * w + t) k = mI M 176 (3 * w + t) k ∧ mI M' 525 (3 * w + t) k = mI M 525 (3 * w + t) k) → Q M') : w_Model_newFrame 0 (Int32.ofNat (12 * c + j)) Q M := by
  have R6 : mR M 11 0 46 = some (13, 3 * w + t) := h.1.2.2.2.2.1.1
  obtain ⟨⟨l0, l1, l2, l3, l4, l5, l6, l7⟩, -⟩ := h.2.1
  have e22 : mI M 13 (3 * w + t) 22 = Int32.ofNat (frs U) := h.2.2.1.2.1
  have e16 : mI M 13 (3 * w + t) 16 = Int32.ofNat U.length := h.2.2.1.1
  unfold w_Model_newFrame
  refine ⟨3 * w + t, R6, 3 * w + t, R6, ?_⟩
  rw [e22, oN_tnc (k := frs U) (by omega)]
  have vf : ∀ {n : Nat}, n = 40 → vp_in (Int32.ofNat (frs U)) n := fun e => by rw [e]; exact (vp_oN (by omega)).mpr hf
  refine ⟨by rw [l3]; exact vf rfl, 3 * w + t, R6, by show vp_in _ (mL M 174 _); rw [l4]; exact vf rfl, _, rfl, 3 * w + t, R6, by show vp_in _ (mL M 175 _); rw [l5]; exact vf rfl, 21, ?_⟩
  have ag0 : AgU w t M (sI (sI (sI M 173 (3 * w + t) (frs U) (Int32.ofNat (12 * c + j))) 174 (3 * w + t) (frs U) 0) 175 (3 * w + t) (frs U) 0) := AgU.rf.wa.wa.wa
  have loop : ∀ n i M1, 20 - i < n → i ≤ 20 → AgU w t M M1 → (∀ g, mL M1 g (3 * w + t) = mL M g (3 * w + t)) → (∀ g k, g = 13 ∨ g = 170 ∨ g = 171 ∨ g = 172 → mI M1 g (3 * w + t) k = mI M g (3 * w + t) k) → (∀ g k, g = 173 ∨ g = 174 ∨ g = 175 → k < frs U → mI M1 g (3 * w + t) k = mI M g (3 * w + t) k) → (∀ k, k < 44 * frs U → mI M1 176 (3 * w + t) k = mI M 176 (3 * w + t) k ∧ mI M1 525 (3 * w + t) k = mI M 525 (3 * w + t) k) → (mI M1 173 (3 * w + t) (frs U) = Int32.ofNat (12 * c + j) ∧ mI M1 174 (3 * w + t) (frs U) = 0 ∧ mI M1 175 (3 * w + t) (frs U) = 0) → (∀ k, k < i → mI M1 176 (3 * w + t) (44 * frs U + k) = 0 ∧ mI M1 525 (3 * w + t) (44 * frs U + k) = 0) → w_Model_newFrame_L40 0 Q n (Int32.ofNat (12 * c + j)) (Int32.ofNat (frs U)) (Int32.ofNat i) M1 := by
    intro n
    induction n with
    | zero => intro i M1 hn; exact absurd hn (by omega)
    | succ n ih =>
      intro i M1 hn hi ag hL hA hB hC hD hZ
      have R61 : mR M1 11 0 46 = some (13, 3 * w + t) := (ag.1.R (f := 11) (k := 46) rfl 0).trans R6
      unfold w_Model_newFrame_L40
      by_cases ci : 20 ≤ i
      · have ei : i = 20 := by omega
        subst ei
        have f22 : mI M1 13 (3 * w + t) 22 = Int32.ofNat (frs U) := (hA 13 22 (by omega)).trans e22
        refine itp (by decide) ⟨3 * w + t, R61, 3 * w + t, R61, 3 * w + t, R61, ?_⟩
        rw [f22, show Int32.ofNat (frs U) + (1 : Int32) = Int32.ofNat (frs U + 1) from oN_add _ 1]
        have f16 : ∀ v, mI (sI M1 13 (3 * w + t) 22 v) 13 (3 * w + t) 16 = Int32.ofNat U.length := fun v => by rw [mI_sI, if_neg (fun z => absurd z.2.2 (by decide))]; exact (hA 13 16 (by omega)).trans e16
        rw [f16, oN_tnc (k := U.length) (by omega)]
        refine ⟨by show vp_in _ (mL M1 171 _); rw [hL, l1]; exact (vp_oN (by omega)).mpr hl, _, rfl, 3 * w + t, R61, 3 * w + t, R61, ?_⟩
        have f16' : ∀ v v', mI (sI (sI M1 13 (3 * w + t) 22 v) 171 (3 * w + t) U.length v') 13 (3 * w + t) 16 = Int32.ofNat U.length := fun v v' => by rw [mI_sI, if_neg (fun z => absurd z.1 (by decide))]; exact f16 v
        rw [f16', oN_tnc (k := U.length) (by omega)]
        refine ⟨by show vp_in _ (mL M1 172 _); rw [hL, l2]; exact (vp_oN (by omega)).mpr hl, 3 * w + t, R61, _, rfl, ?_⟩
        rw [show ∀ v v' v'', mI (sI (sI (sI M1 13 (3 * w + t) 22 v) 171 (3 * w + t) U.length v') 172 (3 * w + t) U.length v'') 13 (3 * w + t) 16 = Int32.ofNat U.length from fun v v' v'' => by rw [mI_sI, if_neg (fun z => absurd z.1 (by decide))]; exact f16' v v', show Int32.ofNat U.length + (1 : Int32) = Int32.ofNat (U.length + 1) from oN_add _ 1]
        have agE : AgU w t M (sI (sI (sI (sI M1 13 (3 * w + t) 22 (Int32.ofNat (frs U + 1))) 171 (3 * w + t) U.length (Int32.ofNat (frs U))) 172 (3 * w + t) U.length 0) 13 (3 * w + t) 16 (Int32.ofNat (U.length + 1))) := ag.w13.wa.wa.w13
        have eN : zN (sU s t (.inl (c, j, 0, z20, []) :: U)) t = qU (zN s t) (.inl (c, j, 0, z20, []) :: U) := up1_s
        have r13 : ∀ k, k ≠ 16 → k ≠ 22 → mI (sI (sI (sI (sI M1 13 (3 * w + t) 22 (Int32.ofNat (frs U + 1))) 171 (3 * w + t) U.length (Int32.ofNat (frs U))) 172 (3 * w + t) U.length 0) 13 (3 * w + t) 16 (Int32.ofNat (U.length + 1))) 13 (3 * w + t) k = mI M 13 (3 * w + t) k := fun k h1 h2 => by
          simp only [mI_sI, Nat.reduceEqDiff, false_and, if_false, true_and, h1, h2]; exact hA 13 k (by omega)
        have ra : ∀ g k, g ≠ 13 → g ≠ 171 → g ≠ 172 → mI (sI (sI (sI (sI M1 13 (3 * w + t) 22 (Int32.ofNat (frs U + 1))) 171 (3 * w + t) U.length (Int32.ofNat (frs U))) 172 (3 * w + t) U.length 0) 13 (3 * w + t) 16 (Int32.ofNat (U.length + 1))) g (3 * w + t) k = mI M1 g (3 * w + t) k := fun g k h1 h2 h3 => by
          simp only [mI_sI, h1, h2, h3, false_and, if_false]
        have r7 : ∀ g k, g = 171 ∨ g = 172 → k < U.length → mI (sI (sI (sI (sI M1 13 (3 * w + t) 22 (Int32.ofNat (frs U + 1))) 171 (3 * w + t) U.length (Int32.ofNat (frs U))) 172 (3 * w + t) U.length 0) 13 (3 * w + t) 16 (Int32.ofNat (U.length + 1))) g (3 * w + t) k = mI M g (3 * w + t) k := fun g k hg hk => by
          have hne : ¬ k = U.length := by omega
          rcases hg with z | z <;> subst z <;> simp only [mI_sI, Nat.reduceEqDiff, false_and, if_false, true_and, hne]
          · exact hA 171 k (by omega)
          · exact hA 172 k (by omega)
        have hT : TM G US A S W w br nq nl nf nk B F x bb t (sU s t (.inl (c, j, 0, z20, []) :: U)) (.inl (c, j, 0, z20, []) :: U) (sI (sI (sI (sI M1 13 (3 * w + t) 22 (Int32.ofNat (frs U + 1))) 171 (3 * w + t) U.length (Int32.ofNat (frs U))) 172 (3 * w + t) U.length 0) 13 (3 * w + t) 16 (Int32.ofNat (U.length + 1))) := by
          refine ⟨(h.1.ag agE).su, ?_, ⟨?_, ?_, ⟨⟨⟨?_, ?_⟩, ?_, ?_, ?_⟩, ⟨fun k hk => ?_, fun k hk => absurd hk (by show ¬ k < 0; omega)⟩, ?_⟩⟩, fun z => ?_⟩
          · rw [eN]; exact h.2.1.g (fun k hk => r13 k (by omega) (by omega)) (fun k => (ra 170 k (by omega) (by omega) (by omega)).trans (hA 170 k (by omega))) (fun g => hL g)
          · simp only [mI_sI, and_self, if_true]; rfl
          · simp only [mI_sI, Nat.reduceEqDiff, false_and, if_false, and_false, and_self, if_true]; rfl
          · simp only [mI_sI, Nat.reduceEqDiff, false_and, if_false, and_self, if_true]
          · simp only [mI_sI, Nat.reduceEqDiff, false_and, if_false, and_self, if_true]
          · exact (ra 173 _ (by omega) (by omega) (by omega)).trans hD.1
          · exact (ra 174 _ (by omega) (by omega) (by omega)).trans hD.2.1
          · exact (ra 175 _ (by omega) (by omega) (by omega)).trans hD.2.2
          · rw [ra 176 _ (by omega) (by omega) (by omega), ra 525 _ (by omega) (by omega) (by omega)]
            rw [show lv z20 k = (0, false) from lv20, tr_0]
            exact hZ k hk
          · refine unT.kp h.2.2.1.2.2 hst (fun g i hg hi => r7 g i hg hi) (fun g i hg hi => (ra g i (by omega) (by omega) (by omega)).trans (hB g i hg hi)) (fun i hi => ?_)
            rw [ra 176 _ (by omega) (by omega) (by omega), ra 525 _ (by omega) (by omega) (by omega)]
            exact hC i hi
          · rw [eN] at z
            rw [r13 4 (by omega) (by omega)]; exact h.2.2.2 z
        refine k_note (what := 1) (k := c) (m := some j) hT hE (fun M3 h3 f3 => hQ M3 h3 (fun k hk => ?_))
        rw [nt_I f3 (f := 176) rfl (fun z => absurd z (by decide)), nt_I f3 (f := 525) rfl (fun z => absurd z (by decide)), ra 176 _ (by omega) (by omega) (by omega), ra 525 _ (by omega) (by omega) (by omega)]
        exact hC k hk
      · have vi : vp_in (Int32.ofNat (44 * frs U + i)) 1760 := (vp_oN (by omega)).mpr (by omega)
        refine itn (fun z => by have := (oN_le (a := 20) (b := i) (by omega) (by omega)).mp z; omega) ⟨3 * w + t, R61, ?_⟩
        rw [show (44 : Int32) * Int32.ofNat (frs U) = Int32.ofNat (44 * frs U) from oN_mul 44 _, oN_add, oN_tnc (k := 44 * frs U + i) (by omega), show Int32.ofNat i + (1 : Int32) = Int32.ofNat (i + 1) from oN_add i 1]
        refine ⟨by rw [hL, l6]; exact vi, 3 * w + t, R61, by show vp_in _ (mL M1 525 _); rw [hL, l7]; exact vi, _, rfl, ?_⟩
        refine ih (i + 1) _ (by omega) (by omega) ag.wa.wa (fun g => hL g) (fun g k hg => ?_) (fun g k hg hk => ?_) (fun k hk => ?_) ⟨?_, ?_, ?_⟩ (fun k hk => ?_)
        · rcases hg with z | z | z | z <;> subst z <;> simp only [mI_sI, Nat.reduceEqDiff, false_and, if_false]
          · exact hA 13 k (by omega)
          · exact hA 170 k (by omega)
          · exact hA 171 k (by omega)
          · exact hA 172 k (by omega)
        · rcases hg with z | z | z <;> subst z <;> simp only [mI_sI, Nat.reduceEqDiff, false_and, if_false]
          · exact hB 173 k (by omega) hk
          · exact hB 174 k (by omega) hk
          · exact hB 175 k (by omega) hk
        · have hne : ¬ k = 44 * frs U + i := by omega
          simp only [mI_sI, Nat.reduceEqDiff, false_and, if_false, true_and, hne]
          exact hC k hk
        · simp only [mI_sI, Nat.reduceEqDiff, false_and, if_false]; exact hD.1
        · simp only [mI_sI, Nat.reduceEqDiff, false_and, if_false]; exact hD.2.1
        · simp only [mI_sI, Nat.reduceEqDiff, false_and, if_false]; exact hD.2.2
        · by_cases e : k = i
          · subst e
            simp only [mI_sI, Nat.reduceEqDiff, false_and, if_false, and_self, if_true]
            exact ⟨trivial, rfl⟩
          · have hne : ¬ 44 * frs U + k = 44 * frs U + i := by omega
            simp only [mI_sI, Nat.reduceEqDiff, false_and, if_false, true_and, hne]
            exact hZ k (by omega)
  refine loop 21 0 _ (by omega) (by omega) ag0 (fun _ => rfl) (fun g k hg => ?_) (fun g k hg hk => ?_) (fun k hk => ?_) ⟨?_, ?_, ?_⟩ (fun k hk => absurd hk (by omega))
  · rcases hg with z | z | z | z <;> subst z <;> simp only [mI_sI, Nat.reduceEqDiff, false_and, if_false]
  · have hne : ¬ k = frs U := by omega
    rcases hg with z | z | z <;> subst z <;> simp only [mI_sI, Nat.reduceEqDiff, false_and, if_false, true_and, hne]
  · simp only [mI_sI, Nat.reduceEqDiff, false_and, if_false, and_self]
  · simp only [mI_sI, Nat.reduceEqDiff, false_and, if_false, and_self, if_true]
  · simp only [mI_sI, Nat.reduceEqDiff, false_and, if_false, and_self, if_true]
  · simp only [mI_sI, and_self, if_true]
theorem ct_newFrame (h : TM G US A S W w br nq nl nf nk B F x bb t s U M) (hst : stk U) (hf : frs U < 40) (hl : U.length < 99) (hE : (zE s).length ≤ 400) (hQ : ∀ M', TM G US A S W w br nq nl nf nk B F x bb t (evS (sU s t (.inl (c, j, 0, z20, []) :: U)) t 1 c (some j)) (.inl (c, j, 0, z20, []) :: U) M' → Q M') : w_Model_newFrame 0 (Int32.ofNat (12 * c + j)) Q M := ct_newFrameK h hst hf hl hE (fun M' h' _ => hQ M' h')
end
