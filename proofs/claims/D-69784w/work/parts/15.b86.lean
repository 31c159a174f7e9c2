/-- a method's head that is laid in the twin -/
def tHD (A : List Nm) (S : List Sg) (W : List Cls) (w c : Nat) (br : Int32) (x : Mth) (M : Mem) : Prop := (Cx1 A W w br M ∧ tMh A S W w 1 M ∧ mI M 11 0 53 = Int32.ofNat c) ∧ tHd A S w (12 * c + (gc W c).2.2.2.2.2.length) x M ∧ (mI M 149 w (12 * c + (gc W c).2.2.2.2.2.length) = mI M 12 w 35 ∧ mI M 150 w (12 * c + (gc W c).2.2.2.2.2.length) = 0 ∧ mI M 151 w (12 * c + (gc W c).2.2.2.2.2.length) = 0) ∧ mI M 11 0 54 = Int32.ofNat (12 * c + (gc W c).2.2.2.2.2.length) ∧ (mI M 11 0 60 = 0 ∧ mI M 11 0 64 = 0 ∧ mI M 11 0 65 = 0) ∧ mI M 11 0 51 = Int32.ofNat 99
theorem X5_in {G : List Sl} (h : Gs5 G) {s : Sl} (hs : s ∈ X5) : s ∈ G := by
  obtain ⟨g1, g2, g3, g4, g5⟩ := h
  simp only [List.mem_cons, List.not_mem_nil, or_false] at hs
  rcases hs with e | e | e | e | e <;> (rw [e]; assumption)
theorem TU.fr {G : List Sl} {A : List Nm} {S : List Sg} {M M' : Mem} {F : Nat} (h : TU A S M) (hf : Fr F M M') (hG : Ga G) (hGs : Gs5 G) (hS : sOk F = true := by rfl) (h1 : F.testBit (cd 11 4) = false := by rfl) (h2 : F.testBit 105 = false := by rfl) (h3 : F.testBit (5000 + 105) = false := by rfl) (h4 : F.testBit (cd 11 36) = false := by rfl) (h5 : F.testBit (cd 11 37) = false := by rfl) (h6 : F.testBit 106 = false := by rfl) (h7 : F.testBit (5000 + 106) = false := by rfl) : TU A S M' :=
  ⟨h.1.fr hf hG hS h1 h2 h3, h.2.of (hf.I h4 0) (hf.I h5 0) (hf.L h7 0) (hf.Ia rfl h6 0) (fun s hs => rd_fr hf hG hS (X5_in hGs hs))⟩
theorem tMh.lay {A : List Nm} {S : List Sg} {W : List Cls} {w c : Nat} {M M' : Mem} (h : tMh A S W w 0 M) (hc1 : c + 1 = W.length) (hn : (gc W c).2.2.2.2.2.length < 12) (e136 : ∀ k, mI M' 136 w k = if k = c then Int32.ofNat ((gc W c).2.2.2.2.2.length + 1) else mI M 136 w k) (e : ∀ f, 144 ≤ f → f ≤ 148 → ∀ k, k ≠ 12 * c + (gc W c).2.2.2.2.2.length → mI M' f w k = mI M f w k) (l : ∀ f, 144 ≤ f → f ≤ 151 → mL M' f w = mL M f w) : tMh A S W w 1 M' := by
  refine ⟨fun f a b => (l f a b).trans (h.1 f a b), fun d hd' => ⟨⟨?_, (h.2 d hd').1.2⟩, fun k hk => ?_⟩⟩
  · rw [e136]
    by_cases q : d = c
    · rw [if_pos q, q, if_pos hc1]
    · rw [if_neg q, if_neg (by omega)]
      have := (h.2 d hd').1.1
      rw [if_neg (by omega)] at this; exact this
  · have hk12 := (h.2 d hd').1.2
    have hne : 12 * d + k ≠ 12 * c + (gc W c).2.2.2.2.2.length := by
      by_cases q : d = c
      · subst q; omega
      · omega
    obtain ⟨a, b, x, y, z, u⟩ := (h.2 d hd').2 k hk
    exact ⟨⟨(e 144 (by omega) (by omega) _ hne).trans a.1, a.2⟩, ⟨(e 145 (by omega) (by omega) _ hne).trans b.1, b.2⟩, x, (e 146 (by omega) (by omega) _ hne).trans y, (e 147 (by omega) (by omega) _ hne).trans z, (e 148 (by omega) (by omega) _ hne).trans u⟩
set_option maxRecDepth 4000 in
theorem ct_methodRules {G XX : List Sl} {A : List Nm} {S : List Sg} {W : List Cls} {w c : Nat} {br bits : Int32} {own : Nm} {ks : List Kd} {κ : Kd} {L t : List Tok} {Q X : Mem → Prop} {M0 M : Mem} (hG : Ga G) (hGs : Gs5 G) (hc1 : c + 1 = W.length) (ho : own ∈ A) (hks : ∀ κ ∈ ks, kok A κ ∧ kdOk κ) (hκ : kok A κ ∧ kdOk κ) (hsg : sg A ks κ ∈ S) (hbits : ∃ j, j < 16 ∧ bits = Int32.ofNat j) (hkl : ks.length < 10000) (hB : B3 G XX A S W w c br L t 99 M0 M)
    (hQ0 : ∀ M', rulM br (gc W c) bits own ks κ < 99 → B3 G XX A S W w c br L t (rulM br (gc W c) bits own ks κ) M0 M' → Q M')
    (hQ1 : ∀ M', rulM br (gc W c) bits own ks κ = 99 → tHD A S W w c br (own, ks, κ, bits, 0, 0, [], []) M' → TU A S M' → mI M' 11 0 52 = (if bits &&& 8 = 0 then 2 else 1) → GF G XX M0 M' → LoT w c M0 M' → mI M' 11 0 38 = mI M 11 0 38 → (∀ f, 149 ≤ f → f ≤ 151 → ∀ k, k ≠ 12 * c + (gc W c).2.2.2.2.2.length → mI M' f w k = mI M0 f w k) → Q M') :
    w_Model_methodLine_L207 0 Q X ((gc W c).2.2.2.2.2.length + 1) bits (nc A own) (Int32.ofNat (S.idxOf (sg A ks κ))) (Int32.ofNat (gc W c).2.2.2.2.2.length) (Int32.ofNat (12 * c)) (Int32.ofNat 0) M := by
  have hc : c < W.length := by omega
  have hAl := hB.1.1.1.2.2.1
  have hWl := hB.1.2.1.1.1.1.2.2.1
  have hn12 := (hB.1.2.2.2.2.1.2 c hc).1.2
  have hSl : S.length ≤ 100000 := hB.2.2.1.2.1.2.2.1
  have hix := List.idxOf_lt_length_iff.mpr hsg
  generalize hx : S.idxOf (sg A ks κ) = ix at hix
  have hgs : gs1 S ix = sg A ks κ := by
    show S.getD ix _ = _
    rw [← hx, List.getD_eq_getElem?_getD, List.getElem?_eq_getElem (List.idxOf_lt_length_iff.mpr hsg), List.getElem_idxOf]; rfl
  have tix : (Int32.ofNat ix).toNatClampNeg = ix := oN_tnc (by omega)
  -- rows of signatures
  have rowR : ∀ {l : Nat} {M1 : Mem}, B3 G XX A S W w c br L t l M0 M1 → ∃ i, mR M1 11 0 32 = some (300, i) ∧ ix < mL M1 300 i ∧ mL M1 300 i < 1000000 ∧ mI M1 300 i ix = kt A κ := fun {l M1} h => by
    obtain ⟨⟨-, -, -, h4, -⟩, -, hu, -⟩ := h
    refine ⟨rdI M1 sRe, (h4.1 sRe hGs.2.2.1).1.1, Nat.lt_of_lt_of_le hix hu.2.2.1.2.2.1, ?_, ?_⟩
    · have := hu.2.2.1.2.2.2.2.2.2.2.1
      have e : rl M1 sRe = mL M1 300 (rdI M1 sRe) := rfl
      omega
    · have := (hu.2.2.2.2.1 ix hix).1.2.2.1
      rw [hgs] at this; exact this
  have rowC : ∀ {l : Nat} {M1 : Mem}, B3 G XX A S W w c br L t l M0 M1 → ∃ i, mR M1 11 0 31 = some (300, i) ∧ ix < mL M1 300 i ∧ mL M1 300 i < 1000000 ∧ mI M1 300 i ix = Int32.ofNat ks.length := fun {l M1} h => by
    obtain ⟨⟨-, -, -, h4, -⟩, -, hu, -⟩ := h
    refine ⟨rdI M1 sC, (h4.1 sC hGs.2.1).1.1, Nat.lt_of_lt_of_le hix hu.2.2.1.2.1, ?_, ?_⟩
    · have := hu.2.2.1.2.2.2.2.2.2.1
      have e : rl M1 sC = mL M1 300 (rdI M1 sC) := rfl
      omega
    · have := (hu.2.2.2.2.1 ix hix).1.2.1
      rw [hgs] at this
      have e : (sg A ks κ).1.length = ks.length := by simp [sg]
      rw [e] at this; exact this
  have kmk : ∀ {l : Nat} {M1 : Mem}, B3 G XX A S W w c br L t l M0 M1 → mI M1 11 0 6 = nc A nMake ∧ nMake ∈ A ∧ mI M1 11 0 7 = nc A nStart ∧ nStart ∈ A := fun {l M1} h => by
    have a := h.1.1.1.2.1 (6, nMake) (by simp [kF])
    have b := h.1.1.1.2.1 (7, nStart) (by simp [kF])
    exact ⟨a.1, a.2, b.1, b.2⟩
  have kv : kt A κ = 0 ↔ κ = (-4, []) := kt_inj hκ.2 (Or.inr (Or.inr (Or.inl rfl))) hκ.1 (fun q => absurd q (by decide)) hAl
  -- the last rule, and the end
  have j516 : ∀ (a b d e f1 f2 g : Bool) M1, a = (gc W c).2.2.2.2.2.any (fun m => decide (m.1 = own ∧ m.2.1 = ks ∧ m.2.2.1 = κ)) → b = ((decide (¬ bits &&& 8 = 0) && decide (¬ bits = 8)) && brk br 0) → d = ((decide (¬ (gc W c).2.2.2.1 &&& 4 = 0) && brk br 1) && (decide (¬ bits &&& 6 = 0) || decide (own = nMake))) → e = ((decide (¬ bits &&& 8 = 0) && decide ((gc W c).2.2.2.1 &&& 6 = 0)) && brk br 2) → f1 = (decide (own = nMake) && (decide (¬ bits &&& 11 = 0) || decide (κ ≠ (-4, [])))) → f2 = (decide (own = nStart) && (decide (¬ bits = 1) || decide (ks ≠ [] ∨ κ ≠ (-4, [])))) → g = (decide ((gc W c).2.2.2.2.2.length = 12) || decide (6 < ks.length)) → B3 G XX A S W w c br L t (lst (lst (lst (lst (lst (lst 99 3 a) 4 b) 5 d) 6 e) 7 f1) 7 f2) M0 M1 → ∀ v8 : Int32, (v8 = 0 ∧ bits &&& 8 = 0 ∨ v8 = 1 ∧ ¬ bits &&& 8 = 0) → w_Model_methodLine_j516 0 Q X bits (nc A own) (Int32.ofNat ix) (Int32.ofNat (gc W c).2.2.2.2.2.length) (Int32.ofNat (12 * c)) v8 (b2 g) 12 M1 := by
    intro a b d e f1 f2 g M1 ea eb ed ee ef1 ef2 eg hB1 v8 hv8
    unfold w_Model_methodLine_j516
    refine hB1.asks (rule := 12) hG (lst_le (lst_le (lst_le (lst_le (lst_le (lst_le (by omega) (by omega)) (by omega)) (by omega)) (by omega)) (by omega)) (by omega)) (by omega) (fun M2 hB2 => ?_)
    have hr : lst (lst (lst (lst (lst (lst (lst 99 3 a) 4 b) 5 d) 6 e) 7 f1) 7 f2) 12 g = rulM br (gc W c) bits own ks κ := by
      rw [lst_finM, ea, eb, ed, ee, ef1, ef2, eg]; rfl
    rw [hr] at hB2
    obtain ⟨⟨hq, hC, h51, hF, hmh, h53, -⟩, hlo, hu, hpl⟩ := id hB2
    obtain ⟨hT, hw, hbr, hln⟩ := id hC
    have hr99 : rulM br (gc W c) bits own ks κ ≤ 99 := by
      unfold rulM
      repeat' split
      all_goals omega
    rw [h51]
    by_cases c99 : rulM br (gc W c) bits own ks κ = 99
    · have hn : (gc W c).2.2.2.2.2.length < 12 ∧ ks.length ≤ 6 := ⟨Nat.lt_of_le_of_ne hn12 (rulM_99 c99).2, (rulM_99 c99).1⟩
      refine itp (by rw [c99]; decide) ?_
      generalize hm : 12 * c + (gc W c).2.2.2.2.2.length = m
      have hm6 : m < 612 := by omega
      have em : Int32.ofNat (12 * c) + Int32.ofNat (gc W c).2.2.2.2.2.length = Int32.ofNat m := by rw [oN_add, hm]
      have tm : (Int32.ofNat m).toNatClampNeg = m := oN_tnc (by omega)
      have tc : (Int32.ofNat c).toNatClampNeg = c := oN_tnc (by omega)
      have vm : ∀ f, 144 ≤ f → f ≤ 151 → vp_in (Int32.ofNat m) (mL M2 f w) := fun f x y => by rw [hmh.1 f x y]; exact (vp_oN (by omega)).mpr hm6
      have v136 : vp_in (Int32.ofNat c) (mL M2 136 w) := by rw [hln.2.1]; exact (vp_oN (by omega)).mpr (by omega)
      have e136 := (hmh.2 c hc).1.1
      rw [if_pos hc1] at e136
      have e136 : mI M2 136 w c = Int32.ofNat (gc W c).2.2.2.2.2.length := e136
      rw [em]
      refine ⟨w, hw, ?_⟩
      simp only [mI_sI, Nat.reduceEqDiff, and_false, false_and, if_false, and_self, if_true, tm, mL_sI]
      refine ⟨vm 144 (by omega) (by omega), _, rfl, w, hw, ?_⟩
      simp only [mI_sI, Nat.reduceEqDiff, and_false, false_and, if_false, and_self, if_true, tm, mL_sI]
      refine ⟨vm 145 (by omega) (by omega), w, hw, vm 146 (by omega) (by omega), _, rfl, w, hw, ?_⟩
      simp only [mI_sI, Nat.reduceEqDiff, and_false, false_and, if_false, and_self, if_true, tm, mL_sI]
      refine ⟨vm 147 (by omega) (by omega), w, hw, vm 148 (by omega) (by omega), _, rfl, w, hw, w, hw, ?_⟩
      simp only [mI_sI, Nat.reduceEqDiff, and_false, false_and, if_false, and_self, if_true, tm, mL_sI]
      refine ⟨vm 149 (by omega) (by omega), w, hw, vm 150 (by omega) (by omega), _, rfl, w, hw, ?_⟩
      simp only [mI_sI, Nat.reduceEqDiff, and_false, false_and, if_false, and_self, if_true, tm, mL_sI, h53, tc, e136]
      refine ⟨vm 151 (by omega) (by omega), w, hw, v136, v136, _, rfl, _, rfl, ?_⟩
      have fin : ∀ z, z = (if bits &&& 8 = 0 then (2 : Int32) else 1) → Q (sI (sI (sI (sI (sI (sI (sI (sI (sI (sI (sI (sI (sI (sI M2 11 0 54 (Int32.ofNat m)) 144 w m (nc A own)) 145 w m (Int32.ofNat ix)) 146 w m bits) 147 w m 0) 148 w m 0) 149 w m (mI M2 12 w 35)) 150 w m 0) 151 w m 0) 136 w c (mI M2 136 w c + 1)) 11 0 60 0) 11 0 64 0) 11 0 65 0) 11 0 52 z) := by
        intro z hz'
        have fr : Fr (111726197594974948581748041886209038576756395486289461153419560894783652518320481505627033397908322278017536178956576633246061772453250050052869974323371604691601643813336031744737938995584412981973084951443421364104830774266544311935907390354892411491953159680309719076542890230917979730977483042571343734891973971365914837858981935998928222924417361595677253060039382577391801368439717207344662427023038189321415687589707952469645550434968995188422439241026555626614697558562894585042869746583063712955836713378250259981925515540322328329302202948992753804529115870591203984712259552101910627171304585643298592738908202856059644879420098896619016207373010448426455575593815645736973846503133535613610956362396523239293205271474991562613670367477326743342330188581958840422495216645848427060769711170611407959807032758182647002212462665752874989968270063867049769760868625801874516774918376645781592584445971463440833762880283369838598778787080190827503323130785968578040721173381120) M2 (sI (sI (sI (sI (sI (sI (sI (sI (sI (sI (sI (sI (sI (sI M2 11 0 54 (Int32.ofNat m)) 144 w m (nc A own)) 145 w m (Int32.ofNat ix)) 146 w m bits) 147 w m 0) 148 w m 0) 149 w m (mI M2 12 w 35)) 150 w m 0) 151 w m 0) 136 w c (mI M2 136 w c + 1)) 11 0 60 0) 11 0 64 0) 11 0 65 0) 11 0 52 z) := by
          repeat (first | exact Fr.rf _ _ | refine Fr.wIa rfl rfl ?_ | refine Fr.wI rfl ?_)
        have hlo' : LoT w c M2 (sI (sI (sI (sI (sI (sI (sI (sI (sI (sI (sI (sI (sI (sI M2 11 0 54 (Int32.ofNat m)) 144 w m (nc A own)) 145 w m (Int32.ofNat ix)) 146 w m bits) 147 w m 0) 148 w m 0) 149 w m (mI M2 12 w 35)) 150 w m 0) 151 w m 0) 136 w c (mI M2 136 w c + 1)) 11 0 60 0) 11 0 64 0) 11 0 65 0) 11 0 52 z) := by
          have h12 : 12 * c ≤ m := by omega
          refine (((((((((((((((LoT.rf w c M2).wo).w ?_).w ?_).w ?_).w ?_).w ?_).w ?_).w ?_).w ?_).w ?_).wo).wo).wo).wo)
          all_goals first | exact h12 | exact Nat.le_refl c
        refine hQ1 _ c99 ⟨⟨hC.fr fr, hmh.lay hc1 hn.1 (fun k => ?_) (fun f a b k hk => ?_) (fun f a b => rfl), ?_⟩, ?_, ?_, ?_, ?_, ?_⟩ (hu.fr fr hG hGs) ?_ (hF.fr fr hG) (hlo.trans hlo') ?_ (fun f a b k hk => ?_)
        · simp only [mI_sI, mI_sR, mI_sJ, mR_sI, mL_sI, mL_sR, mR_sR, Nat.reduceEqDiff, and_false, false_and, if_false, and_self, true_and, and_true, if_true]
          rw [e136, lit32 1, oN_add]
        · have : f = 144 ∨ f = 145 ∨ f = 146 ∨ f = 147 ∨ f = 148 := by omega
          rw [hm] at hk
          rcases this with q | q | q | q | q <;> subst q <;> simp only [mI_sI, mI_sR, mI_sJ, mR_sI, mL_sI, mL_sR, mR_sR, Nat.reduceEqDiff, and_false, false_and, if_false, and_self, true_and, and_true, if_true, hk]
        · simp only [mI_sI, mI_sR, mI_sJ, mR_sI, mL_sI, mL_sR, mR_sR, Nat.reduceEqDiff, and_false, false_and, if_false, and_self, true_and, and_true, if_true]; exact h53
        · rw [hm]
          refine ⟨⟨?_, ho⟩, ⟨?_, hsg⟩, ⟨hks, hκ, hn.2⟩, ?_, ?_, ?_⟩ <;> simp only [mI_sI, mI_sR, mI_sJ, mR_sI, mL_sI, mL_sR, mR_sR, Nat.reduceEqDiff, and_false, false_and, if_false, and_self, true_and, and_true, if_true]
          rw [hx]
        · rw [hm]
          refine ⟨?_, ?_, ?_⟩ <;> simp only [mI_sI, mI_sR, mI_sJ, mR_sI, mL_sI, mL_sR, mR_sR, Nat.reduceEqDiff, and_false, false_and, if_false, and_self, true_and, and_true, if_true]
        · rw [hm]; simp only [mI_sI, mI_sR, mI_sJ, mR_sI, mL_sI, mL_sR, mR_sR, Nat.reduceEqDiff, and_false, false_and, if_false, and_self, true_and, and_true, if_true]
        · refine ⟨?_, ?_, ?_⟩ <;> simp only [mI_sI, mI_sR, mI_sJ, mR_sI, mL_sI, mL_sR, mR_sR, Nat.reduceEqDiff, and_false, false_and, if_false, and_self, true_and, and_true, if_true]
        · simp only [mI_sI, mI_sR, mI_sJ, mR_sI, mL_sI, mL_sR, mR_sR, Nat.reduceEqDiff, and_false, false_and, if_false, and_self, true_and, and_true, if_true]; rw [← c99]; exact h51
        · simp only [mI_sI, mI_sR, mI_sJ, mR_sI, mL_sI, mL_sR, mR_sR, Nat.reduceEqDiff, and_false, false_and, if_false, and_self, true_and, and_true, if_true]; exact hz'
        · simp only [mI_sI, mI_sR, mI_sJ, mR_sI, mL_sI, mL_sR, mR_sR, Nat.reduceEqDiff, and_false, false_and, if_false, and_self, true_and, and_true, if_true]; rw [hpl.1.1, hB.2.2.2.1.1]
        · rw [hm] at hk
          have h3 : f = 149 ∨ f = 150 ∨ f = 151 := by omega
          rcases h3 with q | q | q <;> subst q <;> simp only [mI_sI, mI_sR, mI_sJ, mR_sI, mL_sI, mL_sR, mR_sR, Nat.reduceEqDiff, and_false, false_and, if_false, and_self, true_and, and_true, if_true, hk]
          · exact hpl.2 149 (by omega) (by omega) w k
          · exact hpl.2 150 (by omega) (by omega) w k
          · exact hpl.2 151 (by omega) (by omega) w k
      rcases hv8 with ⟨e8, b8⟩ | ⟨e8, b8⟩
      · refine itp e8 ?_
        unfold w_Model_methodLine_j691
        exact fin 2 (by rw [if_pos b8])
      · refine itn (by rw [e8]; decide) ?_
        unfold w_Model_methodLine_j691
        exact fin 1 (by rw [if_neg b8])
    · refine itn (nle_oN (a := 99) (by omega) (by omega)) (hQ0 M2 (by omega) hB2)
  have j486 : ∀ (a b d e f1 f2 : Bool) M1, a = (gc W c).2.2.2.2.2.any (fun m => decide (m.1 = own ∧ m.2.1 = ks ∧ m.2.2.1 = κ)) → b = ((decide (¬ bits &&& 8 = 0) && decide (¬ bits = 8)) && brk br 0) → d = ((decide (¬ (gc W c).2.2.2.1 &&& 4 = 0) && brk br 1) && (decide (¬ bits &&& 6 = 0) || decide (own = nMake))) → e = ((decide (¬ bits &&& 8 = 0) && decide ((gc W c).2.2.2.1 &&& 6 = 0)) && brk br 2) → f1 = (decide (own = nMake) && (decide (¬ bits &&& 11 = 0) || decide (κ ≠ (-4, [])))) → f2 = (decide (own = nStart) && (decide (¬ bits = 1) || decide (ks ≠ [] ∨ κ ≠ (-4, [])))) → B3 G XX A S W w c br L t (lst (lst (lst (lst (lst 99 3 a) 4 b) 5 d) 6 e) 7 f1) M0 M1 → ∀ v8 : Int32, (v8 = 0 ∧ bits &&& 8 = 0 ∨ v8 = 1 ∧ ¬ bits &&& 8 = 0) → w_Model_methodLine_j486 0 Q X bits (nc A own) (Int32.ofNat ix) (Int32.ofNat (gc W c).2.2.2.2.2.length) (Int32.ofNat (12 * c)) v8 (b2 f2) 7 M1 := by
    intro a b d e f1 f2 M1 ea eb ed ee ef1 ef2 hB1 v8 hv8
    unfold w_Model_methodLine_j486
    refine hB1.asks (rule := 7) hG (lst_le (lst_le (lst_le (lst_le (lst_le (by omega) (by omega)) (by omega)) (by omega)) (by omega)) (by omega)) (by omega) (fun M2 hB2 => ?_)
    by_cases c12 : (gc W c).2.2.2.2.2.length = 12
    · refine itp (by rw [c12]; rfl) ?_
      unfold w_Model_methodLine_j511
      exact j516 a b d e f1 f2 true M2 ea eb ed ee ef1 ef2 (by rw [decide_eq_true c12]; rfl) hB2 v8 hv8
    · refine itn (ne_oN (b := 12) c12 (by omega) (by omega)) ?_
      obtain ⟨i, r1, r2, r3, r4⟩ := rowC hB2
      refine ⟨i, r1, ?_⟩
      rw [tix, r4]
      refine ⟨(vp_oN (by omega)).mpr r2, ?_⟩
      by_cases c6 : ks.length ≤ 6
      · exact itp (le_oN (b := 6) c6 (by omega)) (j516 a b d e f1 f2 false M2 ea eb ed ee ef1 ef2 (by rw [decide_eq_false c12, decide_eq_false (by omega)]; rfl) hB2 v8 hv8)
      · refine itn (nle_oN (b := 6) (by omega) (by omega)) ?_
        unfold w_Model_methodLine_j511
        exact j516 a b d e f1 f2 true M2 ea eb ed ee ef1 ef2 (by rw [decide_eq_false c12, decide_eq_true (by omega)]; rfl) hB2 v8 hv8
  have j445 : ∀ (a b d e f1 : Bool) M1, a = (gc W c).2.2.2.2.2.any (fun m => decide (m.1 = own ∧ m.2.1 = ks ∧ m.2.2.1 = κ)) → b = ((decide (¬ bits &&& 8 = 0) && decide (¬ bits = 8)) && brk br 0) → d = ((decide (¬ (gc W c).2.2.2.1 &&& 4 = 0) && brk br 1) && (decide (¬ bits &&& 6 = 0) || decide (own = nMake))) → e = ((decide (¬ bits &&& 8 = 0) && decide ((gc W c).2.2.2.1 &&& 6 = 0)) && brk br 2) → f1 = (decide (own = nMake) && (decide (¬ bits &&& 11 = 0) || decide (κ ≠ (-4, [])))) → B3 G XX A S W w c br L t (lst (lst (lst (lst 99 3 a) 4 b) 5 d) 6 e) M0 M1 → ∀ v8 : Int32, (v8 = 0 ∧ bits &&& 8 = 0 ∨ v8 = 1 ∧ ¬ bits &&& 8 = 0) → w_Model_methodLine_j445 0 Q X bits (nc A own) (Int32.ofNat ix) (Int32.ofNat (gc W c).2.2.2.2.2.length) (Int32.ofNat (12 * c)) v8 (b2 f1) 7 M1 := by
    intro a b d e f1 M1 ea eb ed ee ef1 hB1 v8 hv8
    unfold w_Model_methodLine_j445
    refine hB1.asks (rule := 7) hG (lst_le (lst_le (lst_le (lst_le (by omega) (by omega)) (by omega)) (by omega)) (by omega)) (by omega) (fun M2 hB2 => ?_)
    have ye : ((decide (own = nStart) && (decide (¬ bits = 1) || decide (ks ≠ [] ∨ κ ≠ (-4, []))))) = true → w_Model_methodLine_j481 0 Q X bits (nc A own) (Int32.ofNat ix) (Int32.ofNat (gc W c).2.2.2.2.2.length) (Int32.ofNat (12 * c)) v8 7 M2 := fun q => by
      unfold w_Model_methodLine_j481; exact j486 a b d e f1 true M2 ea eb ed ee ef1 q.symm hB2 v8 hv8
    have no : ((decide (own = nStart) && (decide (¬ bits = 1) || decide (ks ≠ [] ∨ κ ≠ (-4, []))))) = false → w_Model_methodLine_j485 0 Q X bits (nc A own) (Int32.ofNat ix) (Int32.ofNat (gc W c).2.2.2.2.2.length) (Int32.ofNat (12 * c)) v8 7 M2 := fun q => by
      unfold w_Model_methodLine_j485; exact j486 a b d e f1 false M2 ea eb ed ee ef1 q.symm hB2 v8 hv8
    obtain ⟨k1, k2, k3, k4⟩ := kmk hB2
    rw [k3]
    by_cases cs : own = nStart
    · refine itp (by rw [cs]) ?_
      rw [decide_eq_true cs, Bool.true_and, bits1 hbits] at ye no
      by_cases c1 : bits &&& 1 = 0
      · exact itp c1 (ye (by rw [decide_eq_true c1]; rfl))
      · refine itn c1 ?_
        rw [decide_eq_false c1, Bool.false_or] at ye no
        by_cases c14 : bits &&& 14 = 0
        · refine itp c14 ?_
          rw [decide_eq_false (fun x => x c14), Bool.false_or] at ye no
          rw [hB2.2.2.2.1.1]
          by_cases cp : ks = [] ∧ κ = (-4, [])
          · refine itp ?_ (no (decide_eq_false (fun q => q.elim (fun z => z cp.1) (fun z => z cp.2))))
            rw [← hx, cp.1, cp.2]; rfl
          · refine itn (fun q => cp ?_) (ye (decide_eq_true (by by_cases z : ks = []; exact Or.inr (fun y => cp ⟨z, y⟩); exact Or.inl z)))
            rw [← hx] at q
            have e0 : sg A ks κ = sg A [] (-4, []) := (idxS_inj hsg hB2.2.2.2.1.2 hSl).mp q
            exact (sg_inj hks (fun κ hκ => by cases hκ) hκ ⟨fun z => absurd z (by decide), Or.inr (Or.inr (Or.inl rfl))⟩ hAl).mp e0
        · exact itn c14 (ye (by rw [decide_eq_true c14]; rfl))
    · exact itn (fun q => cs ((nc_inj (by omega) ho k4).mp q)) (no (by rw [decide_eq_false cs]; rfl))
  have j409 : ∀ (a b d e : Bool) M1, a = (gc W c).2.2.2.2.2.any (fun m => decide (m.1 = own ∧ m.2.1 = ks ∧ m.2.2.1 = κ)) → b = ((decide (¬ bits &&& 8 = 0) && decide (¬ bits = 8)) && brk br 0) → d = ((decide (¬ (gc W c).2.2.2.1 &&& 4 = 0) && brk br 1) && (decide (¬ bits &&& 6 = 0) || decide (own = nMake))) → e = ((decide (¬ bits &&& 8 = 0) && decide ((gc W c).2.2.2.1 &&& 6 = 0)) && brk br 2) → B3 G XX A S W w c br L t (lst (lst (lst 99 3 a) 4 b) 5 d) M0 M1 → ∀ v8 : Int32, (v8 = 0 ∧ bits &&& 8 = 0 ∨ v8 = 1 ∧ ¬ bits &&& 8 = 0) → w_Model_methodLine_j409 0 Q X bits (nc A own) (Int32.ofNat ix) (Int32.ofNat (gc W c).2.2.2.2.2.length) (Int32.ofNat (12 * c)) v8 (b2 e) 6 M1 := by
    intro a b d e M1 ea eb ed ee hB1 v8 hv8
    unfold w_Model_methodLine_j409
    refine hB1.asks (rule := 6) hG (lst_le (lst_le (lst_le (by omega) (by omega)) (by omega)) (by omega)) (by omega) (fun M2 hB2 => ?_)
    have ye : ((decide (own = nMake) && (decide (¬ bits &&& 11 = 0) || decide (κ ≠ (-4, []))))) = true → w_Model_methodLine_j440 0 Q X bits (nc A own) (Int32.ofNat ix) (Int32.ofNat (gc W c).2.2.2.2.2.length) (Int32.ofNat (12 * c)) v8 7 M2 := fun q => by
      unfold w_Model_methodLine_j440; exact j445 a b d e true M2 ea eb ed ee q.symm hB2 v8 hv8
    have no : ((decide (own = nMake) && (decide (¬ bits &&& 11 = 0) || decide (κ ≠ (-4, []))))) = false → w_Model_methodLine_j444 0 Q X bits (nc A own) (Int32.ofNat ix) (Int32.ofNat (gc W c).2.2.2.2.2.length) (Int32.ofNat (12 * c)) v8 7 M2 := fun q => by
      unfold w_Model_methodLine_j444; exact j445 a b d e false M2 ea eb ed ee q.symm hB2 v8 hv8
    obtain ⟨k1, k2, k3, k4⟩ := kmk hB2
    rw [k1]
    by_cases cs : own = nMake
    · refine itp (by rw [cs]) ?_
      rw [decide_eq_true cs, Bool.true_and] at ye no
      by_cases c1 : bits &&& 11 = 0
      · refine itp c1 ?_
        rw [decide_eq_false (fun x => x c1), Bool.false_or] at ye no
        obtain ⟨i, r1, r2, r3, r4⟩ := rowR hB2
        refine ⟨i, r1, ?_⟩
        rw [tix, r4]
        refine ⟨(vp_oN (by omega)).mpr r2, ?_⟩
        by_cases cv : κ = (-4, [])
        · exact itp (kv.mpr cv) (no (decide_eq_false (fun x => x cv)))
        · exact itn (fun q => cv (kv.mp q)) (ye (decide_eq_true cv))
      · exact itn c1 (ye (by rw [decide_eq_true c1]; rfl))
    · exact itn (fun q => cs ((nc_inj (by omega) ho k2).mp q)) (no (by rw [decide_eq_false cs]; rfl))
  have j367 : ∀ (a b d : Bool) M1, a = (gc W c).2.2.2.2.2.any (fun m => decide (m.1 = own ∧ m.2.1 = ks ∧ m.2.2.1 = κ)) → b = ((decide (¬ bits &&& 8 = 0) && decide (¬ bits = 8)) && brk br 0) → d = ((decide (¬ (gc W c).2.2.2.1 &&& 4 = 0) && brk br 1) && (decide (¬ bits &&& 6 = 0) || decide (own = nMake))) → B3 G XX A S W w c br L t (lst (lst 99 3 a) 4 b) M0 M1 → ∀ v8 : Int32, (v8 = 0 ∧ bits &&& 8 = 0 ∨ v8 = 1 ∧ ¬ bits &&& 8 = 0) → w_Model_methodLine_j367 0 Q X bits (nc A own) (Int32.ofNat ix) (Int32.ofNat (gc W c).2.2.2.2.2.length) (Int32.ofNat (12 * c)) v8 (b2 d) 5 M1 := by
    intro a b d M1 ea eb ed hB1 v8 hv8
    unfold w_Model_methodLine_j367
    refine hB1.asks (rule := 5) hG (lst_le (lst_le (by omega) (by omega)) (by omega)) (by omega) (fun M2 hB2 => ?_)
    have ye : (((decide (¬ bits &&& 8 = 0) && decide ((gc W c).2.2.2.1 &&& 6 = 0)) && brk br 2)) = true → w_Model_methodLine_j409 0 Q X bits (nc A own) (Int32.ofNat ix) (Int32.ofNat (gc W c).2.2.2.2.2.length) (Int32.ofNat (12 * c)) v8 1 6 M2 := fun q => j409 a b d true M2 ea eb ed q.symm hB2 v8 hv8
    have no : (((decide (¬ bits &&& 8 = 0) && decide ((gc W c).2.2.2.1 &&& 6 = 0)) && brk br 2)) = false → w_Model_methodLine_j408 0 Q X bits (nc A own) (Int32.ofNat ix) (Int32.ofNat (gc W c).2.2.2.2.2.length) (Int32.ofNat (12 * c)) v8 6 M2 := fun q => by
      unfold w_Model_methodLine_j408; exact j409 a b d false M2 ea eb ed q.symm hB2 v8 hv8
    rcases hv8 with ⟨e8, b8⟩ | ⟨e8, b8⟩
    · exact itp e8 (no (by rw [decide_eq_false (fun x => x b8)]; rfl))
    · refine itn (by rw [e8]; decide) ⟨w, hB2.1.2.1.2.1, ?_⟩
      rw [decide_eq_true b8, Bool.true_and] at ye no
      rw [hB2.1.2.2.2.2.2.1, oN_tnc (by omega), hB2.1.2.1.1.2.1.2.2.2, (hB2.1.2.1.1.2.2 c hc).2.2]
      refine ⟨(vp_oN (by omega)).mpr (by omega), ?_⟩
      by_cases c6 : (gc W c).2.2.2.1 &&& 6 = 0
      · refine itp c6 (ct_isOff (bit := 2) hB2.1.2.1 ?_)
        rw [decide_eq_true c6, Bool.true_and] at ye no
        cases cb : brk br 2 with
        | true => exact itp (by decide) (ye cb)
        | false => exact itn (by decide) (no cb)
      · exact itn c6 (no (by rw [decide_eq_false c6]; rfl))
  have j329 : ∀ (a b : Bool) M1, a = (gc W c).2.2.2.2.2.any (fun m => decide (m.1 = own ∧ m.2.1 = ks ∧ m.2.2.1 = κ)) → b = ((decide (¬ bits &&& 8 = 0) && decide (¬ bits = 8)) && brk br 0) → B3 G XX A S W w c br L t (lst 99 3 a) M0 M1 → ∀ v7 : Int32, (v7 = 0 ∧ (gc W c).2.2.2.1 &&& 4 = 0 ∨ v7 = 1 ∧ ¬ (gc W c).2.2.2.1 &&& 4 = 0) → ∀ v8 : Int32, (v8 = 0 ∧ bits &&& 8 = 0 ∨ v8 = 1 ∧ ¬ bits &&& 8 = 0) → w_Model_methodLine_j329 0 Q X bits (nc A own) (Int32.ofNat ix) (Int32.ofNat (gc W c).2.2.2.2.2.length) (Int32.ofNat (12 * c)) v7 v8 (b2 b) 4 M1 := by
    intro a b M1 ea eb hB1 v7 hv7 v8 hv8
    unfold w_Model_methodLine_j329
    refine hB1.asks (rule := 4) hG (lst_le (by omega) (by omega)) (by omega) (fun M2 hB2 => ?_)
    have ye : (((decide (¬ (gc W c).2.2.2.1 &&& 4 = 0) && brk br 1) && (decide (¬ bits &&& 6 = 0) || decide (own = nMake)))) = true → w_Model_methodLine_j362 0 Q X bits (nc A own) (Int32.ofNat ix) (Int32.ofNat (gc W c).2.2.2.2.2.length) (Int32.ofNat (12 * c)) v8 5 M2 := fun q => by
      unfold w_Model_methodLine_j362; exact j367 a b true M2 ea eb q.symm hB2 v8 hv8
    have no : (((decide (¬ (gc W c).2.2.2.1 &&& 4 = 0) && brk br 1) && (decide (¬ bits &&& 6 = 0) || decide (own = nMake)))) = false → w_Model_methodLine_j366 0 Q X bits (nc A own) (Int32.ofNat ix) (Int32.ofNat (gc W c).2.2.2.2.2.length) (Int32.ofNat (12 * c)) v8 5 M2 := fun q => by
      unfold w_Model_methodLine_j366; exact j367 a b false M2 ea eb q.symm hB2 v8 hv8
    rcases hv7 with ⟨e7, b7⟩ | ⟨e7, b7⟩
    · exact itp e7 (no (by rw [decide_eq_false (fun x => x b7)]; rfl))
    · refine itn (by rw [e7]; decide) (ct_isOff (bit := 1) hB2.1.2.1 ?_)
      rw [decide_eq_true b7, Bool.true_and] at ye no
      cases cb : brk br 1 with
      | false => exact itn (by decide) (no (by rw [cb]; rfl))
      | true =>
        refine itp (by decide) ?_
        rw [cb, Bool.true_and] at ye no
        by_cases c6 : bits &&& 6 = 0
        · refine itp c6 ?_
          rw [decide_eq_false (fun x => x c6), Bool.false_or] at ye no
          obtain ⟨k1, k2, k3, k4⟩ := kmk hB2
          rw [k1]
          by_cases cs : own = nMake
          · exact itp (by rw [cs]) (ye (decide_eq_true cs))
          · exact itn (fun q => cs ((nc_inj (by omega) ho k2).mp q)) (no (decide_eq_false cs))
        · exact itn c6 (ye (by rw [decide_eq_true c6]; rfl))
  have j301 : ∀ (a : Bool) M1, a = (gc W c).2.2.2.2.2.any (fun m => decide (m.1 = own ∧ m.2.1 = ks ∧ m.2.2.1 = κ)) → B3 G XX A S W w c br L t (lst 99 3 a) M0 M1 → ∀ v7 : Int32, (v7 = 0 ∧ (gc W c).2.2.2.1 &&& 4 = 0 ∨ v7 = 1 ∧ ¬ (gc W c).2.2.2.1 &&& 4 = 0) → ∀ v8 : Int32, (v8 = 0 ∧ bits &&& 8 = 0 ∨ v8 = 1 ∧ ¬ bits &&& 8 = 0) → w_Model_methodLine_j301 0 Q X bits (nc A own) (Int32.ofNat ix) (Int32.ofNat (gc W c).2.2.2.2.2.length) (Int32.ofNat (12 * c)) v7 v8 M1 := by
    intro a M2 ea hB2 v7 hv7 v8 hv8
    unfold w_Model_methodLine_j301
    have ye : (((decide (¬ bits &&& 8 = 0) && decide (¬ bits = 8)) && brk br 0)) = true → w_Model_methodLine_j329 0 Q X bits (nc A own) (Int32.ofNat ix) (Int32.ofNat (gc W c).2.2.2.2.2.length) (Int32.ofNat (12 * c)) v7 v8 1 4 M2 := fun q => j329 a true M2 ea q.symm hB2 v7 hv7 v8 hv8
    have no : (((decide (¬ bits &&& 8 = 0) && decide (¬ bits = 8)) && brk br 0)) = false → w_Model_methodLine_j328 0 Q X bits (nc A own) (Int32.ofNat ix) (Int32.ofNat (gc W c).2.2.2.2.2.length) (Int32.ofNat (12 * c)) v7 v8 4 M2 := fun q => by
      unfold w_Model_methodLine_j328; exact j329 a false M2 ea q.symm hB2 v7 hv7 v8 hv8
    rcases id hv8 with ⟨e8, b8⟩ | ⟨e8, b8⟩
    · exact itp e8 (no (by rw [decide_eq_false (fun x => x b8)]; rfl))
    · refine itn (by rw [e8]; decide) ?_
      rw [decide_eq_true b8, Bool.true_and] at ye no
      by_cases c8 : bits = 8
      · exact itp c8 (no (by rw [decide_eq_false (fun x => x c8)]; rfl))
      · refine itn c8 (ct_isOff (bit := 0) hB2.1.2.1 ?_)
        rw [decide_eq_true c8, Bool.true_and] at ye no
        cases cb : brk br 0 with
        | true => exact itp (by decide) (ye cb)
        | false => exact itn (by decide) (no cb)
  have j287 : ∀ (a : Bool) M1, a = (gc W c).2.2.2.2.2.any (fun m => decide (m.1 = own ∧ m.2.1 = ks ∧ m.2.2.1 = κ)) → B3 G XX A S W w c br L t (lst 99 3 a) M0 M1 → ∀ v7 : Int32, (v7 = 0 ∧ (gc W c).2.2.2.1 &&& 4 = 0 ∨ v7 = 1 ∧ ¬ (gc W c).2.2.2.1 &&& 4 = 0) → w_Model_methodLine_j287 0 Q X bits (nc A own) (Int32.ofNat ix) (Int32.ofNat (gc W c).2.2.2.2.2.length) (Int32.ofNat (12 * c)) v7 M1 := by
    intro a M2 ea hB2 v7 hv7
    unfold w_Model_methodLine_j287
    by_cases c8 : bits &&& 8 = 0
    · exact itp c8 (j301 a M2 ea hB2 v7 hv7 0 (Or.inl ⟨rfl, c8⟩))
    · exact itn c8 (j301 a M2 ea hB2 v7 hv7 1 (Or.inr ⟨rfl, c8⟩))
  have loop : ∀ d k M1, (gc W c).2.2.2.2.2.length - k < d → k ≤ (gc W c).2.2.2.2.2.length → B3 G XX A S W w c br L t (lst 99 3 (((gc W c).2.2.2.2.2.take k).any (fun m => decide (m.1 = own ∧ m.2.1 = ks ∧ m.2.2.1 = κ)))) M0 M1 → w_Model_methodLine_L207 0 Q X d bits (nc A own) (Int32.ofNat ix) (Int32.ofNat (gc W c).2.2.2.2.2.length) (Int32.ofNat (12 * c)) (Int32.ofNat k) M1 := by
    intro d
    induction d with
    | zero => intro k M1 h; omega
    | succ d ih =>
      intro k M1 hd' hk' hB1
      obtain ⟨⟨hq, hC, h51, hF, hmh, h53, -⟩, hlo, hu, hpl⟩ := id hB1
      unfold w_Model_methodLine_L207
      by_cases ek : k = (gc W c).2.2.2.2.2.length
      · refine itp (le_oN (by omega) (by omega)) ⟨w, hC.2.1, ?_⟩
        rw [ek, List.take_length] at hB1
        rw [h53, oN_tnc (by omega), hC.1.2.1.2.2.2, (hC.1.2.2 c hc).2.2]
        refine ⟨(vp_oN (by omega)).mpr (by omega), ?_⟩
        by_cases cf : (gc W c).2.2.2.1 &&& 4 = 0
        · exact itp cf (j287 _ M1 rfl hB1 0 (Or.inl ⟨rfl, cf⟩))
        · exact itn cf (j287 _ M1 rfl hB1 1 (Or.inr ⟨rfl, cf⟩))
      · refine itn (nle_oN (by omega) (by omega)) ⟨w, hC.2.1, ?_⟩
        obtain ⟨⟨p1, p2⟩, ⟨p3, p4⟩, ⟨p5, p6, p7⟩, -⟩ := (hmh.2 c hc).2 k (by omega)
        rw [oN_add, oN_tnc (by omega), hmh.1 144 (by omega) (by omega), p1]
        refine ⟨(vp_oN (by omega)).mpr (by omega), ?_⟩
        have htk : (gc W c).2.2.2.2.2.take (k + 1) = (gc W c).2.2.2.2.2.take k ++ [gmt (gc W c) k] := by
          rw [List.take_add_one, List.getElem?_eq_getElem (show k < (gc W c).2.2.2.2.2.length by omega)]
          show _ ++ [_] = _ ++ [(gc W c).2.2.2.2.2.getD k _]
          rw [List.getD_eq_getElem?_getD, List.getElem?_eq_getElem (show k < (gc W c).2.2.2.2.2.length by omega)]; rfl
        have j256 : ∀ b : Bool, b = decide ((gmt (gc W c) k).1 = own ∧ (gmt (gc W c) k).2.1 = ks ∧ (gmt (gc W c) k).2.2.1 = κ) → w_Model_methodLine_j256 0 Q X (w_Model_methodLine_L207 0 Q X d) bits (nc A own) (Int32.ofNat ix) (Int32.ofNat (gc W c).2.2.2.2.2.length) (Int32.ofNat (12 * c)) (Int32.ofNat k) (b2 b) 3 M1 := by
          intro b hb
          unfold w_Model_methodLine_j256
          refine hB1.asks (rule := 3) hG (lst_le (by omega) (by omega)) (by omega) (fun M2 hB2 => ?_)
          rw [lit32 1, oN_add]
          refine ih (k + 1) M2 (by omega) (by omega) ?_
          rw [lst_or] at hB2
          rw [htk, List.any_append]
          simp only [List.any_cons, List.any_nil, Bool.or_false]
          rw [← hb]; exact hB2
        have no : ¬ ((gmt (gc W c) k).1 = own ∧ (gmt (gc W c) k).2.1 = ks ∧ (gmt (gc W c) k).2.2.1 = κ) → w_Model_methodLine_j255 0 Q X (w_Model_methodLine_L207 0 Q X d) bits (nc A own) (Int32.ofNat ix) (Int32.ofNat (gc W c).2.2.2.2.2.length) (Int32.ofNat (12 * c)) (Int32.ofNat k) 3 M1 := fun q => by
          unfold w_Model_methodLine_j255; exact j256 false (decide_eq_false q).symm
        by_cases ce : (gmt (gc W c) k).1 = own
        · refine itp (by rw [ce]) ⟨w, hC.2.1, ?_⟩
          rw [hmh.1 145 (by omega) (by omega), p3]
          refine ⟨(vp_oN (by omega)).mpr (by omega), ?_⟩
          by_cases cs : (gmt (gc W c) k).2.1 = ks ∧ (gmt (gc W c) k).2.2.1 = κ
          · refine itp (by rw [cs.1, cs.2, hx]) (j256 true (decide_eq_true ⟨ce, cs⟩).symm)
          · refine itn (fun q => cs ?_) (no (fun z => cs z.2))
            rw [← hx] at q
            exact (sg_inj p5 hks p6 hκ hAl).mp ((idxS_inj p4 hsg hSl).mp q)
        · exact itn (fun q => ce ((nc_inj (by omega) p2 ho).mp q)) (no (fun z => ce z.1))
  refine loop _ 0 M (by omega) (by omega) ?_
  have : lst 99 3 (((gc W c).2.2.2.2.2.take 0).any (fun m => decide (m.1 = own ∧ m.2.1 = ks ∧ m.2.2.1 = κ))) = 99 := by simp [lst]
  rw [this]; exact hB
