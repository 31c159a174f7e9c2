/-! B: a handler's line in the twin -/
abbrev pHn (p : PM) (h : PH) : PM := (p.1, p.2.1, p.2.2.1 ++ [h], p.2.2.2.1, p.2.2.2.2)
theorem JM.handler {G : List Sl} {US : UST} {A : List Nm} {S : List Sg} {W : List Cls} {w c : Nat} {br : Int32} {q0 nl0 nq nl nf nk : Nat} {p : PM} {NL : List Nine} {z : Nat × Nat × Nat × Nat × Nat × Nat} {L ts : List Tok} {M0 M : Mem} {a b g k : Nm} {v6 : Int32} {s0 : Bool} {Q X : Mem → Prop} (h : JM G US A S W w c br q0 nl0 nq nl nf nk p NL z L ts M0 M) (hx : Gx G w) (hc : c < W.length) (hm12 : (gc W c).2.2.2.2.2.length < 12) (hL : L ≠ []) (h99 : z.2.2.2.2.2 = 99) (hzc : z.1 ≤ c) (ha : a ∈ A) (hb : b ∈ A) (hg : g ∈ A) (hk : k ∈ A) (hv6 : v6 = anyC A k) (hs0 : s0 = decide (p.2.2.1.length = 8))
    (hQ0 : ∀ M', p.2.2.1.length = 8 → JE G US A w z M0 M' → TQ A L ts M' → mI M' 11 0 51 = Int32.ofNat 12 → Q M')
    (hQ1 : ∀ M', p.2.2.1.length ≠ 8 → JM G US A S W w c br q0 nl0 nq nl nf nk (pHn p (a, b, g, k, (hd L).2.2.2)) NL z L ts M0 M' → Q M') : w_Model_handlerLine_j92 0 Q X (Int32.ofNat p.2.2.1.length) (Int32.ofNat (8 * (12 * c + (gc W c).2.2.2.2.2.length) + min p.2.2.1.length 7)) (nc A a) (nc A b) (nc A g) v6 (b2 s0) 12 M := by
  have hH8 := h.2.2.1.1.1.2.2.2.2
  have hWl := h.2.1.1.1.1.1.1.2.2.1
  unfold w_Model_handlerLine_j92
  refine h.asks (rule := 12) hx (by omega) (by omega) (fun M1 h1 _ => ?_)
  by_cases c8 : p.2.2.1.length = 8
  · have e12 : lst z.2.2.2.2.2 12 s0 = 12 := by rw [h99, hs0, decide_eq_true c8]; rfl
    rw [e12] at h1
    have e51 : mI M1 11 0 51 = Int32.ofNat 12 := h1.2.2.2.2.2
    rw [e51]
    exact itn (by decide) (hQ0 M1 c8 h1.je h1.1 e51)
  · have e99 : zl z (lst z.2.2.2.2.2 12 s0) = z := by
      have : lst z.2.2.2.2.2 12 s0 = 99 := by rw [h99, hs0, decide_eq_false c8]; rfl
      rw [this, ← h99]
    rw [e99] at h1
    have e51 : mI M1 11 0 51 = Int32.ofNat 99 := by rw [← h99]; exact h1.2.2.2.2.2
    rw [e51]
    refine itp (by decide) ?_
    rw [show min p.2.2.1.length 7 = p.2.2.1.length by omega]
    obtain ⟨g1, ⟨⟨hC, hFl, hMs⟩, cnt, hRL, hbn⟩, ⟨⟨hHm, hIn, hPh, hPe⟩, hLb, hNi⟩, g4, g5, g6⟩ := id h1
    have hw := hx.2.2.2.1
    have ew : mR M1 11 0 45 = some (12, w) := hC.2.1
    generalize hm : 12 * c + (gc W c).2.2.2.2.2.length = m at hHm hPh
    have hm6 : m < 612 := by omega
    have tm : (Int32.ofNat m).toNatClampNeg = m := oN_tnc (by omega)
    have tn : (Int32.ofNat p.2.2.1.length).toNatClampNeg = p.2.2.1.length := oN_tnc (by omega)
    have tx : (Int32.ofNat (8 * m + p.2.2.1.length)).toNatClampNeg = 8 * m + p.2.2.1.length := oN_tnc (by omega)
    have vx : ∀ f, 152 ≤ f → f ≤ 155 → vp_in (Int32.ofNat (8 * m + p.2.2.1.length)) (mL M1 f w) := fun f x y => by rw [hMs.2.1 f x y]; exact (vp_oN (by omega)).mpr (by omega)
    have vm : vp_in (Int32.ofNat m) (mL M1 151 w) := by rw [hMs.1.1 151 (by omega) (by omega)]; exact (vp_oN (by omega)).mpr hm6
    have v9 : vp_in (Int32.ofNat p.2.2.1.length) (mL M1 109 0) := by rw [hPh.1]; exact (vp_oN (by omega)).mpr (by omega)
    obtain ⟨p8, p9⟩ := g1.pl hL
    have e108 : mI M1 108 0 (0 : Int32).toNatClampNeg = Int32.ofNat (hd L).2.2.2 := p8
    rw [tx, tn]
    refine ⟨w, ew, vx 152 (by omega) (by omega), w, ew, vx 153 (by omega) (by omega), w, ew, vx 154 (by omega) (by omega), _, rfl, w, ew, vx 155 (by omega) (by omega), (vp_oN (a := 0) (by omega)).mpr p9, v9, _, rfl, w, ew, ?_⟩
    simp only [mI_sI, mI_sR, mI_sJ, mR_sI, mL_sI, mL_sR, mR_sR, Nat.reduceEqDiff, and_false, false_and, if_false, and_self, true_and, and_true, if_true, e108, hHm.2.2.1.2, tm, hHm.2.1.2.2]
    refine ⟨vm, vm, _, rfl, ?_⟩
    rw [lit32 1, oN_add]
    obtain ⟨Mz, hMz⟩ : ∃ Mz, Mz = sI (sI (sI (sI (sI (sI M1 152 w (8 * m + p.2.2.1.length) (nc A a)) 153 w (8 * m + p.2.2.1.length) (nc A b)) 154 w (8 * m + p.2.2.1.length) (nc A g)) 155 w (8 * m + p.2.2.1.length) v6) 109 0 p.2.2.1.length (Int32.ofNat (hd L).2.2.2)) 151 w m (Int32.ofNat (p.2.2.1.length + 1)) := ⟨_, rfl⟩
    rw [← hMz]
    have hf : Fr (88489356947770161662721046959322264767771443200) M1 Mz := by
      rw [hMz]; repeat (first | exact Fr.rf _ _ | refine Fr.wIa rfl rfl ?_)
    have loz : LoT w z.1 M1 Mz := by
      rw [hMz]
      refine ((((((LoT.rf w z.1 M1).w ?_).w ?_).w ?_).w ?_).wo).w ?_
      · show 96 * z.1 ≤ _; omega
      · show 96 * z.1 ≤ _; omega
      · show 96 * z.1 ≤ _; omega
      · show 96 * z.1 ≤ _; omega
      · show 12 * z.1 ≤ _; omega
    have z152 : ∀ k, mI Mz 152 w k = if k = 8 * m + p.2.2.1.length then nc A a else mI M1 152 w k := fun k => by rw [hMz]; simp only [mI_sI, mI_sR, mI_sJ, mR_sI, mL_sI, mL_sR, mR_sR, Nat.reduceEqDiff, and_false, false_and, if_false, and_self, true_and, and_true, if_true]
    have z153 : ∀ k, mI Mz 153 w k = if k = 8 * m + p.2.2.1.length then nc A b else mI M1 153 w k := fun k => by rw [hMz]; simp only [mI_sI, mI_sR, mI_sJ, mR_sI, mL_sI, mL_sR, mR_sR, Nat.reduceEqDiff, and_false, false_and, if_false, and_self, true_and, and_true, if_true]
    have z154 : ∀ k, mI Mz 154 w k = if k = 8 * m + p.2.2.1.length then nc A g else mI M1 154 w k := fun k => by rw [hMz]; simp only [mI_sI, mI_sR, mI_sJ, mR_sI, mL_sI, mL_sR, mR_sR, Nat.reduceEqDiff, and_false, false_and, if_false, and_self, true_and, and_true, if_true]
    have z155 : ∀ k, mI Mz 155 w k = if k = 8 * m + p.2.2.1.length then v6 else mI M1 155 w k := fun k => by rw [hMz]; simp only [mI_sI, mI_sR, mI_sJ, mR_sI, mL_sI, mL_sR, mR_sR, Nat.reduceEqDiff, and_false, false_and, if_false, and_self, true_and, and_true, if_true]
    have z109 : ∀ k, mI Mz 109 0 k = if k = p.2.2.1.length then Int32.ofNat (hd L).2.2.2 else mI M1 109 0 k := fun k => by rw [hMz]; simp only [mI_sI, mI_sR, mI_sJ, mR_sI, mL_sI, mL_sR, mR_sR, Nat.reduceEqDiff, and_false, false_and, if_false, and_self, true_and, and_true, if_true]
    have z151 : ∀ k, mI Mz 151 w k = if k = m then Int32.ofNat (p.2.2.1.length + 1) else mI M1 151 w k := fun k => by rw [hMz]; simp only [mI_sI, mI_sR, mI_sJ, mR_sI, mL_sI, mL_sR, mR_sR, Nat.reduceEqDiff, and_false, false_and, if_false, and_self, true_and, and_true, if_true]
    clear hMz
    have rk : ∀ a b c d, Rk w a b c d M1 Mz := fun a b c d => Rk.fr hf hx.1 hw
    have xl := XL_fr hf hx.1 hx.2.2.2.2.1 rfl
    have nem : ∀ d, d < W.length → ∀ j, j < (gc W d).2.2.2.2.2.length → 12 * d + j ≠ m := fun d hd' j hj => by
      have hk12 := (hMs.1.2 d hd').1.2
      rw [← hm]
      by_cases q : d = c
      · subst q; omega
      · omega
    refine hQ1 Mz c8 ⟨g1.fr hf, ⟨⟨hC.fr hf, hFl.fr hf, hMs.keep (hMs.1.fr hf) (rk _ _ _ _) (fun f x y d hd' j hj => ?_) (fun f x y d hd' j hj i hi => ?_) (fun f x y => ?_)⟩, ⟨(hf.I (f := 12) (k := 35) rfl w).trans cnt.1, (hf.I (f := 12) (k := 37) rfl w).trans cnt.2.1, (hf.I (f := 12) (k := 41) rfl w).trans cnt.2.2.1, (hf.I (f := 12) (k := 43) rfl w).trans cnt.2.2.2⟩, hRL.of (fun s hs => (rd_fr hf hx.1 rfl (hw s hs)).2), hbn⟩, ⟨⟨?_, fun i hi => (hIn i hi).keep (rk (q0 + p.2.1.length) _ _ _) (by have : i < p.2.1.length := hi; omega), ?_, ?_⟩, hLb.of (hf.I (f := 11) (k := 60) rfl 0) xl, hNi.of (hf.I (f := 11) (k := 64) rfl 0) xl⟩, g4.fr hf hx, ⟨g5.1.fr hf hx.1, g5.2.1.trans loz, g5.2.2.trans (rk _ _ _ _)⟩, (hf.I (f := 11) (k := 51) rfl 0).trans g6⟩
    · have h3 : f = 149 ∨ f = 150 ∨ f = 151 := by omega
      rcases h3 with e | e | e <;> subst e
      · exact hf.Ia (f := 149) rfl rfl w _
      · exact hf.Ia (f := 150) rfl rfl w _
      · rw [z151, if_neg (nem d hd' j hj)]
    · have hne : 8 * (12 * d + j) + i ≠ 8 * m + p.2.2.1.length := by have := nem d hd' j hj; omega
      have h3 : f = 152 ∨ f = 153 ∨ f = 154 ∨ f = 155 := by omega
      rcases h3 with e | e | e | e <;> subst e
      · rw [z152, if_neg hne]
      · rw [z153, if_neg hne]
      · rw [z154, if_neg hne]
      · rw [z155, if_neg hne]
    · have h3 : f = 152 ∨ f = 153 ∨ f = 154 ∨ f = 155 := by omega
      rcases h3 with e | e | e | e <;> subst e
      · exact hf.L (f := 152) rfl w
      · exact hf.L (f := 153) rfl w
      · exact hf.L (f := 154) rfl w
      · exact hf.L (f := 155) rfl w
    · obtain ⟨⟨a1, a2, a3, a4, a5, a6⟩, ⟨b1, b2', b3⟩, ⟨c1, c2⟩, d1, d2⟩ := hHm
      rw [hm]
      refine ⟨⟨⟨(hf.Ia (f := 144) rfl rfl w m).trans a1.1, a1.2⟩, ⟨(hf.Ia (f := 145) rfl rfl w m).trans a2.1, a2.2⟩, a3, (hf.Ia (f := 146) rfl rfl w m).trans a4, (hf.Ia (f := 147) rfl rfl w m).trans a5, (hf.Ia (f := 148) rfl rfl w m).trans a6⟩, ⟨(hf.Ia (f := 149) rfl rfl w m).trans b1, (hf.Ia (f := 150) rfl rfl w m).trans b2', ?_⟩, ⟨(hf.I (f := 11) (k := 53) rfl 0).trans c1, (hf.I (f := 11) (k := 54) rfl 0).trans c2⟩, d1, ?_⟩
      · rw [z151, if_pos rfl]; simp
      · show (p.2.2.1 ++ [_]).length ≤ 8
        rw [List.length_append, List.length_singleton]; omega
    · rw [hm]
      refine ⟨(hf.L (f := 109) rfl 0).trans hPh.1, fun i hi => ?_⟩
      have hi : i < (p.2.2.1 ++ [(a, b, g, k, (hd L).2.2.2)]).length := hi
      rw [List.length_append, List.length_singleton] at hi
      show tHn A w (8 * m + i) (nc A (gh (p.2.2.1 ++ [(a, b, g, k, (hd L).2.2.2)]) i).1) _ _ _ Mz ∧ _
      by_cases ci : i < p.2.2.1.length
      · have eg : gh (p.2.2.1 ++ [(a, b, g, k, (hd L).2.2.2)]) i = gh p.2.2.1 i := by simp [gh, List.getD_eq_getElem?_getD, List.getElem?_append_left ci]
        rw [eg]
        obtain ⟨x, y, u⟩ := hPh.2 i ci
        refine ⟨x.of (fun f q1 q2 => ?_), y, by rw [z109, if_neg (by omega)]; exact u⟩
        have h3 : f = 152 ∨ f = 153 ∨ f = 154 ∨ f = 155 := by omega
        rcases h3 with e | e | e | e <;> subst e
        · rw [z152, if_neg (by omega)]
        · rw [z153, if_neg (by omega)]
        · rw [z154, if_neg (by omega)]
        · rw [z155, if_neg (by omega)]
      · have ei : i = p.2.2.1.length := by omega
        have eg : gh (p.2.2.1 ++ [(a, b, g, k, (hd L).2.2.2)]) i = (a, b, g, k, (hd L).2.2.2) := by rw [ei]; simp [gh, List.getD_eq_getElem?_getD]
        rw [eg, ei]
        refine ⟨⟨by rw [z152, if_pos rfl], by rw [z153, if_pos rfl], by rw [z154, if_pos rfl], by rw [z155, if_pos rfl, hv6], hk⟩, ⟨ha, hb, hg⟩, by rw [z109, if_pos rfl]⟩
    · unfold tPe at hPe ⊢
      show (match p.2.2.2.2 with | none => _ | some x => _)
      cases e : p.2.2.2.2 with
      | none => rw [e] at hPe; exact (hf.I (f := 11) (k := 65) rfl 0).trans hPe
      | some x =>
        rw [e] at hPe
        obtain ⟨j, j1, j2, j3⟩ := hPe
        exact ⟨j, j1, (hf.I (f := 11) (k := 65) rfl 0).trans j2, j3.keep (rk 0 0 _ _) j1⟩
