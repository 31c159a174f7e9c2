/-! THE MACHINE IN THE WORKS: faults of its own; a frame more -/
section
variable {A : List Nm} {W : List Cls} {w C B F t L : Nat} {br : Int32} {nq nk np nh nr : Nat} {s s' : Ms} {M M' M1 : Mem} {S : Nat} {l : Ln} {U V : List Un} {r : Int32} {c j a : Nat} {lo st : List Vl} {o : Option Kd} {Q : Mem → Prop}
/-- what is fixed, and the room there is for faults -/
def RQ (A : List Nm) (W : List Cls) (w nq nk np nh nr F : Nat) (s : Ms) : Prop := WO W ∧ KB w nq nk np nh nr ∧ nA A ∧ (w < 4 ∧ F < 1000000) ∧ (zF s).length + 100 < F
theorem LO.nst (hW : WO W) (h : LO W s t o U) : (sts U).length ≤ 51 := by
  have h1 := nodup_len (n := W.length) h.2.1 (fun k hk => (h.1.own k hk).1.2)
  have := hW.2.2.2
  omega
theorem lastF_ne (h : (zF s).length < 1000000) {f : Nat} {ru : Int32} : lastF (addFt s f ru) ≠ 0 := fun z => by
  have hzl : (zF (addFt s f ru)).length = (zF s).length + 1 := by
    show (zF s ++ [_]).length = _
    rw [List.length_append]; rfl
  have z : Int32.ofNat (800 + (zF (addFt s f ru)).length) = 0 := z
  rw [hzl] at z
  have := (oN_inj (a := 800 + ((zF s).length + 1)) (b := 0) (by omega) (by omega)).mp z
  omega
theorem c_fail {f : Nat} {ru : Int32} (hq : RQ A W w nq nk np nh nr F s) (h : RM A W w br nq nk np nh nr C B F t s (gU s t) M) (hM : MO W s t o (gU s t)) (hon : lSt (zN s t) = 1) (h1 : 1 ≤ f) (h2 : f < 21) (hQ : ∀ M', RM A W w br nq nk np nh nr C B F t (failS W t s f ru) (gU (failS W t s f ru) t) M' → Q M') : w_Machine_fail w (Int32.ofNat f) ru Q M := by
  obtain ⟨hW, hK, hA, ⟨hw, hFb⟩, hF⟩ := hq
  have hl := hM.2.2.2.1.len hW
  have hs := hM.2.2.2.1.nst hW
  refine ⟨60, Nat.le_refl _, ?_⟩
  show wk_Machine_fail (wr_Machine_fail 59) w (Int32.ofNat f) ru Q M
  refine c_failW hw h (by omega) hFb (fun M1 h1' => ⟨(gU s t).length + 1, ?_⟩)
  refine c_unw hW hK hA hw hFb (gU s t) 59 _ o _ _ M1 Q h1' (hM.addF h1 h2) hon (thO.new hW.1 hM.1.1.1.1 h1 h2 (by omega)) (lastF_ne (by omega)) ?_ (by omega) (by omega) hQ
  show (zF s ++ [_]).length + _ < F
  rw [List.length_append]
  show (zF s).length + 1 + _ < F
  omega
theorem c_throwOne (hq : RQ A W w nq nk np nh nr F s) (h : RM A W w br nq nk np nh nr C B F t s (gU s t) M) (hM : MO W s t o (gU s t)) (hon : lSt (zN s t) = 1) (hr : thO W s r) (h0 : r ≠ 0) (hQ : ∀ M', RM A W w br nq nk np nh nr C B F t (unw W t (gU s t) r s) (gU (unw W t (gU s t) r s) t) M' → Q M') : w_Machine_throwOne w r Q M := by
  obtain ⟨hW, hK, hA, ⟨hw, hFb⟩, hF⟩ := hq
  have hl := hM.2.2.2.1.len hW
  have hs := hM.2.2.2.1.nst hW
  exact ⟨59, by omega, (gU s t).length + 1, c_unw hW hK hA hw hFb (gU s t) 59 _ o _ _ M Q h hM hon hr h0 (by omega) (by omega) (by omega) hQ⟩
theorem c_fails {e : Int32} (hq : RQ A W w nq nk np nh nr F s) (h : RM A W w br nq nk np nh nr C B F t s (gU s t) M) (hM : MO W s t o (gU s t)) (hon : lSt (zN s t) = 1) (he : cdOk e ∧ e ≠ 0 ∧ e ≠ 1) (hQ : ∀ M', RM A W w br nq nk np nh nr C B F t (failC W t s e) (gU (failC W t s e) t) M' → Q M') : w_Machine_fails w (-e) Q M := by
  obtain ⟨⟨n, hn1, hn2, e1⟩, e2, e3⟩ := he
  have hb : 11 ≤ n % 100 ∧ n % 100 ≤ 20 := by
    rcases hn2 with z | z
    · have : n = 0 ∨ n = 1 := by omega
      rcases this with q | q
      · rw [q] at e1; exact absurd e1 e2
      · rw [q] at e1; exact absurd e1 e3
    · exact z
  unfold w_Machine_fails
  unfold failC at hQ
  rw [e1, oN_tnc (by omega)] at hQ
  rw [Int32.neg_neg, e1]
  refine ⟨by decide, by decide, ?_⟩
  have q1 : Int32.ofNat n / (100 : Int32) = Int32.ofNat (n / 100) := by rw [lit32 100]; exact oN_div (by omega) (by omega)
  have q2 : Int32.ofNat n - Int32.ofNat n / (100 : Int32) * (100 : Int32) = Int32.ofNat (n % 100) := by rw [lit32 100]; exact oN_mod (by omega) (by omega)
  rw [q2, q1]
  exact c_fail hq h hM hon (by omega) (by omega) hQ
theorem ev_su {w' k : Nat} {m : Option Nat} : evS (sU s t V) t w' k m = sU (evS s t w' k m) t V := by
  unfold evS
  have e : lSp (zN (sU s t V) t) = lSp (zN s t) := by rw [sU_N]
  by_cases hc : (zE s).length < 400
  · rw [if_pos hc, if_pos (show (zE (sU s t V)).length < 400 from hc), e]; rfl
  · rw [if_neg hc, if_neg (show ¬ (zE (sU s t V)).length < 400 from hc)]
abbrev z20 : List Vl := List.replicate 20 (0, false)
theorem lv20 {k : Nat} : lv z20 k = (0, false) := by
  show (List.replicate 20 (0, false)).getD k (0, false) = _
  rw [List.getD_eq_getElem?_getD, List.getElem?_replicate]
  split <;> rfl
/-- a frame more, its locals 0 -/
theorem c_enter {Q : Int32 → Mem → Prop} (hq : RQ A W w nq nk np nh nr F s) (h : RM A W w br nq nk np nh nr C B F t s (gU s t) M) (hM : MO W s t o (gU s t)) (hon : lSt (zN s t) = 1) (hc : c < W.length) (hj : j < (gc W c).2.2.2.2.2.length)
    (hQ0 : frs (gU s t) = 40 → ∀ M', RM A W w br nq nk np nh nr C B F t (failS W t s 8 0) (gU (failS W t s 8 0) t) M' → Q 0 M')
    (hQ1 : frs (gU s t) ≠ 40 → ∀ M', RM A W w br nq nk np nh nr C B F t (evS (sU s t (.inl (c, j, 0, z20, []) :: gU s t)) t 1 c (some j)) (.inl (c, j, 0, z20, []) :: gU s t) M' → mI M' 6 w 33 = mI M 6 w 33 → mI M' 6 w 34 = mI M 6 w 34 → Q 1 M') : w_Machine_enter w (Int32.ofNat (moff W c + j)) Q M := by
  obtain ⟨hW, hK, hA, ⟨hw, hFb⟩, hF⟩ := id hq
  have hst := hM.2.2.2.1.nst hW
  have hfr := hM.2.2.2.1.2.2
  have hstk := UO.stk hW hM.1.1 hM.2.2.2.1.1
  have R2 : mR M 6 w 2 = some (7, 3 * w + t) := h.1.2.2.2.2.1.1
  have f1 : mI M 7 (3 * w + t) 1 = Int32.ofNat (gU s t).length := h.2.2.1.1
  have f2 : mI M 7 (3 * w + t) 2 = Int32.ofNat (frs (gU s t)) := h.2.2.1.2.1
  have lens := h.2.1.1
  unfold w_Machine_enter
  refine ⟨3 * w + t, R2, ?_⟩
  rw [f2]
  by_cases c40 : frs (gU s t) = 40
  · exact itp (by rw [c40]; rfl) (c_fail (f := 8) hq h hM hon (by omega) (by omega) (fun M' h' => hQ0 c40 M' h'))
  have hU : (gU s t).length ≤ 90 := by rw [U_len]; omega
  refine itn (ne_oN (b := 40) c40 (by omega) (by omega)) ⟨3 * w + t, R2, 3 * w + t, R2, 3 * w + t, R2, _, rfl, 3 * w + t, R2, ?_⟩
  rw [f1, oN_tnc (k := (gU s t).length) (by omega)]
  have g2 : ∀ v, mI (sI M 7 (3 * w + t) 1 v) 7 (3 * w + t) 2 = Int32.ofNat (frs (gU s t)) := fun v => by rw [mI_sI, if_neg (fun z => absurd z.2.2 (by decide))]; exact f2
  rw [g2, show Int32.ofNat (gU s t).length + (1 : Int32) = Int32.ofNat ((gU s t).length + 1) from oN_add _ 1, show Int32.ofNat (frs (gU s t)) + (1 : Int32) = Int32.ofNat (frs (gU s t) + 1) from oN_add _ 1]
  have vp : ∀ f, 89 ≤ f → f ≤ 93 → vp_in (Int32.ofNat (gU s t).length) (mL M f (3 * w + t)) := fun f a b => by rw [lens.1 f a b]; exact (vp_oN (by omega)).mpr (by omega)
  refine ⟨vp 89 (by omega) (by omega), 3 * w + t, R2, vp 90 (by omega) (by omega), _, rfl, 3 * w + t, R2, vp 91 (by omega) (by omega), 3 * w + t, R2, vp 92 (by omega) (by omega), _, rfl, ?_⟩
  obtain ⟨M17, e17⟩ : ∃ M17, M17 = (sI (sI (sI (sI (sI (sI M 7 (3 * w + t) 1 (Int32.ofNat ((gU s t).length + 1))) 7 (3 * w + t) 2 (Int32.ofNat (frs (gU s t) + 1))) 89 (3 * w + t) (gU s t).length (Int32.ofNat (moff W c + j))) 90 (3 * w + t) (gU s t).length 0) 91 (3 * w + t) (gU s t).length 0) 92 (3 * w + t) (gU s t).length (-1)) := ⟨_, rfl⟩
  rw [← e17]
  have ag : AgT w t M M17 := by rw [e17]; exact AgT.rf.w7.w7.wa.wa.wa.wa
  have x17 := h.1.ag ag
  have rd7 : ∀ k, k ≠ 1 → k ≠ 2 → mI M17 7 (3 * w + t) k = mI M 7 (3 * w + t) k := fun k k1 k2 => by
    rw [e17]
    simp only [mI_sI, Nat.reduceEqDiff, false_and, if_false, true_and]
    rw [if_neg k2, if_neg k1]
  have hcw := x17.1.1.1
  obtain ⟨-, -, m3, -, -⟩ := hcw.mo (e := 0) hc
  have hH := (hcw.2.1.2.2 c hc j hj).1
  unfold w_Machine_methodEvent
  rw [oN_tnc (k := moff W c + j) (by omega), hH.1, hcw.2.1.1.2.1 55 (by omega) (by omega)]
  refine ⟨(vp_oN (by omega)).mpr (by omega), c_event (what := 1) (m := some j) x17 hM.1.2.1 hc ((rd7 0 (by omega) (by omega)).trans h.2.1.2.1.1) ((rd7 12 (by omega) (by omega)).trans h.2.1.2.1.2.2.2) (Or.inr ⟨j, rfl, rfl, by omega⟩) (fun M18 x18 hf => ⟨21, ?_⟩)⟩
  have R18 : mR M18 6 w 2 = some (7, 3 * w + t) := x18.2.2.2.2.1.1
  have s7 : ∀ k, SEv.testBit (cd 7 k) = false := fun k => by
    show (1 &&& (SEv >>> (2400 + k)) != 0) = false
    rw [Nat.shiftRight_add, show SEv >>> 2400 = 0 from rfl, Nat.zero_shiftRight]; rfl
  have lk : ∀ f, mL M18 f (3 * w + t) = mL M f (3 * w + t) := fun f => by
    have h1 : mL M18 f (3 * w + t) = mL M17 f (3 * w + t) := by
      by_cases e : f = 87
      · rw [e]; exact hf.L (f := 87) rfl _
      · by_cases e2 : SEv.testBit (5000 + f) = false
        · exact hf.L e2 _
        · exfalso
          apply e2
          show (1 &&& (SEv >>> (5000 + f)) != 0) = false
          rw [Nat.shiftRight_add, show SEv >>> 5000 = 0 from rfl, Nat.zero_shiftRight]; rfl
    rw [h1, e17]; rfl
  have loop : ∀ n k M2, 20 - k < n → k ≤ 20 → AgT w t M18 M2 → (∀ f i k', (f = 94 ∨ f = 514 → i = 3 * w + t → 40 * (gU s t).length ≤ k' ∧ k' < 40 * (gU s t).length + 20 → False) → mI M2 f i k' = mI M18 f i k') → (∀ f i, mL M2 f i = mL M18 f i) → (∀ i, i < k → mI M2 94 (3 * w + t) (40 * (gU s t).length + i) = 0 ∧ mI M2 514 (3 * w + t) (40 * (gU s t).length + i) = 0) → w_Machine_enter_L103 w Q n (Int32.ofNat (gU s t).length) (Int32.ofNat k) M2 := by
    intro n
    induction n with
    | zero => intro k M2 hn; exact absurd hn (by omega)
    | succ n ih =>
      intro k M2 hn hk ag2 ho hL2 hz
      unfold w_Machine_enter_L103
      by_cases ck : k = 20
      · refine itp (by rw [ck]; decide) ?_
        have l18 : ∀ f k', lnF f = true → f ≠ 94 → f ≠ 514 → mI M2 f (3 * w + t) k' = mI M17 f (3 * w + t) k' := fun f k' hl n1 n2 => by
          rw [ho f _ k' (fun a _ _ => by omega)]
          unfold lnF at hl
          rw [Bool.or_eq_true, Bool.or_eq_true, Bool.and_eq_true] at hl
          rcases hl with (z | z) | z
          · rw [Nat.eq_of_beq_eq_true z]; exact hf.I (s7 k') _
          · have h1 := Nat.ble_eq.mp z.1
            have h2 := Nat.ble_eq.mp z.2
            have : f = 89 ∨ f = 90 ∨ f = 91 ∨ f = 92 ∨ f = 93 ∨ f = 95 := by omega
            rcases this with z | z | z | z | z | z <;> rw [z] <;> exact hf.Ia rfl rfl _ _
          · exact absurd (Nat.eq_of_beq_eq_true z) n2
        have hfin : RM A W w br nq nk np nh nr C B F t (evS (sU s t (.inl (c, j, 0, z20, []) :: gU s t)) t 1 c (some j)) (.inl (c, j, 0, z20, []) :: gU s t) M2 := by
          rw [ev_su]
          refine ⟨(x18.ag ag2).su, ?_, ⟨?_, ?_, ⟨⟨?_, ?_, ?_, ?_⟩, fun i hi => ?_, fun i hi => absurd hi (Nat.not_lt_zero i)⟩, ?_⟩, ?_⟩
          · rw [sU_N, ev_N]
            refine rL.g2 (l := qU (zN s t) _) h.2.1 (fun i h1 h2 => ?_) (fun i => ?_) (fun f => (hL2 f _).trans (lk f))
            · rw [l18 7 i rfl (by omega) (by omega)]; exact rd7 i h1 h2
            · rw [l18 95 i rfl (by omega) (by omega), e17]
              simp only [mI_sI, Nat.reduceEqDiff, false_and, if_false]
          · rw [l18 7 1 rfl (by omega) (by omega), e17]
            simp only [mI_sI, Nat.reduceEqDiff, false_and, if_false, true_and, and_false, and_self, if_true]
            rfl
          · rw [l18 7 2 rfl (by omega) (by omega), e17]
            simp only [mI_sI, Nat.reduceEqDiff, false_and, if_false, true_and, and_false, and_self, if_true]
            rfl
          · rw [l18 89 _ rfl (by omega) (by omega), e17]
            simp only [mI_sI, Nat.reduceEqDiff, false_and, if_false, true_and, and_self, if_true]
          · rw [l18 90 _ rfl (by omega) (by omega), e17]
            simp only [mI_sI, Nat.reduceEqDiff, false_and, if_false, true_and, and_self, if_true]; rfl
          · rw [l18 91 _ rfl (by omega) (by omega), e17]
            simp only [mI_sI, Nat.reduceEqDiff, false_and, if_false, true_and, and_self, if_true]; rfl
          · rw [l18 92 _ rfl (by omega) (by omega), e17]
            simp only [mI_sI, Nat.reduceEqDiff, false_and, if_false, true_and, and_self, if_true]
          · obtain ⟨z1, z2⟩ := hz i (by omega)
            rw [z1, z2, lv20]; exact ⟨rfl, rfl⟩
          · refine LU.kp (M := M) (n := (gU s t).length) (fun g f h1 h2 h3 => ?_) (fun i hi => ?_) h.2.2.1.2.2 hstk (Nat.le_refl _)
            · have hl : lnF g = true := by
                unfold lnF
                rw [Nat.ble_eq.mpr h1, Nat.ble_eq.mpr (show g ≤ 95 by omega)]; simp
              rw [l18 g f hl (by omega) (by omega), e17]
              rw [mI_sI, if_neg (by omega), mI_sI, if_neg (by omega), mI_sI, if_neg (by omega), mI_sI, if_neg (by omega), mI_sI, if_neg (by omega), mI_sI, if_neg (by omega)]
            · constructor
              · rw [ho 94 _ i (fun _ _ z => by omega), hf.Ia (f := 94) rfl rfl, e17]
                simp only [mI_sI, Nat.reduceEqDiff, false_and, if_false]
              · rw [ho 514 _ i (fun _ _ z => by omega), hf.Ia (f := 514) rfl rfl, e17]
                simp only [mI_sI, Nat.reduceEqDiff, false_and, if_false]
          · rw [sU_N, ev_N]
            exact fun z => (((h.2.2.2 z).fr ag.1.1).fr hf).fr ag2.1.1
        refine hQ1 c40 M2 hfin ?_ ?_
        · rw [ho 6 _ _ (fun a _ _ => by omega), hf.I (f := 6) (k := 33) rfl, e17]
          simp only [mI_sI, Nat.reduceEqDiff, false_and, if_false]
        · rw [ho 6 _ _ (fun a _ _ => by omega), hf.I (f := 6) (k := 34) rfl, e17]
          simp only [mI_sI, Nat.reduceEqDiff, false_and, if_false]
      · refine itn (nle_oN (a := 20) (by omega) (by omega)) ?_
        rw [show (40 : Int32) * Int32.ofNat (gU s t).length = Int32.ofNat (40 * (gU s t).length) from oN_mul 40 _, oN_add, show Int32.ofNat k + (1 : Int32) = Int32.ofNat (k + 1) from oN_add k 1]
        refine c_set (b := false) (L := 3 * w + t) ((ag2.1.1.R (f := 6) (k := 2) rfl w).trans R18) (by rw [hL2, lk]; exact lens.2.1) (by rw [hL2, lk]; exact lens.2.2.1) (by omega) ?_
        refine ih (k + 1) _ (by omega) (by omega) ag2.wa.wa (fun f i k' hn' => ?_) (fun f i => hL2 f i) (fun i hi => ?_)
        · rw [mI_sI, if_neg (fun z => hn' (Or.inr z.1) z.2.1 (by omega)), mI_sI, if_neg (fun z => hn' (Or.inl z.1) z.2.1 (by omega))]
          exact ho f i k' hn'
        · simp only [mI_sI, Nat.reduceEqDiff, false_and, if_false, true_and]
          by_cases ei : i = k
          · rw [if_pos (by rw [ei]), if_pos (by rw [ei])]; exact ⟨rfl, rfl⟩
          · rw [if_neg (by omega), if_neg (by omega)]; exact hz i (by omega)
  exact loop 21 0 M18 (by omega) (by omega) AgT.rf (fun _ _ _ _ => rfl) (fun _ _ => rfl) (fun i hi => absurd hi (Nat.not_lt_zero i))
end
