/-! THE MACHINE IN THE WORKS: ends of frames -/
section
variable {A : List Nm} {W : List Cls} {w C B F t : Nat} {br : Int32} {nq nk np nh nr : Nat} {s : Ms} {M M' : Mem} {U : List Un} {c j a qi : Nat} {lo st lo' st' : List Vl} {q : Nat × Nat} {i : Ins} {Q : Mem → Prop} {v : Int32} {op : Nat}
/-- a thread is done -/
theorem RM.fin7 {r : Int32 × Int32 × Int32 × Int32} (h : RM A W w br nq nk np nh nr C B F t s [] M) (ag : AgT w t M M') (hm : ∀ g k, g ≠ 7 → mI M' g (3 * w + t) k = mI M g (3 * w + t) k) (h7 : ∀ k, k ≠ 11 → k ≠ 13 → k ≠ 14 → k ≠ 15 → mI M' 7 (3 * w + t) k = mI M 7 (3 * w + t) k) (hL : ∀ f, mL M' f (3 * w + t) = mL M f (3 * w + t)) (e11 : mI M' 7 (3 * w + t) 11 = 0) (e13 : mI M' 7 (3 * w + t) 13 = r.1) (e14 : mI M' 7 (3 * w + t) 14 = r.2.1) (e15 : mI M' 7 (3 * w + t) 15 = r.2.2.1) (e16 : (lRs (zN s t)).2.2.2 = r.2.2.2) : RM A W w br nq nk np nh nr C B F t (yN s (up1 (zN s) t (qR (zN s t) 0 r))) (gU (yN s (up1 (zN s) t (qR (zN s t) 0 r))) t) M' := by
  have eN : zN (yN s (up1 (zN s) t (qR (zN s t) 0 r))) t = qR (zN s t) 0 r := up1_s
  have eg : gU (yN s (up1 (zN s) t (qR (zN s t) 0 r))) t = [] := by show lU (zN (yN s (up1 (zN s) t (qR (zN s t) 0 r))) t) = []; rw [eN]
  rw [eg]
  refine ⟨(h.1.ag ag).yn, ?_, ⟨?_, ?_, trivial⟩, fun z => ?_⟩
  · rw [eN]
    obtain ⟨⟨a1, a2, a3, a4⟩, ⟨b1, b2', b3, b4⟩, ⟨c1, c2, c3, c4⟩, d, _⟩ := h.2.1
    refine ⟨⟨fun f x y => (hL f).trans (a1 f x y), (hL _).trans a2, (hL _).trans a3, (hL _).trans a4⟩, ⟨(h7 0 (by omega) (by omega) (by omega) (by omega)).trans b1, (h7 10 (by omega) (by omega) (by omega) (by omega)).trans b2', e11, (h7 12 (by omega) (by omega) (by omega) (by omega)).trans b4⟩, ⟨e13, e14, e15, (h7 16 (by omega) (by omega) (by omega) (by omega)).trans (c4.trans e16)⟩, ?_, fun z => absurd (show 0 = 1 from z) (by omega)⟩
    have d' : rW (zN s t) (3 * w + t) M := d
    unfold rW at d' ⊢
    rw [h7 18 (by omega) (by omega) (by omega) (by omega), h7 19 (by omega) (by omega) (by omega) (by omega)]
    exact d'
  · exact (h7 1 (by omega) (by omega) (by omega) (by omega)).trans h.2.2.1.1
  · exact (h7 2 (by omega) (by omega) (by omega) (by omega)).trans h.2.2.1.2.1
  · rw [eN] at z; exact absurd (show 0 = 1 from z) (by omega)
/-- the last frame of a thread ends: kind k, flag -/
theorem c_leaveE {k : Int32} {fl : Bool} (h : RM A W w br nq nk np nh nr C B F t s [] M) (hrs : lRs (zN s t) = (0, 0, -2, 0)) (hv : k = 4 → vRf s v ∧ v ≠ 0 ∧ clR s v ≠ none)
    (hQ : ∀ M', RM A W w br nq nk np nh nr C B F t (yN s (up1 (zN s) t (qR (zN s t) 0 (k, if fl then 0 else v, if k = 4 then Int32.ofNat (clN s v) else -2, 0)))) (gU (yN s (up1 (zN s) t (qR (zN s t) 0 (k, if fl then 0 else v, if k = 4 then Int32.ofNat (clN s v) else -2, 0)))) t) M' → Q M') : w_Machine_leave_j126 w Q v (b2 fl) k (3 * w + t) (sI M 7 (3 * w + t) 11 0) := by
  have R2 : mR M 6 w 2 = some (7, 3 * w + t) := h.1.2.2.2.2.1.1
  have c3 : mI M 7 (3 * w + t) 15 = -2 := by have := h.2.1.2.2.1.2.2.1; rw [hrs] at this; exact this
  have fin : ∀ u : Int32, u = (if fl then 0 else v) → w_Machine_leave_j144 w Q v u (3 * w + t) (sI (sI M 7 (3 * w + t) 11 0) 7 (3 * w + t) 13 k) := fun u eu => by
    unfold w_Machine_leave_j144
    refine ⟨3 * w + t, R2, ?_⟩
    have e13 : mI (sI (sI (sI M 7 (3 * w + t) 11 0) 7 (3 * w + t) 13 k) 7 (3 * w + t) 14 u) 7 (3 * w + t) 13 = k := by simp only [mI_sI, Nat.reduceEqDiff, and_false, if_false, and_self, if_true]
    rw [e13]
    have ag : AgT w t M (sI (sI (sI M 7 (3 * w + t) 11 0) 7 (3 * w + t) 13 k) 7 (3 * w + t) 14 u) := AgT.rf.w7.w7.w7
    rw [← eu] at hQ
    by_cases k4 : k = 4
    · obtain ⟨v1, v2, v3⟩ := hv k4
      refine itp k4 ⟨3 * w + t, R2, ?_⟩
      have x := h.1.ag ag
      refine c_classOf x.2.2.1.1 x.2.2.1.2 v1 v2 ?_
      have ec : oCl (clR s v) = Int32.ofNat (clN s v) := by
        unfold clN
        cases hh : clR s v with
        | none => exact absurd hh v3
        | some e => rfl
      rw [ec]
      refine hQ _ (h.fin7 ag.w7 (fun g x hg => ?_) (fun x x1 x2 x3 x4 => ?_) (fun _ => rfl) ?_ ?_ ?_ ?_ (by rw [hrs]))
      · simp only [mI_sI, hg, false_and, if_false]
      · simp only [mI_sI, x1, x2, x3, x4, and_false, if_false]
      · simp only [mI_sI, Nat.reduceEqDiff, and_false, if_false, and_self, if_true]
      · simp only [mI_sI, Nat.reduceEqDiff, and_false, if_false, and_self, if_true]
      · simp only [mI_sI, Nat.reduceEqDiff, and_false, if_false, and_self, if_true]
      · simp only [mI_sI, and_self, if_true, k4]
    · refine itn k4 (hQ _ (h.fin7 ag (fun g x hg => ?_) (fun x x1 x2 x3 x4 => ?_) (fun _ => rfl) ?_ ?_ ?_ ?_ (by rw [hrs])))
      · simp only [mI_sI, hg, false_and, if_false]
      · simp only [mI_sI, x1, x2, x3, and_false, if_false]
      · simp only [mI_sI, Nat.reduceEqDiff, and_false, if_false, and_self, if_true]
      · exact e13
      · simp only [mI_sI, and_self, if_true]
      · rw [if_neg k4]; simp only [mI_sI, Nat.reduceEqDiff, and_false, if_false]; exact c3
  unfold w_Machine_leave_j126
  refine ⟨3 * w + t, R2, ?_⟩
  cases fl with
  | false => exact itp rfl (fin v rfl)
  | true => exact itn (by decide) (fin 0 rfl)
/-- a frame ends -/
theorem c_leave28 (hq : RQ A W w nq nk np nh nr F s) (h : RI A W w br nq nk np nh nr C B F t s c j a lo st U M) (hA : At W s t c j a lo st U i) (hop : op = 57 ∨ op = 58 ∨ op = 59) (h57 : op = 57 → v = 0) (h59 : op = 59 → vRf s v) (hK : MK W (leaveS s t c j op v U) t) (hQ : ∀ M', RM A W w br nq nk np nh nr C B F t (leaveS s t c j op v U) (gU (leaveS s t c j op v U) t) M' → Q M') : w_Machine_leave_j28 w Q (Int32.ofNat op) (Int32.ofNat (moff W c + j)) v (b2 (decide (op = 59))) M := by
  obtain ⟨hW, hKB, hnA, ⟨hw, hFb⟩, hF⟩ := id hq
  have hM := hA.1.2.1
  obtain ⟨⟨hF1, hF2, hUO⟩, hnd, hfr⟩ := hM.2.2.2.1
  unfold w_Machine_leave_j28
  refine k_mev (what := 2) h.1 hM.1.2.1 hF1.1.2.1 hF1.2.1 (fun M3 h3 hf3 => ?_)
  have R2 : mR M3 6 w 2 = some (7, 3 * w + t) := h3.1.2.2.2.2.1.1
  have g1 : mI M3 7 (3 * w + t) 1 = Int32.ofNat (U.length + 1) := h3.2.2.1.1
  have g2 : mI M3 7 (3 * w + t) 2 = Int32.ofNat (frs U + 1) := h3.2.2.1.2.1
  refine ⟨3 * w + t, R2, 3 * w + t, R2, ?_⟩
  rw [g1, pred, show ∀ x : Int32, mI (sI M3 7 (3 * w + t) 1 x) 7 (3 * w + t) 2 = Int32.ofNat (frs U + 1) from fun x => by rw [mI_sI, if_neg (fun z => absurd z.2.2 (by decide))]; exact g2, pred]
  have h6 := h3.pop
  generalize sI (sI M3 7 (3 * w + t) 1 (Int32.ofNat U.length)) 7 (3 * w + t) 2 (Int32.ofNat (frs U)) = M6 at h6 ⊢
  have R6 : mR M6 6 w 2 = some (7, 3 * w + t) := h6.1.2.2.2.2.1.1
  have k1 : mI M6 7 (3 * w + t) 1 = Int32.ofNat U.length := h6.2.2.1.1
  have hU := h.2.2.1.1
  refine ⟨_, rfl, 3 * w + t, R6, ?_⟩
  rw [k1]
  cases U with
  | nil =>
    refine itp rfl ⟨3 * w + t, R6, 3 * w + t, R6, ?_⟩
    have hon := hA.1.2.2
    have hrs : lRs (zN (evS s t 2 c (some j)) t) = (0, 0, -2, 0) := by rw [ev_N]; exact ((hM.2.1.2 t hM.2.1.1).1 hon).1
    have ecl : ∀ x, clR (evS s t 2 c (some j)) x = clR s x := fun x => by
      have e1 : ∀ k, gFt (evS s t 2 c (some j)) k = gFt s k := fun k => by show (zF (evS s t 2 c (some j))).getD k _ = _; rw [evS_r.2.2.2.2.2.2.1]
      have e2 : ∀ k, gOb (evS s t 2 c (some j)) k = gOb s k := fun k => by show (zH (evS s t 2 c (some j))).2.2.2.1 k = _; rw [evS_r.2.2.2.2.2.1]
      unfold clR; rw [e1, e2]
    have hsl : sle s (evS s t 2 c (some j)) := sle_of evS_r.2.2.2.2.2.1 evS_r.2.2.2.2.2.2.1
    rcases hop with z | z | z <;> subst z
    · refine itp rfl ?_
      refine c_leaveE (k := 0) (fl := false) h6 hrs (fun z => absurd z (by decide)) (fun M' h' => hQ M' ?_)
      have : (if false = true then (0 : Int32) else v) = 0 := h57 rfl
      rw [this] at h'
      exact h'
    · refine itn (by decide) (itp rfl ?_)
      exact c_leaveE (k := 1) (fl := false) h6 hrs (fun z => absurd z (by decide)) (fun M' h' => hQ M' h')
    · refine itn (by decide) (itn (by decide) ?_)
      unfold leaveS at hQ
      simp only [Nat.reduceEqDiff, if_false, true_and] at hQ
      by_cases v0 : v = 0
      · rw [if_pos v0, if_neg (fun z => z.1 v0)] at hQ
        exact itp v0 (c_leaveE (k := 2) (fl := true) h6 hrs (fun z => absurd z (by decide)) (fun M' h' => hQ M' h'))
      rw [if_neg v0] at hQ
      have hv := h59 rfl
      have h7 := h6.1.ag (AgT.rf.w7 (k := 11) (v := 0))
      refine itn v0 (c_isRow hW (hM.1.1.same evS_r.1 evS_r.2.1 evS_r.2.2.2.1 evS_r.2.2.2.2.1 evS_r.2.2.2.2.2.1 evS_r.2.2.2.2.2.2.1) h7.2.2.1.1 (hsl v hv).1 v0 ?_)
      rw [ecl]
      by_cases cr : clR s v = none
      · rw [if_pos cr, if_neg (fun z => z.2 cr)] at hQ
        rw [decide_eq_true cr]
        exact itn (by decide) (c_leaveE (k := 3) (fl := true) h6 hrs (fun z => absurd z (by decide)) (fun M' h' => hQ M' h'))
      · rw [if_neg cr, if_pos ⟨v0, cr⟩] at hQ
        rw [decide_eq_false cr]
        refine itp rfl (c_leaveE (k := 4) (fl := true) h6 hrs (fun _ => ⟨(hsl v hv).1, v0, by rw [ecl]; exact cr⟩) (fun M' h' => hQ M' ?_))
        have e4 : clN (evS s t 2 c (some j)) v = clN s v := by unfold clN; rw [ecl]
        rw [e4] at h'
        exact h'
  | cons u U' =>
    have hU : U'.length + 1 ≤ 90 := hU
    refine itn (ne_oN (b := 0) (show U'.length + 1 ≠ 0 by omega) (by omega) (by omega)) ⟨3 * w + t, R6, 3 * w + t, R6, ?_⟩
    rw [k1, show Int32.ofNat (u :: U').length - (1 : Int32) = Int32.ofNat U'.length from pred, oN_tnc (k := U'.length) (by omega)]
    have vp : ∀ f, 89 ≤ f → f ≤ 93 → vp_in (Int32.ofNat U'.length) (mL M6 f (3 * w + t)) := fun f x y => by rw [h6.2.1.1.1 f x y]; exact (vp_oN (by omega)).mpr (by omega)
    refine ⟨vp 92 (by omega) (by omega), ?_⟩
    cases u with
    | inr k =>
      obtain ⟨k, own⟩ := k
      have e92 : mI M6 92 (3 * w + t) U'.length = Int32.ofNat k := h6.2.2.1.2.2.1.1
      have hk := hUO.2.1.1.2
      have h51 := hW.2.2.2
      rw [e92]
      refine itn (fun z => by have := (oN_lt (a := k) (b := 0) (by omega) (by omega)).mp z; omega) ⟨3 * w + t, R6, vp 92 (by omega) (by omega), ?_⟩
      rw [e92]
      refine c_startEnds hKB h6 (evS_E hM.1.2.1) hk (fun M7 h7 => hQ M7 ?_)
      rw [show zC (evS s t 2 c (some j)) = zC s from evS_r.2.1] at h7
      have eg : gU (leaveS s t c j op v (.inr (k, own) :: U')) t = U' := by
        show lU (zN (evS _ _ _ _ _) t) = _
        rw [ev_N]; exact gU_sU
      rw [eg]; exact h7
    | inl f =>
      obtain ⟨c', j', a', lo', st'⟩ := f
      obtain ⟨g1, g2, g3⟩ := hUO
      have hstk : st'.length ≤ 20 ∧ stk U' := h.2.2.2
      have e92 : mI M6 92 (3 * w + t) U'.length = -1 := h6.2.2.1.2.2.1.1.2.2.2
      have e91 : ∀ x : Int32, mI (sI M6 6 w 33 x) 91 (3 * w + t) U'.length = Int32.ofNat st'.length := fun x => by rw [mI_sI, if_neg (fun z => absurd z.1 (by decide))]; exact h6.2.2.1.2.2.1.1.2.2.1
      rw [e92]
      refine itp (by decide) ⟨3 * w + t, R6, by show vp_in _ (mL M6 91 _); exact vp 91 (by omega) (by omega), _, rfl, ?_⟩
      rw [e91, show (40 : Int32) * Int32.ofNat U'.length = Int32.ofNat (40 * U'.length) from oN_mul 40 _]
      have h30 : RI A W w br nq nk np nh nr C B F t (evS s t 2 c (some j)) c' j' a' lo' st' U' (sI (sI M6 6 w 33 (Int32.ofNat (40 * U'.length))) 6 w 34 (Int32.ofNat st'.length)) := by
        refine ⟨(h6.w6 (by omega)).w6 (by omega), ⟨?_, ?_⟩, ⟨by omega, hstk.1, g1.2.2.2.1⟩, hstk.2⟩
        · rw [mI_sI, if_neg (fun z => absurd z.2.2 (by decide)), mI_sI, if_pos ⟨rfl, rfl, rfl⟩]
        · rw [mI_sI, if_pos ⟨rfl, rfl, rfl⟩]
      generalize sI (sI M6 6 w 33 (Int32.ofNat (40 * U'.length))) 6 w 34 (Int32.ofNat st'.length) = M30 at h30 ⊢
      have R30 : mR M30 6 w 2 = some (7, 3 * w + t) := h30.1.1.2.2.2.2.1.1
      have e90 : mI M30 90 (3 * w + t) U'.length = Int32.ofNat a' := h30.1.2.2.1.2.2.1.1.2.1
      have l90 : mL M30 90 (3 * w + t) = 91 := h30.1.2.1.1.1 90 (by omega) (by omega)
      unfold w_Machine_leave_j248
      by_cases c57 : op = 57
      · refine itp (by rw [c57]; rfl) ⟨3 * w + t, R30, by rw [l90]; exact (vp_oN (by omega)).mpr (by omega), ?_⟩
        have el : leaveS s t c j op v (.inl (c', j', a', lo', st') :: U') = sU (evS s t 2 c (some j)) t (.inl (c', j', a' + 1, lo', st') :: U') := by
          show sU (evS s t 2 c (some j)) t (.inl (c', j', a' + 1, lo', st' ++ (if op = 57 then [] else [(v, decide (op = 59))])) :: U') = _
          rw [if_pos c57, List.append_nil]
        rw [el, gU_in] at hQ
        rw [oN_tnc (k := U'.length) (by omega), e90, show Int32.ofNat a' + (1 : Int32) = Int32.ofNat (a' + 1) from oN_add a' 1]
        exact c_go0 h30 hQ
      · have el : leaveS s t c j op v (.inl (c', j', a', lo', st') :: U') = sU (evS s t 2 c (some j)) t (.inl (c', j', a' + 1, lo', st' ++ [(v, decide (op = 59))]) :: U') := by
          show sU (evS s t 2 c (some j)) t (.inl (c', j', a' + 1, lo', st' ++ (if op = 57 then [] else [(v, decide (op = 59))])) :: U') = _
          rw [if_neg c57]
        rw [el] at hK
        have h20 : (st' ++ [(v, decide (op = 59))]).length ≤ 20 := hK.l20 hW
        rw [List.length_append] at h20
        have h20 : st'.length + 1 ≤ 20 := h20
        rw [el, gU_in] at hQ
        refine itn (ne_oN (b := 57) c57 (by omega) (by omega)) (mf_w_Machine_push (fun M5 hf hp => ?_) (c_push0 (a' := a' + 1) (b := decide (op = 59)) h30 (by omega) hQ))
        refine ⟨3 * w + t, (hf.R (f := 6) (k := 2) rfl w).trans R30, by rw [hf.L (f := 90) rfl, l90]; exact (vp_oN (by omega)).mpr (by omega), ?_⟩
        rw [oN_tnc (k := U'.length) (by omega), hf.Ia (f := 90) rfl rfl, e90, show Int32.ofNat a' + (1 : Int32) = Int32.ofNat (a' + 1) from oN_add a' 1]
        exact hp
end
