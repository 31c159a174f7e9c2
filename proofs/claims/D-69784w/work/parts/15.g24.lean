/-! THE MACHINE IN THE WORKS: calls -/
section
variable {A : List Nm} {W : List Cls} {w C B F t : Nat} {br : Int32} {nq nk np nh nr : Nat} {s s' : Ms} {M M' : Mem} {U : List Un} {c j a qi : Nat} {lo st lo' st' : List Vl} {q : Nat × Nat} {i : Ins} {Q : Mem → Prop} {r v y : Int32}
/-- the frame below gives up its values -/
theorem RM.h91 {g : Un} {n : Nat} (h : RM A W w br nq nk np nh nr C B F t s (g :: .inl (c, j, a, lo, st) :: U) M) (hst : stk (g :: .inl (c, j, a, lo, st) :: U)) : RM A W w br nq nk np nh nr C B F t (sU s t (g :: .inl (c, j, a, lo, drp st n) :: U)) (g :: .inl (c, j, a, lo, drp st n) :: U) (sI M 91 (3 * w + t) U.length (Int32.ofNat (st.length - n))) := by
  have ag : AgT w t M (sI M 91 (3 * w + t) U.length (Int32.ofNat (st.length - n))) := AgT.rf.wa
  have row : ∀ f i j, f ≠ 91 → mI (sI M 91 (3 * w + t) U.length (Int32.ofNat (st.length - n))) f i j = mI M f i j := fun f i j hf => by rw [mI_sI, if_neg (fun z => hf z.1)]
  have hst2 : st.length ≤ 20 ∧ stk U := by cases g with | inl f => exact hst.2 | inr k => exact hst
  have hdl : (drp st n).length = st.length - n := by unfold drp; rw [List.length_take]; omega
  have hu := h.2.2.1.2.2.2.1
  refine ⟨(h.1.ag ag).su, ?_, ⟨(row 7 _ _ (by omega)).trans h.2.2.1.1, ?_, ?_, ⟨⟨?_, ?_, ?_, ?_⟩, fun k hk => ?_, fun k hk => ?_⟩, ?_⟩, ?_⟩
  · rw [sU_N]; exact rL.g (l := qU (zN s t) _) h.2.1 (fun i => row 7 _ i (by omega)) (fun i => row 95 _ i (by omega)) (fun _ => rfl)
  · refine (row 7 _ _ (by omega)).trans (h.2.2.1.2.1.trans ?_)
    cases g with | inl f => rfl | inr k => rfl
  · refine h.2.2.1.2.2.1.kp (fun g' x y => ?_) (fun k hk => ⟨row 94 _ _ (by omega), row 514 _ _ (by omega)⟩) (fun c j a lo st e => ?_)
    · rw [mI_sI, if_neg (fun z => absurd z.2.2 (Nat.succ_ne_self _))]
    · subst e; exact hst.1
  · exact (row 89 _ _ (by omega)).trans hu.1.1
  · exact (row 90 _ _ (by omega)).trans hu.1.2.1
  · rw [mI_sI, if_pos ⟨rfl, rfl, rfl⟩, hdl]
  · exact (row 92 _ _ (by omega)).trans hu.1.2.2.2
  · rw [row 94 _ _ (by omega), row 514 _ _ (by omega)]; exact hu.2.1 k hk
  · rw [hdl] at hk
    rw [row 94 _ _ (by omega), row 514 _ _ (by omega)]
    unfold drp
    rw [lvTake hk]; exact hu.2.2 k (by omega)
  · refine LU.kp (M := M) (n := U.length) (fun g f h1 h2 h3 => ?_) (fun i hi => ⟨row 94 _ _ (by omega), row 514 _ _ (by omega)⟩) h.2.2.1.2.2.2.2 hst2.2 (Nat.le_refl _)
    rw [mI_sI, if_neg (by omega)]
  · rw [sU_N]; exact fun z => (h.2.2.2 z).fr ag.1.1
theorem ev_su2 {X V : List Un} {w' k : Nat} {m : Option Nat} : sU (evS (sU s t X) t w' k m) t V = evS (sU s t V) t w' k m := by rw [ev_su, su_su, ev_su]
/-- a method is entered with its arguments, or a maker from the beginning is done -/
theorem c_callGo {m : Nat × Nat} {all : Nat} {x0 x1 : Int32} (hq : RQ A W w nq nk np nh nr F s) (h : RI A W w br nq nk np nh nr C B F t s c j a lo st U M) (hA : At W s t c j a lo st U i) (hm : m.1 < W.length ∧ m.2 < (gc W m.1).2.2.2.2.2.length) (hall : all ≤ st.length) (hx : x1 + x0 = Int32.ofNat all)
    (hQ : ∀ M', RM A W w br nq nk np nh nr C B F t (if m.1 < 21 then sU s t (.inl (c, j, a + 1, lo, drp st all) :: U) else enterS W t s (.inl (c, j, a, lo, drp st all) :: U) m.1 m.2 (st.drop (st.length - all))) (gU (if m.1 < 21 then sU s t (.inl (c, j, a + 1, lo, drp st all) :: U) else enterS W t s (.inl (c, j, a, lo, drp st all) :: U) m.1 m.2 (st.drop (st.length - all))) t) M' → Q M') : w_Machine_calls_j202 w Q (Int32.ofNat U.length) (Int32.ofNat (moff W m.1 + m.2)) x0 x1 M := by
  obtain ⟨hU, hs20, hlo⟩ := h.2.2.1
  have hst := h.2.2.2
  have h51 := h.1.1.l5
  have hcw := h.1.1.1.1.1
  obtain ⟨-, -, m3, -, -⟩ := hcw.mo (e := 0) hm.1
  have hH := (hcw.2.1.2.2 m.1 hm.1 m.2 hm.2).1
  have hg := hA.2.1
  have R2 : mR M 6 w 2 = some (7, 3 * w + t) := h.1.1.2.2.2.2.1.1
  unfold w_Machine_calls_j202
  rw [oN_tnc (k := moff W m.1 + m.2) (by omega), hH.1, hcw.2.1.1.2.1 55 (by omega) (by omega), hx]
  refine ⟨(vp_oN (by omega)).mpr (by omega), ?_⟩
  by_cases c21 : m.1 < 21
  · rw [if_pos c21, gU_in] at hQ
    refine itn (nle_oN (b := m.1) (a := 21) (by omega) (by omega)) ⟨3 * w + t, R2, ?_⟩
    have e90 : ∀ x : Int32, mI (sI M 6 w 34 x) 90 (3 * w + t) U.length = Int32.ofNat a := fun x => by rw [mI_sI, if_neg (fun z => absurd z.1 (by decide))]; exact h.1.2.2.1.2.2.1.1.2.1
    rw [oN_tnc (k := U.length) (by omega), e90, h.2.1.2, sub_n hall, show Int32.ofNat a + (1 : Int32) = Int32.ofNat (a + 1) from oN_add _ 1]
    refine ⟨by show vp_in _ (mL M 90 _); rw [h.1.2.1.1.1 90 (by omega) (by omega)]; exact (vp_oN (by omega)).mpr (by omega), c_go h (by omega) hQ⟩
  rw [if_neg c21] at hQ
  refine itp (le_oN (a := 21) (by omega) (by omega)) (c_enter (o := none) hq (by rw [hg]; exact h.1) (by rw [hg]; exact hA.1.2.1) hA.1.2.2 hm.1 hm.2 (fun hf M' h' => itp rfl (hQ M' ?_)) (fun hf M1 h1 e33 e34 => itn (by decide) ⟨_, rfl, all + 1, ?_⟩))
  · unfold enterS
    rw [if_pos hf]; exact h'
  rw [hg] at h1
  rw [e33, e34, h.2.1.1, h.2.1.2]
  have e34' : mI M1 6 w 34 = Int32.ofNat st.length := e34.trans h.2.1.2
  rw [lit32 20, oN_add, oN_add, oN_sub (by omega), show Int32.ofNat U.length + (1 : Int32) = Int32.ofNat (U.length + 1) from oN_add _ 1, show (40 : Int32) * Int32.ofNat (U.length + 1) = Int32.ofNat (40 * (U.length + 1)) from oN_mul 40 _]
  have hargs : (st.drop (st.length - all)).length = all := by rw [List.length_drop]; omega
  have hsV : stk (.inl (c, j, a, lo, st) :: U) := ⟨hs20, hst⟩
  have hU1 : (.inl (c, j, a, lo, st) :: U : List Un).length = U.length + 1 := rfl
  have hUl : U.length + 1 ≤ 90 := by
    have h1 := hA.1.2.1.2.2.2.1.nst hA.1.1
    have h2 := hA.1.2.1.2.2.2.1.2.2
    have h3 := U_len (U := .inl (c, j, a, lo, st) :: U)
    rw [hU1] at h3
    rw [hg] at hf
    omega
  unfold enterS at hQ
  rw [if_neg hf] at hQ
  have loop : ∀ x k Mk, all - k < x → k ≤ all → RM A W w br nq nk np nh nr C B F t (evS (sU s t (.inl (m.1, m.2, 0, fstL (st.drop (st.length - all)) k, []) :: .inl (c, j, a, lo, st) :: U)) t 1 m.1 (some m.2)) (.inl (m.1, m.2, 0, fstL (st.drop (st.length - all)) k, []) :: .inl (c, j, a, lo, st) :: U) Mk → mI Mk 6 w 34 = Int32.ofNat st.length → w_Machine_calls_L286 w Q x (Int32.ofNat U.length) (Int32.ofNat all) (Int32.ofNat (40 * (U.length + 1))) (Int32.ofNat (40 * U.length + 20 + st.length - all)) (Int32.ofNat k) Mk := by
    intro x
    induction x with
    | zero => intro k Mk hx'; exact absurd hx' (by omega)
    | succ x ih =>
      intro k Mk hx' hk hR h34
      have Rk : mR Mk 6 w 2 = some (7, 3 * w + t) := hR.1.2.2.2.2.1.1
      unfold w_Machine_calls_L286
      by_cases ck : all ≤ k
      · have ek : k = all := by omega
        rw [ek] at hR
        refine itp (le_oN ck (by omega)) ⟨3 * w + t, Rk, by rw [hR.2.1.1.1 91 (by omega) (by omega)]; exact (vp_oN (by omega)).mpr (by omega), ?_⟩
        rw [oN_tnc (k := U.length) (by omega), h34, sub_n hall]
        have h2 := hR.h91 (n := all) ⟨Nat.zero_le _, hsV⟩
        rw [ev_su2] at h2
        have ef : fstL (st.drop (st.length - all)) all = st.drop (st.length - all) ++ List.replicate (20 - (st.drop (st.length - all)).length) (0, false) := by
          have := fstL_all (args := st.drop (st.length - all))
          rw [hargs] at this ⊢; exact this
        rw [ef] at h2
        refine hQ _ ?_
        have eg : ∀ f V, gU (evS (sU s t (f :: V)) t 1 m.1 (some m.2)) t = f :: V := fun f V => by
          show lU (zN (evS _ _ _ _ _) t) = _
          rw [ev_N]; exact gU_sU
        rw [eg]; exact h2
      · refine itn (nle_oN (by omega) (by omega)) ⟨3 * w + t, Rk, ?_⟩
        have hu := hR.2.2.1.2.2.2.1.2.2 (st.length - all + k) (by omega)
        rw [show 40 * U.length + 20 + (st.length - all + k) = 40 * U.length + 20 + st.length - all + k by omega] at hu
        have ev : lv st (st.length - all + k) = lv (st.drop (st.length - all)) k := lv_drop.symm
        rw [ev] at hu
        rw [oN_add, oN_add, oN_tnc (k := 40 * U.length + 20 + st.length - all + k) (by omega)]
        refine ⟨by rw [hR.2.1.1.2.1]; exact (vp_oN (by omega)).mpr (by omega), 3 * w + t, Rk, by rw [hR.2.1.1.2.2.1]; exact (vp_oN (by omega)).mpr (by omega), ?_⟩
        rw [hu.1, hu.2, show Int32.ofNat k + (1 : Int32) = Int32.ofNat (k + 1) from oN_add _ 1]
        refine c_set (b := (lv (st.drop (st.length - all)) k).2) Rk hR.2.1.1.2.1 hR.2.1.1.2.2.1 (by omega) ?_
        have h2 := hR.setl (k := k) (v := (lv (st.drop (st.length - all)) k).1) (b := (lv (st.drop (st.length - all)) k).2) hsV (by omega) (fstL_len (by omega) (by omega))
        rw [ev_su2, show ((lv (st.drop (st.length - all)) k).1, (lv (st.drop (st.length - all)) k).2) = lv (st.drop (st.length - all)) k from rfl, fstL_set (by omega) (by omega), hU1] at h2
        exact ih (k + 1) _ (by omega) (by omega) h2 (by simp only [mI_sI, Nat.reduceEqDiff, false_and, if_false]; exact h34)
  exact loop (all + 1) 0 M1 (by omega) (by omega) h1 e34'
end
