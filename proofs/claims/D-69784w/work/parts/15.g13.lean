/-! THE MACHINE IN THE WORKS: a thread's first act -/
section
variable {A : List Nm} {W : List Cls} {w C B F t L : Nat} {br : Int32} {nq nk np nh nr : Nat} {s s' : Ms} {M M' M1 : Mem} {S : Nat} {l : Ln} {U V : List Un} {r : Int32} {c j a k : Nat} {lo st : List Vl} {o : Option Kd} {L' : LkS}
/-- a local of the top frame -/
theorem RM.setl {v : Int32} {b : Bool} (h : RM A W w br nq nk np nh nr C B F t s (.inl (c, j, a, lo, st) :: U) M) (hst : stk U) (hk : k < 20) (hlo : lo.length = 20) : RM A W w br nq nk np nh nr C B F t (sU s t (.inl (c, j, a, lo.set k (v, b), st) :: U)) (.inl (c, j, a, lo.set k (v, b), st) :: U) (sI (sI M 94 (3 * w + t) (40 * U.length + k) v) 514 (3 * w + t) (40 * U.length + k) (b2 b)) := by
  have ag : AgT w t M (sI (sI M 94 (3 * w + t) (40 * U.length + k) v) 514 (3 * w + t) (40 * U.length + k) (b2 b)) := AgT.rf.wa.wa
  have row : ∀ f i j, f ≠ 94 → f ≠ 514 → mI (sI (sI M 94 (3 * w + t) (40 * U.length + k) v) 514 (3 * w + t) (40 * U.length + k) (b2 b)) f i j = mI M f i j := fun f i j h1 h2 => by rw [mI_sI, if_neg (fun z => h2 z.1), mI_sI, if_neg (fun z => h1 z.1)]
  obtain ⟨⟨p1, p2, p3, p4⟩, p5, p6⟩ := h.2.2.1.2.2.1
  refine ⟨(h.1.ag ag).su, ?_, ⟨(row 7 _ _ (by omega) (by omega)).trans h.2.2.1.1, (row 7 _ _ (by omega) (by omega)).trans h.2.2.1.2.1, ⟨⟨(row 89 _ _ (by omega) (by omega)).trans p1, (row 90 _ _ (by omega) (by omega)).trans p2, (row 91 _ _ (by omega) (by omega)).trans p3, (row 92 _ _ (by omega) (by omega)).trans p4⟩, fun i hi => ?_, fun i hi => ?_⟩, ?_⟩, ?_⟩
  · rw [sU_N]; exact rL.g (l := qU (zN s t) _) h.2.1 (fun i => row 7 _ i (by omega) (by omega)) (fun i => row 95 _ i (by omega) (by omega)) (fun _ => rfl)
  · simp only [mI_sI, Nat.reduceEqDiff, false_and, if_false, true_and]
    by_cases e : i = k
    · subst e
      rw [if_pos rfl, if_pos rfl]
      have : lv (lo.set i (v, b)) i = (v, b) := by
        show (lo.set i (v, b)).getD i _ = _
        rw [List.getD_eq_getElem?_getD, List.getElem?_set_self (by omega)]; rfl
      rw [this]; exact ⟨rfl, rfl⟩
    · rw [if_neg (by omega), if_neg (by omega)]
      have : lv (lo.set k (v, b)) i = lv lo i := by
        show (lo.set k (v, b)).getD i _ = lo.getD i _
        rw [List.getD_eq_getElem?_getD, List.getElem?_set_ne (fun z => e z.symm), List.getD_eq_getElem?_getD]
      rw [this]; exact p5 i hi
  · simp only [mI_sI, Nat.reduceEqDiff, false_and, if_false, true_and]
    rw [if_neg (by omega), if_neg (by omega)]; exact p6 i hi
  · refine LU.kp (M := M) (n := U.length) (fun g f h1 h2 h3 => row g _ f (by omega) (by omega)) (fun i hi => ⟨?_, ?_⟩) h.2.2.1.2.2.2 hst (Nat.le_refl _)
    · rw [mI_sI, if_neg (fun z => by omega), mI_sI, if_neg (fun z => by omega)]
    · rw [mI_sI, if_neg (fun z => by omega), mI_sI, if_neg (fun z => by omega)]
  · rw [sU_N]; exact fun z => (h.2.2.2 z).fr ag.1.1
/-- the first locals of a frame -/
def fstL (args : List Vl) (i : Nat) : List Vl := args.take i ++ List.replicate (20 - i) (0, false)
theorem fstL_len {args : List Vl} {i : Nat} (h : i ≤ args.length) (h20 : i ≤ 20) : (fstL args i).length = 20 := by
  unfold fstL; rw [List.length_append, List.length_take, List.length_replicate]; omega
theorem fstL_set {args : List Vl} {i : Nat} (h : i < args.length) (h20 : i < 20) : (fstL args i).set i (lv args i) = fstL args (i + 1) := by
  unfold fstL
  have hl : (args.take i).length = i := by rw [List.length_take]; omega
  rw [List.set_append_right _ _ (by omega), hl, Nat.sub_self, show 20 - i = (20 - (i + 1)) + 1 by omega, List.replicate_succ]
  show args.take i ++ (lv args i :: List.replicate (20 - (i + 1)) (0, false)) = _
  have e : args.take (i + 1) = args.take i ++ [lv args i] := by
    rw [List.take_add_one, List.getElem?_eq_getElem h]
    show _ ++ [args[i]] = _ ++ [args.getD i _]
    rw [List.getD_eq_getElem?_getD, List.getElem?_eq_getElem h]; rfl
  rw [e, List.append_assoc]; rfl
theorem fstL_0 {args : List Vl} : fstL args 0 = z20 := rfl
theorem fstL_all {args : List Vl} : fstL args args.length = args ++ List.replicate (20 - args.length) (0, false) := by unfold fstL; rw [List.take_length]
theorem c_first {Q : Mem → Prop} (hq : RQ A W w nq nk np nh nr F s) (h : RM A W w br nq nk np nh nr C B F t s (gU s t) M) (hg : gU s t = []) (hM : MO W s t none (gU s t)) (hon : lSt (zN s t) = 1) (hw0 : lWt (zN s t) = none) (hQ : ∀ M', RM A W w br nq nk np nh nr C B F t (firstS br W t s) (gU (firstS br W t s) t) M' → Q M') : w_Machine_first w Q M := by
  obtain ⟨hW, hK, hA, ⟨hw, hFb⟩, hF⟩ := id hq
  have h51 := h.1.l5
  have ht := hM.2.1.1
  have R2 : mR M 6 w 2 = some (7, 3 * w + t) := h.1.2.2.2.2.1.1
  obtain ⟨hrs, hca⟩ := (hM.2.1.2 t ht).1 hon
  have hok := fMth_ok (br := br) (W := W) (a := zL s) (kn := (lCa (zN s t)).1) (x := (lCa (zN s t)).2.1) (o := 52) (acc := fun _ => false) hM.1.1.1.2.1 hW.2.2.2
  have hm : LkM W (zL s) (fMth br W (zL s) (lCa (zN s t)).1 (lCa (zN s t)).2.1 52 (fun _ => false)).2 := by rw [hok.2]; exact lkd_M hW.2.2.2 hM.1.1.1
  unfold w_Machine_first
  refine ⟨3 * w + t, R2, ?_⟩
  rw [h.2.1.2.1.1, show (52 : Int32) = Int32.ofNat 52 from rfl]
  refine mf_w_Machine_findMethod (Q := fun v M' => v = rcM W (fMth br W (zL s) (lCa (zN s t)).1 (lCa (zN s t)).2.1 52 (fun _ => false)).1 ∧ LKw A W w br nq nk np nh nr (fMth br W (zL s) (lCa (zN s t)).1 (lCa (zN s t)).2.1 52 (fun _ => false)).2 M' ∧ cSt w M') (fun v M1 hf ⟨ev, a1, s1⟩ => ?_) (c_findMethod h.1.1.1 h.1.1.2 hA hK hW.2.1 hW.2.2.1 hM.1.1.1.1 hM.1.1.1.2.1 (h.2.2.2 hon) (by omega) (by omega) (Or.inr (Or.inl ⟨rfl, fun _ => rfl⟩)) (fun M' a1 s1 _ _ => ⟨rfl, a1, s1⟩))
  rw [ev]
  have r1 := h.lk hf rfl a1 s1
  have hM1 := hM.lL hm
  unfold firstS at hQ
  cases ef : fMth br W (zL s) (lCa (zN s t)).1 (lCa (zN s t)).2.1 52 (fun _ => false) with
  | mk y L0 =>
    rw [ef] at hok hm hQ r1 hM1
    cases y with
    | inl e =>
      exact itn (hok.1.1.neg hok.1.2.1).2 (c_fails (s := yL s L0) (o := none) hq r1 hM1 hon hok.1 hQ)
    | inr q =>
      dsimp only at hQ
      obtain ⟨c0, hlk, -, hf1, hst, hab⟩ := fMth_in ef
      obtain ⟨hfc, -, hlc⟩ := lkd_in hlk
      have hc0 := fnd_lt hfc
      have hqm := fMth1_ok hc0 hf1
      obtain ⟨-, hq381, hH⟩ := oM_lt r1.1.1.1.1 hqm
      have f381 := r1.1.1.1.1.2.1.1.2.1
      refine itp (show (0 : Int32) ≤ Int32.ofNat (moff W q.1 + q.2) from oN_zero_le (by omega)) ⟨by rw [f381 55 (by omega) (by omega)]; exact (vp_oN (a := moff W q.1 + q.2) (by omega)).mpr hq381, ?_⟩
      show w_Machine_isReady w (mI M1 55 w (Int32.ofNat (moff W q.1 + q.2)).toNatClampNeg) _ M1
      rw [oN_tnc (by omega), hH.1]
      refine c_isReady (s := yL s L0) (k := q.1) hq r1 hM1 hon hw0 hqm.1 (fun e M2 h2 => ?_) (fun e M2 h2 => ?_) (fun e M2 h2 => ?_)
      · have es := ((mustS_ok (br := br) (k := q.1) hW hM1 hon hqm.1).1 e).1
        have hQ' : ∀ x, enterS W t (yL s L0) [] q.1 q.2 (((lCa (zN s t)).2.2.take (lCa (zN s t)).2.1.2.1.length).map (fun v => (v, false))) = x → ∀ M', RM A W w br nq nk np nh nr C B F t x (gU x t) M' → Q M' := fun x hx M' h' => hQ M' (by
          generalize mustS br W t (yL s L0) q.1 = mr at e es
          obtain ⟨r0, e', s1'⟩ := mr
          have e : r0 = 0 := e
          subst e
          have es : s1' = yL s L0 := es
          subst es
          show RM A W w br nq nk np nh nr C B F t (enterS W t (yL s L0) [] q.1 q.2 _) (gU (enterS W t (yL s L0) [] q.1 q.2 _) t) M'
          rw [hx]; exact h')
        unfold enterS at hQ'
        refine itn (by decide) (c_enter (s := yL s L0) (o := none) hq h2 hM1 hon hqm.1 hqm.2.1 (fun c40 M3 h3 => ?_) (fun c40 M3 h3 _ _ => ?_))
        · exact itp rfl (hQ' _ (if_pos c40) M3 h3)
        · refine itn (by decide) ⟨(lCa (zN s t)).2.1.2.1.length + 1, ?_⟩
          have hg1 : gU (yL s L0) t = [] := hg
          rw [hg1] at h3
          have hl6 : (lCa (zN s t)).2.1.2.1.length ≤ 6 := hca.1.1
          have hg6 : (lCa (zN s t)).2.2.length = 6 := hca.2.2.1
          have hks : (gmt (gc W q.1) q.2).2.1 = (lCa (zN s t)).2.1.2.1 := hqm.2.2.1.2.1
          generalize hargs : ((lCa (zN s t)).2.2.take (lCa (zN s t)).2.1.2.1.length).map (fun v => ((v, false) : Vl)) = args at hQ'
          have hal : args.length = (lCa (zN s t)).2.1.2.1.length := by rw [← hargs, List.length_map, List.length_take]; omega
          have hav : ∀ i, i < args.length → lv args i = ((lCa (zN s t)).2.2.getD i 0, false) := fun i hi => by
            rw [← hargs]
            show (((lCa (zN s t)).2.2.take (lCa (zN s t)).2.1.2.1.length).map (fun v => ((v, false) : Vl))).getD i (0, false) = _
            rw [List.getD_eq_getElem?_getD, List.getElem?_map, List.getElem?_take, if_pos (by omega), List.getElem?_eq_getElem (show i < (lCa (zN s t)).2.2.length by omega), List.getD_eq_getElem?_getD, List.getElem?_eq_getElem (show i < (lCa (zN s t)).2.2.length by omega)]; rfl
          generalize hs3 : evS (sU (yL s L0) t (.inl (q.1, q.2, 0, z20, []) :: [])) t 1 q.1 (some q.2) = s3 at h3
          have loop : ∀ n i M4, args.length - i < n → i ≤ args.length → RM A W w br nq nk np nh nr C B F t (sU s3 t [.inl (q.1, q.2, 0, fstL args i, [])]) [.inl (q.1, q.2, 0, fstL args i, [])] M4 → w_Machine_first_L53 w Q n (Int32.ofNat (moff W q.1 + q.2)) (Int32.ofNat i) M4 := by
            intro n
            induction n with
            | zero => intro i M4 hn; exact absurd hn (by omega)
            | succ n ih =>
              intro i M4 hn hi h4
              have hcw4 := h4.1.1.1.1
              have hH4 := (hcw4.2.1.2.2 q.1 hqm.1 q.2 hqm.2.1).1
              have R4 : mR M4 6 w 2 = some (7, 3 * w + t) := h4.1.2.2.2.2.1.1
              unfold w_Machine_first_L53
              rw [oN_tnc (k := moff W q.1 + q.2) (by omega), hH4.2.2.2.1.1, hcw4.2.1.1.2.1 58 (by omega) (by omega), hks, ← hal]
              refine ⟨(vp_oN (by omega)).mpr hq381, ?_⟩
              by_cases ci : args.length ≤ i
              · have : i = args.length := by omega
                subst this
                refine itp (le_oN (by omega) (by omega)) (hQ' _ (if_neg c40) M4 ?_)
                have e3 : evS (sU (yL s L0) t [.inl (q.1, q.2, 0, args ++ List.replicate (20 - args.length) (0, false), [])]) t 1 q.1 (some q.2) = sU s3 t [.inl (q.1, q.2, 0, fstL args args.length, [])] := by
                  rw [← hs3, ev_su, ev_su, su_su, fstL_all]
                rw [e3, gU_sU]; exact h4
              refine itn (nle_oN (by omega) (by omega)) ⟨3 * w + t, R4, by rw [h4.2.1.1.2.2.2]; exact (vp_oN (by omega)).mpr (by omega), ?_⟩
              have on3 : lSt (zN (sU s3 t [.inl (q.1, q.2, 0, fstL args i, [])]) t) = 1 := by
                rw [sU_N]
                show lSt (zN s3 t) = 1
                rw [← hs3, ev_N]
                show lSt (up1 (zN s) t _ t) = 1
                rw [up1_s]; exact hon
              have hCa : lCa (zN (sU s3 t [.inl (q.1, q.2, 0, fstL args i, [])]) t) = lCa (zN s t) := by
                rw [sU_N]
                show lCa (zN s3 t) = _
                rw [← hs3, ev_N]
                show lCa (up1 (zN s) t _ t) = _
                rw [up1_s]
              have gv := h4.2.1.2.2.2.2 on3 i (by
                show i < (lCa (zN (sU s3 t [.inl (q.1, q.2, 0, fstL args i, [])]) t)).2.1.2.1.length
                rw [hCa]; omega)
              rw [hCa] at gv
              rw [oN_tnc (k := i) (by omega), gv, show Int32.ofNat i + (1 : Int32) = Int32.ofNat (i + 1) from oN_add i 1]
              refine c_set (b := false) R4 h4.2.1.1.2.1 h4.2.1.1.2.2.1 (by omega) (ih (i + 1) _ (by omega) (by omega) ?_)
              have h5 := h4.setl (k := i) (v := (lCa (zN s t)).2.2.getD i 0) (b := false) trivial (by omega) (fstL_len (by omega) (by omega))
              rw [← hav i (by omega), fstL_set (by omega) (by omega), su_su] at h5
              have e40 : 40 * ([] : List Un).length + i = i := by show 40 * 0 + i = i; omega
              rw [e40] at h5
              exact h5
          refine loop _ 0 M3 (by omega) (by omega) ?_
          have : sU s3 t [.inl (q.1, q.2, 0, fstL args 0, [])] = s3 := by
            rw [← hs3, ev_su, su_su]; rfl
          rw [this]; exact h3
      · refine itp rfl (hQ M2 ?_)
        generalize mustS br W t (yL s L0) q.1 = mr at e h2
        obtain ⟨r0, e', s1⟩ := mr
        have e : r0 = 2 := e
        subst e
        exact h2
      · refine itp rfl (hQ M2 ?_)
        generalize mustS br W t (yL s L0) q.1 = mr at e h2
        obtain ⟨r0, e', s1⟩ := mr
        have e : r0 = 1 ∨ r0 = 3 := e
        rcases e with z | z <;> subst z <;> exact h2
end
