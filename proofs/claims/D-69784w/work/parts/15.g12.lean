/-! THE MACHINE IN THE WORKS: a start goes on; a thread's first act -/
section
variable {A : List Nm} {W : List Cls} {w C B F t L : Nat} {br : Int32} {nq nk np nh nr : Nat} {s s' : Ms} {M M' M1 : Mem} {S : Nat} {l : Ln} {U V : List Un} {r : Int32} {c j a k : Nat} {lo : List Vl} {o : Option Kd} {L' : LkS} {own : Bool}
theorem ownN_drop {nm : Nm} {L : List Mth} {d : Mth} {j : Nat} (h : j < L.length) : ownN nm j (L.drop j) = if (L.getD j d).1 = nm then some j else ownN nm (j + 1) (L.drop (j + 1)) := by
  have e : L.drop j = L.getD j d :: L.drop (j + 1) := by
    rw [List.drop_eq_getElem_cons h]
    congr 1
    rw [List.getD_eq_getElem?_getD, List.getElem?_eq_getElem h]; rfl
  rw [e]; rfl
theorem c_ownStart {Q : Int32 → Mem → Prop} (h : CWx A W w br nq nk np nh nr M) (hA : nA A) (hk : k < W.length) (hQ : Q (oM W ((ownN nStart 0 (gc W k).2.2.2.2.2).map (fun j => (k, j)))) M) : w_Machine_ownStart w (Int32.ofNat k) Q M := by
  obtain ⟨u1, u2, u3, u4, u5⟩ := h.mo (e := 0) hk
  have hms := h.2.1
  have f381 := hms.1.2.1
  have loop : ∀ n j, (gc W k).2.2.2.2.2.length - j < n → j ≤ (gc W k).2.2.2.2.2.length → ownN nStart 0 (gc W k).2.2.2.2.2 = ownN nStart j ((gc W k).2.2.2.2.2.drop j) → w_Machine_ownStart_L10 w Q n (Int32.ofNat k) (Int32.ofNat (moff W k + j)) M := by
    intro n
    induction n with
    | zero => intro j hn; exact absurd hn (by omega)
    | succ n ih =>
      intro j hn hj he
      unfold w_Machine_ownStart_L10
      rw [oN_tnc (k := k) (by omega), u1, u2, oN_add, hms.1.1.1, hms.1.1.2]
      refine ⟨(vp_oN (by omega)).mpr (by omega), (vp_oN (by omega)).mpr (by omega), ?_⟩
      by_cases cj : (gc W k).2.2.2.2.2.length ≤ j
      · rw [List.drop_of_length_le cj] at he
        rw [show ownN nStart 0 (gc W k).2.2.2.2.2 = none from he] at hQ
        exact itp (le_oN (by omega) (by omega)) hQ
      have hjl : j < (gc W k).2.2.2.2.2.length := by omega
      have hy := (hms.2.2 k hk j hjl).1
      refine itn (nle_oN (by omega) (by omega)) ?_
      rw [oN_tnc (k := moff W k + j) (by omega), hy.2.1.1, f381 56 (by omega) (by omega), show Int32.ofNat (moff W k + j) + (1 : Int32) = Int32.ofNat (moff W k + (j + 1)) from oN_add (moff W k + j) 1]
      refine ⟨(vp_oN (by omega)).mpr (by omega), ?_⟩
      have nm := nc_inj (A := A) (by have := hA.1; omega) hy.2.1.2 hA.start.2
      rw [hA.start.1] at nm
      rw [ownN_drop (d := ([], [], (0, []), 0, 0, 0, [], [])) hjl] at he
      by_cases cn : (gmt (gc W k) j).1 = nStart
      · rw [show ownN nStart 0 (gc W k).2.2.2.2.2 = some j from he.trans (if_pos cn)] at hQ
        exact itp (nm.mpr cn) hQ
      · exact itn (fun z => cn (nm.mp z)) (ih (j + 1) (by omega) (by omega) (he.trans (if_neg cn)))
  unfold w_Machine_ownStart
  rw [oN_tnc (k := k) (by omega), u1, hms.1.1.1]
  exact ⟨(vp_oN (by omega)).mpr (by omega), (gc W k).2.2.2.2.2.length + 1, loop _ 0 (by omega) (by omega) rfl⟩
theorem RM.su (h : RM A W w br nq nk np nh nr C B F t s U M) : RM A W w br nq nk np nh nr C B F t (sU s t V) U M := by
  refine ⟨h.1.su, ?_, h.2.2.1, ?_⟩
  · rw [sU_N]; exact h.2.1
  · rw [sU_N]; exact h.2.2.2
theorem su_su {X : List Un} : sU (sU s t X) t U = sU s t U := by
  unfold sU
  have e : zN (yN s (up1 (zN s) t (qU (zN s t) X))) t = qU (zN s t) X := up1_s
  rw [e]
  have : up1 (zN (yN s (up1 (zN s) t (qU (zN s t) X)))) t (qU (qU (zN s t) X) U) = up1 (zN s) t (qU (zN s t) U) := by
    funext i
    by_cases ei : i = t
    · rw [ei, up1_s, up1_s]
    · rw [up1_o ei, up1_o ei]
      exact up1_o ei
  rw [this]
theorem c_startEnds {Q : Mem → Prop} (hK : KB w nq nk np nh nr) (h : RM A W w br nq nk np nh nr C B F t s (.inr (k, own) :: U) M) (hE : (zE s).length ≤ 400) (hk : k < W.length) (hQ : ∀ M', RM A W w br nq nk np nh nr C B F t (evS (sU (yC s (up1 (zC s) k 2)) t U) t 5 k none) U M' → Q M') : w_Machine_startEnds w (Int32.ofNat k) Q M := by
  have h51 := h.1.l5
  have l46 : mL M 46 w = 51 := h.1.1.1.1.2.2.2.1.2.2.2.2.2.2 46 (by omega) (by omega)
  unfold w_Machine_startEnds
  rw [oN_tnc (k := k) (by omega)]
  refine ⟨by rw [l46]; exact (vp_oN (by omega)).mpr (by omega), ?_⟩
  refine k_cev (what := 5) (h.c46 (v := 2) hK hk (by decide)) hE hk (fun M2 h2 _ => ⟨3 * w + t, h2.1.2.2.2.2.1.1, ?_⟩)
  have g1 : mI M2 7 (3 * w + t) 1 = Int32.ofNat (U.length + 1) := h2.2.2.1.1
  rw [g1, pred]
  refine hQ _ ?_
  rw [ev_su]
  exact h2.popS.su
/-- a start's own method is its turn -/
theorem RM.ph (h : RM A W w br nq nk np nh nr C B F t s (.inr (k, own) :: U) M) (hst : stk U) : RM A W w br nq nk np nh nr C B F t (sU s t (.inr (k, true) :: U)) (.inr (k, true) :: U) (sI M 93 (3 * w + t) U.length 1) := by
  have ag : AgT w t M (sI M 93 (3 * w + t) U.length 1) := AgT.rf.wa
  have row : ∀ f i j, f ≠ 93 → mI (sI M 93 (3 * w + t) U.length 1) f i j = mI M f i j := fun f i j hf => by rw [mI_sI, if_neg (fun z => hf z.1)]
  refine ⟨(h.1.ag ag).su, ?_, ⟨(row 7 _ _ (by omega)).trans h.2.2.1.1, (row 7 _ _ (by omega)).trans h.2.2.1.2.1, ⟨(row 92 _ _ (by omega)).trans h.2.2.1.2.2.1.1, ?_⟩, ?_⟩, ?_⟩
  · rw [sU_N]; exact rL.g (l := qU (zN s t) _) h.2.1 (fun i => row 7 _ i (by omega)) (fun i => row 95 _ i (by omega)) (fun _ => rfl)
  · rw [mI_sI, if_pos ⟨rfl, rfl, rfl⟩]; rfl
  · refine LU.kp (M := M) (n := U.length) (fun g f h1 h2 h3 => ?_) (fun i hi => ⟨row 94 _ _ (by omega), row 514 _ _ (by omega)⟩) h.2.2.1.2.2.2 hst (Nat.le_refl _)
    rw [mI_sI, if_neg (by omega)]
  · rw [sU_N]; exact fun z => (h.2.2.2 z).fr ag.1.1
/-- a start's own method, or its end -/
theorem c_startG {Q : Mem → Prop} (hq : RQ A W w nq nk np nh nr F s) (h : RM A W w br nq nk np nh nr C B F t s (.inr (k, own) :: U) M) (hM : MO W s t none (.inr (k, own) :: U)) (hon : lSt (zN s t) = 1) (hQ : ∀ M', RM A W w br nq nk np nh nr C B F t (startG W t s k U) (gU (startG W t s k U) t) M' → Q M') : w_Machine_start_j49 w Q (Int32.ofNat U.length) (Int32.ofNat k) M := by
  obtain ⟨hW, hK, hA, ⟨hw, hFb⟩, hF⟩ := id hq
  have h51 := h.1.l5
  obtain ⟨⟨hown, hk, hU⟩, hnd, hfr⟩ := hM.2.2.2.1
  have hlen : U.length + 1 ≤ 91 := hM.2.2.2.1.len hW
  have hstk : stk U := UO.stk hW hM.1.1 hU
  have R2 : mR M 6 w 2 = some (7, 3 * w + t) := h.1.2.2.2.2.1.1
  unfold w_Machine_start_j49
  rw [oN_tnc (k := U.length) (by omega)]
  refine ⟨3 * w + t, R2, by rw [h.2.1.1.1 93 (by omega) (by omega)]; exact (vp_oN (by omega)).mpr (by omega), ?_⟩
  have h1 := h.ph hstk
  refine c_ownStart h1.1.1.1.1 hA hk.1.2 ?_
  unfold startG at hQ
  cases eo : ownN nStart 0 (gc W k).2.2.2.2.2 with
  | none =>
    rw [eo] at hQ
    refine itp (show (-2 : Int32) < 0 by decide) (c_startEnds hK h1 hM.1.2.1 hk.1.2 (fun M2 h2 => hQ M2 ?_))
    have e1 : sU (yC (sU s t (.inr (k, true) :: U)) (up1 (zC (sU s t (.inr (k, true) :: U))) k 2)) t U = sU (yC s (up1 (zC s) k 2)) t U := su_su (s := yC s (up1 (zC s) k 2)) (X := .inr (k, true) :: U)
    have eg : gU (evS (sU (yC s (up1 (zC s) k 2)) t U) t 5 k none) t = U := by
      show lU (zN (evS _ _ _ _ _) t) = _
      rw [ev_N]; exact gU_sU
    dsimp only
    rw [eg, ← e1]; exact h2
  | some m =>
    rw [eo] at hQ
    obtain ⟨-, hm, -⟩ := ownN_in eo
    rw [Nat.zero_add] at hm
    obtain ⟨-, -, m3, -, -⟩ := h1.1.1.1.1.mo (e := 0) hk.1.2
    have hlt : moff W k + m < 381 := Nat.lt_of_lt_of_le (Nat.add_lt_add_left hm _) m3
    have hMs : MO W (sU s t (.inr (k, true) :: U)) t (some (gmt (gc W k) m).2.2.1) (gU (sU s t (.inr (k, true) :: U)) t) := by
      rw [gU_sU]
      exact MO.put (U := .inr (k, true) :: U) ⟨hM.1, hM.2.1, hM.2.2.1, ⟨⟨rfl, hk, hU⟩, hnd, hfr⟩, hM.2.2.2.2⟩
    have h1' : RM A W w br nq nk np nh nr C B F t (sU s t (.inr (k, true) :: U)) (gU (sU s t (.inr (k, true) :: U)) t) (sI M 93 (3 * w + t) U.length 1) := by rw [gU_sU]; exact h1
    have ee : ∀ x, enterS W t (sU s t (.inr (k, true) :: U)) (.inr (k, true) :: U) k m [] = x → ∀ M', RM A W w br nq nk np nh nr C B F t x (gU x t) M' → Q M' := fun x hx M' h' => hQ M' (by dsimp only; rw [hx]; exact h')
    unfold enterS at ee
    refine itn (show ¬ Int32.ofNat (moff W k + m) < 0 from oN_nonneg (by omega)) (c_enter (s := sU s t (.inr (k, true) :: U)) (o := some (gmt (gc W k) m).2.2.1) hq h1' hMs (by show lSt (up1 (zN s) t _ t) = 1; rw [up1_s]; exact hon) hk.1.2 hm (fun c40 M2 h2 => ?_) (fun c40 M2 h2 _ _ => ?_))
    · exact ee _ (if_pos c40) M2 h2
    · refine ee _ (if_neg c40) M2 ?_
      have eg : gU (evS (sU (sU s t (.inr (k, true) :: U)) t (.inl (k, m, 0, [] ++ List.replicate (20 - ([] : List Vl).length) (0, false), []) :: .inr (k, true) :: U)) t 1 k (some m)) t = .inl (k, m, 0, [] ++ List.replicate (20 - ([] : List Vl).length) (0, false), []) :: .inr (k, true) :: U := by
        show lU (zN (evS _ _ _ _ _) t) = _
        rw [ev_N]; exact gU_sU
      rw [eg]
      rw [gU_sU] at h2
      exact h2
/-- a start goes on -/
theorem c_start {Q : Mem → Prop} (hq : RQ A W w nq nk np nh nr F s) (h : RM A W w br nq nk np nh nr C B F t s (gU s t) M) (hg : gU s t = .inr (k, own) :: U) (hM : MO W s t none (gU s t)) (hon : lSt (zN s t) = 1) (hw0 : lWt (zN s t) = none) (hQ : ∀ M', RM A W w br nq nk np nh nr C B F t (startS br W t s k own U) (gU (startS br W t s k own U) t) M' → Q M') : w_Machine_start w (Int32.ofNat U.length) Q M := by
  obtain ⟨hW, hK, hA, ⟨hw, hFb⟩, hF⟩ := id hq
  have h51 := h.1.l5
  have hM' := hM
  rw [hg] at hM'
  have h' := h
  rw [hg] at h'
  obtain ⟨⟨hown, hk, hU⟩, hnd, hfr⟩ := hM'.2.2.2.1
  have hlen : U.length + 1 ≤ 91 := hM'.2.2.2.1.len hW
  have R2 : mR M 6 w 2 = some (7, 3 * w + t) := h.1.2.2.2.2.1.1
  have k92 : mI M 92 (3 * w + t) U.length = Int32.ofNat k := h'.2.2.1.2.2.1.1
  have k93 : mI M 93 (3 * w + t) U.length = b2 own := h'.2.2.1.2.2.1.2
  unfold w_Machine_start
  rw [oN_tnc (k := U.length) (by omega)]
  refine ⟨3 * w + t, R2, by rw [h.2.1.1.1 92 (by omega) (by omega)]; exact (vp_oN (by omega)).mpr (by omega), 3 * w + t, R2, by rw [h.2.1.1.1 93 (by omega) (by omega)]; exact (vp_oN (by omega)).mpr (by omega), ?_⟩
  rw [k92, k93]
  unfold startS at hQ
  cases own with
  | true =>
    rw [if_neg (fun z => by cases z.1)] at hQ
    exact itn (by decide) (c_startG hq h' hM' hon hQ)
  | false =>
    refine itp rfl (c_isFace h.1.1.1.1.1.1 hk.1.2 ?_)
    cases ef : isFc W k with
    | true =>
      rw [if_neg (fun z => by rw [ef] at z; cases z.2)] at hQ
      exact itn (by decide) (c_startG hq h' hM' hon hQ)
    | false =>
      rw [if_pos ⟨rfl, ef⟩] at hQ
      obtain ⟨p, hp, hpl, -, -⟩ := hM.1.1.1.1.upm hk.1.2 hk.2.1 (show k ≠ 0 by have := hk.1.1; omega)
      rw [hp] at hQ
      dsimp only at hQ
      refine itp rfl (c_up h.1.1.1.1.1.1 hk.1.2 ?_)
      rw [hp]
      refine c_isReady (k := p) hq h hM hon hw0 hpl (fun e M1 h1 => ?_) (fun e M1 h1 => ?_) (fun e M1 h1 => ?_)
      · rw [hg] at h1
        refine itn (by decide) (c_startG hq h1 hM' hon (fun M2 h2 => hQ M2 ?_))
        have es := ((mustS_ok (br := br) (k := p) hW hM hon hpl).1 e).1
        generalize mustS br W t s p = mr at e es
        obtain ⟨r0, e', s1⟩ := mr
        have e : r0 = 0 := e
        subst e
        have es : s1 = s := es
        subst es
        exact h2
      · refine itp rfl (hQ M1 ?_)
        generalize mustS br W t s p = mr at e h1
        obtain ⟨r0, e', s1⟩ := mr
        have e : r0 = 2 := e
        subst e
        exact h1
      · refine itp rfl (hQ M1 ?_)
        generalize mustS br W t s p = mr at e h1
        obtain ⟨r0, e', s1⟩ := mr
        have e : r0 = 1 ∨ r0 = 3 := e
        rcases e with z | z <;> subst z <;> exact h1
end
