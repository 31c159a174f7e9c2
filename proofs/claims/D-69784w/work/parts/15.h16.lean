/-! THE MACHINE IN THE TWIN: a start goes on -/
section
variable {G : List Sl} {US : UST} {A : List Nm} {S : List Sg} {W : List Cls} {w c j a k t L : Nat} {br x r : Int32} {bb own : Bool} {nq nl nf nk B F : Nat} {M M' : Mem} {s s' : Ms} {U V : List Un} {lo st lo' st' : List Vl} {o : Option Kd} {Q : Int32 → Mem → Prop}
/-- what a thread waits for, as the twin holds it -/
def wCd : Int32 ⊕ Nat → Int32
  | .inl r => tr true r
  | .inr k => (-1 : Int32) - Int32.ofNat k
abbrev xSt : Mth := (nStart, [], (-4, []), 0, 0, 0, [], [])
theorem ownN_I : ∀ {l : List Mth} {k : Nat}, (∀ m ∈ l, wcM m) → ownN nStart k l = ownI xSt k l
  | [], _, _ => rfl
  | m :: l, k, h => by
    unfold ownN ownI
    have hm := h m List.mem_cons_self
    by_cases c1 : m.1 = nStart
    · obtain ⟨-, h2, h3⟩ := hm.2 c1
      rw [if_pos c1, if_pos ⟨c1, h2, h3⟩]
    · rw [if_neg c1, if_neg (fun z => c1 z.1)]
      exact ownN_I (fun m' hm' => h m' (List.mem_cons_of_mem _ hm'))
theorem ct_endStart {Q : Mem → Prop} (h : TM G US A S W w br nq nl nf nk B F x bb t s (.inr (k, own) :: U) M) (hk : k < W.length) (hl : U.length < 99) (hE : (zE s).length ≤ 400) (hQ : ∀ M', TM G US A S W w br nq nl nf nk B F x bb t (evS (sU (yC s (up1 (zC s) k 2)) t U) t 5 k none) U M' → Q M') : w_Model_endStart 0 (Int32.ofNat U.length) Q M := by
  have h51 := h.1.l5
  obtain ⟨l0, l1, -⟩ := h.lens
  have R6 := h.r46
  obtain ⟨ng1, ng2⟩ := neg1 (k := k) (by omega)
  have e171 : mI M 171 (3 * w + t) U.length = (-1 : Int32) - Int32.ofNat k := h.2.2.1.2.2.1.1
  have l137 : mL M 137 w = 51 := h.1.1.1.1.1.1.1.2.2.2.2.2.1
  unfold w_Model_endStart
  refine ⟨3 * w + t, R6, by rw [l1]; exact (vp_oN (by omega)).mpr hl, w, h.r45, ?_⟩
  rw [oN_tnc (k := U.length) (by omega), e171, ng2, oN_tnc (k := k) (by omega)]
  refine ⟨by rw [l137]; exact (vp_oN (by omega)).mpr (by omega), _, rfl, 3 * w + t, R6, ?_⟩
  have h1 := h.cl (v := 2) hk (by decide)
  rw [show mI (sI M 137 w k 2) 13 (3 * w + t) 16 = Int32.ofNat (U.length + 1) from h1.2.2.1.1, pred]
  have h2 : TM G US A S W w br nq nl nf nk B F x bb t (sU (yC s (up1 (zC s) k 2)) t U) U (sI (sI M 137 w k 2) 13 (3 * w + t) 16 (Int32.ofNat U.length)) := h1.pop1.su
  exact k_note (what := 5) (k := k) (m := none) h2 hE (fun M3 h3 _ => hQ M3 h3)
/-- the own method of a class's start has begun -/
theorem TM.ph (h : TM G US A S W w br nq nl nf nk B F x bb t s (.inr (k, own) :: U) M) (hst : stk U) : TM G US A S W w br nq nl nf nk B F x bb t (sU s t (.inr (k, true) :: U)) (.inr (k, true) :: U) (sI M 172 (3 * w + t) U.length 2) := by
  have ag : AgU w t M (sI M 172 (3 * w + t) U.length 2) := AgU.rf.wa
  have eN : zN (sU s t (.inr (k, true) :: U)) t = qU (zN s t) (.inr (k, true) :: U) := up1_s
  have ra : ∀ g i, g ≠ 172 → mI (sI M 172 (3 * w + t) U.length 2) g (3 * w + t) i = mI M g (3 * w + t) i := fun g i hg => by rw [mI_sI, if_neg (fun z => hg z.1)]
  refine ⟨(h.1.ag ag).su, ?_, ⟨(ra 13 16 (by omega)).trans h.2.2.1.1, (ra 13 22 (by omega)).trans h.2.2.1.2.1, ⟨(ra 171 _ (by omega)).trans h.2.2.1.2.2.1.1, ?_⟩, ?_⟩, fun z => ?_⟩
  · rw [eN]; exact h.2.1.g (fun i _ => ra 13 i (by omega)) (fun i => ra 170 i (by omega)) (fun _ => rfl)
  · rw [mI_sI, if_pos ⟨rfl, rfl, rfl⟩]; rfl
  · refine unT.kp h.2.2.1.2.2.2 hst (fun g i hg hi => ?_) (fun g i hg _ => ra g i (by omega)) (fun i _ => ⟨ra 176 i (by omega), ra 525 i (by omega)⟩)
    rcases hg with z | z
    · exact ra g i (by omega)
    · subst z; rw [mI_sI, if_neg (fun z => by have := z.2.2; omega)]
  · rw [eN] at z
    rw [ra 13 4 (by omega)]; exact h.2.2.2 z
theorem ct_startG (hq : TQc W F s) (h : TM G US A S W w br nq nl nf nk B F x bb t s (.inr (k, own) :: U) M) (hM : MO W s t none (.inr (k, own) :: U)) (hon : lSt (zN s t) = 1) (hQ : ∀ M', TM G US A S W w br nq nl nf nk B F x bb t (startG W t s k U) (gU (startG W t s k U) t) M' → Q 0 M') : w_Model_startOn_j78 0 Q (Int32.ofNat U.length) (Int32.ofNat k) M := by
  obtain ⟨hW, hFb, hF⟩ := id hq
  have hst := hM.2.2.2.1.1.2.1
  have hk : k < W.length := hst.1.2
  have hl := hM.2.2.2.1.len hW
  have hl : U.length + 1 ≤ 91 := hl
  have hfr : frs U ≤ 40 := hM.2.2.2.1.2.2
  have hb := h.1.1.1
  have h51 := hb.l51
  have n7 := hb.1.2.2.1 (7, nStart) (by decide)
  have e38 := hb.1.2.1.2.2.2
  have hsg : sg A ([] : List Kd) ((-4, []) : Kd) = ([], 0) := rfl
  have hwc := (hW.2.2.1.at hk).2.2
  unfold w_Model_startOn_j78
  rw [n7.1, e38.1]
  have hx : w_Model_methodIn 0 (Int32.ofNat k) (nc A xSt.1) (Int32.ofNat (S.idxOf (sg A xSt.2.1 xSt.2.2.1))) (fun r16 M15 => if 0 ≤ r16 then (∃ i18, (mR M15 11 0 46) = some (13, i18) ∧ vp_in (Int32.ofNat U.length) (mL M15 172 i18) ∧ ∃ i20, (mR (sI M15 172 i18 (Int32.ofNat U.length).toNatClampNeg (2 : Int32)) 11 0 46) = some (13, i20) ∧ if (mI (sI M15 172 i18 (Int32.ofNat U.length).toNatClampNeg (2 : Int32)) 13 i20 22) = (40 : Int32) then (w_Model_throwNew 0 (0 : Int32) (8 : Int32) (fun M22 => Q (0 : Int32) M22) (sI M15 172 i18 (Int32.ofNat U.length).toNatClampNeg (2 : Int32))) else (w_Model_newFrame 0 r16 (fun M23 => Q (0 : Int32) M23) (sI M15 172 i18 (Int32.ofNat U.length).toNatClampNeg (2 : Int32)))) else (w_Model_endStart 0 (Int32.ofNat U.length) (fun M24 => Q (0 : Int32) M24) M15)) M := by
    refine ct_methodIn hb hk n7.2 (by rw [hsg]; exact e38.2) ⟨fun κ hκ => absurd hκ List.not_mem_nil, ⟨fun z => absurd z (by decide), Or.inr (Or.inr (Or.inl rfl))⟩⟩ ?_
    unfold startG at hQ
    rw [ownN_I hwc] at hQ
    cases eo : ownI xSt 0 (gc W k).2.2.2.2.2 with
    | none =>
      rw [eo] at hQ
      refine itn (show ¬ (0 : Int32) ≤ -2 by decide) (ct_endStart h hk (by omega) hM.1.2.1 (fun M1 h1 => hQ M1 ?_))
      dsimp only
      rw [ev_U, gU_sU]; exact h1
    | some m =>
      rw [eo] at hQ
      have hm := ownI_lt eo
      have h12 := (hb.mcn hk).2
      have hst2 : stk U := UO.stk hW hM.1.1 hM.2.2.2.1.1.2.2
      have h1 := h.ph hst2
      refine itp (oN_zero_le (show 12 * k + m < 2147483648 by omega)) ⟨3 * w + t, h.r46, by rw [h.lens.2.2.1]; exact (vp_oN (by omega)).mpr (by omega), ?_⟩
      rw [oN_tnc (k := U.length) (by omega)]
      refine ⟨3 * w + t, h.r46, ?_⟩
      rw [show mI (sI M 172 (3 * w + t) U.length 2) 13 (3 * w + t) 22 = Int32.ofNat (frs U) from h1.2.2.1.2.1]
      have eg : gU (sU s t (.inr (k, true) :: U)) t = .inr (k, true) :: U := gU_sU
      have hM1 : MO W (sU s t (.inr (k, true) :: U)) t (some (-4, [])) (.inr (k, true) :: U) := MO.put (U := .inr (k, true) :: U) ⟨hM.1, hM.2.1, hM.2.2.1, ⟨⟨rfl, hst, hM.2.2.2.1.1.2.2⟩, hM.2.2.2.1.2.1, hM.2.2.2.1.2.2⟩, hM.2.2.2.2⟩
      have hon1 : lSt (zN (sU s t (.inr (k, true) :: U)) t) = 1 := by rw [sU_N]; exact hon
      have ee : ∀ x', enterS W t (sU s t (.inr (k, true) :: U)) (.inr (k, true) :: U) k m [] = x' → ∀ M', TM G US A S W w br nq nl nf nk B F x bb t x' (gU x' t) M' → Q 0 M' := fun x' hx' M' h' => hQ M' (by dsimp only; rw [hx']; exact h')
      unfold enterS at ee
      rw [eg] at ee
      by_cases c40 : frs U = 40
      · refine itp (by rw [c40]; rfl) (ct_throwNew (f := 8) (ru := 0) (o := some (-4, [])) (s := sU s t (.inr (k, true) :: U)) hq (by rw [eg]; exact h1) (by rw [eg]; exact hM1) hon1 (by omega) (by omega) (ee _ (if_pos c40)))
      · refine itn (ne_oN (b := 40) c40 (by omega) (by omega)) (ct_newFrame (c := k) (j := m) h1 hst2 (show frs U < 40 by omega) (by show U.length + 1 < 99; omega) hM.1.2.1 (fun M2 h2 => ee _ (if_neg c40) M2 ?_))
        rw [ev_U, gU_sU]
        exact h2
  exact hx
/-- a start goes on -/
theorem ct_startOn (hq : TQc W F s) (h : TM G US A S W w br nq nl nf nk B F x bb t s (gU s t) M) (hg : gU s t = .inr (k, own) :: U) (hM : MO W s t none (gU s t)) (hon : lSt (zN s t) = 1) (hw0 : lWt (zN s t) = none) (hQ : ∀ M', TM G US A S W w br nq nl nf nk B F x bb t (startS br W t s k own U) (gU (startS br W t s k own U) t) M' → Q 0 M') (hQ2 : ∀ M' y, startS br W t s k own U = sWt s t (some y) → TM G US A S W w br nq nl nf nk B F x bb t s (gU s t) M' → mI M' 13 (3 * w + t) 2 = wCd y → Q 2 M') : w_Model_startOn 0 Q M := by
  obtain ⟨hW, hFb, hF⟩ := id hq
  have hM' := hM
  rw [hg] at hM'
  have hst := hM'.2.2.2.1.1.2.1
  have hk : k < W.length := hst.1.2
  have hl := hM'.2.2.2.1.len hW
  have hl : U.length + 1 ≤ 91 := hl
  have hb := h.1.1.1
  have h51 := hb.l51
  have how : own = false := hM'.2.2.2.1.1.1
  subst how
  have hG := h
  rw [hg] at hG
  have R6 := h.r46
  have e16 : mI M 13 (3 * w + t) 16 = Int32.ofNat (U.length + 1) := hG.2.2.1.1
  have e171 : mI M 171 (3 * w + t) U.length = (-1 : Int32) - Int32.ofNat k := hG.2.2.1.2.2.1.1
  obtain ⟨ng1, ng2⟩ := neg1 (k := k) (by omega)
  have r132 := (hb.cl.2.2 k hk).2.2
  unfold w_Model_startOn
  refine ⟨3 * w + t, R6, 3 * w + t, R6, ?_⟩
  rw [e16, pred, oN_tnc (k := U.length) (by omega), e171, ng2]
  refine ⟨by rw [h.lens.2.1]; exact (vp_oN (by omega)).mpr (by omega), Int32.ofNat k, rfl, w, h.r45, by rw [hb.cl.2.1.2.2.2]; exact (vp_oN (by omega)).mpr (by omega), ?_⟩
  rw [oN_tnc (k := k) (by omega), r132]
  unfold startS at hQ hQ2
  by_cases c4 : (gc W k).2.2.2.1 &&& 4 = 0
  · have hfc : isFc W k = false := by unfold isFc; rw [decide_eq_false (fun z => z c4)]
    rw [if_pos ⟨rfl, hfc⟩] at hQ hQ2
    obtain ⟨p, hp, hpl, -⟩ := hM.1.1.1.1.up hk hst.2.1 (by have := hst.1.1; omega)
    rw [hp] at hQ hQ2
    dsimp only at hQ hQ2
    refine itp c4 (ct_parentOf h.r45 hb.cl hk ?_)
    rw [hp]
    obtain ⟨m0, m2, m1, m3⟩ := mustS_ok (br := br) (k := p) hW hM hon hpl
    unfold w_Model_startOn_j63
    refine ct_startOf (k := p) hq h hM hon hw0 hpl (fun e => ?_) (fun M1 e h1 => ?_) (fun M1 e e2 h1 e13 => ?_) (fun M1 e h1 th => ?_)
    · obtain ⟨es, -, -⟩ := m0 e
      refine itn (by decide) (itp rfl (ct_startG hq hG hM' hon (fun M2 h2 => hQ M2 ?_)))
      generalize mustS br W t s p = mr at e es
      obtain ⟨r0, e', s1⟩ := mr
      have e : r0 = 0 := e
      subst e
      have es : s1 = s := es
      subst es
      exact h2
    · refine itn (by decide) (itn (by decide) (itn (by decide) (hQ M1 ?_)))
      generalize mustS br W t s p = mr at e h1
      obtain ⟨r0, e', s1⟩ := mr
      have e : r0 = 1 := e
      subst e
      exact h1
    · refine itn (by decide) (itn (by decide) (itp rfl (hQ2 M1 (.inr p) ?_ h1 e13)))
      generalize mustS br W t s p = mr at e e2
      obtain ⟨r0, e', s1⟩ := mr
      have e : r0 = 3 := e
      subst e
      exact e2
    · obtain ⟨he, hM2, hN, hF2⟩ := m2 e
      have hq2 : TQc W F (mustS br W t s p).2.2 := ⟨hW, hFb, by rw [hF2]; exact hF⟩
      have eg : gU (mustS br W t s p).2.2 t = gU s t := by show lU (zN (mustS br W t s p).2.2 t) = _; rw [hN]
      refine itp rfl (ct_throwC hq2 h1 (by rw [eg]; exact hM2) (by rw [hN]; exact hon) he th (fun M2 h2 => itn (by decide) (itn (by decide) (hQ M2 ?_))))
      generalize mustS br W t s p = mr at e h2
      obtain ⟨r0, e', s1⟩ := mr
      have e : r0 = 2 := e
      subst e
      exact h2
  · have hfc : isFc W k = true := by unfold isFc; rw [decide_eq_true c4]
    rw [if_neg (fun z => by rw [hfc] at z; cases z.2)] at hQ
    exact itn c4 (ct_startG hq hG hM' hon hQ)
end
