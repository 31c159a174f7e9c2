/-! THE MACHINE IN THE TWIN: calls (printed by gen/tc.py) -/
section
variable {G : List Sl} {US : UST} {A : List Nm} {S : List Sg} {W : List Cls} {w c j a k t L q n d : Nat} {br x r v e : Int32} {bb : Bool} {nq nl nf nk B F op : Nat} {M M' : Mem} {s s' : Ms} {U V : List Un} {lo st lo' st' : List Vl} {o : Option Kd} {Q : Int32 → Mem → Prop} {i : Ins} {p m : Nat × Nat}
theorem b2a1 {b : Bool} : b2 b &&& 1 = b2 b := by cases b <;> rfl
theorem tr_z {b : Bool} (h : b = true → vRf s v) : tr b v = 0 ↔ v = 0 := by
  cases b with
  | false => rw [tr_f]
  | true => exact tr_ne0 (h rfl)
theorem ownI_no {y : Mth} : ∀ {l : List Mth} {k : Nat}, (∀ m ∈ l, m.1 ≠ y.1) → ownI y k l = none
  | [], _, _ => rfl
  | z :: l, k, h => by
    unfold ownI
    rw [if_neg (fun e => h z (List.mem_cons_self ..) e.1)]
    exact ownI_no (fun m hm => h m (List.mem_cons_of_mem _ hm))
theorem mthW_row {y : Mth} {k : Int32} {lk : Nat → Int32} (hI : LInv W lk) (hx : y.1 ≠ nMake) : mthW W y k 0 = none := by
  obtain ⟨⟨h1, -, h3, -, -⟩, -⟩ := hI
  have eo : ownQ y k (gc W 0).2.2.2.2.2 = none := by
    unfold ownQ
    rw [ownI_no (fun m hm e => hx (e.symm.trans (h1 m hm)))]
  have eu : upW W 0 = none := by unfold upW; rw [if_pos rfl]
  have e1 : mthUp W y k 52 (some 0) = none := by
    unfold mthUp
    rw [eo, eu]
    rfl
  have e2 : lsF W 52 (some 0) [] = [] := by
    unfold lsF
    rw [eu]
    show lsO W 60 0 [] = []
    unfold lsO
    rw [h3]
    rfl
  unfold mthW
  rw [e1, e2]
  rfl
/-- the frame gives up its uppermost values -/
theorem TM.cut {d : Nat} (h : TM G US A S W w br nq nl nf nk B F x bb t s (.inl (c, j, a, lo, st) :: U) M) (hst : stk U) : TM G US A S W w br nq nl nf nk B F x bb t s (.inl (c, j, a, lo, drp st d) :: U) (sI M 175 (3 * w + t) (frs U) (Int32.ofNat (st.length - d))) := by
  have d1 : (drp st d).length = st.length - d := drp_len
  refine h.top0 hst AgU.rf.wa
    (fun y i hy => by rcases hy with z | z <;> subst z <;> simp only [mI_sI, Nat.reduceEqDiff, false_and, if_false])
    (fun i => by simp only [mI_sI, Nat.reduceEqDiff, false_and, if_false])
    (fun y i hy hi => by
      have hne : ¬ i = frs U := by omega
      rcases hy with z | z <;> subst z <;> simp only [mI_sI, Nat.reduceEqDiff, false_and, if_false, true_and, hne])
    (fun i hi => by simp only [mI_sI, Nat.reduceEqDiff, false_and, if_false, and_self])
    (fun i => by simp only [mI_sI, Nat.reduceEqDiff, false_and, if_false])
    (fun i => by simp only [mI_sI, Nat.reduceEqDiff, false_and, if_false])
    (fun f => rfl) ?_ ?_ (fun k hk => ?_) (fun k hk => ?_)
  · simp only [mI_sI, Nat.reduceEqDiff, false_and, if_false]; exact h.2.2.1.2.2.1.2.2.1
  · rw [d1]; simp only [mI_sI, and_self, if_true]
  · simp only [mI_sI, Nat.reduceEqDiff, false_and, if_false]
    exact h.2.2.1.2.2.2.1.1 k hk
  · rw [d1] at hk
    rw [show lv (drp st d) k = lv st k from lvTake hk]
    simp only [mI_sI, Nat.reduceEqDiff, false_and, if_false]
    exact h.2.2.1.2.2.2.1.2 k (show k < st.length by omega)
/-- a method is entered with its arguments, or a maker from the beginning is done -/
theorem ct_callGo {all : Nat} (hq : TQc W F s) (h : TM G US A S W w br nq nl nf nk B F x bb t s (.inl (c, j, a, lo, st) :: U) M) (hA : At W s t c j a lo st U i) (hm : m.1 < W.length ∧ m.2 < (gc W m.1).2.2.2.2.2.length) (hall : all ≤ st.length) (hQ : (∀ M', TM G US A S W w br nq nl nf nk B F x bb t ((if m.1 < 21 then sU s t (.inl (c, j, a + 1, lo, drp st (all)) :: U) else enterS W t s (.inl (c, j, a, lo, drp st (all)) :: U) m.1 m.2 (st.drop (st.length - (all))))) (gU ((if m.1 < 21 then sU s t (.inl (c, j, a + 1, lo, drp st (all)) :: U) else enterS W t s (.inl (c, j, a, lo, drp st (all)) :: U) m.1 m.2 (st.drop (st.length - (all))))) t) M' → Q 1 M')) : w_Model_callStep_j311 0 Q (Int32.ofNat (frs U)) (Int32.ofNat (12 * m.1 + m.2)) (Int32.ofNat (all)) (Int32.ofNat (44 * frs U + 20 + (st.length - (all)))) M := by
  obtain ⟨⟨hf, hU⟩, ⟨hs20, hlo⟩, hst⟩ := hA.tj
  have h51 := h.1.1.1.l51
  have h12 := (h.1.1.1.mcn hm.1).2
  have e12 : Int32.ofNat (12 * m.1 + m.2) / (12 : Int32) = Int32.ofNat m.1 := by rw [show (12 : Int32) = Int32.ofNat 12 from rfl, oN_div (by omega) (by omega)]; congr 1; omega
  obtain ⟨l0, l1, l2, l3, l4, l5, l6, l7⟩ := h.lens
  have e175 : mI M 175 (3 * w + t) (frs U) = Int32.ofNat st.length := h.2.2.1.2.2.1.2.2.2
  have v40 : vp_in (Int32.ofNat (frs U)) (mL M 175 (3 * w + t)) := by rw [l5]; exact (vp_oN (by omega)).mpr hf
  have hcu := h.cut (d := all) hst
  have e1 : sI M 175 (3 * w + t) (Int32.ofNat (frs U)).toNatClampNeg (mI M 175 (3 * w + t) (Int32.ofNat (frs U)).toNatClampNeg - Int32.ofNat all) = sI M 175 (3 * w + t) (frs U) (Int32.ofNat (st.length - all)) := by rw [oN_tnc (k := frs U) (by omega), e175, sub_n hall]
  unfold w_Model_callStep_j311
  rw [e12]
  refine ⟨by decide, ?_⟩
  by_cases c21 : m.1 < 21
  · rw [if_pos c21, gU_in] at hQ
    refine itn (nle_oN (b := m.1) (a := 21) (by omega) (by omega)) ⟨3 * w + t, h.r46, v40, v40, ?_⟩
    rw [e1]
    exact ct_j726 hcu hf hst hQ
  rw [if_neg c21] at hQ
  refine itp (le_oN (a := 21) (by omega) (by omega)) ⟨3 * w + t, h.r46, ?_⟩
  have e22 : mI M 13 (3 * w + t) 22 = Int32.ofNat (frs U + 1) := h.2.2.1.2.1
  have hg := hA.2.1
  rw [e22]
  by_cases c40 : frs U + 1 = 40
  · have eE : enterS W t s (.inl (c, j, a, lo, drp st all) :: U) m.1 m.2 (st.drop (st.length - all)) = failS W t s 8 0 := by unfold enterS; rw [if_pos (by rw [hg]; exact c40)]
    rw [eE] at hQ
    exact itp (by rw [c40]; rfl) (ct_throwD (f := 8) (ru := 0) hq h hA (by omega) (by omega) hQ)
  have eE : enterS W t s (.inl (c, j, a, lo, drp st all) :: U) m.1 m.2 (st.drop (st.length - all)) = evS (sU s t (.inl (m.1, m.2, 0, (st.drop (st.length - all)) ++ List.replicate (20 - (st.drop (st.length - all)).length) (0, false), []) :: (.inl (c, j, a, lo, drp st all) :: U))) t 1 m.1 (some m.2) := by unfold enterS; rw [if_neg (by rw [hg]; exact c40)]
  have eg : ∀ f V, gU (evS (sU s t (f :: V)) t 1 m.1 (some m.2)) t = f :: V := fun f V => by
    show lU (zN (evS _ _ _ _ _) t) = _
    rw [ev_N]; exact gU_sU
  rw [eE, eg] at hQ
  refine itn (ne_oN (b := 40) c40 (by omega) (by omega)) ⟨3 * w + t, h.r46, v40, v40, ?_⟩
  rw [e1]
  have hsR : stk (.inl (c, j, a, lo, drp st all) :: U) := ⟨by show (drp st all).length ≤ 20; rw [drp_len]; omega, hst⟩
  have hargs : (st.drop (st.length - all)).length = all := by rw [List.length_drop]; omega
  refine ct_newFrameK (U := (.inl (c, j, a, lo, drp st all) :: U)) hcu hsR (show frs U + 1 < 40 by omega) (show U.length + 1 < 99 by omega) hA.1.2.1.1.2.1 (fun M1 h1 k1 => ⟨all + 1, ?_⟩)
  rw [show Int32.ofNat (frs U) + (1 : Int32) = Int32.ofNat (frs U + 1) from oN_add _ 1, show (44 : Int32) * Int32.ofNat (frs U + 1) = Int32.ofNat (44 * (frs U + 1)) from oN_mul 44 _]
  have src : ∀ k, k < all → mI M1 176 (3 * w + t) (44 * frs U + 20 + (st.length - all) + k) = tr (lv (st.drop (st.length - all)) k).2 (lv (st.drop (st.length - all)) k).1 ∧ mI M1 525 (3 * w + t) (44 * frs U + 20 + (st.length - all) + k) = b2 (lv (st.drop (st.length - all)) k).2 := fun k hk => by
    have hu := h.2.2.1.2.2.2.1.2 (st.length - all + k) (show st.length - all + k < st.length by omega)
    rw [← Nat.add_assoc] at hu
    have kk := k1 (44 * frs U + 20 + (st.length - all) + k) (show _ < 44 * (frs U + 1) by omega)
    simp only [mI_sI, Nat.reduceEqDiff, false_and, if_false] at kk
    rw [kk.1, kk.2, lv_drop]
    exact hu
  have loop : ∀ y k Mk, all - k < y → k ≤ all → TM G US A S W w br nq nl nf nk B F x bb t (evS (sU s t (.inl (m.1, m.2, 0, z20, []) :: (.inl (c, j, a, lo, drp st all) :: U))) t 1 m.1 (some m.2)) (.inl (m.1, m.2, 0, fstL (st.drop (st.length - all)) k, []) :: (.inl (c, j, a, lo, drp st all) :: U)) Mk → (∀ k, k < all → mI Mk 176 (3 * w + t) (44 * frs U + 20 + (st.length - all) + k) = tr (lv (st.drop (st.length - all)) k).2 (lv (st.drop (st.length - all)) k).1 ∧ mI Mk 525 (3 * w + t) (44 * frs U + 20 + (st.length - all) + k) = b2 (lv (st.drop (st.length - all)) k).2) → w_Model_callStep_L402 0 Q y (Int32.ofNat all) (Int32.ofNat (44 * frs U + 20 + (st.length - all))) (Int32.ofNat (44 * (frs U + 1))) (Int32.ofNat k) Mk := by
    intro y
    induction y with
    | zero => intro k Mk hx'; exact absurd hx' (by omega)
    | succ y ih =>
      intro k Mk hx' hk hR hs
      unfold w_Model_callStep_L402
      by_cases ck : all ≤ k
      · have ek : k = all := by omega
        subst ek
        refine itp (le_oN ck (by omega)) (hQ _ ?_)
        have ef : fstL (st.drop (st.length - k)) k = st.drop (st.length - k) ++ List.replicate (20 - (st.drop (st.length - k)).length) (0, false) := by
          have := fstL_all (args := st.drop (st.length - k))
          rw [hargs] at this ⊢; exact this
        rw [ef] at hR
        have h2 := hR.su (V := .inl (m.1, m.2, 0, st.drop (st.length - k) ++ List.replicate (20 - (st.drop (st.length - k)).length) (0, false), []) :: .inl (c, j, a, lo, drp st k) :: U)
        rw [ev_su2] at h2
        exact h2
      · obtain ⟨m0, m1, m2, m3, m4, m5, m6, m7⟩ := hR.lens
        have Rk := hR.r46
        have hkk : k < all := by omega
        obtain ⟨s1, s2⟩ := hs k hkk
        refine itn (nle_oN (by omega) (by omega)) ?_
        rw [oN_add, oN_add, oN_tnc (k := 44 * frs U + 20 + (st.length - all) + k) (by omega), oN_tnc (k := 44 * (frs U + 1) + k) (by omega)]
        refine ⟨3 * w + t, Rk, 3 * w + t, Rk, by rw [m6]; exact (vp_oN (by omega)).mpr (by omega), by rw [m6]; exact (vp_oN (by omega)).mpr (by omega), _, rfl, 3 * w + t, Rk, 3 * w + t, Rk, by show vp_in _ (mL Mk 525 _); rw [m7]; exact (vp_oN (by omega)).mpr (by omega), by show vp_in _ (mL Mk 525 _); rw [m7]; exact (vp_oN (by omega)).mpr (by omega), _, rfl, ?_⟩
        have e5 : ∀ v, mI (sI Mk 176 (3 * w + t) (44 * (frs U + 1) + k) v) 525 (3 * w + t) (44 * frs U + 20 + (st.length - all) + k) = b2 (lv (st.drop (st.length - all)) k).2 := fun v => by rw [mI_sI, if_neg (fun z => absurd z.1 (by decide))]; exact s2
        rw [e5, s1, b2a1, show Int32.ofNat k + (1 : Int32) = Int32.ofNat (k + 1) from oN_add _ 1]
        have h2 := hR.setl (l := k) (v := (lv (st.drop (st.length - all)) k).1) (b := (lv (st.drop (st.length - all)) k).2) hsR (by omega) (fstL_len (by omega) (by omega))
        rw [show ((lv (st.drop (st.length - all)) k).1, (lv (st.drop (st.length - all)) k).2) = lv (st.drop (st.length - all)) k from rfl, fstL_set (by omega) (by omega)] at h2
        refine ih (k + 1) _ (by omega) (by omega) h2 (fun i hi => ?_)
        have hne : ¬ 44 * frs U + 20 + (st.length - all) + i = 44 * (frs U + 1) + k := by omega
        simp only [mI_sI, Nat.reduceEqDiff, false_and, if_false, true_and, hne]
        exact hs i hi
  exact loop (all + 1) 0 M1 (by omega) (by omega) h1 src
/-- where the arguments begin -/
theorem TM.argT {b d : Nat} (h : TM G US A S W w br nq nl nf nk B F x bb t s (.inl (c, j, a, lo, st) :: U) M) (hA : At W s t c j a lo st U i) (hd : d + b ≤ st.length) : ((((44 : Int32) * Int32.ofNat (frs U)) + (20 : Int32)) + mI M 175 (3 * w + t) (Int32.ofNat (frs U)).toNatClampNeg) - (Int32.ofNat d + Int32.ofNat b) = Int32.ofNat (44 * frs U + 20 + (st.length - (d + b))) := by
  obtain ⟨⟨hf, hU⟩, ⟨hs20, hlo⟩, hst⟩ := hA.tj
  have e175 : mI M 175 (3 * w + t) (frs U) = Int32.ofNat st.length := h.2.2.1.2.2.1.2.2.2
  rw [oN_tnc (k := frs U) (by omega), e175, show (44 : Int32) * Int32.ofNat (frs U) = Int32.ofNat (44 * frs U) from oN_mul 44 _, show Int32.ofNat (44 * frs U) + (20 : Int32) = Int32.ofNat (44 * frs U + 20) from oN_add _ 20, oN_add, oN_add, sub_n (by omega)]
  congr 1
  omega
theorem ct_c52 (hq : TQc W F s) (h : TM G US A S W w br nq nl nf nk B F x bb t s (.inl (c, j, a, lo, st) :: U) M) (hA : At W s t c j a lo st U i) (hFq : Fq W s i p) (ho : i.1 = 52) (hQ : (∀ M', TM G US A S W w br nq nl nf nk B F x bb t (doS W t s c j a lo st U i p) (gU (doS W t s c j a lo st U i p) t) M' → Q 1 M')) : w_Model_callStep_j154 0 Q (Int32.ofNat (frs U)) (Int32.ofNat q) (Int32.ofNat 52) (nc A (iM i)) (Int32.ofNat (S.idxOf (sg A (iA i) (iR i)))) (Int32.ofNat (12 * p.1 + p.2)) (Int32.ofNat 0) (Int32.ofNat (iA i).length) M := by
  have hmo : isMo i.1 := by rw [ho]; decide
  obtain ⟨d, -, hm, hl, hu, hs, h8, -⟩ := hFq.m hA.1.1 hA.1.2.1.1.1 hmo
  have e : doS W t s c j a lo st U i p = (if p.1 < 21 then sU s t (.inl (c, j, a + 1, lo, drp st ((iA i).length + 0)) :: U) else enterS W t s (.inl (c, j, a, lo, drp st ((iA i).length + 0)) :: U) p.1 p.2 (st.drop (st.length - ((iA i).length + 0)))) := (by obtain ⟨o, r⟩ := i; have ho : o = 52 := ho; subst ho; rfl)
  obtain ⟨al, -, -⟩ := cl_args hA (T := []) (by obtain ⟨o, r⟩ := i; have ho : o = 52 := ho; subst ho; rfl)
  have al : (iA i).length + 0 ≤ st.length := al
  rw [e] at hQ
  obtain ⟨⟨hf, hU⟩, ⟨hs20, hlo⟩, hst⟩ := hA.tj
  obtain ⟨l0, l1, l2, l3, l4, l5, l6, l7⟩ := h.lens
  unfold w_Model_callStep_j154
  refine ⟨3 * w + t, h.r46, by rw [l5]; exact (vp_oN (by omega)).mpr hf, _, rfl, ?_⟩
  rw [h.argT hA al, oN_add]
  exact itp rfl (ct_callGo hq h hA hm al hQ)
/-- whom it is called for -/
theorem TM.self {d : Nat} (h : TM G US A S W w br nq nl nf nk B F x bb t s (.inl (c, j, a, lo, st) :: U) M) (hd : d + 1 ≤ st.length) : mI M 176 (3 * w + t) (44 * frs U + 20 + (st.length - (d + 1))) = tr (tv st d).2 (tv st d).1 := by
  have hu := h.2.2.1.2.2.2.1.2 (st.length - 1 - d) (show st.length - 1 - d < st.length by omega)
  rw [show st.length - (d + 1) = st.length - 1 - d by omega]
  exact hu.1
theorem ct_c51 (hq : TQc W F s) (h : TM G US A S W w br nq nl nf nk B F x bb t s (.inl (c, j, a, lo, st) :: U) M) (hA : At W s t c j a lo st U i) (hFq : Fq W s i p) (ho : i.1 = 51) (hQ : (∀ M', TM G US A S W w br nq nl nf nk B F x bb t (doS W t s c j a lo st U i p) (gU (doS W t s c j a lo st U i p) t) M' → Q 1 M')) : w_Model_callStep_j154 0 Q (Int32.ofNat (frs U)) (Int32.ofNat q) (Int32.ofNat 51) (nc A (iM i)) (Int32.ofNat (S.idxOf (sg A (iA i) (iR i)))) (Int32.ofNat (12 * p.1 + p.2)) (Int32.ofNat 1) (Int32.ofNat (iA i).length) M := by
  have hmo : isMo i.1 := by rw [ho]; decide
  obtain ⟨d, -, hm, hl, hu, hs, h8, -⟩ := hFq.m hA.1.1 hA.1.2.1.1.1 hmo
  have e : doS W t s c j a lo st U i p = if (tv st (iA i).length).1 = 0 then failS W t s 2 0 else if ¬ (gmt (gc W p.1) p.2).2.2.2.1 &&& 8 = 0 then failS W t s 18 58 else (if p.1 < 21 then sU s t (.inl (c, j, a + 1, lo, drp st ((iA i).length + 1)) :: U) else enterS W t s (.inl (c, j, a, lo, drp st ((iA i).length + 1)) :: U) p.1 p.2 (st.drop (st.length - ((iA i).length + 1)))) := (by obtain ⟨o, r⟩ := i; have ho : o = 51 := ho; subst ho; rfl)
  have hw : wlist W c (gmt (gc W c) j) i = (iA i).reverse.map (fun κ => (0, κ)) ++ [if iM i = nMake then wAny else (0, (2, (gc W c).1))] := (by obtain ⟨o, r⟩ := i; have ho : o = 51 := ho; subst ho; rfl)
  obtain ⟨al, -, ar⟩ := cl_args hA hw
  have al : (iA i).length + 1 ≤ st.length := al
  obtain ⟨-, w2⟩ := ar (by simp)
  rw [e, if_neg (c := ¬ (gmt (gc W p.1) p.2).2.2.2.1 &&& 8 = 0) (fun z => z (h8 (Or.inr (Or.inl ho))))] at hQ
  obtain ⟨⟨hf, hU⟩, ⟨hs20, hlo⟩, hst⟩ := hA.tj
  obtain ⟨l0, l1, l2, l3, l4, l5, l6, l7⟩ := h.lens
  unfold w_Model_callStep_j154
  refine ⟨3 * w + t, h.r46, by rw [l5]; exact (vp_oN (by omega)).mpr hf, _, rfl, itn (by decide) ⟨3 * w + t, h.r46, ?_⟩⟩
  rw [h.argT hA al, oN_add, oN_tnc (k := 44 * frs U + 20 + (st.length - ((iA i).length + 1))) (by omega), h.self al]
  refine ⟨by rw [l6]; exact (vp_oN (by omega)).mpr (by omega), ?_⟩
  by_cases c0 : (tv st (iA i).length).1 = 0
  · rw [if_pos c0] at hQ
    exact itp ((tr_z w2.2).mpr c0) (ct_throwD (f := 2) (ru := 0) hq h hA (by omega) (by omega) hQ)
  rw [if_neg c0] at hQ
  exact itn (fun z => c0 ((tr_z w2.2).mp z)) (itp rfl (ct_callGo hq h hA hm al hQ))
theorem ct_dspE {all : Nat} {y : Int32 ⊕ (Nat × Nat)} {X : Ms} (hq : TQc W F s) (h : TM G US A S W w br nq nl nf nk B F x bb t s (.inl (c, j, a, lo, st) :: U) M) (hA : At W s t c j a lo st U i) (hy : (y = .inl 5818 ∧ X = failS W t s 18 58) ∨ ∃ m, y = .inr m ∧ (m.1 < W.length ∧ m.2 < (gc W m.1).2.2.2.2.2.length) ∧ X = (if m.1 < 21 then sU s t (.inl (c, j, a + 1, lo, drp st (all)) :: U) else enterS W t s (.inl (c, j, a, lo, drp st (all)) :: U) m.1 m.2 (st.drop (st.length - (all))))) (hall : all ≤ st.length) (th : ∀ e, y = .inl e → tThr e M) (hQ : (∀ M', TM G US A S W w br nq nl nf nk B F x bb t (X) (gU (X) t) M' → Q 1 M')) : (if (0 : Int32) ≤ rcT mT y then (w_Model_callStep_j311 0 Q (Int32.ofNat (frs U)) (rcT mT y) (Int32.ofNat all) (Int32.ofNat (44 * frs U + 20 + (st.length - all))) M) else (w_Model_throwNew 0 (mI M 11 0 81) (mI M 11 0 80) (fun M81 => Q (1 : Int32) M81) M)) := by
  have h51 := h.1.1.1.l51
  rcases hy with ⟨e1, e2⟩ | ⟨m, e1, ok, e2⟩
  · subst e1
    rw [e2] at hQ
    have th : tThr 5818 M := th 5818 rfl
    refine itn (show ¬ (0 : Int32) ≤ -1 by decide) ?_
    rw [th.1, th.2]
    exact ct_throwD (f := 18) (ru := 58) hq h hA (by omega) (by omega) hQ
  · subst e1
    rw [e2] at hQ
    have h12 := (h.1.1.1.mcn ok.1).2
    exact itp (oN_zero_le (show 12 * m.1 + m.2 < 2147483648 by omega)) (ct_callGo hq h hA ok hall hQ)
theorem cl_lk (hW : WO W) (hG : GL W s) (hv : vRf s r) (h0 : r ≠ 0) : clN s r < W.length ∧ (zL s).1 (clN s r) = 1 := by
  have := hW.1.1
  unfold clN
  cases ec : clR s r with
  | none => exact ⟨show 0 < _ by omega, hG.1.1.1.2.2.2.2 0 (by omega)⟩
  | some e0 => exact (clR_lk hW.1 hG hv h0 ec).1
theorem ct_j276 {all : Nat} (hq : TQc W F s) (h : TM G US A S W w br nq nl nf nk B F x bb t s (.inl (c, j, a, lo, st) :: U) M) (hA : At W s t c j a lo st U i) (hx : xOk A S (xi i)) (hnm : iM i ≠ nMake) (hv : vRf s r) (h0 : r ≠ 0) (hall : all ≤ st.length)
    (hQ : ∀ X, (match (match clR s r with | none => none | some d => mthW W (xi i) 5 d) with | none => failS W t s 18 58 | some m => if ¬ (gmt (gc W m.1) m.2).2.2.2.1 &&& 8 = 0 then failS W t s 18 58 else (if m.1 < 21 then sU s t (.inl (c, j, a + 1, lo, drp st (all)) :: U) else enterS W t s (.inl (c, j, a, lo, drp st (all)) :: U) m.1 m.2 (st.drop (st.length - (all))))) = X → (∀ M', TM G US A S W w br nq nl nf nk B F x bb t (X) (gU (X) t) M' → Q 1 M')) : w_Model_callStep_j276 0 Q (Int32.ofNat (frs U)) (nc A (iM i)) (Int32.ofNat (S.idxOf (sg A (iA i) (iR i)))) (Int32.ofNat all) (Int32.ofNat (44 * frs U + 20 + (st.length - all))) (tr true r) M := by
  have hW := hA.1.1
  have hG := hA.1.2.1.1.1
  have hcl := cl_lk hW hG hv h0
  have em : (match clR s r with | none => none | some d => mthW W (xi i) 5 d) = mthW W (xi i) 5 (clN s r) := by
    unfold clN
    cases ec : clR s r with
    | none => exact (mthW_row hG.1.1 hnm).symm
    | some e0 => rfl
  rw [em] at hQ
  unfold w_Model_callStep_j276
  refine ct_classOfRef hW.1 hG h.1 hq.2.1 hv h0 ?_
  generalize clN s r = cn at hcl hQ ⊢
  refine ct_dispatch (x := xi i) h.1.1 hG.1.1 hx hcl.1 hcl.2 h.1.2.2.2.2.2.1.2 (fun M1 f1 th => ?_)
  have h1 : TM G US A S W w br nq nl nf nk B F x bb t s (.inl (c, j, a, lo, st) :: U) M1 := h.lk f1 (h.1.1.fr f1).1
  refine ct_dspE hq h1 hA ?_ hall th (hQ _ rfl)
  unfold dspW
  cases ed : mthW W (xi i) 5 cn with
  | none => exact Or.inl ⟨rfl, rfl⟩
  | some m =>
    have ok := mthW_ok hcl.1 ed
    by_cases c8 : (gmt (gc W m.1) m.2).2.2.2.1 &&& 8 = 0
    · exact Or.inr ⟨m, if_neg (fun z => z c8), ⟨ok.1, ok.2.1⟩, if_neg (fun z => z c8)⟩
    · exact Or.inl ⟨if_pos c8, if_pos c8⟩
theorem ct_c50 (hq : TQc W F s) (h : TM G US A S W w br nq nl nf nk B F x bb t s (.inl (c, j, a, lo, st) :: U) M) (hA : At W s t c j a lo st U i) (hFq : Fq W s i p) (hI : TI1 A S w nl nf nk nq q n i M) (ho : i.1 = op) (hop : op = 50 ∨ op = 53) (hw : wlist W c (gmt (gc W c) j) i = (iA i).reverse.map (fun κ => (0, κ)) ++ [(0, (2, iK i))])
    (e : doS W t s c j a lo st U i p = if (tv st (iA i).length).1 = 0 then failS W t s 2 0 else if (gmt (gc W p.1) p.2).2.2.2.1 &&& 4 = 0 then (if op = 53 ∧ (match fnd W (iK i) with | none => false | some d => bel W (clN s (tv st (iA i).length).1) d) = false then failS W t s 15 59 else match (match clR s (tv st (iA i).length).1 with | none => none | some d => mthW W (xi i) 5 d) with
      | none => failS W t s 18 58
      | some m => if ¬ (gmt (gc W m.1) m.2).2.2.2.1 &&& 8 = 0 then failS W t s 18 58 else (if m.1 < 21 then sU s t (.inl (c, j, a + 1, lo, drp st ((iA i).length + 1)) :: U) else enterS W t s (.inl (c, j, a, lo, drp st ((iA i).length + 1)) :: U) m.1 m.2 (st.drop (st.length - ((iA i).length + 1)))))
      else if ¬ (gmt (gc W p.1) p.2).2.2.2.1 &&& 8 = 0 then failS W t s 18 58 else (if p.1 < 21 then sU s t (.inl (c, j, a + 1, lo, drp st ((iA i).length + 1)) :: U) else enterS W t s (.inl (c, j, a, lo, drp st ((iA i).length + 1)) :: U) p.1 p.2 (st.drop (st.length - ((iA i).length + 1)))))
    (hQ : ∀ X, doS W t s c j a lo st U i p = X → (∀ M', TM G US A S W w br nq nl nf nk B F x bb t (X) (gU (X) t) M' → Q 1 M')) : w_Model_callStep_j154 0 Q (Int32.ofNat (frs U)) (Int32.ofNat q) (Int32.ofNat op) (nc A (iM i)) (Int32.ofNat (S.idxOf (sg A (iA i) (iR i)))) (Int32.ofNat (12 * p.1 + p.2)) (Int32.ofNat 1) (Int32.ofNat (iA i).length) M := by
  have hmo : isMo i.1 := by rcases hop with z | z <;> rw [ho, z] <;> decide
  have hW := hA.1.1
  have hG := hA.1.2.1.1.1
  obtain ⟨d, hd, hm, hl, hu, hs, h8, -⟩ := hFq.m hA.1.1 hG hmo
  obtain ⟨al, -, ar⟩ := cl_args hA hw
  have al : (iA i).length + 1 ≤ st.length := al
  obtain ⟨w1, w2⟩ := ar (by simp)
  have w1 : wOne W (0, (2, iK i)) (tp (k2 W c j a) (iA i).length) = 0 := w1
  obtain ⟨⟨hf, hU⟩, ⟨hs20, hlo⟩, hst⟩ := hA.tj
  obtain ⟨l0, l1, l2, l3, l4, l5, l6, l7⟩ := h.lens
  have h51 := h.1.1.1.l51
  have h12 := (h.1.1.1.mcn hm.1).2
  have hnm : iM i ≠ nMake := by
    obtain ⟨-, -, -, ⟨-, q3, -⟩, -⟩ := hA.in
    intro z
    unfold ownS at q3
    rw [if_neg (by omega), if_neg (by omega), if_neg (by omega), if_pos (by omega), if_pos z] at q3
    exact absurd q3 (by decide)
  have hx : xOk A S (xi i) := by
    obtain ⟨⟨-, ⟨-, -, -, -, t5, -, t7⟩, -⟩, -, -⟩ := hI
    have t7 := t7 hmo
    exact ⟨t5 (Or.inr hmo), t7.1, t7.2.1, t7.2.2.1, t7.2.2.2.1⟩
  obtain ⟨⟨ra, rb, rc, rd⟩, -, -⟩ := h.1.1.1.rdA hI (Or.inr hmo)
  have hq39 := hI.2.1
  have hH := h.1.1.1.hd hm.1 hm.2
  have v := w2.fit hW.1 (wOne_fit w1 (show ¬ (2 : Int) = 0 by decide))
  obtain ⟨b1, b2'⟩ := v.1.2.2.2.1 rfl
  have hv := v.2 b1
  unfold w_Model_callStep_j154
  refine ⟨3 * w + t, h.r46, by rw [l5]; exact (vp_oN (by omega)).mpr hf, _, rfl, itn (ne_oN (b := 52) (by omega) (by omega) (by omega)) ⟨3 * w + t, h.r46, ?_⟩⟩
  rw [h.argT hA al, oN_add, oN_tnc (k := 44 * frs U + 20 + (st.length - ((iA i).length + 1))) (by omega), h.self al, b1]
  refine ⟨by rw [l6]; exact (vp_oN (by omega)).mpr (by omega), ?_⟩
  by_cases c0 : (tv st (iA i).length).1 = 0
  · exact itp ((tr_ne0 hv).mpr c0) (ct_throwD (f := 2) (ru := 0) hq h hA (by omega) (by omega) (hQ _ (e.trans (if_pos c0))))
  have e1 := e.trans (if_neg c0)
  refine itn (fun z => c0 ((tr_ne0 hv).mp z)) (itn (ne_oN (b := 51) (by omega) (by omega) (by omega)) ⟨w, h.r45, ?_⟩)
  rw [oN_tnc (k := 12 * p.1 + p.2) (by omega), hH.2.2.2.1, h.1.1.1.ml (f := 146) (by omega) (by omega)]
  refine ⟨(vp_oN (by omega)).mpr (by omega), ?_⟩
  by_cases c4 : (gmt (gc W p.1) p.2).2.2.2.1 &&& 4 = 0
  · have e2 := e1.trans (if_pos c4)
    refine itp c4 ?_
    have hcl := cl_lk hW hG hv c0
    by_cases c53 : op = 53
    · refine itp (by rw [c53]; rfl) (ct_classOfRef hW.1 hG h.1 hq.2.1 hv c0 ⟨w, h.r45, _, ra, (vp_oN (by omega)).mpr rb, ?_⟩)
      rw [oN_tnc (k := q) (by omega), rc]
      refine ct_classOf h.r45 h.1.1.1.cl.1 rd ?_
      rw [hd.1]
      have e2 := e2
      rw [hd.1] at e2
      refine ct_isBelow h.r45 h.1.1.1.cl hcl.1 (by have := hd.2.1; omega) (fun b hb => ?_)
      have hbel : bel W (clN s (tv st (iA i).length).1) d = b := by rw [Bool.eq_iff_iff, bel_iff]; exact hb.symm
      cases b with
      | false => exact itp rfl (ct_throwD (f := 15) (ru := 59) hq h hA (by omega) (by omega) (hQ _ (e2.trans (if_pos ⟨c53, hbel⟩))))
      | true =>
        have e3 := e2.trans (if_neg (fun z => by have z2 : bel W (clN s (tv st (iA i).length).1) d = false := z.2; rw [hbel] at z2; cases z2))
        exact itn (by decide) (ct_j276 hq h hA hx hnm hv c0 al (fun X hX => hQ X (e3.trans hX)))
    · have e3 := e2.trans (if_neg (fun z => c53 z.1))
      exact itn (ne_oN (b := 53) c53 (by omega) (by omega)) (ct_j276 hq h hA hx hnm hv c0 al (fun X hX => hQ X (e3.trans hX)))
  · have e2 := (e1.trans (if_neg c4)).trans (if_neg (fun z => z (h8 (Or.inr (Or.inr c4)))))
    exact itn c4 (ct_callGo hq h hA hm al (hQ _ e2))

theorem ct_c50a (hq : TQc W F s) (h : TM G US A S W w br nq nl nf nk B F x bb t s (.inl (c, j, a, lo, st) :: U) M) (hA : At W s t c j a lo st U i) (hFq : Fq W s i p) (hI : TI1 A S w nl nf nk nq q n i M) (ho : i.1 = 50) (hQ : (∀ M', TM G US A S W w br nq nl nf nk B F x bb t (doS W t s c j a lo st U i p) (gU (doS W t s c j a lo st U i p) t) M' → Q 1 M')) : w_Model_callStep_j154 0 Q (Int32.ofNat (frs U)) (Int32.ofNat q) (Int32.ofNat 50) (nc A (iM i)) (Int32.ofNat (S.idxOf (sg A (iA i) (iR i)))) (Int32.ofNat (12 * p.1 + p.2)) (Int32.ofNat 1) (Int32.ofNat (iA i).length) M := by
  refine ct_c50 hq h hA hFq hI ho (by omega) (by obtain ⟨o, r⟩ := i; have ho : o = 50 := ho; subst ho; rfl) ?_ (fun X hX => by rw [← hX]; exact hQ)
  obtain ⟨o, r⟩ := i
  have ho : o = 50 := ho
  subst ho
  by_cases c0 : (tv st (iA (50, r)).length).1 = 0
  · rw [if_pos c0]; exact if_pos c0
  rw [if_neg c0]
  refine (if_neg c0).trans ?_
  by_cases c4 : (gmt (gc W p.1) p.2).2.2.2.1 &&& 4 = 0
  · rw [if_pos c4]; exact if_pos ⟨(show ¬ (50 : Nat) = 51 by decide), c4⟩
  · rw [if_neg c4]; exact if_neg (fun z => c4 z.2)
theorem ct_c53a (hq : TQc W F s) (h : TM G US A S W w br nq nl nf nk B F x bb t s (.inl (c, j, a, lo, st) :: U) M) (hA : At W s t c j a lo st U i) (hFq : Fq W s i p) (hI : TI1 A S w nl nf nk nq q n i M) (ho : i.1 = 53) (hQ : (∀ M', TM G US A S W w br nq nl nf nk B F x bb t (doS W t s c j a lo st U i p) (gU (doS W t s c j a lo st U i p) t) M' → Q 1 M')) : w_Model_callStep_j154 0 Q (Int32.ofNat (frs U)) (Int32.ofNat q) (Int32.ofNat 53) (nc A (iM i)) (Int32.ofNat (S.idxOf (sg A (iA i) (iR i)))) (Int32.ofNat (12 * p.1 + p.2)) (Int32.ofNat 1) (Int32.ofNat (iA i).length) M := by
  refine ct_c50 hq h hA hFq hI ho (by omega) (by obtain ⟨o, r⟩ := i; have ho : o = 53 := ho; subst ho; rfl) ?_ (fun X hX => by rw [← hX]; exact hQ)
  obtain ⟨o, r⟩ := i
  have ho : o = 53 := ho
  subst ho
  by_cases c0 : (tv st (iA (53, r)).length).1 = 0
  · rw [if_pos c0]; exact if_pos c0
  rw [if_neg c0]
  refine (if_neg c0).trans ?_
  by_cases c4 : (gmt (gc W p.1) p.2).2.2.2.1 &&& 4 = 0
  · rw [if_pos c4]; exact if_pos ⟨(show ¬ (53 : Nat) = 51 by decide), c4⟩
  · rw [if_neg c4]; exact if_neg (fun z => c4 z.2)
end
