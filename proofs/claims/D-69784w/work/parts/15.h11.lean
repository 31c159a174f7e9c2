/-! THE MACHINE IN THE TWIN: what is thrown goes down the units -/
section
variable {G : List Sl} {US : UST} {A : List Nm} {S : List Sg} {W : List Cls} {w c j a k t L : Nat} {br x r : Int32} {bb : Bool} {nq nl nf nk B F : Nat} {M M' : Mem} {s s' : Ms} {U V : List Un} {lo st lo' st' : List Vl} {o : Option Kd}
theorem neg1 {k : Nat} (hk : k < 1000000) : (-1 : Int32) - Int32.ofNat k < 0 ∧ (-1 : Int32) - ((-1 : Int32) - Int32.ofNat k) = Int32.ofNat k := by
  have e1 : (Int32.ofNat k).toInt = k := oN_toInt (by omega)
  have e2 : ((-1 : Int32) - Int32.ofNat k).toInt = -1 - (k : Int) := by
    rw [Int32.toInt_sub, e1, show (-1 : Int32).toInt = -1 from rfl]
    exact Int.bmod_eq_of_le (by omega) (by omega)
  refine ⟨?_, ?_⟩
  · rw [Int32.lt_iff_toInt_lt, e2, show (0 : Int32).toInt = 0 from rfl]; omega
  · apply Int32.toInt_inj.mp
    rw [Int32.toInt_sub, e2, e1, show (-1 : Int32).toInt = -1 from rfl, show (-1 : Int) - (-1 - (k : Int)) = k by omega]
    exact Int.bmod_eq_of_le (by omega) (by omega)
theorem lastT {f : Nat} {ru : Int32} (h : (zF s).length + 1 < 1000000) : tr true (lastF (addFt s f ru)) = Int32.ofNat (1001 + (zF s).length) := by
  have e : (zF (addFt s f ru)).length = (zF s).length + 1 := by
    show (zF s ++ _).length = _
    rw [List.length_append, List.length_singleton]
  show tr true (Int32.ofNat (800 + (zF (addFt s f ru)).length)) = _
  rw [e, tr_n (by omega), if_pos ⟨rfl, by omega⟩]
  congr 1; omega
/-- a frame goes: 13.22 is told, 13.16 not yet -/
theorem TM.popF {f : Fm} (h : TM G US A S W w br nq nl nf nk B F x bb t s (.inl f :: U) M) {M1 : Mem} (h1 : TXm G US A S W w br nq nl nf nk B F x t s' M1) (hN : zN s' t = zN s t) (hf : Fr SNt (sI M 13 (3 * w + t) 22 (Int32.ofNat (frs U))) M1) : TM G US A S W w br nq nl nf nk B F x bb t s' U (sI M1 13 (3 * w + t) 16 (Int32.ofNat U.length)) := by
  have ag : AgU w t M1 (sI M1 13 (3 * w + t) 16 (Int32.ofNat U.length)) := AgU.rf.w13
  have rd : ∀ i, i < 23 → i ≠ 16 → i ≠ 22 → mI (sI M1 13 (3 * w + t) 16 (Int32.ofNat U.length)) 13 (3 * w + t) i = mI M 13 (3 * w + t) i := fun i h23 h16 h22 => by
    rw [mI_sI, if_neg (fun z => h16 z.2.2), nt_I hf rfl (fun _ => h23), mI_sI, if_neg (fun z => h22 z.2.2)]
  have ra : ∀ g i, tnF g = true → g ≠ 13 → mI (sI M1 13 (3 * w + t) 16 (Int32.ofNat U.length)) g (3 * w + t) i = mI M g (3 * w + t) i := fun g i hg h13 => by
    rw [mI_sI, if_neg (fun z => h13 z.1), nt_I hf hg (fun z => absurd z h13), mI_sI, if_neg (fun z => h13 z.1)]
  have rl' : ∀ g, tnF g = true → mL (sI M1 13 (3 * w + t) 16 (Int32.ofNat U.length)) g (3 * w + t) = mL M g (3 * w + t) := fun g hg => nt_L hf hg _
  refine ⟨h1.ag ag, ?_, ⟨by rw [mI_sI, if_pos ⟨rfl, rfl, rfl⟩], ?_, ?_⟩, fun z => ?_⟩
  · rw [hN]
    obtain ⟨⟨a1, a2, a3, a4, a5, a6, a7, a8⟩, ⟨b1, b2'⟩, ⟨c1, c2, c3, c4⟩, d, e⟩ := h.2.1
    refine ⟨⟨(rl' 170 rfl).trans a1, (rl' 171 rfl).trans a2, (rl' 172 rfl).trans a3, (rl' 173 rfl).trans a4, (rl' 174 rfl).trans a5, (rl' 175 rfl).trans a6, (rl' 176 rfl).trans a7, (rl' 525 rfl).trans a8⟩, ⟨(rd 0 (by omega) (by omega) (by omega)).trans b1, (rd 3 (by omega) (by omega) (by omega)).trans b2'⟩, ⟨(rd 10 (by omega) (by omega) (by omega)).trans c1, (rd 11 (by omega) (by omega) (by omega)).trans c2, (rd 12 (by omega) (by omega) (by omega)).trans c3, (rd 13 (by omega) (by omega) (by omega)).trans c4⟩, ?_, fun z => ?_⟩
    · unfold uW at *
      rw [rd 1 (by omega) (by omega) (by omega), rd 2 (by omega) (by omega) (by omega)]; exact d
    · obtain ⟨e1, e2, e3, e4, e5, e6⟩ := e z
      rw [rd 5 (by omega) (by omega) (by omega), rd 6 (by omega) (by omega) (by omega), rd 7 (by omega) (by omega) (by omega)]
      exact ⟨e1, e2, e3, e4, e5, fun k hk => (ra 170 k rfl (by omega)).trans (e6 k hk)⟩
  · rw [mI_sI, if_neg (fun z => absurd z.2.2 (by decide)), nt_I hf rfl (by omega), mI_sI, if_pos ⟨rfl, rfl, rfl⟩]
  · refine unT.eq' (fun g i hg => ra g i ?_ (by omega)) h.2.2.1.2.2.2.2
    have : g = 171 ∨ g = 172 ∨ g = 173 ∨ g = 174 ∨ g = 175 ∨ g = 176 ∨ g = 525 := by omega
    rcases this with z | z | z | z | z | z | z <;> subst z <;> rfl
  · rw [hN] at z
    rw [rd 4 (by omega) (by omega) (by omega)]; exact h.2.2.2 z
/-- push on the stack of the top frame -/
theorem ct_pushRaw {Q : Mem → Prop} {v : Int32} {b : Bool} {m f : Nat} (R6 : mR M 11 0 46 = some (13, L)) (l5 : mL M 175 L = 40) (l6 : mL M 176 L = 1760) (l7 : mL M 525 L = 1760) (hf : f < 40) (hm : m < 24) (e175 : mI M 175 L f = Int32.ofNat m) (hQ : Q (sI (sI (sI M 176 L (44 * f + 20 + m) v) 525 L (44 * f + 20 + m) (b2 b)) 175 L f (Int32.ofNat (m + 1)))) : w_Model_push 0 (Int32.ofNat f) v (b2 b) Q M := by
  unfold w_Model_push
  have hb : (b2 b &&& 1) = b2 b := by cases b <;> decide
  refine ⟨L, R6, by rw [l5]; exact (vp_oN (by omega)).mpr hf, Int32.ofNat (44 * f + 20 + m), ?_, L, R6, by rw [l6]; exact (vp_oN (by omega)).mpr (by omega), L, R6, by show vp_in _ (mL M 525 L); rw [l7]; exact (vp_oN (by omega)).mpr (by omega), _, rfl, L, R6, by show vp_in _ (mL M 175 L); rw [l5]; exact (vp_oN (by omega)).mpr hf, by show vp_in _ (mL M 175 L); rw [l5]; exact (vp_oN (by omega)).mpr hf, _, rfl, ?_⟩
  · rw [oN_tnc (k := f) (by omega), e175, show (44 : Int32) * Int32.ofNat f = Int32.ofNat (44 * f) from oN_mul 44 f, show Int32.ofNat (44 * f) + (20 : Int32) = Int32.ofNat (44 * f + 20) from oN_add _ 20, oN_add]
  · rw [oN_tnc (k := f) (by omega), oN_tnc (k := 44 * f + 20 + m) (by omega), hb, show ∀ v v', mI (sI (sI M 176 L (44 * f + 20 + m) v) 525 L (44 * f + 20 + m) v') 175 L f = Int32.ofNat m from fun v v' => by rw [mI_sI, if_neg (fun z => absurd z.1 (by decide)), mI_sI, if_neg (fun z => absurd z.1 (by decide))]; exact e175, show Int32.ofNat m + (1 : Int32) = Int32.ofNat (m + 1) from oN_add m 1]
    exact hQ
/-- the same, for one frame whose stack may have changed -/
theorem ct_unwI (hW : WO W) (hFb : F < 1000000) {m : Nat} {Q : Mem → Prop} (ih : ∀ (m : Nat) (o : Option Kd) (s : Ms) (r : Int32) (M : Mem) (Q : Mem → Prop), TM G US A S W w br nq nl nf nk B F x bb t s U M → MO W s t o U → lSt (zN s t) = 1 → thO W s r → r ≠ 0 → (zF s).length + U.length < F → U.length < m → (∀ M', TM G US A S W w br nq nl nf nk B F x bb t (unw W t U r s) (gU (unw W t U r s) t) M' → Q M') → w_Model_unwind_L2 0 Q m (tr true r) M) (h : TM G US A S W w br nq nl nf nk B F x bb t s (.inl (c, j, a, lo, st') :: U) M) (hM : MO W s t o (.inl (c, j, a, lo, st) :: U)) (hon : lSt (zN s t) = 1) (hr : thO W s r) (h0 : r ≠ 0) (hF : (zF s).length + (U.length + 1) < F) (hm : U.length + 1 < m) (hQ : ∀ M', TM G US A S W w br nq nl nf nk B F x bb t (unw W t (.inl (c, j, a, lo, st) :: U) r s) (gU (unw W t (.inl (c, j, a, lo, st) :: U) r s) t) M' → Q M') : w_Model_unwind_L2 0 Q m (tr true r) M := by
  obtain ⟨m, rfl⟩ : ∃ m', m = m' + 1 := ⟨m - 1, by omega⟩
  have R5 := h.1.1.1.r45
  have R6 : mR M 11 0 46 = some (13, 3 * w + t) := h.1.2.2.2.2.1.1
  have e16 : mI M 13 (3 * w + t) 16 = Int32.ofNat (U.length + 1) := h.2.2.1.1
  have hlen := hM.2.2.2.1.len hW
  have hlen : U.length + 1 ≤ 91 := hlen
  obtain ⟨⟨l0, l1, l2, l3, l4, l5, l6, l7⟩, -⟩ := h.2.1
  have h51 := h.1.l5
  unfold w_Model_unwind_L2
  refine ⟨3 * w + t, R6, ?_⟩
  rw [e16]
  refine itn (fun z => by have := (oN_le (a := U.length + 1) (b := 0) (by omega) (by omega)).mp z; omega) ⟨3 * w + t, R6, 3 * w + t, R6, ?_⟩
  rw [e16, pred, oN_tnc (k := U.length) (by omega)]
  refine ⟨by rw [l1]; exact (vp_oN (by omega)).mpr (by omega), ?_⟩
  obtain ⟨⟨hF1, hF2, hUO⟩, hnd, hfr⟩ := id hM.2.2.2.1
  have hfr : frs U + 1 ≤ 40 := hfr
  have e171 : mI M 171 (3 * w + t) U.length = Int32.ofNat (frs U) := h.2.2.1.2.2.1.1.1
  have e173 : mI M 173 (3 * w + t) (frs U) = Int32.ofNat (12 * c + j) := h.2.2.1.2.2.1.2.1
  have e22 : mI M 13 (3 * w + t) 22 = Int32.ofNat (frs U + 1) := h.2.2.1.2.1
  refine ⟨_, e171.symm, itn (oN_nonneg (show frs U < 2147483648 by omega)) (ct_handlerOf hW hM h hFb hr h0 (fun ec => ?_) (fun g i ec hi e154 => ?_))⟩
  · refine itp (by decide) ⟨3 * w + t, R6, 3 * w + t, R6, by show vp_in _ (mL M 173 _); rw [l3]; exact (vp_oN (by omega)).mpr (by omega), ?_⟩
    rw [e22, pred, oN_tnc (k := frs U) (by omega), show mI (sI M 13 (3 * w + t) 22 (Int32.ofNat (frs U))) 173 (3 * w + t) (frs U) = oJt c (some j) from by rw [mI_sI, if_neg (fun z => absurd z.1 (by decide))]; exact e173]
    have ag : AgU w t M (sI M 13 (3 * w + t) 22 (Int32.ofNat (frs U))) := AgU.rf.w13
    refine ct_note (what := 3) (k := c) (m := some j) (h.1.ag ag) hM.1.2.1 (by rw [mI_sI, if_neg (fun z => absurd z.2.2 (by decide))]; exact h.2.1.2.1.2) (fun M1 h1 f1 => ?_)
    have h2 := h.popF (s' := evS s t 3 c (some j)) h1 (by rw [ev_N]) f1
    obtain ⟨e1, e2, e3, e4, e5, e6, e7, e8, e9, -, e10⟩ := evS_r (s := s) (t' := t) (w := 3) (k := c) (m := some j)
    unfold w_Model_unwind_j195
    refine ⟨3 * w + t, h1.2.2.2.2.1.1, ?_⟩
    rw [show mI M1 13 (3 * w + t) 16 = Int32.ofNat (U.length + 1) from by rw [nt_I f1 rfl (by omega), mI_sI, if_neg (fun z => absurd z.2.2 (by decide))]; exact e16, pred]
    have eu : unw W t (.inl (c, j, a, lo, st) :: U) r s = unw W t U r (evS s t 3 c (some j)) := by
      show (match catH W a (clN s r) (hs (gmt (gc W c) j)) with | some g => _ | none => _) = _
      rw [ec]
    rw [eu] at hQ
    exact ih m _ _ r _ Q h2 (hM.popF.ev) (by rw [e8]; exact hon) (hr.mv (sle_of e6 e7) e1) h0 (by rw [e7]; omega) (by omega) hQ
  · have eu : unw W t (.inl (c, j, a, lo, st) :: U) r s = evS (sU s t (.inl (c, j, g, lo, [(r, true)]) :: U)) t 7 c (some j) := by
      show (match catH W a (clN s r) (hs (gmt (gc W c) j)) with | some g => _ | none => _) = _
      rw [ec]
    have eg : gU (evS (sU s t (.inl (c, j, g, lo, [(r, true)]) :: U)) t 7 c (some j)) t = .inl (c, j, g, lo, [(r, true)]) :: U := by
      show lU (zN (evS _ _ _ _ _) t) = _
      rw [ev_N]; exact gU_sU
    rw [eu, eg] at hQ
    refine itn (oN_nonneg (show i < 2147483648 by omega)) ⟨3 * w + t, R6, by rw [l5]; exact (vp_oN (by omega)).mpr (by omega), ?_⟩
    rw [oN_tnc (k := frs U) (by omega)]
    refine ct_pushRaw (L := 3 * w + t) (b := true) (m := 0) R6 l5 l6 l7 (by omega) (by omega) (by rw [mI_sI, if_pos ⟨rfl, rfl, rfl⟩]; rfl) ?_
    refine ⟨3 * w + t, R6, w, R5, by show vp_in _ (mL M 154 w); rw [h.1.1.1.ms.2.1 154 (by omega) (by omega)]; exact (vp_oN (by omega)).mpr hi, by show vp_in _ (mL M 174 _); rw [l4]; exact (vp_oN (by omega)).mpr (by omega), 3 * w + t, R6, by show vp_in _ (mL M 173 _); rw [l3]; exact (vp_oN (by omega)).mpr (by omega), ?_⟩
    rw [oN_tnc (k := i) (by omega)]
    have e154' : mI (sI (sI (sI (sI M 175 (3 * w + t) (frs U) 0) 176 (3 * w + t) (44 * frs U + 20 + 0) (tr true r)) 525 (3 * w + t) (44 * frs U + 20 + 0) (b2 true)) 175 (3 * w + t) (frs U) (Int32.ofNat (0 + 1))) 154 w i = Int32.ofNat g := by
      simp only [mI_sI, Nat.reduceEqDiff, false_and, if_false]; exact e154
    rw [e154']
    have ht := h.top0 (M' := sI (sI (sI (sI (sI M 175 (3 * w + t) (frs U) 0) 176 (3 * w + t) (44 * frs U + 20 + 0) (tr true r)) 525 (3 * w + t) (44 * frs U + 20 + 0) (b2 true)) 175 (3 * w + t) (frs U) (Int32.ofNat (0 + 1))) 174 (3 * w + t) (frs U) (Int32.ofNat g)) (a' := g) (lo' := lo) (st' := [(r, true)]) (UO.stk hW hM.1.1 hM.2.2.2.1.1).2 AgU.rf.wa.wa.wa.wa.wa
      (fun y i hy => by rcases hy with z | z <;> subst z <;> simp only [mI_sI, Nat.reduceEqDiff, false_and, if_false])
      (fun i => by simp only [mI_sI, Nat.reduceEqDiff, false_and, if_false])
      (fun y i hy hi => by
        have hne : ¬ i = frs U := by omega
        rcases hy with z | z <;> subst z <;> simp only [mI_sI, Nat.reduceEqDiff, false_and, if_false, true_and, hne])
      (fun i hi => by
        have hne : ¬ i = 44 * frs U + 20 + 0 := by omega
        simp only [mI_sI, Nat.reduceEqDiff, false_and, if_false, true_and, hne, and_self])
      (fun i => by simp only [mI_sI, Nat.reduceEqDiff, false_and, if_false])
      (fun i => by simp only [mI_sI, Nat.reduceEqDiff, false_and, if_false])
      (fun f => rfl)
      (by simp only [mI_sI, and_self, if_true])
      (by simp only [mI_sI, Nat.reduceEqDiff, false_and, if_false, and_self, if_true]; rfl)
      (fun k hk => by
        have hne : ¬ 44 * frs U + k = 44 * frs U + 20 + 0 := by omega
        simp only [mI_sI, Nat.reduceEqDiff, false_and, if_false, true_and, hne]
        exact h.2.2.1.2.2.2.1.1 k hk)
      (fun k hk => by
        have : k = 0 := by have : k < 1 := hk; omega
        subst this
        simp only [mI_sI, Nat.reduceEqDiff, false_and, if_false, and_self, if_true]
        exact ⟨rfl, rfl⟩)
    generalize sI (sI (sI (sI (sI M 175 (3 * w + t) (frs U) 0) 176 (3 * w + t) (44 * frs U + 20 + 0) (tr true r)) 525 (3 * w + t) (44 * frs U + 20 + 0) (b2 true)) 175 (3 * w + t) (frs U) (Int32.ofNat (0 + 1))) 174 (3 * w + t) (frs U) (Int32.ofNat g) = M2 at ht ⊢
    rw [show mI M2 173 (3 * w + t) (frs U) = oJt c (some j) from ht.2.2.1.2.2.1.2.1]
    exact k_note (what := 7) (k := c) (m := some j) ht.su hM.1.2.1 (fun M3 h3 _ => hQ M3 h3)
theorem ct_unw (hW : WO W) (hFb : F < 1000000) : ∀ (U : List Un) (m : Nat) (o : Option Kd) (s : Ms) (r : Int32) (M : Mem) (Q : Mem → Prop), TM G US A S W w br nq nl nf nk B F x bb t s U M → MO W s t o U → lSt (zN s t) = 1 → thO W s r → r ≠ 0 → (zF s).length + U.length < F → U.length < m → (∀ M', TM G US A S W w br nq nl nf nk B F x bb t (unw W t U r s) (gU (unw W t U r s) t) M' → Q M') → w_Model_unwind_L2 0 Q m (tr true r) M := by
  intro U
  induction U with
  | nil =>
    intro m o s r M Q h hM hon hr h0 hF hm hQ
    obtain ⟨m, rfl⟩ : ∃ m', m = m' + 1 := ⟨m - 1, by have : 0 < m := hm; omega⟩
    have R6 : mR M 11 0 46 = some (13, 3 * w + t) := h.1.2.2.2.2.1.1
    have e16 : mI M 13 (3 * w + t) 16 = Int32.ofNat 0 := h.2.2.1.1
    unfold w_Model_unwind_L2
    refine ⟨3 * w + t, R6, ?_⟩
    rw [e16]
    refine itp (by decide) ⟨3 * w + t, R6, 3 * w + t, R6, 3 * w + t, R6, _, rfl, 3 * w + t, R6, ?_⟩
    have ag1 : AgU w t M (sI (sI (sI M 13 (3 * w + t) 0 2) 13 (3 * w + t) 10 0) 13 (3 * w + t) 11 0) := AgU.rf.w13.w13.w13
    refine ct_classOfRef hW.1 hM.1.1 (h.1.ag ag1) hFb hr.1 h0 ⟨3 * w + t, R6, ?_⟩
    have ag2 : AgU w t M (sI (sI (sI (sI M 13 (3 * w + t) 0 2) 13 (3 * w + t) 10 0) 13 (3 * w + t) 11 0) 13 (3 * w + t) 12 (Int32.ofNat (clN s r))) := AgU.rf.w13.w13.w13.w13
    have eN : zN (unw W t [] r s) t = qR (zN s t) 2 (0, 0, Int32.ofNat (clN s r), ruR s r) := up1_s
    have eg : gU (unw W t [] r s) t = [] := by show lU (zN (unw W t [] r s) t) = []; rw [eN]
    have fin : ∀ y, y = ruR s r → w_Model_unwind_j275 0 Q y (3 * w + t) (sI (sI (sI (sI M 13 (3 * w + t) 0 2) 13 (3 * w + t) 10 0) 13 (3 * w + t) 11 0) 13 (3 * w + t) 12 (Int32.ofNat (clN s r))) := fun y hy => by
      subst hy
      unfold w_Model_unwind_j275
      refine hQ _ ?_
      rw [eg]
      have ag3 : AgU w t M (sI (sI (sI (sI (sI M 13 (3 * w + t) 0 2) 13 (3 * w + t) 10 0) 13 (3 * w + t) 11 0) 13 (3 * w + t) 12 (Int32.ofNat (clN s r))) 13 (3 * w + t) 13 (ruR s r)) := AgU.rf.w13.w13.w13.w13.w13
      have rd : ∀ i, i ≠ 0 → i ≠ 10 → i ≠ 11 → i ≠ 12 → i ≠ 13 → mI (sI (sI (sI (sI (sI M 13 (3 * w + t) 0 2) 13 (3 * w + t) 10 0) 13 (3 * w + t) 11 0) 13 (3 * w + t) 12 (Int32.ofNat (clN s r))) 13 (3 * w + t) 13 (ruR s r)) 13 (3 * w + t) i = mI M 13 (3 * w + t) i := fun i h1 h2 h3 h4 h5 => by
        rw [mI_sI, if_neg (fun z => h5 z.2.2), mI_sI, if_neg (fun z => h4 z.2.2), mI_sI, if_neg (fun z => h3 z.2.2), mI_sI, if_neg (fun z => h2 z.2.2), mI_sI, if_neg (fun z => h1 z.2.2)]
      obtain ⟨hln, ⟨b1, b2'⟩, -, d, e⟩ := h.2.1
      refine ⟨(h.1.ag ag3).yn, ?_, ⟨(rd 16 (by omega) (by omega) (by omega) (by omega) (by omega)).trans e16, (rd 22 (by omega) (by omega) (by omega) (by omega) (by omega)).trans h.2.2.1.2.1, trivial⟩, fun z => ?_⟩
      · rw [eN]
        refine ⟨hln, ⟨?_, (rd 3 (by omega) (by omega) (by omega) (by omega) (by omega)).trans b2'⟩, ⟨?_, ?_, ?_, ?_⟩, ?_, fun z => absurd (show 2 = 1 from z) (by omega)⟩
        · show _ = if (zN s t).1 = true then Int32.ofNat 2 else -2
          rw [if_pos (e hon).1]
          simp only [mI_sI, Nat.reduceEqDiff, and_false, if_false, and_self, if_true]; rfl
        · simp only [mI_sI, Nat.reduceEqDiff, and_false, if_false, and_self, if_true]
        · simp only [mI_sI, Nat.reduceEqDiff, and_false, if_false, and_self, if_true]
        · simp only [mI_sI, Nat.reduceEqDiff, and_false, if_false, and_self, if_true]
        · simp only [mI_sI, and_self, if_true]
        · have d' : uW (zN s t) (3 * w + t) M := d
          unfold uW at d' ⊢
          rw [rd 1 (by omega) (by omega) (by omega) (by omega) (by omega), rd 2 (by omega) (by omega) (by omega) (by omega) (by omega)]
          exact d'
      · rw [eN] at z; exact absurd (show 2 = 1 from z) (by omega)
    obtain ⟨n, ⟨e, en, hb⟩, et, hn⟩ := tr_ref hr.1
    rw [et]
    by_cases c8 : 800 < n
    · rw [if_pos c8]
      have hn2 : n ≤ 800 + (zF s).length := by rcases hn with z | z | z <;> omega
      obtain ⟨-, hX, hrr⟩ := h.1.2.2.1.2
      obtain ⟨m1, p1, q1⟩ := hX (sFu w) (by simp)
      have r1 := (h.1.1.1.1.2.2.2 _ m1).1.1
      refine itn (fun y => by have := (oN_lt (a := n + 200) (b := 1001) (by omega) (by omega)).mp y; omega) ⟨w, h.1.1.1.r45, rdI M (sFu w), r1, ?_⟩
      rw [f1001 (by omega), oN_tnc (k := n - 801) (by omega)]
      refine ⟨(vp_oN (by omega)).mpr (by show n - 801 < rl M (sFu w); omega), fin _ ?_⟩
      have e1 : mI M 300 (rdI M (sFu w)) (n - 801) = (gFt s (n - 801)).2.1 := (hrr (n - 801) (by omega)).2.1
      have : ruR s r = (gFt s (n - 801)).2.1 := by unfold ruR; rw [en, if_pos c8]
      rw [this, ← e1]
      simp only [mI_sI, Nat.reduceEqDiff, false_and, if_false]
    · rw [if_neg c8]
      refine itp ((oN_lt (a := n) (b := 1001) (by omega) (by omega)).mpr (by omega)) (fin 0 ?_)
      unfold ruR; rw [en, if_neg c8]
  | cons u U ih =>
    intro m o s r M Q h hM hon hr h0 hF hm hQ
    have hm : U.length + 1 < m := hm
    have hF : (zF s).length + (U.length + 1) < F := hF
    cases u with
    | inl f =>
      obtain ⟨c, j, a, lo, st⟩ := f
      exact ct_unwI hW hFb ih h hM hon hr h0 hF hm hQ
    | inr ko =>
      obtain ⟨m, rfl⟩ : ∃ m', m = m' + 1 := ⟨m - 1, by omega⟩
      have R5 := h.1.1.1.r45
      have R6 : mR M 11 0 46 = some (13, 3 * w + t) := h.1.2.2.2.2.1.1
      have e16 : mI M 13 (3 * w + t) 16 = Int32.ofNat (U.length + 1) := h.2.2.1.1
      have hlen := hM.2.2.2.1.len hW
      have hlen : U.length + 1 ≤ 91 := hlen
      obtain ⟨⟨l0, l1, l2, l3, l4, l5, l6, l7⟩, -⟩ := h.2.1
      have h51 := h.1.l5
      unfold w_Model_unwind_L2
      refine ⟨3 * w + t, R6, ?_⟩
      rw [e16]
      refine itn (fun z => by have := (oN_le (a := U.length + 1) (b := 0) (by omega) (by omega)).mp z; omega) ⟨3 * w + t, R6, 3 * w + t, R6, ?_⟩
      rw [e16, pred, oN_tnc (k := U.length) (by omega)]
      refine ⟨by rw [l1]; exact (vp_oN (by omega)).mpr (by omega), ?_⟩
      obtain ⟨k, own⟩ := ko
      have hk := hM.2.2.2.1.1.2.1.1.2
      obtain ⟨ng1, ng2⟩ := neg1 (k := k) (by omega)
      have e171 : mI M 171 (3 * w + t) U.length = (-1 : Int32) - Int32.ofNat k := h.2.2.1.2.2.1.1
      generalize hy : (-1 : Int32) - Int32.ofNat k = y at ng1 ng2 e171
      have hy2 : y = oJt k none := hy.symm
      refine ⟨y, e171.symm, ?_⟩
      have l137 : mL M 137 w = 51 := h.1.1.1.1.1.1.1.2.2.2.2.2.1
      refine itp ng1 ⟨w, R5, ?_⟩
      rw [ng2, oN_tnc (k := k) (by omega), l137, hy2]
      refine ⟨(vp_oN (by omega)).mpr (by omega), ?_⟩
      have hc := h.cl (v := 3) hk (by decide)
      refine k_note (what := 6) (k := k) (m := none) hc hM.1.2.1 (fun M1 h1 f1 => ?_)
      have R61 : mR M1 11 0 46 = some (13, 3 * w + t) := h1.1.2.2.2.2.1.1
      have l21 : mL M1 172 (3 * w + t) = 99 := h1.2.1.1.2.2.1
      have e172 : mI M1 172 (3 * w + t) U.length = if own = true then 2 else 1 := h1.2.2.1.2.2.1.2
      have hM1 := (hM.popS (v := 3) (Or.inr rfl)).ev (t' := t) (w := 6) (k := k) (m := none)
      obtain ⟨e1, e2, e3, e4, e5, e6, e7, e8, e9, -, e10⟩ := evS_r (s := yC s (up1 (zC s) k 3)) (t' := t) (w := 6) (k := k) (m := none)
      have hs1 : sle s (evS (yC s (up1 (zC s) k 3)) t 6 k none) := sle_of e6 e7
      have r1 := hr.mv hs1 e1
      have hon1 : lSt (zN (evS (yC s (up1 (zC s) k 3)) t 6 k none) t) = 1 := by rw [e8]; exact hon
      have hcl : clN (evS (yC s (up1 (zC s) k 3)) t 6 k none) r = clN s r := by unfold clN; rw [(hs1 r hr.1).2]
      refine ⟨3 * w + t, R61, by rw [l21]; exact (vp_oN (by omega)).mpr (by omega), ?_⟩
      rw [e172]
      have go : ∀ r' M2 s2, TM G US A S W w br nq nl nf nk B F x bb t s2 (.inr (k, own) :: U) M2 → MO W s2 t none U → lSt (zN s2 t) = 1 → thO W s2 r' → r' ≠ 0 → (zF s2).length + U.length < F → unw W t (.inr (k, own) :: U) r s = unw W t U r' s2 → w_Model_unwind_j195 0 Q (w_Model_unwind_L2 0 Q m) (tr true r') M2 := fun r' M2 s2 h2 hM2 hon2 hr2 h02 hF2 eu => by
        unfold w_Model_unwind_j195
        refine ⟨3 * w + t, h2.1.2.2.2.2.1.1, ?_⟩
        rw [show mI M2 13 (3 * w + t) 16 = Int32.ofNat (U.length + 1) from h2.2.2.1.1, pred]
        rw [eu] at hQ
        exact ih m none s2 r' _ Q h2.pop1 hM2 hon2 hr2 h02 hF2 (by omega) hQ
      have same : unw W t (.inr (k, own) :: U) r s = unw W t U r (evS (yC s (up1 (zC s) k 3)) t 6 k none) → w_Model_unwind_j195 0 Q (w_Model_unwind_L2 0 Q m) (tr true r) M1 := fun eu => go r M1 _ h1 hM1 hon1 r1 h0 (by rw [e7]; show (zF s).length + U.length < F; omega) eu
      cases own with
      | false =>
        refine itn (by decide) (same ?_)
        show (if false = true ∧ _ then _ else _) = _
        rw [if_neg (fun z => by cases z.1)]
      | true =>
        refine itp rfl (ct_classOfRef hW.1 hM1.1.1 h1.1 hFb r1.1 h0 ?_)
        rw [hcl]
        obtain ⟨e, -, hce, ⟨hel, -⟩, -⟩ := hr.cl
        have h21 := hM.1.1.1.1.1.2.2.2.1
        refine ct_isBelow h1.1.1.1.r45 h1.1.1.1.cl (by rw [hce]; exact hel) (ab := 10) (by omega) (fun b hb => ?_)
        cases b with
        | true =>
          have : bel W (clN s r) 10 = true := bel_iff.mpr (hb.mp rfl)
          refine itn (by decide) (same ?_)
          show (if true = true ∧ bel W (clN s r) 10 = false then _ else _) = _
          rw [if_neg (fun z => by rw [this] at z; cases z.2)]
        | false =>
          have : bel W (clN s r) 10 = false := by
            cases eb : bel W (clN s r) 10 with
            | false => rfl
            | true => have := hb.mpr (bel_iff.mp eb); cases this
          have hlen7 : (zF (evS (yC s (up1 (zC s) k 3)) t 6 k none)).length = (zF s).length := by rw [e7]
          refine itp rfl (ct_newFault (f := 20) (ru := 0) h1 (by rw [hlen7]; omega) hFb (fun M2 h2 => ?_))
          have g := go (lastF (addFt (evS (yC s (up1 (zC s) k 3)) t 6 k none) 20 0)) M2 (addFt (evS (yC s (up1 (zC s) k 3)) t 6 k none) 20 0) h2 (hM1.addF (by omega) (by omega)) hon1 (thO.new hW.1 hM1.1.1.1.1 (by omega) (by omega) (by rw [hlen7]; omega)) (lastF_ne (by rw [hlen7]; omega)) (by show (zF (evS _ _ _ _ _) ++ _).length + U.length < F; rw [List.length_append, hlen7]; show (zF s).length + 1 + U.length < F; omega) (by
            show (if true = true ∧ bel W (clN s r) 10 = false then _ else _) = _
            rw [if_pos ⟨rfl, this⟩])
          rw [lastT (by rw [hlen7]; omega)] at g
          exact g
end
