/-! THE MACHINE IN THE WORKS: what is thrown goes down -/
section
variable {A : List Nm} {W : List Cls} {w C B F t L : Nat} {br : Int32} {nq nk np nh nr : Nat} {s s' : Ms} {M M' M1 : Mem} {S : Nat} {l : Ln} {U V : List Un} {r : Int32} {c j a : Nat} {lo st : List Vl} {o : Option Kd}
theorem rL.g2 (h : rL L t l M) (h7 : ∀ k, k ≠ 1 → k ≠ 2 → mI M' 7 L k = mI M 7 L k) (h95 : ∀ k, mI M' 95 L k = mI M 95 L k) (hl : ∀ f, mL M' f L = mL M f L) : rL L t l M' := by
  obtain ⟨⟨a1, a2, a3, a4⟩, ⟨b1, b2', b3, b4⟩, ⟨c1, c2, c3, c4⟩, d, e⟩ := h
  refine ⟨⟨fun f h1 h2 => (hl f).trans (a1 f h1 h2), (hl 94).trans a2, (hl 514).trans a3, (hl 95).trans a4⟩, ⟨(h7 0 (by omega) (by omega)).trans b1, (h7 10 (by omega) (by omega)).trans b2', (h7 11 (by omega) (by omega)).trans b3, (h7 12 (by omega) (by omega)).trans b4⟩, ⟨(h7 13 (by omega) (by omega)).trans c1, (h7 14 (by omega) (by omega)).trans c2, (h7 15 (by omega) (by omega)).trans c3, (h7 16 (by omega) (by omega)).trans c4⟩, ?_, fun z k hk => (h95 k).trans (e z k hk)⟩
  unfold rW at *
  rw [h7 18 (by omega) (by omega), h7 19 (by omega) (by omega)]; exact d
theorem LU.w7 {k : Nat} {v : Int32} (h : LU W L M U) : LU W L (sI M 7 L k v) U := by
  have e : ∀ g k', g ≠ 7 → mI (sI M 7 L k v) g L k' = mI M g L k' := fun g k' hg => by rw [mI_sI, if_neg (fun z => hg z.1)]
  induction U with
  | nil => trivial
  | cons u U ih =>
    refine ⟨?_, ih h.2⟩
    have h1 := h.1
    cases u with
    | inl g =>
      obtain ⟨c, j, a, lo, st⟩ := g
      obtain ⟨⟨a1, a2, a3, a4⟩, b, c'⟩ := h1
      refine ⟨⟨(e 89 _ (by omega)).trans a1, (e 90 _ (by omega)).trans a2, (e 91 _ (by omega)).trans a3, (e 92 _ (by omega)).trans a4⟩, fun k hk => ?_, fun k hk => ?_⟩
      · rw [e 94 _ (by omega), e 514 _ (by omega)]; exact b k hk
      · rw [e 94 _ (by omega), e 514 _ (by omega)]; exact c' k hk
    | inr g =>
      obtain ⟨k, own⟩ := g
      exact ⟨(e 92 _ (by omega)).trans h1.1, (e 93 _ (by omega)).trans h1.2⟩
/-- the top frame goes -/
theorem RM.pop {f : Fm} (h : RM A W w br nq nk np nh nr C B F t s (.inl f :: U) M) : RM A W w br nq nk np nh nr C B F t s U (sI (sI M 7 (3 * w + t) 1 (Int32.ofNat U.length)) 7 (3 * w + t) 2 (Int32.ofNat (frs U))) := by
  have ag : AgT w t M (sI (sI M 7 (3 * w + t) 1 (Int32.ofNat U.length)) 7 (3 * w + t) 2 (Int32.ofNat (frs U))) := AgT.rf.w7.w7
  refine ⟨h.1.ag ag, h.2.1.g2 (fun k h1 h2 => ?_) (fun k => ?_) (fun _ => rfl), ⟨?_, ?_, LU.w7 (LU.w7 h.2.2.1.2.2.2)⟩, fun z => (h.2.2.2 z).fr ag.1.1⟩
  · rw [mI_sI, if_neg (fun z => h2 z.2.2), mI_sI, if_neg (fun z => h1 z.2.2)]
  · rw [mI_sI, if_neg (fun z => absurd z.1 (by decide)), mI_sI, if_neg (fun z => absurd z.1 (by decide))]
  · rw [mI_sI, if_neg (fun z => absurd z.2.2 (by decide)), mI_sI, if_pos ⟨rfl, rfl, rfl⟩]
  · rw [mI_sI, if_pos ⟨rfl, rfl, rfl⟩]
/-- the top start goes -/
theorem RM.popS {k : Nat × Bool} (h : RM A W w br nq nk np nh nr C B F t s (.inr k :: U) M) : RM A W w br nq nk np nh nr C B F t s U (sI M 7 (3 * w + t) 1 (Int32.ofNat U.length)) := by
  have ag : AgT w t M (sI M 7 (3 * w + t) 1 (Int32.ofNat U.length)) := AgT.rf.w7
  refine ⟨h.1.ag ag, h.2.1.g2 (fun k h1 h2 => ?_) (fun k => ?_) (fun _ => rfl), ⟨?_, ?_, LU.w7 h.2.2.1.2.2.2⟩, fun z => (h.2.2.2 z).fr ag.1.1⟩
  · rw [mI_sI, if_neg (fun z => h1 z.2.2)]
  · rw [mI_sI, if_neg (fun z => absurd z.1 (by decide))]
  · rw [mI_sI, if_pos ⟨rfl, rfl, rfl⟩]
  · rw [mI_sI, if_neg (fun z => absurd z.2.2 (by decide))]; exact h.2.2.1.2.1
theorem pred {n : Nat} : Int32.ofNat (n + 1) - (1 : Int32) = Int32.ofNat n := by
  rw [lit32 1, oN_sub (by omega), Nat.add_sub_cancel]
theorem thO.z (h : thO W s r) (hH : clR s 0 = none ∨ True) : True := trivial
theorem c_unw (hW : WO W) (hK : KB w nq nk np nh nr) (hA : nA A) (hw : w < 4) (hFb : F < 1000000) : ∀ (U : List Un) (n m : Nat) (o : Option Kd) (s : Ms) (r : Int32) (M : Mem) (Q : Mem → Prop), RM A W w br nq nk np nh nr C B F t s U M → MO W s t o U → lSt (zN s t) = 1 → thO W s r → r ≠ 0 → (zF s).length + U.length < F → (sts U).length ≤ n → U.length < m → (∀ M', RM A W w br nq nk np nh nr C B F t (unw W t U r s) (gU (unw W t U r s) t) M' → Q M') → wk_Machine_throwOne_L0 (wr_Machine_fail n) w Q m r M := by
  intro U
  induction U with
  | nil =>
    intro n m o s r M Q h hM hon hr h0 hF hn hm hQ
    obtain ⟨m, rfl⟩ : ∃ m', m = m' + 1 := ⟨m - 1, by have : 0 < m := hm; omega⟩
    obtain ⟨e, he, hce, hel, hpb⟩ := hr.cl
    have R2 : mR M 6 w 2 = some (7, 3 * w + t) := h.1.2.2.2.2.1.1
    unfold wk_Machine_throwOne_L0
    refine ⟨3 * w + t, R2, ?_⟩
    rw [h.2.2.1.1]
    refine itp (show (Int32.ofNat 0) ≤ 0 by decide) ⟨3 * w + t, R2, 3 * w + t, R2, ?_⟩
    have ag1 : AgT w t M (sI M 7 (3 * w + t) 11 2) := AgT.rf.w7
    have x1 := h.1.ag ag1
    refine c_classOf x1.2.2.1.1 x1.2.2.1.2 hr.1 h0 ⟨3 * w + t, R2, ?_⟩
    rw [he, show oCl (some e) = Int32.ofNat e from rfl]
    have ag2 : AgT w t M (sI (sI M 7 (3 * w + t) 11 2) 7 (3 * w + t) 15 (Int32.ofNat e)) := AgT.rf.w7.w7
    have x2 := h.1.ag ag2
    refine c_ruleOf x2.2.2.1.2 hr.1 h0 ?_
    have ag3 : AgT w t M (sI (sI (sI M 7 (3 * w + t) 11 2) 7 (3 * w + t) 15 (Int32.ofNat e)) 7 (3 * w + t) 16 (ruR s r)) := AgT.rf.w7.w7.w7
    have eN : zN (unw W t [] r s) t = qR (zN s t) 2 (0, 0, Int32.ofNat (clN s r), ruR s r) := up1_s
    have eg : gU (unw W t [] r s) t = [] := by show lU (zN (unw W t [] r s) t) = []; rw [eN]
    refine hQ _ ?_
    rw [eg]
    refine ⟨(h.1.ag ag3).yn, ?_, ⟨?_, ?_, trivial⟩, fun z => ?_⟩
    · rw [eN]
      obtain ⟨⟨a1, a2, a3, a4⟩, ⟨b1, b2', b3, b4⟩, ⟨c1, c2, c3, c4⟩, d, _⟩ := h.2.1
      have hrs := ((hM.2.1.2 t hM.2.1.1).1 hon).1
      rw [hrs] at c1 c2
      have rd : ∀ k, k ≠ 11 → k ≠ 15 → k ≠ 16 → mI (sI (sI (sI M 7 (3 * w + t) 11 2) 7 (3 * w + t) 15 (Int32.ofNat e)) 7 (3 * w + t) 16 (ruR s r)) 7 (3 * w + t) k = mI M 7 (3 * w + t) k := fun k k1 k2 k3 => by
        rw [mI_sI, if_neg (fun z => k3 z.2.2), mI_sI, if_neg (fun z => k2 z.2.2), mI_sI, if_neg (fun z => k1 z.2.2)]
      refine ⟨⟨a1, a2, a3, a4⟩, ⟨(rd 0 (by omega) (by omega) (by omega)).trans b1, (rd 10 (by omega) (by omega) (by omega)).trans b2', ?_, (rd 12 (by omega) (by omega) (by omega)).trans b4⟩, ⟨(rd 13 (by omega) (by omega) (by omega)).trans c1, (rd 14 (by omega) (by omega) (by omega)).trans c2, ?_, ?_⟩, ?_, fun z => absurd (show 2 = 1 from z) (by omega)⟩
      · rw [mI_sI, if_neg (fun z => absurd z.2.2 (by decide)), mI_sI, if_neg (fun z => absurd z.2.2 (by decide)), mI_sI, if_pos ⟨rfl, rfl, rfl⟩]; rfl
      · rw [mI_sI, if_neg (fun z => absurd z.2.2 (by decide)), mI_sI, if_pos ⟨rfl, rfl, rfl⟩]
        show Int32.ofNat e = Int32.ofNat (clN s r)
        rw [hce]
      · rw [mI_sI, if_pos ⟨rfl, rfl, rfl⟩]
      · have d' : rW (zN s t) (3 * w + t) M := d
        unfold rW at d' ⊢
        rw [rd 18 (by omega) (by omega) (by omega), rd 19 (by omega) (by omega) (by omega)]
        exact d'
    · rw [mI_sI, if_neg (fun z => absurd z.2.2 (by decide)), mI_sI, if_neg (fun z => absurd z.2.2 (by decide)), mI_sI, if_neg (fun z => absurd z.2.2 (by decide))]; exact h.2.2.1.1
    · rw [mI_sI, if_neg (fun z => absurd z.2.2 (by decide)), mI_sI, if_neg (fun z => absurd z.2.2 (by decide)), mI_sI, if_neg (fun z => absurd z.2.2 (by decide))]; exact h.2.2.1.2.1
    · rw [eN] at z; exact absurd (show 2 = 1 from z) (by omega)
  | cons u U ih =>
    intro n m o s r M Q h hM hon hr h0 hF hn hm hQ
    have hm' : U.length + 1 < m := hm
    obtain ⟨m, rfl⟩ : ∃ m', m = m' + 1 := ⟨m - 1, by omega⟩
    have hF' : (zF s).length + (U.length + 1) < F := hF
    have hlen : U.length + 1 ≤ 91 := hM.2.2.2.1.len hW
    obtain ⟨e, he, hce, hel, hpb⟩ := hr.cl
    have R2 : mR M 6 w 2 = some (7, 3 * w + t) := h.1.2.2.2.2.1.1
    have l92 := h.2.1.1.1 92 (by omega) (by omega)
    have l93 := h.2.1.1.1 93 (by omega) (by omega)
    have h51 := h.1.l5
    have f1 : mI M 7 (3 * w + t) 1 = Int32.ofNat (U.length + 1) := h.2.2.1.1
    unfold wk_Machine_throwOne_L0
    refine ⟨3 * w + t, R2, ?_⟩
    rw [f1]
    refine itn (fun z => absurd ((oN_le (a := U.length + 1) (b := 0) (by omega) (by omega)).mp z) (by omega)) ⟨3 * w + t, R2, 3 * w + t, R2, ?_⟩
    rw [f1, pred, oN_tnc (k := U.length) (by omega)]
    refine ⟨by rw [l92]; exact (vp_oN (by omega)).mpr (by omega), ?_⟩
    cases u with
    | inl f =>
      obtain ⟨c, j, a, lo, st⟩ := f
      have hFm := hM.2.2.2.1.1.1
      have hc : c < W.length := hFm.1.2.1
      have hj : j < (gc W c).2.2.2.2.2.length := hFm.2.1
      rw [h.2.2.1.2.2.1.1.2.2.2]
      refine itp (by decide) (c_handled hW hK hA h hM hr h0 (fun hcat M1 h1 => ?_) (fun g hcat M1 h1 => ?_))
      · refine itp rfl ⟨3 * w + t, h1.1.2.2.2.2.1.1, by rw [h1.2.1.1.1 89 (by omega) (by omega)]; exact (vp_oN (by omega)).mpr (by omega), ?_⟩
        rw [h1.2.2.1.2.2.1.1.1]
        refine k_mev (what := 3) h1 hM.1.2.1 hc hj (fun M2 h2 _ => ⟨3 * w + t, h2.1.2.2.2.2.1.1, 3 * w + t, h2.1.2.2.2.2.1.1, _, rfl, ?_⟩)
        have g1 : mI M2 7 (3 * w + t) 1 = Int32.ofNat (U.length + 1) := h2.2.2.1.1
        have g2 : mI (sI M2 7 (3 * w + t) 1 (Int32.ofNat U.length)) 7 (3 * w + t) 2 = Int32.ofNat (frs U + 1) := by
          rw [mI_sI, if_neg (fun z => absurd z.2.2 (by decide))]; exact h2.2.2.1.2.1
        rw [g1, pred, g2, pred]
        unfold wk_Machine_throwOne_j181
        have eu : unw W t (.inl (c, j, a, lo, st) :: U) r s = unw W t U r (evS s t 3 c (some j)) := by
          show (match catH W a (clN s r) (hs (gmt (gc W c) j)) with | some g => _ | none => _) = _
          rw [hcat]
        rw [eu] at hQ
        obtain ⟨q1, q2, q3, q4, q5, q6, q7, q8, q9, -, q10⟩ := evS_r (s := s) (t' := t) (w := 3) (k := c) (m := some j)
        exact ih n m (some (gmt (gc W c) j).2.2.1) _ r _ Q h2.pop (MO.ev (hM.popF)) (by rw [q8]; exact hon) (hr.mv (sle_of q6 q7) q1) h0 (by rw [q7]; omega) hn (by omega) hQ
      · have eu : unw W t (.inl (c, j, a, lo, st) :: U) r s = evS (sU s t (.inl (c, j, g, lo, [(r, true)]) :: U)) t 7 c (some j) := by
          show (match catH W a (clN s r) (hs (gmt (gc W c) j)) with | some g => _ | none => _) = _
          rw [hcat]
        rw [eu] at hQ
        have eg : gU (evS (sU s t (.inl (c, j, g, lo, [(r, true)]) :: U)) t 7 c (some j)) t = .inl (c, j, g, lo, [(r, true)]) :: U := by
          show lU (zN (evS _ _ _ _ _) t) = _
          rw [ev_N]; exact gU_sU
        rw [eg] at hQ
        exact itn (by decide) (hQ M1 h1)
    | inr k =>
      obtain ⟨k, own⟩ := k
      have hk := hM.2.2.2.1.1.2.1
      have hkl : k < W.length := hk.1.2
      have l46 : ∀ {M' : Mem}, LKw A W w br nq nk np nh nr (zL s) M' → mL M' 46 w = 51 := fun a => a.1.2.2.2.1.2.2.2.2.2.2 46 (by omega) (by omega)
      have k92 : mI M 92 (3 * w + t) U.length = Int32.ofNat k := h.2.2.1.2.2.1.1
      rw [k92]
      have h1 := h.c46 (v := 3) hK hkl (by decide)
      have k92' : mI (sI M 46 w k 3) 92 (3 * w + t) U.length = Int32.ofNat k := h1.2.2.1.2.2.1.1
      refine itn (oN_nonneg (by omega)) ⟨3 * w + t, R2, by rw [l92]; exact (vp_oN (by omega)).mpr (by omega), by rw [k92, l46 h.1.1.1]; exact (vp_oN (by omega)).mpr (by omega), _, rfl, 3 * w + t, R2, by show vp_in _ (mL M 92 (3 * w + t)); rw [l92]; exact (vp_oN (by omega)).mpr (by omega), ?_⟩
      rw [k92, oN_tnc (k := k) (by omega), k92']
      have hMp := hM.popS (v := 3) (Or.inr rfl)
      refine k_cev (what := 6) h1 hM.1.2.1 hkl (fun M2 h2 _ => ⟨3 * w + t, h2.1.2.2.2.2.1.1, by rw [h2.2.1.1.1 93 (by omega) (by omega)]; exact (vp_oN (by omega)).mpr (by omega), ?_⟩)
      have hMe := hMp.ev (t' := t) (w := 6) (k := k) (m := none)
      obtain ⟨q1, q2, q3, q4, q5, q6, q7, q8, q9, -, q10⟩ := evS_r (s := yC s (up1 (zC s) k 3)) (t' := t) (w := 6) (k := k) (m := none)
      have hsl : sle s (evS (yC s (up1 (zC s) k 3)) t 6 k none) := sle_of q6 q7
      have r1 := hr.mv hsl q1
      have hn' : (sts U).length + 1 ≤ n := hn
      have k93 : mI M2 93 (3 * w + t) U.length = b2 own := h2.2.2.1.2.2.1.2
      have g1 : mI M2 7 (3 * w + t) 1 = Int32.ofNat (U.length + 1) := h2.2.2.1.1
      have h3 := h2.popS
      have hcl1 : clN (evS (yC s (up1 (zC s) k 3)) t 6 k none) r = clN s r := by
        unfold clN
        rw [(hsl r hr.1).2]
      have go : ¬ (own = true ∧ bel W (clN s r) 10 = false) → ∀ M4, RM A W w br nq nk np nh nr C B F t (evS (yC s (up1 (zC s) k 3)) t 6 k none) U M4 → wk_Machine_throwOne_j128 (wr_Machine_fail n) w Q (wk_Machine_throwOne_L0 (wr_Machine_fail n) w Q m) r M4 := fun hno M4 h4 => by
        unfold wk_Machine_throwOne_j128 wk_Machine_throwOne_j181
        have eu : unw W t (.inr (k, own) :: U) r s = unw W t U r (evS (yC s (up1 (zC s) k 3)) t 6 k none) := if_neg hno
        rw [eu] at hQ
        exact ih n m none _ r _ Q h4 hMe (by rw [q8]; exact hon) r1 h0 (by rw [q7]; show (zF s).length + U.length < F; omega) (by omega) (by omega) hQ
      rw [k93]
      cases own with
      | false =>
        refine itn (by decide) ?_
        unfold wk_Machine_throwOne_j85
        refine ⟨3 * w + t, h2.1.2.2.2.2.1.1, ?_⟩
        rw [g1, pred]
        exact itp rfl (go (fun z => by cases z.1) _ h3)
      | true =>
        refine itp rfl ?_
        unfold wk_Machine_throwOne_j85
        refine ⟨3 * w + t, h2.1.2.2.2.2.1.1, ?_⟩
        rw [g1, pred]
        refine itn (by decide) (c_classOf h3.1.2.2.1.1 h3.1.2.2.1.2 r1.1 h0 ?_)
        rw [(hsl r hr.1).2, he]
        rw [show (10 : Int32) = Int32.ofNat 10 from rfl]
        refine k_isBelow h3.1.1.1.1.1.1 h3.1.1.2 hel.1 (by omega) (fun M5 b hb hS5 sp => ?_)
        have h5 := h3.sp sp hS5 hK
        have hbb : b = bel W (clN s r) 10 := by
          rw [hce]
          cases b with
          | true => exact (bel_iff.mpr (hb.mp rfl)).symm
          | false =>
            cases eb : bel W e 10 with
            | false => rfl
            | true => have := hb.mpr (bel_iff.mp eb); cases this
        cases b with
        | true => exact itn (by decide) (go (fun z => by rw [← hbb] at z; cases z.2) M5 h5)
        | false =>
          refine itp rfl ?_
          obtain ⟨n, rfl⟩ : ∃ n', n = n' + 1 := ⟨n - 1, by omega⟩
          have eu : unw W t (.inr (k, true) :: U) r s = unw W t U (lastF (addFt (evS (yC s (up1 (zC s) k 3)) t 6 k none) 20 0)) (addFt (evS (yC s (up1 (zC s) k 3)) t 6 k none) 20 0) := if_pos ⟨rfl, hbb.symm⟩
          rw [eu] at hQ
          have hzF : (zF (evS (yC s (up1 (zC s) k 3)) t 6 k none)).length = (zF s).length := by rw [q7]
          show wk_Machine_fail (wr_Machine_fail n) w (Int32.ofNat 20) 0 _ M5
          refine c_failW hw h5 (by omega) hFb (fun M6 h6 => ⟨U.length + 1, ?_⟩)
          have hnew := thO.new (f := 20) (ru := 0) hW.1 hMe.1.1.1.1 (by omega) (by omega) (show (zF (evS (yC s (up1 (zC s) k 3)) t 6 k none)).length < 1000000 by omega)
          have hl0 : lastF (addFt (evS (yC s (up1 (zC s) k 3)) t 6 k none) 20 0) ≠ 0 := fun z => by
            have hzl : (zF (addFt (evS (yC s (up1 (zC s) k 3)) t 6 k none) 20 0)).length = (zF s).length + 1 := by
              show (zF (evS (yC s (up1 (zC s) k 3)) t 6 k none) ++ [_]).length = _
              rw [List.length_append, hzF]; rfl
            have z : Int32.ofNat (800 + (zF (addFt (evS (yC s (up1 (zC s) k 3)) t 6 k none) 20 0)).length) = 0 := z
            rw [hzl] at z
            have := (oN_inj (a := 800 + ((zF s).length + 1)) (b := 0) (by omega) (by omega)).mp z
            omega
          refine ih n (U.length + 1) none _ _ _ Q h6 (hMe.addF (by omega) (by omega)) (by show lSt (zN (evS _ _ _ _ _) t) = 1; rw [q8]; exact hon) hnew hl0 ?_ (by omega) (by omega) hQ
          show (zF (evS (yC s (up1 (zC s) k 3)) t 6 k none) ++ [_]).length + U.length < F
          rw [List.length_append, hzF]
          show (zF s).length + 1 + U.length < F
          omega
end
