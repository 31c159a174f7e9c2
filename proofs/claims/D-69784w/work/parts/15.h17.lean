/-! THE MACHINE IN THE TWIN: ends of frames -/
section
variable {G : List Sl} {US : UST} {A : List Nm} {S : List Sg} {W : List Cls} {w c j a k t L : Nat} {br x r v : Int32} {bb : Bool} {nq nl nf nk B F op : Nat} {M M' : Mem} {s s' : Ms} {U V : List Un} {lo st lo' st' : List Vl} {o : Option Kd} {Q : Mem → Prop} {i : Ins}
theorem TM.pop2 {f : Fm} (h : TM G US A S W w br nq nl nf nk B F x bb t s (.inl f :: U) M) : TM G US A S W w br nq nl nf nk B F x bb t s U (sI (sI M 13 (3 * w + t) 22 (Int32.ofNat (frs U))) 13 (3 * w + t) 16 (Int32.ofNat U.length)) := by
  have ag : AgU w t M (sI (sI M 13 (3 * w + t) 22 (Int32.ofNat (frs U))) 13 (3 * w + t) 16 (Int32.ofNat U.length)) := AgU.rf.w13.w13
  have rd : ∀ i, i ≠ 16 → i ≠ 22 → mI (sI (sI M 13 (3 * w + t) 22 (Int32.ofNat (frs U))) 13 (3 * w + t) 16 (Int32.ofNat U.length)) 13 (3 * w + t) i = mI M 13 (3 * w + t) i := fun i h1 h2 => by rw [mI_sI, if_neg (fun z => h1 z.2.2), mI_sI, if_neg (fun z => h2 z.2.2)]
  have ra : ∀ g i, g ≠ 13 → mI (sI (sI M 13 (3 * w + t) 22 (Int32.ofNat (frs U))) 13 (3 * w + t) 16 (Int32.ofNat U.length)) g (3 * w + t) i = mI M g (3 * w + t) i := fun g i hg => by rw [mI_sI, if_neg (fun z => hg z.1), mI_sI, if_neg (fun z => hg z.1)]
  refine ⟨h.1.ag ag, h.2.1.g (fun k hk => rd k (by omega) (by omega)) (fun k => ra 170 k (by omega)) (fun _ => rfl), ⟨by rw [mI_sI, if_pos ⟨rfl, rfl, rfl⟩], ?_, unT.eq' (fun g i hg => ra g i (by omega)) h.2.2.1.2.2.2.2⟩, fun z => by rw [rd 4 (by omega) (by omega)]; exact h.2.2.2 z⟩
  rw [mI_sI, if_neg (fun z => absurd z.2.2 (by decide)), mI_sI, if_pos ⟨rfl, rfl, rfl⟩]
/-- a thread is done -/
theorem TM.fin {R : Int32 × Int32 × Int32 × Int32} (h : TM G US A S W w br nq nl nf nk B F x bb t s [] M) (hon : lSt (zN s t) = 1) (ag : AgU w t M M') (h13 : ∀ k, k ≠ 0 → k ≠ 10 → k ≠ 11 → k ≠ 12 → k ≠ 13 → mI M' 13 (3 * w + t) k = mI M 13 (3 * w + t) k) (hL : ∀ f, mL M' f (3 * w + t) = mL M f (3 * w + t)) (e0 : mI M' 13 (3 * w + t) 0 = 0) (e10 : mI M' 13 (3 * w + t) 10 = R.1) (e11 : mI M' 13 (3 * w + t) 11 = R.2.1) (e12 : mI M' 13 (3 * w + t) 12 = R.2.2.1) (e13 : mI M' 13 (3 * w + t) 13 = R.2.2.2) : TM G US A S W w br nq nl nf nk B F x bb t (yN s (up1 (zN s) t (qR (zN s t) 0 R))) (gU (yN s (up1 (zN s) t (qR (zN s t) 0 R))) t) M' := by
  have eN : zN (yN s (up1 (zN s) t (qR (zN s t) 0 R))) t = qR (zN s t) 0 R := up1_s
  have eg : gU (yN s (up1 (zN s) t (qR (zN s t) 0 R))) t = [] := by show lU (zN (yN s (up1 (zN s) t (qR (zN s t) 0 R))) t) = []; rw [eN]
  rw [eg]
  obtain ⟨⟨a1, a2, a3, a4, a5, a6, a7, a8⟩, ⟨b1, b2'⟩, -, d, e⟩ := h.2.1
  refine ⟨(h.1.ag ag).yn, ?_, ⟨(h13 16 (by omega) (by omega) (by omega) (by omega) (by omega)).trans h.2.2.1.1, (h13 22 (by omega) (by omega) (by omega) (by omega) (by omega)).trans h.2.2.1.2.1, trivial⟩, fun z => ?_⟩
  · rw [eN]
    refine ⟨⟨(hL _).trans a1, (hL _).trans a2, (hL _).trans a3, (hL _).trans a4, (hL _).trans a5, (hL _).trans a6, (hL _).trans a7, (hL _).trans a8⟩, ⟨?_, (h13 3 (by omega) (by omega) (by omega) (by omega) (by omega)).trans b2'⟩, ⟨e10, e11, e12, e13⟩, ?_, fun z => absurd (show 0 = 1 from z) (by omega)⟩
    · show _ = if (zN s t).1 = true then Int32.ofNat 0 else -2
      rw [if_pos (e hon).1]; exact e0
    · have d' : uW (zN s t) (3 * w + t) M := d
      unfold uW at d' ⊢
      rw [h13 1 (by omega) (by omega) (by omega) (by omega) (by omega), h13 2 (by omega) (by omega) (by omega) (by omega) (by omega)]
      exact d'
  · rw [eN] at z; exact absurd (show 0 = 1 from z) (by omega)
/-- the last frame ends: kind κ -/
theorem ct_endLast {κ : Int32} (hB : BI W) (hG : GL W s) (hFb : F < 1000000) (h : TM G US A S W w br nq nl nf nk B F x bb t s [] M) (hon : lSt (zN s t) = 1) (hv : κ = 4 → vRf s v ∧ v ≠ 0) {y : Int32} (hy : κ = 4 → y = tr true v) (h1 : κ = 1 → y = v)
    (hQ : ∀ M', TM G US A S W w br nq nl nf nk B F x bb t (yN s (up1 (zN s) t (qR (zN s t) 0 (κ, if κ = 1 then v else 0, if κ = 4 then Int32.ofNat (clN s v) else -2, 0)))) (gU (yN s (up1 (zN s) t (qR (zN s t) 0 (κ, if κ = 1 then v else 0, if κ = 4 then Int32.ofNat (clN s v) else -2, 0)))) t) M' → Q M') : w_Model_endFrame_j123 0 Q y κ (3 * w + t) (sI M 13 (3 * w + t) 0 0) := by
  have R6 := h.r46
  have j174 : ∀ u c', u = (if κ = 1 then v else 0) → c' = (if κ = 4 then Int32.ofNat (clN s v) else -2) → w_Model_endFrame_j174 0 Q c' (3 * w + t) (sI (sI (sI M 13 (3 * w + t) 0 0) 13 (3 * w + t) 10 κ) 13 (3 * w + t) 11 u) := fun u c' eu ec => by
    unfold w_Model_endFrame_j174
    refine ⟨3 * w + t, R6, hQ _ (h.fin hon AgU.rf.w13.w13.w13.w13.w13 (fun k k0 k1 k2 k3 k4 => ?_) (fun _ => rfl) ?_ ?_ ?_ ?_ ?_)⟩
    · simp only [mI_sI, k0, k1, k2, k3, k4, and_false, if_false]
    · simp only [mI_sI, Nat.reduceEqDiff, and_false, if_false, and_self, if_true]
    · simp only [mI_sI, Nat.reduceEqDiff, and_false, if_false, and_self, if_true]
    · simp only [mI_sI, Nat.reduceEqDiff, and_false, if_false, and_self, if_true]; exact eu
    · simp only [mI_sI, Nat.reduceEqDiff, and_false, if_false, and_self, if_true]; exact ec
    · simp only [mI_sI, and_self, if_true]
  have j146 : ∀ u, u = (if κ = 1 then v else 0) → w_Model_endFrame_j146 0 Q y u (3 * w + t) (sI (sI M 13 (3 * w + t) 0 0) 13 (3 * w + t) 10 κ) := fun u eu => by
    unfold w_Model_endFrame_j146
    refine ⟨3 * w + t, R6, 3 * w + t, R6, ?_⟩
    have e10 : mI (sI (sI (sI M 13 (3 * w + t) 0 0) 13 (3 * w + t) 10 κ) 13 (3 * w + t) 11 u) 13 (3 * w + t) 10 = κ := by simp only [mI_sI, Nat.reduceEqDiff, and_false, if_false, and_self, if_true]
    rw [e10]
    by_cases k4 : κ = 4
    · obtain ⟨v1, v2⟩ := hv k4
      rw [hy k4]
      have ag : AgU w t M (sI (sI (sI M 13 (3 * w + t) 0 0) 13 (3 * w + t) 10 κ) 13 (3 * w + t) 11 u) := AgU.rf.w13.w13.w13
      exact itp k4 (ct_classOfRef hB hG (h.1.ag ag) hFb v1 v2 (j174 u _ eu (by rw [if_pos k4])))
    · exact itn k4 (j174 u _ eu (by rw [if_neg k4]))
  unfold w_Model_endFrame_j123
  refine ⟨3 * w + t, R6, 3 * w + t, R6, ?_⟩
  have e10 : mI (sI (sI M 13 (3 * w + t) 0 0) 13 (3 * w + t) 10 κ) 13 (3 * w + t) 10 = κ := by rw [mI_sI, if_pos ⟨rfl, rfl, rfl⟩]
  rw [e10]
  by_cases k1 : κ = 1
  · exact itp k1 (j146 y (by rw [if_pos k1]; exact h1 k1))
  · exact itn k1 (j146 0 (by rw [if_neg k1]))
/-- a frame ends -/
theorem ct_endFrame (hW : WO W) (hFb : F < 1000000) (h : TM G US A S W w br nq nl nf nk B F x bb t s (.inl (c, j, a, lo', st') :: U) M) (hA : At W s t c j a lo st U i) (hop : op = 57 ∨ op = 58 ∨ op = 59) (h57 : op = 57 → v = 0) (h59 : op = 59 → vRf s v) (hK : MK W (leaveS s t c j op v U) t) (hQ : ∀ M', TM G US A S W w br nq nl nf nk B F x bb t (leaveS s t c j op v U) (gU (leaveS s t c j op v U) t) M' → Q M') : w_Model_endFrame 0 (b2 (decide (op ≠ 57))) (tr (decide (op = 59)) v) (b2 (decide (op = 59))) Q M := by
  have hM := hA.1.2.1
  have hon := hA.1.2.2
  obtain ⟨⟨hF1, hF2, hUO⟩, hnd, hfr⟩ := id hM.2.2.2.1
  have hfr : frs U + 1 ≤ 40 := hfr
  have hlen := hM.2.2.2.1.len hW
  have hlen : U.length + 1 ≤ 91 := hlen
  have R6 := h.r46
  obtain ⟨l0, l1, l2, l3, l4, l5, l6, l7⟩ := h.lens
  have e22 : mI M 13 (3 * w + t) 22 = Int32.ofNat (frs U + 1) := h.2.2.1.2.1
  have e16 : mI M 13 (3 * w + t) 16 = Int32.ofNat (U.length + 1) := h.2.2.1.1
  have e173 : mI M 173 (3 * w + t) (frs U) = Int32.ofNat (12 * c + j) := h.2.2.1.2.2.1.2.1
  have h2 := h.pop2
  unfold w_Model_endFrame
  refine ⟨3 * w + t, R6, 3 * w + t, R6, ?_⟩
  rw [e22, pred, show ∀ y, mI (sI M 13 (3 * w + t) 22 y) 13 (3 * w + t) 16 = Int32.ofNat (U.length + 1) from fun y => by rw [mI_sI, if_neg (fun z => absurd z.2.2 (by decide))]; exact e16, pred]
  refine ⟨_, rfl, 3 * w + t, R6, 3 * w + t, R6, ?_⟩
  rw [show mI (sI (sI M 13 (3 * w + t) 22 (Int32.ofNat (frs U))) 13 (3 * w + t) 16 (Int32.ofNat U.length)) 13 (3 * w + t) 22 = Int32.ofNat (frs U) from h2.2.2.1.2.1, oN_tnc (k := frs U) (by omega), show mI (sI (sI M 13 (3 * w + t) 22 (Int32.ofNat (frs U))) 13 (3 * w + t) 16 (Int32.ofNat U.length)) 173 (3 * w + t) (frs U) = oJt c (some j) from by rw [mI_sI, if_neg (fun z => absurd z.1 (by decide)), mI_sI, if_neg (fun z => absurd z.1 (by decide))]; exact e173]
  refine ⟨by show vp_in _ (mL M 173 _); rw [l3]; exact (vp_oN (by omega)).mpr (by omega), k_note (what := 2) (k := c) (m := some j) h2 hM.1.2.1 (fun M7 h7 f7 => ?_)⟩
  have R7 := h7.r46
  have f16 : mI M7 13 (3 * w + t) 16 = Int32.ofNat U.length := h7.2.2.1.1
  have hsl : sle s (evS s t 2 c (some j)) := sle_of evS_r.2.2.2.2.2.1 evS_r.2.2.2.2.2.2.1
  have hG7 : GL W (evS s t 2 c (some j)) := hM.1.1.same evS_r.1 evS_r.2.1 evS_r.2.2.2.1 evS_r.2.2.2.2.1 evS_r.2.2.2.2.2.1 evS_r.2.2.2.2.2.2.1
  refine ⟨3 * w + t, R7, ?_⟩
  rw [f16]
  cases U with
  | nil =>
    refine itn (show ¬ (0 : Int32) ≤ Int32.ofNat 0 - 1 by decide) ⟨3 * w + t, R7, 3 * w + t, R7, ?_⟩
    have hon7 : lSt (zN (evS s t 2 c (some j)) t) = 1 := by rw [ev_N]; exact hon
    have ecl : clR (evS s t 2 c (some j)) v = clR s v := by
      have e1 : ∀ k, gFt (evS s t 2 c (some j)) k = gFt s k := fun k => by show (zF (evS s t 2 c (some j))).getD k _ = _; rw [evS_r.2.2.2.2.2.2.1]
      have e2 : ∀ k, gOb (evS s t 2 c (some j)) k = gOb s k := fun k => by show (zH (evS s t 2 c (some j))).2.2.2.1 k = _; rw [evS_r.2.2.2.2.2.1]
      unfold clR; rw [e1, e2]
    have ecn : clN (evS s t 2 c (some j)) v = clN s v := by unfold clN; rw [ecl]
    have hQ' : ∀ κ, κ = (if op = 57 then 0 else if op = 58 then 1 else if v = 0 then 2 else if clR s v = none then 3 else 4) → (κ = 4 → vRf (evS s t 2 c (some j)) v ∧ v ≠ 0) → ∀ y, (κ = 4 → y = tr true v) → (κ = 1 → y = v) → w_Model_endFrame_j123 0 Q y κ (3 * w + t) (sI M7 13 (3 * w + t) 0 0) := fun κ ek hv y hy1 hy2 => by
      refine ct_endLast hW.1 hG7 hFb h7 hon7 hv hy1 hy2 (fun M' h' => hQ M' ?_)
      have eL : leaveS s t c j op v [] = yN (evS s t 2 c (some j)) (up1 (zN (evS s t 2 c (some j))) t (qR (zN (evS s t 2 c (some j)) t) 0 (κ, if κ = 1 then v else 0, if κ = 4 then Int32.ofNat (clN (evS s t 2 c (some j)) v) else -2, 0))) := by
        rw [ecn]
        show yN (evS s t 2 c (some j)) (up1 (zN (evS s t 2 c (some j))) t (qR (zN (evS s t 2 c (some j)) t) 0 (if op = 57 then 0 else if op = 58 then 1 else if v = 0 then 2 else if clR s v = none then 3 else 4, if op = 58 then v else 0, if op = 59 ∧ v ≠ 0 ∧ clR s v ≠ none then Int32.ofNat (clN s v) else -2, 0))) = _
        rw [← ek]
        have a1 : (if op = 58 then v else (0 : Int32)) = (if κ = 1 then v else 0) := by
          rcases hop with z | z | z <;> subst z
          · have ek : κ = 0 := ek
            rw [ek, if_neg (show ¬ (57 : Nat) = 58 by decide), if_neg (show ¬ (0 : Int32) = 1 by decide)]
          · have ek : κ = 1 := ek
            rw [ek, if_pos (show (58 : Nat) = 58 from rfl), if_pos (show (1 : Int32) = 1 from rfl)]
          · have ek : κ = (if v = 0 then 2 else if clR s v = none then 3 else 4) := ek
            have : κ ≠ 1 := by
              rw [ek]
              by_cases v0 : v = 0
              · rw [if_pos v0]; decide
              · rw [if_neg v0]
                by_cases cr : clR s v = none
                · rw [if_pos cr]; decide
                · rw [if_neg cr]; decide
            rw [if_neg this, if_neg (show ¬ (59 : Nat) = 58 by decide)]
        have a2 : (if op = 59 ∧ v ≠ 0 ∧ clR s v ≠ none then Int32.ofNat (clN s v) else -2) = (if κ = 4 then Int32.ofNat (clN s v) else -2) := by
          rcases hop with z | z | z <;> subst z
          · have ek : κ = 0 := ek
            rw [ek, if_neg (fun z => absurd z.1 (by decide)), if_neg (show ¬ (0 : Int32) = 4 by decide)]
          · have ek : κ = 1 := ek
            rw [ek, if_neg (fun z => absurd z.1 (by decide)), if_neg (show ¬ (1 : Int32) = 4 by decide)]
          · have ek : κ = (if v = 0 then 2 else if clR s v = none then 3 else 4) := ek
            by_cases v0 : v = 0
            · rw [if_pos v0] at ek
              rw [ek, if_neg (fun z => z.2.1 v0), if_neg (show ¬ (2 : Int32) = 4 by decide)]
            · rw [if_neg v0] at ek
              by_cases cr : clR s v = none
              · rw [if_pos cr] at ek
                rw [ek, if_neg (fun z => z.2.2 cr), if_neg (show ¬ (3 : Int32) = 4 by decide)]
              · rw [if_neg cr] at ek
                rw [ek, if_pos ⟨rfl, v0, cr⟩, if_pos (show (4 : Int32) = 4 from rfl)]
        rw [a1, a2]
      rw [eL]; exact h'
    rcases hop with z | z | z <;> subst z
    · refine itp rfl ?_
      rw [show decide ((57 : Nat) = 59) = false from rfl, tr_f]
      exact hQ' 0 rfl (fun z => absurd z (by decide)) _ (fun z => absurd z (by decide)) (fun z => absurd z (by decide))
    · refine itn (by decide) (itp rfl ?_)
      rw [show decide ((58 : Nat) = 59) = false from rfl, tr_f]
      exact hQ' 1 rfl (fun z => absurd z (by decide)) _ (fun z => absurd z (by decide)) (fun _ => rfl)
    · refine itn (by decide) (itn (by decide) ?_)
      rw [show decide ((59 : Nat) = 59) = true from rfl]
      have hv := h59 rfl
      by_cases v0 : v = 0
      · refine itp ((tr_ne0 hv).mpr v0) (hQ' 2 ?_ (fun z => absurd z (by decide)) _ (fun z => absurd z (by decide)) (fun z => absurd z (by decide)))
        rw [if_neg (by omega), if_neg (by omega), if_pos v0]
      refine itn (fun z => v0 ((tr_ne0 hv).mp z)) ?_
      have k4 : clR s v ≠ none → ∀ y, y = tr true v → w_Model_endFrame_j122 0 Q y (3 * w + t) (sI M7 13 (3 * w + t) 0 0) := fun cr y ey => by
        unfold w_Model_endFrame_j122
        refine hQ' 4 ?_ (fun _ => ⟨(hsl v hv).1, v0⟩) y (fun _ => ey) (fun z => absurd z (by decide))
        rw [if_neg (by omega), if_neg (by omega), if_neg v0, if_neg cr]
      obtain ⟨n, ⟨e, en, hb⟩, et, hn⟩ := tr_ref hv
      by_cases c8 : 800 < n
      · have ecr : clR s v ≠ none := by unfold clR; rw [en, if_pos c8]; exact fun z => by cases z
        refine itp ?_ (k4 ecr _ rfl)
        rw [et, if_pos c8]
        exact (oN_le (a := 1001) (b := n + 200) (by omega) (by omega)).mpr (by omega)
      · have hth : thr s n = true := by
          rcases hn with z | z | z
          · exact absurd (by rw [e, z]; rfl) v0
          · exact z.2
          · exact absurd z.1 c8
        have ecr : clR s v = (gOb s n).1 := by unfold clR; rw [en, if_neg c8]
        have hgo : gOb (evS s t 2 c (some j)) n = gOb s n := by show (zH (evS s t 2 c (some j))).2.2.2.1 n = _; rw [evS_r.2.2.2.2.2.1]
        have hth7 : thr (evS s t 2 c (some j)) n = true := by show (zH (evS s t 2 c (some j))).2.2.1 n = true; rw [evS_r.2.2.2.2.2.1]; exact hth
        obtain ⟨⟨m157, -⟩, -, -, hO, -⟩ := h7.1.2.2.1.1
        have e157 : mI M7 157 w n = oCl (gOb s n).1 := by have := (hO n hth7).1; rw [hgo] at this; exact this
        refine itn ?_ ⟨w, h7.r45, ?_⟩
        · rw [et, if_neg c8]
          exact fun z => by have := (oN_le (a := 1001) (b := n) (by omega) (by omega)).mp z; omega
        rw [show ∀ M0 : Mem, mL (sI M0 13 (3 * w + t) 0 0) 157 w = mL M0 157 w from fun _ => rfl, m157, show mI (sI M7 13 (3 * w + t) 0 0) 157 w (tr true v).toNatClampNeg = oCl (gOb s n).1 from by rw [et, if_neg c8, oN_tnc (by omega), mI_sI, if_neg (fun z => absurd z.1 (by decide))]; exact e157]
        refine ⟨by rw [et, if_neg c8]; exact (vp_oN (by omega)).mpr (by omega), ?_⟩
        cases eo : (gOb s n).1 with
        | none =>
          refine itp rfl (hQ' 3 ?_ (fun z => absurd z (by decide)) _ (fun z => absurd z (by decide)) (fun z => absurd z (by decide)))
          rw [if_neg (by omega), if_neg (by omega), if_neg v0, if_pos (ecr.trans eo)]
        | some d =>
          have hd := (clR_lk hW.1 hM.1.1 hv v0 (ecr.trans eo)).1.1
          have h51 := h.1.l5
          refine itn (fun y => ?_) (k4 (by rw [ecr, eo]; exact fun z => by cases z) _ rfl)
          have h1 := oN_zero_le (a := d) (by omega)
          have y : Int32.ofNat d = -1 := y
          rw [y] at h1; exact absurd h1 (by decide)
  | cons u U' =>
    have hlen : U'.length + 1 + 1 ≤ 91 := hlen
    have e1 : Int32.ofNat (u :: U').length - (1 : Int32) = Int32.ofNat U'.length := pred
    rw [e1]
    refine itp (oN_zero_le (show U'.length < 2147483648 by omega)) ⟨3 * w + t, R7, by rw [h7.lens.2.1]; exact (vp_oN (by omega)).mpr (by omega), ?_⟩
    rw [oN_tnc (k := U'.length) (by omega)]
    cases u with
    | inr ko =>
      obtain ⟨k, own⟩ := ko
      have hk : k < W.length := hUO.2.1.1.2
      have h51 := h.1.l5
      have e171 : mI M7 171 (3 * w + t) U'.length = (-1 : Int32) - Int32.ofNat k := h7.2.2.1.2.2.1.1
      have ng1 := (neg1 (k := k) (by omega)).1
      generalize (-1 : Int32) - Int32.ofNat k = y at ng1 e171
      refine ⟨y, e171.symm, itp ng1 (ct_endStart h7 hk (by omega) (evS_E hM.1.2.1) (fun M8 h8 => hQ M8 ?_))⟩
      rw [show zC (evS s t 2 c (some j)) = zC s from evS_r.2.1] at h8
      have eg : gU (leaveS s t c j op v (.inr (k, own) :: U')) t = U' := by
        show lU (zN (evS _ _ _ _ _) t) = _
        rw [ev_N]; exact gU_sU
      rw [eg]; exact h8
    | inl f =>
      obtain ⟨c', j', a', lo1, st1⟩ := f
      obtain ⟨g1, g2, g3⟩ := hUO
      have hfr' : frs U' + 1 + 1 ≤ 40 := hfr
      have hstk : st1.length ≤ 20 ∧ stk U' := (UO.stk hW hM.1.1 hM.2.2.2.1.1).2
      have e171 : mI M7 171 (3 * w + t) U'.length = Int32.ofNat (frs U') := h7.2.2.1.2.2.1.1.1
      have e174 : mI M7 174 (3 * w + t) (frs U') = Int32.ofNat a' := h7.2.2.1.2.2.1.2.2.1
      have l47 := h7.lens.2.2.2.2.1
      refine ⟨_, e171.symm, itn (oN_nonneg (show frs U' < 2147483648 by omega)) ?_⟩
      have j215 : ∀ st2 M8, TM G US A S W w br nq nl nf nk B F x bb t (evS s t 2 c (some j)) (.inl (c', j', a', lo1, st2) :: U') M8 → leaveS s t c j op v (.inl (c', j', a', lo1, st1) :: U') = sU (evS s t 2 c (some j)) t (.inl (c', j', a' + 1, lo1, st2) :: U') → w_Model_endFrame_j215 0 Q (Int32.ofNat (frs U')) M8 := fun st2 M8 h8 eL => by
        unfold w_Model_endFrame_j215
        have l48 := h8.lens.2.2.2.2.1
        have f174 : mI M8 174 (3 * w + t) (frs U') = Int32.ofNat a' := h8.2.2.1.2.2.1.2.2.1
        refine ⟨3 * w + t, h8.r46, by rw [l48]; exact (vp_oN (by omega)).mpr (by omega), by rw [l48]; exact (vp_oN (by omega)).mpr (by omega), _, rfl, ?_⟩
        rw [oN_tnc (k := frs U') (by omega), f174, show Int32.ofNat a' + (1 : Int32) = Int32.ofNat (a' + 1) from oN_add a' 1]
        rw [eL, gU_sU] at hQ
        exact hQ _ (h8.nxt hstk.2).su
      by_cases c57 : op = 57
      · refine itp (by rw [c57]; rfl) (j215 st1 M7 h7 ?_)
        show sU (evS s t 2 c (some j)) t (.inl (c', j', a' + 1, lo1, st1 ++ (if op = 57 then [] else [(v, decide (op = 59))])) :: U') = _
        rw [if_pos c57, List.append_nil]
      · refine itn (by rw [decide_eq_true c57]; decide) (ct_pushT h7 (show frs U' < 40 by omega) (show st1.length < 24 by omega) hstk.2 (fun M8 h8 => j215 _ M8 h8 ?_))
        show sU (evS s t 2 c (some j)) t (.inl (c', j', a' + 1, lo1, st1 ++ (if op = 57 then [] else [(v, decide (op = 59))])) :: U') = _
        rw [if_neg c57]
end
