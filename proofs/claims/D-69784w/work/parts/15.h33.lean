/-! THE MACHINE IN THE TWIN: turns (printed by gen/tp.py) -/
def TI2 (x : Int32) (s : Ms) : Prop := LkN s ∧ (lWt (zN s (zT s).1) = none → x = Int32.ofNat (zT s).2.1) ∧ (lWt (zN s (zT s).1) ≠ none → (zT s).2.1 = 0)
/-- what the twin says of a run -/
def goR (r : Bool × Ms) : Int32 := if anyOn r.2 then (if r.1 = true then 1 else 3) else 0
/-- no instruction names the start -/
def NSi (W : List Cls) : Prop := ∀ c j a, c < W.length → iM (gin (co (gmt (gc W c) j)) a) ≠ nStart
section
variable {G : List Sl} {US : UST} {A : List Nm} {S : List Sg} {W : List Cls} {w c j a k t L q n d : Nat} {br x r v e v1 y : Int32} {bb : Bool} {nq nl nf nk B F op K C m0 : Nat} {M M' : Mem} {s s' s1 X : Ms} {U V : List Un} {lo st lo' st' : List Vl} {o : Option Kd} {Q k5 : Int32 → Mem → Prop} {i : Ins} {p : Nat × Nat}
theorem sWt_same (h : lWt (zN s t) = none) : sWt s t none = s := by
  unfold sWt
  have e : up1 (zN s) t (qW (zN s t) none) = zN s := by
    funext k
    by_cases e : k = t
    · rw [e, up1_s, ← h]
    · rw [up1_o e]
  rw [e]
theorem ct_jA (h : TA G US A S W w br nq nl nf nk B F x X M) (hw : lWt (zN X t) = none) (r46 : mR M 11 0 46 = some (13, 3 * w + t)) (ht : t < 3) (h2 : lSt (zN X t) ≤ 2) (hr : r ≠ 2) (h1 : lSt (zN X t) = 1 → k5 v1 M) (h0 : lSt (zN X t) ≠ 1 → ∀ M', TA G US A S W w br nq nl nf nk B F 0 (yT X ((zT X).1, 0, (zT X).2.2)) M' → mI M' 11 0 83 = mI M 11 0 83 → k5 v1 M') : w_Model_goOn_j227 0 Q k5 v1 r M := by
  have hN := h.2.2.2.2.2.2 t ht
  have on := hN.1.on h2
  have e1 : mI M 13 (3 * w + t) 1 = 0 := by
    have d := hN.1.2.2.1
    unfold uW at d
    rw [hw] at d
    exact d
  unfold w_Model_goOn_j227
  refine ⟨3 * w + t, r46, itn hr ?_⟩
  unfold w_Model_goOn_j241 w_Model_goOn_j263
  rw [sI_same e1]
  refine ⟨Or.inl rfl, 3 * w + t, r46, ?_⟩
  by_cases c1 : lSt (zN X t) = 1
  · exact itp (on.mpr c1) (h1 c1)
  · refine itn (fun z => c1 (on.mp z)) ⟨w, h.r45, h0 c1 _ (h.tn (Fr.wI rfl (Fr.rf _ _)) ⟨?_, ?_, ?_⟩) ?_⟩
    · rw [mI_sI, if_neg (fun z => absurd z.2.2 (by decide))]; exact h.2.2.2.1.2.2.1
    · rw [mI_sI, if_neg (fun z => absurd z.2.2 (by decide))]; exact h.2.2.2.1.2.2.2.1
    · rw [mI_sI, if_pos ⟨rfl, rfl, rfl⟩]
    · rw [mI_sI, if_neg (fun z => absurd z.1 (by decide))]
theorem ct_jB {u : Int32 ⊕ Nat} (h : TA G US A S W w br nq nl nf nk B F x X M) (e2 : mI M 13 (3 * w + t) 2 = wCd u) (r46 : mR M 11 0 46 = some (13, 3 * w + t)) (ht : t < 3) (hon : lSt (zN X t) = 1) (h1 : ∀ M', TA G US A S W w br nq nl nf nk B F x (sWt X t (some u)) M' → mI M' 11 0 83 = mI M 11 0 83 → k5 v1 M') : w_Model_goOn_j227 0 Q k5 v1 2 M := by
  have hA : TA G US A S W w br nq nl nf nk B F x (sWt X t (some u)) (sI M 13 (3 * w + t) 1 1) := by
    refine h.w1 ht ?_
    unfold uW
    have w2 : mI (sI M 13 (3 * w + t) 1 1) 13 (3 * w + t) 2 = wCd u := by rw [mI_sI, if_neg (fun z => absurd z.2.2 (by decide))]; exact e2
    have w1 : mI (sI M 13 (3 * w + t) 1 1) 13 (3 * w + t) 1 = 1 := by rw [mI_sI, if_pos ⟨rfl, rfl, rfl⟩]
    cases u with
    | inl r => exact ⟨w1, w2⟩
    | inr k => exact ⟨w1, w2⟩
  have eN : zN (sWt X t (some u)) t = qW (zN X t) (some u) := up1_s
  have on := (hA.2.2.2.2.2.2 t ht).1.on (by rw [eN]; show lSt (zN X t) ≤ 2; omega)
  unfold w_Model_goOn_j227
  refine ⟨3 * w + t, r46, itp rfl ?_⟩
  unfold w_Model_goOn_j241 w_Model_goOn_j263
  refine ⟨Or.inr rfl, 3 * w + t, r46, itp (on.mpr (by rw [eN]; exact hon)) (h1 _ hA ?_)⟩
  rw [mI_sI, if_neg (fun z => absurd z.1 (by decide))]
/-- a thread acts -/
theorem ct_act167 (hW : WO W) (hns : NSi W) (hFb : F < 1000000) (h : TA G US A S W w br nq nl nf nk B F (Int32.ofNat (zT s1).2.1) (sWt s1 t none) M) (ht : t < 3) (hT1 : (zT s1).1 = t) (hl1 : 1 ≤ (zT s1).2.1) (hlb : (zT s1).2.1 < 1000000) (hon : lSt (zN (sWt s1 t none) t) = 1) (hw0 : lWt (zN (sWt s1 t none) t) = none) (hM : MO W (sWt s1 t none) t none (gU (sWt s1 t none) t)) (hF : (zF (sWt s1 t none)).length + 100 < F) (hk : LkN (sWt s1 t none)) (hkb : zK s1 < 1000000) (h83 : mI M 11 0 83 = Int32.ofNat m0)
    (hQ : ∀ x' m' M', TA G US A S W w br nq nl nf nk B F x' (turnA br W t s1) M' → TI2 x' (turnA br W t s1) → mI M' 11 0 83 = Int32.ofNat m' → (m' = if zK s1 < zK (turnA br W t s1) then m0 + 1 else m0) → k5 v1 M') : w_Model_goOn_j167 0 Q k5 v1 M := by
  have e63 : mI M 12 w 63 = Int32.ofNat t := by rw [← hT1]; exact h.2.2.2.1.2.2.1
  unfold w_Model_goOn_j167
  refine ⟨w, h.r45, w, h.r45, ?_⟩
  rw [e63, show mI (sI M 11 0 47 (Int32.ofNat t)) 11 0 47 = Int32.ofNat t from by rw [mI_sI, if_pos ⟨rfl, rfl, rfl⟩], oN_tnc (k := t) (by omega)]
  refine ⟨by show vp_in _ (mL M 704 w); rw [h.2.2.2.2.1.1]; exact (vp_oN (by omega)).mpr ht, 3 * w + t, h.2.2.2.2.1.2 t ht, ?_⟩
  have h1 := h.fr (M' := sR (sI M 11 0 47 (Int32.ofNat t)) 11 0 46 (some (13, 3 * w + t))) (Fr.wR rfl (Fr.wI rfl (Fr.rf _ _)))
  have r46 : mR (sR (sI M 11 0 47 (Int32.ofNat t)) 11 0 46 (some (13, 3 * w + t))) 11 0 46 = some (13, 3 * w + t) := by rw [mR_sR, if_pos ⟨rfl, rfl, rfl⟩]
  have e47 : mI (sR (sI M 11 0 47 (Int32.ofNat t)) 11 0 46 (some (13, 3 * w + t))) 11 0 47 = Int32.ofNat t := by rw [mI_sR, mI_sI, if_pos ⟨rfl, rfl, rfl⟩]
  have e83 : mI (sR (sI M 11 0 47 (Int32.ofNat t)) 11 0 46 (some (13, 3 * w + t))) 11 0 83 = Int32.ofNat m0 := by rw [mI_sR, mI_sI, if_neg (fun z => absurd z.2.2 (by decide))]; exact h83
  generalize sR (sI M 11 0 47 (Int32.ofNat t)) 11 0 46 (some (13, 3 * w + t)) = M1 at h1 r46 e47 e83 ⊢
  have T1 := h1.at r46 e47 ht ((h1.2.2.2.2.2.2 t ht).1.2.2.2 hon)
  have e131 : mI M1 13 (3 * w + t) 1 = 0 := by
    have d := T1.2.1.2.2.2.1
    unfold uW at d
    rw [hw0] at d
    exact d
  have hkn : ∀ y, 0 ≤ (lkR (sWt s1 t none) y).1 := fun y => by
    obtain ⟨n, e, hn⟩ := hk y
    have hn : n ≤ zK s1 := hn
    rw [e]; exact oN_zero_le (by omega)
  have hkq := Kq.adv (br := br) (W := W) (t := t) (s := (sWt s1 t none))
  have hkw := KwQ.adv (br := br) (W := W) (t := t) (s := (sWt s1 t none))
  have hlk := LkP.adv (br := br) (W := W) (t := t) (s := (sWt s1 t none)) hkb hk
  have hok := advS_ok (br := br) hW hM hon (by omega)
  have hX2 := (hok.all.2.1 t ht).2.1.1
  have eT : zT (advS br W t (sWt s1 t none)) = zT s1 := hkq.1
  refine mf_w_Model_advance (Q := fun r M' => (((r = 0 ∧ zK (advS br W t (sWt s1 t none)) = zK s1) ∨ (r = 1 ∧ zK (advS br W t (sWt s1 t none)) = zK s1 + 1)) ∧ TM G US A S W w br nq nl nf nk B F (Int32.ofNat (zT s1).2.1) (botF (gU (advS br W t (sWt s1 t none)) t)) t (advS br W t (sWt s1 t none)) (gU (advS br W t (sWt s1 t none)) t) M') ∨ (r = 2 ∧ ∃ L u, (advS br W t (sWt s1 t none)) = sWt (yL (sWt s1 t none) L) t (some u) ∧ TM G US A S W w br nq nl nf nk B F (Int32.ofNat (zT s1).2.1) (botF (gU (sWt s1 t none) t)) t (yL (sWt s1 t none) L) (gU (sWt s1 t none) t) M' ∧ mI M' 13 (3 * w + t) 2 = wCd u)) (fun r M2 hf hp => ?_) (ct_advT ⟨hW, hFb, hF⟩ T1 hM hon hw0 hkn hns (fun r M' hr h' => Or.inl ⟨hr, h'⟩) (fun L u M' e1 h' e2 => Or.inr ⟨rfl, L, u, e1, h', e2⟩))
  have f83 : mI M2 11 0 83 = Int32.ofNat m0 := (hf.I (f := 11) (k := 83) rfl 0).trans e83
  have f131 : mI M2 13 (3 * w + t) 1 = 0 := (hf.I (f := 13) (k := 1) rfl _).trans e131
  have eta : turnA br W t s1 = yT (advS br W t (sWt s1 t none)) ((zT (advS br W t (sWt s1 t none))).1, if lSt (zN (advS br W t (sWt s1 t none)) t) ≠ 1 ∨ waitS (advS br W t (sWt s1 t none)) t = true then 0 else (if zK s1 < zK (advS br W t (sWt s1 t none)) then (zT (advS br W t (sWt s1 t none))).2.1 - 1 else (zT (advS br W t (sWt s1 t none))).2.1), (zT (advS br W t (sWt s1 t none))).2.2) := rfl
  have eKt : zK (turnA br W t s1) = zK (advS br W t (sWt s1 t none)) := rfl
  have eNt : zN (turnA br W t s1) = zN (advS br W t (sWt s1 t none)) := rfl
  have eT1 : (zT (turnA br W t s1)).1 = t := by rw [eta]; show (zT (advS br W t (sWt s1 t none))).1 = t; rw [eT]; exact hT1
  have lkt : LkN (turnA br W t s1) := LkP.eq rfl rfl rfl hlk
  have hTI : ∀ x', (lWt (zN (advS br W t (sWt s1 t none)) t) = none → x' = Int32.ofNat (zT (turnA br W t s1)).2.1) → (lWt (zN (advS br W t (sWt s1 t none)) t) ≠ none → (zT (turnA br W t s1)).2.1 = 0) → TI2 x' (turnA br W t s1) := fun x' a b => by
    refine ⟨lkt, ?_, ?_⟩
    · rw [eT1, eNt]; exact a
    · rw [eT1, eNt]; exact b
  rw [eKt] at hQ
  rcases hp with ⟨hr, h2⟩ | ⟨hr, L, u, eX, h2, e2⟩
  · have r2 : mR M2 11 0 46 = some (13, 3 * w + t) := h2.r46
    have hw : lWt (zN (advS br W t (sWt s1 t none)) t) = none := by
      have d := h2.2.1.2.2.2.1
      unfold uW at d
      cases ew : lWt (zN (advS br W t (sWt s1 t none)) t) with
      | none => rfl
      | some u =>
        rw [ew] at d
        cases u with
        | inl r => exact absurd (d.1.symm.trans f131) (by decide)
        | inr k => exact absurd (d.1.symm.trans f131) (by decide)
    have hws : waitS (advS br W t (sWt s1 t none)) t = false := by unfold waitS; rw [hw]
    have h3 := h2.al
    generalize hX : (advS br W t (sWt s1 t none)) = X at *
    rw [hws] at eta
    rcases hr with ⟨hr, hK⟩ | ⟨hr, hK⟩
    · subst hr
      have hnk : ¬ zK s1 < zK X := by omega
      rw [if_neg hnk] at eta hQ
      refine itn (by decide) (ct_jA h3 hw r2 ht hX2 (by decide) (fun c1 => ?_) (fun c1 M3 h4 k83 => ?_))
      · have e' : turnA br W t s1 = X := by
          rw [eta, if_neg (fun z => by rcases z with z | z; exact z c1; cases z)]
        rw [e'] at hQ hTI
        exact hQ _ m0 M2 h3 (hTI _ (fun _ => by rw [eT]) (fun z => absurd hw z)) f83 rfl
      · rw [if_pos (Or.inl c1)] at eta
        rw [← eta] at h4
        exact hQ _ m0 M3 h4 (hTI _ (fun _ => by rw [eta]; rfl) (fun z => absurd hw z)) (k83.trans f83) rfl
    · subst hr
      have hnk : zK s1 < zK X := by omega
      rw [if_pos hnk] at eta hQ
      have a64 : mI M2 12 w 64 = Int32.ofNat (zT s1).2.1 := h3.2.2.2.1.2.2.2.2
      refine itp rfl ⟨w, h3.r45, _, rfl, ?_⟩
      rw [f83, show Int32.ofNat m0 + (1 : Int32) = Int32.ofNat (m0 + 1) from oN_add _ 1, show mI (sI M2 11 0 83 (Int32.ofNat (m0 + 1))) 12 w 64 = Int32.ofNat (zT s1).2.1 from by rw [mI_sI, if_neg (fun z => absurd z.1 (by decide))]; exact a64, show Int32.ofNat (zT s1).2.1 - (1 : Int32) = Int32.ofNat ((zT s1).2.1 - 1) from sub_n (n := 1) hl1]
      have h4 : TA G US A S W w br nq nl nf nk B F (Int32.ofNat ((zT s1).2.1 - 1)) (yT X ((zT X).1, (zT X).2.1 - 1, (zT X).2.2)) (sI (sI M2 11 0 83 (Int32.ofNat (m0 + 1))) 12 w 64 (Int32.ofNat ((zT s1).2.1 - 1))) := by
        have h5 := h3.fr (M' := sI M2 11 0 83 (Int32.ofNat (m0 + 1))) (Fr.wI rfl (Fr.rf _ _))
        refine h5.tn (Fr.wI rfl (Fr.rf _ _)) ⟨?_, ?_, ?_⟩
        · rw [mI_sI, if_neg (fun z => absurd z.2.2 (by decide))]; exact h5.2.2.2.1.2.2.1
        · rw [mI_sI, if_neg (fun z => absurd z.2.2 (by decide))]; exact h5.2.2.2.1.2.2.2.1
        · rw [mI_sI, if_pos ⟨rfl, rfl, rfl⟩]
      have g83 : mI (sI (sI M2 11 0 83 (Int32.ofNat (m0 + 1))) 12 w 64 (Int32.ofNat ((zT s1).2.1 - 1))) 11 0 83 = Int32.ofNat (m0 + 1) := by rw [mI_sI, if_neg (fun z => absurd z.1 (by decide)), mI_sI, if_pos ⟨rfl, rfl, rfl⟩]
      have r4 : mR (sI (sI M2 11 0 83 (Int32.ofNat (m0 + 1))) 12 w 64 (Int32.ofNat ((zT s1).2.1 - 1))) 11 0 46 = some (13, 3 * w + t) := r2
      generalize sI (sI M2 11 0 83 (Int32.ofNat (m0 + 1))) 12 w 64 (Int32.ofNat ((zT s1).2.1 - 1)) = M4 at h4 g83 r4 ⊢
      refine ct_jA (X := yT X ((zT X).1, (zT X).2.1 - 1, (zT X).2.2)) h4 hw r4 ht hX2 (by decide) (fun c1 => ?_) (fun c1 M3 h5 k83 => ?_)
      · have c1 : lSt (zN X t) = 1 := c1
        rw [if_neg (fun z => by rcases z with z | z; exact z c1; cases z)] at eta
        rw [← eta] at h4
        exact hQ _ (m0 + 1) M4 h4 (hTI _ (fun _ => by rw [eta]; show _ = Int32.ofNat ((zT X).2.1 - 1); rw [eT]) (fun z => absurd hw z)) g83 rfl
      · have c1 : lSt (zN X t) ≠ 1 := c1
        rw [if_pos (Or.inl c1)] at eta
        have h5 : TA G US A S W w br nq nl nf nk B F 0 (yT X ((zT X).1, 0, (zT X).2.2)) M3 := h5
        rw [← eta] at h5
        exact hQ _ (m0 + 1) M3 h5 (hTI _ (fun _ => by rw [eta]; rfl) (fun z => absurd hw z)) (k83.trans g83) rfl
  · subst hr
    have r2 : mR M2 11 0 46 = some (13, 3 * w + t) := h2.r46
    have h3 : TA G US A S W w br nq nl nf nk B F (Int32.ofNat (zT s1).2.1) (yL (sWt s1 t none) L) M2 := TM.al h2
    have hlw : lWt (zN (advS br W t (sWt s1 t none)) t) = some u := by rw [eX]; show lWt (up1 (zN (sWt s1 t none)) t (qW (zN (sWt s1 t none) t) (some u)) t) = _; rw [up1_s]
    have hws : waitS (advS br W t (sWt s1 t none)) t = true := by
      rcases hkw with z | z
      · have z : lWt (zN (advS br W t (sWt s1 t none)) t) = lWt (zN (sWt s1 t none) t) := z
        rw [hlw, hw0] at z; cases z
      · exact z
    have hK : zK (advS br W t (sWt s1 t none)) = zK s1 := by rw [eX]; rfl
    rw [if_neg (by omega)] at hQ
    refine itn (by decide) (ct_jB (X := yL (sWt s1 t none) L) h3 e2 r2 ht hon (fun M3 h4 k83 => ?_))
    rw [← eX] at h4
    have e0 : turnA br W t s1 = yT (advS br W t (sWt s1 t none)) ((zT (advS br W t (sWt s1 t none))).1, 0, (zT (advS br W t (sWt s1 t none))).2.2) := by rw [eta, if_pos (Or.inr hws)]
    have h5 : TA G US A S W w br nq nl nf nk B F (Int32.ofNat (zT s1).2.1) (turnA br W t s1) M3 := by
      rw [e0]
      exact ⟨h4.1, h4.2.1, h4.2.2.1, ⟨h4.2.2.2.1.1, h4.2.2.2.1.2.1, h4.2.2.2.1.2.2.1, h4.2.2.2.1.2.2.2.1, h4.2.2.2.1.2.2.2.2⟩, h4.2.2.2.2⟩
    exact hQ _ m0 M3 h5 (hTI _ (fun z => by rw [hlw] at z; cases z) (fun _ => by rw [e0])) (k83.trans f83) rfl
/-- the next one is chosen -/
theorem ct_choose (h : TA G US A S W w br nq nl nf nk B F x s M) (hA : MA W s) (hk : LkN s) (hkb : zK s < 1000000) (h51 : W.length ≤ 51) (hq0 : (zT s).2.2 < 1000000) (n0 : ¬ (0 < (zT s).2.1 ∧ canG s (zT s).1)) (hQ0 : turnS s = none → Q 3 M) (hQ1 : ∀ t s1 M', turnS s = some (t, s1) → TA G US A S W w br nq nl nf nk B F (Int32.ofNat (zT s1).2.1) (sWt s1 t none) M' → mI M' 11 0 83 = mI M 11 0 83 → w_Model_goOn_j167 0 Q k5 v1 M') : w_Model_goOn_j67 0 Q k5 v1 M := by
  obtain ⟨e3, e5, e4⟩ := h.2.2.2.1.2.2
  have ht := hA.1.2.2
  have hX := hA.2.1
  have l7 := h.2.2.2.2.1.1
  have R7 := h.2.2.2.2.1.2
  have loop : ∀ n k, 5 - k < n → 1 ≤ k → k ≤ 4 → (∀ m, 1 ≤ m → m < k → ¬ canG s (((zT s).1 + m) % 3)) → w_Model_goOn_L73 0 Q k5 n v1 (-2) (Int32.ofNat k) M := by
    intro n
    induction n with
    | zero => intro k hn; exact absurd hn (by omega)
    | succ n ih =>
      intro k hn h1 h4 nm
      unfold w_Model_goOn_L73
      by_cases k4 : k = 4
      · refine itp (by rw [k4]; decide) ?_
        unfold w_Model_goOn_j126
        refine itn (by decide) (hQ0 ?_)
        unfold turnS
        rw [if_neg n0, if_neg (nm 1 (by omega) (by omega)), if_neg (nm 2 (by omega) (by omega)), if_neg (nm 3 (by omega) (by omega))]
      have hm3 : ((zT s).1 + k) % 3 < 3 := Nat.mod_lt _ (by omega)
      have em : (mI M 12 w 63 + Int32.ofNat k) - (mI M 12 w 63 + Int32.ofNat k) / (3 : Int32) * (3 : Int32) = Int32.ofNat (((zT s).1 + k) % 3) := by
        rw [e3, oN_add]; exact oN_mod (b := 3) (by omega) (by omega)
      refine itn (fun z => by have := (oN_lt (a := 3) (b := k) (by omega) (by omega)).mp z; omega) (itn (by decide) ⟨w, h.r45, by decide, ?_⟩)
      rw [em]
      refine ct_canGo h (hX _ hm3) hk hkb h51 hm3 ?_
      unfold w_Model_goOn_j119
      by_cases cg : canG s (((zT s).1 + k) % 3)
      · rw [decide_eq_true cg]
        refine itn (by decide) ⟨w, h.r45, by decide, ?_⟩
        rw [em]
        obtain ⟨n', hn'⟩ : ∃ n', n = n' + 1 := ⟨n - 1, by omega⟩
        subst hn'
        have j126 : w_Model_goOn_j126 0 Q k5 v1 (Int32.ofNat (((zT s).1 + k) % 3)) M := by
          unfold w_Model_goOn_j126
          refine itp (oN_zero_le (show ((zT s).1 + k) % 3 < 2147483648 by omega)) ⟨w, h.r45, w, h.r45, w, h.r45, w, h.r45, by show vp_in _ (mL M 704 w); rw [l7]; exact (vp_oN (by omega)).mpr hm3, 3 * w + ((zT s).1 + k) % 3, ?_, Or.inl rfl, _, rfl, ?_⟩
          · rw [oN_tnc (k := ((zT s).1 + k) % 3) (by omega)]; exact R7 _ hm3
          have e5' : mI (sI M 12 w 63 (Int32.ofNat (((zT s).1 + k) % 3))) 12 w 65 = Int32.ofNat (zT s).2.2 := by rw [mI_sI, if_neg (fun z => absurd z.2.2 (by decide))]; exact e5
          rw [e5']
          have hf : Fr STb M (sI (sI M 12 w 63 (Int32.ofNat (((zT s).1 + k) % 3))) 12 w 64 (Int32.ofNat (zT s).2.2)) := Fr.wI rfl (Fr.wI rfl (Fr.rf _ _))
          have h2 : TA G US A S W w br nq nl nf nk B F (Int32.ofNat (zT s).2.2) (yT s (((zT s).1 + k) % 3, (zT s).2.2, (zT s).2.2)) (sI (sI M 12 w 63 (Int32.ofNat (((zT s).1 + k) % 3))) 12 w 64 (Int32.ofNat (zT s).2.2)) := by
            refine h.tn hf ⟨?_, ?_, ?_⟩
            · rw [mI_sI, if_neg (fun z => absurd z.2.2 (by decide)), mI_sI, if_pos ⟨rfl, rfl, rfl⟩]
            · rw [mI_sI, if_neg (fun z => absurd z.2.2 (by decide))]; exact e5'
            · rw [mI_sI, if_pos ⟨rfl, rfl, rfl⟩]
          have h3 := h2.w1 (t := ((zT s).1 + k) % 3) (u := none) (v := 0) hm3 (by unfold uW; rw [mI_sI, if_pos ⟨rfl, rfl, rfl⟩])
          refine hQ1 (((zT s).1 + k) % 3) (yT s (((zT s).1 + k) % 3, (zT s).2.2, (zT s).2.2)) _ ?_ h3 ?_
          · have hk : k = 1 ∨ k = 2 ∨ k = 3 := by omega
            unfold turnS
            rcases hk with z | z | z <;> subst z
            · rw [if_neg n0, if_pos cg]
            · rw [if_neg n0, if_neg (nm 1 (by omega) (by omega)), if_pos cg]
            · rw [if_neg n0, if_neg (nm 1 (by omega) (by omega)), if_neg (nm 2 (by omega) (by omega)), if_pos cg]
          · rw [mI_sI, if_neg (fun z => absurd z.1 (by decide)), mI_sI, if_neg (fun z => absurd z.1 (by decide)), mI_sI, if_neg (fun z => absurd z.1 (by decide))]
        unfold w_Model_goOn_L73
        by_cases k3 : (3 : Int32) < Int32.ofNat k + 1
        · exact itp k3 j126
        · exact itn k3 (itp (oN_zero_le (show ((zT s).1 + k) % 3 < 2147483648 by omega)) j126)
      · rw [decide_eq_false cg]
        refine itp rfl ?_
        rw [show Int32.ofNat k + (1 : Int32) = Int32.ofNat (k + 1) from oN_add k 1]
        refine ih (k + 1) (by omega) (by omega) (by omega) (fun m m1 m2 => ?_)
        by_cases e : m = k
        · rw [e]; exact cg
        · exact nm m m1 (by omega)
  unfold w_Model_goOn_j67
  exact ⟨5, loop 5 1 (by omega) (by omega) (by omega) (fun m m1 m2 => by omega)⟩
theorem anyOn_of (ht : t < 3) (h : lSt (zN s t) = 1) : anyOn s := by
  have : t = 0 ∨ t = 1 ∨ t = 2 := by omega
  rcases this with z | z | z <;> subst z
  · exact Or.inl h
  · exact Or.inr (Or.inl h)
  · exact Or.inr (Or.inr h)
/-- up to n steps -/
theorem ct_goT (hW : WO W) (hns : NSi W) (hF : F < 1000000) (hCF : C + K + 300 < F) : ∀ f n m0 x s M, TA G US A S W w br nq nl nf nk B F x s M → GI W K s → TI2 x s → zK s + n ≤ C → n * 900 + muS s < f → mI M 11 0 83 = Int32.ofNat m0 → m0 + n < 1000000 → (∀ x' m' M', TA G US A S W w br nq nl nf nk B F x' (gowS br W f n s).2 M' → GI W K (gowS br W f n s).2 → TI2 x' (gowS br W f n s).2 → mI M' 11 0 83 = Int32.ofNat m' → m' + zK s = m0 + zK (gowS br W f n s).2 → Q (goR (gowS br W f n s)) M') → w_Model_goOn_L5 0 Q f (Int32.ofNat (m0 + n)) M := by
  intro f
  induction f with
  | zero => intro n m0 x s M _ _ _ _ hf; exact absurd hf (by omega)
  | succ f ih =>
    intro n m0 x s M h hG hI hn hf h83 hmn hQ
    have h51 := hW.2.2.2
    have hX := hG.1.2.1
    have hT3 := hG.1.1.2.2
    unfold w_Model_goOn_L5
    refine ⟨w, h.r45, ct_isAnyOn h hX ?_⟩
    by_cases ca : anyOn s
    · rw [decide_eq_true ca]
      refine itn (by decide) ?_
      cases n with
      | zero =>
        have eg : gowS br W (f + 1) 0 s = (true, s) := rfl
        rw [eg] at hQ
        have := hQ x m0 M h hG hI h83 rfl
        unfold goR at this
        rw [if_pos ca, if_pos rfl] at this
        exact itp h83 this
      | succ n =>
        refine itn (fun z => by have := (oN_inj (a := m0) (b := m0 + (n + 1)) (by omega) (by omega)).mp (h83.symm.trans z); omega) ?_
        have act : ∀ t s1 M', turnS s = some (t, s1) → TA G US A S W w br nq nl nf nk B F (Int32.ofNat (zT s1).2.1) (sWt s1 t none) M' → mI M' 11 0 83 = Int32.ofNat m0 → w_Model_goOn_j167 0 Q (w_Model_goOn_L5 0 Q f) (Int32.ofNat (m0 + (n + 1))) M' := fun t s1 M1 e h1 k83 => by
          have eg : gowS br W (f + 1) (n + 1) s = gowS br W f (if zK s1 < zK (turnA br W t s1) then n else n + 1) (turnA br W t s1) := by
            show (match turnS s with | none => (false, s) | some (t, s1) => _) = _
            rw [e]
          rw [eg] at hQ
          have hft := hG.ft
          obtain ⟨hok, hG2, hstep⟩ := turn_ok (br := br) hW hG (by omega) e
          obtain ⟨⟨ht, hon, hw0⟩, hM, ⟨eF, eK, eK1⟩, -, ⟨z1, z2, z3, z4, z5⟩, hA1⟩ := hG.beg e
          obtain ⟨-, -, y, ey, y1, -, -, -⟩ := turnS_ok e hT3 hG.2.1.2.1
          have hT1 : (zT s1).1 = t := by rw [ey]; exact y1
          have hk1 : LkN (sWt s1 t none) := by
            rw [ey]
            exact LkP.eq rfl rfl rfl hI.1
          refine ct_act167 hW hns hF h1 ht hT1 z2 z3 hon hw0 hM (by rw [eF]; omega) hk1 (by omega) k83 (fun x' m' M2 h2 hI2 j83 em => ?_)
          by_cases cs : zK s1 < zK (turnA br W t s1)
          · rw [if_pos cs] at em hQ
            subst em
            rw [show m0 + (n + 1) = m0 + 1 + n by omega]
            have hK2 : zK (turnA br W t s1) = zK s + 1 := by rcases hstep with z | z; exact absurd cs (by omega); exact z
            have hmm := mu_max hW hG2.1
            exact ih n (m0 + 1) x' (turnA br W t s1) M2 h2 hG2 hI2 (by omega) (go_a2 hf hmm) j83 (by omega) (fun x2 m2 M3 a1 a2 a3 a4 a5 => hQ x2 m2 M3 a1 a2 a3 a4 (by omega))
          · rw [if_neg cs] at em hQ
            subst em
            have hK2 : zK (turnA br W t s1) = zK s ∧ muS (turnA br W t s1) < muS s := by rcases hstep with z | z; exact z; exact absurd cs (by omega)
            exact ih (n + 1) m' x' (turnA br W t s1) M2 h2 hG2 hI2 (by omega) (go_a1 hf hK2.2) j83 (by omega) (fun x2 m2 M3 a1 a2 a3 a4 a5 => hQ x2 m2 M3 a1 a2 a3 a4 (by omega))
        have ch : ¬ (0 < (zT s).2.1 ∧ canG s (zT s).1) → w_Model_goOn_j67 0 Q (w_Model_goOn_L5 0 Q f) (Int32.ofNat (m0 + (n + 1))) M := fun nc => by
          refine ct_choose h hG.1 hI.1 (by omega) h51 hG.2.1.2.2 nc (fun e => ?_) (fun t s1 M' e h' k83 => act t s1 M' e h' (k83.trans h83))
          have eg : gowS br W (f + 1) (n + 1) s = (false, s) := by
            show (match turnS s with | none => (false, s) | some (t, s1) => _) = _
            rw [e]
          rw [eg] at hQ
          have := hQ x m0 M h hG hI h83 rfl
          unfold goR at this
          rw [if_pos ca, if_neg (by dsimp only; decide)] at this
          exact this
        obtain ⟨e3, e5, e4⟩ := h.2.2.2.1.2.2
        have hN := h.2.2.2.2.2.2 (zT s).1 hT3
        have on := hN.1.on (hX _ hT3).2.1.1
        have hw := hN.1.2.2.1
        refine ⟨w, h.r45, w, h.r45, ?_⟩
        rw [e3, oN_tnc (k := (zT s).1) (by omega)]
        refine ⟨by rw [h.2.2.2.2.1.1]; exact (vp_oN (by omega)).mpr hT3, 3 * w + (zT s).1, h.2.2.2.2.1.2 _ hT3, w, h.r45, ?_⟩
        rw [e4]
        by_cases x0 : x = 0
        · refine itp x0 (ch (fun z => ?_))
          by_cases cw : lWt (zN s (zT s).1) = none
          · have := hI.2.1 cw
            rw [x0] at this
            have := (oN_inj (a := 0) (b := (zT s).2.1) (by omega) (by have := hG.2.1.1; omega)).mp this
            omega
          · have := hI.2.2 cw; omega
        refine itn x0 ?_
        by_cases c1 : lSt (zN s (zT s).1) = 1
        · refine itp (on.mpr c1) ?_
          unfold uW at hw
          cases ew : lWt (zN s (zT s).1) with
          | none =>
            rw [ew] at hw
            have ex := hI.2.1 ew
            have hl : 0 < (zT s).2.1 := by
              rcases Nat.eq_zero_or_pos (zT s).2.1 with z | z
              · rw [z] at ex; exact absurd ex x0
              · exact z
            have hc : canG s (zT s).1 := ⟨c1, by unfold waitS; rw [ew]⟩
            refine itp hw (act (zT s).1 s M ?_ ?_ h83)
            · unfold turnS; rw [if_pos ⟨hl, hc⟩]
            · rw [sWt_same ew, ← ex]; exact h
          | some u =>
            rw [ew] at hw
            have hl := hI.2.2 (by rw [ew]; exact fun z => by cases z)
            refine itn (fun z => ?_) (ch (fun z => by omega))
            cases u with
            | inl r => exact absurd (hw.1.symm.trans z) (by decide)
            | inr k => exact absurd (hw.1.symm.trans z) (by decide)
        · exact itn (fun z => c1 (on.mp z)) (ch (fun z => c1 z.2.1))
    · rw [decide_eq_false ca]
      refine itp rfl ?_
      have eg : (gowS br W (f + 1) n s).2 = s := by
        cases n with
        | zero => rfl
        | succ n =>
          have et : turnS s = none := by
            unfold turnS
            have nc : ∀ t, t < 3 → ¬ canG s t := fun t ht z => ca (anyOn_of ht z.1)
            rw [if_neg (fun z => nc _ hT3 z.2), if_neg (nc _ (Nat.mod_lt _ (by omega))), if_neg (nc _ (Nat.mod_lt _ (by omega))), if_neg (nc _ (Nat.mod_lt _ (by omega)))]
          show (match turnS s with | none => (false, s) | some (t, s1) => _).2 = _
          rw [et]
      unfold goR at hQ
      rw [eg, if_neg ca] at hQ
      exact hQ x m0 M h hG hI h83 rfl
end
