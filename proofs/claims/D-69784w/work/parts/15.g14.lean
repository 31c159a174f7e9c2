/-! THE MACHINE IN THE WORKS: a step; the top of the stack -/
section
variable {A : List Nm} {W : List Cls} {w C B F t L : Nat} {br : Int32} {nq nk np nh nr : Nat} {s s' : Ms} {M M' M1 : Mem} {S : Nat} {l : Ln} {U V : List Un} {r : Int32} {c j a k : Nat} {lo st lo' st' : List Vl} {o : Option Kd} {L' : LkS}
/-- an instruction is done -/
theorem c_tick {op : Nat} {Q : Mem → Prop} (h : RM A W w br nq nk np nh nr C B F t s U M) (ho : op < 62) (hC : zK s < C) (hCb : C < 1000000) (hQ : ∀ M', RM A W w br nq nk np nh nr C B F t (tickS s t op) U M' → (∀ i, i = 32 ∨ i = 33 ∨ i = 34 ∨ i = 36 → mI M' 6 w i = mI M 6 w i) → Q M') : w_Machine_step w (Int32.ofNat op) Q M := by
  have R2 : mR M 6 w 2 = some (7, 3 * w + t) := h.1.2.2.2.2.1.1
  have f12 : mI M 7 (3 * w + t) 12 = Int32.ofNat (lSp (zN s t)) := h.2.1.2.1.2.2.2
  obtain ⟨d0, d1, d2⟩ := h.1.2.2.2.1.2.1
  unfold w_Machine_step
  rw [oN_tnc (k := op) (by omega)]
  have e88 : ∀ v, mI (sI M 7 (3 * w + t) 12 v) 88 w op = zD s op := fun v => by rw [mI_sI, if_neg (fun z => absurd z.1 (by decide))]; exact d1 op ho
  refine ⟨3 * w + t, R2, by show vp_in _ (mL M 88 w); rw [d0]; exact (vp_oN (by omega)).mpr ho, by show vp_in _ (mL M 88 w); rw [d0]; exact (vp_oN (by omega)).mpr ho, _, rfl, ?_⟩
  rw [f12, e88, show Int32.ofNat (lSp (zN s t)) + (1 : Int32) = Int32.ofNat (lSp (zN s t) + 1) from oN_add _ 1]
  have ag : AgT w t M (sI M 7 (3 * w + t) 12 (Int32.ofNat (lSp (zN s t) + 1))) := AgT.rf.w7
  have key : ∀ M2, Fr (314939372073245997294479056198848643748022757308629431236126215464975052957356274886492177366679925653101990209037262056579298350309948626837781115408729172796149593691096324457733969948508330732191930429377761386607226448817580803433751233845424736459083944655529713107070333043641985357750506497368767464607667884411115354607824155068574823002302662887383162338214681682536781307773021133550218363516904899451929153008826543393803368669116097093430423672775332851068592259000589199864430791871348434886862966830258458389468623919193232773821490123950751284611032451092621314639372865485206873509357568290238841400503043502953960330951440322517472281946684207166744747530793144481129364864607039490158194479319577244242068587006004905535316152863254659492783080363612213545639339684129519871232555648172928351929343684097491860300985152889571996736034604003628774164457290627174651596287522213735602061312) (sI M 7 (3 * w + t) 12 (Int32.ofNat (lSp (zN s t) + 1))) M2 → rD w C (tickS s t op) M2 → RM A W w br nq nk np nh nr C B F t (tickS s t op) U M2 := fun M2 hf hD => by
    obtain ⟨⟨a1, a2⟩, ⟨b1, b2'⟩, ⟨c1, c2⟩, ⟨d1, -, d3⟩, ⟨e1, e2, e3⟩, g⟩ := h.1.ag ag
    have hN : zN (tickS s t op) t = qS (zN s t) := up1_s
    refine ⟨⟨⟨(a1.fr hf).1, a2.fr hf⟩, ⟨b1.fr hf, b2'.fr hf⟩, ⟨c1.fr hf, c2.fr hf (hf.ms)⟩, ⟨d1.fr hf, hD, d3.fr hf⟩, ⟨(hf.R (f := 6) (k := 2) rfl w).trans e1, (hf.L (f := 700) rfl w).trans e2, fun t' ht => (hf.Ra (f := 700) rfl rfl w t').trans (e3 t' ht)⟩, fun t' ht hne => ?_⟩, ?_, ?_, ?_⟩
    · have : zN (tickS s t op) t' = zN s t' := up1_o hne
      rw [this]; exact (g t' ht hne).fr hf rfl
    · rw [hN]
      refine rL.fr ?_ hf rfl
      obtain ⟨⟨a1, a2, a3, a4⟩, ⟨b1, b2', b3, b4⟩, ⟨c1, c2, c3, c4⟩, d, e⟩ := h.2.1
      have rd : ∀ i, i ≠ 12 → mI (sI M 7 (3 * w + t) 12 (Int32.ofNat (lSp (zN s t) + 1))) 7 (3 * w + t) i = mI M 7 (3 * w + t) i := fun i hi => by rw [mI_sI, if_neg (fun z => hi z.2.2)]
      refine ⟨⟨a1, a2, a3, a4⟩, ⟨(rd 0 (by omega)).trans b1, (rd 10 (by omega)).trans b2', (rd 11 (by omega)).trans b3, ?_⟩, ⟨(rd 13 (by omega)).trans c1, (rd 14 (by omega)).trans c2, (rd 15 (by omega)).trans c3, (rd 16 (by omega)).trans c4⟩, ?_, fun z i hi => ?_⟩
      · rw [mI_sI, if_pos ⟨rfl, rfl, rfl⟩]
      · have d' : rW (zN s t) (3 * w + t) M := d
        unfold rW at d' ⊢
        rw [rd 18 (by omega), rd 19 (by omega)]
        exact d'
      · rw [mI_sI, if_neg (fun z => absurd z.1 (by decide))]; exact e z i hi
    · refine rU.fr ⟨?_, ?_, LU.w7 h.2.2.1.2.2⟩ hf rfl
      · rw [mI_sI, if_neg (fun z => absurd z.2.2 (by decide))]; exact h.2.2.1.1
      · rw [mI_sI, if_neg (fun z => absurd z.2.2 (by decide))]; exact h.2.2.1.2.1
    · rw [hN]
      exact fun z => ((h.2.2.2 z).fr ag.1.1).fr hf
  have e35 : ∀ v v', mI (sI (sI M 7 (3 * w + t) 12 v) 88 w op v') 6 w 35 = mI M 6 w 35 := fun v v' => by simp only [mI_sI, Nat.reduceEqDiff, false_and, if_false]
  have e10 : ∀ v v', mI (sI (sI M 7 (3 * w + t) 12 v) 88 w op v') 10 0 8 = mI M 10 0 8 := fun v v' => by simp only [mI_sI, Nat.reduceEqDiff, false_and, if_false]
  have dn : ∀ M2, (∀ i, mI M2 88 w i = if i = op then zD s op + 1 else mI M 88 w i) → ∀ i, i < 62 → mI M2 88 w i = zD (tickS s t op) i := fun M2 h2 i hi => by
    rw [h2]
    show _ = up1 (zD s) op (zD s op + 1) i
    by_cases e : i = op
    · rw [if_pos e, e, up1_s]
    · rw [if_neg e, up1_o e]; exact d1 i hi
  have r88 : ∀ v v' i, mI (sI (sI M 7 (3 * w + t) 12 v) 88 w op v') 88 w i = if i = op then v' else mI M 88 w i := fun v v' i => by
    simp only [mI_sI, Nat.reduceEqDiff, false_and, if_false, true_and]
  rw [e35, e10]
  rcases d2 with d2 | ⟨d2, d3, d4⟩
  · rw [d2]
    refine itn (by decide) (hQ _ (key _ (Fr.wIa rfl rfl (Fr.rf _ _)) ⟨d0, dn _ (fun i => r88 _ _ i), Or.inl ?_⟩) (fun i hi => ?_))
    · rw [e35]; exact d2
    · simp only [mI_sI, Nat.reduceEqDiff, false_and, if_false]
  · rw [d2]
    refine itp rfl (hQ _ (key _ (Fr.wI rfl (Fr.wIa rfl rfl (Fr.rf _ _))) ⟨d0, dn _ (fun i => ?_), Or.inr ⟨?_, ?_, ?_⟩⟩) (fun i hi => ?_))
    · rw [mI_sI, if_neg (fun z => absurd z.1 (by decide))]; exact r88 _ _ i
    · rw [mI_sI, if_neg (fun z => absurd z.1 (by decide)), e35]; exact d2
    · show zK s + 1 ≤ C; omega
    · rw [mI_sI, if_pos ⟨rfl, rfl, rfl⟩, d4, lit32 1, oN_sub (by omega)]
      show Int32.ofNat (C - zK s - 1) = Int32.ofNat (C - (zK s + 1))
      rw [Nat.sub_sub]
    · simp only [mI_sI, Nat.reduceEqDiff, false_and, if_false]
/-- the top frame while an instruction acts -/
def RI (A : List Nm) (W : List Cls) (w : Nat) (br : Int32) (nq nk np nh nr C B F t : Nat) (s : Ms) (c j a : Nat) (lo st : List Vl) (U : List Un) (M : Mem) : Prop := RM A W w br nq nk np nh nr C B F t s (.inl (c, j, a, lo, st) :: U) M ∧ (mI M 6 w 33 = Int32.ofNat (40 * U.length) ∧ mI M 6 w 34 = Int32.ofNat st.length) ∧ (U.length ≤ 90 ∧ st.length ≤ 20 ∧ lo.length = 20) ∧ stk U
theorem c_num {d : Nat} {Q : Int32 → Mem → Prop} (h : RI A W w br nq nk np nh nr C B F t s c j a lo st U M) (hd : d < st.length) (hQ : Q (tv st d).1 M) : w_Machine_number w (Int32.ofNat d) Q M := by
  obtain ⟨hR, ⟨h33, h34⟩, ⟨hU, hs, -⟩, -⟩ := h
  unfold w_Machine_number
  have e : Int32.ofNat (40 * U.length) + (20 : Int32) + Int32.ofNat st.length - (1 : Int32) - Int32.ofNat d = Int32.ofNat (40 * U.length + 20 + (st.length - 1 - d)) := by
    rw [lit32 20, oN_add, oN_add, lit32 1, oN_sub (by omega), oN_sub (by omega)]
    congr 1; omega
  rw [h33, h34, e]
  refine ⟨3 * w + t, hR.1.2.2.2.2.1.1, by rw [hR.2.1.1.2.1]; exact (vp_oN (by omega)).mpr (by omega), ?_⟩
  rw [oN_tnc (by omega), (hR.2.2.1.2.2.1.2.2 (st.length - 1 - d) (by omega)).1]
  exact hQ
/-- the top frame changes -/
theorem RM.top (h : RM A W w br nq nk np nh nr C B F t s (.inl (c, j, a, lo, st) :: U) M) (hst : stk U) (ag : AgT w t M M') (h1 : ∀ g i, 89 ≤ g → g ≤ 93 → i < U.length → mI M' g (3 * w + t) i = mI M g (3 * w + t) i) (h2 : ∀ i, i < 40 * U.length → mI M' 94 (3 * w + t) i = mI M 94 (3 * w + t) i ∧ mI M' 514 (3 * w + t) i = mI M 514 (3 * w + t) i) (h7 : ∀ i, mI M' 7 (3 * w + t) i = mI M 7 (3 * w + t) i) (h95 : ∀ i, mI M' 95 (3 * w + t) i = mI M 95 (3 * w + t) i) (hL : ∀ f, mL M' f (3 * w + t) = mL M f (3 * w + t)) (e89 : mI M' 89 (3 * w + t) U.length = mI M 89 (3 * w + t) U.length) (e92 : mI M' 92 (3 * w + t) U.length = mI M 92 (3 * w + t) U.length) {a' : Nat} (e90 : mI M' 90 (3 * w + t) U.length = Int32.ofNat a') (e91 : mI M' 91 (3 * w + t) U.length = Int32.ofNat st'.length)
    (hlo : ∀ i, i < 20 → mI M' 94 (3 * w + t) (40 * U.length + i) = (lv lo' i).1 ∧ mI M' 514 (3 * w + t) (40 * U.length + i) = b2 (lv lo' i).2) (hss : ∀ i, i < st'.length → mI M' 94 (3 * w + t) (40 * U.length + 20 + i) = (lv st' i).1 ∧ mI M' 514 (3 * w + t) (40 * U.length + 20 + i) = b2 (lv st' i).2) : RM A W w br nq nk np nh nr C B F t (sU s t (.inl (c, j, a', lo', st') :: U)) (.inl (c, j, a', lo', st') :: U) M' := by
  refine ⟨(h.1.ag ag).su, ?_, ⟨(h7 1).trans h.2.2.1.1, (h7 2).trans h.2.2.1.2.1, ⟨⟨e89.trans h.2.2.1.2.2.1.1.1, e90, e91, e92.trans h.2.2.1.2.2.1.1.2.2.2⟩, hlo, hss⟩, ?_⟩, ?_⟩
  · rw [sU_N]; exact rL.g (l := qU (zN s t) _) h.2.1 h7 h95 hL
  · exact LU.kp (M := M) (n := U.length) (fun g f a b c => h1 g f a b c) h2 h.2.2.1.2.2.2 hst (Nat.le_refl _)
  · rw [sU_N]; exact fun z => (h.2.2.2 z).fr ag.1.1
/-- the instruction is done: so many values are left -/
theorem c_go {Q : Mem → Prop} {n a' : Nat} (h : RI A W w br nq nk np nh nr C B F t s c j a lo st U M) (hn : n ≤ st.length) (hQ : ∀ M', RM A W w br nq nk np nh nr C B F t (sU s t (.inl (c, j, a', lo, st.take n) :: U)) (.inl (c, j, a', lo, st.take n) :: U) M' → Q M') : w_Machine_goesTo w (Int32.ofNat U.length) (Int32.ofNat a') Q (sI M 6 w 34 (Int32.ofNat n)) := by
  obtain ⟨hR, ⟨h33, h34⟩, ⟨hU, hs, hl⟩, hst⟩ := h
  have R2 : mR M 6 w 2 = some (7, 3 * w + t) := hR.1.2.2.2.2.1.1
  unfold w_Machine_goesTo
  rw [oN_tnc (k := U.length) (by omega), show mI (sI M 6 w 34 (Int32.ofNat n)) 6 w 34 = Int32.ofNat n by rw [mI_sI, if_pos ⟨rfl, rfl, rfl⟩]]
  refine ⟨3 * w + t, R2, by show vp_in _ (mL M 91 (3 * w + t)); rw [hR.2.1.1.1 91 (by omega) (by omega)]; exact (vp_oN (by omega)).mpr (by omega), 3 * w + t, R2, by show vp_in _ (mL M 90 (3 * w + t)); rw [hR.2.1.1.1 90 (by omega) (by omega)]; exact (vp_oN (by omega)).mpr (by omega), _, rfl, hQ _ ?_⟩
  have hln : (st.take n).length = n := by rw [List.length_take]; omega
  obtain ⟨-, p5, p6⟩ := hR.2.2.1.2.2.1
  refine hR.top hst (AgT.rf.w6.wa.wa) (fun g i a b c => ?_) (fun i hi => ⟨?_, ?_⟩) (fun i => ?_) (fun i => ?_) (fun _ => rfl) ?_ ?_ ?_ ?_ (fun i hi => ?_) (fun i hi => ?_)
  · rw [mI_sI, if_neg (by omega), mI_sI, if_neg (by omega), mI_sI, if_neg (by omega)]
  · simp only [mI_sI, Nat.reduceEqDiff, false_and, if_false]
  · simp only [mI_sI, Nat.reduceEqDiff, false_and, if_false]
  · simp only [mI_sI, Nat.reduceEqDiff, false_and, if_false]
  · simp only [mI_sI, Nat.reduceEqDiff, false_and, if_false]
  · simp only [mI_sI, Nat.reduceEqDiff, false_and, if_false]
  · simp only [mI_sI, Nat.reduceEqDiff, false_and, if_false]
  · simp only [mI_sI, and_self, if_true]
  · rw [hln]; simp only [mI_sI, Nat.reduceEqDiff, false_and, if_false, and_self, if_true]
  · simp only [mI_sI, Nat.reduceEqDiff, false_and, if_false]; exact p5 i hi
  · rw [hln] at hi
    simp only [mI_sI, Nat.reduceEqDiff, false_and, if_false]
    have : lv (st.take n) i = lv st i := by
      show (st.take n).getD i _ = st.getD i _
      rw [List.getD_eq_getElem?_getD, List.getElem?_take, if_pos hi, List.getD_eq_getElem?_getD]
    rw [this]; exact p6 i (by omega)
/-- so many values go, one comes, the instruction is done -/
theorem c_comesGo {Q : Mem → Prop} {p a' : Nat} {v : Int32} {b : Bool} (h : RI A W w br nq nk np nh nr C B F t s c j a lo st U M) (hp : p ≤ st.length) (hn : st.length - p < 20) (hQ : ∀ M', RM A W w br nq nk np nh nr C B F t (sU s t (.inl (c, j, a', lo, drp st p ++ [(v, b)]) :: U)) (.inl (c, j, a', lo, drp st p ++ [(v, b)]) :: U) M' → Q M') : w_Machine_push w v (b2 b) (fun M' => w_Machine_goesTo w (Int32.ofNat U.length) (Int32.ofNat a') Q M') (sI M 6 w 34 (Int32.ofNat (st.length - p))) := by
  obtain ⟨hR, ⟨h33, h34⟩, ⟨hU, hs, hl⟩, hst⟩ := h
  have R2 : mR M 6 w 2 = some (7, 3 * w + t) := hR.1.2.2.2.2.1.1
  unfold w_Machine_push
  have e33 : mI (sI M 6 w 34 (Int32.ofNat (st.length - p))) 6 w 33 = Int32.ofNat (40 * U.length) := by rw [mI_sI, if_neg (fun z => absurd z.2.2 (by decide))]; exact h33
  have e34 : mI (sI M 6 w 34 (Int32.ofNat (st.length - p))) 6 w 34 = Int32.ofNat (st.length - p) := by rw [mI_sI, if_pos ⟨rfl, rfl, rfl⟩]
  rw [e33, e34, lit32 20, oN_add, oN_add]
  generalize hm : st.length - p = m at *
  refine c_set (b := b) (L := 3 * w + t) R2 hR.2.1.1.2.1 hR.2.1.1.2.2.1 (by omega) ?_
  have e34' : ∀ x y z : Int32, mI (sI (sI (sI M 6 w 34 x) 94 (3 * w + t) (40 * U.length + 20 + m) y) 514 (3 * w + t) (40 * U.length + 20 + m) z) 6 w 34 = x := fun x y z => by simp only [mI_sI, Nat.reduceEqDiff, false_and, if_false, and_self, if_true]
  rw [e34', lit32 1, oN_add]
  show w_Machine_goesTo w (Int32.ofNat U.length) (Int32.ofNat a') Q (sI (sI (sI (sI M 6 w 34 (Int32.ofNat m)) 94 (3 * w + t) (40 * U.length + 20 + m) v) 514 (3 * w + t) (40 * U.length + 20 + m) (b2 b)) 6 w 34 (Int32.ofNat (m + 1)))
  unfold w_Machine_goesTo
  rw [oN_tnc (k := U.length) (by omega), show ∀ X : Mem, mI (sI X 6 w 34 (Int32.ofNat (m + 1))) 6 w 34 = Int32.ofNat (m + 1) from fun X => by rw [mI_sI, if_pos ⟨rfl, rfl, rfl⟩]]
  refine ⟨3 * w + t, R2, by show vp_in _ (mL M 91 (3 * w + t)); rw [hR.2.1.1.1 91 (by omega) (by omega)]; exact (vp_oN (by omega)).mpr (by omega), 3 * w + t, R2, by show vp_in _ (mL M 90 (3 * w + t)); rw [hR.2.1.1.1 90 (by omega) (by omega)]; exact (vp_oN (by omega)).mpr (by omega), _, rfl, hQ _ ?_⟩
  have hd : (drp st p).length = m := by unfold drp; rw [List.length_take]; omega
  have hln : (drp st p ++ [(v, b)]).length = m + 1 := by rw [List.length_append, hd]; rfl
  obtain ⟨-, p5, p6⟩ := hR.2.2.1.2.2.1
  refine hR.top hst (AgT.rf.w6.wa.wa.w6.wa.wa) (fun g i a b c => ?_) (fun i hi => ⟨?_, ?_⟩) (fun i => ?_) (fun i => ?_) (fun _ => rfl) ?_ ?_ ?_ ?_ (fun i hi => ?_) (fun i hi => ?_)
  · rw [mI_sI, if_neg (by omega), mI_sI, if_neg (by omega), mI_sI, if_neg (by omega), mI_sI, if_neg (by omega), mI_sI, if_neg (by omega), mI_sI, if_neg (by omega)]
  · simp only [mI_sI, Nat.reduceEqDiff, false_and, if_false, true_and]; rw [if_neg (by omega)]
  · simp only [mI_sI, Nat.reduceEqDiff, false_and, if_false, true_and]; rw [if_neg (by omega)]
  · simp only [mI_sI, Nat.reduceEqDiff, false_and, if_false]
  · simp only [mI_sI, Nat.reduceEqDiff, false_and, if_false]
  · simp only [mI_sI, Nat.reduceEqDiff, false_and, if_false]
  · simp only [mI_sI, Nat.reduceEqDiff, false_and, if_false]
  · simp only [mI_sI, and_self, if_true]
  · rw [hln]; simp only [mI_sI, Nat.reduceEqDiff, false_and, if_false, and_self, if_true]
  · simp only [mI_sI, Nat.reduceEqDiff, false_and, if_false, true_and]
    rw [if_neg (by omega), if_neg (by omega)]; exact p5 i hi
  · rw [hln] at hi
    simp only [mI_sI, Nat.reduceEqDiff, false_and, if_false, true_and]
    by_cases e : i = m
    · rw [if_pos (by omega), if_pos (by omega)]
      have : lv (drp st p ++ [(v, b)]) i = (v, b) := by
        show (drp st p ++ [(v, b)]).getD i _ = _
        rw [List.getD_eq_getElem?_getD, List.getElem?_append_right (by omega), hd, e, Nat.sub_self]; rfl
      rw [this]; exact ⟨rfl, rfl⟩
    · rw [if_neg (by omega), if_neg (by omega)]
      have : lv (drp st p ++ [(v, b)]) i = lv st i := by
        show (drp st p ++ [(v, b)]).getD i _ = st.getD i _
        rw [List.getD_eq_getElem?_getD, List.getElem?_append_left (by omega)]
        unfold drp
        rw [List.getElem?_take, if_pos (by omega), List.getD_eq_getElem?_getD]
      rw [this]; exact p6 i (by omega)
end
