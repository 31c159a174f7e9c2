/-! THE MACHINE IN THE TWIN: the stack; a step -/
section
variable {G : List Sl} {US : UST} {A : List Nm} {S : List Sg} {W : List Cls} {w c j a k t L : Nat} {br x r : Int32} {bb : Bool} {nq nl nf nk B F : Nat} {M M' : Mem} {s s' : Ms} {U V : List Un} {lo st lo' st' : List Vl} {o : Option Kd} {Q : Mem → Prop}
/-- the top frame while an instruction acts -/
def TJ (U : List Un) (lo st : List Vl) : Prop := (frs U < 40 ∧ U.length ≤ 90) ∧ (st.length ≤ 20 ∧ lo.length = 20) ∧ stk U
theorem TM.lens (h : TM G US A S W w br nq nl nf nk B F x bb t s U M) : mL M 170 (3 * w + t) = 6 ∧ mL M 171 (3 * w + t) = 99 ∧ mL M 172 (3 * w + t) = 99 ∧ mL M 173 (3 * w + t) = 40 ∧ mL M 174 (3 * w + t) = 40 ∧ mL M 175 (3 * w + t) = 40 ∧ mL M 176 (3 * w + t) = 1760 ∧ mL M 525 (3 * w + t) = 1760 := h.2.1.1
theorem TM.r46 (h : TM G US A S W w br nq nl nf nk B F x bb t s U M) : mR M 11 0 46 = some (13, 3 * w + t) := h.1.2.2.2.2.1.1
theorem TM.r45 (h : TM G US A S W w br nq nl nf nk B F x bb t s U M) : mR M 11 0 45 = some (12, w) := h.1.1.1.r45
theorem lv_app {v : Vl} {k : Nat} : lv (st ++ [v]) k = if k = st.length then v else lv st k := by
  show (st ++ [v]).getD k (0, false) = _
  by_cases e : k = st.length
  · rw [if_pos e, e, List.getD_eq_getElem?_getD, List.getElem?_append_right (Nat.le_refl _), Nat.sub_self]; rfl
  · rw [if_neg e]
    show (st ++ [v]).getD k (0, false) = st.getD k (0, false)
    rw [List.getD_eq_getElem?_getD, List.getD_eq_getElem?_getD]
    by_cases c : k < st.length
    · rw [List.getElem?_append_left c]
    · rw [List.getElem?_append_right (by omega), List.getElem?_eq_none (by show [v].length ≤ _; simp; omega), List.getElem?_eq_none (by omega)]
theorem ct_pushT {v : Int32} {b : Bool} (h : TM G US A S W w br nq nl nf nk B F x bb t s (.inl (c, j, a, lo, st) :: U) M) (hf : frs U < 40) (hs : st.length < 24) (hst : stk U) (hQ : ∀ M', TM G US A S W w br nq nl nf nk B F x bb t s (.inl (c, j, a, lo, st ++ [(v, b)]) :: U) M' → Q M') : w_Model_push 0 (Int32.ofNat (frs U)) (tr b v) (b2 b) Q M := by
  obtain ⟨l0, l1, l2, l3, l4, l5, l6, l7⟩ := h.lens
  have e175 : mI M 175 (3 * w + t) (frs U) = Int32.ofNat st.length := h.2.2.1.2.2.1.2.2.2
  refine ct_pushRaw (L := 3 * w + t) h.r46 l5 l6 l7 hf hs e175 (hQ _ ?_)
  refine h.top0 hst AgU.rf.wa.wa.wa
    (fun y i hy => by rcases hy with z | z <;> subst z <;> simp only [mI_sI, Nat.reduceEqDiff, false_and, if_false])
    (fun i => by simp only [mI_sI, Nat.reduceEqDiff, false_and, if_false])
    (fun y i hy hi => by
      have hne : ¬ i = frs U := by omega
      rcases hy with z | z <;> subst z <;> simp only [mI_sI, Nat.reduceEqDiff, false_and, if_false, true_and, hne])
    (fun i hi => by
      have hne : ¬ i = 44 * frs U + 20 + st.length := by omega
      simp only [mI_sI, Nat.reduceEqDiff, false_and, if_false, true_and, hne, and_self])
    (fun i => by simp only [mI_sI, Nat.reduceEqDiff, false_and, if_false])
    (fun i => by simp only [mI_sI, Nat.reduceEqDiff, false_and, if_false])
    (fun f => rfl) ?_ ?_ (fun k hk => ?_) (fun k hk => ?_)
  · simp only [mI_sI, Nat.reduceEqDiff, false_and, if_false]; exact h.2.2.1.2.2.1.2.2.1
  · rw [List.length_append, List.length_singleton]
    simp only [mI_sI, and_self, if_true]
  · have hne : ¬ 44 * frs U + k = 44 * frs U + 20 + st.length := by omega
    simp only [mI_sI, Nat.reduceEqDiff, false_and, if_false, true_and, hne]
    exact h.2.2.1.2.2.2.1.1 k hk
  · rw [List.length_append, List.length_singleton] at hk
    rw [lv_app]
    by_cases e : k = st.length
    · rw [if_pos e, e]
      simp only [mI_sI, Nat.reduceEqDiff, false_and, if_false, and_self, if_true]
    · have hne : ¬ 44 * frs U + 20 + k = 44 * frs U + 20 + st.length := by omega
      rw [if_neg e]
      simp only [mI_sI, Nat.reduceEqDiff, false_and, if_false, true_and, hne]
      exact h.2.2.1.2.2.2.1.2 k (show k < st.length by omega)
theorem ct_popA {Q : Int32 → Mem → Prop} (h : TM G US A S W w br nq nl nf nk B F x bb t s (.inl (c, j, a, lo, st) :: U) M) (hf : frs U < 40) (hs : 1 ≤ st.length) (hs2 : st.length ≤ 24) (hst : stk U) (hQ : ∀ M', TM G US A S W w br nq nl nf nk B F x bb t s (.inl (c, j, a, lo, drp st 1) :: U) M' → AgU w t M M' → Q (tr (tv st 0).2 (tv st 0).1) M') : w_Model_pop 0 (Int32.ofNat (frs U)) Q M := by
  obtain ⟨l0, l1, l2, l3, l4, l5, l6, l7⟩ := h.lens
  have e175 : mI M 175 (3 * w + t) (frs U) = Int32.ofNat st.length := h.2.2.1.2.2.1.2.2.2
  have R6 := h.r46
  have hd : (drp st 1).length = st.length - 1 := by unfold drp; rw [List.length_take]; omega
  unfold w_Model_pop
  rw [oN_tnc (k := frs U) (by omega)]
  refine ⟨3 * w + t, R6, by rw [l5]; exact (vp_oN (by omega)).mpr hf, by rw [l5]; exact (vp_oN (by omega)).mpr hf, ?_⟩
  rw [e175, show Int32.ofNat st.length - (1 : Int32) = Int32.ofNat (st.length - 1) from by rw [lit32 1, oN_sub (by omega)]]
  refine ⟨_, rfl, 3 * w + t, R6, 3 * w + t, R6, by show vp_in _ (mL M 175 _); rw [l5]; exact (vp_oN (by omega)).mpr hf, ?_⟩
  rw [show ∀ v, mI (sI M 175 (3 * w + t) (frs U) v) 175 (3 * w + t) (frs U) = v from fun v => by rw [mI_sI, if_pos ⟨rfl, rfl, rfl⟩], show (44 : Int32) * Int32.ofNat (frs U) = Int32.ofNat (44 * frs U) from oN_mul 44 _, show Int32.ofNat (44 * frs U) + (20 : Int32) = Int32.ofNat (44 * frs U + 20) from oN_add _ 20, oN_add, oN_tnc (k := 44 * frs U + 20 + (st.length - 1)) (by omega)]
  refine ⟨by show vp_in _ (mL M 176 _); rw [l6]; exact (vp_oN (by omega)).mpr (by omega), ?_⟩
  have e176 : mI (sI M 175 (3 * w + t) (frs U) (Int32.ofNat (st.length - 1))) 176 (3 * w + t) (44 * frs U + 20 + (st.length - 1)) = tr (tv st 0).2 (tv st 0).1 := by
    rw [mI_sI, if_neg (fun z => absurd z.1 (by decide))]
    have := (h.2.2.1.2.2.2.1.2 (st.length - 1) (by show st.length - 1 < st.length; omega)).1
    exact this
  rw [e176]
  refine hQ _ ?_ AgU.rf.wa
  refine h.top0 hst AgU.rf.wa
    (fun y i hy => by rcases hy with z | z <;> subst z <;> simp only [mI_sI, Nat.reduceEqDiff, false_and, if_false])
    (fun i => by simp only [mI_sI, Nat.reduceEqDiff, false_and, if_false])
    (fun y i hy hi => by
      have hne : ¬ i = frs U := by omega
      rcases hy with z | z <;> subst z <;> simp only [mI_sI, Nat.reduceEqDiff, false_and, if_false, true_and, hne, and_false])
    (fun i hi => by simp only [mI_sI, Nat.reduceEqDiff, false_and, if_false, and_self])
    (fun i => by simp only [mI_sI, Nat.reduceEqDiff, false_and, if_false])
    (fun i => by simp only [mI_sI, Nat.reduceEqDiff, false_and, if_false])
    (fun f => rfl) ?_ ?_ (fun k hk => ?_) (fun k hk => ?_)
  · simp only [mI_sI, Nat.reduceEqDiff, false_and, if_false]; exact h.2.2.1.2.2.1.2.2.1
  · rw [hd]; simp only [mI_sI, and_self, if_true]
  · simp only [mI_sI, Nat.reduceEqDiff, false_and, if_false]
    exact h.2.2.1.2.2.2.1.1 k hk
  · rw [hd] at hk
    simp only [mI_sI, Nat.reduceEqDiff, false_and, if_false]
    have e : lv (drp st 1) k = lv st k := lvTake hk
    rw [e]
    exact h.2.2.1.2.2.2.1.2 k (by show k < st.length; omega)
theorem ct_popT {Q : Int32 → Mem → Prop} (h : TM G US A S W w br nq nl nf nk B F x bb t s (.inl (c, j, a, lo, st) :: U) M) (hf : frs U < 40) (hs : 1 ≤ st.length) (hs2 : st.length ≤ 24) (hst : stk U) (hQ : ∀ M', TM G US A S W w br nq nl nf nk B F x bb t s (.inl (c, j, a, lo, drp st 1) :: U) M' → Q (tr (tv st 0).2 (tv st 0).1) M') : w_Model_pop 0 (Int32.ofNat (frs U)) Q M := ct_popA h hf hs hs2 hst (fun M' h' _ => hQ M' h')
/-- the next instruction -/
theorem TM.nxt (h : TM G US A S W w br nq nl nf nk B F x bb t s (.inl (c, j, a, lo, st) :: U) M) (hst : stk U) {a' : Nat} : TM G US A S W w br nq nl nf nk B F x bb t s (.inl (c, j, a', lo, st) :: U) (sI M 174 (3 * w + t) (frs U) (Int32.ofNat a')) := by
  refine h.top0 hst AgU.rf.wa
    (fun y i hy => by rcases hy with z | z <;> subst z <;> simp only [mI_sI, Nat.reduceEqDiff, false_and, if_false])
    (fun i => by simp only [mI_sI, Nat.reduceEqDiff, false_and, if_false])
    (fun y i hy hi => by
      have hne : ¬ i = frs U := by omega
      rcases hy with z | z <;> subst z <;> simp only [mI_sI, Nat.reduceEqDiff, false_and, if_false, true_and, hne, and_false])
    (fun i hi => by simp only [mI_sI, Nat.reduceEqDiff, false_and, if_false, and_self])
    (fun i => by simp only [mI_sI, Nat.reduceEqDiff, false_and, if_false])
    (fun i => by simp only [mI_sI, Nat.reduceEqDiff, false_and, if_false])
    (fun f => rfl) ?_ ?_ (fun k hk => ?_) (fun k hk => ?_)
  · simp only [mI_sI, and_self, if_true]
  · simp only [mI_sI, Nat.reduceEqDiff, false_and, if_false]; exact h.2.2.1.2.2.1.2.2.2
  · simp only [mI_sI, Nat.reduceEqDiff, false_and, if_false]; exact h.2.2.1.2.2.2.1.1 k hk
  · simp only [mI_sI, Nat.reduceEqDiff, false_and, if_false]; exact h.2.2.1.2.2.2.1.2 k hk
/-- a step is counted -/
theorem ct_tally {op : Nat} (h : TM G US A S W w br nq nl nf nk B F x bb t s U M) (ho : op < 62) (hQ : ∀ M', TM G US A S W w br nq nl nf nk B F x bb t (tickS s t op) U M' → (∀ k, k = 80 ∨ k = 81 → mI M' 11 0 k = mI M 11 0 k) → Fr (40838932114735564725686741212546255360813367711522412938391076718271576205239913675411070938604908196346811334668782113019655575331568654254472084399892426861931993521785091530013075916693223538196299078914776706101718936183102290928664727393131068049835518823819016031204386791186814746074447336367398830173060194961951421213950763909899334998446786947891941205907068672489542321830077522306834989856991323440145876959802032343270871509000474464579826498850904648146770212391352023340665985212260190320845416593063884450404204985975955191981573135804610750886011473732589623510128993329589047212995515718348652860175898830004764591102582344989646544405971461488176832638540879127953529716374409746046976149627084866761552344739932967137682416373804661464235913092830197460541442261061486061694115242430363090345762519220371796317061585077918004534123416798786511458048654981068106515865030655051854937479172394472494305120121848546731375700032962255064341649682772474192378958690246929725828164908203582858991502161599159098071979598013138236088701038069546554100344244393636234526720) M M' → Q M') : w_Model_tally 0 (Int32.ofNat op) Q M := by
  have R6 := h.r46
  have e3 : mI M 13 (3 * w + t) 3 = Int32.ofNat (lSp (zN s t)) := h.2.1.2.1.2
  obtain ⟨d0, d1⟩ := h.1.2.2.2.1.2.1
  unfold w_Model_tally
  refine ⟨3 * w + t, R6, w, h.r45, by show vp_in _ (mL M 169 w); rw [d0]; exact (vp_oN (by omega)).mpr ho, by show vp_in _ (mL M 169 w); rw [d0]; exact (vp_oN (by omega)).mpr ho, _, rfl, ?_⟩
  rw [e3, oN_tnc (k := op) (by omega), show Int32.ofNat (lSp (zN s t)) + (1 : Int32) = Int32.ofNat (lSp (zN s t) + 1) from oN_add _ 1, show ∀ v, mI (sI M 13 (3 * w + t) 3 v) 169 w op = zD s op from fun v => by rw [mI_sI, if_neg (fun z => absurd z.1 (by decide))]; exact d1 op ho]
  have ag : AgU w t M (sI M 13 (3 * w + t) 3 (Int32.ofNat (lSp (zN s t) + 1))) := AgU.rf.w13
  have x1 := h.1.ag ag
  have hf : Fr (748288838313422294120286634350736906063837462003712) (sI M 13 (3 * w + t) 3 (Int32.ofNat (lSp (zN s t) + 1))) (sI (sI M 13 (3 * w + t) 3 (Int32.ofNat (lSp (zN s t) + 1))) 169 w op (zD s op + 1)) := Fr.wIa rfl rfl (Fr.rf _ _)
  have hg := h.1.ga
  have hr := hf.rsl hg
  obtain ⟨a1, ⟨b1, b2'⟩, ⟨c1, c2⟩, ⟨q1, q2, q3⟩, ⟨e1, e2, e4, e5⟩, ⟨m1, m2, m3⟩, g⟩ := x1
  have eN : zN (tickS s t op) t = qS (zN s t) := tick_N
  have rd : ∀ i, i ≠ 3 → mI (sI (sI M 13 (3 * w + t) 3 (Int32.ofNat (lSp (zN s t) + 1))) 169 w op (zD s op + 1)) 13 (3 * w + t) i = mI M 13 (3 * w + t) i := fun i hi => by
    simp only [mI_sI, Nat.reduceEqDiff, false_and, if_false, true_and, hi]
  have ra : ∀ g i, g ≠ 13 → g ≠ 169 → mI (sI (sI M 13 (3 * w + t) 3 (Int32.ofNat (lSp (zN s t) + 1))) 169 w op (zD s op + 1)) g (3 * w + t) i = mI M g (3 * w + t) i := fun g i h1 h2 => by
    simp only [mI_sI, h1, h2, false_and, if_false]
  refine hQ _ ⟨⟨a1.mfr hf, ⟨b1.fr hf, b2'.fr hf⟩, ⟨c1.fr hf, c2.fr hg hf⟩, ⟨q1.fr hf, ⟨q2.1, fun p hp => ?_⟩, q3.fr hf⟩, ⟨e1, e2, e4, e5⟩, ⟨by rw [hr.1, hr.2]; exact m1, m2, m3⟩, fun t' ht hne => ?_⟩, ?_, ⟨(rd 16 (by omega)).trans h.2.2.1.1, (rd 22 (by omega)).trans h.2.2.1.2.1, unT.eq' (fun g i hg => ra g i (by omega) (by omega)) h.2.2.1.2.2⟩, fun z => ?_⟩ (fun k hk => ?_) (Fr.wIa rfl rfl (Fr.wI rfl (Fr.rf _ _)))
  · show _ = up1 (zD s) op (zD s op + 1) p
    rw [mI_sI]
    by_cases e : p = op
    · rw [if_pos ⟨rfl, rfl, e⟩, e, up1_s]
    · rw [if_neg (fun z => e z.2.2), up1_o e]; exact q2.2 p hp
  · have : zN (tickS s t op) t' = zN s t' := up1_o hne
    rw [this]
    exact (g t' ht hne).eq (fun f k hl h23 => unO_I (R := (748288838313422294120286634350736906063837462003712)) rfl hf hl h23 _) (fun f hl => rfl)
  · rw [eN]
    obtain ⟨hln, ⟨g1, g2⟩, ⟨p1, p2, p3, p4⟩, d, e⟩ := h.2.1
    refine ⟨hln, ⟨(rd 0 (by omega)).trans g1, ?_⟩, ⟨(rd 10 (by omega)).trans p1, (rd 11 (by omega)).trans p2, (rd 12 (by omega)).trans p3, (rd 13 (by omega)).trans p4⟩, ?_, fun z => ?_⟩
    · simp only [mI_sI, Nat.reduceEqDiff, false_and, if_false, and_self, if_true]
    · have d' : uW (zN s t) (3 * w + t) M := d
      unfold uW at d' ⊢
      rw [rd 1 (by omega), rd 2 (by omega)]
      exact d'
    · obtain ⟨y1, y2, y3, y4, y5, y6⟩ := e z
      rw [rd 5 (by omega), rd 6 (by omega), rd 7 (by omega)]
      exact ⟨y1, y2, y3, y4, y5, fun k hk => (ra 170 k (by omega) (by omega)).trans (y6 k hk)⟩
  · rw [eN] at z
    rw [rd 4 (by omega)]; exact h.2.2.2 z
  · rcases hk with z | z <;> subst z <;> simp only [mI_sI, Nat.reduceEqDiff, false_and, if_false]
end
