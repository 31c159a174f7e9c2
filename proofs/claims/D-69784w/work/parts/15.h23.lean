/-! THE MACHINE IN THE TWIN: whether a thing is of a class -/
section
variable {G : List Sl} {US : UST} {A : List Nm} {S : List Sg} {W : List Cls} {w c j a k t L q n : Nat} {br x r v : Int32} {bb : Bool} {nq nl nf nk B F op : Nat} {M M' : Mem} {s s' : Ms} {U V : List Un} {lo st lo' st' : List Vl} {o : Option Kd} {Q : Int32 → Mem → Prop} {i : Ins} {p : Nat × Nat}
theorem TM.setT {b : Bool} (h : TM G US A S W w br nq nl nf nk B F x bb t s (.inl (c, j, a, lo, st) :: U) M) (hst : stk U) (hs : 1 ≤ st.length) : TM G US A S W w br nq nl nf nk B F x bb t s (.inl (c, j, a, lo, drp st 1 ++ [(v, b)]) :: U) (sI (sI M 176 (3 * w + t) (44 * frs U + 20 + (st.length - 1)) (tr b v)) 525 (3 * w + t) (44 * frs U + 20 + (st.length - 1)) (b2 b)) := by
  have d1 : (drp st 1).length = st.length - 1 := drp_len
  have d2 : (drp st 1 ++ [(v, b)]).length = st.length := by rw [List.length_append, d1, List.length_singleton]; omega
  refine h.top0 hst AgU.rf.wa.wa
    (fun y i hy => by rcases hy with z | z <;> subst z <;> simp only [mI_sI, Nat.reduceEqDiff, false_and, if_false])
    (fun i => by simp only [mI_sI, Nat.reduceEqDiff, false_and, if_false])
    (fun y i hy hi => by rcases hy with z | z <;> subst z <;> simp only [mI_sI, Nat.reduceEqDiff, false_and, if_false])
    (fun i hi => by
      have hne : ¬ i = 44 * frs U + 20 + (st.length - 1) := by omega
      simp only [mI_sI, Nat.reduceEqDiff, false_and, if_false, true_and, hne, and_self])
    (fun i => by simp only [mI_sI, Nat.reduceEqDiff, false_and, if_false])
    (fun i => by simp only [mI_sI, Nat.reduceEqDiff, false_and, if_false])
    (fun f => rfl) ?_ ?_ (fun k hk => ?_) (fun k hk => ?_)
  · simp only [mI_sI, Nat.reduceEqDiff, false_and, if_false]; exact h.2.2.1.2.2.1.2.2.1
  · rw [d2]; simp only [mI_sI, Nat.reduceEqDiff, false_and, if_false]; exact h.2.2.1.2.2.1.2.2.2
  · have hne : ¬ 44 * frs U + k = 44 * frs U + 20 + (st.length - 1) := by omega
    simp only [mI_sI, Nat.reduceEqDiff, false_and, if_false, true_and, hne]
    exact h.2.2.1.2.2.2.1.1 k hk
  · rw [d2] at hk
    rw [lv_app, d1]
    by_cases e : k = st.length - 1
    · rw [if_pos e, e]
      simp only [mI_sI, Nat.reduceEqDiff, false_and, if_false, and_self, if_true]
    · have hne : ¬ 44 * frs U + 20 + k = 44 * frs U + 20 + (st.length - 1) := by omega
      rw [if_neg e, show lv (drp st 1) k = lv st k from lvTake (by omega)]
      simp only [mI_sI, Nat.reduceEqDiff, false_and, if_false, true_and, hne]
      exact h.2.2.1.2.2.2.1.2 k (show k < st.length by omega)
theorem TI1.nm (hI : TI1 A S w nl nf nk nq q n i M) (h1 : isN i.1) : mI M 300 (rdI M (sAs w)) q = nc A (iK i) ∧ iK i ∈ A := by
  obtain ⟨⟨-, ⟨t1, -, -, t4, -⟩, -⟩, -⟩ := hI
  rw [if_neg (by unfold isJ; omega), if_pos (Or.inl h1)] at t1
  exact ⟨t1, t4 (Or.inl h1)⟩
theorem TI1.tk (hI : TI1 A S w nl nf nk nq q n i M) (h : TM G US A S W w br nq nl nf nk B F x bb t s U M) (hf : Fr (40838932114735564725686741212546255360813367711522412938391076718271576205239913675411070938604908196346811334668782113019655575331568654254472084399892426861931993521785091530013075916693223538196299078914776706101718936183102290928664727393131068049835518823819016031204386791186814746074447336367398830173060194961951421213950763909899334998446786947891941205907068672489542321830077522306834989856991323440145876959802032343270871509000474464579826498850904648146770212391352023340665985212260190320845416593063884450404204985975955191981573135804610750886011473732589623510128993329589047212995515718348652860175898830004764591102582344989646544405971461488176832638540879127953529716374409746046976149627084866761552344739932967137682416373804661464235913092830197460541442261061486061694115242430363090345762519220371796317061585077918004534123416798786511458048654981068106515865030655051854937479172394472494305120121848546731375700032962255064341649682772474192378958690246929725828164908203582858991502161599159098071979598013138236088701038069546554100344244393636234526720) M M') : TI1 A S w nl nf nk nq q n i M' := hI.fr hf h.1.ga h.1.1.1.2.1.2.2.2.1
theorem ct_classStep (hq : TQc W F (tickS s t op)) (h : TM G US A S W w br nq nl nf nk B F x bb t s (.inl (c, j, a, lo, st) :: U) M) (hA : At W (tickS s t op) t c j a lo st U i) (hI : TI1 A S w nl nf nk nq q n i M) (ho : op = 54 ∨ op = 55) (hi : i.1 = op) (hQ : ∀ M', TM G US A S W w br nq nl nf nk B F x bb t (doS W t (tickS s t op) c j a lo st U i p) (gU (doS W t (tickS s t op) c j a lo st U i p) t) M' → Q 1 M') : w_Model_classStep 0 (Int32.ofNat (frs U)) (Int32.ofNat q) (Int32.ofNat op) Q M := by
  unfold w_Model_classStep
  refine ct_tally (op := op) h (by omega) (fun M1 h1 _ fr => ?_)
  have hI1 := hI.tk h fr
  generalize tickS s t op = s' at *
  obtain ⟨⟨hf, -⟩, ⟨hs20, hlo⟩, hst⟩ := hA.tj
  have hwl : wlist W c (gmt (gc W c) j) i = [wRef] := by
    rcases ho with z | z <;> subst z <;> obtain ⟨o, r⟩ := i <;> have hi := hi <;> subst hi <;> rfl
  obtain ⟨hs, f0, hv⟩ := hA.r1 hwl
  obtain ⟨l0, l1, l2, l3, l4, l5, l6, l7⟩ := h1.lens
  obtain ⟨e175, esum, e176⟩ := h1.top hf hs (by omega)
  rw [f0] at e176
  obtain ⟨⟨a1, a2⟩, -, -, hq39⟩ := hI1.rw' h1.1.1.1
  obtain ⟨en, hkA⟩ := hI1.nm (by rw [hi]; unfold isN; omega)
  have hW := hA.1.1
  have hB := hW.1
  have hG : GL W s' := hA.1.2.1.1.1
  have d1 : (drp st 1).length = st.length - 1 := drp_len
  have v176 : vp_in (Int32.ofNat (44 * frs U + 20 + (st.length - 1))) 1760 := (vp_oN (by omega)).mpr (by omega)
  have j182 : (∀ M', TM G US A S W w br nq nl nf nk B F x bb t (sU s' t (.inl (c, j, a + 1, lo, st) :: U)) (.inl (c, j, a + 1, lo, st) :: U) M' → Q 1 M') → w_Model_classStep_j182 0 Q (Int32.ofNat (frs U)) M1 := fun hQ => ct_j726 h1 hf hst hQ
  have j170 : ∀ b : Bool, (∀ M', TM G US A S W w br nq nl nf nk B F x bb t (sU s' t (.inl (c, j, a + 1, lo, drp st 1 ++ [(if b = true then 1 else 0, false)]) :: U)) (.inl (c, j, a + 1, lo, drp st 1 ++ [(if b = true then 1 else 0, false)]) :: U) M' → Q 1 M') → w_Model_classStep_j170 0 Q (Int32.ofNat (frs U)) (Int32.ofNat (44 * frs U + 20 + (st.length - 1))) (if b = true then 1 else 0) (Int32.ofNat (44 * frs U + 20 + (st.length - 1))) (3 * w + t) M1 := fun b hQ => by
    have g := h1.setT (v := if b = true then 1 else 0) (b := false) hst hs
    rw [tr_f] at g
    unfold w_Model_classStep_j170
    rw [oN_tnc (k := 44 * frs U + 20 + (st.length - 1)) (by omega)]
    exact ⟨by rw [l6]; exact v176, 3 * w + t, h1.r46, by show vp_in _ (mL M1 525 _); rw [l7]; exact v176, _, rfl, ct_j726 g hf hst hQ⟩
  have j145 : ∀ b : Bool, (op = 55 → ∀ M', TM G US A S W w br nq nl nf nk B F x bb t (sU s' t (.inl (c, j, a + 1, lo, drp st 1 ++ [(if b = true then 1 else 0, false)]) :: U)) (.inl (c, j, a + 1, lo, drp st 1 ++ [(if b = true then 1 else 0, false)]) :: U) M' → Q 1 M') → (op = 54 → ∀ M', TM G US A S W w br nq nl nf nk B F x bb t (sU s' t (.inl (c, j, a + 1, lo, st) :: U)) (.inl (c, j, a + 1, lo, st) :: U) M' → Q 1 M') → w_Model_classStep_j145 0 Q (Int32.ofNat (frs U)) (Int32.ofNat op) (Int32.ofNat (44 * frs U + 20 + (st.length - 1))) (b2 b) M1 := fun b q5 q4 => by
    unfold w_Model_classStep_j145
    rcases ho with z | z
    · exact itn (by rw [z]; decide) (j182 (q4 z))
    · refine itp (by rw [z]; rfl) ⟨3 * w + t, h1.r46, ?_⟩
      have g := j170 b (q5 z)
      cases b with
      | true => exact itn (by decide) g
      | false => exact itp rfl g
  refine ⟨3 * w + t, h1.r46, by rw [l5]; exact (vp_oN (by omega)).mpr hf, ?_⟩
  rw [oN_tnc (k := frs U) (by omega), e175, esum]
  refine ⟨_, rfl, 3 * w + t, h1.r46, by rw [l6]; exact v176, ?_⟩
  rw [oN_tnc (k := 44 * frs U + 20 + (st.length - 1)) (by omega), e176]
  have e5 : op = 55 → doS W t s' c j a lo st U i p = if (tv st 0).1 = 0 then sU s' t (.inl (c, j, a + 1, lo, drp st 1 ++ [(0, false)]) :: U) else match fnd W (iK i) with
      | none => failS W t s' 11 50
      | some d => sU s' t (.inl (c, j, a + 1, lo, drp st 1 ++ [(if isO W s' (tv st 0).1 d = true then 1 else 0, false)]) :: U) := fun z => by
    obtain ⟨o, r⟩ := i; have ho : o = op := hi; rw [z] at ho; subst ho; rfl
  have e4 : op = 54 → doS W t s' c j a lo st U i p = if (tv st 0).1 = 0 then sU s' t (.inl (c, j, a + 1, lo, st) :: U) else match fnd W (iK i) with
      | none => failS W t s' 11 50
      | some d => if isO W s' (tv st 0).1 d = true then sU s' t (.inl (c, j, a + 1, lo, st) :: U) else failS W t s' 6 0 := fun z => by
    obtain ⟨o, r⟩ := i; have ho : o = op := hi; rw [z] at ho; subst ho; rfl
  by_cases c0 : (tv st 0).1 = 0
  · refine itp ((tr_ne0 hv).mpr c0) (j145 false (fun z => ?_) (fun z => ?_))
    · have e5 := e5 z
      rw [if_pos c0] at e5
      rw [e5, gU_in] at hQ
      exact hQ
    · have e4 := e4 z
      rw [if_pos c0] at e4
      rw [e4, gU_in] at hQ
      exact hQ
  refine itn (fun z => c0 ((tr_ne0 hv).mp z)) ⟨w, h1.r45, _, a1, (vp_oN (by omega)).mpr a2, ?_⟩
  rw [oN_tnc (k := q) (by omega), en]
  refine ct_classOf h1.r45 h1.1.1.1.cl.1 hkA ?_
  cases ef : fnd W (iK i) with
  | none =>
    have eD : doS W t s' c j a lo st U i p = failS W t s' 11 50 := by
      rcases ho with z | z
      · rw [e4 z, if_neg c0, ef]
      · rw [e5 z, if_neg c0, ef]
    rw [eD] at hQ
    exact itn (by decide) (ct_throwD (f := 11) (ru := 50) hq h1 hA (by omega) (by omega) hQ)
  | some d =>
    have hd := fnd_lt ef
    have h51 := h1.1.1.1.l51
    have e5 : op = 55 → doS W t s' c j a lo st U i p = sU s' t (.inl (c, j, a + 1, lo, drp st 1 ++ [(if isO W s' (tv st 0).1 d = true then 1 else 0, false)]) :: U) := fun z => by rw [e5 z, if_neg c0, ef]
    have e4 : op = 54 → doS W t s' c j a lo st U i p = if isO W s' (tv st 0).1 d = true then sU s' t (.inl (c, j, a + 1, lo, st) :: U) else failS W t s' 6 0 := fun z => by rw [e4 z, if_neg c0, ef]
    have j123 : ∀ b : Bool, isO W s' (tv st 0).1 d = b → w_Model_classStep_j123 0 Q (Int32.ofNat (frs U)) (Int32.ofNat op) (Int32.ofNat (44 * frs U + 20 + (st.length - 1))) (b2 b) M1 := fun b hb => by
      rw [hb] at e5 e4
      unfold w_Model_classStep_j123
      rcases ho with z | z
      · have e4 := e4 z
        refine itp (by rw [z]; rfl) ?_
        cases b with
        | false =>
          rw [if_neg (by decide)] at e4
          rw [e4] at hQ
          exact itp rfl (ct_throwD (f := 6) (ru := 0) hq h1 hA (by omega) (by omega) hQ)
        | true =>
          rw [if_pos rfl] at e4
          rw [e4, gU_in] at hQ
          exact itn (by decide) (j145 true (fun y => by omega) (fun _ => hQ))
      · rw [e5 z, gU_in] at hQ
        exact itn (by rw [z]; decide) (j145 b (fun _ => hQ) (fun y => by omega))
    have j111 : clR s' (tv st 0).1 ≠ none → w_Model_classStep_j111 0 Q (Int32.ofNat (frs U)) (Int32.ofNat op) (Int32.ofNat (44 * frs U + 20 + (st.length - 1))) (tr true (tv st 0).1) (Int32.ofNat d) M1 := fun hc => by
      obtain ⟨e, he⟩ : ∃ e, clR s' (tv st 0).1 = some e := by cases hh : clR s' (tv st 0).1 with | none => exact absurd hh hc | some e => exact ⟨e, rfl⟩
      have hel := (clR_lk hB hG hv c0 he).1.1
      have hcn : clN s' (tv st 0).1 = e := by unfold clN; rw [he]; rfl
      unfold w_Model_classStep_j111
      refine ct_classOfRef hB hG h1.1 hq.2.1 hv c0 (ct_isBelow h1.r45 h1.1.1.1.cl (by rw [hcn]; exact hel) (by omega) (fun b hb => j123 b ?_))
      unfold isO
      rw [if_neg hc, Bool.eq_iff_iff, bel_iff]
      exact hb.symm
    show (if (0 : Int32) ≤ Int32.ofNat d then _ else _)
    refine itp (Int32.not_lt.mp (oN_nonneg (show d < 2147483648 by omega))) ?_
    obtain ⟨m, ⟨em, emn, hb⟩, et, hm⟩ := tr_ref hv
    have hm0 : m ≠ 0 := fun z => c0 (by rw [em, z]; rfl)
    by_cases c8 : 800 < m
    · refine itp (by rw [et, if_pos c8]; exact (oN_le (a := 1001) (b := m + 200) (by omega) (by omega)).mpr (by omega)) (j111 ?_)
      unfold clR
      rw [emn, if_pos c8]; exact fun z => by cases z
    · have ht : thr s' m = true := by rcases hm with z | z | z <;> first | exact absurd z hm0 | exact z.2 | omega
      have ecl : clR s' (tv st 0).1 = (gOb s' m).1 := by unfold clR; rw [emn, if_neg c8]
      obtain ⟨⟨l7', -⟩, -, -, hOb, -⟩ := h1.uh
      have j111' := j111
      rw [et, if_neg c8] at j111' ⊢
      refine itn (fun z => by have := (oN_le (a := 1001) (b := m) (by omega) (by omega)).mp z; omega) ⟨w, h1.r45, ?_⟩
      rw [oN_tnc (k := m) (by omega), (hOb m ht).1]
      refine ⟨by rw [l7']; exact (vp_oN (by omega)).mpr (by omega), ?_⟩
      cases eg : (gOb s' m).1 with
      | none =>
        refine itp rfl ?_
        have hO : isO W s' (tv st 0).1 d = decide (d = 0) := by unfold isO; rw [ecl, eg, if_pos rfl]
        by_cases d0 : d = 0
        · rw [decide_eq_true d0] at hO
          exact itp (by rw [d0]; rfl) (j123 true hO)
        · rw [decide_eq_false d0] at hO
          exact itn (fun z => d0 ((oN_inj (a := d) (b := 0) (by omega) (by omega)).mp z)) (j123 false hO)
      | some e =>
        have he : clR s' (tv st 0).1 = some e := ecl.trans eg
        have hel := (clR_lk hB hG hv c0 he).1.1
        refine itn (fun z => ?_) (j111' (by rw [he]; exact fun z => by cases z))
        have z : Int32.ofNat e = -1 := z
        have := oN_nonneg (show e < 2147483648 by omega)
        rw [z] at this
        exact this (by decide)
end
