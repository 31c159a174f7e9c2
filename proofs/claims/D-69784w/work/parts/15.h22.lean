/-! THE MACHINE IN THE TWIN: locks (printed by gen/tl.py) -/
section
variable {G : List Sl} {US : UST} {A : List Nm} {S : List Sg} {W : List Cls} {w c j a k t L q n : Nat} {br x r v : Int32} {bb : Bool} {nq nl nf nk B F op : Nat} {M M' : Mem} {s s' : Ms} {U V : List Un} {lo st lo' st' : List Vl} {o : Option Kd} {Q : Int32 → Mem → Prop} {i : Ins} {p : Nat × Nat}
theorem TM.sfl (h : TM G US A S W w br nq nl nf nk B F x bb t s U M) : (mR M 12 w 55 = some (300, rdI M (sFl' w)) ∧ (zF s).length ≤ mL M 300 (rdI M (sFl' w))) ∧ (mR M 12 w 58 = some (300, rdI M (sFo w)) ∧ (zF s).length ≤ mL M 300 (rdI M (sFo w))) := by
  obtain ⟨-, hX, -⟩ := h.1.2.2.1.2
  obtain ⟨m1, p1, -⟩ := hX (sFl' w) (by simp)
  obtain ⟨m2, p2, -⟩ := hX (sFo w) (by simp)
  exact ⟨⟨(h.1.1.1.1.2.2.2 _ m1).1.1, p1⟩, (h.1.1.1.1.2.2.2 _ m2).1.1, p2⟩
theorem ct_locksOf (h : TM G US A S W w br nq nl nf nk B F x bb t s U M) (hv : vRf s r) (h0 : r ≠ 0) (hQ : Q (lkR s r).1 M) : w_Model_locksOf 0 (tr true r) Q M := by
  obtain ⟨n, ⟨e, en, hb⟩, et, hn⟩ := tr_ref hv
  have hn0 : n ≠ 0 := fun z => h0 (by rw [e, z]; rfl)
  obtain ⟨⟨l7, l8, l9, l0, l2, l4, l1⟩, -, -, hOb, -⟩ := h.uh
  obtain ⟨⟨r1, p1⟩, -⟩ := h.sfl
  unfold lkR at hQ
  rw [en] at hQ
  unfold w_Model_locksOf
  rw [et]
  by_cases c8 : 800 < n
  · have hn2 : n ≤ 800 + (zF s).length := by rcases hn with z | z | z <;> omega
    rw [if_pos c8] at hQ ⊢
    refine itn (fun y => by have := (oN_lt (a := n + 200) (b := 1001) (by omega) (by omega)).mp y; omega) ⟨w, h.r45, _, r1, ?_⟩
    rw [f1001 (by omega), oN_tnc (k := n - 801) (by omega), show mI M 300 (rdI M (sFl' w)) (n - 801) = (gFt s (n - 801)).2.2.1 from (h.1.2.2.1.2.2.2 (n - 801) (by omega)).2.2.1]
    exact ⟨(vp_oN (by omega)).mpr (by omega), hQ⟩
  · rw [if_neg c8] at hQ ⊢
    have ht : thr s n = true := by rcases hn with z | z | z <;> first | exact absurd z hn0 | exact z.2 | omega
    refine itp ((oN_lt (a := n) (b := 1001) (by omega) (by omega)).mpr (by omega)) ⟨w, h.r45, ?_⟩
    rw [oN_tnc (k := n) (by omega), (hOb n ht).2.2.2.1]
    exact ⟨by rw [l0]; exact (vp_oN (by omega)).mpr (by omega), hQ⟩
theorem ct_ownerOf (h : TM G US A S W w br nq nl nf nk B F x bb t s U M) (hv : vRf s r) (h0 : r ≠ 0) (hQ : ∀ v, ((lkR s r).1 ≠ 0 → v = (lkR s r).2) → Q v M) : w_Model_ownerOf 0 (tr true r) Q M := by
  obtain ⟨n, ⟨e, en, hb⟩, et, hn⟩ := tr_ref hv
  have hn0 : n ≠ 0 := fun z => h0 (by rw [e, z]; rfl)
  obtain ⟨⟨l7, l8, l9, l0, l2, l4, l1⟩, -, -, hOb, -⟩ := h.uh
  obtain ⟨-, r1, p1⟩ := h.sfl
  unfold lkR at hQ
  rw [en] at hQ
  unfold w_Model_ownerOf
  rw [et]
  by_cases c8 : 800 < n
  · have hn2 : n ≤ 800 + (zF s).length := by rcases hn with z | z | z <;> omega
    rw [if_pos c8] at hQ ⊢
    refine itn (fun y => by have := (oN_lt (a := n + 200) (b := 1001) (by omega) (by omega)).mp y; omega) ⟨w, h.r45, _, r1, ?_⟩
    rw [f1001 (by omega), oN_tnc (k := n - 801) (by omega)]
    exact ⟨(vp_oN (by omega)).mpr (by omega), hQ _ (h.1.2.2.1.2.2.2 (n - 801) (by omega)).2.2.2⟩
  · rw [if_neg c8] at hQ ⊢
    have ht : thr s n = true := by rcases hn with z | z | z <;> first | exact absurd z hn0 | exact z.2 | omega
    refine itp ((oN_lt (a := n) (b := 1001) (by omega) (by omega)).mpr (by omega)) ⟨w, h.r45, ?_⟩
    rw [oN_tnc (k := n) (by omega)]
    exact ⟨by rw [l2]; exact (vp_oN (by omega)).mpr (by omega), hQ _ (hOb n ht).2.2.2.2⟩
theorem ct_lock {Q : Mem → Prop} {m : Int32} (h : TM G US A S W w br nq nl nf nk B F x bb t s U M) (hv : vRf s r) (h0 : r ≠ 0) (hQ : ∀ M', TM G US A S W w br nq nl nf nk B F x bb t (wLock s r m (Int32.ofNat t)) U M' → Q M') : w_Model_lock 0 (tr true r) m Q M := by
  obtain ⟨n, ⟨e, en, hb⟩, et, hn⟩ := tr_ref hv
  have hn0 : n ≠ 0 := fun z => h0 (by rw [e, z]; rfl)
  have e47 : mI M 11 0 47 = Int32.ofNat t := h.1.2.2.2.2.1.2.1
  have hG := h.1.ga
  unfold wLock at hQ
  rw [en] at hQ
  unfold w_Model_lock
  rw [et]
  by_cases c8 : 800 < n
  · have hn2 : n ≤ 800 + (zF s).length := by rcases hn with z | z | z <;> omega
    rw [if_pos c8] at hQ ⊢
    obtain ⟨hc, hX, hrr⟩ := h.1.2.2.1.2
    obtain ⟨m1, p1, q1⟩ := hX (sFl' w) (by simp)
    obtain ⟨m2, p2, q2⟩ := hX (sFo w) (by simp)
    obtain ⟨m3, p3, q3⟩ := hX (sFc w) (by simp)
    obtain ⟨m4, p4, q4⟩ := hX (sFu w) (by simp)
    obtain ⟨⟨r1, -⟩, r2, -⟩ := h.sfl
    have T := h.1.1.1.1.2.2.2
    have p1 : (zF s).length ≤ mL M 300 (rdI M (sFl' w)) := p1
    have p2 : (zF s).length ≤ mL M 300 (rdI M (sFo w)) := p2
    refine itn (fun y => by have := (oN_lt (a := n + 200) (b := 1001) (by omega) (by omega)).mp y; omega) ⟨w, h.r45, _, r1, ?_⟩
    rw [f1001 (by omega), oN_tnc (k := n - 801) (by omega)]
    refine ⟨(vp_oN (by omega)).mpr (by omega), w, h.r45, _, r2, (vp_oN (by omega)).mpr (by show n - 801 < mL M 300 _; omega), _, rfl, ?_⟩
    rw [show mI (sI M 300 (rdI M (sFl' w)) (n - 801) m) 11 0 47 = Int32.ofNat t from by rw [mI_sI, if_neg (fun z => absurd z.1 (by decide))]; exact e47]
    have gw : GF G (XF w) M (sI (sI M 300 (rdI M (sFl' w)) (n - 801) m) 300 (rdI M (sFo w)) (n - 801) (Int32.ofNat t)) := ((GF.rf (X := XF w) T).wr (s := sFl' w) (k := n - 801) (v := m) m1 (by simp) rfl).wr (s := sFo w) (k := n - 801) (v := Int32.ofNat t) m2 (by simp) rfl
    have hf : Fr (2037035976334486086268445688409378161051468393665936250636140449354381299763336706183397376) M (sI (sI M 300 (rdI M (sFl' w)) (n - 801) m) 300 (rdI M (sFo w)) (n - 801) (Int32.ofNat t)) := Fr.wIa rfl rfl (Fr.wIa rfl rfl (Fr.rf _ _))
    have n12 : rdI M (sFl' w) ≠ rdI M (sFo w) := fun e => (T (sFo w) m2).2 (sFl' w) m1 (by simp) rfl e
    have n31 : rdI M (sFc w) ≠ rdI M (sFl' w) := fun e => (T (sFl' w) m1).2 (sFc w) m3 (by simp) rfl e
    have n32 : rdI M (sFc w) ≠ rdI M (sFo w) := fun e => (T (sFo w) m2).2 (sFc w) m3 (by simp) rfl e
    have n41 : rdI M (sFu w) ≠ rdI M (sFl' w) := fun e => (T (sFl' w) m1).2 (sFu w) m4 (by simp) rfl e
    have n42 : rdI M (sFu w) ≠ rdI M (sFo w) := fun e => (T (sFo w) m2).2 (sFu w) m4 (by simp) rfl e
    have hu : uF G w F (yF s ((zF s).set (n - 801) ((gFt s (n - 801)).1, (gFt s (n - 801)).2.1, m, Int32.ofNat t))) (sI (sI M 300 (rdI M (sFl' w)) (n - 801) m) 300 (rdI M (sFo w)) (n - 801) (Int32.ofNat t)) := by
      have hlen : (zF (yF s ((zF s).set (n - 801) ((gFt s (n - 801)).1, (gFt s (n - 801)).2.1, m, Int32.ofNat t)))).length = (zF s).length := List.length_set
      refine ⟨?_, fun y hy => ?_, fun i hi => ?_⟩
      · rw [hlen, mI_sI, if_neg (fun z => absurd z.1 (by decide)), mI_sI, if_neg (fun z => absurd z.1 (by decide))]; exact hc
      · rw [hlen]; exact hX y hy
      · rw [hlen] at hi
        obtain ⟨u1, u2, u3, u4⟩ := hrr i hi
        show mI (sI (sI M 300 (rdI M (sFl' w)) (n - 801) m) 300 (rdI M (sFo w)) (n - 801) (Int32.ofNat t)) 300 (rdI M (sFc w)) i = Int32.ofNat (((zF s).set (n - 801) ((gFt s (n - 801)).1, (gFt s (n - 801)).2.1, m, Int32.ofNat t)).getD i (0, 0, 0, 0)).1 ∧ mI (sI (sI M 300 (rdI M (sFl' w)) (n - 801) m) 300 (rdI M (sFo w)) (n - 801) (Int32.ofNat t)) 300 (rdI M (sFu w)) i = (((zF s).set (n - 801) ((gFt s (n - 801)).1, (gFt s (n - 801)).2.1, m, Int32.ofNat t)).getD i (0, 0, 0, 0)).2.1 ∧ mI (sI (sI M 300 (rdI M (sFl' w)) (n - 801) m) 300 (rdI M (sFo w)) (n - 801) (Int32.ofNat t)) 300 (rdI M (sFl' w)) i = (((zF s).set (n - 801) ((gFt s (n - 801)).1, (gFt s (n - 801)).2.1, m, Int32.ofNat t)).getD i (0, 0, 0, 0)).2.2.1 ∧ ((((zF s).set (n - 801) ((gFt s (n - 801)).1, (gFt s (n - 801)).2.1, m, Int32.ofNat t)).getD i (0, 0, 0, 0)).2.2.1 ≠ 0 → mI (sI (sI M 300 (rdI M (sFl' w)) (n - 801) m) 300 (rdI M (sFo w)) (n - 801) (Int32.ofNat t)) 300 (rdI M (sFo w)) i = (((zF s).set (n - 801) ((gFt s (n - 801)).1, (gFt s (n - 801)).2.1, m, Int32.ofNat t)).getD i (0, 0, 0, 0)).2.2.2)
        rw [mI_sI, if_neg (fun z => n32 z.2.1), mI_sI, if_neg (fun z => n31 z.2.1), mI_sI, if_neg (fun z => n42 z.2.1), mI_sI, if_neg (fun z => n41 z.2.1), mI_sI, if_neg (fun z => n12 z.2.1), mI_sI]
        have es : ∀ X : Ft, ((zF s).set (n - 801) X).getD i (0, 0, 0, 0) = if i = n - 801 then X else gFt s i := fun X => by
          rw [List.getD_eq_getElem?_getD, List.getElem?_set]
          by_cases e : i = n - 801
          · rw [if_pos e.symm, if_pos (by omega), if_pos e]; rfl
          · rw [if_neg (fun z => e z.symm), if_neg e, ← List.getD_eq_getElem?_getD]
        rw [es]
        by_cases e : i = n - 801
        · rw [if_pos e, if_pos ⟨rfl, rfl, e⟩, mI_sI, if_pos ⟨rfl, rfl, e⟩, ← e]
          exact ⟨u1, u2, rfl, fun _ => rfl⟩
        · rw [if_neg e, if_neg (fun z => e z.2.2), mI_sI, if_neg (fun z => e z.2.2), mI_sI, if_neg (fun z => e z.2.2)]
          exact ⟨u1, u2, u3, u4⟩
    refine hQ _ ?_
    obtain ⟨⟨a1, ⟨b1, b2'⟩, ⟨c1, c2⟩, ⟨d1, d2, d3⟩, ⟨e1, e2, e3, e4⟩, ⟨w1, w2, w3⟩, g⟩, hl, hu', h4⟩ := h
    have tI : ∀ i g k, tnF g = true → (g = 13 → k < 23) → mI (sI (sI M 300 (rdI M (sFl' w)) (n - 801) m) 300 (rdI M (sFo w)) (n - 801) (Int32.ofNat t)) g i k = mI M g i k := fun i g k hg h23 => unO_I (R := (2037035976334486086268445688409378161051468393665936250636140449354381299763336706183397376)) rfl hf hg h23 i
    exact ⟨⟨a1.mgf hf gw XF_W XF_S, ⟨b1.fr hf, b2'.fr hf⟩, ⟨c1.fr hf, hu⟩, ⟨d1.fr hf, d2.fr hf, d3.fr hf⟩, ⟨e1, (hf.I (f := 11) (k := 47) rfl 0).trans e2, e3, e4⟩, ⟨by have := gw.2.2; omega, w2, w3⟩, fun t' ht hne => (g t' ht hne).eq (tI _) (fun _ _ => rfl)⟩, hl.eq (tI _) (fun _ _ => rfl), hu'.eq (tI _), fun z => by rw [tI _ 13 4 rfl (by omega)]; exact h4 z⟩
  · rw [if_neg c8] at hQ ⊢
    have ht : thr s n = true := by rcases hn with z | z | z <;> first | exact absurd z hn0 | exact z.2 | omega
    obtain ⟨⟨l7, l8, l9, l0, l2, l4, l1⟩, ⟨e50, e52⟩, hT, hOb, hC⟩ := h.uh
    refine itp ((oN_lt (a := n) (b := 1001) (by omega) (by omega)).mpr (by omega)) ⟨w, h.r45, ?_⟩
    rw [oN_tnc (k := n) (by omega)]
    refine ⟨by rw [l0]; exact (vp_oN (by omega)).mpr (by omega), w, h.r45, by show vp_in _ (mL M 162 w); rw [l2]; exact (vp_oN (by omega)).mpr (by omega), _, rfl, ?_⟩
    rw [show mI (sI M 160 w n m) 11 0 47 = Int32.ofNat t from by rw [mI_sI, if_neg (fun z => absurd z.1 (by decide))]; exact e47]
    refine hQ _ (h.hp (Fr.wIa rfl rfl (Fr.wIa rfl rfl (Fr.rf _ _))) ?_)
    have row : ∀ f i k, f ≠ 160 → f ≠ 162 → mI (sI (sI M 160 w n m) 162 w n (Int32.ofNat t)) f i k = mI M f i k := fun f i k h1 h2 => by rw [mI_sI, if_neg (fun z => h2 z.1), mI_sI, if_neg (fun z => h1 z.1)]
    refine ⟨⟨l7, l8, l9, l0, l2, l4, l1⟩, ⟨(row 12 w 50 (by omega) (by omega)).trans e50, (row 12 w 52 (by omega) (by omega)).trans e52⟩, fun r hr => (row 524 w r (by omega) (by omega)).trans (hT r hr), fun r hr => ?_, fun i hi => (row 161 w i (by omega) (by omega)).trans (hC i hi)⟩
    obtain ⟨a1, a2, a3, a4, a5⟩ := hOb r hr
    show mI _ 157 w r = oCl (up1 (zH s).2.2.2.1 n _ r).1 ∧ mI _ 158 w r = Int32.ofNat (up1 (zH s).2.2.2.1 n _ r).2.1 ∧ mI _ 159 w r = Int32.ofNat (up1 (zH s).2.2.2.1 n _ r).2.2.1 ∧ mI _ 160 w r = (up1 (zH s).2.2.2.1 n _ r).2.2.2.1 ∧ ((up1 (zH s).2.2.2.1 n _ r).2.2.2.1 ≠ 0 → mI _ 162 w r = (up1 (zH s).2.2.2.1 n _ r).2.2.2.2)
    rw [row 157 w r (by omega) (by omega), row 158 w r (by omega) (by omega), row 159 w r (by omega) (by omega)]
    by_cases e : r = n
    · rw [e, up1_s]
      rw [e] at a1 a2 a3
      simp only [mI_sI, Nat.reduceEqDiff, false_and, if_false, and_self, if_true]
      exact ⟨a1, a2, a3, trivial, fun _ => trivial⟩
    · rw [up1_o e, mI_sI, if_neg (fun z => absurd z.1 (by decide)), mI_sI, if_neg (fun z => e z.2.2), mI_sI, if_neg (fun z => e z.2.2), mI_sI, if_neg (fun z => absurd z.1 (by decide))]
      exact ⟨a1, a2, a3, a4, a5⟩
/-- locks, after the question whether to wait -/
theorem ct_j127 (h : TM G US A S W w br nq nl nf nk B F x bb t s (.inl (c, j, a, lo, st) :: U) M) (hf : frs U < 40) (hs : 1 ≤ st.length) (hs2 : st.length ≤ 20) (hst : stk U) (ho : op = 60 ∨ op = 61) (hv : vRf s r) (h0 : r ≠ 0) (hQ : ∀ M', TM G US A S W w br nq nl nf nk B F x bb t (sU (wLock s r ((lkR s r).1 + (if op = 60 then 1 else -1)) (Int32.ofNat t)) t (.inl (c, j, a + 1, lo, drp st 1) :: U)) (.inl (c, j, a + 1, lo, drp st 1) :: U) M' → Q 1 M') : w_Model_lockStep_j127 0 Q (Int32.ofNat (frs U)) (Int32.ofNat op) (tr true r) M := by
  unfold w_Model_lockStep_j127
  refine ct_locksOf h hv h0 ?_
  have go : ∀ d : Int32, d = (if op = 60 then 1 else -1) → w_Model_lockStep_j145 0 Q (Int32.ofNat (frs U)) d (lkR s r).1 (tr true r) M := fun d hd => by
    rw [← hd] at hQ
    unfold w_Model_lockStep_j145
    exact ct_lock h hv h0 (fun M1 h1 => ct_popT h1 hf hs (by omega) hst (fun M2 h2 => ct_j726 h2 hf hst hQ))
  rcases ho with z | z <;> subst z
  · exact itp rfl (go 1 rfl)
  · exact itn (by decide) (go (-1) rfl)
theorem TM.top (h : TM G US A S W w br nq nl nf nk B F x bb t s (.inl (c, j, a, lo, st) :: U) M) (hf : frs U < 40) (hs : 1 ≤ st.length) (hs2 : st.length ≤ 24) : mI M 175 (3 * w + t) (frs U) = Int32.ofNat st.length ∧ ((44 : Int32) * Int32.ofNat (frs U) + 20 + Int32.ofNat st.length) - 1 = Int32.ofNat (44 * frs U + 20 + (st.length - 1)) ∧ mI M 176 (3 * w + t) (44 * frs U + 20 + (st.length - 1)) = tr (tv st 0).2 (tv st 0).1 := by
  refine ⟨h.2.2.1.2.2.1.2.2.2, ?_, (h.2.2.1.2.2.2.1.2 (st.length - 1) (show st.length - 1 < st.length by omega)).1⟩
  rw [show (44 : Int32) * Int32.ofNat (frs U) = Int32.ofNat (44 * frs U) from oN_mul 44 _, show Int32.ofNat (44 * frs U) + (20 : Int32) = Int32.ofNat (44 * frs U + 20) from oN_add _ 20, oN_add, lit32 1, oN_sub (by omega), Nat.add_sub_assoc hs]
theorem ct_lockStep (hq : TQc W F (tickS s t op)) (h : TM G US A S W w br nq nl nf nk B F x bb t s (.inl (c, j, a, lo, st) :: U) M) (hA : At W s t c j a lo st U i) (hA' : At W (tickS s t op) t c j a lo st U i) (ho : op = 60 ∨ op = 61) (hi : i.1 = op) (hk : (tv st 0).1 ≠ 0 → 0 ≤ (lkR s (tv st 0).1).1) (hw : lWt (zN s t) = none)
    (hQ2 : op = 60 → (tv st 0).1 ≠ 0 → lckd s t (tv st 0).1 → ∀ M', TM G US A S W w br nq nl nf nk B F x bb t s (.inl (c, j, a, lo, st) :: U) M' → mI M' 13 (3 * w + t) 2 = tr true (tv st 0).1 → Q 2 M')
    (hQ : ¬ (op = 60 ∧ (tv st 0).1 ≠ 0 ∧ lckd s t (tv st 0).1) → ∀ M', TM G US A S W w br nq nl nf nk B F x bb t (doS W t (tickS s t op) c j a lo st U i p) (gU (doS W t (tickS s t op) c j a lo st U i p) t) M' → Q 1 M') : w_Model_lockStep 0 (Int32.ofNat (frs U)) (Int32.ofNat op) Q M := by
  obtain ⟨⟨hf, -⟩, ⟨hs20, hlo⟩, hst⟩ := hA.tj
  have hwl : wlist W c (gmt (gc W c) j) i = [wRef] := by
    rcases ho with z | z <;> subst z <;> obtain ⟨o, r⟩ := i <;> have hi := hi <;> subst hi <;> rfl
  obtain ⟨hs, f0, hv⟩ := hA.r1 hwl
  obtain ⟨l0, l1, l2, l3, l4, l5, l6, l7⟩ := h.lens
  obtain ⟨e175, esum, e176⟩ := h.top hf hs (by omega)
  rw [f0] at e176
  have j80 : ∀ b : Bool, ((tv st 0).1 ≠ 0 → (b = true ↔ lckd s t (tv st 0).1)) → (op = 60 → b = false) → ¬ (op = 60 ∧ (tv st 0).1 ≠ 0 ∧ lckd s t (tv st 0).1) → w_Model_lockStep_j80 0 Q (Int32.ofNat (frs U)) (Int32.ofNat op) (tr true (tv st 0).1) (b2 b) M := fun b hb hb0 hn => by
    have hQ := hQ hn
    unfold w_Model_lockStep_j80
    refine ct_tally (op := op) h (by omega) (fun M1 h1 _ _ => ?_)
    have hv' : vRf (tickS s t op) (tv st 0).1 := hv
    by_cases c0 : (tv st 0).1 = 0
    · have e : doS W t (tickS s t op) c j a lo st U i p = failS W t (tickS s t op) 2 0 := by
        rcases ho with z | z <;> subst z
        · have e : doS W t (tickS s t 60) c j a lo st U i p = if (tv st 0).1 = 0 then failS W t (tickS s t 60) 2 0 else sU (wLock (tickS s t 60) (tv st 0).1 ((lkR (tickS s t 60) (tv st 0).1).1 + 1) (Int32.ofNat t)) t (.inl (c, j, a + 1, lo, drp st 1) :: U) := (by obtain ⟨o, r⟩ := i; have ho : o = 60 := hi; subst ho; rfl)
          rw [e, if_pos c0]
        · have e : doS W t (tickS s t 61) c j a lo st U i p = if (tv st 0).1 = 0 then failS W t (tickS s t 61) 2 0 else if (lkR (tickS s t 61) (tv st 0).1).1 = 0 ∨ (lkR (tickS s t 61) (tv st 0).1).2 ≠ Int32.ofNat t then failS W t (tickS s t 61) 7 0 else sU (wLock (tickS s t 61) (tv st 0).1 ((lkR (tickS s t 61) (tv st 0).1).1 + -1) (Int32.ofNat t)) t (.inl (c, j, a + 1, lo, drp st 1) :: U) := (by obtain ⟨o, r⟩ := i; have ho : o = 61 := hi; subst ho; rfl)
          rw [e, if_pos c0]
      rw [e] at hQ
      exact itp ((tr_ne0 hv).mpr c0) (ct_throwD (f := 2) (ru := 0) hq h1 hA' (by omega) (by omega) hQ)
    · refine itn (fun z => c0 ((tr_ne0 hv).mp z)) ?_
      rcases ho with z | z <;> subst z
      · have e : doS W t (tickS s t 60) c j a lo st U i p = if (tv st 0).1 = 0 then failS W t (tickS s t 60) 2 0 else sU (wLock (tickS s t 60) (tv st 0).1 ((lkR (tickS s t 60) (tv st 0).1).1 + 1) (Int32.ofNat t)) t (.inl (c, j, a + 1, lo, drp st 1) :: U) := (by obtain ⟨o, r⟩ := i; have ho : o = 60 := hi; subst ho; rfl)
        rw [e, if_neg c0, gU_in] at hQ
        exact itn (by decide) (ct_j127 (op := 60) h1 hf hs hs20 hst (Or.inl rfl) hv' c0 hQ)
      · have e : doS W t (tickS s t 61) c j a lo st U i p = if (tv st 0).1 = 0 then failS W t (tickS s t 61) 2 0 else if (lkR (tickS s t 61) (tv st 0).1).1 = 0 ∨ (lkR (tickS s t 61) (tv st 0).1).2 ≠ Int32.ofNat t then failS W t (tickS s t 61) 7 0 else sU (wLock (tickS s t 61) (tv st 0).1 ((lkR (tickS s t 61) (tv st 0).1).1 + -1) (Int32.ofNat t)) t (.inl (c, j, a + 1, lo, drp st 1) :: U) := (by obtain ⟨o, r⟩ := i; have ho : o = 61 := hi; subst ho; rfl)
        rw [e, if_neg c0] at hQ
        have elk : lkR (tickS s t 61) (tv st 0).1 = lkR s (tv st 0).1 := rfl
        refine itp rfl ?_
        cases b with
        | true =>
          have hl := (hb c0).mp rfl
          rw [elk, if_pos (Or.inr hl.2)] at hQ
          refine itn (by decide) ?_
          unfold w_Model_lockStep_j117
          exact ct_throwD (f := 7) (ru := 0) hq h1 hA' (by omega) (by omega) hQ
        | false =>
          have hnl : ¬ lckd s t (tv st 0).1 := fun z => by have := (hb c0).mpr z; cases this
          refine itp rfl (ct_locksOf h1 hv' c0 ?_)
          rw [elk]
          by_cases cz : (lkR s (tv st 0).1).1 = 0
          · rw [elk, if_pos (Or.inl cz)] at hQ
            refine itp cz ?_
            unfold w_Model_lockStep_j117
            exact ct_throwD (f := 7) (ru := 0) hq h1 hA' (by omega) (by omega) hQ
          · have hpos : 0 < (lkR s (tv st 0).1).1 := Int32.lt_of_le_of_ne (hk c0) (fun z => cz z.symm)
            rw [elk, if_neg (fun z => z.elim cz (fun y => hnl ⟨hpos, y⟩)), gU_in] at hQ
            exact itn cz (ct_j127 (op := 61) h1 hf hs hs20 hst (Or.inr rfl) hv' c0 hQ)
  have j57 : ∀ b : Bool, ((tv st 0).1 ≠ 0 → (b = true ↔ lckd s t (tv st 0).1)) → ((tv st 0).1 = 0 → b = false) → w_Model_lockStep_j57 0 Q (Int32.ofNat (frs U)) (Int32.ofNat op) (tr true (tv st 0).1) (b2 b) M := fun b hb hb0 => by
    unfold w_Model_lockStep_j57
    by_cases c60 : op = 60
    · refine itp (by rw [c60]; rfl) ?_
      cases b with
      | false =>
        refine itp rfl (j80 false hb (fun _ => rfl) (fun z => ?_))
        have := (hb z.2.1).mpr z.2.2; cases this
      | true =>
        have c0 : (tv st 0).1 ≠ 0 := fun z => by have := hb0 z; cases this
        exact itn (by decide) ⟨3 * w + t, h.r46, hQ2 c60 c0 ((hb c0).mp rfl) _ (h.w2 hw) (by rw [mI_sI, if_pos ⟨rfl, rfl, rfl⟩])⟩
    · refine itn (fun z => c60 ((oN_inj (a := op) (b := 60) (by omega) (by omega)).mp z)) (j80 b hb (fun z => absurd z c60) (fun z => c60 z.1))
  unfold w_Model_lockStep
  refine ⟨3 * w + t, h.r46, 3 * w + t, h.r46, by rw [l5]; exact (vp_oN (by omega)).mpr hf, ?_⟩
  rw [oN_tnc (k := frs U) (by omega), e175, esum, oN_tnc (k := 44 * frs U + 20 + (st.length - 1)) (by omega), e176]
  refine ⟨by rw [l6]; exact (vp_oN (by omega)).mpr (by omega), _, rfl, ?_⟩
  unfold w_Model_lockStep_j56
  by_cases c0 : (tv st 0).1 = 0
  · exact itp ((tr_ne0 hv).mpr c0) (j57 false (fun z => absurd c0 z) (fun _ => rfl))
  refine itn (fun z => c0 ((tr_ne0 hv).mp z)) (ct_locksOf h hv c0 ?_)
  by_cases c1 : (lkR s (tv st 0).1).1 ≤ 0
  · refine itp c1 (j57 false (fun _ => ⟨fun z => (by cases z), fun z => absurd z.1 (Int32.not_lt.mpr c1)⟩) (fun z => absurd z c0))
  refine itn c1 (ct_ownerOf h hv c0 (fun v hv' => ?_))
  have hp := Int32.not_le.mp c1
  have hne : (lkR s (tv st 0).1).1 ≠ 0 := fun z => by rw [z] at hp; exact absurd hp (by decide)
  rw [hv' hne, show mI M 11 0 47 = Int32.ofNat t from h.1.2.2.2.2.1.2.1]
  by_cases c2 : (lkR s (tv st 0).1).2 = Int32.ofNat t
  · exact itp c2 (j57 false (fun _ => ⟨fun z => (by cases z), fun z => absurd c2 z.2⟩) (fun z => absurd z c0))
  · exact itn c2 (j57 true (fun _ => ⟨fun _ => ⟨hp, c2⟩, fun _ => rfl⟩) (fun z => absurd z c0))
end
