/-! THE MACHINE IN THE WORKS: locks, new objects (printed by gen/mk.py) -/
theorem sI_sI {M : Mem} {f i k : Nat} {a b : Int32} : sI (sI M f i k a) f i k b = sI M f i k b := by
  unfold sI
  refine Prod.ext ?_ rfl
  funext f' i' k'
  show (if f' = f ∧ i' = i ∧ k' = k then b else if f' = f ∧ i' = i ∧ k' = k then a else M.1 f' i' k') = if f' = f ∧ i' = i ∧ k' = k then b else M.1 f' i' k'
  by_cases e : f' = f ∧ i' = i ∧ k' = k
  · rw [if_pos e, if_pos e]
  · rw [if_neg e, if_neg e, if_neg e]
section
variable {A : List Nm} {W : List Cls} {w C B F t : Nat} {br : Int32} {nq nk np nh nr : Nat} {s s' : Ms} {M M' : Mem} {U : List Un} {c j a qi : Nat} {lo st lo' st' : List Vl} {q : Nat × Nat} {i : Ins} {Q : Mem → Prop} {r v y : Int32}
theorem c_lockJ {op x2 x3 n : Nat} {δ : Int32} {Q : Int32 → Mem → Prop} (h : RI A W w br nq nk np nh nr C B F t s c j a lo st U M) (hs : 1 ≤ st.length) (hop : op = 60 ∧ δ = 1 ∨ op = 61 ∧ δ = -1) (hne : x2 ≠ x3) (hb : mL M 301 x2 < 2147483648 ∧ mL M 301 x3 < 2147483648) (l2 : n < mL M 301 x2) (l3 : n < mL M 301 x3) (e2 : mI M 301 x2 n = (lkR s y).1) (e3 : (lkR s y).1 ≠ 0 → mI M 301 x3 n = (lkR s y).2)
    (hfail : op = 61 → ((lkR s y).1 = 0 ∨ (lkR s y).2 ≠ Int32.ofNat t) → w_Machine_fail w 7 0 (fun M' => Q 0 M') M)
    (hgo : (op = 61 → ¬ ((lkR s y).1 = 0 ∨ (lkR s y).2 ≠ Int32.ofNat t)) → Q 1 (sI (sI (sI M 301 x3 n (Int32.ofNat t)) 301 x2 n ((lkR s y).1 + δ)) 6 w 34 (Int32.ofNat (st.length - 1)))) : w_Machine_lock_j57 w Q (Int32.ofNat op) x2 x3 (Int32.ofNat n) M := by
  have R2 : mR M 6 w 2 = some (7, 3 * w + t) := h.1.1.2.2.2.2.1.1
  have h0 : mI M 7 (3 * w + t) 0 = Int32.ofNat t := h.1.2.1.2.1.1
  have v2 : vp_in (Int32.ofNat n) (mL M 301 x2) := (vp_oN (by omega)).mpr l2
  have v3 : vp_in (Int32.ofNat n) (mL M 301 x3) := (vp_oN (by omega)).mpr l3
  have j96 : (op = 61 → ¬ ((lkR s y).1 = 0 ∨ (lkR s y).2 ≠ Int32.ofNat t)) → w_Machine_lock_j96 w Q (Int32.ofNat op) x2 x3 (Int32.ofNat n) M := fun hc => by
    unfold w_Machine_lock_j96 w_Machine_lock_j124
    refine ⟨3 * w + t, R2, v3, v2, ?_⟩
    rw [h0, oN_tnc (k := n) (by omega), show mI (sI M 301 x3 n (Int32.ofNat t)) 301 x2 n = (lkR s y).1 by rw [mI_sI, if_neg (fun z => hne z.2.1)]; exact e2]
    have e34 : ∀ x, mI (sI (sI M 301 x3 n (Int32.ofNat t)) 301 x2 n x) 6 w 34 = Int32.ofNat st.length := fun x => by simp only [mI_sI, Nat.reduceEqDiff, false_and, if_false]; exact h.2.1.2
    have es : Int32.ofNat st.length - (1 : Int32) = Int32.ofNat (st.length - 1) := sub_n (n := 1) hs
    rcases hop with ⟨z, d⟩ | ⟨z, d⟩ <;> subst z <;> rw [d] at hgo
    · refine itp rfl ⟨v2, _, rfl, ?_⟩
      rw [e34, es]; exact hgo hc
    · refine itn (by decide) ⟨v2, _, rfl, ?_⟩
      rw [e34, es]; exact hgo hc
  unfold w_Machine_lock_j57
  rcases hop with ⟨z, d⟩ | ⟨z, d⟩
  · exact itn (by rw [z]; decide) (j96 (fun z' => by omega))
  · refine itp (by rw [z]; rfl) ⟨v2, ?_⟩
    unfold w_Machine_lock_j87
    rw [oN_tnc (k := n) (by omega), e2]
    by_cases c1 : (lkR s y).1 = 0
    · exact itp c1 (hfail z (Or.inl c1))
    · refine itn c1 ⟨v3, 3 * w + t, R2, ?_⟩
      rw [e3 c1, h0]
      by_cases c2 : (lkR s y).2 = Int32.ofNat t
      · exact itp c2 (j96 (fun _ z' => z'.elim c1 (fun z'' => z'' c2)))
      · exact itn c2 (hfail z (Or.inr c2))
theorem rFt.w301 {x k : Nat} (h : rFt w B F s M) (hx : x < 24) : rFt w B F s (sI M 301 x k v) := by
  obtain ⟨a, f, n, b, c, d, e⟩ := h
  refine ⟨?_, f, n, b, fun k hk => c k hk, d, fun i hi => ?_⟩
  · rw [mI_sI, if_neg (fun z => absurd z.1 (by decide))]; exact a
  · have g : ∀ k, k < 4 → f k ≠ x := fun k hk z => by have := (c k hk).2.2.1; omega
    have g0 := g 0 (by omega)
    have g1 := g 1 (by omega)
    have g2 := g 2 (by omega)
    have g3 := g 3 (by omega)
    simp only [mI_sI, g0, g1, g2, g3, false_and, and_false, if_false]
    exact e i hi
/-- an object's lock -/
theorem RI.lockO {n : Nat} {o v : Int32} (hw : w < 4) (h : RI A W w br nq nk np nh nr C B F t s c j a lo st U M) (ht : thr s n = true) (hn : n ≤ 800) (en : y.toNatClampNeg = n) : RI A W w br nq nk np nh nr C B F t (wLock s y v o) c j a lo st U (sI (sI M 301 (6 * w + 1) n o) 301 (6 * w + 0) n v) := by
  have hf : Fr SHp M (sI (sI M 301 (6 * w + 1) n o) 301 (6 * w + 0) n v) := Fr.wIa rfl rfl (Fr.wIa rfl rfl (Fr.rf _ _))
  have row : ∀ f i j, f ≠ 301 → mI (sI (sI M 301 (6 * w + 1) n o) 301 (6 * w + 0) n v) f i j = mI M f i j := fun f i j hf => by rw [mI_sI, if_neg (fun z => hf z.1), mI_sI, if_neg (fun z => hf z.1)]
  unfold wLock
  rw [en, if_neg (by omega)]
  refine h.hp hf ?_ ((h.1.1.2.2.1.2.w301 (x := 6 * w + 1) (k := n) (v := o) (by omega)).w301 (x := 6 * w + 0) (k := n) (v := v) (by omega))
  obtain ⟨a1, ⟨b1, b2'⟩, c, d, e, l, m, ⟨g1, g2⟩, g⟩ := h.1.1.2.2.1.1
  refine ⟨a1, ⟨(row 6 _ _ (by omega)).trans b1, (row 6 _ _ (by omega)).trans b2'⟩, fun r hr => (row 512 _ _ (by omega)).trans (c r hr), fun r hr => ?_, fun i hi => (row 84 _ _ (by omega)).trans (e i hi), l, m, ⟨(row 6 _ _ (by omega)).trans g1, (row 6 _ _ (by omega)).trans g2⟩, g⟩
  have hr : thr s r = true := hr
  have := d r hr
  unfold rO at this ⊢
  rw [row 79 _ _ (by omega), row 80 _ _ (by omega), row 81 _ _ (by omega)]
  show mI M 79 w r = oCl (up1 (zH s).2.2.2.1 n _ r).1 ∧ mI M 80 w r = Int32.ofNat (up1 (zH s).2.2.2.1 n _ r).2.1 ∧ mI M 81 w r = Int32.ofNat (up1 (zH s).2.2.2.1 n _ r).2.2.1 ∧ mI _ 301 (6 * w + 0) r = (up1 (zH s).2.2.2.1 n _ r).2.2.2.1 ∧ ((up1 (zH s).2.2.2.1 n _ r).2.2.2.1 ≠ 0 → mI _ 301 (6 * w + 1) r = (up1 (zH s).2.2.2.1 n _ r).2.2.2.2)
  by_cases er : r = n
  · rw [er, up1_s]
    rw [er] at this
    refine ⟨this.1, this.2.1, this.2.2.1, ?_, fun _ => ?_⟩
    · rw [mI_sI, if_pos ⟨rfl, rfl, rfl⟩]
    · rw [mI_sI, if_neg (by omega), mI_sI, if_pos ⟨rfl, rfl, rfl⟩]
  · rw [up1_o er, mI_sI, if_neg (fun z => er z.2.2), mI_sI, if_neg (fun z => er z.2.2), mI_sI, if_neg (fun z => er z.2.2), mI_sI, if_neg (fun z => er z.2.2)]
    exact this
/-- a fault's lock -/
theorem RI.lockF {n : Nat} {o v : Int32} {x : Nat → Nat} {m : Nat} (hw : w < 4) (h : RI A W w br nq nk np nh nr C B F t s c j a lo st U M) (e21 : mI M 6 w 21 = Int32.ofNat (zF s).length) (hb : (zF s).length ≤ m ∧ 64 ≤ m ∧ (m = 64 ∨ m ≤ 2 * F) ∧ mS M ≤ B + 8 * m) (hc : ∀ k, k < 4 → mR M 6 w (22 + k) = some (301, x k) ∧ mL M 301 (x k) = m ∧ 24 ≤ x k ∧ (301, x k) ∈ mN M) (hd : ∀ k l, k < 4 → l < 4 → x k = x l → k = l)
    (hv : ∀ i, i < (zF s).length → mI M 301 (x 0) i = Int32.ofNat (gFt s i).1 ∧ mI M 301 (x 1) i = (gFt s i).2.1 ∧ mI M 301 (x 2) i = (gFt s i).2.2.1 ∧ mI M 301 (x 3) i = (gFt s i).2.2.2) (hn : n < (zF s).length) (en : y.toNatClampNeg = n + 801) : RI A W w br nq nk np nh nr C B F t (wLock s y v o) c j a lo st U (sI (sI M 301 (x 3) n o) 301 (x 2) n v) := by
  have ha : AgF M (sI (sI M 301 (x 3) n o) 301 (x 2) n v) := (AgF.rf.wv (hc 3 (by omega)).2.2.1).wv (hc 2 (by omega)).2.2.1
  unfold wLock
  rw [en, if_pos (by omega), show n + 801 - 801 = n by omega]
  have ne : ∀ k l, k < 4 → l < 4 → k ≠ l → x k ≠ x l := fun k l a b c z => c (hd k l a b z)
  refine ⟨h.1.agF hw ha ⟨?_, x, m, ?_, fun k hk => hc k hk, hd, fun i hi => ?_⟩, ⟨(ha.1.I (f := 6) (k := 33) rfl w).trans h.2.1.1, (ha.1.I (f := 6) (k := 34) rfl w).trans h.2.1.2⟩, h.2.2⟩
  · show _ = Int32.ofNat ((zF s).set n _).length
    rw [List.length_set, mI_sI, if_neg (fun z => absurd z.1 (by decide)), mI_sI, if_neg (fun z => absurd z.1 (by decide))]; exact e21
  · show ((zF s).set n _).length ≤ m ∧ _
    rw [List.length_set]; exact hb
  · have hi : i < ((zF s).set n ((gFt s n).1, (gFt s n).2.1, v, o)).length := hi
    rw [List.length_set] at hi
    have eg : gFt (yF s ((zF s).set n ((gFt s n).1, (gFt s n).2.1, v, o))) i = if i = n then ((gFt s n).1, (gFt s n).2.1, v, o) else gFt s i := by
      show ((zF s).set n _).getD i _ = if i = n then _ else (zF s).getD i _
      rw [List.getD_eq_getElem?_getD, List.getElem?_set]
      by_cases e : n = i
      · rw [if_pos e, if_pos (e ▸ hn), if_pos e.symm]; rfl
      · rw [if_neg e, if_neg (fun z => e z.symm), ← List.getD_eq_getElem?_getD]
    rw [eg]
    have q02 := ne 0 2 (by omega) (by omega) (by omega)
    have q03 := ne 0 3 (by omega) (by omega) (by omega)
    have q12 := ne 1 2 (by omega) (by omega) (by omega)
    have q13 := ne 1 3 (by omega) (by omega) (by omega)
    have q23 := ne 2 3 (by omega) (by omega) (by omega)
    have q32 := ne 3 2 (by omega) (by omega) (by omega)
    have hh := hv i hi
    simp only [mI_sI, q02, q03, q12, q13, q23, q32, false_and, and_false, if_false, true_and]
    by_cases e : i = n
    · rw [if_pos e, if_pos e, if_pos e]
      rw [e] at hh ⊢
      exact ⟨hh.1, hh.2.1, rfl, rfl⟩
    · rw [if_neg e, if_neg e, if_neg e]; exact hh
theorem c_lockA {op : Nat} {δ : Int32} {Q : Int32 → Mem → Prop} (hw : w < 4) (hFb : F < 1000000) (h : RI A W w br nq nk np nh nr C B F t s c j a lo st U M) (hs : 1 ≤ st.length) (hop : op = 60 ∧ δ = 1 ∨ op = 61 ∧ δ = -1) (hv : vRf s y) (h0 : y ≠ 0)
    (hfail : op = 61 → ((lkR s y).1 = 0 ∨ (lkR s y).2 ≠ Int32.ofNat t) → w_Machine_fail w 7 0 (fun M' => Q 0 M') M)
    (hgo : (op = 61 → ¬ ((lkR s y).1 = 0 ∨ (lkR s y).2 ≠ Int32.ofNat t)) → ∀ M', RI A W w br nq nk np nh nr C B F t (wLock s y ((lkR s y).1 + δ) (Int32.ofNat t)) c j a lo st U M' → Q 1 (sI M' 6 w 34 (Int32.ofNat (st.length - 1)))) : w_Machine_lock w (Int32.ofNat op) y Q M := by
  obtain ⟨n, e, en, hn⟩ := hv.c h0
  have hH := h.1.1.2.2.1.1
  unfold w_Machine_lock w_Machine_lock_j18 w_Machine_lock_j37
  rcases hn with ⟨z1, z2⟩ | ⟨z1, z2, z3⟩
  · have hO := hH.2.2.2.1 n z2
    have el : lkR s y = (gOb s n).2.2.2 := by unfold lkR; rw [en, if_neg (by omega)]
    have h8 : y ≤ 800 := by rw [e]; exact (le800 (by omega)).mpr z1
    refine itp h8 (itp h8 (itp h8 ?_))
    have key := c_lockJ (op := op) (x2 := 6 * w + 0) (x3 := 6 * w + 1) (n := n) (δ := δ) (Q := Q) (y := y) h hs hop (by omega) ⟨by rw [hH.1.2.1]; omega, by rw [hH.1.2.2]; omega⟩ (by rw [hH.1.2.1]; omega) (by rw [hH.1.2.2]; omega) (by rw [el]; exact hO.2.2.2.1) (by rw [el]; exact hO.2.2.2.2) hfail (fun hc => hgo hc _ (h.lockO hw z2 z1 en))
    rw [e]; exact key
  · obtain ⟨e21, x, m, hb, hc, hd, hvv⟩ := h.1.1.2.2.1.2
    have el : lkR s y = (gFt s (n - 801)).2.2 := by unfold lkR; rw [en, if_pos (by omega)]
    have h8 : ¬ y ≤ 800 := by rw [e]; exact fun z => absurd ((le800 (by omega)).mp z) (by omega)
    obtain ⟨c1, c2, -⟩ := hc 2 (by omega)
    obtain ⟨c3, c4, -⟩ := hc 3 (by omega)
    have hm : m < 2147483648 := by obtain ⟨-, -, z, -⟩ := hb; omega
    have hvn := hvv _ z2
    refine itn h8 ⟨x 2, c1, itn h8 ⟨x 3, c3, itn h8 ?_⟩⟩
    have key := c_lockJ (op := op) (x2 := x 2) (x3 := x 3) (n := n - 801) (δ := δ) (Q := Q) (y := y) h hs hop (fun z => absurd (hd 2 3 (by omega) (by omega) z) (by omega)) ⟨by rw [c2]; exact hm, by rw [c4]; exact hm⟩ (by rw [c2]; omega) (by rw [c4]; omega) (by rw [el]; exact hvn.2.2.1) (fun _ => by rw [el]; exact hvn.2.2.2) hfail (fun hc' => hgo hc' _ (h.lockF hw e21 hb hc hd hvv z2 (by omega)))
    rw [e, sub800 z1]
    exact key
theorem th_60 (hq : RQ A W w nq nk np nh nr F s) (h : RI A W w br nq nk np nh nr C B F t s c j a lo st U M) (hA : At W s t c j a lo st U i) (ho : i.1 = 60) (hQ : ∀ M', RM A W w br nq nk np nh nr C B F t (doS W t s c j a lo st U i q) (gU (doS W t s c j a lo st U i q) t) M' → Q M') : w_Machine_things w (Int32.ofNat U.length) (Int32.ofNat qi) (Int32.ofNat 60) (Int32.ofNat (a + 1)) Q M := by
  obtain ⟨hU, hs20, hlo⟩ := h.2.2.1
  obtain ⟨tl, tk⟩ := hA.tk (ws := [wRef]) (by obtain ⟨o, r⟩ := i; have ho : o = 60 := ho; subst ho; rfl)
  have hs : 1 ≤ st.length := by
    have := hA.in.1.2.1
    have tl : 1 ≤ (k2 W c j a).length := tl
    omega
  have e : doS W t s c j a lo st U i q = if (tv st 0).1 = 0 then failS W t s 2 0 else sU (wLock s (tv st 0).1 ((lkR s (tv st 0).1).1 + 1) (Int32.ofNat t)) t (.inl (c, j, a + 1, lo, drp st 1) :: U) := (by obtain ⟨o, r⟩ := i; have ho : o = 60 := ho; subst ho; rfl)
  rw [e] at hQ
  unfold w_Machine_things
  refine itn (by decide) (itn (by decide) (itn (by decide) (itn (by decide) (itn (by decide) (itn (by decide) (itn (by decide) (?_)))))))
  unfold w_Machine_things_j145
  refine c_num (d := 0) h (by omega) ?_
  by_cases c0 : (tv st 0).1 = 0
  · rw [if_pos c0] at hQ
    exact itp c0 (c_failA (f := 2) (ru := 0) hq h hA (by omega) (by omega) hQ)
  rw [if_neg c0] at hQ
  refine itn c0 ?_
  unfold w_Machine_inThing
  have v0 := (tk 0 (by simp)).2
  have hfl := v0.fl (Or.inl (wOne_ref (tk 0 (by simp)).1))
  refine itn (by decide) (itn (by decide) (itn (by decide) (itp rfl (c_lockA (op := 60) (δ := 1) hq.2.2.2.1.1 hq.2.2.2.1.2 h hs (by simp) (v0.2 hfl) c0 (fun z hc => ?_) (fun hc M' h' => ⟨Or.inr rfl, itn (by decide) ?_⟩)))))
  · exact absurd z (by decide)
  · rw [gU_in] at hQ
    exact c_go h' (by omega) hQ
theorem th_61 (hq : RQ A W w nq nk np nh nr F s) (h : RI A W w br nq nk np nh nr C B F t s c j a lo st U M) (hA : At W s t c j a lo st U i) (ho : i.1 = 61) (hQ : ∀ M', RM A W w br nq nk np nh nr C B F t (doS W t s c j a lo st U i q) (gU (doS W t s c j a lo st U i q) t) M' → Q M') : w_Machine_things w (Int32.ofNat U.length) (Int32.ofNat qi) (Int32.ofNat 61) (Int32.ofNat (a + 1)) Q M := by
  obtain ⟨hU, hs20, hlo⟩ := h.2.2.1
  obtain ⟨tl, tk⟩ := hA.tk (ws := [wRef]) (by obtain ⟨o, r⟩ := i; have ho : o = 61 := ho; subst ho; rfl)
  have hs : 1 ≤ st.length := by
    have := hA.in.1.2.1
    have tl : 1 ≤ (k2 W c j a).length := tl
    omega
  have e : doS W t s c j a lo st U i q = if (tv st 0).1 = 0 then failS W t s 2 0 else if (lkR s (tv st 0).1).1 = 0 ∨ (lkR s (tv st 0).1).2 ≠ Int32.ofNat t then failS W t s 7 0 else sU (wLock s (tv st 0).1 ((lkR s (tv st 0).1).1 + -1) (Int32.ofNat t)) t (.inl (c, j, a + 1, lo, drp st 1) :: U) := (by obtain ⟨o, r⟩ := i; have ho : o = 61 := ho; subst ho; rfl)
  rw [e] at hQ
  unfold w_Machine_things
  refine itn (by decide) (itn (by decide) (itn (by decide) (itn (by decide) (itn (by decide) (itn (by decide) (itn (by decide) (?_)))))))
  unfold w_Machine_things_j145
  refine c_num (d := 0) h (by omega) ?_
  by_cases c0 : (tv st 0).1 = 0
  · rw [if_pos c0] at hQ
    exact itp c0 (c_failA (f := 2) (ru := 0) hq h hA (by omega) (by omega) hQ)
  rw [if_neg c0] at hQ
  refine itn c0 ?_
  unfold w_Machine_inThing
  have v0 := (tk 0 (by simp)).2
  have hfl := v0.fl (Or.inl (wOne_ref (tk 0 (by simp)).1))
  refine itn (by decide) (itn (by decide) (itn (by decide) (itn (by decide) (itp rfl (c_lockA (op := 61) (δ := -1) hq.2.2.2.1.1 hq.2.2.2.1.2 h hs (by simp) (v0.2 hfl) c0 (fun z hc => ?_) (fun hc M' h' => ⟨Or.inr rfl, itn (by decide) ?_⟩))))))
  · rw [if_pos hc] at hQ
    exact c_failA (f := 7) (ru := 0) hq h hA (by omega) (by omega) (fun M' h' => ⟨Or.inl rfl, itp rfl (hQ M' h')⟩)
  · rw [if_neg (hc rfl), gU_in] at hQ
    exact c_go h' (by omega) hQ
end
