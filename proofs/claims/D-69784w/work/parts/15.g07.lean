/-! THE MACHINE IN THE WORKS: what is thrown -/
section
variable {A : List Nm} {W : List Cls} {w C B F t L : Nat} {br : Int32} {nq nk np nh nr : Nat} {s s' : Ms} {M M' M1 : Mem} {S : Nat} {l : Ln} {U V : List Un} {r : Int32} {c j a : Nat} {lo st : List Vl} {o : Option Kd}
theorem rH.agF (hw : w < 4) (h : rH w s M) (ha : AgF M M') : rH w s M' := by
  obtain ⟨hf, hI, hL⟩ := ha
  obtain ⟨⟨⟨a1, a2, a3, a4, a5⟩, a6, a7⟩, ⟨b1, b2'⟩, c, d, e, ll, m, ⟨g1, g2⟩, g⟩ := h
  refine ⟨⟨⟨(hf.L (f := 79) rfl w).trans a1, (hf.L (f := 80) rfl w).trans a2, (hf.L (f := 81) rfl w).trans a3, (hf.L (f := 512) rfl w).trans a4, (hf.L (f := 84) rfl w).trans a5⟩, (hL _ (by omega)).trans a6, (hL _ (by omega)).trans a7⟩, ⟨(hf.I (f := 6) (k := 6) rfl w).trans b1, (hf.I (f := 6) (k := 7) rfl w).trans b2'⟩, fun r hr => (hf.Ia (f := 512) rfl rfl w r).trans (c r hr), fun r hr => ?_, fun i hi => (hf.Ia (f := 84) rfl rfl w i).trans (e i hi), ll, m, ⟨(hf.I (f := 6) (k := 14) rfl w).trans g1, (hf.I (f := 6) (k := 15) rfl w).trans g2⟩, g⟩
  unfold rO
  rw [hf.Ia (f := 79) rfl rfl, hf.Ia (f := 80) rfl rfl, hf.Ia (f := 81) rfl rfl, hI _ _ (by omega), hI _ _ (by omega)]
  exact d r hr
theorem RX.agF {fs : List Ft} (hw : w < 4) (h : RX A W w br nq nk np nh nr C B F t s M) (ha : AgF M M') (hF : rFt w B F (yF s fs) M') : RX A W w br nq nk np nh nr C B F t (yF s fs) M' := by
  obtain ⟨⟨a1, a2⟩, ⟨b1, b2'⟩, ⟨c1, c2⟩, ⟨d1, d2, d3⟩, ⟨e1, e2, e3⟩, g⟩ := h
  have hf := ha.1
  exact ⟨⟨(a1.fr hf).1, a2.fr hf⟩, ⟨b1.fr hf, b2'.fr hf⟩, ⟨c1.agF hw ha, hF⟩, ⟨d1.fr hf, d2.fr hf, d3.fr hf⟩, ⟨(hf.R (f := 6) (k := 2) rfl w).trans e1, (hf.L (f := 700) rfl w).trans e2, fun t' ht => (hf.Ra (f := 700) rfl rfl w t').trans (e3 t' ht)⟩, fun t' ht hne => (g t' ht hne).fr hf rfl⟩
theorem RM.agF {fs : List Ft} (hw : w < 4) (h : RM A W w br nq nk np nh nr C B F t s U M) (ha : AgF M M') (hF : rFt w B F (yF s fs) M') : RM A W w br nq nk np nh nr C B F t (yF s fs) U M' := ⟨h.1.agF hw ha hF, h.2.1.fr ha.1 rfl, h.2.2.1.fr ha.1 rfl, fun z => (h.2.2.2 z).fr ha.1⟩
/-- a new fault; then it is thrown -/
theorem c_failW {K : Nat → Int32 → Int32 → (Mem → Prop) → Mem → Prop} {f : Nat} {ru : Int32} {Q : Mem → Prop} (hw : w < 4) (h : RM A W w br nq nk np nh nr C B F t s U M) (hF : (zF s).length < F) (hFb : F < 1000000) (hQ : ∀ M', RM A W w br nq nk np nh nr C B F t (addFt s f ru) U M' → wk_Machine_throwOne K w (lastF (addFt s f ru)) Q M') : wk_Machine_fail K w (Int32.ofNat f) ru Q M := by
  obtain ⟨e21, x, n, ⟨hn, h64, hcap, hm⟩, hc, hd, hv⟩ := h.1.2.2.1.2
  have j16 : ∀ M1 (x : Nat → Nat) n, AgF M M1 → mI M1 6 w 21 = Int32.ofNat (zF s).length → (zF s).length < n → 64 ≤ n → (n = 64 ∨ n ≤ 2 * F) → mS M1 ≤ B + 8 * n → (∀ k, k < 4 → mR M1 6 w (22 + k) = some (301, x k) ∧ mL M1 301 (x k) = n ∧ 24 ≤ x k ∧ (301, x k) ∈ mN M1) → (∀ k l, k < 4 → l < 4 → x k = x l → k = l) → (∀ i, i < (zF s).length → mI M1 301 (x 0) i = Int32.ofNat (gFt s i).1 ∧ mI M1 301 (x 1) i = (gFt s i).2.1 ∧ mI M1 301 (x 2) i = (gFt s i).2.2.1 ∧ mI M1 301 (x 3) i = (gFt s i).2.2.2) → wk_Machine_fail_j16 K w Q (Int32.ofNat f) ru M1 := by
    intro M1 x n ha e21 hlt h64 hcap hm hc hd hv
    obtain ⟨r0, l0, g0, m0⟩ := hc 0 (by omega)
    obtain ⟨r1, l1, g1, m1⟩ := hc 1 (by omega)
    obtain ⟨r2, l2, g2, m2⟩ := hc 2 (by omega)
    obtain ⟨r3, l3, g3, m3⟩ := hc 3 (by omega)
    have d01 : x 0 ≠ x 1 := fun z => absurd (hd 0 1 (by omega) (by omega) z) (by omega)
    have d02 : x 0 ≠ x 2 := fun z => absurd (hd 0 2 (by omega) (by omega) z) (by omega)
    have d03 : x 0 ≠ x 3 := fun z => absurd (hd 0 3 (by omega) (by omega) z) (by omega)
    have d12 : x 1 ≠ x 2 := fun z => absurd (hd 1 2 (by omega) (by omega) z) (by omega)
    have d13 : x 1 ≠ x 3 := fun z => absurd (hd 1 3 (by omega) (by omega) z) (by omega)
    have d23 : x 2 ≠ x 3 := fun z => absurd (hd 2 3 (by omega) (by omega) z) (by omega)
    generalize hN : (zF s).length = N at *
    have vp : vp_in (Int32.ofNat N) n := (vp_oN (by omega)).mpr hlt
    have tN : (Int32.ofNat N).toNatClampNeg = N := oN_tnc (by omega)
    unfold wk_Machine_fail_j16
    have q1 : ∀ v, mI (sI M1 301 (x 0) N v) 6 w 21 = Int32.ofNat N := fun v => by rw [mI_sI, if_neg (fun z => absurd z.1 (by decide))]; exact e21
    have q2 : ∀ v v', mI (sI (sI M1 301 (x 0) N v) 301 (x 1) N v') 6 w 21 = Int32.ofNat N := fun v v' => by rw [mI_sI, if_neg (fun z => absurd z.1 (by decide))]; exact q1 v
    have q3 : ∀ v v' v'', mI (sI (sI (sI M1 301 (x 0) N v) 301 (x 1) N v') 301 (x 2) N v'') 6 w 21 = Int32.ofNat N := fun v v' v'' => by rw [mI_sI, if_neg (fun z => absurd z.1 (by decide))]; exact q2 v v'
    have q4 : ∀ v v' v'' v3, mI (sI (sI (sI (sI M1 301 (x 0) N v) 301 (x 1) N v') 301 (x 2) N v'') 301 (x 3) N v3) 6 w 21 = Int32.ofNat N := fun v v' v'' v3 => by rw [mI_sI, if_neg (fun z => absurd z.1 (by decide))]; exact q3 v v' v''
    rw [e21, tN]
    refine ⟨x 0, r0, by rw [l0]; exact vp, x 1, r1, by rw [q1]; show vp_in _ (mL M1 301 (x 1)); rw [l1]; exact vp, _, rfl, ?_⟩
    rw [q1, tN, q2, tN]
    refine ⟨x 2, r2, by show vp_in _ (mL M1 301 (x 2)); rw [l2]; exact vp, x 3, r3, by rw [q3]; show vp_in _ (mL M1 301 (x 3)); rw [l3]; exact vp, _, rfl, ?_⟩
    rw [q3, tN, q4, lit32 1, oN_add]
    have ag : AgF M (sI (sI (sI (sI (sI M1 301 (x 0) N (Int32.ofNat f)) 301 (x 1) N ru) 301 (x 2) N 0) 301 (x 3) N 0) 6 w 21 (Int32.ofNat (N + 1))) := (((((ha.wv g0).wv g1).wv g2).wv g3).w21)
    have hz : zF (addFt s f ru) = zF s ++ [(f, ru, 0, 0)] := rfl
    have hzl : (zF s ++ [(f, ru, 0, 0)]).length = N + 1 := by rw [List.length_append, hN]; rfl
    have hR := h.agF (fs := zF s ++ [(f, ru, 0, 0)]) hw ag (by
      refine ⟨?_, x, n, ⟨?_, h64, hcap, hm⟩, fun k hk => hc k hk, hd, fun i hi => ?_⟩
      · rw [mI_sI, if_pos ⟨rfl, rfl, rfl⟩]
        show _ = Int32.ofNat (zF s ++ [(f, ru, 0, 0)]).length
        rw [hzl]
      · show (zF s ++ [(f, ru, 0, 0)]).length ≤ n
        rw [hzl]; omega
      · have hi : i < (zF s ++ [(f, ru, 0, 0)]).length := hi
        rw [hzl] at hi
        have rd : ∀ k v, (k = 0 ∧ v = Int32.ofNat f ∨ k = 1 ∧ v = ru ∨ k = 2 ∧ v = 0 ∨ k = 3 ∧ v = 0) → mI (sI (sI (sI (sI (sI M1 301 (x 0) N (Int32.ofNat f)) 301 (x 1) N ru) 301 (x 2) N 0) 301 (x 3) N 0) 6 w 21 (Int32.ofNat (N + 1))) 301 (x k) i = if i = N then v else mI M1 301 (x k) i := fun k v hk => by
          simp only [mI_sI, Nat.reduceEqDiff, false_and, if_false, true_and]
          by_cases ei : i = N
          · rw [if_pos ei]
            rcases hk with ⟨z, z'⟩ | ⟨z, z'⟩ | ⟨z, z'⟩ | ⟨z, z'⟩ <;> subst z <;> subst z'
            · rw [if_neg (fun y => d03 y.1), if_neg (fun y => d02 y.1), if_neg (fun y => d01 y.1), if_pos ⟨rfl, ei⟩]
            · rw [if_neg (fun y => d13 y.1), if_neg (fun y => d12 y.1), if_pos ⟨rfl, ei⟩]
            · rw [if_neg (fun y => d23 y.1), if_pos ⟨rfl, ei⟩]
            · rw [if_pos ⟨rfl, ei⟩]
          · rw [if_neg (fun y => ei y.2), if_neg (fun y => ei y.2), if_neg (fun y => ei y.2), if_neg (fun y => ei y.2), if_neg ei]
        rw [rd 0 _ (Or.inl ⟨rfl, rfl⟩), rd 1 _ (Or.inr (Or.inl ⟨rfl, rfl⟩)), rd 2 _ (Or.inr (Or.inr (Or.inl ⟨rfl, rfl⟩))), rd 3 _ (Or.inr (Or.inr (Or.inr ⟨rfl, rfl⟩)))]
        show _ = Int32.ofNat ((zF s ++ [(f, ru, 0, 0)]).getD i (0, 0, 0, 0)).1 ∧ _ = ((zF s ++ [(f, ru, 0, 0)]).getD i (0, 0, 0, 0)).2.1 ∧ _ = ((zF s ++ [(f, ru, 0, 0)]).getD i (0, 0, 0, 0)).2.2.1 ∧ _ = ((zF s ++ [(f, ru, 0, 0)]).getD i (0, 0, 0, 0)).2.2.2
        by_cases ei : i = N
        · rw [if_pos ei, if_pos ei, if_pos ei, if_pos ei]
          have eg : (zF s ++ [(f, ru, 0, 0)]).getD i (0, 0, 0, 0) = (f, ru, 0, 0) := by
            rw [List.getD_eq_getElem?_getD, List.getElem?_append_right (by omega), hN, ei, Nat.sub_self]; rfl
          rw [eg]
          exact ⟨rfl, rfl, rfl, rfl⟩
        · rw [if_neg ei, if_neg ei, if_neg ei, if_neg ei]
          have eg : (zF s ++ [(f, ru, 0, 0)]).getD i (0, 0, 0, 0) = gFt s i := by
            rw [List.getD_eq_getElem?_getD, List.getElem?_append_left (by omega)]
            show _ = (zF s).getD i _
            rw [List.getD_eq_getElem?_getD]
          rw [eg]
          exact hv i (by omega))
    have eL : (800 : Int32) + mI (sI (sI (sI (sI (sI M1 301 (x 0) N (Int32.ofNat f)) 301 (x 1) N ru) 301 (x 2) N 0) 301 (x 3) N 0) 6 w 21 (Int32.ofNat (N + 1))) 6 w 21 = lastF (addFt s f ru) := by
      rw [mI_sI, if_pos ⟨rfl, rfl, rfl⟩, lit32 800, oN_add]
      show _ = Int32.ofNat (800 + (zF s ++ [(f, ru, 0, 0)]).length)
      rw [hzl]
    rw [eL]
    exact hQ _ hR
  unfold wk_Machine_fail
  obtain ⟨r0, l0, -, -⟩ := hc 0 (by omega)
  refine ⟨x 0, r0, ?_⟩
  rw [e21, l0]
  by_cases ce : (zF s).length = n
  · refine itp (by rw [ce]) (c_lengthen (s := s) (B := B) (F := F) (x := x) (n := n) (by rw [e21, ce]) ce h64 (by omega) hFb hm hc hd (by rw [ce] at hv; exact hv) (fun M1 x' ag g21 gc gd gv gm => ?_))
    exact j16 M1 x' (2 * n) ag (by rw [g21, ce]) (by omega) (by omega) (Or.inr (by omega)) gm gc gd (by rw [ce]; exact gv)
  · exact itn (ne_oN ce (by omega) (by omega)) (j16 M x n AgF.rf e21 (by omega) h64 hcap hm hc hd hv)
theorem RX.yn (h : RX A W w br nq nk np nh nr C B F t s M) {l : Ln} : RX A W w br nq nk np nh nr C B F t (yN s (up1 (zN s) t l)) M := by
  obtain ⟨a, b, c, d, e, g⟩ := h
  refine ⟨a, b, c, d, e, fun t' ht hne => ?_⟩
  have : zN (yN s (up1 (zN s) t l)) t' = zN s t' := up1_o hne
  rw [this]; exact g t' ht hne
/-- a class's state -/
theorem RM.c46 {k : Nat} {v : Int32} (h : RM A W w br nq nk np nh nr C B F t s U M) (hK : KB w nq nk np nh nr) (hk : k < W.length) (hv : v ≠ 1) : RM A W w br nq nk np nh nr C B F t (yC s (up1 (zC s) k v)) U (sI M 46 w k v) := by
  have hf : Fr (70368744177664) M (sI M 46 w k v) := Fr.wIa rfl rfl (Fr.rf _ _)
  obtain ⟨⟨⟨a1, a2⟩, ⟨b1, b2'⟩, ⟨c1, c2⟩, ⟨d1, d2, d3⟩, ⟨e1, e2, e3⟩, g⟩, hl, hu, hr⟩ := h
  have hlo : Lo w bL M (sI M 46 w k v) := (Lo.rf w bL M).w (Nat.zero_le _)
  have row : ∀ f i j, f ≠ 46 → mI (sI M 46 w k v) f i j = mI M f i j := fun f i j hf => by rw [mI_sI, if_neg (fun z => hf z.1)]
  have a1' : LKw A W w br nq nk np nh nr (zL s) (sI M 46 w k v) := by
    obtain ⟨hcw, h45, hx, hla, q1, q2, q3, q4, q5, q6⟩ := a1
    refine ⟨hcw.lw hlo hK (fun j hj => row 5 w j (by omega)), fun d hd => (row 45 w d (by omega)).trans (h45 d hd), ⟨(row 5 w 56 (by omega)).trans hx.1, (row 5 w 57 (by omega)).trans hx.2.1, (row 5 w 58 (by omega)).trans hx.2.2⟩, fun d hd hl1 => ?_, q1, q2, q3, q4, (row 4 0 9 (by omega)).trans q5, (row 4 0 10 (by omega)).trans q6⟩
    obtain ⟨x, y, z⟩ := hla d hd hl1
    exact ⟨(row 47 w d (by omega)).trans x, (row 48 w d (by omega)).trans y, fun f hf' hs => (row 53 w _ (by omega)).trans (z f hf' hs)⟩
  refine ⟨⟨⟨a1', a2.fr hf⟩, ⟨⟨b1.1, fun i hi => ?_, ?_, fun i hi => ?_⟩, b2'.fr hf⟩, ⟨c1.fr hf, c2.fr hf rfl⟩, ⟨d1.fr hf, d2.fr hf, d3.fr hf⟩, ⟨e1, e2, e3⟩, fun t' ht hne => (g t' ht hne).fr hf rfl⟩, hl.fr hf rfl, hu.fr hf rfl, fun z => (hr z).fr hf⟩
  · show mI _ 46 w i = up1 (zC s) k v i ∧ (up1 (zC s) k v i = 1 → _)
    rw [mI_sI]
    by_cases e : i = k
    · rw [if_pos ⟨rfl, rfl, e⟩, e, up1_s]; exact ⟨rfl, fun z => absurd z hv⟩
    · rw [if_neg (fun z => e z.2.2), up1_o e, row 86 _ _ (by omega)]; exact b1.2.1 i hi
  · rw [row 6 _ _ (by omega)]; exact b1.2.2.1
  · rw [row 85 _ _ (by omega)]; exact b1.2.2.2 i hi
end
