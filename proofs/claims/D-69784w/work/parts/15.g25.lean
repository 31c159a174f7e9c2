/-! THE MACHINE IN THE WORKS: whom a call reaches (printed by gen/cl.py) -/
section
variable {A : List Nm} {W : List Cls} {w C B F t : Nat} {br : Int32} {nq nk np nh nr : Nat} {s s' : Ms} {M M' : Mem} {U : List Un} {c j a qi : Nat} {lo st lo' st' : List Vl} {q : Nat × Nat} {i : Ins} {Q : Mem → Prop} {r v y : Int32}
theorem cFi.mem (hI : cFi A w nk np nr qi i M) (h1 : ¬ isN i.1) (h2 : isFo i.1 ∨ isMo i.1) : ∃ r, r < nr ∧ mI M 67 w qi = Int32.ofNat r ∧ cRf A w r (iK i) (iM i) (iA i) (iR i) M := by
  obtain ⟨pf, hop, -⟩ := hI.2.1
  have hop := hop.1
  unfold cOp0 at hop
  rw [if_neg h1, if_pos h2] at hop
  obtain ⟨r, r1, r2, r3⟩ := hop
  exact ⟨r, r1, r2.1, r3⟩
theorem RI.rfx {r : Nat} (hK : KB w nq nk np nh nr) (h : RI A W w br nq nk np nh nr C B F t s c j a lo st U M) (hA : At W s t c j a lo st U i) (hr : r < nr) (hc : cRf A w r (iK i) (iM i) (iA i) (iR i) M) : RfX A w r (iK i) (xi i) M := by
  obtain ⟨-, -, -, -, hwf⟩ := hA.in
  have hL := h.1.1.1.1.1.2.2.2.1
  have hLb := L_le w
  obtain ⟨-, -, -, -, k1, k2⟩ := hK
  refine ⟨hc, ⟨hwf.2.2.2.1, fun κ hκ => (hwf.2.1.2.2.2.2.1 κ hκ).kd, hwf.2.1.2.2.2.2.2.1⟩, ⟨?_, ?_⟩, ?_, ?_⟩
  · rw [hL.2.2.2.2.1]; omega
  · rw [hL.2.2.2.2.1]; omega
  · rw [hL.2.2.2.2.2.1]; omega
  · rw [hL.2.2.2.2.2.1]; omega
/-- what is called is there to be called, or is not -/
theorem c_call160 {m : Nat × Nat} {n : Nat} {fl : Bool} (hq : RQ A W w nq nk np nh nr F s) (h : RI A W w br nq nk np nh nr C B F t s c j a lo st U M) (hA : At W s t c j a lo st U i) (hm : m.1 < W.length ∧ m.2 < (gc W m.1).2.2.2.2.2.length) (hall : n + (if fl then 1 else 0) ≤ st.length)
    (hQ : ∀ M', RM A W w br nq nk np nh nr C B F t (if ¬ (gmt (gc W m.1) m.2).2.2.2.1 &&& 8 = 0 then failS W t s 18 58 else (if m.1 < 21 then sU s t (.inl (c, j, a + 1, lo, drp st (n + (if fl then 1 else 0))) :: U) else enterS W t s (.inl (c, j, a, lo, drp st (n + (if fl then 1 else 0))) :: U) m.1 m.2 (st.drop (st.length - (n + (if fl then 1 else 0)))))) (gU (if ¬ (gmt (gc W m.1) m.2).2.2.2.1 &&& 8 = 0 then failS W t s 18 58 else (if m.1 < 21 then sU s t (.inl (c, j, a + 1, lo, drp st (n + (if fl then 1 else 0))) :: U) else enterS W t s (.inl (c, j, a, lo, drp st (n + (if fl then 1 else 0))) :: U) m.1 m.2 (st.drop (st.length - (n + (if fl then 1 else 0)))))) t) M' → Q M') : w_Machine_calls_j160 w Q (Int32.ofNat U.length) (Int32.ofNat n) (Int32.ofNat (moff W m.1 + m.2)) (b2 fl) M := by
  have h51 := h.1.1.l5
  have hcw := h.1.1.1.1.1
  obtain ⟨-, -, m3, -, -⟩ := hcw.mo (e := 0) hm.1
  have hH := (hcw.2.1.2.2 m.1 hm.1 m.2 hm.2).1
  unfold w_Machine_calls_j160 w_Machine_calls_j181
  refine itn (fun z => by have := (oN_lt (a := moff W m.1 + m.2) (b := 0) (by omega) (by omega)).mp z; omega) ⟨by rw [hcw.2.1.1.2.1 57 (by omega) (by omega)]; exact (vp_oN (by omega)).mpr (by omega), ?_⟩
  rw [oN_tnc (k := moff W m.1 + m.2) (by omega), hH.2.2.1]
  by_cases c8 : (gmt (gc W m.1) m.2).2.2.2.1 &&& 8 = 0
  · rw [if_neg (fun z => z c8)] at hQ
    refine itp c8 ?_
    cases fl with
    | false => exact itp rfl (c_callGo (all := n + 0) hq h hA hm hall (oN_add n 0) hQ)
    | true => exact itn (by decide) (c_callGo (all := n + 1) hq h hA hm hall (oN_add n 1) hQ)
  · rw [if_pos c8] at hQ
    exact itn c8 (c_failA (f := 18) (ru := 58) hq h hA (by omega) (by omega) hQ)
theorem ca_52 (hq : RQ A W w nq nk np nh nr F s) (h : RI A W w br nq nk np nh nr C B F t s c j a lo st U M) (hA : At W s t c j a lo st U i) (hFq : Fq W s i q) (h36 : mI M 6 w 36 = Int32.ofNat (moff W q.1 + q.2)) (hI : cFi A w nk np nr qi i M) (ho : i.1 = 52) (hQ : ∀ M', RM A W w br nq nk np nh nr C B F t (doS W t s c j a lo st U i q) (gU (doS W t s c j a lo st U i q) t) M' → Q M') : w_Machine_calls w (Int32.ofNat U.length) (mI M 67 w qi) (Int32.ofNat 52) Q M := by
  have hmo : isMo i.1 := by rw [ho]; decide
  obtain ⟨d, -, hm, hl, hu, hs, h8, -⟩ := hFq.m hA.1.1 hA.1.2.1.1.1 hmo
  have e : doS W t s c j a lo st U i q = (if q.1 < 21 then sU s t (.inl (c, j, a + 1, lo, drp st ((iA i).length + 0)) :: U) else enterS W t s (.inl (c, j, a, lo, drp st ((iA i).length + 0)) :: U) q.1 q.2 (st.drop (st.length - ((iA i).length + 0)))) := (by obtain ⟨o, r⟩ := i; have ho : o = 52 := ho; subst ho; rfl)
  obtain ⟨al, -, -⟩ := cl_args hA (T := []) (by obtain ⟨o, r⟩ := i; have ho : o = 52 := ho; subst ho; rfl)
  rw [e] at hQ
  obtain ⟨r, hr, er, hc⟩ := hI.mem (by rw [ho]; decide) (Or.inr hmo)
  have hL := h.1.1.1.1.1.2.2.2.1
  unfold w_Machine_calls
  rw [er]
  refine c_refArguments hc hL (by have := hq.2.1.2.2.2.2.1; omega) (itp rfl ?_)
  rw [h36]
  unfold w_Machine_calls_j27
  refine itp rfl (c_call160 (fl := false) hq h hA hm (by simpa using al) ?_)
  rw [if_neg (fun z => z (h8 (Or.inl ho)))]
  exact hQ
theorem ca_51 (hq : RQ A W w nq nk np nh nr F s) (h : RI A W w br nq nk np nh nr C B F t s c j a lo st U M) (hA : At W s t c j a lo st U i) (hFq : Fq W s i q) (h36 : mI M 6 w 36 = Int32.ofNat (moff W q.1 + q.2)) (hI : cFi A w nk np nr qi i M) (ho : i.1 = 51) (hQ : ∀ M', RM A W w br nq nk np nh nr C B F t (doS W t s c j a lo st U i q) (gU (doS W t s c j a lo st U i q) t) M' → Q M') : w_Machine_calls w (Int32.ofNat U.length) (mI M 67 w qi) (Int32.ofNat 51) Q M := by
  have hmo : isMo i.1 := by rw [ho]; decide
  obtain ⟨d, -, hm, hl, hu, hs, h8, -⟩ := hFq.m hA.1.1 hA.1.2.1.1.1 hmo
  have e : doS W t s c j a lo st U i q = if (tv st (iA i).length).1 = 0 then failS W t s 2 0 else if ¬ (gmt (gc W q.1) q.2).2.2.2.1 &&& 8 = 0 then failS W t s 18 58 else (if q.1 < 21 then sU s t (.inl (c, j, a + 1, lo, drp st ((iA i).length + 1)) :: U) else enterS W t s (.inl (c, j, a, lo, drp st ((iA i).length + 1)) :: U) q.1 q.2 (st.drop (st.length - ((iA i).length + 1)))) := (by obtain ⟨o, r⟩ := i; have ho : o = 51 := ho; subst ho; rfl)
  have hw : wlist W c (gmt (gc W c) j) i = (iA i).reverse.map (fun κ => (0, κ)) ++ [if iM i = nMake then wAny else (0, (2, (gc W c).1))] := (by obtain ⟨o, r⟩ := i; have ho : o = 51 := ho; subst ho; rfl)
  obtain ⟨al, -, -⟩ := cl_args hA hw
  have al : (iA i).length + 1 ≤ st.length := al
  rw [e] at hQ
  obtain ⟨r, hr, er, hc⟩ := hI.mem (by rw [ho]; decide) (Or.inr hmo)
  have hL := h.1.1.1.1.1.2.2.2.1
  unfold w_Machine_calls
  rw [er]
  refine c_refArguments hc hL (by have := hq.2.1.2.2.2.2.1; omega) (itn (by decide) ?_)
  rw [h36]
  unfold w_Machine_calls_j27
  refine itn (by decide) (c_num h (by omega) ?_)
  by_cases c0 : (tv st (iA i).length).1 = 0
  · rw [if_pos c0] at hQ
    exact itp c0 (c_failA (f := 2) (ru := 0) hq h hA (by omega) (by omega) hQ)
  rw [if_neg c0] at hQ
  refine itn c0 (itn (by decide) (itn (by decide) ?_))
  unfold w_Machine_calls_j85 w_Machine_calls_j86
  exact itp rfl (c_call160 (fl := true) hq h hA hm al hQ)
theorem ca_50x {op : Nat} (hq : RQ A W w nq nk np nh nr F s) (h : RI A W w br nq nk np nh nr C B F t s c j a lo st U M) (hA : At W s t c j a lo st U i) (hFq : Fq W s i q) (h36 : mI M 6 w 36 = Int32.ofNat (moff W q.1 + q.2)) (hI : cFi A w nk np nr qi i M) (ho : i.1 = op) (hop : op = 50 ∨ op = 53) (hw : wlist W c (gmt (gc W c) j) i = (iA i).reverse.map (fun κ => (0, κ)) ++ [(0, (2, iK i))])
    (e : doS W t s c j a lo st U i q = if (tv st (iA i).length).1 = 0 then failS W t s 2 0 else if (gmt (gc W q.1) q.2).2.2.2.1 &&& 4 = 0 then (if op = 53 ∧ (match fnd W (iK i) with | none => false | some d => bel W (clN s (tv st (iA i).length).1) d) = false then failS W t s 15 59 else match (match clR s (tv st (iA i).length).1 with | none => none | some d => mthW W (xi i) 5 d) with
      | none => failS W t s 18 58
      | some m => if ¬ (gmt (gc W m.1) m.2).2.2.2.1 &&& 8 = 0 then failS W t s 18 58 else (if m.1 < 21 then sU s t (.inl (c, j, a + 1, lo, drp st ((iA i).length + 1)) :: U) else enterS W t s (.inl (c, j, a, lo, drp st ((iA i).length + 1)) :: U) m.1 m.2 (st.drop (st.length - ((iA i).length + 1)))))
      else if ¬ (gmt (gc W q.1) q.2).2.2.2.1 &&& 8 = 0 then failS W t s 18 58 else (if q.1 < 21 then sU s t (.inl (c, j, a + 1, lo, drp st ((iA i).length + 1)) :: U) else enterS W t s (.inl (c, j, a, lo, drp st ((iA i).length + 1)) :: U) q.1 q.2 (st.drop (st.length - ((iA i).length + 1)))))
    (hQ : ∀ M', RM A W w br nq nk np nh nr C B F t (doS W t s c j a lo st U i q) (gU (doS W t s c j a lo st U i q) t) M' → Q M') : w_Machine_calls w (Int32.ofNat U.length) (mI M 67 w qi) (Int32.ofNat op) Q M := by
  have hmo : isMo i.1 := by rcases hop with z | z <;> rw [ho, z] <;> decide
  have hW := hA.1.1
  have hG := hA.1.2.1.1.1
  obtain ⟨d, hd, hm, hl, hu, hs, h8, -⟩ := hFq.m hA.1.1 hA.1.2.1.1.1 hmo
  obtain ⟨al, -, ar⟩ := cl_args hA hw
  have al : (iA i).length + 1 ≤ st.length := al
  obtain ⟨w1, w2⟩ := ar (by simp)
  have w1 : wOne W (0, (2, iK i)) (tp (k2 W c j a) (iA i).length) = 0 := w1
  rw [e] at hQ
  obtain ⟨r, hr, er, hc⟩ := hI.mem (by rcases hop with z | z <;> rw [ho, z] <;> decide) (Or.inr hmo)
  have hL := h.1.1.1.1.1.2.2.2.1
  have hr4 : 4 * r + 3 < L76 w := by have := hq.2.1.2.2.2.2.1; omega
  have hRX := h.rfx hq.2.1 hA hr hc
  have h51 := h.1.1.l5
  have hcw := h.1.1.1.1.1
  obtain ⟨-, -, m3, -, -⟩ := hcw.mo (e := 0) hm.1
  have hH := (hcw.2.1.2.2 q.1 hm.1 q.2 hm.2).1
  unfold w_Machine_calls
  rw [er]
  refine c_refArguments hc hL hr4 (itn (ne_oN (b := 52) (by omega) (by omega) (by omega)) ?_)
  rw [h36]
  unfold w_Machine_calls_j27
  refine itn (by decide) (c_num h (by omega) ?_)
  by_cases c0 : (tv st (iA i).length).1 = 0
  · rw [if_pos c0] at hQ
    exact itp c0 (c_failA (f := 2) (ru := 0) hq h hA (by omega) (by omega) hQ)
  rw [if_neg c0] at hQ
  refine itn c0 ?_
  have v := w2.fit hW.1 (wOne_fit w1 (show ¬ (2 : Int) = 0 by decide))
  obtain ⟨b1, b2'⟩ := v.1.2.2.2.1 rfl
  have hv := v.2 b1
  have j66 : w_Machine_calls_j66 w Q (Int32.ofNat U.length) (Int32.ofNat r) (Int32.ofNat op) (Int32.ofNat (iA i).length) (Int32.ofNat (moff W q.1 + q.2)) 1 (tv st (iA i).length).1 M := by
    unfold w_Machine_calls_j66 w_Machine_calls_j85 w_Machine_calls_j86
    refine ⟨by rw [hcw.2.1.1.2.1 57 (by omega) (by omega)]; exact (vp_oN (by omega)).mpr (by omega), ?_⟩
    rw [oN_tnc (k := moff W q.1 + q.2) (by omega), hH.2.2.1]
    by_cases c4 : (gmt (gc W q.1) q.2).2.2.2.1 &&& 4 = 0
    · rw [if_pos c4] at hQ
      refine itp c4 (itn (by decide) ?_)
      -- whom the object's class has
      have j143 : ∀ M1, RI A W w br nq nk np nh nr C B F t s c j a lo st U M1 → RfX A w r (iK i) (xi i) M1 → (∀ M', RM A W w br nq nk np nh nr C B F t (match (match clR s (tv st (iA i).length).1 with | none => none | some d => mthW W (xi i) 5 d) with
          | none => failS W t s 18 58
          | some m => if ¬ (gmt (gc W m.1) m.2).2.2.2.1 &&& 8 = 0 then failS W t s 18 58 else (if m.1 < 21 then sU s t (.inl (c, j, a + 1, lo, drp st ((iA i).length + 1)) :: U) else enterS W t s (.inl (c, j, a, lo, drp st ((iA i).length + 1)) :: U) m.1 m.2 (st.drop (st.length - ((iA i).length + 1))))) (gU (match (match clR s (tv st (iA i).length).1 with | none => none | some d => mthW W (xi i) 5 d) with
          | none => failS W t s 18 58
          | some m => if ¬ (gmt (gc W m.1) m.2).2.2.2.1 &&& 8 = 0 then failS W t s 18 58 else (if m.1 < 21 then sU s t (.inl (c, j, a + 1, lo, drp st ((iA i).length + 1)) :: U) else enterS W t s (.inl (c, j, a, lo, drp st ((iA i).length + 1)) :: U) m.1 m.2 (st.drop (st.length - ((iA i).length + 1))))) t) M' → Q M') → w_Machine_calls_j143 w Q (Int32.ofNat U.length) (Int32.ofNat r) (Int32.ofNat (iA i).length) 1 (tv st (iA i).length).1 M1 := fun M1 h1 hR1 hQ1 => by
        unfold w_Machine_calls_j143
        refine c_classOf h1.1.1.2.2.1.1 h1.1.1.2.2.1.2 hv c0 ?_
        cases ec : clR s (tv st (iA i).length).1 with
        | none =>
          rw [ec] at hQ1
          refine c_methodNeg h1.1.1.1.2 (fun M2 s2 p2 => ?_)
          unfold w_Machine_calls_j160 w_Machine_calls_j181
          exact itp (by decide) (c_failA (f := 18) (ru := 58) hq (h1.sp p2 s2 hq.2.1) hA (by omega) (by omega) hQ1)
        | some e0 =>
          rw [ec] at hQ1
          dsimp only at hQ1
          obtain ⟨⟨he1, he2⟩, -⟩ := clR_lk hW.1 hG hv c0 ec
          refine c_methodW (L := (zL s).1) h1.1.1.1.1.1 h1.1.1.1.2 hR1 hq.2.1 hq.2.2.1.1 hG.1.1 hW.2.2.1 he1 he2 (fun M2 s2 p2 => ?_)
          have h2 := h1.sp p2 s2 hq.2.1
          cases em : mthW W (xi i) 5 e0 with
          | none =>
            rw [em] at hQ1
            unfold w_Machine_calls_j160 w_Machine_calls_j181
            exact itp (show (-2 : Int32) < 0 by decide) (c_failA (f := 18) (ru := 58) hq h2 hA (by omega) (by omega) hQ1)
          | some m =>
            rw [em] at hQ1
            have ok := mthW_ok he1 em
            exact c_call160 (fl := true) hq h2 hA ⟨ok.1, ok.2.1⟩ al hQ1
      by_cases c53 : op = 53
      · refine itp (by rw [c53]; rfl) (c_classOf h.1.1.2.2.1.1 h.1.1.2.2.1.2 hv c0 ?_)
        have hcl : clN s (tv st (iA i).length).1 < W.length := by
          unfold clN
          cases ec : clR s (tv st (iA i).length).1 with
          | none => show 0 < _; omega
          | some e0 => exact (clR_lk hW.1 hG hv c0 ec).1.1
        have hmax : ∀ {Q : Int32 → Mem → Prop} {M : Mem}, Q (Int32.ofNat (clN s (tv st (iA i).length).1)) M → w_JMath_max (oCl (clR s (tv st (iA i).length).1)) 0 Q M := fun hQ' => by
          unfold w_JMath_max
          cases ec : clR s (tv st (iA i).length).1 with
          | none => unfold clN at hQ'; rw [ec] at hQ'; exact itp (by decide) hQ'
          | some e0 =>
            unfold clN at hQ' hcl; rw [ec] at hQ' hcl
            exact itn (fun z => by have := (oN_lt (a := e0) (b := 0) (by have hcl : e0 < W.length := hcl; omega) (by omega)).mp z; omega) hQ'
        refine hmax (c_refClass hc hL hr4 (c_find h.1.1.1.1.1.1.1.1 hc.1.2 ?_))
        rw [hd.1]
        refine k_isBelow h.1.1.1.1.1.1.1 h.1.1.1.2 hcl (by omega) (fun M1 b hb s1 p1 => ?_)
        have h1 := h.sp p1 s1 hq.2.1
        have hR1 : RfX A w r (iK i) (xi i) M1 := hRX.fr p1.1
        have hbel : bel W (clN s (tv st (iA i).length).1) d = b := by rw [Bool.eq_iff_iff, bel_iff]; exact hb.symm
        rw [hd.1] at hQ
        cases b with
        | false =>
          rw [if_pos ⟨c53, hbel⟩] at hQ
          exact itp rfl (c_failA (f := 15) (ru := 59) hq h1 hA (by omega) (by omega) hQ)
        | true =>
          rw [if_neg (fun z => by have z2 : bel W (clN s (tv st (iA i).length).1) d = false := z.2; rw [hbel] at z2; cases z2)] at hQ
          exact itn (by decide) (j143 M1 h1 hR1 hQ)
      · rw [if_neg (fun z => c53 z.1)] at hQ
        exact itn (ne_oN (b := 53) c53 (by omega) (by omega)) (j143 M h hRX hQ)
    · rw [if_neg c4] at hQ
      exact itn c4 (itp rfl (c_call160 (fl := true) hq h hA hm al hQ))
  rcases hop with z | z
  · exact itp (by rw [z]; rfl) j66
  · exact itn (by rw [z]; decide) (itp (by rw [z]; rfl) j66)
theorem ca_50 (hq : RQ A W w nq nk np nh nr F s) (h : RI A W w br nq nk np nh nr C B F t s c j a lo st U M) (hA : At W s t c j a lo st U i) (hFq : Fq W s i q) (h36 : mI M 6 w 36 = Int32.ofNat (moff W q.1 + q.2)) (hI : cFi A w nk np nr qi i M) (ho : i.1 = 50) (hQ : ∀ M', RM A W w br nq nk np nh nr C B F t (doS W t s c j a lo st U i q) (gU (doS W t s c j a lo st U i q) t) M' → Q M') : w_Machine_calls w (Int32.ofNat U.length) (mI M 67 w qi) (Int32.ofNat 50) Q M := by
  refine ca_50x hq h hA hFq h36 hI ho (by omega) (by obtain ⟨o, r⟩ := i; have ho : o = 50 := ho; subst ho; rfl) ?_ hQ
  obtain ⟨o, r⟩ := i
  have ho : o = 50 := ho
  subst ho
  by_cases c0 : (tv st (iA (50, r)).length).1 = 0
  · rw [if_pos c0]; exact if_pos c0
  rw [if_neg c0]
  refine (if_neg c0).trans ?_
  by_cases c4 : (gmt (gc W q.1) q.2).2.2.2.1 &&& 4 = 0
  · rw [if_pos c4]; exact if_pos ⟨(show ¬ (50 : Nat) = 51 by decide), c4⟩
  · rw [if_neg c4]; exact if_neg (fun z => c4 z.2)
theorem ca_53 (hq : RQ A W w nq nk np nh nr F s) (h : RI A W w br nq nk np nh nr C B F t s c j a lo st U M) (hA : At W s t c j a lo st U i) (hFq : Fq W s i q) (h36 : mI M 6 w 36 = Int32.ofNat (moff W q.1 + q.2)) (hI : cFi A w nk np nr qi i M) (ho : i.1 = 53) (hQ : ∀ M', RM A W w br nq nk np nh nr C B F t (doS W t s c j a lo st U i q) (gU (doS W t s c j a lo st U i q) t) M' → Q M') : w_Machine_calls w (Int32.ofNat U.length) (mI M 67 w qi) (Int32.ofNat 53) Q M := by
  refine ca_50x hq h hA hFq h36 hI ho (by omega) (by obtain ⟨o, r⟩ := i; have ho : o = 53 := ho; subst ho; rfl) ?_ hQ
  obtain ⟨o, r⟩ := i
  have ho : o = 53 := ho
  subst ho
  by_cases c0 : (tv st (iA (53, r)).length).1 = 0
  · rw [if_pos c0]; exact if_pos c0
  rw [if_neg c0]
  refine (if_neg c0).trans ?_
  by_cases c4 : (gmt (gc W q.1) q.2).2.2.2.1 &&& 4 = 0
  · rw [if_pos c4]; exact if_pos ⟨(show ¬ (53 : Nat) = 51 by decide), c4⟩
  · rw [if_neg c4]; exact if_neg (fun z => c4 z.2)
end
