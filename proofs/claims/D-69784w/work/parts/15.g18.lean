/-! THE MACHINE IN THE WORKS: of a class, throwing (printed by gen/sn.py) -/
section
variable {A : List Nm} {W : List Cls} {w C B F t : Nat} {br : Int32} {nq nk np nh nr : Nat} {s : Ms} {M M' : Mem} {U : List Un} {c j a qi : Nat} {lo st lo' st' : List Vl} {q : Nat × Nat} {i : Ins} {Q : Mem → Prop} {r : Int32}
theorem RI.sp (h : RI A W w br nq nk np nh nr C B F t s c j a lo st U M) (hs : Sp w M M') (hc : cSt w M') (hK : KB w nq nk np nh nr) : RI A W w br nq nk np nh nr C B F t s c j a lo st U M' :=
  ⟨h.1.sp hs hc hK, ⟨(hs.1.I (f := 6) (k := 33) rfl w).trans h.2.1.1, (hs.1.I (f := 6) (k := 34) rfl w).trans h.2.1.2⟩, h.2.2⟩
theorem oCl_pos {o : Option Nat} (h : ∀ e, o = some e → e < 1000000) : (0 ≤ oCl o) ↔ o ≠ none := by
  cases o with
  | none => exact ⟨fun z => absurd z (by decide), fun z => absurd rfl z⟩
  | some e => exact ⟨fun _ z => (by cases z), fun _ => (oN_le (a := 0) (by omega) (by have := h e rfl; omega)).mpr (Nat.zero_le _)⟩
theorem c_isRow {Q : Int32 → Mem → Prop} (hW : WO W) (hG : GL W s) (hH : rH w s M) (hv : vRf s r) (h0 : r ≠ 0) (hQ : Q (b2 (decide (clR s r = none))) M) : w_Machine_isRow w r Q M := by
  obtain ⟨n, e, en, hn⟩ := hv.c h0
  have hcl : ∀ d, clR s r = some d → d < 1000000 := fun d hd => by have := (clR_lk hW.1 hG hv h0 hd).1.1; have := hW.2.2.2; omega
  unfold w_Machine_isRow
  unfold clR at hQ hcl
  rw [en] at hQ hcl
  rw [e]
  rcases hn with ⟨z1, z2⟩ | ⟨z1, z2, z3⟩
  · rw [if_neg (by omega)] at hQ hcl
    refine itn (fun z => by have := (oN_lt (a := 800) (by omega) (by omega)).mp z; omega) ⟨by rw [hH.1.1.1]; exact (vp_oN (by omega)).mpr (by omega), ?_⟩
    rw [oN_tnc (by omega), (hH.2.2.2.1 n z2).1]
    by_cases c1 : (gOb s n).1 = none
    · rw [decide_eq_true c1] at hQ
      exact itn (fun z => (oCl_pos hcl).mp z c1) hQ
    · rw [decide_eq_false c1] at hQ
      exact itp ((oCl_pos hcl).mpr c1) hQ
  · rw [if_pos (by omega), decide_eq_false (by simp)] at hQ
    exact itp ((oN_lt (a := 800) (by omega) (by omega)).mpr (by omega)) hQ
/-- whether a reference is of a class -/
noncomputable abbrev isO (W : List Cls) (s : Ms) (y : Int32) (d : Nat) : Bool := if clR s y = none then decide (d = 0) else bel W (clN s y) d
theorem cFi.nm (hI : cFi A w nk np nr qi i M) (h1 : isN i.1) : mI M 67 w qi = nc A (iK i) ∧ iK i ∈ A := by
  obtain ⟨pf, hop, -⟩ := hI.2.1
  have hop := hop.1
  unfold cOp0 at hop
  rw [if_pos h1] at hop
  exact hop
theorem c_isOfB {Q : Int32 → Mem → Prop} {op : Nat} (hW : WO W) (hK : KB w nq nk np nh nr) (h : RI A W w br nq nk np nh nr C B F t s c j a lo st U M) (hG : GL W s) (hs : 1 ≤ st.length) (hk : iK i ∈ A) (hv : vRf s (tv st 0).1)
    (h0 : (tv st 0).1 = 0 → (op = 55 → w_Machine_comes w 1 0 0 (fun M' => Q 1 M') M) ∧ (op ≠ 55 → Q 1 M))
    (h1 : (tv st 0).1 ≠ 0 → fnd W (iK i) = none → w_Machine_fails w (-5011) (fun M' => Q 0 M') M)
    (h2 : ∀ d, (tv st 0).1 ≠ 0 → fnd W (iK i) = some d → ∀ M', RI A W w br nq nk np nh nr C B F t s c j a lo st U M' → w_Machine_isOf_j80 w Q (Int32.ofNat op) (b2 (isO W s (tv st 0).1 d)) M') (hop : op < 100) : w_Machine_isOf w (nc A (iK i)) (Int32.ofNat op) Q M := by
  unfold w_Machine_isOf
  refine c_num (d := 0) h hs ?_
  by_cases y0 : (tv st 0).1 = 0
  · refine itp y0 ?_
    by_cases c5 : op = 55
    · exact itp (by rw [c5]; rfl) ((h0 y0).1 c5)
    · exact itn (ne_oN (b := 55) c5 (by omega) (by omega)) ((h0 y0).2 c5)
  refine itn y0 (c_findClass h.1.1.1.1.1.1.1.1 hW.2.2.2 hk ?_)
  cases ef : fnd W (iK i) with
  | none => exact itn (by decide) (h1 y0 ef)
  | some d =>
    have hd : d < W.length := by have := fnd_spec (nm := iK i) (W := W); rw [ef] at this; exact this.1
    have hl := hW.2.2.2
    refine itp ((oN_le (a := 0) (by omega) (by omega)).mpr (Nat.zero_le _)) (c_isRow hW hG h.1.1.2.2.1.1 hv y0 ?_)
    by_cases cr : clR s (tv st 0).1 = none
    · rw [decide_eq_true cr]
      refine itn (by decide) ?_
      have key := h2 d y0 ef M h
      unfold isO at key
      rw [if_pos cr] at key
      by_cases d0 : d = 0
      · rw [decide_eq_true d0] at key; exact itp (by rw [d0]; rfl) key
      · rw [decide_eq_false d0] at key; exact itn (ne_oN (b := 0) d0 (by omega) (by omega)) key
    · rw [decide_eq_false cr]
      refine itp rfl (c_classOf h.1.1.2.2.1.1 h.1.1.2.2.1.2 hv y0 ?_)
      obtain ⟨e, he⟩ : ∃ e, clR s (tv st 0).1 = some e := by cases hh : clR s (tv st 0).1 with | none => exact absurd hh cr | some e => exact ⟨e, rfl⟩
      rw [he]
      have hel := (clR_lk hW.1 hG hv y0 he).1.1
      refine k_isBelow h.1.1.1.1.1.1.1 h.1.1.1.2 hel (by omega) (fun M1 b hb hc hs' => ?_)
      have key := h2 d y0 ef M1 (h.sp hs' hc hK)
      unfold isO at key
      rw [if_neg cr, show clN s (tv st 0).1 = e by unfold clN; rw [he]; rfl, show bel W e d = b by rw [Bool.eq_iff_iff, bel_iff]; exact hb.symm] at key
      exact key
theorem s_54 (hq : RQ A W w nq nk np nh nr F s) (h : RI A W w br nq nk np nh nr C B F t s c j a lo st U M) (hA : At W s t c j a lo st U i) (ho : i.1 = 54) (hI : cFi A w nk np nr qi i M) (hqi : qi < L6 w) (hQ : ∀ M', RM A W w br nq nk np nh nr C B F t (doS W t s c j a lo st U i q) (gU (doS W t s c j a lo st U i q) t) M' → Q M') : w_Machine_act_j53 w Q (Int32.ofNat U.length) (Int32.ofNat (moff W c + j)) (Int32.ofNat qi) (Int32.ofNat 54) (mI M 67 w qi) (Int32.ofNat (a + 1)) M := by
  obtain ⟨tl, tk⟩ := hA.tk (ws := [wRef]) (by obtain ⟨o, r⟩ := i; have ho : o = 54 := ho; subst ho; rfl)
  have hs : 1 ≤ st.length := by
    have := hA.in.1.2.1
    have tl : 1 ≤ (k2 W c j a).length := tl
    omega
  have e : doS W t s c j a lo st U i q = if (tv st 0).1 = 0 then sU s t (.inl (c, j, a + 1, lo, st) :: U) else match fnd W (iK i) with
      | none => failS W t s 11 50
      | some d => if isO W s (tv st 0).1 d = true then sU s t (.inl (c, j, a + 1, lo, st) :: U) else failS W t s 6 0 := (by obtain ⟨o, r⟩ := i; have ho : o = 54 := ho; subst ho; rfl)
  rw [e] at hQ
  have v0 := (tk 0 (by simp)).2
  have hfl := v0.fl (Or.inl (wOne_ref (tk 0 (by simp)).1))
  obtain ⟨en, hk⟩ := hI.nm (by rw [ho]; decide)
  unfold w_Machine_act_j53
  refine c_isInN (o := 54) (lo := 23) (hi := 40) (by omega) (by omega) (by omega) (itp (by decide) (c_isInN (o := 54) (lo := 41) (hi := 49) (by omega) (by omega) (by omega) (itp (by decide) (c_isInN (o := 54) (lo := 60) (hi := 61) (by omega) (by omega) (by omega) (itp (by decide) (c_isInN (o := 54) (lo := 50) (hi := 53) (by omega) (by omega) (by omega) (itp (by decide) ?_)))))))
  refine itn (by decide) (itn (by decide) (itn (by decide) (itn (by decide) (itn (by decide) (itn (by decide) (itn (by decide) (itn (by decide) (itn (by decide) (itn (by decide) (itn (by decide) (itn (by decide) (itn (by decide) (itn (by decide) (itn (by decide) (itn (by decide) (itn (by decide) (itn (by decide) (itn (by decide) (itn (by decide) (itn (by decide) (itn (by decide) (itn (by decide) (itn (by decide) (itn (by decide) (itn (by decide) (itn (by decide) (itn (by decide) (itn (by decide) (itn (by decide) (itn (by decide) (itn (by decide) (itn (by decide) (itn (by decide) (itn (by decide) (itn (by decide) (itn (by decide) (itn (by decide) (itn (by decide) (itn (by decide) (itn (by decide) (itn (by decide) (itn (by decide) (itn (by decide) (itn (by decide) (itn (by decide) (itn (by decide) (itn (by decide) (itn (by decide) (itn (by decide) (itn (by decide) (itn (by decide) (itn (by decide) (itp rfl ?_)))))))))))))))))))))))))))))))))))))))))))))))))))))
  rw [en]
  refine c_isOfB (op := 54) hq.1 hq.2.1 h hA.1.2.1.1.1 hs hk (v0.2 hfl) (fun y0 => ⟨fun z => absurd z (by decide), fun _ => itn (by decide) ?_⟩) (fun y0 ef => ?_) (fun d y0 ef M1 h1 => ?_) (by omega)
  · rw [if_pos y0, gU_in] at hQ
    exact c_go0 h hQ
  · rw [if_neg y0, ef] at hQ
    exact c_fails (e := 5011) (o := none) hq (by rw [hA.2.1]; exact h.1) (by rw [hA.2.1]; exact hA.1.2.1) hA.1.2.2 ⟨⟨5011, by omega, by omega, rfl⟩, by decide, by decide⟩ (fun M' h' => itp rfl (hQ M' h'))
  · rw [if_neg y0, ef] at hQ
    have hQ : ∀ M', RM A W w br nq nk np nh nr C B F t (if isO W s (tv st 0).1 d = true then sU s t (.inl (c, j, a + 1, lo, st) :: U) else failS W t s 6 0) (gU (if isO W s (tv st 0).1 d = true then sU s t (.inl (c, j, a + 1, lo, st) :: U) else failS W t s 6 0) t) M' → Q M' := hQ
    unfold w_Machine_isOf_j80
    refine itn (by decide) ?_
    cases hb : isO W s (tv st 0).1 d with
    | true =>
      rw [hb, if_pos rfl, gU_in] at hQ
      exact itn (by decide) ⟨Or.inr rfl, itn (by decide) (c_go0 h1 hQ)⟩
    | false =>
      rw [hb, if_neg (by decide)] at hQ
      exact itp rfl (c_failA (f := 6) (ru := 0) hq h1 hA (by omega) (by omega) (fun M' h' => ⟨Or.inl rfl, itp rfl (hQ M' h')⟩))
theorem s_55 (hq : RQ A W w nq nk np nh nr F s) (h : RI A W w br nq nk np nh nr C B F t s c j a lo st U M) (hA : At W s t c j a lo st U i) (ho : i.1 = 55) (hI : cFi A w nk np nr qi i M) (hqi : qi < L6 w) (hQ : ∀ M', RM A W w br nq nk np nh nr C B F t (doS W t s c j a lo st U i q) (gU (doS W t s c j a lo st U i q) t) M' → Q M') : w_Machine_act_j53 w Q (Int32.ofNat U.length) (Int32.ofNat (moff W c + j)) (Int32.ofNat qi) (Int32.ofNat 55) (mI M 67 w qi) (Int32.ofNat (a + 1)) M := by
  obtain ⟨tl, tk⟩ := hA.tk (ws := [wRef]) (by obtain ⟨o, r⟩ := i; have ho : o = 55 := ho; subst ho; rfl)
  have hs : 1 ≤ st.length := by
    have := hA.in.1.2.1
    have tl : 1 ≤ (k2 W c j a).length := tl
    omega
  have e : doS W t s c j a lo st U i q = if (tv st 0).1 = 0 then sU s t (.inl (c, j, a + 1, lo, drp st 1 ++ [(0, false)]) :: U) else match fnd W (iK i) with
      | none => failS W t s 11 50
      | some d => sU s t (.inl (c, j, a + 1, lo, drp st 1 ++ [(if isO W s (tv st 0).1 d = true then 1 else 0, false)]) :: U) := (by obtain ⟨o, r⟩ := i; have ho : o = 55 := ho; subst ho; rfl)
  rw [e] at hQ
  have v0 := (tk 0 (by simp)).2
  have hfl := v0.fl (Or.inl (wOne_ref (tk 0 (by simp)).1))
  obtain ⟨en, hk⟩ := hI.nm (by rw [ho]; decide)
  have h20 := h.2.2.1.2.1
  unfold w_Machine_act_j53
  refine c_isInN (o := 55) (lo := 23) (hi := 40) (by omega) (by omega) (by omega) (itp (by decide) (c_isInN (o := 55) (lo := 41) (hi := 49) (by omega) (by omega) (by omega) (itp (by decide) (c_isInN (o := 55) (lo := 60) (hi := 61) (by omega) (by omega) (by omega) (itp (by decide) (c_isInN (o := 55) (lo := 50) (hi := 53) (by omega) (by omega) (by omega) (itp (by decide) ?_)))))))
  refine itn (by decide) (itn (by decide) (itn (by decide) (itn (by decide) (itn (by decide) (itn (by decide) (itn (by decide) (itn (by decide) (itn (by decide) (itn (by decide) (itn (by decide) (itn (by decide) (itn (by decide) (itn (by decide) (itn (by decide) (itn (by decide) (itn (by decide) (itn (by decide) (itn (by decide) (itn (by decide) (itn (by decide) (itn (by decide) (itn (by decide) (itn (by decide) (itn (by decide) (itn (by decide) (itn (by decide) (itn (by decide) (itn (by decide) (itn (by decide) (itn (by decide) (itn (by decide) (itn (by decide) (itn (by decide) (itn (by decide) (itn (by decide) (itn (by decide) (itn (by decide) (itn (by decide) (itn (by decide) (itn (by decide) (itn (by decide) (itn (by decide) (itn (by decide) (itn (by decide) (itn (by decide) (itn (by decide) (itn (by decide) (itn (by decide) (itn (by decide) (itn (by decide) (itn (by decide) (itn (by decide) (itn (by decide) (itp rfl ?_))))))))))))))))))))))))))))))))))))))))))))))))))))))
  rw [en]
  refine c_isOfB (op := 55) hq.1 hq.2.1 h hA.1.2.1.1.1 hs hk (v0.2 hfl) (fun y0 => ⟨fun _ => ?_, fun z => absurd rfl z⟩) (fun y0 ef => ?_) (fun d y0 ef M1 h1 => ?_) (by omega)
  · rw [if_pos y0, gU_in] at hQ
    unfold w_Machine_comes
    rw [h.2.1.2, lit32 1, sub_n hs]
    exact mf_w_Machine_push (fun M' _ hp => itn (by decide) hp) (c_comesGo (b := false) (v := 0) h hs (by omega) hQ)
  · rw [if_neg y0, ef] at hQ
    exact c_fails (e := 5011) (o := none) hq (by rw [hA.2.1]; exact h.1) (by rw [hA.2.1]; exact hA.1.2.1) hA.1.2.2 ⟨⟨5011, by omega, by omega, rfl⟩, by decide, by decide⟩ (fun M' h' => itp rfl (hQ M' h'))
  · rw [if_neg y0, ef] at hQ
    have hQ : ∀ M', RM A W w br nq nk np nh nr C B F t (sU s t (.inl (c, j, a + 1, lo, drp st 1 ++ [(if isO W s (tv st 0).1 d = true then 1 else 0, false)]) :: U)) (gU (sU s t (.inl (c, j, a + 1, lo, drp st 1 ++ [(if isO W s (tv st 0).1 d = true then 1 else 0, false)]) :: U)) t) M' → Q M' := hQ
    rw [gU_in] at hQ
    unfold w_Machine_isOf_j80 w_Machine_isOf_j100 w_Machine_comes
    refine itp rfl ?_
    rw [h1.2.1.2, show (1 : Int32) = Int32.ofNat 1 from rfl, sub_n hs]
    cases hb : isO W s (tv st 0).1 d with
    | true =>
      rw [hb, if_pos rfl] at hQ
      exact itn (by decide) (mf_w_Machine_push (fun M' _ hp => itn (by decide) hp) (c_comesGo (b := false) (v := 1) h1 hs (by omega) hQ))
    | false =>
      rw [hb, if_neg (by decide)] at hQ
      exact itp rfl (mf_w_Machine_push (fun M' _ hp => itn (by decide) hp) (c_comesGo (b := false) (v := 0) h1 hs (by omega) hQ))
theorem s_56 (hq : RQ A W w nq nk np nh nr F s) (h : RI A W w br nq nk np nh nr C B F t s c j a lo st U M) (hA : At W s t c j a lo st U i) (ho : i.1 = 56) (hI : cFi A w nk np nr qi i M) (hqi : qi < L6 w) (hQ : ∀ M', RM A W w br nq nk np nh nr C B F t (doS W t s c j a lo st U i q) (gU (doS W t s c j a lo st U i q) t) M' → Q M') : w_Machine_act_j53 w Q (Int32.ofNat U.length) (Int32.ofNat (moff W c + j)) (Int32.ofNat qi) (Int32.ofNat 56) (mI M 67 w qi) (Int32.ofNat (a + 1)) M := by
  obtain ⟨tl, tk⟩ := hA.tk (ws := [(0, (2, nFault))]) (by obtain ⟨o, r⟩ := i; have ho : o = 56 := ho; subst ho; rfl)
  have hs : 1 ≤ st.length := by
    have := hA.in.1.2.1
    have tl : 1 ≤ (k2 W c j a).length := tl
    omega
  have e : doS W t s c j a lo st U i q = if (tv st 0).1 = 0 then failS W t s 2 0 else unw W t (gU s t) (tv st 0).1 s := (by obtain ⟨o, r⟩ := i; have ho : o = 56 := ho; subst ho; rfl)
  rw [e] at hQ
  unfold w_Machine_act_j53
  refine c_isInN (o := 56) (lo := 23) (hi := 40) (by omega) (by omega) (by omega) (itp (by decide) (c_isInN (o := 56) (lo := 41) (hi := 49) (by omega) (by omega) (by omega) (itp (by decide) (c_isInN (o := 56) (lo := 60) (hi := 61) (by omega) (by omega) (by omega) (itp (by decide) (c_isInN (o := 56) (lo := 50) (hi := 53) (by omega) (by omega) (by omega) (itp (by decide) ?_)))))))
  refine itn (by decide) (itn (by decide) (itn (by decide) (itn (by decide) (itn (by decide) (itn (by decide) (itn (by decide) (itn (by decide) (itn (by decide) (itn (by decide) (itn (by decide) (itn (by decide) (itn (by decide) (itn (by decide) (itn (by decide) (itn (by decide) (itn (by decide) (itn (by decide) (itn (by decide) (itn (by decide) (itn (by decide) (itn (by decide) (itn (by decide) (itn (by decide) (itn (by decide) (itn (by decide) (itn (by decide) (itn (by decide) (itn (by decide) (itn (by decide) (itn (by decide) (itn (by decide) (itn (by decide) (itn (by decide) (itn (by decide) (itn (by decide) (itn (by decide) (itn (by decide) (itn (by decide) (itn (by decide) (itn (by decide) (itn (by decide) (itn (by decide) (itn (by decide) (itn (by decide) (itn (by decide) (itn (by decide) (itn (by decide) (itn (by decide) (itn (by decide) (itn (by decide) (itn (by decide) (itn (by decide) (itn (by decide) (itn (by decide) (itp rfl ?_)))))))))))))))))))))))))))))))))))))))))))))))))))))))
  refine c_num (d := 0) h hs ?_
  by_cases c0 : (tv st 0).1 = 0
  · rw [if_pos c0] at hQ
    exact itp c0 (c_failA (f := 2) (ru := 0) hq h hA (by omega) (by omega) hQ)
  rw [if_neg c0] at hQ
  have hB := hA.1.1.1
  have v0 := (tk 0 (by simp)).2.fit hB (wOne_fit (tk 0 (by simp)).1 (show ¬ (2 : Int) = 0 by decide))
  obtain ⟨hb, hr⟩ := v0.1.2.2.2.1 rfl
  obtain ⟨d, hd, hr⟩ := hr.resolve_left c0
  have hd : fnd W nFault = some d := hd
  rw [hB.fault] at hd; cases hd
  rcases hr with z | z | ⟨e', he, hp⟩
  · rw [hB.nface (by omega)] at z; cases z
  · cases z
  · have hl := (clR_lk hB hA.1.2.1.1.1 (v0.2 hb) c0 he).1
    have hg := hA.2.1
    exact itn c0 (c_throwOne (o := none) hq (by rw [hg]; exact h.1) (by rw [hg]; exact hA.1.2.1) hA.1.2.2 ⟨v0.2 hb, e', he, hl, hp⟩ c0 hQ)
end
