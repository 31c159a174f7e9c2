/-! THE MACHINE IN THE WORKS: ends of frames; every act (printed by gen/at.py) -/
section
variable {A : List Nm} {W : List Cls} {w C B F t : Nat} {br : Int32} {nq nk np nh nr : Nat} {s : Ms} {M M2 : Mem} {U : List Un} {c j a qi : Nat} {lo st lo' st' : List Vl} {q : Nat × Nat} {i : Ins} {Q : Mem → Prop}
theorem s_57 (hq : RQ A W w nq nk np nh nr F s) (h : RI A W w br nq nk np nh nr C B F t s c j a lo st U M) (hA : At W s t c j a lo st U i) (ho : i.1 = 57) (hI : cFi A w nk np nr qi i M) (hqi : qi < L6 w) (hQ : ∀ M', RM A W w br nq nk np nh nr C B F t (doS W t s c j a lo st U i q) (gU (doS W t s c j a lo st U i q) t) M' → Q M') : w_Machine_act_j53 w Q (Int32.ofNat U.length) (Int32.ofNat (moff W c + j)) (Int32.ofNat qi) (Int32.ofNat 57) (mI M 67 w qi) (Int32.ofNat (a + 1)) M := by
  have hK := a_57 (q := q) hA ho
  have e : doS W t s c j a lo st U i q = leaveS s t c j 57 0 U := (by obtain ⟨o, r⟩ := i; have ho : o = 57 := ho; subst ho; rfl)
  rw [e] at hQ hK
  unfold w_Machine_act_j53
  refine c_isInN (o := 57) (lo := 23) (hi := 40) (by omega) (by omega) (by omega) (itp (by decide) (c_isInN (o := 57) (lo := 41) (hi := 49) (by omega) (by omega) (by omega) (itp (by decide) (c_isInN (o := 57) (lo := 60) (hi := 61) (by omega) (by omega) (by omega) (itp (by decide) (c_isInN (o := 57) (lo := 50) (hi := 53) (by omega) (by omega) (by omega) (itp (by decide) ?_)))))))
  refine itn (by decide) (itn (by decide) (itn (by decide) (itn (by decide) (itn (by decide) (itn (by decide) (itn (by decide) (itn (by decide) (itn (by decide) (itn (by decide) (itn (by decide) (itn (by decide) (itn (by decide) (itn (by decide) (itn (by decide) (itn (by decide) (itn (by decide) (itn (by decide) (itn (by decide) (itn (by decide) (itn (by decide) (itn (by decide) (itn (by decide) (itn (by decide) (itn (by decide) (itn (by decide) (itn (by decide) (itn (by decide) (itn (by decide) (itn (by decide) (itn (by decide) (itn (by decide) (itn (by decide) (itn (by decide) (itn (by decide) (itn (by decide) (itn (by decide) (itn (by decide) (itn (by decide) (itn (by decide) (itn (by decide) (itn (by decide) (itn (by decide) (itn (by decide) (itn (by decide) (itn (by decide) (itn (by decide) (itn (by decide) (itn (by decide) (itn (by decide) (itn (by decide) (itn (by decide) (itn (by decide) (itn (by decide) (itn (by decide) (itn (by decide) (itp rfl ?_))))))))))))))))))))))))))))))))))))))))))))))))))))))))
  unfold w_Machine_leave w_Machine_leave_j15
  refine itp rfl (itn (by decide) ?_)
  exact c_leave28 (op := 57) (v := 0) hq h hA (Or.inl rfl) (fun _ => rfl) (fun z => absurd z (by decide)) hK hQ
theorem s_58 (hq : RQ A W w nq nk np nh nr F s) (h : RI A W w br nq nk np nh nr C B F t s c j a lo st U M) (hA : At W s t c j a lo st U i) (ho : i.1 = 58) (hI : cFi A w nk np nr qi i M) (hqi : qi < L6 w) (hQ : ∀ M', RM A W w br nq nk np nh nr C B F t (doS W t s c j a lo st U i q) (gU (doS W t s c j a lo st U i q) t) M' → Q M') : w_Machine_act_j53 w Q (Int32.ofNat U.length) (Int32.ofNat (moff W c + j)) (Int32.ofNat qi) (Int32.ofNat 58) (mI M 67 w qi) (Int32.ofNat (a + 1)) M := by
  have hK := a_58 (q := q) hA ho
  have e : doS W t s c j a lo st U i q = leaveS s t c j 58 (tv st 0).1 U := (by obtain ⟨o, r⟩ := i; have ho : o = 58 := ho; subst ho; rfl)
  rw [e] at hQ hK
  obtain ⟨tl, -⟩ := hA.tk (ws := [wNum]) (by obtain ⟨o, r⟩ := i; have ho : o = 58 := ho; subst ho; rfl)
  have hs : 1 ≤ st.length := by
    have := hA.in.1.2.1
    have tl : 1 ≤ (k2 W c j a).length := tl
    omega
  unfold w_Machine_act_j53
  refine c_isInN (o := 58) (lo := 23) (hi := 40) (by omega) (by omega) (by omega) (itp (by decide) (c_isInN (o := 58) (lo := 41) (hi := 49) (by omega) (by omega) (by omega) (itp (by decide) (c_isInN (o := 58) (lo := 60) (hi := 61) (by omega) (by omega) (by omega) (itp (by decide) (c_isInN (o := 58) (lo := 50) (hi := 53) (by omega) (by omega) (by omega) (itp (by decide) ?_)))))))
  refine itn (by decide) (itn (by decide) (itn (by decide) (itn (by decide) (itn (by decide) (itn (by decide) (itn (by decide) (itn (by decide) (itn (by decide) (itn (by decide) (itn (by decide) (itn (by decide) (itn (by decide) (itn (by decide) (itn (by decide) (itn (by decide) (itn (by decide) (itn (by decide) (itn (by decide) (itn (by decide) (itn (by decide) (itn (by decide) (itn (by decide) (itn (by decide) (itn (by decide) (itn (by decide) (itn (by decide) (itn (by decide) (itn (by decide) (itn (by decide) (itn (by decide) (itn (by decide) (itn (by decide) (itn (by decide) (itn (by decide) (itn (by decide) (itn (by decide) (itn (by decide) (itn (by decide) (itn (by decide) (itn (by decide) (itn (by decide) (itn (by decide) (itn (by decide) (itn (by decide) (itn (by decide) (itn (by decide) (itn (by decide) (itn (by decide) (itn (by decide) (itn (by decide) (itn (by decide) (itn (by decide) (itn (by decide) (itn (by decide) (itn (by decide) (itn (by decide) (itp rfl ?_)))))))))))))))))))))))))))))))))))))))))))))))))))))))))
  unfold w_Machine_leave w_Machine_leave_j15
  refine itn (by decide) (c_num (d := 0) h hs (itn (by decide) ?_))
  exact c_leave28 (op := 58) hq h hA (Or.inr (Or.inl rfl)) (fun z => absurd z (by decide)) (fun z => absurd z (by decide)) hK hQ
theorem s_59 (hq : RQ A W w nq nk np nh nr F s) (h : RI A W w br nq nk np nh nr C B F t s c j a lo st U M) (hA : At W s t c j a lo st U i) (ho : i.1 = 59) (hI : cFi A w nk np nr qi i M) (hqi : qi < L6 w) (hQ : ∀ M', RM A W w br nq nk np nh nr C B F t (doS W t s c j a lo st U i q) (gU (doS W t s c j a lo st U i q) t) M' → Q M') : w_Machine_act_j53 w Q (Int32.ofNat U.length) (Int32.ofNat (moff W c + j)) (Int32.ofNat qi) (Int32.ofNat 59) (mI M 67 w qi) (Int32.ofNat (a + 1)) M := by
  have hK := a_59 (q := q) hA ho
  have e : doS W t s c j a lo st U i q = leaveS s t c j 59 (tv st 0).1 U := (by obtain ⟨o, r⟩ := i; have ho : o = 59 := ho; subst ho; rfl)
  rw [e] at hQ hK
  obtain ⟨-, -, -, ⟨-, h6, -⟩, -⟩ := hA.in
  have hr : (gmt (gc W c) j).2.2.1.1 = 1 ∨ (gmt (gc W c) j).2.2.1.1 = 2 := by
    unfold ownS at h6
    rw [if_neg (by omega), if_neg (by omega), if_pos ho] at h6
    split at h6
    · assumption
    · exact absurd h6 (by decide)
  obtain ⟨⟨hF, -⟩, -⟩ := hA.1.2.1.2.2.2.1
  have hk := ((hA.1.1).m hF.1.1 hF.1.2.1 hF.2.1).1.2.1
  have hty : tyOk (gmt (gc W c) j).2.2.1 := by
    rcases hk with z | z | z | z
    · exact Or.inl z
    · exact Or.inr (Or.inl z)
    · have z : (gmt (gc W c) j).2.2.1 = (-4, []) := z
      rw [z] at hr; exact absurd hr (by decide)
    · exact Or.inr (Or.inr z)
  have hw : wlist W c (gmt (gc W c) j) i = [(0, (gmt (gc W c) j).2.2.1)] := by
    have e : wlist W c (gmt (gc W c) j) i = [if (gmt (gc W c) j).2.2.1.1 = 1 ∨ (gmt (gc W c) j).2.2.1.1 = 2 then (0, (gmt (gc W c) j).2.2.1) else wRef] := (by obtain ⟨o, r⟩ := i; have ho : o = 59 := ho; subst ho; rfl)
    rw [e, if_pos hr]
  obtain ⟨tl, tk⟩ := hA.tk hw
  have v0 := wOne_ty hA.1.1.1 hty (tk 0 (by simp)).1 (tk 0 (by simp)).2
  have hfl := v0.ty hty
  rw [decide_eq_true (show (gmt (gc W c) j).2.2.1.1 ≠ 0 by omega)] at hfl
  have hvr : vRf s (tv st 0).1 := v0.2 hfl
  have hs : 1 ≤ st.length := by
    have := hA.in.1.2.1
    have tl : 1 ≤ (k2 W c j a).length := tl
    omega
  unfold w_Machine_act_j53
  refine c_isInN (o := 59) (lo := 23) (hi := 40) (by omega) (by omega) (by omega) (itp (by decide) (c_isInN (o := 59) (lo := 41) (hi := 49) (by omega) (by omega) (by omega) (itp (by decide) (c_isInN (o := 59) (lo := 60) (hi := 61) (by omega) (by omega) (by omega) (itp (by decide) (c_isInN (o := 59) (lo := 50) (hi := 53) (by omega) (by omega) (by omega) (itp (by decide) ?_)))))))
  refine itn (by decide) (itn (by decide) (itn (by decide) (itn (by decide) (itn (by decide) (itn (by decide) (itn (by decide) (itn (by decide) (itn (by decide) (itn (by decide) (itn (by decide) (itn (by decide) (itn (by decide) (itn (by decide) (itn (by decide) (itn (by decide) (itn (by decide) (itn (by decide) (itn (by decide) (itn (by decide) (itn (by decide) (itn (by decide) (itn (by decide) (itn (by decide) (itn (by decide) (itn (by decide) (itn (by decide) (itn (by decide) (itn (by decide) (itn (by decide) (itn (by decide) (itn (by decide) (itn (by decide) (itn (by decide) (itn (by decide) (itn (by decide) (itn (by decide) (itn (by decide) (itn (by decide) (itn (by decide) (itn (by decide) (itn (by decide) (itn (by decide) (itn (by decide) (itn (by decide) (itn (by decide) (itn (by decide) (itn (by decide) (itn (by decide) (itn (by decide) (itn (by decide) (itn (by decide) (itn (by decide) (itn (by decide) (itn (by decide) (itn (by decide) (itn (by decide) (itn (by decide) (itp rfl ?_))))))))))))))))))))))))))))))))))))))))))))))))))))))))))
  unfold w_Machine_leave w_Machine_leave_j15
  refine itn (by decide) (c_num (d := 0) h hs (itp rfl ?_))
  exact c_leave28 (op := 59) hq h hA (Or.inr (Or.inr rfl)) (fun z => absurd z (by decide)) (fun _ => hvr) hK hQ
/-- what an instruction has found, as the works keep it -/
def i36 (W : List Cls) (i : Ins) (q : Nat × Nat) : Int32 := if i.1 = 41 then Int32.ofNat q.1 else if isFo i.1 then Int32.ofNat (foff W q.1 + q.2) else if isMo i.1 then Int32.ofNat (moff W q.1 + q.2) else 0
theorem c_actM (hq : RQ A W w nq nk np nh nr F s) (h : RI A W w br nq nk np nh nr C B F t s c j a lo st U M) (hA : At W s t c j a lo st U i) (hFq : Fq W s i q) (h36 : mI M 6 w 36 = i36 W i q) (hI : cFi A w nk np nr qi i M) (hqi : qi < L6 w) (hQ : ∀ M', RM A W w br nq nk np nh nr C B F t (doS W t s c j a lo st U i q) (gU (doS W t s c j a lo st U i q) t) M' → Q M') : w_Machine_act w (Int32.ofNat U.length) (Int32.ofNat (moff W c + j)) (Int32.ofNat qi) (Int32.ofNat i.1) Q M := by
  have h62 : i.1 < 62 := hA.in.2.2.2.2.1
  have hLb := L_le w
  have hKB := hq.2.1
  have R2 : mR M 6 w 2 = some (7, 3 * w + t) := h.1.1.2.2.2.2.1.1
  have e90 : mI M 90 (3 * w + t) U.length = Int32.ofNat a := h.1.2.2.1.2.2.1.1.2.1
  have l90 : mL M 90 (3 * w + t) = 91 := h.1.2.1.1.1 90 (by omega) (by omega)
  have l67 : mL M 67 w = L6 w := h.1.1.1.1.1.2.2.2.1.1 67 (by omega) (by omega)
  have hU := h.2.2.1.1
  unfold w_Machine_act
  refine ⟨by rw [l67]; exact (vp_oN (by omega)).mpr hqi, 3 * w + t, R2, by rw [l90]; exact (vp_oN (by omega)).mpr (by omega), ?_⟩
  rw [oN_tnc (k := qi) (by omega), oN_tnc (k := U.length) (by omega), e90, show Int32.ofNat a + (1 : Int32) = Int32.ofNat (a + 1) from oN_add a 1]
  have hh : i.1 = 0 ∨ i.1 = 1 ∨ i.1 = 2 ∨ i.1 = 3 ∨ i.1 = 4 ∨ i.1 = 5 ∨ i.1 = 6 ∨ i.1 = 7 ∨ i.1 = 8 ∨ i.1 = 9 ∨ i.1 = 10 ∨ i.1 = 11 ∨ i.1 = 12 ∨ i.1 = 13 ∨ i.1 = 14 ∨ i.1 = 15 ∨ i.1 = 16 ∨ i.1 = 17 ∨ i.1 = 18 ∨ i.1 = 19 ∨ i.1 = 20 ∨ i.1 = 21 ∨ i.1 = 22 ∨ i.1 = 23 ∨ i.1 = 24 ∨ i.1 = 25 ∨ i.1 = 26 ∨ i.1 = 27 ∨ i.1 = 28 ∨ i.1 = 29 ∨ i.1 = 30 ∨ i.1 = 31 ∨ i.1 = 32 ∨ i.1 = 33 ∨ i.1 = 34 ∨ i.1 = 35 ∨ i.1 = 36 ∨ i.1 = 37 ∨ i.1 = 38 ∨ i.1 = 39 ∨ i.1 = 40 ∨ i.1 = 41 ∨ i.1 = 42 ∨ i.1 = 43 ∨ i.1 = 44 ∨ i.1 = 45 ∨ i.1 = 46 ∨ i.1 = 47 ∨ i.1 = 48 ∨ i.1 = 49 ∨ i.1 = 50 ∨ i.1 = 51 ∨ i.1 = 52 ∨ i.1 = 53 ∨ i.1 = 54 ∨ i.1 = 55 ∨ i.1 = 56 ∨ i.1 = 57 ∨ i.1 = 58 ∨ i.1 = 59 ∨ i.1 = 60 ∨ i.1 = 61 := by omega
  rcases hh with ho | ho | ho | ho | ho | ho | ho | ho | ho | ho | ho | ho | ho | ho | ho | ho | ho | ho | ho | ho | ho | ho | ho | ho | ho | ho | ho | ho | ho | ho | ho | ho | ho | ho | ho | ho | ho | ho | ho | ho | ho | ho | ho | ho | ho | ho | ho | ho | ho | ho | ho | ho | ho | ho | ho | ho | ho | ho | ho | ho | ho | ho
  · rw [ho]
    refine c_isInN (o := 0) (lo := 8) (hi := 18) (by omega) (by omega) (by omega) (itp (by decide) ?_)
    exact s_0 h hA ho hI hqi hQ
  · rw [ho]
    refine c_isInN (o := 1) (lo := 8) (hi := 18) (by omega) (by omega) (by omega) (itp (by decide) ?_)
    exact s_1 h hA ho hI hqi hQ
  · rw [ho]
    refine c_isInN (o := 2) (lo := 8) (hi := 18) (by omega) (by omega) (by omega) (itp (by decide) ?_)
    exact s_2 h hA ho hI hqi hQ
  · rw [ho]
    refine c_isInN (o := 3) (lo := 8) (hi := 18) (by omega) (by omega) (by omega) (itp (by decide) ?_)
    exact s_3 h hA ho hI hqi hQ
  · rw [ho]
    refine c_isInN (o := 4) (lo := 8) (hi := 18) (by omega) (by omega) (by omega) (itp (by decide) ?_)
    exact s_4 h hA ho hI hqi hQ
  · rw [ho]
    refine c_isInN (o := 5) (lo := 8) (hi := 18) (by omega) (by omega) (by omega) (itp (by decide) ?_)
    exact s_5 h hA ho hI hqi hQ
  · rw [ho]
    refine c_isInN (o := 6) (lo := 8) (hi := 18) (by omega) (by omega) (by omega) (itp (by decide) ?_)
    exact s_6 h hA ho hI hqi hQ
  · rw [ho]
    refine c_isInN (o := 7) (lo := 8) (hi := 18) (by omega) (by omega) (by omega) (itp (by decide) ?_)
    exact s_7 h hA ho hI hqi hQ
  · rw [ho]
    exact c_isInN (o := 8) (lo := 8) (hi := 18) (by omega) (by omega) (by omega) (itn (by decide) (itn (by decide) (r_8 hq h hA ho hQ)))
  · rw [ho]
    exact c_isInN (o := 9) (lo := 8) (hi := 18) (by omega) (by omega) (by omega) (itn (by decide) (itn (by decide) (r_9 hq h hA ho hQ)))
  · rw [ho]
    exact c_isInN (o := 10) (lo := 8) (hi := 18) (by omega) (by omega) (by omega) (itn (by decide) (itn (by decide) (r_10 hq h hA ho hQ)))
  · rw [ho]
    exact c_isInN (o := 11) (lo := 8) (hi := 18) (by omega) (by omega) (by omega) (itn (by decide) (itn (by decide) (r_11 hq h hA ho hQ)))
  · rw [ho]
    exact c_isInN (o := 12) (lo := 8) (hi := 18) (by omega) (by omega) (by omega) (itn (by decide) (itn (by decide) (r_12 hq h hA ho hQ)))
  · rw [ho]
    exact c_isInN (o := 13) (lo := 8) (hi := 18) (by omega) (by omega) (by omega) (itn (by decide) (itp rfl (s_13 h hA ho hI hqi hQ)))
  · rw [ho]
    exact c_isInN (o := 14) (lo := 8) (hi := 18) (by omega) (by omega) (by omega) (itn (by decide) (itn (by decide) (r_14 hq h hA ho hQ)))
  · rw [ho]
    exact c_isInN (o := 15) (lo := 8) (hi := 18) (by omega) (by omega) (by omega) (itn (by decide) (itn (by decide) (r_15 hq h hA ho hQ)))
  · rw [ho]
    exact c_isInN (o := 16) (lo := 8) (hi := 18) (by omega) (by omega) (by omega) (itn (by decide) (itn (by decide) (r_16 hq h hA ho hQ)))
  · rw [ho]
    exact c_isInN (o := 17) (lo := 8) (hi := 18) (by omega) (by omega) (by omega) (itn (by decide) (itn (by decide) (r_17 hq h hA ho hQ)))
  · rw [ho]
    exact c_isInN (o := 18) (lo := 8) (hi := 18) (by omega) (by omega) (by omega) (itn (by decide) (itn (by decide) (r_18 hq h hA ho hQ)))
  · rw [ho]
    refine c_isInN (o := 19) (lo := 8) (hi := 18) (by omega) (by omega) (by omega) (itp (by decide) ?_)
    exact s_19 h hA ho hI hqi hQ
  · rw [ho]
    refine c_isInN (o := 20) (lo := 8) (hi := 18) (by omega) (by omega) (by omega) (itp (by decide) ?_)
    exact s_20 h hA ho hI hqi hQ
  · rw [ho]
    refine c_isInN (o := 21) (lo := 8) (hi := 18) (by omega) (by omega) (by omega) (itp (by decide) ?_)
    exact s_21 h hA ho hI hqi hQ
  · rw [ho]
    refine c_isInN (o := 22) (lo := 8) (hi := 18) (by omega) (by omega) (by omega) (itp (by decide) ?_)
    exact s_22 h hA ho hI hqi hQ
  · rw [ho]
    refine c_isInN (o := 23) (lo := 8) (hi := 18) (by omega) (by omega) (by omega) (itp (by decide) ?_)
    unfold w_Machine_act_j53
    exact c_isInN (o := 23) (lo := 23) (hi := 40) (by omega) (by omega) (by omega) (itn (by decide) (j_23 h ho hI hqi hQ))
  · rw [ho]
    refine c_isInN (o := 24) (lo := 8) (hi := 18) (by omega) (by omega) (by omega) (itp (by decide) ?_)
    unfold w_Machine_act_j53
    exact c_isInN (o := 24) (lo := 23) (hi := 40) (by omega) (by omega) (by omega) (itn (by decide) (j_24 h hA ho hI hqi hQ))
  · rw [ho]
    refine c_isInN (o := 25) (lo := 8) (hi := 18) (by omega) (by omega) (by omega) (itp (by decide) ?_)
    unfold w_Machine_act_j53
    exact c_isInN (o := 25) (lo := 23) (hi := 40) (by omega) (by omega) (by omega) (itn (by decide) (j_25 h hA ho hI hqi hQ))
  · rw [ho]
    refine c_isInN (o := 26) (lo := 8) (hi := 18) (by omega) (by omega) (by omega) (itp (by decide) ?_)
    unfold w_Machine_act_j53
    exact c_isInN (o := 26) (lo := 23) (hi := 40) (by omega) (by omega) (by omega) (itn (by decide) (j_26 h hA ho hI hqi hQ))
  · rw [ho]
    refine c_isInN (o := 27) (lo := 8) (hi := 18) (by omega) (by omega) (by omega) (itp (by decide) ?_)
    unfold w_Machine_act_j53
    exact c_isInN (o := 27) (lo := 23) (hi := 40) (by omega) (by omega) (by omega) (itn (by decide) (j_27 h hA ho hI hqi hQ))
  · rw [ho]
    refine c_isInN (o := 28) (lo := 8) (hi := 18) (by omega) (by omega) (by omega) (itp (by decide) ?_)
    unfold w_Machine_act_j53
    exact c_isInN (o := 28) (lo := 23) (hi := 40) (by omega) (by omega) (by omega) (itn (by decide) (j_28 h hA ho hI hqi hQ))
  · rw [ho]
    refine c_isInN (o := 29) (lo := 8) (hi := 18) (by omega) (by omega) (by omega) (itp (by decide) ?_)
    unfold w_Machine_act_j53
    exact c_isInN (o := 29) (lo := 23) (hi := 40) (by omega) (by omega) (by omega) (itn (by decide) (j_29 h hA ho hI hqi hQ))
  · rw [ho]
    refine c_isInN (o := 30) (lo := 8) (hi := 18) (by omega) (by omega) (by omega) (itp (by decide) ?_)
    unfold w_Machine_act_j53
    exact c_isInN (o := 30) (lo := 23) (hi := 40) (by omega) (by omega) (by omega) (itn (by decide) (j_30 h hA ho hI hqi hQ))
  · rw [ho]
    refine c_isInN (o := 31) (lo := 8) (hi := 18) (by omega) (by omega) (by omega) (itp (by decide) ?_)
    unfold w_Machine_act_j53
    exact c_isInN (o := 31) (lo := 23) (hi := 40) (by omega) (by omega) (by omega) (itn (by decide) (j_31 h hA ho hI hqi hQ))
  · rw [ho]
    refine c_isInN (o := 32) (lo := 8) (hi := 18) (by omega) (by omega) (by omega) (itp (by decide) ?_)
    unfold w_Machine_act_j53
    exact c_isInN (o := 32) (lo := 23) (hi := 40) (by omega) (by omega) (by omega) (itn (by decide) (j_32 h hA ho hI hqi hQ))
  · rw [ho]
    refine c_isInN (o := 33) (lo := 8) (hi := 18) (by omega) (by omega) (by omega) (itp (by decide) ?_)
    unfold w_Machine_act_j53
    exact c_isInN (o := 33) (lo := 23) (hi := 40) (by omega) (by omega) (by omega) (itn (by decide) (j_33 h hA ho hI hqi hQ))
  · rw [ho]
    refine c_isInN (o := 34) (lo := 8) (hi := 18) (by omega) (by omega) (by omega) (itp (by decide) ?_)
    unfold w_Machine_act_j53
    exact c_isInN (o := 34) (lo := 23) (hi := 40) (by omega) (by omega) (by omega) (itn (by decide) (j_34 h hA ho hI hqi hQ))
  · rw [ho]
    refine c_isInN (o := 35) (lo := 8) (hi := 18) (by omega) (by omega) (by omega) (itp (by decide) ?_)
    unfold w_Machine_act_j53
    exact c_isInN (o := 35) (lo := 23) (hi := 40) (by omega) (by omega) (by omega) (itn (by decide) (j_35 h hA ho hI hqi hQ))
  · rw [ho]
    refine c_isInN (o := 36) (lo := 8) (hi := 18) (by omega) (by omega) (by omega) (itp (by decide) ?_)
    unfold w_Machine_act_j53
    exact c_isInN (o := 36) (lo := 23) (hi := 40) (by omega) (by omega) (by omega) (itn (by decide) (j_36 h hA ho hI hqi hQ))
  · rw [ho]
    refine c_isInN (o := 37) (lo := 8) (hi := 18) (by omega) (by omega) (by omega) (itp (by decide) ?_)
    unfold w_Machine_act_j53
    exact c_isInN (o := 37) (lo := 23) (hi := 40) (by omega) (by omega) (by omega) (itn (by decide) (j_37 h hA ho hI hqi hQ))
  · rw [ho]
    refine c_isInN (o := 38) (lo := 8) (hi := 18) (by omega) (by omega) (by omega) (itp (by decide) ?_)
    unfold w_Machine_act_j53
    exact c_isInN (o := 38) (lo := 23) (hi := 40) (by omega) (by omega) (by omega) (itn (by decide) (j_38 h hA ho hI hqi hQ))
  · rw [ho]
    refine c_isInN (o := 39) (lo := 8) (hi := 18) (by omega) (by omega) (by omega) (itp (by decide) ?_)
    unfold w_Machine_act_j53
    exact c_isInN (o := 39) (lo := 23) (hi := 40) (by omega) (by omega) (by omega) (itn (by decide) (j_39 h hA ho hI hqi hQ))
  · rw [ho]
    refine c_isInN (o := 40) (lo := 8) (hi := 18) (by omega) (by omega) (by omega) (itp (by decide) ?_)
    unfold w_Machine_act_j53
    exact c_isInN (o := 40) (lo := 23) (hi := 40) (by omega) (by omega) (by omega) (itn (by decide) (j_40 hKB h hA ho hI hqi hQ))
  · rw [ho]
    have h36 : mI M 6 w 36 = Int32.ofNat q.1 := by rw [h36]; unfold i36; rw [if_pos ho]
    refine c_isInN (o := 41) (lo := 8) (hi := 18) (by omega) (by omega) (by omega) (itp (by decide) ?_)
    unfold w_Machine_act_j53 w_Machine_act_j100
    exact c_isInN (o := 41) (lo := 23) (hi := 40) (by omega) (by omega) (by omega) (itp (by decide) (c_isInN (o := 41) (lo := 41) (hi := 49) (by omega) (by omega) (by omega) (itn (by decide) (th_41 hq h hA hFq h36 ho hQ))))
  · rw [ho]
    refine c_isInN (o := 42) (lo := 8) (hi := 18) (by omega) (by omega) (by omega) (itp (by decide) ?_)
    unfold w_Machine_act_j53 w_Machine_act_j100
    exact c_isInN (o := 42) (lo := 23) (hi := 40) (by omega) (by omega) (by omega) (itp (by decide) (c_isInN (o := 42) (lo := 41) (hi := 49) (by omega) (by omega) (by omega) (itn (by decide) (th_42 hq h hA ho hQ))))
  · rw [ho]
    refine c_isInN (o := 43) (lo := 8) (hi := 18) (by omega) (by omega) (by omega) (itp (by decide) ?_)
    unfold w_Machine_act_j53 w_Machine_act_j100
    exact c_isInN (o := 43) (lo := 23) (hi := 40) (by omega) (by omega) (by omega) (itp (by decide) (c_isInN (o := 43) (lo := 41) (hi := 49) (by omega) (by omega) (by omega) (itn (by decide) (th_43 hq h hA ho hQ))))
  · rw [ho]
    refine c_isInN (o := 44) (lo := 8) (hi := 18) (by omega) (by omega) (by omega) (itp (by decide) ?_)
    unfold w_Machine_act_j53 w_Machine_act_j100
    exact c_isInN (o := 44) (lo := 23) (hi := 40) (by omega) (by omega) (by omega) (itp (by decide) (c_isInN (o := 44) (lo := 41) (hi := 49) (by omega) (by omega) (by omega) (itn (by decide) (th_44 hq h hA ho hQ))))
  · rw [ho]
    refine c_isInN (o := 45) (lo := 8) (hi := 18) (by omega) (by omega) (by omega) (itp (by decide) ?_)
    unfold w_Machine_act_j53 w_Machine_act_j100
    exact c_isInN (o := 45) (lo := 23) (hi := 40) (by omega) (by omega) (by omega) (itp (by decide) (c_isInN (o := 45) (lo := 41) (hi := 49) (by omega) (by omega) (by omega) (itn (by decide) (th_45 hq h hA ho hQ))))
  · rw [ho]
    have h36 : mI M 6 w 36 = Int32.ofNat (foff W q.1 + q.2) := by rw [h36]; unfold i36; rw [if_neg (by omega), if_pos (by rw [ho]; decide)]
    refine c_isInN (o := 46) (lo := 8) (hi := 18) (by omega) (by omega) (by omega) (itp (by decide) ?_)
    unfold w_Machine_act_j53 w_Machine_act_j100
    exact c_isInN (o := 46) (lo := 23) (hi := 40) (by omega) (by omega) (by omega) (itp (by decide) (c_isInN (o := 46) (lo := 41) (hi := 49) (by omega) (by omega) (by omega) (itn (by decide) (th_46 hq h hA hFq h36 ho hQ))))
  · rw [ho]
    have h36 : mI M 6 w 36 = Int32.ofNat (foff W q.1 + q.2) := by rw [h36]; unfold i36; rw [if_neg (by omega), if_pos (by rw [ho]; decide)]
    refine c_isInN (o := 47) (lo := 8) (hi := 18) (by omega) (by omega) (by omega) (itp (by decide) ?_)
    unfold w_Machine_act_j53 w_Machine_act_j100
    exact c_isInN (o := 47) (lo := 23) (hi := 40) (by omega) (by omega) (by omega) (itp (by decide) (c_isInN (o := 47) (lo := 41) (hi := 49) (by omega) (by omega) (by omega) (itn (by decide) (th_47 hq h hA hFq h36 ho hQ))))
  · rw [ho]
    have h36 : mI M 6 w 36 = Int32.ofNat (foff W q.1 + q.2) := by rw [h36]; unfold i36; rw [if_neg (by omega), if_pos (by rw [ho]; decide)]
    refine c_isInN (o := 48) (lo := 8) (hi := 18) (by omega) (by omega) (by omega) (itp (by decide) ?_)
    unfold w_Machine_act_j53 w_Machine_act_j100
    exact c_isInN (o := 48) (lo := 23) (hi := 40) (by omega) (by omega) (by omega) (itp (by decide) (c_isInN (o := 48) (lo := 41) (hi := 49) (by omega) (by omega) (by omega) (itn (by decide) (th_48 hq h hA hFq h36 ho hQ))))
  · rw [ho]
    have h36 : mI M 6 w 36 = Int32.ofNat (foff W q.1 + q.2) := by rw [h36]; unfold i36; rw [if_neg (by omega), if_pos (by rw [ho]; decide)]
    refine c_isInN (o := 49) (lo := 8) (hi := 18) (by omega) (by omega) (by omega) (itp (by decide) ?_)
    unfold w_Machine_act_j53 w_Machine_act_j100
    exact c_isInN (o := 49) (lo := 23) (hi := 40) (by omega) (by omega) (by omega) (itp (by decide) (c_isInN (o := 49) (lo := 41) (hi := 49) (by omega) (by omega) (by omega) (itn (by decide) (th_49 hq h hA hFq h36 ho hQ))))
  · rw [ho]
    have h36 : mI M 6 w 36 = Int32.ofNat (moff W q.1 + q.2) := by rw [h36]; unfold i36; rw [if_neg (by omega), if_neg (by rw [ho]; decide), if_pos (by rw [ho]; decide)]
    refine c_isInN (o := 50) (lo := 8) (hi := 18) (by omega) (by omega) (by omega) (itp (by decide) ?_)
    unfold w_Machine_act_j53
    exact c_isInN (o := 50) (lo := 23) (hi := 40) (by omega) (by omega) (by omega) (itp (by decide) (c_isInN (o := 50) (lo := 41) (hi := 49) (by omega) (by omega) (by omega) (itp (by decide) (c_isInN (o := 50) (lo := 60) (hi := 61) (by omega) (by omega) (by omega) (itp (by decide) (c_isInN (o := 50) (lo := 50) (hi := 53) (by omega) (by omega) (by omega) (itn (by decide) (ca_50 hq h hA hFq h36 hI ho hQ))))))))
  · rw [ho]
    have h36 : mI M 6 w 36 = Int32.ofNat (moff W q.1 + q.2) := by rw [h36]; unfold i36; rw [if_neg (by omega), if_neg (by rw [ho]; decide), if_pos (by rw [ho]; decide)]
    refine c_isInN (o := 51) (lo := 8) (hi := 18) (by omega) (by omega) (by omega) (itp (by decide) ?_)
    unfold w_Machine_act_j53
    exact c_isInN (o := 51) (lo := 23) (hi := 40) (by omega) (by omega) (by omega) (itp (by decide) (c_isInN (o := 51) (lo := 41) (hi := 49) (by omega) (by omega) (by omega) (itp (by decide) (c_isInN (o := 51) (lo := 60) (hi := 61) (by omega) (by omega) (by omega) (itp (by decide) (c_isInN (o := 51) (lo := 50) (hi := 53) (by omega) (by omega) (by omega) (itn (by decide) (ca_51 hq h hA hFq h36 hI ho hQ))))))))
  · rw [ho]
    have h36 : mI M 6 w 36 = Int32.ofNat (moff W q.1 + q.2) := by rw [h36]; unfold i36; rw [if_neg (by omega), if_neg (by rw [ho]; decide), if_pos (by rw [ho]; decide)]
    refine c_isInN (o := 52) (lo := 8) (hi := 18) (by omega) (by omega) (by omega) (itp (by decide) ?_)
    unfold w_Machine_act_j53
    exact c_isInN (o := 52) (lo := 23) (hi := 40) (by omega) (by omega) (by omega) (itp (by decide) (c_isInN (o := 52) (lo := 41) (hi := 49) (by omega) (by omega) (by omega) (itp (by decide) (c_isInN (o := 52) (lo := 60) (hi := 61) (by omega) (by omega) (by omega) (itp (by decide) (c_isInN (o := 52) (lo := 50) (hi := 53) (by omega) (by omega) (by omega) (itn (by decide) (ca_52 hq h hA hFq h36 hI ho hQ))))))))
  · rw [ho]
    have h36 : mI M 6 w 36 = Int32.ofNat (moff W q.1 + q.2) := by rw [h36]; unfold i36; rw [if_neg (by omega), if_neg (by rw [ho]; decide), if_pos (by rw [ho]; decide)]
    refine c_isInN (o := 53) (lo := 8) (hi := 18) (by omega) (by omega) (by omega) (itp (by decide) ?_)
    unfold w_Machine_act_j53
    exact c_isInN (o := 53) (lo := 23) (hi := 40) (by omega) (by omega) (by omega) (itp (by decide) (c_isInN (o := 53) (lo := 41) (hi := 49) (by omega) (by omega) (by omega) (itp (by decide) (c_isInN (o := 53) (lo := 60) (hi := 61) (by omega) (by omega) (by omega) (itp (by decide) (c_isInN (o := 53) (lo := 50) (hi := 53) (by omega) (by omega) (by omega) (itn (by decide) (ca_53 hq h hA hFq h36 hI ho hQ))))))))
  · rw [ho]
    refine c_isInN (o := 54) (lo := 8) (hi := 18) (by omega) (by omega) (by omega) (itp (by decide) ?_)
    exact s_54 hq h hA ho hI hqi hQ
  · rw [ho]
    refine c_isInN (o := 55) (lo := 8) (hi := 18) (by omega) (by omega) (by omega) (itp (by decide) ?_)
    exact s_55 hq h hA ho hI hqi hQ
  · rw [ho]
    refine c_isInN (o := 56) (lo := 8) (hi := 18) (by omega) (by omega) (by omega) (itp (by decide) ?_)
    exact s_56 hq h hA ho hI hqi hQ
  · rw [ho]
    refine c_isInN (o := 57) (lo := 8) (hi := 18) (by omega) (by omega) (by omega) (itp (by decide) ?_)
    exact s_57 hq h hA ho hI hqi hQ
  · rw [ho]
    refine c_isInN (o := 58) (lo := 8) (hi := 18) (by omega) (by omega) (by omega) (itp (by decide) ?_)
    exact s_58 hq h hA ho hI hqi hQ
  · rw [ho]
    refine c_isInN (o := 59) (lo := 8) (hi := 18) (by omega) (by omega) (by omega) (itp (by decide) ?_)
    exact s_59 hq h hA ho hI hqi hQ
  · rw [ho]
    refine c_isInN (o := 60) (lo := 8) (hi := 18) (by omega) (by omega) (by omega) (itp (by decide) ?_)
    unfold w_Machine_act_j53 w_Machine_act_j100
    exact c_isInN (o := 60) (lo := 23) (hi := 40) (by omega) (by omega) (by omega) (itp (by decide) (c_isInN (o := 60) (lo := 41) (hi := 49) (by omega) (by omega) (by omega) (itp (by decide) (c_isInN (o := 60) (lo := 60) (hi := 61) (by omega) (by omega) (by omega) (itn (by decide) (th_60 hq h hA ho hQ))))))
  · rw [ho]
    refine c_isInN (o := 61) (lo := 8) (hi := 18) (by omega) (by omega) (by omega) (itp (by decide) ?_)
    unfold w_Machine_act_j53 w_Machine_act_j100
    exact c_isInN (o := 61) (lo := 23) (hi := 40) (by omega) (by omega) (by omega) (itp (by decide) (c_isInN (o := 61) (lo := 41) (hi := 49) (by omega) (by omega) (by omega) (itp (by decide) (c_isInN (o := 61) (lo := 60) (hi := 61) (by omega) (by omega) (by omega) (itn (by decide) (th_61 hq h hA ho hQ))))))
end
