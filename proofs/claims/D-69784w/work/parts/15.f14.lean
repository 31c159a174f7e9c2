/-! THE MACHINE: calls and ends of frames keep kinds -/
section
variable {W : List Cls} {s s' : Ms} {t c j a : Nat} {lo st : List Vl} {U : List Un} {q : Nat × Nat} {i : Ins} {o : Option Kd}
theorem fin_ok {k : Nat} {r : Int32 × Int32 × Int32 × Int32} (h : MO W s t o []) (hk : k = 0 ∨ k = 2) : MK W (yN s (up1 (zN s) t (qR (zN s t) k r))) t := by
  have hs : sle s (yN s (up1 (zN s) t (qR (zN s t) k r))) := sle_of rfl rfl
  have e : zN (yN s (up1 (zN s) t (qR (zN s t) k r))) t = qR (zN s t) k r := up1_s
  have eg : gU (yN s (up1 (zN s) t (qR (zN s t) k r))) t = [] := by show lU (zN (yN s (up1 (zN s) t (qR (zN s t) k r))) t) = []; rw [e]
  refine ⟨?_, fun _ => eg⟩
  rw [eg]
  refine h.mv (h.1.1.same rfl rfl rfl rfl rfl rfl) h.1.2.1 h.1.2.2 hs (fun k hk => hk) (fun t' _ hne => up1_o hne) ?_ (Nat.le_refl _) (fun t' _ _ k _ => ⟨rfl, rfl⟩) ⟨trivial, List.nodup_nil, Nat.zero_le _⟩ (fun k hk => ?_)
  · obtain ⟨x1, ⟨x2, x4⟩, x3⟩ := h.2.1.2 t h.2.1.1
    unfold LX
    rw [e]
    exact ⟨fun z => absurd (show k = 1 from z) (by omega), ⟨by show k ≤ 2; omega, x4⟩, x3⟩
  · exact h.2.2.2.2 k hk
theorem MO.popF {f : Fm} (h : MO W s t o (.inl f :: U)) : MO W s t (some (gmt (gc W f.1) f.2.1).2.2.1) U := by
  obtain ⟨⟨hF, hU, hR⟩, hnd, hfr⟩ := h.2.2.2.1
  have hfr : frs U + 1 ≤ 40 := hfr
  exact ⟨h.1, h.2.1, h.2.2.1, ⟨hR, hnd, by omega⟩, h.2.2.2.2⟩
theorem ev_on {w k : Nat} {m : Option Nat} (h : lSt (zN s t) = 1) : lSt (zN (evS s t w k m) t) = 1 := by rw [evS_r.2.2.2.2.2.2.2.1]; exact h
theorem leave_ok (hW : WO W) {op : Nat} {v : Int32} (h : MO W s t none (.inl (c, j, a, lo, st) :: U)) (hon : lSt (zN s t) = 1) (hv : ∀ c' C', cvT W s c' C' (if (gmt (gc W c) j).2.2.1.1 = -4 then [] else [(gmt (gc W c) j).2.2.1]) (if op = 57 then [] else [(v, decide (op = 59))])) : MK W (leaveS s t c j op v U) t := by
  have h1 := (h.popF).ev (t' := t) (w := 2) (k := c) (m := some j)
  have hon1 := ev_on (s := s) (t := t) (w := 2) (k := c) (m := some j) hon
  have hsl : sle s (evS s t 2 c (some j)) := sle_of evS_r.2.2.2.2.2.1 evS_r.2.2.2.2.2.2.1
  cases U with
  | nil => exact fin_ok h1 (Or.inl rfl)
  | cons u U' =>
    cases u with
    | inr k =>
      obtain ⟨k, b⟩ := k
      have h2 := h1.popS (v := 2) (Or.inl rfl)
      show MK W (evS (sU (yC (evS s t 2 c (some j)) (up1 (zC s) k 2)) t U') t 5 k none) t
      have ec : zC (evS s t 2 c (some j)) = zC s := evS_r.2.1
      rw [ec] at h2
      have eg : gU (evS (sU (yC (evS s t 2 c (some j)) (up1 (zC s) k 2)) t U') t 5 k none) t = U' := by
        show lU (zN (evS _ _ _ _ _) t) = _
        rw [evS_r.2.2.2.2.2.2.2.1]; exact gU_sU
      refine ⟨by rw [eg]; exact h2.put.ev, fun z => absurd ?_ z⟩
      refine ev_on ?_
      show lSt (up1 (zN (evS s t 2 c (some j))) t _ t) = 1
      rw [up1_s]; exact hon1
    | inl g =>
      obtain ⟨c', j', a', lo', st'⟩ := g
      exact ret_ok hW h1 hon1 ((hv c' (co (gmt (gc W c') j'))).sle hsl)
theorem a_57 (h : At W s t c j a lo st U i) (ho : i.1 = 57) : MK W (doS W t s c j a lo st U i q) t := by
  obtain ⟨-, -, -, ⟨-, h6, -⟩, -⟩ := h.in
  have e : doS W t s c j a lo st U i q = leaveS s t c j 57 0 U := (by obtain ⟨o, r⟩ := i; have ho : o = 57 := ho; subst ho; rfl)
  rw [e]
  have hr : (gmt (gc W c) j).2.2.1.1 = -4 := by
    unfold ownS at h6
    rw [if_pos ho] at h6
    split at h6
    · exact absurd h6 (by decide)
    split at h6
    · assumption
    · exact absurd h6 (by decide)
  refine leave_ok h.1.1 h.1.2.1 h.1.2.2 (fun c' C' => ?_)
  rw [if_pos hr]; exact cvT.nil
theorem a_58 (h : At W s t c j a lo st U i) (ho : i.1 = 58) : MK W (doS W t s c j a lo st U i q) t := by
  obtain ⟨-, -, -, ⟨-, h6, -⟩, -⟩ := h.in
  have e : doS W t s c j a lo st U i q = leaveS s t c j 58 (tv st 0).1 U := (by obtain ⟨o, r⟩ := i; have ho : o = 58 := ho; subst ho; rfl)
  rw [e]
  have hr : (gmt (gc W c) j).2.2.1.1 = 0 := by
    unfold ownS at h6
    rw [if_neg (by omega), if_pos ho] at h6
    split at h6
    · assumption
    · exact absurd h6 (by decide)
  obtain ⟨⟨hF, -⟩, -⟩ := h.1.2.1.2.2.2.1
  have hk := ((h.1.1).m hF.1.1 hF.1.2.1 hF.2.1).1.2.1
  have hr' : (gmt (gc W c) j).2.2.1 = (0, []) := by
    rcases hk with z | z | z | z
    · exact z
    · have z : (gmt (gc W c) j).2.2.1 = (1, []) := z
      rw [z] at hr; exact absurd hr (by decide)
    · have z : (gmt (gc W c) j).2.2.1 = (-4, []) := z
      rw [z] at hr; exact absurd hr (by decide)
    · have z : (gmt (gc W c) j).2.2.1.1 = 2 := z
      rw [z] at hr; exact absurd hr (by decide)
  refine leave_ok h.1.1 h.1.2.1 h.1.2.2 (fun c' C' => ?_)
  rw [hr', if_neg (by decide), if_neg (by decide)]
  exact cvT.one cv.num
theorem a_59 (h : At W s t c j a lo st U i) (ho : i.1 = 59) : MK W (doS W t s c j a lo st U i q) t := by
  obtain ⟨-, -, -, ⟨-, h6, -⟩, -⟩ := h.in
  have e : doS W t s c j a lo st U i q = leaveS s t c j 59 (tv st 0).1 U := (by obtain ⟨o, r⟩ := i; have ho : o = 59 := ho; subst ho; rfl)
  rw [e]
  have hr : (gmt (gc W c) j).2.2.1.1 = 1 ∨ (gmt (gc W c) j).2.2.1.1 = 2 := by
    unfold ownS at h6
    rw [if_neg (by omega), if_neg (by omega), if_pos ho] at h6
    split at h6
    · assumption
    · exact absurd h6 (by decide)
  obtain ⟨⟨hF, -⟩, -⟩ := h.1.2.1.2.2.2.1
  have hk := ((h.1.1).m hF.1.1 hF.1.2.1 hF.2.1).1.2.1
  have hty : tyOk (gmt (gc W c) j).2.2.1 := by
    rcases hk with z | z | z | z
    · exact Or.inl z
    · exact Or.inr (Or.inl z)
    · have z : (gmt (gc W c) j).2.2.1 = (-4, []) := z
      rw [z] at hr; exact absurd hr (by decide)
    · exact Or.inr (Or.inr z)
  have hw : wlist W c (gmt (gc W c) j) i = [(0, (gmt (gc W c) j).2.2.1)] := by
    have e : wlist W c (gmt (gc W c) j) i = [if (gmt (gc W c) j).2.2.1.1 = 1 ∨ (gmt (gc W c) j).2.2.1.1 = 2 then (0, (gmt (gc W c) j).2.2.1) else wRef] := (by obtain ⟨o, r⟩ := i; have ho : o = 59 := ho; subst ho; rfl)
    rw [e, if_pos hr]
  obtain ⟨tl, tk⟩ := h.tk hw
  have v0 := wOne_ty h.1.1.1 hty (tk 0 (by simp)).1 (tk 0 (by simp)).2
  have hfl := v0.ty hty
  rw [decide_eq_true (show (gmt (gc W c) j).2.2.1.1 ≠ 0 by omega)] at hfl
  have ev : tv st 0 = ((tv st 0).1, true) := Prod.ext rfl hfl
  refine leave_ok h.1.1 h.1.2.1 h.1.2.2 (fun c' C' => ?_)
  rw [if_neg (show ¬ (gmt (gc W c) j).2.2.1.1 = -4 by omega), if_neg (by decide)]
  refine cvT.one ?_
  rw [ev] at v0
  exact v0.any hty
/-! calls -/
abbrev xi (i : Ins) : Mth := (iM i, iA i, iR i, 0, 0, 0, [], [])
theorem lv_drop {n k : Nat} : lv (st.drop n) k = lv st (n + k) := by
  show (st.drop n).getD k _ = st.getD (n + k) _
  rw [List.getD_eq_getElem?_getD, List.getElem?_drop, List.getD_eq_getElem?_getD]
/-- arguments of a call are on the stack -/
theorem cl_args (h : At W s t c j a lo st U i) {T : List Wt} (hw : wlist W c (gmt (gc W c) j) i = (iA i).reverse.map (fun κ => (0, κ)) ++ T) : (iA i).length + T.length ≤ st.length ∧ (∀ m, m < (iA i).length → cv W s c (co (gmt (gc W c) j)) (gk (iA i) m) (lv (st.drop (st.length - ((iA i).length + T.length))) (T.length + m))) ∧ ∀ (h1 : 0 < T.length), wOne W T[0] (tp (k2 W c j a) (iA i).length) = 0 ∧ cv W s c (co (gmt (gc W c) j)) (tp (k2 W c j a) (iA i).length) (tv st (iA i).length) := by
  obtain ⟨⟨-, h2⟩, -, -, -, hwf⟩ := h.in
  obtain ⟨tl, tk⟩ := h.tk hw
  have hlen : ((iA i).reverse.map (fun κ => ((0, κ) : Wt)) ++ T).length = (iA i).length + T.length := by simp
  rw [hlen] at tl
  have hst := h2.1
  refine ⟨by omega, fun m hm => ?_, fun h1 => ?_⟩
  · have hk : (iA i).length - 1 - m < ((iA i).reverse.map (fun κ => ((0, κ) : Wt)) ++ T).length := by omega
    obtain ⟨w1, w2⟩ := tk ((iA i).length - 1 - m) hk
    have ew : ((iA i).reverse.map (fun κ => ((0, κ) : Wt)) ++ T)[(iA i).length - 1 - m] = (0, gk (iA i) m) := by
      rw [List.getElem_append_left (by simp; omega), List.getElem_map, List.getElem_reverse]
      congr 1
      show _ = (iA i).getD m _
      rw [List.getD_eq_getElem?_getD, List.getElem?_eq_getElem hm]
      show (iA i)[(iA i).length - 1 - ((iA i).length - 1 - m)] = (iA i)[m]
      congr 1; omega
    rw [ew] at w1
    have hty : tyOk (gk (iA i) m) := hwf.2.1.2.2.2.2.1 _ (gk_mem hm)
    have := wOne_ty h.1.1.1 hty w1 w2
    rw [lv_drop]
    have e : tv st ((iA i).length - 1 - m) = lv st (st.length - ((iA i).length + T.length) + (T.length + m)) := by
      show st.getD (st.length - 1 - ((iA i).length - 1 - m)) _ = st.getD _ _
      congr 1; omega
    rw [e] at this; exact this
  · have hk : (iA i).length < ((iA i).reverse.map (fun κ => ((0, κ) : Wt)) ++ T).length := by omega
    obtain ⟨w1, w2⟩ := tk (iA i).length hk
    have ew : ((iA i).reverse.map (fun κ => ((0, κ) : Wt)) ++ T)[(iA i).length] = T[0] := by
      rw [List.getElem_append_right (by simp)]
      congr 1; simp
    rw [ew] at w1
    exact ⟨w1, w2⟩
/-- a method is entered, or a maker from the beginning is done -/
theorem go_ok (h : At W s t c j a lo st U i) (hmo : isMo i.1) {T : List Wt} (hw : wlist W c (gmt (gc W c) j) i = (iA i).reverse.map (fun κ => (0, κ)) ++ T) {m : Nat × Nat} (hm : m.1 < W.length ∧ m.2 < (gc W m.1).2.2.2.2.2.length) (hlk : lik (gmt (gc W m.1) m.2) (xi i)) (hl : (zL s).1 m.1 = 1) (h8 : (gmt (gc W m.1) m.2).2.2.2.1 &&& 8 = 0)
    (hT : (T = [] ∧ ¬ (gmt (gc W m.1) m.2).2.2.2.1 &&& 1 = 0) ∨ (T.length = 1 ∧ (gmt (gc W m.1) m.2).2.2.2.1 &&& 1 = 0 ∧ (tv st (iA i).length).2 = true ∧ vRf s (tv st (iA i).length).1 ∧ (tv st (iA i).length).1 ≠ 0 ∧ (isFc W m.1 = true ∨ m.1 = 0 ∨ ∃ e, clR s (tv st (iA i).length).1 = some e ∧ PB W e m.1) ∧ (iM i = nMake → ∃ e, clR s (tv st (iA i).length).1 = some e ∧ PB W e m.1))) :
    MK W (if m.1 < 21 then sU s t (.inl (c, j, a + 1, lo, drp st ((iA i).length + T.length)) :: U) else enterS W t s (.inl (c, j, a, lo, drp st ((iA i).length + T.length)) :: U) m.1 m.2 (st.drop (st.length - ((iA i).length + T.length)))) t := by
  obtain ⟨⟨h1, h2⟩, h3, h5, ⟨-, h6, -⟩, hwf⟩ := h.in
  obtain ⟨al, ag, ar⟩ := cl_args h hw
  have hlen : (wlist W c (gmt (gc W c) j) i).length = (iA i).length + T.length := by rw [hw]; simp
  obtain ⟨⟨hF, hA, hR⟩, hnd, hfr⟩ := h.1.2.1.2.2.2.1
  have hi := h.2.2.1
  by_cases c21 : m.1 < 21
  · rw [if_pos c21]
    have hmk := h.1.1.1.mk c21 hm.2
    rw [hmk] at hlk
    have e1 : iM i = nMake := hlk.1.symm
    have e2 : iA i = [] := hlk.2.1.symm
    have e3 : iR i = (-4, []) := hlk.2.2.symm
    have o51 : i.1 = 51 := Classical.byContradiction (fun z => ownS_nmk h6 (by omega) e1)
    have cm : isMk i := ⟨o51, e1⟩
    have hps : pushS i a (k1 W c j a) (k2 W c j a) = [] := by
      unfold pushS
      rw [if_neg (by omega), if_neg (by omega), if_neg (by omega), if_neg (by omega), if_neg (by omega), if_neg (by omega), if_neg (by omega), if_neg (by omega), if_neg (by omega), if_neg (by omega), if_pos hmo, e3, if_pos rfl]
    refine h.nxL ⟨by omega, by omega, by omega, by omega⟩ (lk := (k1 W c j a).map (made W c i (tp (k2 W c j a) (iA i).length))) (by unfold loS; rw [if_neg (by omega), if_neg (by omega), if_pos cm]) (sk := ((k2 W c j a).take ((k2 W c j a).length - (wlist W c (gmt (gc W c) j) i).length)).map (made W c i (tp (k2 W c j a) (iA i).length)) ++ []) (by unfold stS restS; rw [if_neg (by omega), if_pos cm, hps]) (made_L h.1.1 hF.1.2.1 h1 (ownS_mr h6 cm)) h3.1 h5 (cvT.e ?_)
    have h2' := h2.drp (n := (iA i).length + T.length)
    rw [hlen]
    exact ⟨by rw [List.length_map]; exact h2'.1, made_L h.1.1 hF.1.2.1 h2'.2 (ownS_mr h6 cm)⟩
  rw [if_neg c21]
  have hV : UO W s t (some (gmt (gc W m.1) m.2).2.2.1) (.inl (c, j, a, lo, drp st ((iA i).length + T.length)) :: U) := by
    refine ⟨hF, ⟨⟨?_, ?_⟩, h1, ?_⟩, hR⟩
    · show isMo (gin (co (gmt (gc W c) j)) a).1
      rw [← hi]; exact hmo
    · show iR (gin (co (gmt (gc W c) j)) a) = _
      rw [← hi]; exact hlk.2.2.symm
    · have h2' := h2.drp (n := (wlist W c (gmt (gc W c) j) (gin (co (gmt (gc W c) j)) a)).length)
      rw [← hi, hlen] at h2'
      show (List.take ((k2 W c j a).length - (wlist W c (gmt (gc W c) j) (gin (co (gmt (gc W c) j)) a)).length) (k2 W c j a)).length = _ ∧ cvL W s c _ (List.take ((k2 W c j a).length - (wlist W c (gmt (gc W c) j) (gin (co (gmt (gc W c) j)) a)).length) (k2 W c j a)) _
      rw [← hi, hlen]; exact h2'
  have hg := h.2.1
  have hks : (gmt (gc W m.1) m.2).2.1 = iA i := hlk.2.1
  have hwm := h.1.1.m (show 21 ≤ m.1 by omega) hm.1 hm.2
  refine enterS_ok h.1.1 (o := none) (by rw [hg]; exact h.1.2.1) h.1.2.2 ⟨by omega, hm.1, hl⟩ hm.2 (h.1.1.co (by omega) hm.1 hm.2 h8) ?_ ?_ hV ?_ ?_ ?_
  · rw [List.length_drop]
    unfold begL
    rw [List.length_append, hks]
    rcases hT with ⟨z1, z2⟩ | ⟨z1, z2, -⟩
    · rw [if_neg z2, z1] at *
      simp only [List.length_nil] at *; omega
    · rw [if_pos z2, List.length_singleton]; omega
  · rcases hT with ⟨z1, z2⟩ | ⟨z1, z2, z3, z4, z5, z6, z7⟩
    · have eb : begL W m.1 (gmt (gc W m.1) m.2) = iA i := by unfold begL; rw [if_neg z2, hks]; rfl
      rw [eb]
      intro k hk
      have := ag k hk
      rw [z1] at this ⊢
      simp only [List.length_nil, Nat.zero_add, Nat.add_zero] at this ⊢
      exact this.any (hwf.2.1.2.2.2.2.1 _ (gk_mem hk))
    · have eb : begL W m.1 (gmt (gc W m.1) m.2) = (if (gmt (gc W m.1) m.2).1 = nMake then (-3, []) else (2, (gc W m.1).1)) :: iA i := by unfold begL; rw [if_pos z2, hks]; rfl
      rw [eb]
      intro k hk
      have hk' : k < (iA i).length + 1 := hk
      have ev : lv (st.drop (st.length - ((iA i).length + T.length))) 0 = tv st (iA i).length := by
        rw [lv_drop]
        show st.getD _ _ = st.getD _ _
        congr 1; omega
      cases k with
      | zero =>
        rw [ev]
        show cv W s m.1 _ (if (gmt (gc W m.1) m.2).1 = nMake then (-3, []) else (2, (gc W m.1).1)) _
        by_cases cm : (gmt (gc W m.1) m.2).1 = nMake
        · rw [if_pos cm]
          have hn : iM i = nMake := hlk.1.symm.trans cm
          exact ⟨⟨fun z => absurd z (by decide), fun z => absurd z (by decide), fun z => absurd z (by decide), fun z => absurd z (by decide), fun _ => ⟨z3, z5, z7 hn⟩, fun z => absurd z (by decide)⟩, fun _ => z4⟩
        · rw [if_neg cm]
          exact ⟨cf.cls z3 (Or.inr ⟨m.1, h.1.1.fn hm.1, z6⟩), fun _ => z4⟩
      | succ k =>
        have := ag k (by omega)
        rw [z1, show 1 + k = k + 1 by omega] at this
        rw [z1]
        exact this.any (hwf.2.1.2.2.2.2.1 _ (gk_mem (by omega)))
  · rw [hg]; rfl
  · rw [hg]; rfl
  · rw [hg]
    have := h.2.2.2
    show _ + (U.length + 1) + 1 < _
    omega
end
