/-! THE MACHINE: cast, throw, the end of a frame -/
section
variable {W : List Cls} {s s' : Ms} {t c j a : Nat} {lo st : List Vl} {U : List Un} {q : Nat × Nat} {i : Ins}
theorem At.on (h : At W s t c j a lo st U i) : 0 < (k2 W c j a).length → drp st 1 ++ [tv st 0] = st := fun h0 => drp1 (by have := h.in.1.2.1; omega)
theorem a_54 (h : At W s t c j a lo st U i) (ho : i.1 = 54) : MK W (doS W t s c j a lo st U i q) t := by
  obtain ⟨⟨h1, h2⟩, -, -, -, -⟩ := h.in
  obtain ⟨tl, tk⟩ := h.tk (ws := [wRef]) (by obtain ⟨o, r⟩ := i; have ho : o = 54 := ho; subst ho; rfl)
  have e : doS W t s c j a lo st U i q = if (tv st 0).1 = 0 then sU s t (.inl (c, j, a + 1, lo, st) :: U) else match fnd W (iK i) with
      | none => failS W t s 11 50
      | some d => if (if clR s (tv st 0).1 = none then decide (d = 0) else bel W (clN s (tv st 0).1) d) = true then sU s t (.inl (c, j, a + 1, lo, st) :: U) else failS W t s 6 0 := (by obtain ⟨o, r⟩ := i; have ho : o = 54 := ho; subst ho; rfl)
  have v0 := (tk 0 (by simp)).2
  have hfl := v0.fl (Or.inl (wOne_ref (tk 0 (by simp)).1))
  have go : cv W s c (co (gmt (gc W c) j)) (2, iK i) (tv st 0) → MK W (sU s t (.inl (c, j, a + 1, lo, st) :: U)) t := fun hv => by
    refine h.nx (by rw [ho]; decide) (by obtain ⟨o, r⟩ := i; have ho : o = 54 := ho; subst ho; rfl) (sk := (k2 W c j a).take ((k2 W c j a).length - 1) ++ [(2, iK i)]) (by obtain ⟨o, r⟩ := i; have ho : o = 54 := ho; subst ho; rfl) ?_
    have := (h2.drp (n := 1)).app (cvT.one hv)
    rw [h.on (by rw [List.length_singleton] at tl; omega)] at this
    exact this
  rw [e]
  by_cases c0 : (tv st 0).1 = 0
  · rw [if_pos c0]; exact go ⟨cf.cls hfl (Or.inl c0), v0.2⟩
  rw [if_neg c0]
  cases ef : fnd W (iK i) with
  | none => exact h.fl (by omega) (by omega)
  | some d =>
    show MK W (if (if clR s (tv st 0).1 = none then decide (d = 0) else bel W (clN s (tv st 0).1) d) = true then _ else _) t
    by_cases hi : (if clR s (tv st 0).1 = none then decide (d = 0) else bel W (clN s (tv st 0).1) d) = true
    · rw [if_pos hi]
      refine go ⟨cf.cls hfl (Or.inr ⟨d, ef, ?_⟩), v0.2⟩
      cases ec : clR s (tv st 0).1 with
      | none =>
        rw [if_pos ec] at hi
        exact Or.inr (Or.inl (of_decide_eq_true hi))
      | some e' =>
        rw [if_neg (by rw [ec]; simp)] at hi
        have e2 : clN s (tv st 0).1 = e' := by unfold clN; rw [ec]; rfl
        rw [e2] at hi
        obtain ⟨⟨a1, a2⟩, -⟩ := clR_lk h.1.1.1 h.1.2.1.1.1 (v0.2 hfl) c0 ec
        obtain ⟨n, hn⟩ := bel_iff.mp hi
        rcases reach_up h.1.2.1.1.1.1.1 h.1.2.1.1.1.1.2.2 h.1.1.1 n e' d a1 a2 hn with z | z | z
        · exact Or.inr (Or.inr ⟨e', rfl, z⟩)
        · exact Or.inl z
        · exact Or.inr (Or.inl z)
    · rw [if_neg hi]; exact h.fl (by omega) (by omega)
theorem a_55 (h : At W s t c j a lo st U i) (ho : i.1 = 55) : MK W (doS W t s c j a lo st U i q) t := by
  obtain ⟨⟨h1, h2⟩, -, -, -, -⟩ := h.in
  have e : doS W t s c j a lo st U i q = if (tv st 0).1 = 0 then sU s t (.inl (c, j, a + 1, lo, drp st 1 ++ [(0, false)]) :: U) else match fnd W (iK i) with
      | none => failS W t s 11 50
      | some d => sU s t (.inl (c, j, a + 1, lo, drp st 1 ++ [(if (if clR s (tv st 0).1 = none then decide (d = 0) else bel W (clN s (tv st 0).1) d) = true then 1 else 0, false)]) :: U) := (by obtain ⟨o, r⟩ := i; have ho : o = 55 := ho; subst ho; rfl)
  have go : ∀ v, MK W (sU s t (.inl (c, j, a + 1, lo, drp st 1 ++ [(v, false)]) :: U)) t := fun v => h.nx (by rw [ho]; decide) (by obtain ⟨o, r⟩ := i; have ho : o = 55 := ho; subst ho; rfl) (sk := (k2 W c j a).take ((k2 W c j a).length - 1) ++ [(0, [])]) (by obtain ⟨o, r⟩ := i; have ho : o = 55 := ho; subst ho; rfl) (h2.drp.app (cvT.one cv.num))
  rw [e]
  by_cases c0 : (tv st 0).1 = 0
  · rw [if_pos c0]; exact go 0
  rw [if_neg c0]
  cases ef : fnd W (iK i) with
  | none => exact h.fl (by omega) (by omega)
  | some d => exact go _
theorem a_56 (h : At W s t c j a lo st U i) (ho : i.1 = 56) : MK W (doS W t s c j a lo st U i q) t := by
  obtain ⟨⟨h1, h2⟩, -, -, -, -⟩ := h.in
  obtain ⟨tl, tk⟩ := h.tk (ws := [(0, (2, nFault))]) (by obtain ⟨o, r⟩ := i; have ho : o = 56 := ho; subst ho; rfl)
  have e : doS W t s c j a lo st U i q = if (tv st 0).1 = 0 then failS W t s 2 0 else unw W t (gU s t) (tv st 0).1 s := (by obtain ⟨o, r⟩ := i; have ho : o = 56 := ho; subst ho; rfl)
  rw [e]
  by_cases c0 : (tv st 0).1 = 0
  · rw [if_pos c0]; exact h.fl (by omega) (by omega)
  rw [if_neg c0]
  have hB := h.1.1.1
  have v0 := (tk 0 (by simp)).2.fit hB (wOne_fit (tk 0 (by simp)).1 (show ¬ (2 : Int) = 0 by decide))
  obtain ⟨hb, hr⟩ := v0.1.2.2.2.1 rfl
  obtain ⟨d, hd, hr⟩ := hr.resolve_left c0
  have hd : fnd W nFault = some d := hd
  rw [hB.fault] at hd; cases hd
  rcases hr with z | z | ⟨e', he, hp⟩
  · rw [hB.nface (by omega)] at z; cases z
  · cases z
  · have hl := (clR_lk hB h.1.2.1.1.1 (v0.2 hb) c0 he).1
    have hg := h.2.1
    refine unw_ok h.1.1 _ none _ _ (by rw [hg]; exact h.1.2.1) h.1.2.2 ⟨v0.2 hb, e', he, hl, hp⟩ ?_
    rw [hg]
    have := h.2.2.2
    show _ + (U.length + 1) < _
    omega
/-- what a maker made is made -/
theorem WO.fn (hW : WO W) (hc : c < W.length) : fnd W (gc W c).1 = some c := by
  have hs := fnd_spec (nm := (gc W c).1) (W := W)
  cases e : fnd W (gc W c).1 with
  | none => rw [e] at hs; exact absurd rfl (hs c hc)
  | some k =>
    rw [e] at hs
    have hn := hW.2.2.1.2
    have e1 : (W.map (·.1))[k]'(by simpa using hs.1) = (W.map (·.1))[c]'(by simpa using hc) := by
      rw [List.getElem_map, List.getElem_map]
      have g : ∀ i (hi : i < W.length), gc W i = W[i] := fun i hi => by
        show W.getD i _ = _
        rw [List.getD_eq_getElem?_getD, List.getElem?_eq_getElem hi]; rfl
      rw [← g k hs.1, ← g c hc]; exact hs.2.1
    have hp := List.pairwise_iff_getElem.mp hn
    have : k = c := by
      rcases Nat.lt_trichotomy k c with z | z | z
      · exact absurd e1 (hp k c _ _ z)
      · exact z
      · exact absurd e1.symm (hp c k _ _ z)
    rw [this]
theorem made_cv (hW : WO W) (hc : c < W.length) {x : Mth} {κ κ0 : Kd} {v : Vl} (hv : cv W s c (co x) κ v) (hm : mkRight W c x κ0 (iK i) = true) : cv W s c (co x) (made W c i κ0 κ) v := by
  unfold made
  by_cases e : κ = κ0
  · rw [if_pos e]
    subst e
    unfold mkRight at hm
    by_cases c3 : κ.1 = -3
    · rw [if_pos c3]
      obtain ⟨hb, h0, e', he, hp⟩ := hv.1.2.2.2.2.1 c3
      exact ⟨cf.cls hb (Or.inr ⟨c, hW.fn hc, Or.inr (Or.inr ⟨e', he, hp⟩)⟩), hv.2⟩
    · rw [if_neg c3] at hm ⊢
      by_cases c10 : κ.1 ≤ -10
      · rw [if_pos c10] at hm
        obtain ⟨hb, h0, e', he, hp⟩ := hv.1.2.2.2.2.2 c10
        rw [of_decide_eq_true hm] at hp
        exact ⟨cf.cls hb (Or.inr ⟨e', hp, Or.inr (Or.inr ⟨e', he, Reach.rf _ _⟩)⟩), hv.2⟩
      · rw [if_neg c10] at hm; cases hm
  · rw [if_neg e]; exact hv
theorem gk_map {f : Kd → Kd} {ks : List Kd} {k : Nat} (h : k < ks.length) : gk (ks.map f) k = f (gk ks k) := by
  show (ks.map f).getD k _ = f (ks.getD k _)
  rw [List.getD_eq_getElem?_getD, List.getElem?_map, List.getD_eq_getElem?_getD, List.getElem?_eq_getElem h]; rfl
theorem made_L (hW : WO W) (hc : c < W.length) {x : Mth} {κ0 : Kd} {ks : List Kd} {vs : List Vl} (hv : cvL W s c (co x) ks vs) (hm : mkRight W c x κ0 (iK i) = true) : cvL W s c (co x) (ks.map (made W c i κ0)) vs := fun k hk => by
  rw [List.length_map] at hk
  rw [gk_map hk]
  exact made_cv hW hc (hv k hk) hm
/-- a call's maker is right -/
theorem ownS_mr {x : Mth} {l0 s0 : List Kd} (h : ownS W c x i l0 s0 = 0) (hm : isMk i) : mkRight W c x (tp s0 (iA i).length) (iK i) = true := by
  unfold ownS at h
  rw [if_neg (by rw [hm.1]; decide), if_neg (by rw [hm.1]; decide), if_neg (by rw [hm.1]; decide), if_neg (by rw [hm.1]; decide), if_pos hm.1, if_pos hm.2] at h
  by_cases c1 : mkRight W c x (tp s0 (iA i).length) (iK i) = true
  · exact c1
  · rw [if_neg c1] at h; exact absurd h (by decide)
theorem ownS_nmk {x : Mth} {l0 s0 : List Kd} (h : ownS W c x i l0 s0 = 0) (ho : i.1 = 50 ∨ i.1 = 52 ∨ i.1 = 53) : iM i ≠ nMake := fun z => by
  unfold ownS at h
  rw [if_neg (by omega), if_neg (by omega), if_neg (by omega), if_pos ho, if_pos z] at h
  exact absurd h (by decide)
/-- a call has ended: what comes is of its kind -/
theorem ret_ok (hW : WO W) {κ : Kd} (hM : MO W s t (some κ) (.inl (c, j, a, lo, st) :: U)) (hon : lSt (zN s t) = 1) {vs : List Vl} (hv : cvT W s c (co (gmt (gc W c) j)) (if κ.1 = -4 then [] else [κ]) vs) : MK W (sU s t (.inl (c, j, a + 1, lo, st ++ vs) :: U)) t := by
  obtain ⟨⟨hF, ⟨⟨hmo, hir⟩, hlo, hsl, hst⟩, hR⟩, hnd, hfr⟩ := hM.2.2.2.1
  obtain ⟨hck, hb, hwf, ⟨s1, g1, -⟩, hlen⟩ := hF.in hW hM.1.1
  obtain ⟨q1, q2, q3, q4, q5, -⟩ := stepS_in g1
  have hF' := hF
  have hsl : ((kAt W c (gmt (gc W c) j) a).2.take ((kAt W c (gmt (gc W c) j) a).2.length - (wlist W c (gmt (gc W c) j) (gin (co (gmt (gc W c) j)) a)).length)).length = st.length := hsl
  have hst : cvL W s c (co (gmt (gc W c) j)) ((kAt W c (gmt (gc W c) j) a).2.take ((kAt W c (gmt (gc W c) j) a).2.length - (wlist W c (gmt (gc W c) j) (gin (co (gmt (gc W c) j)) a)).length)) st := hst
  have hlo : cvL W s c (co (gmt (gc W c) j)) (kAt W c (gmt (gc W c) j) a).1 lo := hlo
  generalize hx : gmt (gc W c) j = x at *
  generalize hi : gin (co x) a = i at *
  have hg : goesOn i.1 := ⟨by omega, by omega, by omega, by omega⟩
  have hps : ∀ l0 s0, pushS i a l0 s0 = if κ.1 = -4 then [] else [κ] := fun l0 s0 => by
    unfold pushS
    rw [if_neg (by omega), if_neg (by omega), if_neg (by omega), if_neg (by omega), if_neg (by omega), if_neg (by omega), if_neg (by omega), if_neg (by omega), if_neg (by omega), if_neg (by omega), if_pos hmo, hir]
  refine nx_ok hW (o := some κ) (by rw [← hx] at *; exact hM) hon (by rw [hx, hi]; exact hg) ?_ hF'.2.2.2.1 hF'.2.2.2.2 ?_
  · rw [hx, hi]
    unfold loS
    rw [if_neg (by omega), if_neg (by omega)]
    by_cases cm : isMk i
    · rw [if_pos cm]; exact made_L hW hF'.1.2.1 hlo (ownS_mr q3 cm)
    · rw [if_neg cm]; exact hlo
  · rw [hx, hi]
    unfold stS
    rw [hps]
    refine cvT.app ?_ hv
    unfold restS
    rw [if_neg (by omega)]
    by_cases cm : isMk i
    · rw [if_pos cm]; exact ⟨by rw [List.length_map]; exact hsl, made_L hW hF'.1.2.1 hst (ownS_mr q3 cm)⟩
    · rw [if_neg cm]; exact ⟨hsl, hst⟩
end
