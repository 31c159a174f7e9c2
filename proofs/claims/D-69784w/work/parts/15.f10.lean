/-! THE MACHINE: simple instructions keep kinds (printed by gen/ac.py) -/
theorem drp0 {st : List Vl} : drp st 0 = st := by unfold drp; rw [Nat.sub_zero, List.take_length]
theorem cvT.e {W : List Cls} {s : Ms} {c : Nat} {C : List Ins} {ks : List Kd} {vs : List Vl} (h : cvT W s c C ks vs) : cvT W s c C (ks ++ []) vs := by rw [List.append_nil]; exact h
theorem cvT.d0 {W : List Cls} {s : Ms} {c : Nat} {C : List Ins} {ks : List Kd} {vs : List Vl} (h : cvT W s c C ks vs) : cvT W s c C (ks.take (ks.length - 0)) vs := by rw [Nat.sub_zero, List.take_length]; exact h
theorem drp1 {st : List Vl} (h : 0 < st.length) : drp st 1 ++ [tv st 0] = st := by
  unfold drp
  have e : tv st 0 = st[st.length - 1] := by
    show st.getD (st.length - 1 - 0) _ = _
    rw [Nat.sub_zero, List.getD_eq_getElem?_getD, List.getElem?_eq_getElem (by omega)]; rfl
  rw [e]
  have := List.take_concat_get (l := st) (i := st.length - 1) (by omega)
  rw [List.concat_eq_append, show st.length - 1 + 1 = st.length by omega, List.take_length] at this
  exact this
section
variable {W : List Cls} {s : Ms} {t c j a : Nat} {lo st : List Vl} {U : List Un} {q : Nat × Nat}
/-- a frame at its instruction -/
def At (W : List Cls) (s : Ms) (t c j a : Nat) (lo st : List Vl) (U : List Un) (i : Ins) : Prop := (WO W ∧ MO W s t none (.inl (c, j, a, lo, st) :: U) ∧ lSt (zN s t) = 1) ∧ gU s t = .inl (c, j, a, lo, st) :: U ∧ i = gin (co (gmt (gc W c) j)) a ∧ (zF s).length + U.length + 3 < 1000000
abbrev k1 (W : List Cls) (c j a : Nat) : List Kd := (kAt W c (gmt (gc W c) j) a).1
abbrev k2 (W : List Cls) (c j a : Nat) : List Kd := (kAt W c (gmt (gc W c) j) a).2
theorem At.in {i : Ins} (h : At W s t c j a lo st U i) : (cvL W s c (co (gmt (gc W c) j)) (k1 W c j a) lo ∧ cvT W s c (co (gmt (gc W c) j)) (k2 W c j a) st) ∧ (lo.length = 20 ∧ (k1 W c j a).length ≤ 20 ∧ (k1 W c j a).length = lr (gmt (gc W c) j)) ∧ (∀ v ∈ lo, v.2 = true → vRf s v.1) ∧ (takenS W c (gmt (gc W c) j) i (k1 W c j a) (k2 W c j a) = 0 ∧ ownS W c (gmt (gc W c) j) i (k1 W c j a) (k2 W c j a) = 0 ∧ thenS W (gmt (gc W c) j) i a (loS W c i (k1 W c j a) (k2 W c j a)) (stS W c (gmt (gc W c) j) i a (k1 W c j a) (k2 W c j a)) = 0) ∧ wfI (co (gmt (gc W c) j)).length i := by
  obtain ⟨⟨hW, hM, hon⟩, -, hi, -⟩ := h
  obtain ⟨⟨hF, hA, hR⟩, hnd, hfr⟩ := hM.2.2.2.1
  obtain ⟨hck, hb, hwf, ⟨s1, g1, -⟩, hlen⟩ := hF.in hW hM.1.1
  obtain ⟨q1, q2, q3, q4, q5, -⟩ := stepS_in g1
  rw [hi]
  exact ⟨⟨hA.1, hA.2.1, hA.2.2⟩, ⟨hF.2.2.2.1, by rw [hlen]; exact hb.2.1, hlen⟩, hF.2.2.2.2, ⟨q2, q3, q5⟩, hwf.2.2.1.2 _ (getD_mem hF.2.2.1)⟩
theorem takenS_in {i : Ins} {x : Mth} {l0 s0 : List Kd} (h : takenS W c x i l0 s0 = 0) : ¬ ((3 ≤ i.1 ∧ i.1 ≤ 7) ∧ lr x ≤ iL i) ∧ takeS W s0 (wlist W c x i) = 0 ∧ ¬ (((i.1 = 3 ∨ i.1 = 7) ∧ (gk l0 (iL i)).1 ≠ 0) ∨ (i.1 = 4 ∧ rfK (gk l0 (iL i)) = false ∧ umK (gk l0 (iL i)) = false)) := by
  unfold takenS at h
  by_cases c1 : (3 ≤ i.1 ∧ i.1 ≤ 7) ∧ lr x ≤ iL i
  · rw [if_pos c1] at h; exact absurd h (by decide)
  rw [if_neg c1] at h
  by_cases c2 : takeS W s0 (wlist W c x i) ≠ 0
  · rw [if_pos c2] at h; exact absurd h c2
  rw [if_neg c2] at h
  refine ⟨c1, Classical.not_not.mp c2, fun z => ?_⟩
  rw [if_pos z] at h; exact absurd h (by decide)
/-- what an instruction takes is on the stack -/
theorem At.tk {i : Ins} {ws : List Wt} (h : At W s t c j a lo st U i) (hw : wlist W c (gmt (gc W c) j) i = ws) : ws.length ≤ (k2 W c j a).length ∧ ∀ k (hk : k < ws.length), wOne W ws[k] (tp (k2 W c j a) k) = 0 ∧ cv W s c (co (gmt (gc W c) j)) (tp (k2 W c j a) k) (tv st k) := by
  obtain ⟨⟨h1, h2⟩, -, -, ⟨h4, -⟩, -⟩ := h.in
  have := takeS_in (hw ▸ (takenS_in h4).2.1)
  exact ⟨this.1, fun k hk => ⟨this.2 k hk, h2.top (by omega)⟩⟩
theorem At.nx {i : Ins} {st' : List Vl} {sk : List Kd} (h : At W s t c j a lo st U i) (hg : goesOn i.1) (el : loS W c i (k1 W c j a) (k2 W c j a) = k1 W c j a) (es : stS W c (gmt (gc W c) j) i a (k1 W c j a) (k2 W c j a) = sk) (hs : cvT W s c (co (gmt (gc W c) j)) sk st') : MK W (sU s t (.inl (c, j, a + 1, lo, st') :: U)) t := by
  obtain ⟨⟨h1, h2⟩, h3, h5, -⟩ := h.in
  have hi := h.2.2.1
  refine nx_ok h.1.1 h.1.2.1 h.1.2.2 (by rw [← hi]; exact hg) (by rw [← hi]; show cvL _ _ _ _ (loS W c i (k1 W c j a) (k2 W c j a)) _; rw [el]; exact h1) h3.1 h5 (by rw [← hi]; show cvT _ _ _ _ (stS W c _ i a (k1 W c j a) (k2 W c j a)) _; rw [es]; exact hs)
theorem At.fl {i : Ins} {f : Nat} {ru : Int32} (h : At W s t c j a lo st U i) (h1 : 1 ≤ f) (h2 : f < 21) : MK W (failS W t s f ru) t := by
  have hg := h.2.1
  refine failS_ok h.1.1 (o := none) (by rw [hg]; exact h.1.2.1) h.1.2.2 h1 h2 ?_
  rw [hg]
  have := h.2.2.2
  show _ + (U.length + 1) + 1 < _
  omega
theorem set_cv {C : List Ins} {ks : List Kd} {vs : List Vl} {k : Nat} {κ : Kd} {v : Vl} (h : cvL W s c C ks vs) (hk : k < vs.length) (hv : cv W s c C κ v) : cvL W s c C (ks.set k κ) (vs.set k v) := fun i hi => by
  rw [List.length_set] at hi
  by_cases e : i = k
  · subst e
    have e1 : gk (ks.set i κ) i = κ := by show (ks.set i κ).getD i _ = _; rw [List.getD_eq_getElem?_getD, List.getElem?_set_self hi]; rfl
    have e2 : lv (vs.set i v) i = v := by show (vs.set i v).getD i _ = _; rw [List.getD_eq_getElem?_getD, List.getElem?_set_self hk]; rfl
    rw [e1, e2]; exact hv
  · have e1 : gk (ks.set k κ) i = gk ks i := by show (ks.set k κ).getD i _ = ks.getD i _; rw [List.getD_eq_getElem?_getD, List.getElem?_set_ne (fun z => e z.symm), List.getD_eq_getElem?_getD]
    have e2 : lv (vs.set k v) i = lv vs i := by show (vs.set k v).getD i _ = vs.getD i _; rw [List.getD_eq_getElem?_getD, List.getElem?_set_ne (fun z => e z.symm), List.getD_eq_getElem?_getD]
    rw [e1, e2]; exact h i hi
theorem set_id {ks : List Kd} {k : Nat} : ks.set k (gk ks k) = ks := by
  by_cases h : k < ks.length
  · have : gk ks k = ks[k] := by show ks.getD k _ = _; rw [List.getD_eq_getElem?_getD, List.getElem?_eq_getElem h]; rfl
    rw [this, List.set_getElem_self]
  · rw [List.set_eq_of_length_le (by omega)]
theorem At.nxL {i : Ins} {lo' st' : List Vl} {sk lk : List Kd} (h : At W s t c j a lo st U i) (hg : goesOn i.1) (el : loS W c i (k1 W c j a) (k2 W c j a) = lk) (es : stS W c (gmt (gc W c) j) i a (k1 W c j a) (k2 W c j a) = sk) (hl : cvL W s c (co (gmt (gc W c) j)) lk lo') (h20 : lo'.length = 20) (hv : ∀ v ∈ lo', v.2 = true → vRf s v.1) (hs : cvT W s c (co (gmt (gc W c) j)) sk st') : MK W (sU s t (.inl (c, j, a + 1, lo', st') :: U)) t := by
  have hi := h.2.2.1
  refine nx_ok h.1.1 h.1.2.1 h.1.2.2 (by rw [← hi]; exact hg) (by rw [← hi]; show cvL _ _ _ _ (loS W c i (k1 W c j a) (k2 W c j a)) _; rw [el]; exact hl) h20 hv (by rw [← hi]; show cvT _ _ _ _ (stS W c _ i a (k1 W c j a) (k2 W c j a)) _; rw [es]; exact hs)
theorem At.jp {i : Ins} {st' : List Vl} {sk : List Kd} {g : Nat} (h : At W s t c j a lo st U i) (hl : g < (co (gmt (gc W c) j)).length) (hg : goesS W (gmt (gc W c) j) (k1 W c j a) sk g = 0) (hs : cvT W s c (co (gmt (gc W c) j)) sk st') : MK W (sU s t (.inl (c, j, g, lo, st') :: U)) t := jp_ok h.1.1 h.1.2.1 h.1.2.2 hl hg hs

theorem a_8 {i : Ins} (h : At W s t c j a lo st U i) (ho : i.1 = 8) : MK W (doS W t s c j a lo st U i q) t := by
  obtain ⟨⟨h1, h2⟩, -, -, -, -⟩ := h.in
  have e : doS W t s c j a lo st U i q = sU s t (.inl (c, j, a + 1, lo, drp st 2 ++ [(aluS 8 (tv st 1).1 (tv st 0).1, false)]) :: U) := (by obtain ⟨o, r⟩ := i; have ho : o = 8 := ho; subst ho; rfl)
  rw [e]
  exact h.nx (by rw [ho]; decide) (by obtain ⟨o, r⟩ := i; have ho : o = 8 := ho; subst ho; rfl) (sk := (k2 W c j a).take ((k2 W c j a).length - 2) ++ [(0, [])]) (by obtain ⟨o, r⟩ := i; have ho : o = 8 := ho; subst ho; rfl) (h2.drp.app (cvT.one cv.num))
theorem a_9 {i : Ins} (h : At W s t c j a lo st U i) (ho : i.1 = 9) : MK W (doS W t s c j a lo st U i q) t := by
  obtain ⟨⟨h1, h2⟩, -, -, -, -⟩ := h.in
  have e : doS W t s c j a lo st U i q = sU s t (.inl (c, j, a + 1, lo, drp st 2 ++ [(aluS 9 (tv st 1).1 (tv st 0).1, false)]) :: U) := (by obtain ⟨o, r⟩ := i; have ho : o = 9 := ho; subst ho; rfl)
  rw [e]
  exact h.nx (by rw [ho]; decide) (by obtain ⟨o, r⟩ := i; have ho : o = 9 := ho; subst ho; rfl) (sk := (k2 W c j a).take ((k2 W c j a).length - 2) ++ [(0, [])]) (by obtain ⟨o, r⟩ := i; have ho : o = 9 := ho; subst ho; rfl) (h2.drp.app (cvT.one cv.num))
theorem a_10 {i : Ins} (h : At W s t c j a lo st U i) (ho : i.1 = 10) : MK W (doS W t s c j a lo st U i q) t := by
  obtain ⟨⟨h1, h2⟩, -, -, -, -⟩ := h.in
  have e : doS W t s c j a lo st U i q = sU s t (.inl (c, j, a + 1, lo, drp st 2 ++ [(aluS 10 (tv st 1).1 (tv st 0).1, false)]) :: U) := (by obtain ⟨o, r⟩ := i; have ho : o = 10 := ho; subst ho; rfl)
  rw [e]
  exact h.nx (by rw [ho]; decide) (by obtain ⟨o, r⟩ := i; have ho : o = 10 := ho; subst ho; rfl) (sk := (k2 W c j a).take ((k2 W c j a).length - 2) ++ [(0, [])]) (by obtain ⟨o, r⟩ := i; have ho : o = 10 := ho; subst ho; rfl) (h2.drp.app (cvT.one cv.num))
theorem a_11 {i : Ins} (h : At W s t c j a lo st U i) (ho : i.1 = 11) : MK W (doS W t s c j a lo st U i q) t := by
  obtain ⟨⟨h1, h2⟩, -, -, -, -⟩ := h.in
  have e : doS W t s c j a lo st U i q = if ((11 : Nat) = 11 ∨ (11 : Nat) = 12) ∧ (tv st 0).1 = 0 then failS W t s 3 0 else sU s t (.inl (c, j, a + 1, lo, drp st 2 ++ [(aluS 11 (tv st 1).1 (tv st 0).1, false)]) :: U) := (by obtain ⟨o, r⟩ := i; have ho : o = 11 := ho; subst ho; unfold doS; exact if_pos (show (8 ≤ 11 ∧ 11 ≤ 18) ∧ 11 ≠ 13 by decide))
  rw [e]
  split
  · exact h.fl (by omega) (by omega)
  · exact h.nx (by rw [ho]; decide) (by obtain ⟨o, r⟩ := i; have ho : o = 11 := ho; subst ho; rfl) (sk := (k2 W c j a).take ((k2 W c j a).length - 2) ++ [(0, [])]) (by obtain ⟨o, r⟩ := i; have ho : o = 11 := ho; subst ho; rfl) (h2.drp.app (cvT.one cv.num))
theorem a_12 {i : Ins} (h : At W s t c j a lo st U i) (ho : i.1 = 12) : MK W (doS W t s c j a lo st U i q) t := by
  obtain ⟨⟨h1, h2⟩, -, -, -, -⟩ := h.in
  have e : doS W t s c j a lo st U i q = if ((12 : Nat) = 11 ∨ (12 : Nat) = 12) ∧ (tv st 0).1 = 0 then failS W t s 3 0 else sU s t (.inl (c, j, a + 1, lo, drp st 2 ++ [(aluS 12 (tv st 1).1 (tv st 0).1, false)]) :: U) := (by obtain ⟨o, r⟩ := i; have ho : o = 12 := ho; subst ho; unfold doS; exact if_pos (show (8 ≤ 12 ∧ 12 ≤ 18) ∧ 12 ≠ 13 by decide))
  rw [e]
  split
  · exact h.fl (by omega) (by omega)
  · exact h.nx (by rw [ho]; decide) (by obtain ⟨o, r⟩ := i; have ho : o = 12 := ho; subst ho; rfl) (sk := (k2 W c j a).take ((k2 W c j a).length - 2) ++ [(0, [])]) (by obtain ⟨o, r⟩ := i; have ho : o = 12 := ho; subst ho; rfl) (h2.drp.app (cvT.one cv.num))
theorem a_14 {i : Ins} (h : At W s t c j a lo st U i) (ho : i.1 = 14) : MK W (doS W t s c j a lo st U i q) t := by
  obtain ⟨⟨h1, h2⟩, -, -, -, -⟩ := h.in
  have e : doS W t s c j a lo st U i q = sU s t (.inl (c, j, a + 1, lo, drp st 2 ++ [(aluS 14 (tv st 1).1 (tv st 0).1, false)]) :: U) := (by obtain ⟨o, r⟩ := i; have ho : o = 14 := ho; subst ho; rfl)
  rw [e]
  exact h.nx (by rw [ho]; decide) (by obtain ⟨o, r⟩ := i; have ho : o = 14 := ho; subst ho; rfl) (sk := (k2 W c j a).take ((k2 W c j a).length - 2) ++ [(0, [])]) (by obtain ⟨o, r⟩ := i; have ho : o = 14 := ho; subst ho; rfl) (h2.drp.app (cvT.one cv.num))
theorem a_15 {i : Ins} (h : At W s t c j a lo st U i) (ho : i.1 = 15) : MK W (doS W t s c j a lo st U i q) t := by
  obtain ⟨⟨h1, h2⟩, -, -, -, -⟩ := h.in
  have e : doS W t s c j a lo st U i q = sU s t (.inl (c, j, a + 1, lo, drp st 2 ++ [(aluS 15 (tv st 1).1 (tv st 0).1, false)]) :: U) := (by obtain ⟨o, r⟩ := i; have ho : o = 15 := ho; subst ho; rfl)
  rw [e]
  exact h.nx (by rw [ho]; decide) (by obtain ⟨o, r⟩ := i; have ho : o = 15 := ho; subst ho; rfl) (sk := (k2 W c j a).take ((k2 W c j a).length - 2) ++ [(0, [])]) (by obtain ⟨o, r⟩ := i; have ho : o = 15 := ho; subst ho; rfl) (h2.drp.app (cvT.one cv.num))
theorem a_16 {i : Ins} (h : At W s t c j a lo st U i) (ho : i.1 = 16) : MK W (doS W t s c j a lo st U i q) t := by
  obtain ⟨⟨h1, h2⟩, -, -, -, -⟩ := h.in
  have e : doS W t s c j a lo st U i q = sU s t (.inl (c, j, a + 1, lo, drp st 2 ++ [(aluS 16 (tv st 1).1 (tv st 0).1, false)]) :: U) := (by obtain ⟨o, r⟩ := i; have ho : o = 16 := ho; subst ho; rfl)
  rw [e]
  exact h.nx (by rw [ho]; decide) (by obtain ⟨o, r⟩ := i; have ho : o = 16 := ho; subst ho; rfl) (sk := (k2 W c j a).take ((k2 W c j a).length - 2) ++ [(0, [])]) (by obtain ⟨o, r⟩ := i; have ho : o = 16 := ho; subst ho; rfl) (h2.drp.app (cvT.one cv.num))
theorem a_17 {i : Ins} (h : At W s t c j a lo st U i) (ho : i.1 = 17) : MK W (doS W t s c j a lo st U i q) t := by
  obtain ⟨⟨h1, h2⟩, -, -, -, -⟩ := h.in
  have e : doS W t s c j a lo st U i q = sU s t (.inl (c, j, a + 1, lo, drp st 2 ++ [(aluS 17 (tv st 1).1 (tv st 0).1, false)]) :: U) := (by obtain ⟨o, r⟩ := i; have ho : o = 17 := ho; subst ho; rfl)
  rw [e]
  exact h.nx (by rw [ho]; decide) (by obtain ⟨o, r⟩ := i; have ho : o = 17 := ho; subst ho; rfl) (sk := (k2 W c j a).take ((k2 W c j a).length - 2) ++ [(0, [])]) (by obtain ⟨o, r⟩ := i; have ho : o = 17 := ho; subst ho; rfl) (h2.drp.app (cvT.one cv.num))
theorem a_18 {i : Ins} (h : At W s t c j a lo st U i) (ho : i.1 = 18) : MK W (doS W t s c j a lo st U i q) t := by
  obtain ⟨⟨h1, h2⟩, -, -, -, -⟩ := h.in
  have e : doS W t s c j a lo st U i q = sU s t (.inl (c, j, a + 1, lo, drp st 2 ++ [(aluS 18 (tv st 1).1 (tv st 0).1, false)]) :: U) := (by obtain ⟨o, r⟩ := i; have ho : o = 18 := ho; subst ho; rfl)
  rw [e]
  exact h.nx (by rw [ho]; decide) (by obtain ⟨o, r⟩ := i; have ho : o = 18 := ho; subst ho; rfl) (sk := (k2 W c j a).take ((k2 W c j a).length - 2) ++ [(0, [])]) (by obtain ⟨o, r⟩ := i; have ho : o = 18 := ho; subst ho; rfl) (h2.drp.app (cvT.one cv.num))
theorem a_0 {i : Ins} (h : At W s t c j a lo st U i) (ho : i.1 = 0) : MK W (doS W t s c j a lo st U i q) t := by
  obtain ⟨⟨h1, h2⟩, h3, h5, ⟨h6, -⟩, -⟩ := h.in
  have e : doS W t s c j a lo st U i q = sU s t (.inl (c, j, a + 1, lo, st) :: U) := (by obtain ⟨o, r⟩ := i; have ho : o = 0 := ho; subst ho; rfl)
  rw [e]
  exact h.nx (by rw [ho]; decide) (by obtain ⟨o, r⟩ := i; have ho : o = 0 := ho; subst ho; rfl) (sk := (k2 W c j a).take ((k2 W c j a).length - 0) ++ []) (by obtain ⟨o, r⟩ := i; have ho : o = 0 := ho; subst ho; rfl) h2.d0.e
theorem a_1 {i : Ins} (h : At W s t c j a lo st U i) (ho : i.1 = 1) : MK W (doS W t s c j a lo st U i q) t := by
  obtain ⟨⟨h1, h2⟩, h3, h5, ⟨h6, -⟩, -⟩ := h.in
  have e : doS W t s c j a lo st U i q = sU s t (.inl (c, j, a + 1, lo, st ++ [(iV i, false)]) :: U) := (by obtain ⟨o, r⟩ := i; have ho : o = 1 := ho; subst ho; rfl)
  rw [e]
  exact h.nx (by rw [ho]; decide) (by obtain ⟨o, r⟩ := i; have ho : o = 1 := ho; subst ho; rfl) (sk := (k2 W c j a).take ((k2 W c j a).length - 0) ++ [(0, [])]) (by obtain ⟨o, r⟩ := i; have ho : o = 1 := ho; subst ho; rfl) ((show cvT W s c _ _ st from (by have := h2.drp (n := 0); rw [drp0] at this; exact this)).app (cvT.one cv.num))
theorem a_2 {i : Ins} (h : At W s t c j a lo st U i) (ho : i.1 = 2) : MK W (doS W t s c j a lo st U i q) t := by
  obtain ⟨⟨h1, h2⟩, h3, h5, ⟨h6, -⟩, -⟩ := h.in
  have e : doS W t s c j a lo st U i q = sU s t (.inl (c, j, a + 1, lo, st ++ [(0, true)]) :: U) := (by obtain ⟨o, r⟩ := i; have ho : o = 2 := ho; subst ho; rfl)
  rw [e]
  exact h.nx (by rw [ho]; decide) (by obtain ⟨o, r⟩ := i; have ho : o = 2 := ho; subst ho; rfl) (sk := (k2 W c j a).take ((k2 W c j a).length - 0) ++ [(-1, [])]) (by obtain ⟨o, r⟩ := i; have ho : o = 2 := ho; subst ho; rfl) ((show cvT W s c _ _ st from (by have := h2.drp (n := 0); rw [drp0] at this; exact this)).app (cvT.one ⟨cf.null rfl rfl, fun _ => vRf.z⟩))
theorem a_3 {i : Ins} (h : At W s t c j a lo st U i) (ho : i.1 = 3) : MK W (doS W t s c j a lo st U i q) t := by
  obtain ⟨⟨h1, h2⟩, h3, h5, ⟨h6, -⟩, -⟩ := h.in
  have e : doS W t s c j a lo st U i q = sU s t (.inl (c, j, a + 1, lo, st ++ [((lv lo (iL i)).1, false)]) :: U) := (by obtain ⟨o, r⟩ := i; have ho : o = 3 := ho; subst ho; rfl)
  rw [e]
  exact h.nx (by rw [ho]; decide) (by obtain ⟨o, r⟩ := i; have ho : o = 3 := ho; subst ho; rfl) (sk := (k2 W c j a).take ((k2 W c j a).length - 0) ++ [(0, [])]) (by obtain ⟨o, r⟩ := i; have ho : o = 3 := ho; subst ho; rfl) ((show cvT W s c _ _ st from (by have := h2.drp (n := 0); rw [drp0] at this; exact this)).app (cvT.one cv.num))
theorem a_4 {i : Ins} (h : At W s t c j a lo st U i) (ho : i.1 = 4) : MK W (doS W t s c j a lo st U i q) t := by
  obtain ⟨⟨h1, h2⟩, h3, h5, ⟨h6, -⟩, -⟩ := h.in
  have e : doS W t s c j a lo st U i q = sU s t (.inl (c, j, a + 1, lo, st ++ [((lv lo (iL i)).1, true)]) :: U) := (by obtain ⟨o, r⟩ := i; have ho : o = 4 := ho; subst ho; rfl)
  have hl : iL i < (k1 W c j a).length := by
    rw [h3.2.2]
    exact Classical.byContradiction (fun z => (takenS_in h6).1 ⟨by rw [ho]; decide, by omega⟩)
  have hv := h1 (iL i) hl
  have hf : lv lo (iL i) = ((lv lo (iL i)).1, true) := by
    refine Prod.ext rfl (hv.fl (Classical.byContradiction (fun z => (takenS_in h6).2.2 (Or.inr ⟨ho, ?_⟩))))
    rw [not_or] at z
    exact ⟨by simpa using z.1, by simpa using z.2⟩
  rw [e]
  exact h.nx (by rw [ho]; decide) (by obtain ⟨o, r⟩ := i; have ho : o = 4 := ho; subst ho; rfl) (sk := (k2 W c j a).take ((k2 W c j a).length - 0) ++ [gk (k1 W c j a) (iL i)]) (by obtain ⟨o, r⟩ := i; have ho : o = 4 := ho; subst ho; rfl) ((show cvT W s c _ _ st from (by have := h2.drp (n := 0); rw [drp0] at this; exact this)).app (cvT.one (hf ▸ hv)))
theorem a_13 {i : Ins} (h : At W s t c j a lo st U i) (ho : i.1 = 13) : MK W (doS W t s c j a lo st U i q) t := by
  obtain ⟨⟨h1, h2⟩, h3, h5, ⟨h6, -⟩, -⟩ := h.in
  have e : doS W t s c j a lo st U i q = sU s t (.inl (c, j, a + 1, lo, drp st 1 ++ [(-(tv st 0).1, false)]) :: U) := (by obtain ⟨o, r⟩ := i; have ho : o = 13 := ho; subst ho; rfl)
  rw [e]
  exact h.nx (by rw [ho]; decide) (by obtain ⟨o, r⟩ := i; have ho : o = 13 := ho; subst ho; rfl) (sk := (k2 W c j a).take ((k2 W c j a).length - 1) ++ [(0, [])]) (by obtain ⟨o, r⟩ := i; have ho : o = 13 := ho; subst ho; rfl) (h2.drp.app (cvT.one cv.num))
theorem a_19 {i : Ins} (h : At W s t c j a lo st U i) (ho : i.1 = 19) : MK W (doS W t s c j a lo st U i q) t := by
  obtain ⟨⟨h1, h2⟩, h3, h5, ⟨h6, -⟩, -⟩ := h.in
  have e : doS W t s c j a lo st U i q = sU s t (.inl (c, j, a + 1, lo, drp st 1) :: U) := (by obtain ⟨o, r⟩ := i; have ho : o = 19 := ho; subst ho; rfl)
  rw [e]
  exact h.nx (by rw [ho]; decide) (by obtain ⟨o, r⟩ := i; have ho : o = 19 := ho; subst ho; rfl) (sk := (k2 W c j a).take ((k2 W c j a).length - 1) ++ []) (by obtain ⟨o, r⟩ := i; have ho : o = 19 := ho; subst ho; rfl) (h2.drp (n := 1)).e
theorem a_20 {i : Ins} (h : At W s t c j a lo st U i) (ho : i.1 = 20) : MK W (doS W t s c j a lo st U i q) t := by
  obtain ⟨⟨h1, h2⟩, h3, h5, ⟨h6, -⟩, -⟩ := h.in
  have e : doS W t s c j a lo st U i q = sU s t (.inl (c, j, a + 1, lo, st ++ [tv st 0]) :: U) := (by obtain ⟨o, r⟩ := i; have ho : o = 20 := ho; subst ho; rfl)
  obtain ⟨tl, tk⟩ := h.tk (ws := [wAny]) (by obtain ⟨o, r⟩ := i; have ho : o = 20 := ho; subst ho; rfl)
  have v0 := (tk 0 (by decide)).2
  rw [e]
  exact h.nx (by rw [ho]; decide) (by obtain ⟨o, r⟩ := i; have ho : o = 20 := ho; subst ho; rfl) (sk := (k2 W c j a).take ((k2 W c j a).length - 1) ++ [tp (k2 W c j a) 0, tp (k2 W c j a) 0]) (by obtain ⟨o, r⟩ := i; have ho : o = 20 := ho; subst ho; rfl) (by have := (h2.drp (n := 1)).app (cvT.cons v0 (cvT.one v0)); rw [show ([tv st 0, tv st 0] : List Vl) = [tv st 0] ++ [tv st 0] from rfl, ← List.append_assoc, drp1 (by have := h2.1; simp only [List.length_singleton] at tl; omega)] at this; exact this)
theorem a_21 {i : Ins} (h : At W s t c j a lo st U i) (ho : i.1 = 21) : MK W (doS W t s c j a lo st U i q) t := by
  obtain ⟨⟨h1, h2⟩, h3, h5, ⟨h6, -⟩, -⟩ := h.in
  have e : doS W t s c j a lo st U i q = sU s t (.inl (c, j, a + 1, lo, drp st 2 ++ [tv st 0, tv st 1, tv st 0]) :: U) := (by obtain ⟨o, r⟩ := i; have ho : o = 21 := ho; subst ho; rfl)
  obtain ⟨tl, tk⟩ := h.tk (ws := [wAny, wAny]) (by obtain ⟨o, r⟩ := i; have ho : o = 21 := ho; subst ho; rfl)
  have v0 := (tk 0 (by decide)).2
  have v1 := (tk 1 (by decide)).2
  rw [e]
  exact h.nx (by rw [ho]; decide) (by obtain ⟨o, r⟩ := i; have ho : o = 21 := ho; subst ho; rfl) (sk := (k2 W c j a).take ((k2 W c j a).length - 2) ++ [tp (k2 W c j a) 0, tp (k2 W c j a) 1, tp (k2 W c j a) 0]) (by obtain ⟨o, r⟩ := i; have ho : o = 21 := ho; subst ho; rfl) (h2.drp.app (cvT.cons v0 (cvT.cons v1 (cvT.one v0))))
theorem a_22 {i : Ins} (h : At W s t c j a lo st U i) (ho : i.1 = 22) : MK W (doS W t s c j a lo st U i q) t := by
  obtain ⟨⟨h1, h2⟩, h3, h5, ⟨h6, -⟩, -⟩ := h.in
  have e : doS W t s c j a lo st U i q = sU s t (.inl (c, j, a + 1, lo, drp st 2 ++ [tv st 0, tv st 1]) :: U) := (by obtain ⟨o, r⟩ := i; have ho : o = 22 := ho; subst ho; rfl)
  obtain ⟨tl, tk⟩ := h.tk (ws := [wAny, wAny]) (by obtain ⟨o, r⟩ := i; have ho : o = 22 := ho; subst ho; rfl)
  have v0 := (tk 0 (by decide)).2
  have v1 := (tk 1 (by decide)).2
  rw [e]
  exact h.nx (by rw [ho]; decide) (by obtain ⟨o, r⟩ := i; have ho : o = 22 := ho; subst ho; rfl) (sk := (k2 W c j a).take ((k2 W c j a).length - 2) ++ [tp (k2 W c j a) 0, tp (k2 W c j a) 1]) (by obtain ⟨o, r⟩ := i; have ho : o = 22 := ho; subst ho; rfl) (h2.drp.app (cvT.cons v0 (cvT.one v1)))
theorem a_5 {i : Ins} (h : At W s t c j a lo st U i) (ho : i.1 = 5) : MK W (doS W t s c j a lo st U i q) t := by
  obtain ⟨⟨h1, h2⟩, h3, h5, ⟨h6, -⟩, -⟩ := h.in
  have e : doS W t s c j a lo st U i q = sU s t (.inl (c, j, a + 1, lo.set (iL i) ((tv st 0).1, false), drp st 1) :: U) := (by obtain ⟨o, r⟩ := i; have ho : o = 5 := ho; subst ho; rfl)
  have hL : iL i < (k1 W c j a).length := by
    rw [h3.2.2]
    exact Classical.byContradiction (fun z => (takenS_in h6).1 ⟨by rw [ho]; decide, by omega⟩)

  rw [e]
  refine h.nxL (by rw [ho]; decide) (lk := (k1 W c j a).set (iL i) (0, [])) (by obtain ⟨o, r⟩ := i; have ho : o = 5 := ho; subst ho; rfl) (sk := (k2 W c j a).take ((k2 W c j a).length - 1) ++ []) (by obtain ⟨o, r⟩ := i; have ho : o = 5 := ho; subst ho; rfl) (set_cv h1 (by omega) cv.num) (by rw [List.length_set]; exact h3.1) (fun v hv hb => ?_) (h2.drp (n := 1)).e
  rcases List.mem_or_eq_of_mem_set hv with z | z
  · exact h5 v z hb
  · rw [z] at hb; cases hb
theorem a_6 {i : Ins} (h : At W s t c j a lo st U i) (ho : i.1 = 6) : MK W (doS W t s c j a lo st U i q) t := by
  obtain ⟨⟨h1, h2⟩, h3, h5, ⟨h6, -⟩, -⟩ := h.in
  have e : doS W t s c j a lo st U i q = sU s t (.inl (c, j, a + 1, lo.set (iL i) ((tv st 0).1, true), drp st 1) :: U) := (by obtain ⟨o, r⟩ := i; have ho : o = 6 := ho; subst ho; rfl)
  have hL : iL i < (k1 W c j a).length := by
    rw [h3.2.2]
    exact Classical.byContradiction (fun z => (takenS_in h6).1 ⟨by rw [ho]; decide, by omega⟩)
  obtain ⟨tl, tk⟩ := h.tk (ws := [wSto]) (by obtain ⟨o, r⟩ := i; have ho : o = 6 := ho; subst ho; rfl)
  have v0 := (tk 0 (by decide)).2
  have hf : tv st 0 = ((tv st 0).1, true) := Prod.ext rfl (v0.fl (wOne_sto (tk 0 (by decide)).1))
  rw [hf] at v0
  rw [e]
  refine h.nxL (by rw [ho]; decide) (lk := (k1 W c j a).set (iL i) (tp (k2 W c j a) 0)) (by obtain ⟨o, r⟩ := i; have ho : o = 6 := ho; subst ho; rfl) (sk := (k2 W c j a).take ((k2 W c j a).length - 1) ++ []) (by obtain ⟨o, r⟩ := i; have ho : o = 6 := ho; subst ho; rfl) (set_cv h1 (by omega) v0) (by rw [List.length_set]; exact h3.1) (fun v hv hb => ?_) (h2.drp (n := 1)).e
  rcases List.mem_or_eq_of_mem_set hv with z | z
  · exact h5 v z hb
  · rw [z]; exact v0.2 rfl
theorem a_7 {i : Ins} (h : At W s t c j a lo st U i) (ho : i.1 = 7) : MK W (doS W t s c j a lo st U i q) t := by
  obtain ⟨⟨h1, h2⟩, h3, h5, ⟨h6, -⟩, -⟩ := h.in
  have e : doS W t s c j a lo st U i q = sU s t (.inl (c, j, a + 1, lo.set (iL i) ((lv lo (iL i)).1 + i.2.2.1, (lv lo (iL i)).2), st) :: U) := (by obtain ⟨o, r⟩ := i; have ho : o = 7 := ho; subst ho; rfl)
  have hL : iL i < (k1 W c j a).length := by
    rw [h3.2.2]
    exact Classical.byContradiction (fun z => (takenS_in h6).1 ⟨by rw [ho]; decide, by omega⟩)
  have hk : (gk (k1 W c j a) (iL i)).1 = 0 := Classical.byContradiction (fun z => (takenS_in h6).2.2 (Or.inl ⟨Or.inr ho, z⟩))
  have hf : (lv lo (iL i)).2 = false := (h1 (iL i) hL).nfl hk
  have hc : cf W s c (co (gmt (gc W c) j)) (gk (k1 W c j a) (iL i)) ((lv lo (iL i)).1 + i.2.2.1, (lv lo (iL i)).2) := ⟨fun _ => hf, fun z => by omega, fun z => by omega, fun z => by omega, fun z => by omega, fun z => by omega⟩
  rw [e]
  refine h.nxL (by rw [ho]; decide) (lk := (k1 W c j a).set (iL i) (gk (k1 W c j a) (iL i))) (by rw [set_id]; obtain ⟨o, r⟩ := i; have ho : o = 7 := ho; subst ho; rfl) (sk := (k2 W c j a).take ((k2 W c j a).length - 0) ++ []) (by obtain ⟨o, r⟩ := i; have ho : o = 7 := ho; subst ho; rfl) (set_cv h1 (by omega) ⟨hc, fun z => by rw [hf] at z; cases z⟩) (by rw [List.length_set]; exact h3.1) (fun v hv hb => ?_) h2.d0.e
  rcases List.mem_or_eq_of_mem_set hv with z | z
  · exact h5 v z hb
  · rw [z] at hb; rw [show ((lv lo (iL i)).1 + i.2.2.1, (lv lo (iL i)).2).2 = (lv lo (iL i)).2 from rfl, hf] at hb; cases hb
theorem At.tg {i : Ins} (h : At W s t c j a lo st U i) (hj : isJ i.1) : gtn (iT i) 0 < (co (gmt (gc W c) j)).length := by
  obtain ⟨-, -, -, -, hw⟩ := h.in
  exact hw.2.2.1 _ (getD_mem (by have := hw.2.1.2.2.1 hj; omega))
theorem a_23 {i : Ins} (h : At W s t c j a lo st U i) (ho : i.1 = 23) : MK W (doS W t s c j a lo st U i q) t := by
  obtain ⟨⟨h1, h2⟩, h3, h5, ⟨h6, -, h7⟩, -⟩ := h.in
  have e : doS W t s c j a lo st U i q = sU s t (.inl (c, j, gtn (iT i) 0, lo, st) :: U) := (by obtain ⟨o, r⟩ := i; have ho : o = 23 := ho; subst ho; rfl)
  have et : thenS W (gmt (gc W c) j) i a (loS W c i (k1 W c j a) (k2 W c j a)) (stS W c (gmt (gc W c) j) i a (k1 W c j a) (k2 W c j a)) = goesS W (gmt (gc W c) j) (k1 W c j a) ((k2 W c j a).take ((k2 W c j a).length - 0) ++ []) (gtn (iT i) 0) := (by obtain ⟨o, r⟩ := i; have ho : o = 23 := ho; subst ho; rfl)
  rw [et] at h7
  rw [e]
  exact h.jp (h.tg (by rw [ho]; decide)) h7 h2.d0.e
theorem a_24 {i : Ins} (h : At W s t c j a lo st U i) (ho : i.1 = 24) : MK W (doS W t s c j a lo st U i q) t := by
  obtain ⟨⟨h1, h2⟩, h3, h5, ⟨h6, -, h7⟩, -⟩ := h.in
  have e : doS W t s c j a lo st U i q = sU s t (.inl (c, j, if cmpS 24 (tv st 0).1 0 then gtn (iT i) 0 else a + 1, lo, drp st 1) :: U) := (by obtain ⟨o, r⟩ := i; have ho : o = 24 := ho; subst ho; rfl)
  have et : thenS W (gmt (gc W c) j) i a (loS W c i (k1 W c j a) (k2 W c j a)) (stS W c (gmt (gc W c) j) i a (k1 W c j a) (k2 W c j a)) = goesS W (gmt (gc W c) j) (k1 W c j a) ((k2 W c j a).take ((k2 W c j a).length - 1) ++ []) (gtn (iT i) 0) := (by obtain ⟨o, r⟩ := i; have ho : o = 24 := ho; subst ho; rfl)
  rw [et] at h7
  have hs : cvT W s c (co (gmt (gc W c) j)) ((k2 W c j a).take ((k2 W c j a).length - 1) ++ []) (drp st 1) := (h2.drp (n := 1)).e
  rw [e]
  cases cmpS 24 (tv st 0).1 0 with
  | true => exact h.jp (h.tg (by rw [ho]; decide)) h7 hs
  | false => exact h.nx (by rw [ho]; decide) (by obtain ⟨o, r⟩ := i; have ho : o = 24 := ho; subst ho; rfl) (by obtain ⟨o, r⟩ := i; have ho : o = 24 := ho; subst ho; rfl) hs
theorem a_25 {i : Ins} (h : At W s t c j a lo st U i) (ho : i.1 = 25) : MK W (doS W t s c j a lo st U i q) t := by
  obtain ⟨⟨h1, h2⟩, h3, h5, ⟨h6, -, h7⟩, -⟩ := h.in
  have e : doS W t s c j a lo st U i q = sU s t (.inl (c, j, if cmpS 25 (tv st 0).1 0 then gtn (iT i) 0 else a + 1, lo, drp st 1) :: U) := (by obtain ⟨o, r⟩ := i; have ho : o = 25 := ho; subst ho; rfl)
  have et : thenS W (gmt (gc W c) j) i a (loS W c i (k1 W c j a) (k2 W c j a)) (stS W c (gmt (gc W c) j) i a (k1 W c j a) (k2 W c j a)) = goesS W (gmt (gc W c) j) (k1 W c j a) ((k2 W c j a).take ((k2 W c j a).length - 1) ++ []) (gtn (iT i) 0) := (by obtain ⟨o, r⟩ := i; have ho : o = 25 := ho; subst ho; rfl)
  rw [et] at h7
  have hs : cvT W s c (co (gmt (gc W c) j)) ((k2 W c j a).take ((k2 W c j a).length - 1) ++ []) (drp st 1) := (h2.drp (n := 1)).e
  rw [e]
  cases cmpS 25 (tv st 0).1 0 with
  | true => exact h.jp (h.tg (by rw [ho]; decide)) h7 hs
  | false => exact h.nx (by rw [ho]; decide) (by obtain ⟨o, r⟩ := i; have ho : o = 25 := ho; subst ho; rfl) (by obtain ⟨o, r⟩ := i; have ho : o = 25 := ho; subst ho; rfl) hs
theorem a_26 {i : Ins} (h : At W s t c j a lo st U i) (ho : i.1 = 26) : MK W (doS W t s c j a lo st U i q) t := by
  obtain ⟨⟨h1, h2⟩, h3, h5, ⟨h6, -, h7⟩, -⟩ := h.in
  have e : doS W t s c j a lo st U i q = sU s t (.inl (c, j, if cmpS 26 (tv st 0).1 0 then gtn (iT i) 0 else a + 1, lo, drp st 1) :: U) := (by obtain ⟨o, r⟩ := i; have ho : o = 26 := ho; subst ho; rfl)
  have et : thenS W (gmt (gc W c) j) i a (loS W c i (k1 W c j a) (k2 W c j a)) (stS W c (gmt (gc W c) j) i a (k1 W c j a) (k2 W c j a)) = goesS W (gmt (gc W c) j) (k1 W c j a) ((k2 W c j a).take ((k2 W c j a).length - 1) ++ []) (gtn (iT i) 0) := (by obtain ⟨o, r⟩ := i; have ho : o = 26 := ho; subst ho; rfl)
  rw [et] at h7
  have hs : cvT W s c (co (gmt (gc W c) j)) ((k2 W c j a).take ((k2 W c j a).length - 1) ++ []) (drp st 1) := (h2.drp (n := 1)).e
  rw [e]
  cases cmpS 26 (tv st 0).1 0 with
  | true => exact h.jp (h.tg (by rw [ho]; decide)) h7 hs
  | false => exact h.nx (by rw [ho]; decide) (by obtain ⟨o, r⟩ := i; have ho : o = 26 := ho; subst ho; rfl) (by obtain ⟨o, r⟩ := i; have ho : o = 26 := ho; subst ho; rfl) hs
theorem a_27 {i : Ins} (h : At W s t c j a lo st U i) (ho : i.1 = 27) : MK W (doS W t s c j a lo st U i q) t := by
  obtain ⟨⟨h1, h2⟩, h3, h5, ⟨h6, -, h7⟩, -⟩ := h.in
  have e : doS W t s c j a lo st U i q = sU s t (.inl (c, j, if cmpS 27 (tv st 0).1 0 then gtn (iT i) 0 else a + 1, lo, drp st 1) :: U) := (by obtain ⟨o, r⟩ := i; have ho : o = 27 := ho; subst ho; rfl)
  have et : thenS W (gmt (gc W c) j) i a (loS W c i (k1 W c j a) (k2 W c j a)) (stS W c (gmt (gc W c) j) i a (k1 W c j a) (k2 W c j a)) = goesS W (gmt (gc W c) j) (k1 W c j a) ((k2 W c j a).take ((k2 W c j a).length - 1) ++ []) (gtn (iT i) 0) := (by obtain ⟨o, r⟩ := i; have ho : o = 27 := ho; subst ho; rfl)
  rw [et] at h7
  have hs : cvT W s c (co (gmt (gc W c) j)) ((k2 W c j a).take ((k2 W c j a).length - 1) ++ []) (drp st 1) := (h2.drp (n := 1)).e
  rw [e]
  cases cmpS 27 (tv st 0).1 0 with
  | true => exact h.jp (h.tg (by rw [ho]; decide)) h7 hs
  | false => exact h.nx (by rw [ho]; decide) (by obtain ⟨o, r⟩ := i; have ho : o = 27 := ho; subst ho; rfl) (by obtain ⟨o, r⟩ := i; have ho : o = 27 := ho; subst ho; rfl) hs
theorem a_28 {i : Ins} (h : At W s t c j a lo st U i) (ho : i.1 = 28) : MK W (doS W t s c j a lo st U i q) t := by
  obtain ⟨⟨h1, h2⟩, h3, h5, ⟨h6, -, h7⟩, -⟩ := h.in
  have e : doS W t s c j a lo st U i q = sU s t (.inl (c, j, if cmpS 28 (tv st 0).1 0 then gtn (iT i) 0 else a + 1, lo, drp st 1) :: U) := (by obtain ⟨o, r⟩ := i; have ho : o = 28 := ho; subst ho; rfl)
  have et : thenS W (gmt (gc W c) j) i a (loS W c i (k1 W c j a) (k2 W c j a)) (stS W c (gmt (gc W c) j) i a (k1 W c j a) (k2 W c j a)) = goesS W (gmt (gc W c) j) (k1 W c j a) ((k2 W c j a).take ((k2 W c j a).length - 1) ++ []) (gtn (iT i) 0) := (by obtain ⟨o, r⟩ := i; have ho : o = 28 := ho; subst ho; rfl)
  rw [et] at h7
  have hs : cvT W s c (co (gmt (gc W c) j)) ((k2 W c j a).take ((k2 W c j a).length - 1) ++ []) (drp st 1) := (h2.drp (n := 1)).e
  rw [e]
  cases cmpS 28 (tv st 0).1 0 with
  | true => exact h.jp (h.tg (by rw [ho]; decide)) h7 hs
  | false => exact h.nx (by rw [ho]; decide) (by obtain ⟨o, r⟩ := i; have ho : o = 28 := ho; subst ho; rfl) (by obtain ⟨o, r⟩ := i; have ho : o = 28 := ho; subst ho; rfl) hs
theorem a_29 {i : Ins} (h : At W s t c j a lo st U i) (ho : i.1 = 29) : MK W (doS W t s c j a lo st U i q) t := by
  obtain ⟨⟨h1, h2⟩, h3, h5, ⟨h6, -, h7⟩, -⟩ := h.in
  have e : doS W t s c j a lo st U i q = sU s t (.inl (c, j, if cmpS 29 (tv st 0).1 0 then gtn (iT i) 0 else a + 1, lo, drp st 1) :: U) := (by obtain ⟨o, r⟩ := i; have ho : o = 29 := ho; subst ho; rfl)
  have et : thenS W (gmt (gc W c) j) i a (loS W c i (k1 W c j a) (k2 W c j a)) (stS W c (gmt (gc W c) j) i a (k1 W c j a) (k2 W c j a)) = goesS W (gmt (gc W c) j) (k1 W c j a) ((k2 W c j a).take ((k2 W c j a).length - 1) ++ []) (gtn (iT i) 0) := (by obtain ⟨o, r⟩ := i; have ho : o = 29 := ho; subst ho; rfl)
  rw [et] at h7
  have hs : cvT W s c (co (gmt (gc W c) j)) ((k2 W c j a).take ((k2 W c j a).length - 1) ++ []) (drp st 1) := (h2.drp (n := 1)).e
  rw [e]
  cases cmpS 29 (tv st 0).1 0 with
  | true => exact h.jp (h.tg (by rw [ho]; decide)) h7 hs
  | false => exact h.nx (by rw [ho]; decide) (by obtain ⟨o, r⟩ := i; have ho : o = 29 := ho; subst ho; rfl) (by obtain ⟨o, r⟩ := i; have ho : o = 29 := ho; subst ho; rfl) hs
theorem a_30 {i : Ins} (h : At W s t c j a lo st U i) (ho : i.1 = 30) : MK W (doS W t s c j a lo st U i q) t := by
  obtain ⟨⟨h1, h2⟩, h3, h5, ⟨h6, -, h7⟩, -⟩ := h.in
  have e : doS W t s c j a lo st U i q = sU s t (.inl (c, j, if cmpS 30 (tv st 1).1 (tv st 0).1 then gtn (iT i) 0 else a + 1, lo, drp st 2) :: U) := (by obtain ⟨o, r⟩ := i; have ho : o = 30 := ho; subst ho; rfl)
  have et : thenS W (gmt (gc W c) j) i a (loS W c i (k1 W c j a) (k2 W c j a)) (stS W c (gmt (gc W c) j) i a (k1 W c j a) (k2 W c j a)) = goesS W (gmt (gc W c) j) (k1 W c j a) ((k2 W c j a).take ((k2 W c j a).length - 2) ++ []) (gtn (iT i) 0) := (by obtain ⟨o, r⟩ := i; have ho : o = 30 := ho; subst ho; rfl)
  rw [et] at h7
  have hs : cvT W s c (co (gmt (gc W c) j)) ((k2 W c j a).take ((k2 W c j a).length - 2) ++ []) (drp st 2) := (h2.drp (n := 2)).e
  rw [e]
  cases cmpS 30 (tv st 1).1 (tv st 0).1 with
  | true => exact h.jp (h.tg (by rw [ho]; decide)) h7 hs
  | false => exact h.nx (by rw [ho]; decide) (by obtain ⟨o, r⟩ := i; have ho : o = 30 := ho; subst ho; rfl) (by obtain ⟨o, r⟩ := i; have ho : o = 30 := ho; subst ho; rfl) hs
theorem a_31 {i : Ins} (h : At W s t c j a lo st U i) (ho : i.1 = 31) : MK W (doS W t s c j a lo st U i q) t := by
  obtain ⟨⟨h1, h2⟩, h3, h5, ⟨h6, -, h7⟩, -⟩ := h.in
  have e : doS W t s c j a lo st U i q = sU s t (.inl (c, j, if cmpS 31 (tv st 1).1 (tv st 0).1 then gtn (iT i) 0 else a + 1, lo, drp st 2) :: U) := (by obtain ⟨o, r⟩ := i; have ho : o = 31 := ho; subst ho; rfl)
  have et : thenS W (gmt (gc W c) j) i a (loS W c i (k1 W c j a) (k2 W c j a)) (stS W c (gmt (gc W c) j) i a (k1 W c j a) (k2 W c j a)) = goesS W (gmt (gc W c) j) (k1 W c j a) ((k2 W c j a).take ((k2 W c j a).length - 2) ++ []) (gtn (iT i) 0) := (by obtain ⟨o, r⟩ := i; have ho : o = 31 := ho; subst ho; rfl)
  rw [et] at h7
  have hs : cvT W s c (co (gmt (gc W c) j)) ((k2 W c j a).take ((k2 W c j a).length - 2) ++ []) (drp st 2) := (h2.drp (n := 2)).e
  rw [e]
  cases cmpS 31 (tv st 1).1 (tv st 0).1 with
  | true => exact h.jp (h.tg (by rw [ho]; decide)) h7 hs
  | false => exact h.nx (by rw [ho]; decide) (by obtain ⟨o, r⟩ := i; have ho : o = 31 := ho; subst ho; rfl) (by obtain ⟨o, r⟩ := i; have ho : o = 31 := ho; subst ho; rfl) hs
theorem a_32 {i : Ins} (h : At W s t c j a lo st U i) (ho : i.1 = 32) : MK W (doS W t s c j a lo st U i q) t := by
  obtain ⟨⟨h1, h2⟩, h3, h5, ⟨h6, -, h7⟩, -⟩ := h.in
  have e : doS W t s c j a lo st U i q = sU s t (.inl (c, j, if cmpS 32 (tv st 1).1 (tv st 0).1 then gtn (iT i) 0 else a + 1, lo, drp st 2) :: U) := (by obtain ⟨o, r⟩ := i; have ho : o = 32 := ho; subst ho; rfl)
  have et : thenS W (gmt (gc W c) j) i a (loS W c i (k1 W c j a) (k2 W c j a)) (stS W c (gmt (gc W c) j) i a (k1 W c j a) (k2 W c j a)) = goesS W (gmt (gc W c) j) (k1 W c j a) ((k2 W c j a).take ((k2 W c j a).length - 2) ++ []) (gtn (iT i) 0) := (by obtain ⟨o, r⟩ := i; have ho : o = 32 := ho; subst ho; rfl)
  rw [et] at h7
  have hs : cvT W s c (co (gmt (gc W c) j)) ((k2 W c j a).take ((k2 W c j a).length - 2) ++ []) (drp st 2) := (h2.drp (n := 2)).e
  rw [e]
  cases cmpS 32 (tv st 1).1 (tv st 0).1 with
  | true => exact h.jp (h.tg (by rw [ho]; decide)) h7 hs
  | false => exact h.nx (by rw [ho]; decide) (by obtain ⟨o, r⟩ := i; have ho : o = 32 := ho; subst ho; rfl) (by obtain ⟨o, r⟩ := i; have ho : o = 32 := ho; subst ho; rfl) hs
theorem a_33 {i : Ins} (h : At W s t c j a lo st U i) (ho : i.1 = 33) : MK W (doS W t s c j a lo st U i q) t := by
  obtain ⟨⟨h1, h2⟩, h3, h5, ⟨h6, -, h7⟩, -⟩ := h.in
  have e : doS W t s c j a lo st U i q = sU s t (.inl (c, j, if cmpS 33 (tv st 1).1 (tv st 0).1 then gtn (iT i) 0 else a + 1, lo, drp st 2) :: U) := (by obtain ⟨o, r⟩ := i; have ho : o = 33 := ho; subst ho; rfl)
  have et : thenS W (gmt (gc W c) j) i a (loS W c i (k1 W c j a) (k2 W c j a)) (stS W c (gmt (gc W c) j) i a (k1 W c j a) (k2 W c j a)) = goesS W (gmt (gc W c) j) (k1 W c j a) ((k2 W c j a).take ((k2 W c j a).length - 2) ++ []) (gtn (iT i) 0) := (by obtain ⟨o, r⟩ := i; have ho : o = 33 := ho; subst ho; rfl)
  rw [et] at h7
  have hs : cvT W s c (co (gmt (gc W c) j)) ((k2 W c j a).take ((k2 W c j a).length - 2) ++ []) (drp st 2) := (h2.drp (n := 2)).e
  rw [e]
  cases cmpS 33 (tv st 1).1 (tv st 0).1 with
  | true => exact h.jp (h.tg (by rw [ho]; decide)) h7 hs
  | false => exact h.nx (by rw [ho]; decide) (by obtain ⟨o, r⟩ := i; have ho : o = 33 := ho; subst ho; rfl) (by obtain ⟨o, r⟩ := i; have ho : o = 33 := ho; subst ho; rfl) hs
theorem a_34 {i : Ins} (h : At W s t c j a lo st U i) (ho : i.1 = 34) : MK W (doS W t s c j a lo st U i q) t := by
  obtain ⟨⟨h1, h2⟩, h3, h5, ⟨h6, -, h7⟩, -⟩ := h.in
  have e : doS W t s c j a lo st U i q = sU s t (.inl (c, j, if cmpS 34 (tv st 1).1 (tv st 0).1 then gtn (iT i) 0 else a + 1, lo, drp st 2) :: U) := (by obtain ⟨o, r⟩ := i; have ho : o = 34 := ho; subst ho; rfl)
  have et : thenS W (gmt (gc W c) j) i a (loS W c i (k1 W c j a) (k2 W c j a)) (stS W c (gmt (gc W c) j) i a (k1 W c j a) (k2 W c j a)) = goesS W (gmt (gc W c) j) (k1 W c j a) ((k2 W c j a).take ((k2 W c j a).length - 2) ++ []) (gtn (iT i) 0) := (by obtain ⟨o, r⟩ := i; have ho : o = 34 := ho; subst ho; rfl)
  rw [et] at h7
  have hs : cvT W s c (co (gmt (gc W c) j)) ((k2 W c j a).take ((k2 W c j a).length - 2) ++ []) (drp st 2) := (h2.drp (n := 2)).e
  rw [e]
  cases cmpS 34 (tv st 1).1 (tv st 0).1 with
  | true => exact h.jp (h.tg (by rw [ho]; decide)) h7 hs
  | false => exact h.nx (by rw [ho]; decide) (by obtain ⟨o, r⟩ := i; have ho : o = 34 := ho; subst ho; rfl) (by obtain ⟨o, r⟩ := i; have ho : o = 34 := ho; subst ho; rfl) hs
theorem a_35 {i : Ins} (h : At W s t c j a lo st U i) (ho : i.1 = 35) : MK W (doS W t s c j a lo st U i q) t := by
  obtain ⟨⟨h1, h2⟩, h3, h5, ⟨h6, -, h7⟩, -⟩ := h.in
  have e : doS W t s c j a lo st U i q = sU s t (.inl (c, j, if cmpS 35 (tv st 1).1 (tv st 0).1 then gtn (iT i) 0 else a + 1, lo, drp st 2) :: U) := (by obtain ⟨o, r⟩ := i; have ho : o = 35 := ho; subst ho; rfl)
  have et : thenS W (gmt (gc W c) j) i a (loS W c i (k1 W c j a) (k2 W c j a)) (stS W c (gmt (gc W c) j) i a (k1 W c j a) (k2 W c j a)) = goesS W (gmt (gc W c) j) (k1 W c j a) ((k2 W c j a).take ((k2 W c j a).length - 2) ++ []) (gtn (iT i) 0) := (by obtain ⟨o, r⟩ := i; have ho : o = 35 := ho; subst ho; rfl)
  rw [et] at h7
  have hs : cvT W s c (co (gmt (gc W c) j)) ((k2 W c j a).take ((k2 W c j a).length - 2) ++ []) (drp st 2) := (h2.drp (n := 2)).e
  rw [e]
  cases cmpS 35 (tv st 1).1 (tv st 0).1 with
  | true => exact h.jp (h.tg (by rw [ho]; decide)) h7 hs
  | false => exact h.nx (by rw [ho]; decide) (by obtain ⟨o, r⟩ := i; have ho : o = 35 := ho; subst ho; rfl) (by obtain ⟨o, r⟩ := i; have ho : o = 35 := ho; subst ho; rfl) hs
theorem a_36 {i : Ins} (h : At W s t c j a lo st U i) (ho : i.1 = 36) : MK W (doS W t s c j a lo st U i q) t := by
  obtain ⟨⟨h1, h2⟩, h3, h5, ⟨h6, -, h7⟩, -⟩ := h.in
  have e : doS W t s c j a lo st U i q = sU s t (.inl (c, j, if cmpS 36 (tv st 0).1 0 then gtn (iT i) 0 else a + 1, lo, drp st 1) :: U) := (by obtain ⟨o, r⟩ := i; have ho : o = 36 := ho; subst ho; rfl)
  have et : thenS W (gmt (gc W c) j) i a (loS W c i (k1 W c j a) (k2 W c j a)) (stS W c (gmt (gc W c) j) i a (k1 W c j a) (k2 W c j a)) = goesS W (gmt (gc W c) j) (k1 W c j a) ((k2 W c j a).take ((k2 W c j a).length - 1) ++ []) (gtn (iT i) 0) := (by obtain ⟨o, r⟩ := i; have ho : o = 36 := ho; subst ho; rfl)
  rw [et] at h7
  have hs : cvT W s c (co (gmt (gc W c) j)) ((k2 W c j a).take ((k2 W c j a).length - 1) ++ []) (drp st 1) := (h2.drp (n := 1)).e
  rw [e]
  cases cmpS 36 (tv st 0).1 0 with
  | true => exact h.jp (h.tg (by rw [ho]; decide)) h7 hs
  | false => exact h.nx (by rw [ho]; decide) (by obtain ⟨o, r⟩ := i; have ho : o = 36 := ho; subst ho; rfl) (by obtain ⟨o, r⟩ := i; have ho : o = 36 := ho; subst ho; rfl) hs
theorem a_37 {i : Ins} (h : At W s t c j a lo st U i) (ho : i.1 = 37) : MK W (doS W t s c j a lo st U i q) t := by
  obtain ⟨⟨h1, h2⟩, h3, h5, ⟨h6, -, h7⟩, -⟩ := h.in
  have e : doS W t s c j a lo st U i q = sU s t (.inl (c, j, if cmpS 37 (tv st 0).1 0 then gtn (iT i) 0 else a + 1, lo, drp st 1) :: U) := (by obtain ⟨o, r⟩ := i; have ho : o = 37 := ho; subst ho; rfl)
  have et : thenS W (gmt (gc W c) j) i a (loS W c i (k1 W c j a) (k2 W c j a)) (stS W c (gmt (gc W c) j) i a (k1 W c j a) (k2 W c j a)) = goesS W (gmt (gc W c) j) (k1 W c j a) ((k2 W c j a).take ((k2 W c j a).length - 1) ++ []) (gtn (iT i) 0) := (by obtain ⟨o, r⟩ := i; have ho : o = 37 := ho; subst ho; rfl)
  rw [et] at h7
  have hs : cvT W s c (co (gmt (gc W c) j)) ((k2 W c j a).take ((k2 W c j a).length - 1) ++ []) (drp st 1) := (h2.drp (n := 1)).e
  rw [e]
  cases cmpS 37 (tv st 0).1 0 with
  | true => exact h.jp (h.tg (by rw [ho]; decide)) h7 hs
  | false => exact h.nx (by rw [ho]; decide) (by obtain ⟨o, r⟩ := i; have ho : o = 37 := ho; subst ho; rfl) (by obtain ⟨o, r⟩ := i; have ho : o = 37 := ho; subst ho; rfl) hs
theorem a_38 {i : Ins} (h : At W s t c j a lo st U i) (ho : i.1 = 38) : MK W (doS W t s c j a lo st U i q) t := by
  obtain ⟨⟨h1, h2⟩, h3, h5, ⟨h6, -, h7⟩, -⟩ := h.in
  have e : doS W t s c j a lo st U i q = sU s t (.inl (c, j, if cmpS 38 (tv st 1).1 (tv st 0).1 then gtn (iT i) 0 else a + 1, lo, drp st 2) :: U) := (by obtain ⟨o, r⟩ := i; have ho : o = 38 := ho; subst ho; rfl)
  have et : thenS W (gmt (gc W c) j) i a (loS W c i (k1 W c j a) (k2 W c j a)) (stS W c (gmt (gc W c) j) i a (k1 W c j a) (k2 W c j a)) = goesS W (gmt (gc W c) j) (k1 W c j a) ((k2 W c j a).take ((k2 W c j a).length - 2) ++ []) (gtn (iT i) 0) := (by obtain ⟨o, r⟩ := i; have ho : o = 38 := ho; subst ho; rfl)
  rw [et] at h7
  have hs : cvT W s c (co (gmt (gc W c) j)) ((k2 W c j a).take ((k2 W c j a).length - 2) ++ []) (drp st 2) := (h2.drp (n := 2)).e
  rw [e]
  cases cmpS 38 (tv st 1).1 (tv st 0).1 with
  | true => exact h.jp (h.tg (by rw [ho]; decide)) h7 hs
  | false => exact h.nx (by rw [ho]; decide) (by obtain ⟨o, r⟩ := i; have ho : o = 38 := ho; subst ho; rfl) (by obtain ⟨o, r⟩ := i; have ho : o = 38 := ho; subst ho; rfl) hs
theorem a_39 {i : Ins} (h : At W s t c j a lo st U i) (ho : i.1 = 39) : MK W (doS W t s c j a lo st U i q) t := by
  obtain ⟨⟨h1, h2⟩, h3, h5, ⟨h6, -, h7⟩, -⟩ := h.in
  have e : doS W t s c j a lo st U i q = sU s t (.inl (c, j, if cmpS 39 (tv st 1).1 (tv st 0).1 then gtn (iT i) 0 else a + 1, lo, drp st 2) :: U) := (by obtain ⟨o, r⟩ := i; have ho : o = 39 := ho; subst ho; rfl)
  have et : thenS W (gmt (gc W c) j) i a (loS W c i (k1 W c j a) (k2 W c j a)) (stS W c (gmt (gc W c) j) i a (k1 W c j a) (k2 W c j a)) = goesS W (gmt (gc W c) j) (k1 W c j a) ((k2 W c j a).take ((k2 W c j a).length - 2) ++ []) (gtn (iT i) 0) := (by obtain ⟨o, r⟩ := i; have ho : o = 39 := ho; subst ho; rfl)
  rw [et] at h7
  have hs : cvT W s c (co (gmt (gc W c) j)) ((k2 W c j a).take ((k2 W c j a).length - 2) ++ []) (drp st 2) := (h2.drp (n := 2)).e
  rw [e]
  cases cmpS 39 (tv st 1).1 (tv st 0).1 with
  | true => exact h.jp (h.tg (by rw [ho]; decide)) h7 hs
  | false => exact h.nx (by rw [ho]; decide) (by obtain ⟨o, r⟩ := i; have ho : o = 39 := ho; subst ho; rfl) (by obtain ⟨o, r⟩ := i; have ho : o = 39 := ho; subst ho; rfl) hs
end
