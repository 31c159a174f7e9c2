/-! THE MACHINE: an instruction keeps kinds -/
/-- a stack is of kinds -/
def cvT (W : List Cls) (s : Ms) (c : Nat) (C : List Ins) (ks : List Kd) (vs : List Vl) : Prop := ks.length = vs.length ∧ cvL W s c C ks vs
section
variable {W : List Cls} {s s' : Ms} {c : Nat} {C : List Ins} {κ : Kd} {v : Vl} {ks ks' : List Kd} {vs vs' : List Vl}
theorem cvT.sle (h : cvT W s c C ks vs) (hs : sle s s') : cvT W s' c C ks vs := ⟨h.1, cvL.sle h.2 hs⟩
theorem cvT.nil : cvT W s c C [] [] := ⟨rfl, fun i hi => absurd hi (Nat.not_lt_zero i)⟩
theorem lv_app1 {i : Nat} (h : i < vs.length) : lv (vs ++ vs') i = lv vs i := by
  show (vs ++ vs').getD i _ = vs.getD i _
  rw [List.getD_eq_getElem?_getD, List.getElem?_append_left h, List.getD_eq_getElem?_getD]
theorem lv_app2 {i : Nat} (h : vs.length ≤ i) : lv (vs ++ vs') i = lv vs' (i - vs.length) := by
  show (vs ++ vs').getD i _ = vs'.getD _ _
  rw [List.getD_eq_getElem?_getD, List.getElem?_append_right h, List.getD_eq_getElem?_getD]
theorem cvT.app (h : cvT W s c C ks vs) (h' : cvT W s c C ks' vs') : cvT W s c C (ks ++ ks') (vs ++ vs') := by
  refine ⟨by rw [List.length_append, List.length_append, h.1, h'.1], fun i hi => ?_⟩
  by_cases c1 : i < ks.length
  · rw [gk_app1 c1, lv_app1 (by rw [← h.1]; exact c1)]; exact h.2 i c1
  · rw [List.length_append] at hi
    rw [gk_app2 (by omega), lv_app2 (by rw [← h.1]; omega), h.1]
    have := h.1
    exact h'.2 _ (by omega)
theorem cvT.one (h : cv W s c C κ v) : cvT W s c C [κ] [v] := ⟨rfl, fun i hi => by
  have : i = 0 := by simpa using hi
  subst this; exact h⟩
theorem cvT.cons (h : cv W s c C κ v) (h' : cvT W s c C ks vs) : cvT W s c C (κ :: ks) (v :: vs) := (cvT.one h).app h'
theorem cvT.drp {n : Nat} (h : cvT W s c C ks vs) : cvT W s c C (ks.take (ks.length - n)) (drp vs n) := by
  show cvT W s c C _ (vs.take (vs.length - n))
  refine ⟨by rw [List.length_take, List.length_take, h.1], fun i hi => ?_⟩
  rw [List.length_take] at hi
  have e1 : gk (ks.take (ks.length - n)) i = gk ks i := by
    show (ks.take _).getD i _ = ks.getD i _
    rw [List.getD_eq_getElem?_getD, List.getElem?_take, if_pos (by omega), List.getD_eq_getElem?_getD]
  have e2 : lv (vs.take (vs.length - n)) i = lv vs i := by
    show (vs.take _).getD i _ = vs.getD i _
    rw [List.getD_eq_getElem?_getD, List.getElem?_take, if_pos (by rw [← h.1]; omega), List.getD_eq_getElem?_getD]
  rw [e1, e2]; exact h.2 i (by omega)
theorem cvT.top {k : Nat} (h : cvT W s c C ks vs) (hk : k < ks.length) : cv W s c C (tp ks k) (tv vs k) := by
  have := h.2 (ks.length - 1 - k) (by omega)
  rw [h.1] at this
  show cv W s c C (gk ks (ks.length - 1 - k)) (lv vs (vs.length - 1 - k))
  rw [h.1]; exact this
theorem cv.fl (h : cv W s c C κ v) (hr : rfK κ = true ∨ umK κ = true) : v.2 = true := by
  unfold rfK umK at hr
  simp only [Bool.or_eq_true, decide_eq_true_eq] at hr
  obtain ⟨h0, h1, h2, h3, h4, h5⟩ := h.1
  rcases hr with (z | z | z) | (z | z)
  · exact (h1 z).1
  · exact (h2 z).1
  · exact (h3 z).1
  · exact (h4 z).1
  · exact (h5 z).1
theorem cv.nfl (h : cv W s c C κ v) (hr : κ.1 = 0) : v.2 = false := h.1.1 hr
/-- what is wanted is there -/
theorem wFst_in {st : List Kd} : ∀ {ws : List Wt} {k : Nat}, wFst W st k ws = 0 → wUn W st k ws = false → ∀ j (hj : j < ws.length), wOne W ws[j] (tp st (k + j)) = 0
  | [], _, _, _, j, hj => absurd hj (Nat.not_lt_zero j)
  | w :: ws, k, h1, h2, j, hj => by
    unfold wFst at h1
    unfold wUn at h2
    rw [Bool.or_eq_false_iff] at h2
    have h3 : ¬ wOne W w (tp st k) = 39 := of_decide_eq_false h2.1
    by_cases c1 : wOne W w (tp st k) = 0 ∨ wOne W w (tp st k) = 39
    · rw [if_pos c1] at h1
      cases j with
      | zero => exact c1.resolve_right h3
      | succ j =>
        have := wFst_in h1 h2.2 j (by simpa using hj)
        rw [show k + (j + 1) = k + 1 + j by omega]; exact this
    · rw [if_neg c1] at h1; exact absurd (Or.inl h1) c1
theorem takeS_in {st : List Kd} {ws : List Wt} (h : takeS W st ws = 0) : ws.length ≤ st.length ∧ ∀ j (hj : j < ws.length), wOne W ws[j] (tp st j) = 0 := by
  unfold takeS at h
  by_cases c1 : st.length < ws.length
  · rw [if_pos c1] at h; exact absurd h (by decide)
  rw [if_neg c1] at h
  by_cases c2 : wFst W st 0 ws ≠ 0
  · rw [if_pos c2] at h; exact absurd h c2
  rw [if_neg c2] at h
  by_cases c3 : wUn W st 0 ws = true
  · rw [if_pos c3] at h; exact absurd h (by decide)
  refine ⟨by omega, fun j hj => ?_⟩
  have := wFst_in (Classical.not_not.mp c2) (by simpa using c3) j hj
  rw [Nat.zero_add] at this; exact this
theorem wOne_num (h : wOne W wNum κ = 0) : κ.1 = 0 := by
  unfold wOne at h
  rw [if_neg (by decide), if_neg (by decide), if_pos ⟨rfl, rfl⟩] at h
  by_cases c1 : κ.1 = 0
  · exact c1
  · rw [if_neg c1] at h; exact absurd h (by decide)
theorem wOne_ref (h : wOne W wRef κ = 0) : rfK κ = true := by
  unfold wOne at h
  rw [if_neg (by decide), if_neg (by decide), if_neg (by decide)] at h
  by_cases c1 : umK κ = true
  · rw [if_pos c1] at h; exact absurd h (by decide)
  rw [if_neg c1, if_pos rfl] at h
  by_cases c2 : rfK κ = true
  · exact c2
  · rw [if_neg c2] at h; exact absurd h (by decide)
theorem wOne_sto (h : wOne W wSto κ = 0) : rfK κ = true ∨ umK κ = true := by
  unfold wOne at h
  rw [if_neg (by decide), if_pos rfl] at h
  by_cases c1 : (rfK κ || umK κ) = true
  · simpa using c1
  · rw [if_neg c1] at h; exact absurd h (by decide)
theorem wOne_fit {κ' : Kd} (h : wOne W (0, κ') κ = 0) (hk : κ'.1 ≠ 0) : fitK W κ κ' = 0 := by
  unfold wOne at h
  rw [if_neg (show ¬ (0 : Nat) = 3 by decide), if_neg (show ¬ (0 : Nat) = 2 by decide), if_neg (fun z => hk z.2)] at h
  by_cases c1 : umK κ = true
  · rw [if_pos c1] at h; exact absurd h (by decide)
  rw [if_neg c1, if_neg (show ¬ (0 : Nat) = 1 by decide)] at h
  by_cases c2 : fitK W κ κ' = 0
  · exact c2
  rw [if_neg c2] at h
  by_cases c3 : fitK W κ κ' = 43
  · rw [if_pos c3] at h; exact absurd h (by decide)
  · rw [if_neg c3] at h; exact absurd h (by decide)
/-- a kind that a member has is met -/
theorem wOne_ty (hB : BI W) {κ' : Kd} (hk : tyOk κ') (h : wOne W (0, κ') κ = 0) (hv : cv W s c C κ v) : cv W s c C κ' v := by
  by_cases c1 : κ'.1 = 0
  · have : κ' = (0, []) := by
      rcases hk with z | z | z
      · exact z
      · rw [z] at c1; exact absurd c1 (by decide)
      · rw [z] at c1; exact absurd c1 (by decide)
    rw [this] at h ⊢
    have := hv.nfl (wOne_num h)
    exact ⟨cf.num this, fun z => by rw [this] at z; cases z⟩
  · exact hv.fit hB (wOne_fit h c1)
/-- a value of a type has the type's flag -/
theorem cv.ty (h : cv W s c C κ v) (hk : tyOk κ) : v.2 = decide (κ.1 ≠ 0) := by
  rcases hk with z | z | z
  · rw [z] at h ⊢; exact h.1.1 rfl
  · rw [z] at h ⊢; exact (h.1.2.2.1 rfl).1
  · have := (h.1.2.2.2.1 z).1
    rw [this, z]; rfl
/-- types are the same in every code -/
theorem cv.any {c' : Nat} {C' : List Ins} (h : cv W s c C κ v) (hk : tyOk κ) : cv W s c' C' κ v := by
  refine ⟨?_, h.2⟩
  obtain ⟨h0, h1, h2, h3, -, -⟩ := h.1
  refine ⟨h0, h1, h2, h3, fun z => ?_, fun z => ?_⟩
  · rcases hk with y | y | y <;> rw [y] at z <;> exact absurd z (by decide)
  · rcases hk with y | y | y <;> rw [y] at z <;> exact absurd z (by decide)
end
section
variable {br : Int32} {W : List Cls} {s s' : Ms} {t c j a : Nat} {lo st lo' st' : List Vl} {U : List Un}
/-- the next instruction -/
theorem nx_ok {o : Option Kd} (hW : WO W) (hM : MO W s t o (.inl (c, j, a, lo, st) :: U)) (hon : lSt (zN s t) = 1) (hg : goesOn (gin (co (gmt (gc W c) j)) a).1) (hlo : cvL W s c (co (gmt (gc W c) j)) (loS W c (gin (co (gmt (gc W c) j)) a) (kAt W c (gmt (gc W c) j) a).1 (kAt W c (gmt (gc W c) j) a).2) lo') (h20 : lo'.length = 20) (hv : ∀ v ∈ lo', v.2 = true → vRf s v.1) (hst : cvT W s c (co (gmt (gc W c) j)) (stS W c (gmt (gc W c) j) (gin (co (gmt (gc W c) j)) a) a (kAt W c (gmt (gc W c) j) a).1 (kAt W c (gmt (gc W c) j) a).2) st') : MK W (sU s t (.inl (c, j, a + 1, lo', st') :: U)) t := by
  obtain ⟨⟨hF, hA, hR⟩, hnd, hfr⟩ := hM.2.2.2.1
  obtain ⟨hck, hb, -, -, -⟩ := hF.in hW hM.1.1
  obtain ⟨h1, h2⟩ := at_next (s := s) hW.1 hb.1 hck hF.2.2.1 hg hlo hst.1 hst.2
  have hM2 : MO W s t none (.inl (c, j, a + 1, lo', st') :: U) := ⟨hM.1, hM.2.1, hM.2.2.1, ⟨⟨⟨hF.1, hF.2.1, h1, h20, hv⟩, h2, hR⟩, hnd, hfr⟩, hM.2.2.2.2⟩
  refine ⟨by rw [gU_sU]; exact hM2.put, fun z => absurd ?_ z⟩
  show lSt (up1 (zN s) t _ t) = 1
  rw [up1_s]; exact hon
/-- another instruction -/
theorem jp_ok (hW : WO W) {g : Nat} (hM : MO W s t none (.inl (c, j, a, lo, st) :: U)) (hon : lSt (zN s t) = 1) (hl : g < (co (gmt (gc W c) j)).length) {st0 : List Kd} (hg : goesS W (gmt (gc W c) j) (kAt W c (gmt (gc W c) j) a).1 st0 g = 0) (hst : cvT W s c (co (gmt (gc W c) j)) st0 st') : MK W (sU s t (.inl (c, j, g, lo, st') :: U)) t := by
  obtain ⟨⟨hF, hA, hR⟩, hnd, hfr⟩ := hM.2.2.2.1
  obtain ⟨hck, hb, -, -, hlen⟩ := hF.in hW hM.1.1
  have h2 := at_goes (s := s) hW.1 hg hlen hA.1 hst.1 hst.2
  have hM2 : MO W s t none (.inl (c, j, g, lo, st') :: U) := ⟨hM.1, hM.2.1, hM.2.2.1, ⟨⟨⟨hF.1, hF.2.1, hl, hF.2.2.2⟩, h2, hR⟩, hnd, hfr⟩, hM.2.2.2.2⟩
  refine ⟨by rw [gU_sU]; exact hM2.put, fun z => absurd ?_ z⟩
  show lSt (up1 (zN s) t _ t) = 1
  rw [up1_s]; exact hon
end
