/-! THE MACHINE: every act keeps kinds (printed by gen/dx.py) -/
section
variable {br : Int32} {W : List Cls} {s s' : Ms} {t c j a : Nat} {lo st : List Vl} {U : List Un} {q : Nat × Nat} {i : Ins} {o : Option Kd}
theorem Fq.m (hW : WO W) (hG : GL W s) (hq : Fq W s i q) (hmo : isMo i.1) : ∃ d, (fnd W (iK i) = some d ∧ d < W.length ∧ (zL s).1 d = 1) ∧ (q.1 < W.length ∧ q.2 < (gc W q.1).2.2.2.2.2.length) ∧ lik (gmt (gc W q.1) q.2) (xi i) ∧ ((zL s).1 q.1 = 1 ∧ (PB W d q.1 ∨ isFc W q.1 = true)) ∧ (i.1 = 52 ↔ ¬ (gmt (gc W q.1) q.2).2.2.2.1 &&& 1 = 0) ∧ ((i.1 = 52 ∨ i.1 = 51 ∨ ¬ (gmt (gc W q.1) q.2).2.2.2.1 &&& 4 = 0) → (gmt (gc W q.1) q.2).2.2.2.1 &&& 8 = 0) ∧ (iM i = nMake → q.1 = d) := by
  obtain ⟨d, h1, h2, -, h4, h5, h6⟩ := hq.2.2 hmo
  have hd := fnd_lt h1
  have ok := fMth1_ok hd h4
  refine ⟨d, ⟨h1, hd, h2⟩, ⟨ok.1, ok.2.1⟩, ok.2.2.1, fMth1_up hW.1 hG.1.1 hG.1.2.2 hd h2 h4, ?_, fun z => Classical.byContradiction (fun y => h6 ⟨z, y⟩), fun z => ?_⟩
  · constructor
    · intro z
      rw [decide_eq_true z] at h5
      exact of_decide_eq_true h5
    · intro z
      rw [decide_eq_true z] at h5
      exact of_decide_eq_true h5.symm
  · unfold fMth1 at h4
    rw [if_pos z] at h4
    cases e : ownI (iM i, iA i, iR i, 0, 0, 0, [], []) 0 (gc W d).2.2.2.2.2 with
    | none => rw [e] at h4; cases h4
    | some k => rw [e] at h4; cases h4; rfl
/-- who is called is of the class -/
theorem rcv {d : Nat} {r : Int32} {m : Nat} (hB : BI W) (hr : isFc W d = true ∨ d = 0 ∨ ∃ e, clR s r = some e ∧ PB W e d) (hm : PB W d m ∨ isFc W m = true) : isFc W m = true ∨ m = 0 ∨ ∃ e, clR s r = some e ∧ PB W e m := by
  rcases hm with z | z
  · rcases hr with y | y | ⟨e, y1, y2⟩
    · rcases pb_face hB (Or.inl y) z with x | x
      · rw [x]; exact Or.inl y
      · exact Or.inr (Or.inl x)
    · rcases pb_face hB (Or.inr y) z with x | x
      · rw [x]; exact Or.inr (Or.inl y)
      · exact Or.inr (Or.inl x)
    · exact Or.inr (Or.inr ⟨e, y1, y2.trans z⟩)
  · exact Or.inl z
theorem a_52 (h : At W s t c j a lo st U i) (hq : Fq W s i q) (ho : i.1 = 52) : MK W (doS W t s c j a lo st U i q) t := by
  have hmo : isMo i.1 := by rw [ho]; decide
  obtain ⟨d, -, hm, hl, hu, hs, h8, -⟩ := hq.m h.1.1 h.1.2.1.1.1 hmo
  have e : doS W t s c j a lo st U i q = (if q.1 < 21 then sU s t (.inl (c, j, a + 1, lo, drp st ((iA i).length + ([] : List Wt).length)) :: U) else enterS W t s (.inl (c, j, a, lo, drp st ((iA i).length + ([] : List Wt).length)) :: U) q.1 q.2 (st.drop (st.length - ((iA i).length + ([] : List Wt).length)))) := (by obtain ⟨o, r⟩ := i; have ho : o = 52 := ho; subst ho; rfl)
  rw [e]
  exact go_ok h hmo (by obtain ⟨o, r⟩ := i; have ho : o = 52 := ho; subst ho; rfl) hm hl hu.1 (h8 (Or.inl ho)) (Or.inl ⟨rfl, hs.mp ho⟩)
theorem a_51 (h : At W s t c j a lo st U i) (hq : Fq W s i q) (ho : i.1 = 51) : MK W (doS W t s c j a lo st U i q) t := by
  have hmo : isMo i.1 := by rw [ho]; decide
  have hW := h.1.1
  have hG := h.1.2.1.1.1
  obtain ⟨d, hd, hm, hl, hu, hs, h8, hmk⟩ := hq.m hW hG hmo
  obtain ⟨-, -, -, ⟨-, h6, -⟩, -⟩ := h.in
  obtain ⟨⟨hF, -⟩, -⟩ := h.1.2.1.2.2.2.1
  have e : doS W t s c j a lo st U i q = if (tv st (iA i).length).1 = 0 then failS W t s 2 0 else if ¬ (gmt (gc W q.1) q.2).2.2.2.1 &&& 8 = 0 then failS W t s 18 58 else (if q.1 < 21 then sU s t (.inl (c, j, a + 1, lo, drp st ((iA i).length + 1)) :: U) else enterS W t s (.inl (c, j, a, lo, drp st ((iA i).length + 1)) :: U) q.1 q.2 (st.drop (st.length - ((iA i).length + 1)))) := (by obtain ⟨o, r⟩ := i; have ho : o = 51 := ho; subst ho; rfl)
  have hw : wlist W c (gmt (gc W c) j) i = (iA i).reverse.map (fun κ => (0, κ)) ++ [if iM i = nMake then wAny else (0, (2, (gc W c).1))] := (by obtain ⟨o, r⟩ := i; have ho : o = 51 := ho; subst ho; rfl)
  obtain ⟨-, -, ar⟩ := cl_args h hw
  obtain ⟨w1, w2⟩ := ar (by simp)
  have w1 : wOne W (if iM i = nMake then wAny else (0, (2, (gc W c).1))) (tp (k2 W c j a) (iA i).length) = 0 := w1
  rw [e]
  by_cases c0 : (tv st (iA i).length).1 = 0
  · rw [if_pos c0]; exact h.fl (by omega) (by omega)
  rw [if_neg c0, if_neg (fun z => z (h8 (Or.inr (Or.inl ho))))]
  have hns : (gmt (gc W q.1) q.2).2.2.2.1 &&& 1 = 0 := Classical.byContradiction (fun z => by have := hs.mpr z; omega)
  refine go_ok h hmo (T := [if iM i = nMake then wAny else (0, (2, (gc W c).1))]) hw hm hl hu.1 (h8 (Or.inr (Or.inl ho))) (Or.inr ⟨rfl, hns, ?_⟩)
  by_cases cm : iM i = nMake
  · have hq1 := hmk cm
    have hr := ownS_mr h6 ⟨ho, cm⟩
    have key : (tv st (iA i).length).2 = true ∧ ∃ e, clR s (tv st (iA i).length).1 = some e ∧ PB W e q.1 := by
      unfold mkRight at hr
      by_cases c3 : (tp (k2 W c j a) (iA i).length).1 = -3
      · rw [if_pos c3] at hr
        obtain ⟨b1, -, e, b2, b3⟩ := w2.1.2.2.2.2.1 c3
        refine ⟨b1, e, b2, ?_⟩
        rw [hq1]
        rcases of_decide_eq_true hr with z | z
        · have := hd.1
          rw [z, hW.fn hF.1.2.1] at this; cases this; exact b3
        · have hd1 := hd.1
          rw [z] at hd1
          unfold upN at hd1
          have c0' : c ≠ 0 := by have := hF.1.1; omega
          by_cases cf' : isFc W c = true
          · rw [if_pos cf', hW.1.thing] at hd1; cases hd1
            exact b3.trans (PB.one (by unfold upW; rw [if_neg c0', if_pos cf']))
          · rw [if_neg cf'] at hd1
            exact b3.trans (PB.one (by unfold upW; rw [if_neg c0', if_neg cf']; exact hd1))
      · rw [if_neg c3] at hr
        by_cases c10 : (tp (k2 W c j a) (iA i).length).1 ≤ -10
        · rw [if_pos c10] at hr
          obtain ⟨b1, -, e, b2, b3⟩ := w2.1.2.2.2.2.2 c10
          refine ⟨b1, e, b2, ?_⟩
          rw [of_decide_eq_true hr, hd.1] at b3
          cases b3
          rw [hq1]; exact Reach.rf _ _
        · rw [if_neg c10] at hr; cases hr
    exact ⟨key.1, w2.2 key.1, c0, Or.inr (Or.inr key.2), fun _ => key.2⟩
  · rw [if_neg cm] at w1
    have v := w2.fit hW.1 (wOne_fit w1 (show ¬ (2 : Int) = 0 by decide))
    obtain ⟨b1, b2⟩ := v.1.2.2.2.1 rfl
    obtain ⟨d', b3, b4⟩ := b2.resolve_left c0
    have b3 : fnd W (gc W c).1 = some d' := b3
    rw [hW.fn hF.1.2.1] at b3; cases b3
    refine ⟨b1, v.2 b1, c0, ?_, fun z => absurd z cm⟩
    have hn : near W c (iK i) = true := by
      unfold ownS at h6
      rw [if_neg (by omega), if_neg (by omega), if_neg (by omega), if_neg (by omega), if_pos ho, if_neg cm] at h6
      by_cases z : near W c (iK i) = true
      · exact z
      · rw [if_neg z] at h6; exact absurd h6 (by decide)
    have hd1 := hd.1
    have c0' : c ≠ 0 := by have := hF.1.1; omega
    unfold near at hn
    rcases of_decide_eq_true hn with (z | z) | z
    · rw [z, hW.fn hF.1.2.1] at hd1; cases hd1
      exact rcv hW.1 b4 hu.2
    · rw [z] at hd1
      unfold upN at hd1
      have hup : upW W c = some d := by
        unfold upW
        by_cases cf' : isFc W c = true
        · rw [if_pos cf', hW.1.thing] at hd1; cases hd1
          rw [if_neg c0', if_pos cf']
        · rw [if_neg cf'] at hd1
          rw [if_neg c0', if_neg cf']; exact hd1
      exact rcv hW.1 (rcv hW.1 b4 (Or.inl (PB.one hup))) hu.2
    · have hf := faces_fc hW.1 hG.1.1 hG.1.2.2 hF.1.2.1 hF.1.2.2 _ z d hd1
      exact rcv hW.1 (Or.inl hf.2.2) hu.2
theorem a_50x (h : At W s t c j a lo st U i) (hq : Fq W s i q) (ho : i.1 = 50 ∨ i.1 = 53) (hw : wlist W c (gmt (gc W c) j) i = (iA i).reverse.map (fun κ => (0, κ)) ++ [(0, (2, iK i))]) {P : Prop} [Decidable P]
    (e : doS W t s c j a lo st U i q = if (tv st (iA i).length).1 = 0 then failS W t s 2 0 else if (gmt (gc W q.1) q.2).2.2.2.1 &&& 4 = 0 then (if P then failS W t s 15 59 else match (match clR s (tv st (iA i).length).1 with | none => none | some d => mthW W (xi i) 5 d) with
      | none => failS W t s 18 58
      | some m => if ¬ (gmt (gc W m.1) m.2).2.2.2.1 &&& 8 = 0 then failS W t s 18 58 else (if m.1 < 21 then sU s t (.inl (c, j, a + 1, lo, drp st ((iA i).length + 1)) :: U) else enterS W t s (.inl (c, j, a, lo, drp st ((iA i).length + 1)) :: U) m.1 m.2 (st.drop (st.length - ((iA i).length + 1)))))
      else if ¬ (gmt (gc W q.1) q.2).2.2.2.1 &&& 8 = 0 then failS W t s 18 58 else (if q.1 < 21 then sU s t (.inl (c, j, a + 1, lo, drp st ((iA i).length + 1)) :: U) else enterS W t s (.inl (c, j, a, lo, drp st ((iA i).length + 1)) :: U) q.1 q.2 (st.drop (st.length - ((iA i).length + 1))))) : MK W (doS W t s c j a lo st U i q) t := by
  have hmo : isMo i.1 := by rcases ho with z | z <;> rw [z] <;> decide
  have hW := h.1.1
  have hG := h.1.2.1.1.1
  obtain ⟨d, hd, hm, hl, hu, hs, h8, hmk⟩ := hq.m hW hG hmo
  obtain ⟨-, -, -, ⟨-, h6, -⟩, -⟩ := h.in
  have hnm := ownS_nmk h6 (by omega)
  obtain ⟨-, -, ar⟩ := cl_args h hw
  obtain ⟨w1, w2⟩ := ar (by simp)
  have w1 : wOne W (0, (2, iK i)) (tp (k2 W c j a) (iA i).length) = 0 := w1
  rw [e]
  by_cases c0 : (tv st (iA i).length).1 = 0
  · rw [if_pos c0]; exact h.fl (by omega) (by omega)
  rw [if_neg c0]
  have v := w2.fit hW.1 (wOne_fit w1 (show ¬ (2 : Int) = 0 by decide))
  obtain ⟨b1, b2⟩ := v.1.2.2.2.1 rfl
  obtain ⟨d', b3, b4⟩ := b2.resolve_left c0
  have b3 : fnd W (iK i) = some d' := b3
  rw [hd.1] at b3; cases b3
  by_cases c4 : (gmt (gc W q.1) q.2).2.2.2.1 &&& 4 = 0
  · rw [if_pos c4]
    by_cases cp : P
    · rw [if_pos cp]; exact h.fl (by omega) (by omega)
    rw [if_neg cp]
    cases ec : clR s (tv st (iA i).length).1 with
    | none => exact h.fl (by omega) (by omega)
    | some e0 =>
      dsimp only
      cases em : mthW W (xi i) 5 e0 with
      | none => exact h.fl (by omega) (by omega)
      | some m =>
        dsimp only
        by_cases c8 : ¬ (gmt (gc W m.1) m.2).2.2.2.1 &&& 8 = 0
        · rw [if_pos c8]; exact h.fl (by omega) (by omega)
        rw [if_neg c8]
        obtain ⟨⟨he1, he2⟩, -⟩ := clR_lk hW.1 hG (v.2 b1) c0 ec
        have ok := mthW_ok he1 em
        have up := mthW_up hW.1 hG.1.1 hG.1.2.2 he1 he2 em
        have hns : (gmt (gc W m.1) m.2).2.2.2.1 &&& 1 = 0 := by
          have h5 := ok.2.2.2
          have : (gmt (gc W m.1) m.2).2.2.2.1 &&& 1 = ((gmt (gc W m.1) m.2).2.2.2.1 &&& 5) &&& 1 := by
            rw [Int32.and_assoc]; rfl
          rw [this, h5]; rfl
        exact go_ok h hmo (T := [(0, (2, iK i))]) hw ⟨ok.1, ok.2.1⟩ ok.2.2.1 up.1 (Classical.not_not.mp c8) (Or.inr ⟨rfl, hns, b1, v.2 b1, c0, rcv hW.1 (d := e0) (Or.inr (Or.inr ⟨e0, ec, Reach.rf _ _⟩)) up.2, fun z => absurd z hnm⟩)
  · rw [if_neg c4]
    have h8' := h8 (Or.inr (Or.inr c4))
    rw [if_neg (fun z => z h8')]
    have hns : (gmt (gc W q.1) q.2).2.2.2.1 &&& 1 = 0 := Classical.byContradiction (fun z => by have := hs.mpr z; omega)
    exact go_ok h hmo (T := [(0, (2, iK i))]) hw hm hl hu.1 h8' (Or.inr ⟨rfl, hns, b1, v.2 b1, c0, rcv hW.1 b4 hu.2, fun z => absurd z hnm⟩)
theorem a_50 (h : At W s t c j a lo st U i) (hq : Fq W s i q) (ho : i.1 = 50) : MK W (doS W t s c j a lo st U i q) t := by
  refine a_50x h hq (by omega) (by obtain ⟨o, r⟩ := i; have ho : o = 50 := ho; subst ho; rfl) (P := (50 : Nat) = 53 ∧ (match fnd W (iK i) with | none => false | some d => bel W (clN s (tv st (iA i).length).1) d) = false) ?_
  obtain ⟨o, r⟩ := i
  have ho : o = 50 := ho
  subst ho
  by_cases c0 : (tv st (iA (50, r)).length).1 = 0
  · rw [if_pos c0]; exact if_pos c0
  rw [if_neg c0]
  refine (if_neg c0).trans ?_
  by_cases c4 : (gmt (gc W q.1) q.2).2.2.2.1 &&& 4 = 0
  · rw [if_pos c4]; exact if_pos ⟨(show ¬ (50 : Nat) = 51 by decide), c4⟩
  · rw [if_neg c4]; exact if_neg (fun z => c4 z.2)
theorem a_53 (h : At W s t c j a lo st U i) (hq : Fq W s i q) (ho : i.1 = 53) : MK W (doS W t s c j a lo st U i q) t := by
  refine a_50x h hq (by omega) (by obtain ⟨o, r⟩ := i; have ho : o = 53 := ho; subst ho; rfl) (P := (53 : Nat) = 53 ∧ (match fnd W (iK i) with | none => false | some d => bel W (clN s (tv st (iA i).length).1) d) = false) ?_
  obtain ⟨o, r⟩ := i
  have ho : o = 53 := ho
  subst ho
  by_cases c0 : (tv st (iA (53, r)).length).1 = 0
  · rw [if_pos c0]; exact if_pos c0
  rw [if_neg c0]
  refine (if_neg c0).trans ?_
  by_cases c4 : (gmt (gc W q.1) q.2).2.2.2.1 &&& 4 = 0
  · rw [if_pos c4]; exact if_pos ⟨(show ¬ (53 : Nat) = 51 by decide), c4⟩
  · rw [if_neg c4]; exact if_neg (fun z => c4 z.2)
theorem pickS_in {x : Mth} {l0 s0 : List Kd} {ts : List Nat} : ∀ {n k : Nat}, pickS W x l0 s0 ts n k = 0 → ∀ m, m < n → goesS W x l0 s0 (gtn ts ((k + m) % ts.length)) = 0
  | 0, _, _, m, hm => absurd hm (Nat.not_lt_zero m)
  | n + 1, k, h, m, hm => by
    unfold pickS at h
    by_cases c1 : goesS W x l0 s0 (gtn ts (k % ts.length)) = 0
    · rw [if_pos c1] at h
      cases m with
      | zero => exact c1
      | succ m =>
        have := pickS_in h m (by omega)
        rw [show k + (m + 1) = k + 1 + m by omega]; exact this
    · rw [if_neg c1] at h; exact absurd h c1
theorem pickN_lt {x y : Int32} {n : Nat} (h : 0 < n) : pickN x y n < n := by
  unfold pickN
  split <;> omega
theorem a_40 (h : At W s t c j a lo st U i) (ho : i.1 = 40) : MK W (doS W t s c j a lo st U i q) t := by
  obtain ⟨⟨h1, h2⟩, h3, h5, ⟨h6, -, h7⟩, hwf⟩ := h.in
  have e : doS W t s c j a lo st U i q = sU s t (.inl (c, j, gtn (iT i) (pickN (iV i) (tv st 0).1 (iT i).length), lo, drp st 1) :: U) := (by obtain ⟨o, r⟩ := i; have ho : o = 40 := ho; subst ho; rfl)
  have et : thenS W (gmt (gc W c) j) i a (loS W c i (k1 W c j a) (k2 W c j a)) (stS W c (gmt (gc W c) j) i a (k1 W c j a) (k2 W c j a)) = pickS W (gmt (gc W c) j) (k1 W c j a) ((k2 W c j a).take ((k2 W c j a).length - 1) ++ []) (iT i) (iT i).length 1 := (by obtain ⟨o, r⟩ := i; have ho : o = 40 := ho; subst ho; rfl)
  rw [et] at h7
  have hn : (iT i).length ≠ 0 := hwf.2.1.2.1 ho
  have hlt := pickN_lt (x := iV i) (y := (tv st 0).1) (n := (iT i).length) (by omega)
  rw [e]
  generalize pickN (iV i) (tv st 0).1 (iT i).length = p at hlt
  refine h.jp (hwf.2.2.1 _ (getD_mem hlt)) ?_ (h2.drp (n := 1)).e
  by_cases p0 : p = 0
  · have := pickS_in h7 ((iT i).length - 1) (by omega)
    rw [show (1 + ((iT i).length - 1)) % (iT i).length = p by rw [show 1 + ((iT i).length - 1) = (iT i).length by omega, Nat.mod_self, p0]] at this
    exact this
  · have := pickS_in h7 (p - 1) (by omega)
    rw [show (1 + (p - 1)) % (iT i).length = p by rw [show 1 + (p - 1) = p by omega, Nat.mod_eq_of_lt hlt]] at this
    exact this
theorem doS_ok (h : At W s t c j a lo st U i) (hq : Fq W s i q) : MK W (doS W t s c j a lo st U i q) t := by
  have h62 : i.1 < 62 := h.in.2.2.2.2.1
  have : i.1 = 0 ∨ i.1 = 1 ∨ i.1 = 2 ∨ i.1 = 3 ∨ i.1 = 4 ∨ i.1 = 5 ∨ i.1 = 6 ∨ i.1 = 7 ∨ i.1 = 8 ∨ i.1 = 9 ∨ i.1 = 10 ∨ i.1 = 11 ∨ i.1 = 12 ∨ i.1 = 13 ∨ i.1 = 14 ∨ i.1 = 15 ∨ i.1 = 16 ∨ i.1 = 17 ∨ i.1 = 18 ∨ i.1 = 19 ∨ i.1 = 20 ∨ i.1 = 21 ∨ i.1 = 22 ∨ i.1 = 23 ∨ i.1 = 24 ∨ i.1 = 25 ∨ i.1 = 26 ∨ i.1 = 27 ∨ i.1 = 28 ∨ i.1 = 29 ∨ i.1 = 30 ∨ i.1 = 31 ∨ i.1 = 32 ∨ i.1 = 33 ∨ i.1 = 34 ∨ i.1 = 35 ∨ i.1 = 36 ∨ i.1 = 37 ∨ i.1 = 38 ∨ i.1 = 39 ∨ i.1 = 40 ∨ i.1 = 41 ∨ i.1 = 42 ∨ i.1 = 43 ∨ i.1 = 44 ∨ i.1 = 45 ∨ i.1 = 46 ∨ i.1 = 47 ∨ i.1 = 48 ∨ i.1 = 49 ∨ i.1 = 50 ∨ i.1 = 51 ∨ i.1 = 52 ∨ i.1 = 53 ∨ i.1 = 54 ∨ i.1 = 55 ∨ i.1 = 56 ∨ i.1 = 57 ∨ i.1 = 58 ∨ i.1 = 59 ∨ i.1 = 60 ∨ i.1 = 61 := by omega
  rcases this with ho | ho | ho | ho | ho | ho | ho | ho | ho | ho | ho | ho | ho | ho | ho | ho | ho | ho | ho | ho | ho | ho | ho | ho | ho | ho | ho | ho | ho | ho | ho | ho | ho | ho | ho | ho | ho | ho | ho | ho | ho | ho | ho | ho | ho | ho | ho | ho | ho | ho | ho | ho | ho | ho | ho | ho | ho | ho | ho | ho | ho | ho
  · exact a_0 h ho
  · exact a_1 h ho
  · exact a_2 h ho
  · exact a_3 h ho
  · exact a_4 h ho
  · exact a_5 h ho
  · exact a_6 h ho
  · exact a_7 h ho
  · exact a_8 h ho
  · exact a_9 h ho
  · exact a_10 h ho
  · exact a_11 h ho
  · exact a_12 h ho
  · exact a_13 h ho
  · exact a_14 h ho
  · exact a_15 h ho
  · exact a_16 h ho
  · exact a_17 h ho
  · exact a_18 h ho
  · exact a_19 h ho
  · exact a_20 h ho
  · exact a_21 h ho
  · exact a_22 h ho
  · exact a_23 h ho
  · exact a_24 h ho
  · exact a_25 h ho
  · exact a_26 h ho
  · exact a_27 h ho
  · exact a_28 h ho
  · exact a_29 h ho
  · exact a_30 h ho
  · exact a_31 h ho
  · exact a_32 h ho
  · exact a_33 h ho
  · exact a_34 h ho
  · exact a_35 h ho
  · exact a_36 h ho
  · exact a_37 h ho
  · exact a_38 h ho
  · exact a_39 h ho
  · exact a_40 h ho
  · exact a_41 h hq ho
  · exact a_42 h ho
  · exact a_43 h ho
  · exact a_44 h ho
  · exact a_45 h ho
  · exact a_46 h hq ho
  · exact a_47 h hq ho
  · exact a_48 h hq ho
  · exact a_49 h hq ho
  · exact a_50 h hq ho
  · exact a_51 h hq ho
  · exact a_52 h hq ho
  · exact a_53 h hq ho
  · exact a_54 h ho
  · exact a_55 h ho
  · exact a_56 h ho
  · exact a_57 h ho
  · exact a_58 h ho
  · exact a_59 h ho
  · exact a_60 h ho
  · exact a_61 h ho
end
