/-! THE MACHINE: instructions that have to do with objects -/
section
variable {W : List Cls} {L : Nat → Int32}
theorem fbS_up {P : Nat → Prop} {K : Nat → List Nat → FV} (hK : ∀ d v r, P d → (K d v).1 = some r → P r.1) : ∀ fs v r, (∀ f ∈ fs, ∀ e, fnd W f = some e → P e) → (fbS K W fs v).1 = some r → P r.1
  | [], v, r, _, h => by cases h
  | f :: fs, v, r, hf, h => by
    unfold fbS at h
    split at h
    · exact fbS_up hK fs v r (fun g hg => hf g (List.mem_cons_of_mem _ hg)) h
    · rename_i d ed
      have hk := hK d v r (hf f List.mem_cons_self d ed)
      split at h
      · rename_i e
        rw [e] at hk
        exact hk h
      · exact fbS_up hK fs _ r (fun g hg => hf g (List.mem_cons_of_mem _ hg)) h
theorem fbN_fc (hB : BI W) (hI : LInv W L) (hk : KJ W L) {nm : Nm} {κ : Kd} : ∀ n c v r, fcL W L c → (fbN W nm κ n c v).1 = some r → fcL W L r.1
  | 0, c, v, r, _, h => by cases h
  | n + 1, c, v, r, hc, h => by
    unfold fbN at h
    split at h
    · cases h
    split at h
    · cases h; exact hc
    · exact fbS_up (P := fcL W L) (fun d v r hd hr => fbN_fc hB hI hk n d v r hd hr) _ _ r (faces_fc hB hI hk hc.1 hc.2.1) h
theorem fldW_up (hB : BI W) (hI : LInv W L) (hk : KJ W L) {nm : Nm} {κ : Kd} {c : Nat} {q : Nat × Nat} (hc : c < W.length) (hl : L c = 1) (h : fldW W nm κ c = some q) : L q.1 = 1 ∧ (PB W c q.1 ∨ isFc W q.1 = true) := by
  have : ∀ n c v, c < W.length → L c = 1 → fdU W nm κ n (some c) v = some q → L q.1 = 1 ∧ (PB W c q.1 ∨ isFc W q.1 = true) := by
    intro n
    induction n with
    | zero => intro c v _ _ z; cases z
    | succ n ih =>
      intro c v hc hl z
      unfold fdU at z
      split at z
      · rename_i q' _ e'
        cases z
        unfold fbN at e'
        split at e'
        · cases e'
        split at e'
        · cases e'; exact ⟨hl, Or.inl (Reach.rf _ _)⟩
        · have := fbS_up (P := fcL W L) (fun d v r hd hr => fbN_fc hB hI hk 59 d v r hd hr) _ _ q (faces_fc hB hI hk hc hl) (by rw [e'])
          exact ⟨this.2.1, Or.inr this.2.2⟩
      · by_cases c0 : c = 0
        · have e : upW W c = none := by unfold upW; rw [if_pos c0]
          rw [e] at z
          cases n <;> cases z
        · obtain ⟨e, eu, el, le, -⟩ := hI.upm hc hl c0
          rw [eu] at z
          have := ih e _ el le z
          exact ⟨this.1, this.2.imp (fun y => PB.cons eu y) id⟩
  exact this 52 c [] hc hl h
theorem pb_face (hB : BI W) {c d : Nat} (hf : isFc W c = true ∨ c = 0) (h : PB W c d) : d = c ∨ d = 0 := by
  obtain ⟨n, h⟩ := h
  have z0 : ∀ n d, Rc (fun a b => upW W a = some b) n 0 d → d = 0 := by
    intro n d h
    cases n with
    | zero => exact (show 0 = d from h).symm
    | succ n =>
      obtain ⟨x, hx, -⟩ := h
      have hx : upW W 0 = some x := hx
      unfold upW at hx; rw [if_pos rfl] at hx; cases hx
  cases n with
  | zero => exact Or.inl (show c = d from h).symm
  | succ n =>
    obtain ⟨x, hx, h⟩ := h
    have hx : upW W c = some x := hx
    by_cases c0 : c = 0
    · unfold upW at hx; rw [if_pos c0] at hx; cases hx
    unfold upW at hx
    rw [if_neg c0, if_pos (hf.resolve_right c0)] at hx
    cases hx
    exact Or.inr (z0 n d h)
theorem BI.nof (hB : BI W) {c : Nat} (hc : c < 21) : (gc W c).2.2.2.2.1 = [] := by
  rw [hB.2 c hc]; exact (show ∀ c, c < 21 → (gc W21 c).2.2.2.2.1 = [] by decide) c hc
end
section
variable {W : List Cls} {s s' : Ms} {t c j a : Nat} {lo st : List Vl} {U : List Un} {q : Nat × Nat} {i : Ins}
/-- the class of a reference is linked -/
theorem clR_lk (hB : BI W) (hG : GL W s) {r : Int32} {e : Nat} (hv : vRf s r) (h0 : r ≠ 0) (h : clR s r = some e) : (e < W.length ∧ (zL s).1 e = 1) ∧ (e < 21 ∨ ∃ n, r = Int32.ofNat n ∧ r.toNatClampNeg = n ∧ thr s n = true ∧ (gOb s n).1 = some e) := by
  obtain ⟨n, er, en, hn⟩ := hv.n
  unfold clR at h
  rw [en] at h
  rcases hn with z | z | z
  · rw [z] at er; exact absurd er h0
  · rw [if_neg (by omega)] at h
    have := (hG.2.1.2.1 n z.2).2
    unfold obO at this
    rw [h] at this
    exact ⟨this.1, Or.inr ⟨n, er, en, z.2, h⟩⟩
  · rw [if_pos z.1] at h
    cases h
    have := hG.2.2.2.1 (gFt s (n - 801)) (getD_mem (by omega))
    exact ⟨⟨by have := hB.1; omega, hG.1.1.1.2.2.2.2 _ this.2⟩, Or.inl this.2⟩
theorem clR_row (hG : GL W s) {r : Int32} (hv : vRf s r) (h0 : r ≠ 0) (h : clR s r = none) : ∃ n, r = Int32.ofNat n ∧ r.toNatClampNeg = n ∧ thr s n = true ∧ (gOb s n).1 = none := by
  obtain ⟨n, er, en, hn⟩ := hv.n
  unfold clR at h
  rw [en] at h
  rcases hn with z | z | z
  · rw [z] at er; exact absurd er h0
  · rw [if_neg (by omega)] at h
    exact ⟨n, er, en, z.2, h⟩
  · rw [if_pos z.1] at h; cases h
theorem At.st' (h : At W s t c j a lo st U i) (hM : MO W s' t none (.inl (c, j, a, lo, st) :: U)) (hN : zN s' = zN s) (hF : (zF s').length = (zF s).length) : At W s' t c j a lo st U i :=
  ⟨⟨h.1.1, hM, by rw [hN]; exact h.1.2.2⟩, by show lU (zN s' t) = _; rw [hN]; exact h.2.1, h.2.2.1, by rw [hF]; exact h.2.2.2⟩
/-- what was found -/
def Fq (W : List Cls) (s : Ms) (i : Ins) (q : Nat × Nat) : Prop := (i.1 = 41 → fnd W (iK i) = some q.1 ∧ (zL s).1 q.1 = 1) ∧ (isFo i.1 → ∃ d, fnd W (iK i) = some d ∧ (zL s).1 d = 1 ∧ fldW W (iM i) (iR i) d = some q ∧ (i.1 < 48 → (gfl (gc W q.1) q.2).2.2.1 &&& 1 = 0 ∧ isFc W q.1 = false) ∧ (48 ≤ i.1 → ¬ (gfl (gc W q.1) q.2).2.2.1 &&& 1 = 0 ∧ zC s q.1 ≠ 0)) ∧
  (isMo i.1 → ∃ d, fnd W (iK i) = some d ∧ (zL s).1 d = 1 ∧ ¬ ((i.1 = 50 ∧ isFc W d = true) ∨ (i.1 = 53 ∧ isFc W d = false)) ∧ fMth1 W (iM i, iA i, iR i, 0, 0, 0, [], []) d = some q ∧ decide (¬ (gmt (gc W q.1) q.2).2.2.2.1 &&& 1 = 0) = decide (i.1 = 52) ∧ ¬ ((i.1 = 52 ∨ i.1 = 51 ∨ ¬ (gmt (gc W q.1) q.2).2.2.2.1 &&& 4 = 0) ∧ ¬ (gmt (gc W q.1) q.2).2.2.2.1 &&& 8 = 0))
theorem a_41 (h : At W s t c j a lo st U i) (hq : Fq W s i q) (ho : i.1 = 41) : MK W (doS W t s c j a lo st U i q) t := by
  obtain ⟨⟨h1, h2⟩, -, -, -, -⟩ := h.in
  obtain ⟨hf, hl⟩ := hq.1 ho
  have e : doS W t s c j a lo st U i q = if fulS s (osz W q.1) then failS W t s 9 0 else sU (mkOb s (some q.1) (osz W q.1) (ofk W q.1)) t (.inl (c, j, a + 1, lo, st ++ [(Int32.ofNat (lfree s), true)]) :: U) := (by obtain ⟨o, r⟩ := i; have ho : o = 41 := ho; subst ho; rfl)
  rw [e]
  by_cases cf' : fulS s (osz W q.1)
  · rw [if_pos cf']; exact h.fl (by omega) (by omega)
  rw [if_neg cf']
  obtain ⟨hM, hs, hv, hc⟩ := mkOb_ok h.1.1 h.1.2.1 cf' (cl := some q.1) (ks := ofk W q.1) ⟨⟨fnd_lt hf, hl⟩, rfl, rfl⟩
  have h0 : Int32.ofNat (lfree s) ≠ 0 := fun z => by
    obtain ⟨-, l2, l3⟩ := lfree_ok h.1.2.1.1.1.2.1 (fun z => cf' (Or.inl z))
    have := (oN_inj (a := lfree s) (b := 0) (by omega) (by omega)).mp z
    omega
  have ei : i = gin (co (gmt (gc W c) j)) a := h.2.2.1
  refine (h.st' hM rfl rfl).nx (by rw [ho]; decide) (by obtain ⟨o, r⟩ := i; have ho : o = 41 := ho; subst ho; rfl) (sk := (k2 W c j a).take ((k2 W c j a).length - 0) ++ [(-10 - (a : Int), [])]) (by obtain ⟨o, r⟩ := i; have ho : o = 41 := ho; subst ho; rfl) ?_
  have h2' := h2.sle hs
  refine (show cvT _ _ _ _ _ st from by have := h2'.drp (n := 0); rw [drp0] at this; exact this).app (cvT.one ⟨⟨fun z => ?_, fun z => ?_, fun z => ?_, fun z => ?_, fun z => ?_, fun _ => ⟨rfl, h0, q.1, hc, ?_⟩⟩, fun _ => hv⟩)
  · have z : -10 - (a : Int) = 0 := z; omega
  · have z : -10 - (a : Int) = -1 := z; omega
  · have z : -10 - (a : Int) = 1 := z; omega
  · have z : -10 - (a : Int) = 2 := z; omega
  · have z : -10 - (a : Int) = -3 := z; omega
  · show fnd W (iK (gin (co (gmt (gc W c) j)) (-10 - (-10 - (a : Int))).toNat)) = _
    rw [show (-10 - (-10 - (a : Int))).toNat = a by omega, ← ei]
    exact hf
theorem a_42 (h : At W s t c j a lo st U i) (ho : i.1 = 42) : MK W (doS W t s c j a lo st U i q) t := by
  obtain ⟨⟨h1, h2⟩, -, -, -, -⟩ := h.in
  have e : doS W t s c j a lo st U i q = if (tv st 0).1 < 0 then failS W t s 5 0 else if 300 < (tv st 0).1 ∨ fulS s (tv st 0).1.toNatClampNeg then failS W t s 9 0 else sU (mkOb s none (tv st 0).1.toNatClampNeg []) t (.inl (c, j, a + 1, lo, drp st 1 ++ [(Int32.ofNat (lfree s), true)]) :: U) := (by obtain ⟨o, r⟩ := i; have ho : o = 42 := ho; subst ho; rfl)
  rw [e]
  by_cases c1 : (tv st 0).1 < 0
  · rw [if_pos c1]; exact h.fl (by omega) (by omega)
  rw [if_neg c1]
  by_cases c2 : 300 < (tv st 0).1 ∨ fulS s (tv st 0).1.toNatClampNeg
  · rw [if_pos c2]; exact h.fl (by omega) (by omega)
  rw [if_neg c2]
  rw [not_or] at c2
  have hle : (tv st 0).1.toNatClampNeg ≤ 300 := by
    have := c2.1
    rw [Int32.lt_iff_toInt_lt] at this
    have e3 : (300 : Int32).toInt = 300 := by decide
    rw [e3] at this
    show ((tv st 0).1.toInt).toNat ≤ 300
    omega
  obtain ⟨hM, hs, hv, hc⟩ := mkOb_ok h.1.1 h.1.2.1 c2.2 (cl := none) (ks := []) ⟨hle, rfl⟩
  exact (h.st' hM rfl rfl).nx (by rw [ho]; decide) (by obtain ⟨o, r⟩ := i; have ho : o = 42 := ho; subst ho; rfl) (sk := (k2 W c j a).take ((k2 W c j a).length - 1) ++ [(1, [])]) (by obtain ⟨o, r⟩ := i; have ho : o = 42 := ho; subst ho; rfl) ((h2.sle hs).drp.app (cvT.one ⟨cf.row rfl (Or.inr hc), fun _ => hv⟩))
/-- a row on the stack -/
theorem row_at (hW : WO W) (hG : GL W s) {C : List Ins} {κ : Kd} {v : Vl} (hv : cv W s c C κ v) (hf : wOne W wRow κ = 0) (h0 : v.1 ≠ 0) : ∃ n, v.1.toNatClampNeg = n ∧ thr s n = true ∧ (gOb s n).2.1 + (gOb s n).2.2.1 ≤ (zH s).2.1 ∧ (gOb s n).2.2.1 ≤ 300 ∧ ∀ k, k < (gOb s n).2.2.1 → gKd s ((gOb s n).2.1 + k) = (0, []) := by
  have h1 := hv.fit hW.1 (wOne_fit hf (by decide))
  obtain ⟨hb, hr⟩ := h1.1.2.2.1 rfl
  obtain ⟨n, -, en, ht, ho⟩ := clR_row hG (hv.2 hb) h0 (hr.resolve_left h0)
  obtain ⟨p1, p2⟩ := hG.2.1.2.1 n ht
  unfold obO at p2
  rw [ho] at p2
  exact ⟨n, en, ht, p1, p2.1, p2.2⟩
theorem ix_lt {y : Int32} {n : Nat} (hn : n ≤ 300) (h1 : ¬ y < 0) (h2 : ¬ Int32.ofNat n ≤ y) : y.toNatClampNeg < n := by
  rw [Int32.lt_iff_toInt_lt] at h1
  rw [Int32.le_iff_toInt_le, oN_toInt (by omega)] at h2
  have z0 : (0 : Int32).toInt = 0 := rfl
  rw [z0] at h1
  show y.toInt.toNat < n
  omega
theorem a_45 (h : At W s t c j a lo st U i) (ho : i.1 = 45) : MK W (doS W t s c j a lo st U i q) t := by
  obtain ⟨⟨h1, h2⟩, -, -, -, -⟩ := h.in
  have e : doS W t s c j a lo st U i q = if (tv st 0).1 = 0 then failS W t s 2 0 else sU s t (.inl (c, j, a + 1, lo, drp st 1 ++ [(Int32.ofNat (gOb s (tv st 0).1.toNatClampNeg).2.2.1, false)]) :: U) := (by obtain ⟨o, r⟩ := i; have ho : o = 45 := ho; subst ho; rfl)
  rw [e]
  split
  · exact h.fl (by omega) (by omega)
  · exact h.nx (by rw [ho]; decide) (by obtain ⟨o, r⟩ := i; have ho : o = 45 := ho; subst ho; rfl) (sk := (k2 W c j a).take ((k2 W c j a).length - 1) ++ [(0, [])]) (by obtain ⟨o, r⟩ := i; have ho : o = 45 := ho; subst ho; rfl) (h2.drp.app (cvT.one cv.num))
theorem a_43 (h : At W s t c j a lo st U i) (ho : i.1 = 43) : MK W (doS W t s c j a lo st U i q) t := by
  obtain ⟨⟨h1, h2⟩, -, -, -, -⟩ := h.in
  have e : doS W t s c j a lo st U i q = if (tv st 1).1 = 0 then failS W t s 2 0 else if (tv st 0).1 < 0 ∨ Int32.ofNat (gOb s (tv st 1).1.toNatClampNeg).2.2.1 ≤ (tv st 0).1 then failS W t s 4 0 else sU s t (.inl (c, j, a + 1, lo, drp st 2 ++ [(gCell s ((gOb s (tv st 1).1.toNatClampNeg).2.1 + (tv st 0).1.toNatClampNeg), false)]) :: U) := (by obtain ⟨o, r⟩ := i; have ho : o = 43 := ho; subst ho; rfl)
  rw [e]
  split
  · exact h.fl (by omega) (by omega)
  split
  · exact h.fl (by omega) (by omega)
  · exact h.nx (by rw [ho]; decide) (by obtain ⟨o, r⟩ := i; have ho : o = 43 := ho; subst ho; rfl) (sk := (k2 W c j a).take ((k2 W c j a).length - 2) ++ [(0, [])]) (by obtain ⟨o, r⟩ := i; have ho : o = 43 := ho; subst ho; rfl) (h2.drp.app (cvT.one cv.num))
theorem a_44 (h : At W s t c j a lo st U i) (ho : i.1 = 44) : MK W (doS W t s c j a lo st U i q) t := by
  obtain ⟨⟨h1, h2⟩, -, -, -, -⟩ := h.in
  obtain ⟨tl, tk⟩ := h.tk (ws := [wNum, wNum, wRow]) (by obtain ⟨o, r⟩ := i; have ho : o = 44 := ho; subst ho; rfl)
  have e : doS W t s c j a lo st U i q = if (tv st 2).1 = 0 then failS W t s 2 0 else if (tv st 1).1 < 0 ∨ Int32.ofNat (gOb s (tv st 2).1.toNatClampNeg).2.2.1 ≤ (tv st 1).1 then failS W t s 4 0 else sU (wCell s ((gOb s (tv st 2).1.toNatClampNeg).2.1 + (tv st 1).1.toNatClampNeg) (tv st 0).1) t (.inl (c, j, a + 1, lo, drp st 3) :: U) := (by obtain ⟨o, r⟩ := i; have ho : o = 44 := ho; subst ho; rfl)
  rw [e]
  by_cases c0 : (tv st 2).1 = 0
  · rw [if_pos c0]; exact h.fl (by omega) (by omega)
  rw [if_neg c0]
  by_cases c1 : (tv st 1).1 < 0 ∨ Int32.ofNat (gOb s (tv st 2).1.toNatClampNeg).2.2.1 ≤ (tv st 1).1
  · rw [if_pos c1]; exact h.fl (by omega) (by omega)
  rw [if_neg c1]
  rw [not_or] at c1
  obtain ⟨n, en, ht, p1, p2, p3⟩ := row_at h.1.1 h.1.2.1.1.1 (tk 2 (by simp)).2 (tk 2 (by simp)).1 c0
  rw [en] at c1 ⊢
  have hk := p3 _ (ix_lt p2 c1.1 c1.2)
  obtain ⟨hM, hs⟩ := wCell_ok (i := (gOb s n).2.1 + (tv st 1).1.toNatClampNeg) (v := (tv st 0).1) h.1.2.1 (by rw [hk]; exact cv.num)
  refine (h.st' hM rfl rfl).nx (by rw [ho]; decide) (by obtain ⟨o, r⟩ := i; have ho : o = 44 := ho; subst ho; rfl) (sk := (k2 W c j a).take ((k2 W c j a).length - 3) ++ []) (by obtain ⟨o, r⟩ := i; have ho : o = 44 := ho; subst ho; rfl) ((h2.sle hs).drp (n := 3)).e
/-- an object with a field -/
theorem obj_at (hW : WO W) (hG : GL W s) {C : List Ins} {κ : Kd} {v : Vl} (hv : cv W s c C κ v) (hf : wOne W (0, (2, iK i)) κ = 0) (h0 : v.1 ≠ 0) (hq : Fq W s i q) (ho : isFo i.1) (h48 : i.1 < 48) : (gOb s v.1.toNatClampNeg).2.1 + sltF W q < (zH s).2.1 ∧ gKd s ((gOb s v.1.toNatClampNeg).2.1 + sltF W q) = (gfl (gc W q.1) q.2).2.1 ∧ (gfl (gc W q.1) q.2).2.1 = iR i := by
  obtain ⟨d, hd, hl, hfl, h1, -⟩ := hq.2.1 ho
  obtain ⟨hi, hnf⟩ := h1 h48
  have hdl := fnd_lt hd
  obtain ⟨f1, f2, -, f4⟩ := fldW_ok hdl hfl
  have hup := (fldW_up hW.1 hG.1.1 hG.1.2.2 hdl hl hfl).2.resolve_right (by rw [hnf]; decide)
  have h21 : 21 ≤ q.1 := Classical.byContradiction (fun z => by rw [hW.1.nof (by omega)] at f2; exact absurd f2 (by simp))
  have h2 := hv.fit hW.1 (wOne_fit hf (show ¬ (2 : Int) = 0 by decide))
  obtain ⟨hb, hr⟩ := h2.1.2.2.2.1 rfl
  obtain ⟨d', hd', hr⟩ := hr.resolve_left h0
  have hd'' : fnd W (iK i) = some d' := hd'
  rw [hd] at hd''; cases hd''
  have : ∃ e, clR s v.1 = some e ∧ PB W e d := by
    rcases hr with z | z | z
    · rcases pb_face hW.1 (Or.inl z) hup with y | y
      · rw [← y, hnf] at z; cases z
      · omega
    · rcases pb_face hW.1 (Or.inr z) hup with y | y <;> omega
    · exact z
  obtain ⟨e, he, hpe⟩ := this
  obtain ⟨⟨hel, hle⟩, hcase⟩ := clR_lk hW.1 hG (hv.2 hb) h0 he
  have hpq := hpe.trans hup
  rcases hcase with z | ⟨n, -, en, ht, hob⟩
  · have := hW.1.pb z hpq; omega
  · obtain ⟨p1, p2⟩ := hG.2.1.2.1 n ht
    unfold obO at p2
    rw [hob] at p2
    obtain ⟨m, hm⟩ := hpq
    obtain ⟨s1, s2⟩ := slt_ok hW.1 hW.2.2.2 hG.1.1 f2 hi h21 m e hel hle hm
    rw [en]
    have e2 := p2.2.2 (sltF W q) s1
    exact ⟨by rw [p2.2.1] at p1; have s1 : sltF W q < osz W e := s1; omega, e2.trans s2, f4⟩
theorem a_46 (h : At W s t c j a lo st U i) (hq : Fq W s i q) (ho : i.1 = 46) : MK W (doS W t s c j a lo st U i q) t := by
  obtain ⟨⟨h1, h2⟩, -, -, -, hwf⟩ := h.in
  obtain ⟨tl, tk⟩ := h.tk (ws := [(0, (2, iK i))]) (by obtain ⟨o, r⟩ := i; have ho : o = 46 := ho; subst ho; rfl)
  have e : doS W t s c j a lo st U i q = if (tv st 0).1 = 0 then failS W t s 2 0 else sU s t (.inl (c, j, a + 1, lo, drp st 1 ++ [(gCell s ((gOb s (tv st 0).1.toNatClampNeg).2.1 + sltF W q), decide ((gfl (gc W q.1) q.2).2.1.1 ≠ 0))]) :: U) := (by obtain ⟨o, r⟩ := i; have ho : o = 46 := ho; subst ho; rfl)
  rw [e]
  by_cases c0 : (tv st 0).1 = 0
  · rw [if_pos c0]; exact h.fl (by omega) (by omega)
  rw [if_neg c0]
  obtain ⟨b1, b2, b3⟩ := obj_at h.1.1 h.1.2.1.1.1 (tk 0 (by simp)).2 (tk 0 (by simp)).1 c0 hq (by rw [ho]; decide) (by rw [ho]; decide)
  have hc := h.1.2.1.1.1.2.1.2.2 _ b1
  rw [b2] at hc
  refine h.nx (by rw [ho]; decide) (by obtain ⟨o, r⟩ := i; have ho : o = 46 := ho; subst ho; rfl) (sk := (k2 W c j a).take ((k2 W c j a).length - 1) ++ [iR i]) (by obtain ⟨o, r⟩ := i; have ho : o = 46 := ho; subst ho; rfl) (h2.drp.app (cvT.one ?_))
  rw [← b3]
  exact hc.2.any hc.1
theorem a_47 (h : At W s t c j a lo st U i) (hq : Fq W s i q) (ho : i.1 = 47) : MK W (doS W t s c j a lo st U i q) t := by
  obtain ⟨⟨h1, h2⟩, -, -, -, hwf⟩ := h.in
  obtain ⟨tl, tk⟩ := h.tk (ws := [(0, iR i), (0, (2, iK i))]) (by obtain ⟨o, r⟩ := i; have ho : o = 47 := ho; subst ho; rfl)
  have hty : tyOk (iR i) := hwf.2.1.2.2.2.2.2.2 (by rw [ho]; decide)
  have e : doS W t s c j a lo st U i q = if (tv st 1).1 = 0 then failS W t s 2 0 else sU (wCell s ((gOb s (tv st 1).1.toNatClampNeg).2.1 + sltF W q) (tv st 0).1) t (.inl (c, j, a + 1, lo, drp st 2) :: U) := (by obtain ⟨o, r⟩ := i; have ho : o = 47 := ho; subst ho; rfl)
  rw [e]
  by_cases c0 : (tv st 1).1 = 0
  · rw [if_pos c0]; exact h.fl (by omega) (by omega)
  rw [if_neg c0]
  obtain ⟨b1, b2, b3⟩ := obj_at h.1.1 h.1.2.1.1.1 (tk 1 (by simp)).2 (tk 1 (by simp)).1 c0 hq (by rw [ho]; decide) (by rw [ho]; decide)
  have hv := wOne_ty h.1.1.1 hty (tk 0 (by simp)).1 (tk 0 (by simp)).2
  have hfl := hv.ty hty
  obtain ⟨hM, hs⟩ := wCell_ok (i := (gOb s (tv st 1).1.toNatClampNeg).2.1 + sltF W q) (v := (tv st 0).1) h.1.2.1 (by
    rw [b2, b3, ← hfl]; exact hv.any hty)
  refine (h.st' hM rfl rfl).nx (by rw [ho]; decide) (by obtain ⟨o, r⟩ := i; have ho : o = 47 := ho; subst ho; rfl) (sk := (k2 W c j a).take ((k2 W c j a).length - 2) ++ []) (by obtain ⟨o, r⟩ := i; have ho : o = 47 := ho; subst ho; rfl) ((h2.sle hs).drp (n := 2)).e
theorem a_48 (h : At W s t c j a lo st U i) (hq : Fq W s i q) (ho : i.1 = 48) : MK W (doS W t s c j a lo st U i q) t := by
  obtain ⟨⟨h1, h2⟩, -, -, -, hwf⟩ := h.in
  have hty : tyOk (iR i) := hwf.2.1.2.2.2.2.2.2 (by rw [ho]; decide)
  obtain ⟨d, hd, hl, hfl, -, h48⟩ := hq.2.1 (by rw [ho]; decide)
  obtain ⟨f1, f2, -, f4⟩ := fldW_ok (fnd_lt hd) hfl
  have hS := h.1.2.1.1.1.2.2.1.1 q.1 q.2 f1 f2 (h48 (by rw [ho]; decide)).1
  have e : doS W t s c j a lo st U i q = sU s t (.inl (c, j, a + 1, lo, st ++ [(zS s q.1 q.2, decide ((gfl (gc W q.1) q.2).2.1.1 ≠ 0))]) :: U) := (by obtain ⟨o, r⟩ := i; have ho : o = 48 := ho; subst ho; rfl)
  rw [e]
  refine h.nx (by rw [ho]; decide) (by obtain ⟨o, r⟩ := i; have ho : o = 48 := ho; subst ho; rfl) (sk := (k2 W c j a).take ((k2 W c j a).length - 0) ++ [iR i]) (by obtain ⟨o, r⟩ := i; have ho : o = 48 := ho; subst ho; rfl) ?_
  refine (show cvT _ _ _ _ _ st from by have := h2.drp (n := 0); rw [drp0] at this; exact this).app (cvT.one ?_)
  rw [f4] at hS ⊢
  exact hS.any hty
theorem a_49 (h : At W s t c j a lo st U i) (hq : Fq W s i q) (ho : i.1 = 49) : MK W (doS W t s c j a lo st U i q) t := by
  obtain ⟨⟨h1, h2⟩, -, -, -, hwf⟩ := h.in
  obtain ⟨tl, tk⟩ := h.tk (ws := [(0, iR i)]) (by obtain ⟨o, r⟩ := i; have ho : o = 49 := ho; subst ho; rfl)
  have hty : tyOk (iR i) := hwf.2.1.2.2.2.2.2.2 (by rw [ho]; decide)
  obtain ⟨d, hd, hl, hfl, -, h48⟩ := hq.2.1 (by rw [ho]; decide)
  obtain ⟨f1, f2, -, f4⟩ := fldW_ok (fnd_lt hd) hfl
  have h48 := h48 (by rw [ho]; decide)
  have hv := wOne_ty h.1.1.1 hty (tk 0 (by simp)).1 (tk 0 (by simp)).2
  have hfl' := hv.ty hty
  have e : doS W t s c j a lo st U i q = sU (yS s (up1 (zS s) q.1 (up1 (zS s q.1) q.2 (tv st 0).1))) t (.inl (c, j, a + 1, lo, drp st 1) :: U) := (by obtain ⟨o, r⟩ := i; have ho : o = 49 := ho; subst ho; rfl)
  rw [e]
  have hs : sle s (yS s (up1 (zS s) q.1 (up1 (zS s q.1) q.2 (tv st 0).1))) := sle_of rfl rfl
  have hM : MO W (yS s (up1 (zS s) q.1 (up1 (zS s q.1) q.2 (tv st 0).1))) t none (.inl (c, j, a, lo, st) :: U) := by
    have hm := h.1.2.1
    have hG := hm.1.1
    refine hm.mv ⟨hG.1, ⟨hG.2.1.1, hG.2.1.2.1, fun i hi => ⟨(hG.2.1.2.2 i hi).1, (hG.2.1.2.2 i hi).2.sle hs⟩⟩, ⟨fun c' f hc hf h0 => ?_, fun c' f hz => ?_⟩, hG.2.2.2.1, hG.2.2.2.2⟩ hm.1.2.1 hm.1.2.2 hs (fun _ z => z) (fun _ _ _ => rfl) ((hm.2.1.2 t hm.2.1.1).mv rfl hs (Nat.le_refl _)) (Nat.le_refl _) (fun _ _ _ _ _ => ⟨rfl, rfl⟩) (hm.2.2.2.1.mv hs (fun _ z => z) (fun _ _ => ⟨rfl, rfl⟩)) hm.2.2.2.2
    · show cv W _ 0 [] _ (up1 (zS s) q.1 _ c' f, _)
      by_cases ec : c' = q.1
      · rw [ec, up1_s]
        by_cases ef : f = q.2
        · rw [ef, up1_s, f4, ← hfl']
          exact (hv.any hty).sle hs
        · rw [up1_o ef, ← ec]; exact (hG.2.2.1.1 c' f hc hf h0).sle hs
      · rw [up1_o ec]; exact (hG.2.2.1.1 c' f hc hf h0).sle hs
    · show up1 (zS s) q.1 _ c' f = 0
      have hz : zC s c' = 0 := hz
      rw [up1_o (fun (z : c' = q.1) => h48.2 (z ▸ hz))]
      exact hG.2.2.1.2 c' f hz
  refine (h.st' hM rfl rfl).nx (by rw [ho]; decide) (by obtain ⟨o, r⟩ := i; have ho : o = 49 := ho; subst ho; rfl) (sk := (k2 W c j a).take ((k2 W c j a).length - 1) ++ []) (by obtain ⟨o, r⟩ := i; have ho : o = 49 := ho; subst ho; rfl) ((h2.sle hs).drp (n := 1)).e
theorem lk_len {r n o' : Int32} : (zF (wLock s r n o')).length = (zF s).length ∧ zN (wLock s r n o') = zN s := by
  unfold wLock
  split
  · exact ⟨List.length_set, rfl⟩
  · exact ⟨rfl, rfl⟩
theorem a_60 (h : At W s t c j a lo st U i) (ho : i.1 = 60) : MK W (doS W t s c j a lo st U i q) t := by
  obtain ⟨⟨h1, h2⟩, -, -, -, -⟩ := h.in
  have e : doS W t s c j a lo st U i q = if (tv st 0).1 = 0 then failS W t s 2 0 else sU (wLock s (tv st 0).1 ((lkR s (tv st 0).1).1 + 1) (Int32.ofNat t)) t (.inl (c, j, a + 1, lo, drp st 1) :: U) := (by obtain ⟨o, r⟩ := i; have ho : o = 60 := ho; subst ho; rfl)
  rw [e]
  split
  · exact h.fl (by omega) (by omega)
  obtain ⟨hM, hs⟩ := wLock_ok (r := (tv st 0).1) (n := (lkR s (tv st 0).1).1 + 1) (o' := Int32.ofNat t) h.1.2.1
  refine (h.st' hM lk_len.2 lk_len.1).nx (by rw [ho]; decide) (by obtain ⟨o, r⟩ := i; have ho : o = 60 := ho; subst ho; rfl) (sk := (k2 W c j a).take ((k2 W c j a).length - 1) ++ []) (by obtain ⟨o, r⟩ := i; have ho : o = 60 := ho; subst ho; rfl) ((h2.sle hs).drp (n := 1)).e
theorem a_61 (h : At W s t c j a lo st U i) (ho : i.1 = 61) : MK W (doS W t s c j a lo st U i q) t := by
  obtain ⟨⟨h1, h2⟩, -, -, -, -⟩ := h.in
  have e : doS W t s c j a lo st U i q = if (tv st 0).1 = 0 then failS W t s 2 0 else if (lkR s (tv st 0).1).1 = 0 ∨ (lkR s (tv st 0).1).2 ≠ Int32.ofNat t then failS W t s 7 0 else sU (wLock s (tv st 0).1 ((lkR s (tv st 0).1).1 + -1) (Int32.ofNat t)) t (.inl (c, j, a + 1, lo, drp st 1) :: U) := (by obtain ⟨o, r⟩ := i; have ho : o = 61 := ho; subst ho; rfl)
  rw [e]
  split
  · exact h.fl (by omega) (by omega)
  split
  · exact h.fl (by omega) (by omega)
  obtain ⟨hM, hs⟩ := wLock_ok (r := (tv st 0).1) (n := (lkR s (tv st 0).1).1 + -1) (o' := Int32.ofNat t) h.1.2.1
  refine (h.st' hM lk_len.2 lk_len.1).nx (by rw [ho]; decide) (by obtain ⟨o, r⟩ := i; have ho : o = 61 := ho; subst ho; rfl) (sk := (k2 W c j a).take ((k2 W c j a).length - 1) ++ []) (by obtain ⟨o, r⟩ := i; have ho : o = 61 := ho; subst ho; rfl) ((h2.sle hs).drp (n := 1)).e
end
