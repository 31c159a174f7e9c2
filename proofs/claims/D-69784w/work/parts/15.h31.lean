/-! SPEC: locks are counted, and who waits (printed by gen/lk.py) -/
/-- locks of a thing are no more than the steps -/
def LkN (s : Ms) : Prop := ∀ y, ∃ n, (lkR s y).1 = Int32.ofNat n ∧ n ≤ zK s
def LkP (s s' : Ms) : Prop := LkN s → LkN s'
def KwM (t : Nat) (s s' : Ms) : Prop := lWt (zN s' t) = lWt (zN s t)
section
variable {br : Int32} {W : List Cls} {s s' s2 : Ms} {t c j a k : Nat} {lo st : List Vl} {U V : List Un} {q : Nat × Nat} {i : Ins}
theorem doS_ind2 {P R : Ms → Prop} (hR : R s) (hmk : ∀ cl n ks, R (mkOb s cl n ks)) (hyS : ∀ X, R (yS s X)) (hwC : ∀ m v, R (wCell s m v)) (hl1 : ∀ y, R (wLock s y ((lkR s y).1 + 1) (Int32.ofNat t))) (hl2 : ∀ y, (lkR s y).1 ≠ 0 → R (wLock s y ((lkR s y).1 + -1) (Int32.ofNat t))) (hnx : ∀ s' f, R s' → P (sU s' t (.inl f :: U))) (hfail : ∀ f ru, P (failS W t s f ru)) (hunw : ∀ r, P (unw W t (gU s t) r s)) (hlv : ∀ o v, P (leaveS s t c j o v U)) (hent : ∀ V c' j' args, P (enterS W t s (.inl (c, j, a, lo, V) :: U) c' j' args)) : P (doS W t s c j a lo st U i q) := by
  have h1 : ∀ f, P (sU s t (.inl f :: U)) := fun f => hnx s f hR
  have hcl : P (cllS W t s c j a lo st U i q) := by
    unfold cllS
    have go : ∀ (m : Nat × Nat) (n : Nat), P (if m.1 < 21 then sU s t (.inl (c, j, a + 1, lo, drp st n) :: U) else enterS W t s (.inl (c, j, a, lo, drp st n) :: U) m.1 m.2 (st.drop (st.length - n))) := fun m n => by
      split
      · exact h1 _
      · exact hent _ _ _ _
    dsimp only
    by_cases c52 : i.1 = 52
    · rw [if_pos c52]; exact go q _
    rw [if_neg c52]
    by_cases c0 : (tv st (iA i).length).1 = 0
    · rw [if_pos c0]; exact hfail _ _
    rw [if_neg c0]
    by_cases c4 : i.1 ≠ 51 ∧ (gmt (gc W q.1) q.2).2.2.2.1 &&& 4 = 0
    · rw [if_pos c4]
      refine ite_P (P := P) (fun _ => hfail _ _) (fun _ => ?_)
      cases clR s (tv st (iA i).length).1 with
      | none => exact hfail _ _
      | some d =>
        dsimp only
        cases mthW W (iM i, iA i, iR i, 0, 0, 0, [], []) 5 d with
        | none => exact hfail _ _
        | some m => exact ite_P (P := P) (fun _ => hfail _ _) (fun _ => go m _)
    rw [if_neg c4]
    by_cases c8 : ¬ (gmt (gc W q.1) q.2).2.2.2.1 &&& 8 = 0
    · rw [if_pos c8]; exact hfail _ _
    · rw [if_neg c8]; exact go q _
  unfold doS
  dsimp only
  refine ite_P (P := P) (fun _ => ?_) (fun _ => ?_)
  · refine ite_P (P := P) (fun _ => ?_) (fun _ => ?_)
    · exact hfail _ _
    · exact h1 _
  refine ite_P (P := P) (fun _ => ?_) (fun _ => ?_)
  · exact h1 _
  refine ite_P (P := P) (fun _ => ?_) (fun _ => ?_)
  · exact h1 _
  refine ite_P (P := P) (fun _ => ?_) (fun _ => ?_)
  · exact h1 _
  refine ite_P (P := P) (fun _ => ?_) (fun _ => ?_)
  · exact h1 _
  refine ite_P (P := P) (fun _ => ?_) (fun _ => ?_)
  · refine ite_P (P := P) (fun _ => ?_) (fun _ => ?_)
    · exact hfail _ _
    · exact hnx _ _ (hmk _ _ _)
  refine ite_P (P := P) (fun _ => ?_) (fun _ => ?_)
  · refine ite_P (P := P) (fun _ => ?_) (fun _ => ?_)
    · exact hfail _ _
    refine ite_P (P := P) (fun _ => ?_) (fun _ => ?_)
    · exact hfail _ _
    · exact hnx _ _ (hmk _ _ _)
  refine ite_P (P := P) (fun _ => ?_) (fun _ => ?_)
  · exact h1 _
  refine ite_P (P := P) (fun _ => ?_) (fun _ => ?_)
  · exact hnx _ _ (hyS _)
  refine ite_P (P := P) (fun _ => ?_) (fun _ => ?_)
  · refine ite_P (P := P) (fun _ => ?_) (fun _ => ?_)
    · exact hfail _ _
    · exact h1 _
  refine ite_P (P := P) (fun _ => ?_) (fun _ => ?_)
  · refine ite_P (P := P) (fun _ => ?_) (fun _ => ?_)
    · exact hfail _ _
    · exact hnx _ _ (hwC _ _)
  refine ite_P (P := P) (fun _ => ?_) (fun _ => ?_)
  · refine ite_P (P := P) (fun _ => ?_) (fun _ => ?_)
    · exact hfail _ _
    · exact h1 _
  refine ite_P (P := P) (fun _ => ?_) (fun _ => ?_)
  · refine ite_P (P := P) (fun _ => ?_) (fun _ => ?_)
    · exact hfail _ _
    refine ite_P (P := P) (fun _ => ?_) (fun _ => ?_)
    · exact hfail _ _
    · exact h1 _
  refine ite_P (P := P) (fun _ => ?_) (fun _ => ?_)
  · refine ite_P (P := P) (fun _ => ?_) (fun _ => ?_)
    · exact hfail _ _
    refine ite_P (P := P) (fun _ => ?_) (fun _ => ?_)
    · exact hfail _ _
    · exact hnx _ _ (hwC _ _)
  refine ite_P (P := P) (fun _ => ?_) (fun _ => ?_)
  · refine ite_P (P := P) (fun _ => ?_) (fun _ => ?_)
    · exact hfail _ _
    · exact hnx _ _ (hl1 _)
  refine ite_P (P := P) (fun _ => ?_) (fun _ => ?_)
  · refine ite_P (P := P) (fun _ => ?_) (fun _ => ?_)
    · exact hfail _ _
    refine ite_P (P := P) (fun _ => ?_) (fun hz => ?_)
    · exact hfail _ _
    · exact hnx _ _ (hl2 _ (fun z => hz (Or.inl z)))
  refine ite_P (P := P) (fun _ => ?_) (fun _ => ?_)
  · exact hcl
  refine ite_P (P := P) (fun _ => ?_) (fun _ => ?_)
  · exact h1 _
  refine ite_P (P := P) (fun _ => ?_) (fun _ => ?_)
  · exact h1 _
  refine ite_P (P := P) (fun _ => ?_) (fun _ => ?_)
  · exact h1 _
  refine ite_P (P := P) (fun _ => ?_) (fun _ => ?_)
  · exact h1 _
  refine ite_P (P := P) (fun _ => ?_) (fun _ => ?_)
  · exact h1 _
  refine ite_P (P := P) (fun _ => ?_) (fun _ => ?_)
  · exact h1 _
  refine ite_P (P := P) (fun _ => ?_) (fun _ => ?_)
  · exact h1 _
  refine ite_P (P := P) (fun _ => ?_) (fun _ => ?_)
  · exact h1 _
  refine ite_P (P := P) (fun _ => ?_) (fun _ => ?_)
  · exact h1 _
  refine ite_P (P := P) (fun _ => ?_) (fun _ => ?_)
  · exact h1 _
  refine ite_P (P := P) (fun _ => ?_) (fun _ => ?_)
  · exact h1 _
  refine ite_P (P := P) (fun _ => ?_) (fun _ => ?_)
  · exact h1 _
  refine ite_P (P := P) (fun _ => ?_) (fun _ => ?_)
  · refine ite_P (P := P) (fun _ => ?_) (fun _ => ?_)
    · exact h1 _
    generalize fnd W (iK i) = od
    cases od with
    | none => exact hfail _ _
    | some d =>
      dsimp only
      refine ite_P (P := P) (fun _ => ?_) (fun _ => ?_)
      · exact h1 _
      refine ite_P (P := P) (fun _ => ?_) (fun _ => ?_)
      · exact h1 _
      · exact hfail _ _
  refine ite_P (P := P) (fun _ => ?_) (fun _ => ?_)
  · refine ite_P (P := P) (fun _ => ?_) (fun _ => ?_)
    · exact hfail _ _
    · exact hunw _
  refine ite_P (P := P) (fun _ => ?_) (fun _ => ?_)
  · exact hlv _ _
  · exact h1 _
theorem lkR_of (e1 : ∀ k, (gFt s' k).2.2 = (gFt s k).2.2) (e2 : ∀ r, (gOb s' r).2.2.2 = (gOb s r).2.2.2) (y : Int32) : lkR s' y = lkR s y := by
  unfold lkR
  rw [e1, e2]
theorem LkP.of (e1 : ∀ k, (gFt s' k).2.2 = (gFt s k).2.2) (e2 : ∀ r, (gOb s' r).2.2.2 = (gOb s r).2.2.2) (e3 : zK s ≤ zK s') : LkP s s' := fun h y => by
  obtain ⟨n, h1, h2⟩ := h y
  exact ⟨n, by rw [lkR_of e1 e2]; exact h1, by omega⟩
theorem LkP.rf : LkP s s := id
theorem LkP.trans (h : LkP s s') (h2 : LkP s' s2) : LkP s s2 := fun z => h2 (h z)
theorem LkP.eq (e1 : zF s' = zF s) (e2 : zH s' = zH s) (e3 : zK s' = zK s) : LkP s s' := LkP.of (fun k => by show ((zF s').getD k _).2.2 = _; rw [e1]) (fun r => by show ((zH s').2.2.2.1 r).2.2.2 = _; rw [e2]) (by omega)
theorem LkP.ev {w' k' : Nat} {m : Option Nat} : LkP s (evS s t w' k' m) := LkP.eq evS_r.2.2.2.2.2.2.1 evS_r.2.2.2.2.2.1 evS_r.2.2.2.2.2.2.2.2.2.2
theorem LkP.su : LkP s (sU s t V) := LkP.eq rfl rfl rfl
theorem LkP.wt {x : Option (Int32 ⊕ Nat)} : LkP s (sWt s t x) := LkP.eq rfl rfl rfl
theorem LkP.dn {x : Nat} {r : Int32 × Int32 × Int32 × Int32} : LkP s (yN s (up1 (zN s) t (qR (zN s t) x r))) := LkP.eq rfl rfl rfl
theorem LkP.yc {f : Nat → Int32} : LkP s (yC s f) := LkP.eq rfl rfl rfl
theorem LkP.ft {f : Nat} {ru : Int32} : LkP s (addFt s f ru) := by
  refine LkP.of (fun k => ?_) (fun r => rfl) (Nat.le_refl _)
  show ((zF s ++ [(f, ru, (0 : Int32), (0 : Int32))]).getD k (0, 0, 0, 0)).2.2 = ((zF s).getD k (0, 0, 0, 0)).2.2
  rw [List.getD_eq_getElem?_getD, List.getD_eq_getElem?_getD]
  by_cases c1 : k < (zF s).length
  · rw [List.getElem?_append_left c1]
  · rw [List.getElem?_append_right (by omega), List.getElem?_eq_none (l := zF s) (by omega)]
    by_cases c2 : k - (zF s).length = 0
    · rw [c2]; rfl
    · rw [List.getElem?_eq_none (by show 1 ≤ _; omega)]
theorem LkN.lock {y n o : Int32} {m : Nat} (h : LkN s) (hn : n = Int32.ofNat m) (hm : m ≤ zK s) : LkN (wLock s y n o) := by
  intro z
  have e3 : zK (wLock s y n o) = zK s := by unfold wLock; split <;> rfl
  rw [e3]
  unfold wLock
  by_cases c1 : 800 < y.toNatClampNeg
  · rw [if_pos c1]
    obtain ⟨k, h1, h2⟩ := h z
    unfold lkR at h1 ⊢
    by_cases c2 : 800 < z.toNatClampNeg
    · rw [if_pos c2] at h1 ⊢
      show ∃ n_1, (((zF s).set (y.toNatClampNeg - 801) ((gFt s (y.toNatClampNeg - 801)).1, (gFt s (y.toNatClampNeg - 801)).2.1, n, o)).getD (z.toNatClampNeg - 801) (0, 0, 0, 0)).2.2.1 = Int32.ofNat n_1 ∧ n_1 ≤ zK s
      rw [List.getD_eq_getElem?_getD, List.getElem?_set]
      by_cases c3 : y.toNatClampNeg - 801 = z.toNatClampNeg - 801
      · rw [if_pos c3]
        split
        · exact ⟨m, hn, hm⟩
        · exact ⟨0, rfl, Nat.zero_le _⟩
      · rw [if_neg c3, ← List.getD_eq_getElem?_getD]
        exact ⟨k, h1, h2⟩
    · rw [if_neg c2] at h1 ⊢
      exact ⟨k, h1, h2⟩
  · rw [if_neg c1]
    obtain ⟨k, h1, h2⟩ := h z
    unfold lkR at h1 ⊢
    by_cases c2 : 800 < z.toNatClampNeg
    · rw [if_pos c2] at h1 ⊢
      exact ⟨k, h1, h2⟩
    · rw [if_neg c2] at h1 ⊢
      show ∃ n_1, (up1 (zH s).2.2.2.1 y.toNatClampNeg ((gOb s y.toNatClampNeg).1, (gOb s y.toNatClampNeg).2.1, (gOb s y.toNatClampNeg).2.2.1, n, o) z.toNatClampNeg).2.2.2.1 = Int32.ofNat n_1 ∧ n_1 ≤ zK s
      by_cases c3 : z.toNatClampNeg = y.toNatClampNeg
      · rw [c3, up1_s]; exact ⟨m, hn, hm⟩
      · rw [up1_o c3]; exact ⟨k, h1, h2⟩
theorem LkN.mk {cl : Option Nat} {n : Nat} {ks : List Kd} (h : LkN s) : LkN (mkOb s cl n ks) := by
  intro z
  obtain ⟨k, h1, h2⟩ := h z
  unfold lkR at h1 ⊢
  by_cases c2 : 800 < z.toNatClampNeg
  · rw [if_pos c2] at h1 ⊢
    exact ⟨k, h1, h2⟩
  · rw [if_neg c2] at h1 ⊢
    show ∃ n_1, (up1 (zH s).2.2.2.1 (lfree s) (cl, (zH s).2.1, n, 0, (gOb s (lfree s)).2.2.2.2) z.toNatClampNeg).2.2.2.1 = Int32.ofNat n_1 ∧ n_1 ≤ zK s
    by_cases c3 : z.toNatClampNeg = lfree s
    · rw [c3, up1_s]; exact ⟨0, rfl, Nat.zero_le _⟩
    · rw [up1_o c3]; exact ⟨k, h1, h2⟩
theorem LkP.unwd : ∀ (U : List Un) (r : Int32) (s : Ms), LkP s (unw W t U r s)
  | [], r, s => LkP.dn
  | .inr (k, own) :: U, r, s => by
    unfold unw
    by_cases c1 : own = true ∧ bel W (clN s r) 10 = false
    · rw [if_pos c1]; exact ((LkP.yc.trans LkP.ev).trans LkP.ft).trans (LkP.unwd U _ _)
    · rw [if_neg c1]; exact (LkP.yc.trans LkP.ev).trans (LkP.unwd U _ _)
  | .inl (c, j, a, lo, st) :: U, r, s => by
    unfold unw
    cases ec : catH W a (clN s r) (hs (gmt (gc W c) j)) with
    | none => exact LkP.ev.trans (LkP.unwd U _ _)
    | some g => exact LkP.su.trans LkP.ev
theorem LkP.fail {f : Nat} {ru : Int32} : LkP s (failS W t s f ru) := LkP.ft.trans (LkP.unwd _ _ _)
theorem LkP.enter {c' j' : Nat} {args : List Vl} : LkP s (enterS W t s V c' j' args) := by
  unfold enterS
  split
  · exact LkP.fail
  · exact LkP.su.trans LkP.ev
theorem LkP.begs : LkP s (begS W t s k) := by
  unfold begS
  exact (LkP.trans (s' := evS (yB (yO (yC s (up1 (zC s) k 1)) (up1 (zO s) k (Int32.ofNat t))) (zB s ++ [k])) t 4 k none) (LkP.trans (s' := yB (yO (yC s (up1 (zC s) k 1)) (up1 (zO s) k (Int32.ofNat t))) (zB s ++ [k])) (LkP.eq rfl rfl rfl) LkP.ev) (LkP.eq rfl rfl rfl)).trans LkP.su
theorem LkP.must : LkP s (mustS br W t s k).2.2 := by
  unfold mustS
  split
  · exact LkP.rf
  split
  · split
    · exact LkP.rf
    · exact LkP.wt
  split
  · exact LkP.rf
  split
  · exact LkP.trans (s' := yL s (lkN br W 60 (zL s) k).2) (LkP.eq rfl rfl rfl) LkP.begs
  · exact LkP.eq rfl rfl rfl
theorem LkP.leave {o : Nat} {v : Int32} : LkP s (leaveS s t c j o v U) := by
  cases U with
  | nil => exact LkP.ev.trans LkP.dn
  | cons u U' =>
    cases u with
    | inr k =>
      obtain ⟨k, own⟩ := k
      exact ((LkP.ev.trans LkP.yc).trans LkP.su).trans LkP.ev
    | inl f =>
      obtain ⟨c', j', a', lo', st'⟩ := f
      exact LkP.ev.trans LkP.su
/-- an act, behind the step that was counted -/
theorem LkP.act {op : Nat} (hb : zK s < 1000000) : LkP s (doS W t (tickS s t op) c j a lo st U i q) := fun h => by
  have h1 : LkN (tickS s t op) := LkP.of (s := s) (s' := tickS s t op) (fun k => rfl) (fun r => rfl) (Nat.le_succ _) h
  have hs : ∀ y, ∃ n, (lkR (tickS s t op) y).1 = Int32.ofNat n ∧ n ≤ zK s := h
  refine doS_ind2 (s := tickS s t op) (P := LkN) (R := LkN) h1 (fun cl n ks => h1.mk) (fun X => LkP.eq rfl rfl rfl h1) (fun m v => LkP.of (fun k => rfl) (fun r => rfl) (Nat.le_refl _) h1) (fun y => ?_) (fun y hy => ?_) (fun s' f h' => LkP.su h') (fun f ru => LkP.fail h1) (fun r => LkP.unwd _ _ _ h1) (fun o v => LkP.leave h1) (fun V c' j' args => LkP.enter h1)
  · obtain ⟨n, e1, e2⟩ := hs y
    exact h1.lock (m := n + 1) (by rw [e1]; exact oN_add n 1) (by show n + 1 ≤ zK s + 1; omega)
  · obtain ⟨n, e1, e2⟩ := hs y
    have hn : n ≠ 0 := fun z => hy (by rw [e1, z]; rfl)
    exact h1.lock (m := n - 1) (by rw [e1, show (-1 : Int32) = -(Int32.ofNat 1) from rfl, ← Int32.sub_eq_add_neg]; exact sub_n (by omega)) (by show n - 1 ≤ zK s + 1; omega)
theorem LkP.tk {op : Nat} : LkP s (tickS s t op) := LkP.of (fun k => rfl) (fun r => rfl) (Nat.le_succ _)
theorem LkP.first : LkP s (firstS br W t s) := by
  unfold firstS
  cases fMth br W (zL s) (lCa (zN s t)).1 (lCa (zN s t)).2.1 52 (fun _ => false) with
  | mk y L =>
    have h0 : LkP s (yL s L) := LkP.eq rfl rfl rfl
    cases y with
    | inl e => exact h0.trans LkP.fail
    | inr q =>
      have hm := LkP.must (br := br) (W := W) (t := t) (s := yL s L) (k := q.1)
      dsimp only
      generalize mustS br W t (yL s L) q.1 = mr at hm
      obtain ⟨r0, e, s1⟩ := mr
      have hm : LkP (yL s L) s1 := hm
      match r0 with
      | 0 => exact (h0.trans hm).trans LkP.enter
      | 1 => exact h0.trans hm
      | 2 => exact (h0.trans hm).trans LkP.fail
      | n + 3 => exact h0.trans hm
theorem LkP.startg : LkP s (startG W t s k U) := by
  unfold startG
  split
  · exact LkP.su.trans LkP.enter
  · exact (LkP.yc.trans LkP.su).trans LkP.ev
theorem LkP.start {own : Bool} : LkP s (startS br W t s k own U) := by
  unfold startS
  split
  · split
    · exact LkP.rf
    · rename_i p _
      have hm := LkP.must (br := br) (W := W) (t := t) (s := s) (k := p)
      generalize mustS br W t s p = mr at hm
      obtain ⟨r0, e, s1⟩ := mr
      have hm : LkP s s1 := hm
      match r0 with
      | 0 => exact hm.trans LkP.startg
      | 1 => exact hm
      | 2 => exact hm.trans LkP.fail
      | n + 3 => exact hm
  · exact LkP.startg
theorem LkP.ins (hb : zK s < 1000000) : LkP s (insS br W t s c j a lo st U) := by
  unfold insS
  dsimp only
  generalize gin (co (gmt (gc W c) j)) a = i
  split
  · exact LkP.wt
  generalize (if i.1 = 54 ∨ i.1 = 55 then ((.inr (0, 0), zL s) : FR) else fIns br W (zL s) c (gmt (gc W c) j) i) = fr
  obtain ⟨y, L⟩ := fr
  have h0 : LkP s (yL s L) := LkP.eq rfl rfl rfl
  cases y with
  | inl e => exact (h0.trans LkP.tk).trans LkP.fail
  | inr q =>
    dsimp only
    split
    · have hm := LkP.must (br := br) (W := W) (t := t) (s := yL s L) (k := q.1)
      have hk := must_K (br := br) (W := W) (t := t) (s := yL s L) (k := q.1)
      generalize mustS br W t (yL s L) q.1 = mr at hm hk
      obtain ⟨r0, e, s1⟩ := mr
      have hm : LkP (yL s L) s1 := hm
      match r0 with
      | 0 => exact (h0.trans hm).trans (LkP.act (show zK s1 < 1000000 by have hk : zK s1 = zK s := hk; rw [hk]; exact hb))
      | 1 => exact (h0.trans hm)
      | 2 => exact ((h0.trans hm).trans LkP.tk).trans LkP.fail
      | n + 3 => exact (h0.trans hm)
    · exact h0.trans (LkP.act hb)
theorem LkP.adv (hb : zK s < 1000000) : LkP s (advS br W t s) := by
  unfold advS
  cases gU s t with
  | nil => exact LkP.first
  | cons u U =>
    cases u with
    | inr k =>
      obtain ⟨k, own⟩ := k
      exact LkP.start
    | inl f =>
      obtain ⟨c, j, a, lo, st⟩ := f
      exact LkP.ins hb
theorem KwM.rf : KwM t s s := rfl
theorem KwM.trans (h : KwM t s s') (h2 : KwM t s' s2) : KwM t s s2 := Eq.trans h2 h
theorem KwM.of (e3 : zN s' = zN s) : KwM t s s' := by unfold KwM; rw [e3]
theorem KwM.ev {w' k' : Nat} {m : Option Nat} : KwM t s (evS s t w' k' m) := KwM.of evS_r.2.2.2.2.2.2.2.1
theorem KwM.su : KwM t s (sU s t V) := by show lWt (up1 (zN s) t _ t) = _; rw [up1_s]
theorem KwM.tk {op : Nat} : KwM t s (tickS s t op) := by show lWt (up1 (zN s) t _ t) = _; rw [up1_s]
theorem KwM.dn {x : Nat} {r : Int32 × Int32 × Int32 × Int32} : KwM t s (yN s (up1 (zN s) t (qR (zN s t) x r))) := by show lWt (up1 (zN s) t _ t) = _; rw [up1_s]
theorem KwM.yc {f : Nat → Int32} : KwM t s (yC s f) := KwM.of rfl
theorem KwM.ft {f : Nat} {ru : Int32} : KwM t s (addFt s f ru) := KwM.of rfl
theorem KwM.unwd : ∀ (U : List Un) (r : Int32) (s : Ms), KwM t s (unw W t U r s)
  | [], r, s => KwM.dn
  | .inr (k, own) :: U, r, s => by
    unfold unw
    by_cases c1 : own = true ∧ bel W (clN s r) 10 = false
    · rw [if_pos c1]; exact ((KwM.yc.trans KwM.ev).trans KwM.ft).trans (KwM.unwd U _ _)
    · rw [if_neg c1]; exact (KwM.yc.trans KwM.ev).trans (KwM.unwd U _ _)
  | .inl (c, j, a, lo, st) :: U, r, s => by
    unfold unw
    cases ec : catH W a (clN s r) (hs (gmt (gc W c) j)) with
    | none => exact KwM.ev.trans (KwM.unwd U _ _)
    | some g => exact KwM.su.trans KwM.ev
theorem KwM.fail {f : Nat} {ru : Int32} : KwM t s (failS W t s f ru) := KwM.ft.trans (KwM.unwd _ _ _)
theorem KwM.enter {c' j' : Nat} {args : List Vl} : KwM t s (enterS W t s V c' j' args) := by
  unfold enterS
  split
  · exact KwM.fail
  · exact KwM.su.trans KwM.ev
theorem KwM.begs : KwM t s (begS W t s k) := by
  unfold begS
  exact (KwM.trans (s' := evS (yB (yO (yC s (up1 (zC s) k 1)) (up1 (zO s) k (Int32.ofNat t))) (zB s ++ [k])) t 4 k none) (KwM.trans (s' := yB (yO (yC s (up1 (zC s) k 1)) (up1 (zO s) k (Int32.ofNat t))) (zB s ++ [k])) (KwM.of rfl) KwM.ev) (KwM.of rfl)).trans KwM.su
theorem KwM.must : ((mustS br W t s k).1 = 3 ∧ waitS (mustS br W t s k).2.2 t = true) ∨ ((mustS br W t s k).1 < 3 ∧ KwM t s (mustS br W t s k).2.2) := by
  unfold mustS
  split
  · exact Or.inr ⟨by dsimp only; decide, KwM.rf⟩
  split
  · rename_i c1
    split
    · exact Or.inr ⟨by dsimp only; decide, KwM.rf⟩
    · rename_i c2
      refine Or.inl ⟨rfl, ?_⟩
      unfold waitS
      show (match lWt (up1 (zN s) t (qW (zN s t) (some (.inr k))) t) with | none => false | some (.inl r) => _ | some (.inr k) => decide (zC s k = 1 ∧ zO s k ≠ Int32.ofNat t)) = true
      rw [up1_s]
      exact decide_eq_true ⟨c1, c2⟩
  split
  · exact Or.inr ⟨by dsimp only; decide, KwM.rf⟩
  split
  · exact Or.inr ⟨by dsimp only; decide, KwM.trans (s' := yL s (lkN br W 60 (zL s) k).2) (KwM.of rfl) KwM.begs⟩
  · exact Or.inr ⟨by dsimp only; decide, KwM.of rfl⟩
theorem KwM.leave {o : Nat} {v : Int32} : KwM t s (leaveS s t c j o v U) := by
  cases U with
  | nil => exact KwM.ev.trans KwM.dn
  | cons u U' =>
    cases u with
    | inr k =>
      obtain ⟨k, own⟩ := k
      exact ((KwM.ev.trans KwM.yc).trans KwM.su).trans KwM.ev
    | inl f =>
      obtain ⟨c', j', a', lo', st'⟩ := f
      exact KwM.ev.trans KwM.su
theorem KwM.act : KwM t s (doS W t s c j a lo st U i q) := doS_ind (P := fun s' => KwM t s s') (fun s' f hq => KwM.trans (KwM.of hq.1.2.2) KwM.su) (fun f ru => KwM.fail) (fun r => KwM.unwd _ _ _) (fun o v => KwM.leave) (fun V c' j' args => KwM.enter)
def KwQ (t : Nat) (s s' : Ms) : Prop := KwM t s s' ∨ waitS s' t = true
theorem KwQ.first : KwQ t s (firstS br W t s) := by
  unfold firstS
  cases fMth br W (zL s) (lCa (zN s t)).1 (lCa (zN s t)).2.1 52 (fun _ => false) with
  | mk y L =>
    have h0 : KwM t s (yL s L) := KwM.of rfl
    cases y with
    | inl e => exact Or.inl (h0.trans KwM.fail)
    | inr q =>
      have hm := KwM.must (br := br) (W := W) (t := t) (s := yL s L) (k := q.1)
      dsimp only
      generalize mustS br W t (yL s L) q.1 = mr at hm
      obtain ⟨r0, e, s1⟩ := mr
      dsimp only at hm
      rcases hm with ⟨h3, hw⟩ | ⟨h3, hm⟩
      · subst h3; exact Or.inr hw
      · match r0, h3 with
        | 0, _ => exact Or.inl ((h0.trans hm).trans KwM.enter)
        | 1, _ => exact Or.inl (h0.trans hm)
        | 2, _ => exact Or.inl ((h0.trans hm).trans KwM.fail)
        | n + 3, h3 => exact absurd h3 (by omega)
theorem KwM.startg : KwM t s (startG W t s k U) := by
  unfold startG
  split
  · exact KwM.su.trans KwM.enter
  · exact (KwM.yc.trans KwM.su).trans KwM.ev
theorem KwQ.start {own : Bool} : KwQ t s (startS br W t s k own U) := by
  unfold startS
  split
  · split
    · exact Or.inl KwM.rf
    · rename_i p _
      have hm := KwM.must (br := br) (W := W) (t := t) (s := s) (k := p)
      generalize mustS br W t s p = mr at hm
      obtain ⟨r0, e, s1⟩ := mr
      dsimp only at hm
      rcases hm with ⟨h3, hw⟩ | ⟨h3, hm⟩
      · subst h3; exact Or.inr hw
      · match r0, h3 with
        | 0, _ => exact Or.inl (hm.trans KwM.startg)
        | 1, _ => exact Or.inl hm
        | 2, _ => exact Or.inl (hm.trans KwM.fail)
        | n + 3, h3 => exact absurd h3 (by omega)
  · exact Or.inl KwM.startg
theorem KwQ.ins : KwQ t s (insS br W t s c j a lo st U) := by
  unfold insS
  dsimp only
  generalize gin (co (gmt (gc W c) j)) a = i
  split
  · rename_i c1
    refine Or.inr ?_
    unfold waitS
    show (match lWt (up1 (zN s) t (qW (zN s t) (some (.inl (tv st 0).1))) t) with | none => false | some (.inl r) => decide (lckd s t r) | some (.inr k) => _) = true
    rw [up1_s]
    exact decide_eq_true c1.2.2
  generalize (if i.1 = 54 ∨ i.1 = 55 then ((.inr (0, 0), zL s) : FR) else fIns br W (zL s) c (gmt (gc W c) j) i) = fr
  obtain ⟨y, L⟩ := fr
  have h0 : KwM t s (yL s L) := KwM.of rfl
  cases y with
  | inl e => exact Or.inl ((h0.trans KwM.tk).trans KwM.fail)
  | inr q =>
    dsimp only
    split
    · have hm := KwM.must (br := br) (W := W) (t := t) (s := yL s L) (k := q.1)
      generalize mustS br W t (yL s L) q.1 = mr at hm
      obtain ⟨r0, e, s1⟩ := mr
      dsimp only at hm
      rcases hm with ⟨h3, hw⟩ | ⟨h3, hm⟩
      · subst h3; exact Or.inr hw
      · match r0, h3 with
        | 0, _ => exact Or.inl (((h0.trans hm).trans KwM.tk).trans KwM.act)
        | 1, _ => exact Or.inl (h0.trans hm)
        | 2, _ => exact Or.inl (((h0.trans hm).trans KwM.tk).trans KwM.fail)
        | n + 3, h3 => exact absurd h3 (by omega)
    · exact Or.inl ((h0.trans KwM.tk).trans KwM.act)
/-- who does not go on after an act waits for something that another one has -/
theorem KwQ.adv : KwQ t s (advS br W t s) := by
  unfold advS
  cases gU s t with
  | nil => exact KwQ.first
  | cons u U =>
    cases u with
    | inr k =>
      obtain ⟨k, own⟩ := k
      exact KwQ.start
    | inl f =>
      obtain ⟨c, j, a, lo, st⟩ := f
      exact KwQ.ins
end
