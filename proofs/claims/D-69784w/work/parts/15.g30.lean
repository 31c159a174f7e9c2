/-! THE MACHINE: what an act leaves alone -/
/-- turns, steps and the other threads are as they were -/
def KpM (t : Nat) (s s' : Ms) : Prop := (zT s' = zT s ∧ zK s' = zK s) ∧ lSp (zN s' t) = lSp (zN s t) ∧ ∀ t', t' ≠ t → zN s' t' = zN s t'
/-- only objects, locks, fixed fields -/
def Qt (s s' : Ms) : Prop := (zC s' = zC s ∧ zO s' = zO s ∧ zN s' = zN s) ∧ (zT s' = zT s ∧ zK s' = zK s) ∧ (zF s').length = (zF s).length
section
variable {br : Int32} {W : List Cls} {s s' s2 : Ms} {t c j a k : Nat} {lo st : List Vl} {U V : List Un} {q : Nat × Nat} {i : Ins}
theorem Qt.rf : Qt s s := ⟨⟨rfl, rfl, rfl⟩, ⟨rfl, rfl⟩, rfl⟩
theorem Qt.lock {r n o : Int32} : Qt s (wLock s r n o) := by
  unfold wLock
  split
  · exact ⟨⟨rfl, rfl, rfl⟩, ⟨rfl, rfl⟩, by show ((zF s).set _ _).length = _; rw [List.length_set]⟩
  · exact Qt.rf
theorem ite_P {P : Ms → Prop} {c : Prop} [Decidable c] {a b : Ms} (h1 : c → P a) (h2 : ¬ c → P b) : P (if c then a else b) := by
  by_cases e : c
  · rw [if_pos e]; exact h1 e
  · rw [if_neg e]; exact h2 e
/-- what an act comes to -/
theorem doS_ind {P : Ms → Prop} (hnx : ∀ s' f, Qt s s' → P (sU s' t (.inl f :: U))) (hfail : ∀ f ru, P (failS W t s f ru)) (hunw : ∀ r, P (unw W t (gU s t) r s)) (hlv : ∀ o v, P (leaveS s t c j o v U)) (hent : ∀ V c' j' args, P (enterS W t s (.inl (c, j, a, lo, V) :: U) c' j' args)) : P (doS W t s c j a lo st U i q) := by
  have h1 : ∀ f, P (sU s t (.inl f :: U)) := fun f => hnx s f Qt.rf
  have hcl : P (cllS W t s c j a lo st U i q) := by
    unfold cllS
    have go : ∀ (m : Nat × Nat) (n : Nat), P (if m.1 < 21 then sU s t (.inl (c, j, a + 1, lo, drp st n) :: U) else enterS W t s (.inl (c, j, a, lo, drp st n) :: U) m.1 m.2 (st.drop (st.length - n))) := fun m n => by
      split
      · exact h1 _
      · exact hent _ _ _ _
    dsimp only
    by_cases c52 : i.1 = 52
    · rw [if_pos c52]; exact go q _
    rw [if_neg c52]
    by_cases c0 : (tv st (iA i).length).1 = 0
    · rw [if_pos c0]; exact hfail _ _
    rw [if_neg c0]
    by_cases c4 : i.1 ≠ 51 ∧ (gmt (gc W q.1) q.2).2.2.2.1 &&& 4 = 0
    · rw [if_pos c4]
      refine ite_P (P := P) (fun _ => hfail _ _) (fun _ => ?_)
      cases clR s (tv st (iA i).length).1 with
      | none => exact hfail _ _
      | some d =>
        dsimp only
        cases mthW W (iM i, iA i, iR i, 0, 0, 0, [], []) 5 d with
        | none => exact hfail _ _
        | some m => exact ite_P (P := P) (fun _ => hfail _ _) (fun _ => go m _)
    rw [if_neg c4]
    by_cases c8 : ¬ (gmt (gc W q.1) q.2).2.2.2.1 &&& 8 = 0
    · rw [if_pos c8]; exact hfail _ _
    · rw [if_neg c8]; exact go q _
  unfold doS
  dsimp only
  refine ite_P (P := P) (fun _ => ?_) (fun _ => ?_)
  · refine ite_P (P := P) (fun _ => ?_) (fun _ => ?_)
    · exact hfail _ _
    · exact h1 _
  refine ite_P (P := P) (fun _ => ?_) (fun _ => ?_)
  · exact h1 _
  refine ite_P (P := P) (fun _ => ?_) (fun _ => ?_)
  · exact h1 _
  refine ite_P (P := P) (fun _ => ?_) (fun _ => ?_)
  · exact h1 _
  refine ite_P (P := P) (fun _ => ?_) (fun _ => ?_)
  · exact h1 _
  refine ite_P (P := P) (fun _ => ?_) (fun _ => ?_)
  · refine ite_P (P := P) (fun _ => ?_) (fun _ => ?_)
    · exact hfail _ _
    · exact hnx _ _ ⟨⟨rfl, rfl, rfl⟩, ⟨rfl, rfl⟩, rfl⟩
  refine ite_P (P := P) (fun _ => ?_) (fun _ => ?_)
  · refine ite_P (P := P) (fun _ => ?_) (fun _ => ?_)
    · exact hfail _ _
    refine ite_P (P := P) (fun _ => ?_) (fun _ => ?_)
    · exact hfail _ _
    · exact hnx _ _ ⟨⟨rfl, rfl, rfl⟩, ⟨rfl, rfl⟩, rfl⟩
  refine ite_P (P := P) (fun _ => ?_) (fun _ => ?_)
  · exact h1 _
  refine ite_P (P := P) (fun _ => ?_) (fun _ => ?_)
  · exact hnx _ _ ⟨⟨rfl, rfl, rfl⟩, ⟨rfl, rfl⟩, rfl⟩
  refine ite_P (P := P) (fun _ => ?_) (fun _ => ?_)
  · refine ite_P (P := P) (fun _ => ?_) (fun _ => ?_)
    · exact hfail _ _
    · exact h1 _
  refine ite_P (P := P) (fun _ => ?_) (fun _ => ?_)
  · refine ite_P (P := P) (fun _ => ?_) (fun _ => ?_)
    · exact hfail _ _
    · exact hnx _ _ ⟨⟨rfl, rfl, rfl⟩, ⟨rfl, rfl⟩, rfl⟩
  refine ite_P (P := P) (fun _ => ?_) (fun _ => ?_)
  · refine ite_P (P := P) (fun _ => ?_) (fun _ => ?_)
    · exact hfail _ _
    · exact h1 _
  refine ite_P (P := P) (fun _ => ?_) (fun _ => ?_)
  · refine ite_P (P := P) (fun _ => ?_) (fun _ => ?_)
    · exact hfail _ _
    refine ite_P (P := P) (fun _ => ?_) (fun _ => ?_)
    · exact hfail _ _
    · exact h1 _
  refine ite_P (P := P) (fun _ => ?_) (fun _ => ?_)
  · refine ite_P (P := P) (fun _ => ?_) (fun _ => ?_)
    · exact hfail _ _
    refine ite_P (P := P) (fun _ => ?_) (fun _ => ?_)
    · exact hfail _ _
    · exact hnx _ _ ⟨⟨rfl, rfl, rfl⟩, ⟨rfl, rfl⟩, rfl⟩
  refine ite_P (P := P) (fun _ => ?_) (fun _ => ?_)
  · refine ite_P (P := P) (fun _ => ?_) (fun _ => ?_)
    · exact hfail _ _
    · exact hnx _ _ Qt.lock
  refine ite_P (P := P) (fun _ => ?_) (fun _ => ?_)
  · refine ite_P (P := P) (fun _ => ?_) (fun _ => ?_)
    · exact hfail _ _
    refine ite_P (P := P) (fun _ => ?_) (fun _ => ?_)
    · exact hfail _ _
    · exact hnx _ _ Qt.lock
  refine ite_P (P := P) (fun _ => ?_) (fun _ => ?_)
  · exact hcl
  refine ite_P (P := P) (fun _ => ?_) (fun _ => ?_)
  · exact h1 _
  refine ite_P (P := P) (fun _ => ?_) (fun _ => ?_)
  · exact h1 _
  refine ite_P (P := P) (fun _ => ?_) (fun _ => ?_)
  · exact h1 _
  refine ite_P (P := P) (fun _ => ?_) (fun _ => ?_)
  · exact h1 _
  refine ite_P (P := P) (fun _ => ?_) (fun _ => ?_)
  · exact h1 _
  refine ite_P (P := P) (fun _ => ?_) (fun _ => ?_)
  · exact h1 _
  refine ite_P (P := P) (fun _ => ?_) (fun _ => ?_)
  · exact h1 _
  refine ite_P (P := P) (fun _ => ?_) (fun _ => ?_)
  · exact h1 _
  refine ite_P (P := P) (fun _ => ?_) (fun _ => ?_)
  · exact h1 _
  refine ite_P (P := P) (fun _ => ?_) (fun _ => ?_)
  · exact h1 _
  refine ite_P (P := P) (fun _ => ?_) (fun _ => ?_)
  · exact h1 _
  refine ite_P (P := P) (fun _ => ?_) (fun _ => ?_)
  · exact h1 _
  refine ite_P (P := P) (fun _ => ?_) (fun _ => ?_)
  · refine ite_P (P := P) (fun _ => ?_) (fun _ => ?_)
    · exact h1 _
    generalize fnd W (iK i) = od
    cases od with
    | none => exact hfail _ _
    | some d =>
      dsimp only
      refine ite_P (P := P) (fun _ => ?_) (fun _ => ?_)
      · exact h1 _
      refine ite_P (P := P) (fun _ => ?_) (fun _ => ?_)
      · exact h1 _
      · exact hfail _ _
  refine ite_P (P := P) (fun _ => ?_) (fun _ => ?_)
  · refine ite_P (P := P) (fun _ => ?_) (fun _ => ?_)
    · exact hfail _ _
    · exact hunw _
  refine ite_P (P := P) (fun _ => ?_) (fun _ => ?_)
  · exact hlv _ _
  · exact h1 _
theorem KpM.rf : KpM t s s := ⟨⟨rfl, rfl⟩, rfl, fun _ _ => rfl⟩
theorem KpM.trans (h : KpM t s s') (h2 : KpM t s' s2) : KpM t s s2 := ⟨⟨h2.1.1.trans h.1.1, h2.1.2.trans h.1.2⟩, h2.2.1.trans h.2.1, fun t' n => (h2.2.2 t' n).trans (h.2.2 t' n)⟩
theorem KpM.of (e1 : zT s' = zT s) (e2 : zK s' = zK s) (e3 : zN s' = zN s) : KpM t s s' := ⟨⟨e1, e2⟩, by rw [e3], fun _ _ => by rw [e3]⟩
theorem KpM.ev {w' k' : Nat} {m : Option Nat} : KpM t s (evS s t w' k' m) := KpM.of evS_r.2.2.2.2.2.2.2.2.1 evS_r.2.2.2.2.2.2.2.2.2.2 evS_r.2.2.2.2.2.2.2.1
theorem KpM.su : KpM t s (sU s t V) := ⟨⟨rfl, rfl⟩, by show lSp (up1 (zN s) t _ t) = _; rw [up1_s], fun t' n => up1_o n⟩
theorem KpM.wt {x : Option (Int32 ⊕ Nat)} : KpM t s (sWt s t x) := ⟨⟨rfl, rfl⟩, by show lSp (up1 (zN s) t _ t) = _; rw [up1_s], fun t' n => up1_o n⟩
theorem KpM.dn {x : Nat} {r : Int32 × Int32 × Int32 × Int32} : KpM t s (yN s (up1 (zN s) t (qR (zN s t) x r))) := ⟨⟨rfl, rfl⟩, by show lSp (up1 (zN s) t _ t) = _; rw [up1_s], fun t' n => up1_o n⟩
theorem KpM.yc {f : Nat → Int32} : KpM t s (yC s f) := KpM.of rfl rfl rfl
theorem KpM.ft {f : Nat} {ru : Int32} : KpM t s (addFt s f ru) := KpM.of rfl rfl rfl
theorem KpM.unwd : ∀ (U : List Un) (r : Int32) (s : Ms), KpM t s (unw W t U r s)
  | [], r, s => KpM.dn
  | .inr (k, own) :: U, r, s => by
    unfold unw
    by_cases c1 : own = true ∧ bel W (clN s r) 10 = false
    · rw [if_pos c1]; exact ((KpM.yc.trans KpM.ev).trans KpM.ft).trans (KpM.unwd U _ _)
    · rw [if_neg c1]; exact (KpM.yc.trans KpM.ev).trans (KpM.unwd U _ _)
  | .inl (c, j, a, lo, st) :: U, r, s => by
    unfold unw
    cases ec : catH W a (clN s r) (hs (gmt (gc W c) j)) with
    | none => exact KpM.ev.trans (KpM.unwd U _ _)
    | some g => exact KpM.su.trans KpM.ev
theorem KpM.fail {f : Nat} {ru : Int32} : KpM t s (failS W t s f ru) := KpM.ft.trans (KpM.unwd _ _ _)
theorem KpM.enter {c' j' : Nat} {args : List Vl} : KpM t s (enterS W t s V c' j' args) := by
  unfold enterS
  split
  · exact KpM.fail
  · exact KpM.su.trans KpM.ev
theorem KpM.begs : KpM t s (begS W t s k) := by
  unfold begS
  exact (KpM.trans (s' := evS (yB (yO (yC s (up1 (zC s) k 1)) (up1 (zO s) k (Int32.ofNat t))) (zB s ++ [k])) t 4 k none) (KpM.trans (s' := yB (yO (yC s (up1 (zC s) k 1)) (up1 (zO s) k (Int32.ofNat t))) (zB s ++ [k])) (KpM.of rfl rfl rfl) KpM.ev) (KpM.of rfl rfl rfl)).trans KpM.su
theorem KpM.must : KpM t s (mustS br W t s k).2.2 := by
  unfold mustS
  split
  · exact KpM.rf
  split
  · split
    · exact KpM.rf
    · exact KpM.wt
  split
  · exact KpM.rf
  split
  · exact KpM.trans (s' := yL s (lkN br W 60 (zL s) k).2) (KpM.of rfl rfl rfl) KpM.begs
  · exact KpM.of rfl rfl rfl
theorem KpM.leave {o : Nat} {v : Int32} : KpM t s (leaveS s t c j o v U) := by
  cases U with
  | nil => exact KpM.ev.trans KpM.dn
  | cons u U' =>
    cases u with
    | inr k =>
      obtain ⟨k, own⟩ := k
      exact ((KpM.ev.trans KpM.yc).trans KpM.su).trans KpM.ev
    | inl f =>
      obtain ⟨c', j', a', lo', st'⟩ := f
      exact KpM.ev.trans KpM.su
theorem KpM.act : KpM t s (doS W t s c j a lo st U i q) := doS_ind (P := fun s' => KpM t s s') (fun s' f hq => KpM.trans (KpM.of hq.2.1.1 hq.2.1.2 hq.1.2.2) KpM.su) (fun f ru => KpM.fail) (fun r => KpM.unwd _ _ _) (fun o v => KpM.leave) (fun V c' j' args => KpM.enter)
theorem KpM.first : KpM t s (firstS br W t s) := by
  unfold firstS
  cases fMth br W (zL s) (lCa (zN s t)).1 (lCa (zN s t)).2.1 52 (fun _ => false) with
  | mk y L =>
    have h0 : KpM t s (yL s L) := KpM.of rfl rfl rfl
    cases y with
    | inl e => exact h0.trans KpM.fail
    | inr q =>
      have hm := KpM.must (br := br) (W := W) (t := t) (s := yL s L) (k := q.1)
      dsimp only
      generalize mustS br W t (yL s L) q.1 = mr at hm
      obtain ⟨r0, e, s1⟩ := mr
      have hm : KpM t (yL s L) s1 := hm
      match r0 with
      | 0 => exact (h0.trans hm).trans KpM.enter
      | 1 => exact h0.trans hm
      | 2 => exact (h0.trans hm).trans KpM.fail
      | n + 3 => exact h0.trans hm
theorem KpM.startg : KpM t s (startG W t s k U) := by
  unfold startG
  split
  · exact KpM.su.trans KpM.enter
  · exact (KpM.yc.trans KpM.su).trans KpM.ev
theorem KpM.start {own : Bool} : KpM t s (startS br W t s k own U) := by
  unfold startS
  split
  · split
    · exact KpM.rf
    · rename_i p _
      have hm := KpM.must (br := br) (W := W) (t := t) (s := s) (k := p)
      generalize mustS br W t s p = mr at hm
      obtain ⟨r0, e, s1⟩ := mr
      have hm : KpM t s s1 := hm
      match r0 with
      | 0 => exact hm.trans KpM.startg
      | 1 => exact hm
      | 2 => exact hm.trans KpM.fail
      | n + 3 => exact hm
  · exact KpM.startg
/-- an act is a step or is none -/
def Kq (t : Nat) (s s' : Ms) : Prop := zT s' = zT s ∧ (∀ t', t' ≠ t → zN s' t' = zN s t') ∧ ((zK s' = zK s ∧ lSp (zN s' t) = lSp (zN s t)) ∨ (zK s' = zK s + 1 ∧ lSp (zN s' t) = lSp (zN s t) + 1))
theorem KpM.qq (h : KpM t s s') : Kq t s s' := ⟨h.1.1, h.2.2, Or.inl ⟨h.1.2, h.2.1⟩⟩
theorem KpM.tk {op : Nat} (h : KpM t s s') (h2 : KpM t (tickS s' t op) s2) : Kq t s s2 := by
  refine ⟨h2.1.1.trans h.1.1, fun t' n => (h2.2.2 t' n).trans (Eq.trans (up1_o n) (h.2.2 t' n)), Or.inr ⟨h2.1.2.trans ?_, h2.2.1.trans ?_⟩⟩
  · show zK s' + 1 = _; rw [h.1.2]
  · rw [tick_N]; show lSp (zN s' t) + 1 = _; rw [h.2.1]
theorem Kq.ins : Kq t s (insS br W t s c j a lo st U) := by
  unfold insS
  dsimp only
  generalize gin (co (gmt (gc W c) j)) a = i
  split
  · exact KpM.wt.qq
  generalize (if i.1 = 54 ∨ i.1 = 55 then ((.inr (0, 0), zL s) : FR) else fIns br W (zL s) c (gmt (gc W c) j) i) = fr
  obtain ⟨y, L⟩ := fr
  have h0 : KpM t s (yL s L) := KpM.of rfl rfl rfl
  cases y with
  | inl e => exact h0.tk KpM.fail
  | inr q =>
    dsimp only
    split
    · have hm := KpM.must (br := br) (W := W) (t := t) (s := yL s L) (k := q.1)
      generalize mustS br W t (yL s L) q.1 = mr at hm
      obtain ⟨r0, e, s1⟩ := mr
      have hm : KpM t (yL s L) s1 := hm
      match r0 with
      | 0 => exact (h0.trans hm).tk KpM.act
      | 1 => exact (h0.trans hm).qq
      | 2 => exact (h0.trans hm).tk KpM.fail
      | n + 3 => exact (h0.trans hm).qq
    · exact h0.tk KpM.act
theorem Kq.adv : Kq t s (advS br W t s) := by
  unfold advS
  cases gU s t with
  | nil => exact KpM.first.qq
  | cons u U =>
    cases u with
    | inr k =>
      obtain ⟨k, own⟩ := k
      exact KpM.start.qq
    | inl f =>
      obtain ⟨c, j, a, lo, st⟩ := f
      exact Kq.ins
end
