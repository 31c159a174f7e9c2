/-! the kind of a thread's result is 0..4 (printed by gen/rk.py from i08) -/
def rk5 (v : Int32) : Prop := v = 0 ∨ v = 1 ∨ v = 2 ∨ v = 3 ∨ v = 4
def RkN (s : Ms) : Prop := ∀ t, rk5 (lRs (zN s t)).1
def RkP (s s' : Ms) : Prop := RkN s → RkN s'
section
variable {br : Int32} {W : List Cls} {s s' s2 : Ms} {t c j a k : Nat} {lo st : List Vl} {U V : List Un} {q : Nat × Nat} {i : Ins}
theorem RkP.of (e : ∀ t, lRs (zN s' t) = lRs (zN s t)) : RkP s s' := fun h t => by rw [e t]; exact h t
theorem RkP.rf : RkP s s := id
theorem RkP.trans (h : RkP s s') (h2 : RkP s' s2) : RkP s s2 := fun z => h2 (h z)
theorem RkP.eq (e2 : zN s' = zN s) : RkP s s' := fun h t => by rw [e2]; exact h t
theorem RkP.ev {w' k' : Nat} {m : Option Nat} : RkP s (evS s t w' k' m) := RkP.eq ev_N
theorem RkP.su : RkP s (sU s t V) := RkP.of (fun t' => by
  show lRs (up1 (zN s) t (qU (zN s t) V) t') = lRs (zN s t')
  by_cases e : t' = t
  · rw [e, up1_s]
  · rw [up1_o e])
theorem RkP.wt {x : Option (Int32 ⊕ Nat)} : RkP s (sWt s t x) := RkP.of (fun t' => by
  show lRs (up1 (zN s) t (qW (zN s t) x) t') = lRs (zN s t')
  by_cases e : t' = t
  · rw [e, up1_s]
  · rw [up1_o e])
theorem RkP.dn {x : Nat} {r : Int32 × Int32 × Int32 × Int32} (hr : rk5 r.1) : RkP s (yN s (up1 (zN s) t (qR (zN s t) x r))) := fun h t' => by
  show rk5 (lRs (up1 (zN s) t (qR (zN s t) x r) t')).1
  by_cases e : t' = t
  · rw [e, up1_s]; exact hr
  · rw [up1_o e]; exact h t'
theorem RkP.yc {f : Nat → Int32} : RkP s (yC s f) := RkP.eq rfl
theorem RkP.ft {f : Nat} {ru : Int32} : RkP s (addFt s f ru) := RkP.eq rfl
theorem RkP.unwd : ∀ (U : List Un) (r : Int32) (s : Ms), RkP s (unw W t U r s)
  | [], r, s => RkP.dn (Or.inl rfl)
  | .inr (k, own) :: U, r, s => by
    unfold unw
    by_cases c1 : own = true ∧ bel W (clN s r) 10 = false
    · rw [if_pos c1]; exact ((RkP.yc.trans RkP.ev).trans RkP.ft).trans (RkP.unwd U _ _)
    · rw [if_neg c1]; exact (RkP.yc.trans RkP.ev).trans (RkP.unwd U _ _)
  | .inl (c, j, a, lo, st) :: U, r, s => by
    unfold unw
    cases ec : catH W a (clN s r) (hs (gmt (gc W c) j)) with
    | none => exact RkP.ev.trans (RkP.unwd U _ _)
    | some g => exact RkP.su.trans RkP.ev
theorem RkP.fail {f : Nat} {ru : Int32} : RkP s (failS W t s f ru) := RkP.ft.trans (RkP.unwd _ _ _)
theorem RkP.enter {c' j' : Nat} {args : List Vl} : RkP s (enterS W t s V c' j' args) := by
  unfold enterS
  split
  · exact RkP.fail
  · exact RkP.su.trans RkP.ev
theorem RkP.begs : RkP s (begS W t s k) := by
  unfold begS
  exact (RkP.trans (s' := evS (yB (yO (yC s (up1 (zC s) k 1)) (up1 (zO s) k (Int32.ofNat t))) (zB s ++ [k])) t 4 k none) (RkP.trans (s' := yB (yO (yC s (up1 (zC s) k 1)) (up1 (zO s) k (Int32.ofNat t))) (zB s ++ [k])) (RkP.eq rfl) RkP.ev) (RkP.eq rfl)).trans RkP.su
theorem RkP.must : RkP s (mustS br W t s k).2.2 := by
  unfold mustS
  split
  · exact RkP.rf
  split
  · split
    · exact RkP.rf
    · exact RkP.wt
  split
  · exact RkP.rf
  split
  · exact RkP.trans (s' := yL s (lkN br W 60 (zL s) k).2) (RkP.eq rfl) RkP.begs
  · exact RkP.eq rfl
theorem RkP.leave {o : Nat} {v : Int32} : RkP s (leaveS s t c j o v U) := by
  cases U with
  | nil =>
    refine RkP.ev.trans (RkP.dn ?_)
    show rk5 (if o = 57 then 0 else if o = 58 then 1 else if v = 0 then 2 else if clR s v = none then 3 else 4)
    unfold rk5
    repeat' split
    all_goals simp
  | cons u U' =>
    cases u with
    | inr k =>
      obtain ⟨k, own⟩ := k
      exact ((RkP.ev.trans RkP.yc).trans RkP.su).trans RkP.ev
    | inl f =>
      obtain ⟨c', j', a', lo', st'⟩ := f
      exact RkP.ev.trans RkP.su
theorem RkP.tk {op : Nat} : RkP s (tickS s t op) := RkP.of (fun t' => by
  show lRs (up1 (zN s) t (qS (zN s t)) t') = lRs (zN s t')
  by_cases e : t' = t
  · rw [e, up1_s]
  · rw [up1_o e])
theorem RkP.act {op : Nat} : RkP s (doS W t (tickS s t op) c j a lo st U i q) := fun h => by
  have h1 : RkN (tickS s t op) := RkP.tk h
  exact doS_ind2 (s := tickS s t op) (P := RkN) (R := RkN) h1 (fun cl n ks => RkP.eq (s := tickS s t op) rfl h1) (fun X => RkP.eq (s := tickS s t op) rfl h1) (fun m v => RkP.eq (s := tickS s t op) rfl h1) (fun y => RkP.eq lock_EN.2 h1) (fun y hy => RkP.eq lock_EN.2 h1) (fun s' f h' => RkP.su h') (fun f ru => RkP.fail h1) (fun r => RkP.unwd _ _ _ h1) (fun o v => RkP.leave h1) (fun V c' j' args => RkP.enter h1)
theorem RkP.first : RkP s (firstS br W t s) := by
  unfold firstS
  cases fMth br W (zL s) (lCa (zN s t)).1 (lCa (zN s t)).2.1 52 (fun _ => false) with
  | mk y L =>
    have h0 : RkP s (yL s L) := RkP.eq rfl
    cases y with
    | inl e => exact h0.trans RkP.fail
    | inr q =>
      have hm := RkP.must (br := br) (W := W) (t := t) (s := yL s L) (k := q.1)
      dsimp only
      generalize mustS br W t (yL s L) q.1 = mr at hm
      obtain ⟨r0, e, s1⟩ := mr
      have hm : RkP (yL s L) s1 := hm
      match r0 with
      | 0 => exact (h0.trans hm).trans RkP.enter
      | 1 => exact h0.trans hm
      | 2 => exact (h0.trans hm).trans RkP.fail
      | n + 3 => exact h0.trans hm
theorem RkP.startg : RkP s (startG W t s k U) := by
  unfold startG
  split
  · exact RkP.su.trans RkP.enter
  · exact (RkP.yc.trans RkP.su).trans RkP.ev
theorem RkP.start {own : Bool} : RkP s (startS br W t s k own U) := by
  unfold startS
  split
  · split
    · exact RkP.rf
    · rename_i p _
      have hm := RkP.must (br := br) (W := W) (t := t) (s := s) (k := p)
      generalize mustS br W t s p = mr at hm
      obtain ⟨r0, e, s1⟩ := mr
      have hm : RkP s s1 := hm
      match r0 with
      | 0 => exact hm.trans RkP.startg
      | 1 => exact hm
      | 2 => exact hm.trans RkP.fail
      | n + 3 => exact hm
  · exact RkP.startg
theorem RkP.ins : RkP s (insS br W t s c j a lo st U) := by
  unfold insS
  dsimp only
  generalize gin (co (gmt (gc W c) j)) a = i
  split
  · exact RkP.wt
  generalize (if i.1 = 54 ∨ i.1 = 55 then ((.inr (0, 0), zL s) : FR) else fIns br W (zL s) c (gmt (gc W c) j) i) = fr
  obtain ⟨y, L⟩ := fr
  have h0 : RkP s (yL s L) := RkP.eq rfl
  cases y with
  | inl e => exact (h0.trans RkP.tk).trans RkP.fail
  | inr q =>
    dsimp only
    split
    · have hm := RkP.must (br := br) (W := W) (t := t) (s := yL s L) (k := q.1)
      generalize mustS br W t (yL s L) q.1 = mr at hm
      obtain ⟨r0, e, s1⟩ := mr
      have hm : RkP (yL s L) s1 := hm
      match r0 with
      | 0 => exact (h0.trans hm).trans RkP.act
      | 1 => exact (h0.trans hm)
      | 2 => exact ((h0.trans hm).trans RkP.tk).trans RkP.fail
      | n + 3 => exact (h0.trans hm)
    · exact h0.trans RkP.act
theorem RkP.adv : RkP s (advS br W t s) := by
  unfold advS
  cases gU s t with
  | nil => exact RkP.first
  | cons u U =>
    cases u with
    | inr k =>
      obtain ⟨k, own⟩ := k
      exact RkP.start
    | inl f =>
      obtain ⟨c, j, a, lo, st⟩ := f
      exact RkP.ins
end
section
variable {W : List Cls} {br : Int32} {K t : Nat} {s s1 : Ms}
theorem RkN.turn (e : turnS s = some (t, s1)) (h : RkN s) : RkN (turnA br W t s1) := by
  obtain ⟨x, ex⟩ := turnS_in e
  subst ex
  exact RkP.eq (s := advS br W t (sWt (yT s x) t none)) rfl (RkP.adv (br := br) (W := W) (t := t) (s := sWt (yT s x) t none) (RkP.wt (RkP.eq (s := s) (s' := yT s x) rfl h)))
theorem gow_rk (hW : WO W) {f n : Nat} (hG : GI W K s) (hb : zK s + n + K + 300 < 1000000) (h : RkN s) : RkN (gowS br W f n s).2 := gow_ind hW (fun s t s1 _ _ e h => RkN.turn e h) f n s hG hb h
end
