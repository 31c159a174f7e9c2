/-! a thread that is there stays there (printed by gen/on.py from j15) -/
def OnN (s : Ms) : Prop := (zN s 0).1 = true
def OnP (s s' : Ms) : Prop := OnN s → OnN s'
section
variable {br : Int32} {W : List Cls} {s s' s2 : Ms} {t c j a k : Nat} {lo st : List Vl} {U V : List Un} {q : Nat × Nat} {i : Ins}
theorem OnP.of (e : ∀ t, (zN s' t).1 = (zN s t).1) : OnP s s' := fun h => (e 0).trans h
theorem OnP.rf : OnP s s := id
theorem OnP.trans (h : OnP s s') (h2 : OnP s' s2) : OnP s s2 := fun z => h2 (h z)
theorem OnP.eq (e2 : zN s' = zN s) : OnP s s' := OnP.of (fun t => by rw [e2])
theorem OnP.ev {w' k' : Nat} {m : Option Nat} : OnP s (evS s t w' k' m) := OnP.eq ev_N
theorem OnP.su : OnP s (sU s t V) := OnP.of (fun t' => by
  show (up1 (zN s) t (qU (zN s t) V) t').1 = (zN s t').1
  by_cases e : t' = t
  · rw [e, up1_s]
  · rw [up1_o e])
theorem OnP.wt {x : Option (Int32 ⊕ Nat)} : OnP s (sWt s t x) := OnP.of (fun t' => by
  show (up1 (zN s) t (qW (zN s t) x) t').1 = (zN s t').1
  by_cases e : t' = t
  · rw [e, up1_s]
  · rw [up1_o e])
theorem OnP.dn {x : Nat} {r : Int32 × Int32 × Int32 × Int32} : OnP s (yN s (up1 (zN s) t (qR (zN s t) x r))) := OnP.of (fun t' => by
  show (up1 (zN s) t (qR (zN s t) x r) t').1 = (zN s t').1
  by_cases e : t' = t
  · rw [e, up1_s]
  · rw [up1_o e])
theorem OnP.yc {f : Nat → Int32} : OnP s (yC s f) := OnP.eq rfl
theorem OnP.ft {f : Nat} {ru : Int32} : OnP s (addFt s f ru) := OnP.eq rfl
theorem OnP.unwd : ∀ (U : List Un) (r : Int32) (s : Ms), OnP s (unw W t U r s)
  | [], r, s => OnP.dn
  | .inr (k, own) :: U, r, s => by
    unfold unw
    by_cases c1 : own = true ∧ bel W (clN s r) 10 = false
    · rw [if_pos c1]; exact ((OnP.yc.trans OnP.ev).trans OnP.ft).trans (OnP.unwd U _ _)
    · rw [if_neg c1]; exact (OnP.yc.trans OnP.ev).trans (OnP.unwd U _ _)
  | .inl (c, j, a, lo, st) :: U, r, s => by
    unfold unw
    cases ec : catH W a (clN s r) (hs (gmt (gc W c) j)) with
    | none => exact OnP.ev.trans (OnP.unwd U _ _)
    | some g => exact OnP.su.trans OnP.ev
theorem OnP.fail {f : Nat} {ru : Int32} : OnP s (failS W t s f ru) := OnP.ft.trans (OnP.unwd _ _ _)
theorem OnP.enter {c' j' : Nat} {args : List Vl} : OnP s (enterS W t s V c' j' args) := by
  unfold enterS
  split
  · exact OnP.fail
  · exact OnP.su.trans OnP.ev
theorem OnP.begs : OnP s (begS W t s k) := by
  unfold begS
  exact (OnP.trans (s' := evS (yB (yO (yC s (up1 (zC s) k 1)) (up1 (zO s) k (Int32.ofNat t))) (zB s ++ [k])) t 4 k none) (OnP.trans (s' := yB (yO (yC s (up1 (zC s) k 1)) (up1 (zO s) k (Int32.ofNat t))) (zB s ++ [k])) (OnP.eq rfl) OnP.ev) (OnP.eq rfl)).trans OnP.su
theorem OnP.must : OnP s (mustS br W t s k).2.2 := by
  unfold mustS
  split
  · exact OnP.rf
  split
  · split
    · exact OnP.rf
    · exact OnP.wt
  split
  · exact OnP.rf
  split
  · exact OnP.trans (s' := yL s (lkN br W 60 (zL s) k).2) (OnP.eq rfl) OnP.begs
  · exact OnP.eq rfl
theorem OnP.leave {o : Nat} {v : Int32} : OnP s (leaveS s t c j o v U) := by
  cases U with
  | nil =>
    exact OnP.ev.trans OnP.dn
  | cons u U' =>
    cases u with
    | inr k =>
      obtain ⟨k, own⟩ := k
      exact ((OnP.ev.trans OnP.yc).trans OnP.su).trans OnP.ev
    | inl f =>
      obtain ⟨c', j', a', lo', st'⟩ := f
      exact OnP.ev.trans OnP.su
theorem OnP.tk {op : Nat} : OnP s (tickS s t op) := OnP.of (fun t' => by
  show (up1 (zN s) t (qS (zN s t)) t').1 = (zN s t').1
  by_cases e : t' = t
  · rw [e, up1_s]
  · rw [up1_o e])
theorem OnP.act {op : Nat} : OnP s (doS W t (tickS s t op) c j a lo st U i q) := fun h => by
  have h1 : OnN (tickS s t op) := OnP.tk h
  exact doS_ind2 (s := tickS s t op) (P := OnN) (R := OnN) h1 (fun cl n ks => OnP.eq (s := tickS s t op) rfl h1) (fun X => OnP.eq (s := tickS s t op) rfl h1) (fun m v => OnP.eq (s := tickS s t op) rfl h1) (fun y => OnP.eq lock_EN.2 h1) (fun y hy => OnP.eq lock_EN.2 h1) (fun s' f h' => OnP.su h') (fun f ru => OnP.fail h1) (fun r => OnP.unwd _ _ _ h1) (fun o v => OnP.leave h1) (fun V c' j' args => OnP.enter h1)
theorem OnP.first : OnP s (firstS br W t s) := by
  unfold firstS
  cases fMth br W (zL s) (lCa (zN s t)).1 (lCa (zN s t)).2.1 52 (fun _ => false) with
  | mk y L =>
    have h0 : OnP s (yL s L) := OnP.eq rfl
    cases y with
    | inl e => exact h0.trans OnP.fail
    | inr q =>
      have hm := OnP.must (br := br) (W := W) (t := t) (s := yL s L) (k := q.1)
      dsimp only
      generalize mustS br W t (yL s L) q.1 = mr at hm
      obtain ⟨r0, e, s1⟩ := mr
      have hm : OnP (yL s L) s1 := hm
      match r0 with
      | 0 => exact (h0.trans hm).trans OnP.enter
      | 1 => exact h0.trans hm
      | 2 => exact (h0.trans hm).trans OnP.fail
      | n + 3 => exact h0.trans hm
theorem OnP.startg : OnP s (startG W t s k U) := by
  unfold startG
  split
  · exact OnP.su.trans OnP.enter
  · exact (OnP.yc.trans OnP.su).trans OnP.ev
theorem OnP.start {own : Bool} : OnP s (startS br W t s k own U) := by
  unfold startS
  split
  · split
    · exact OnP.rf
    · rename_i p _
      have hm := OnP.must (br := br) (W := W) (t := t) (s := s) (k := p)
      generalize mustS br W t s p = mr at hm
      obtain ⟨r0, e, s1⟩ := mr
      have hm : OnP s s1 := hm
      match r0 with
      | 0 => exact hm.trans OnP.startg
      | 1 => exact hm
      | 2 => exact hm.trans OnP.fail
      | n + 3 => exact hm
  · exact OnP.startg
theorem OnP.ins : OnP s (insS br W t s c j a lo st U) := by
  unfold insS
  dsimp only
  generalize gin (co (gmt (gc W c) j)) a = i
  split
  · exact OnP.wt
  generalize (if i.1 = 54 ∨ i.1 = 55 then ((.inr (0, 0), zL s) : FR) else fIns br W (zL s) c (gmt (gc W c) j) i) = fr
  obtain ⟨y, L⟩ := fr
  have h0 : OnP s (yL s L) := OnP.eq rfl
  cases y with
  | inl e => exact (h0.trans OnP.tk).trans OnP.fail
  | inr q =>
    dsimp only
    split
    · have hm := OnP.must (br := br) (W := W) (t := t) (s := yL s L) (k := q.1)
      generalize mustS br W t (yL s L) q.1 = mr at hm
      obtain ⟨r0, e, s1⟩ := mr
      have hm : OnP (yL s L) s1 := hm
      match r0 with
      | 0 => exact (h0.trans hm).trans OnP.act
      | 1 => exact (h0.trans hm)
      | 2 => exact ((h0.trans hm).trans OnP.tk).trans OnP.fail
      | n + 3 => exact (h0.trans hm)
    · exact h0.trans OnP.act
theorem OnP.adv : OnP s (advS br W t s) := by
  unfold advS
  cases gU s t with
  | nil => exact OnP.first
  | cons u U =>
    cases u with
    | inr k =>
      obtain ⟨k, own⟩ := k
      exact OnP.start
    | inl f =>
      obtain ⟨c, j, a, lo, st⟩ := f
      exact OnP.ins
end
section
variable {W : List Cls} {br : Int32} {K t : Nat} {s s1 : Ms}
theorem OnN.turn (e : turnS s = some (t, s1)) (h : OnN s) : OnN (turnA br W t s1) := by
  obtain ⟨x, ex⟩ := turnS_in e
  subst ex
  exact OnP.eq (s := advS br W t (sWt (yT s x) t none)) rfl (OnP.adv (br := br) (W := W) (t := t) (s := sWt (yT s x) t none) (OnP.wt (OnP.eq (s := s) (s' := yT s x) rfl h)))
theorem gow_on (hW : WO W) {f n : Nat} (hG : GI W K s) (hb : zK s + n + K + 300 < 1000000) (h : OnN s) : OnN (gowS br W f n s).2 := gow_ind hW (fun s t s1 _ _ e h => OnN.turn e h) f n s hG hb h
end
