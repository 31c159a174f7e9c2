/-! SPEC: who is not on does not wait (printed by gen/wt.py) -/
section
variable {br : Int32} {W : List Cls} {s s' s2 : Ms} {t c j a k : Nat} {lo st : List Vl} {U V : List Un} {q : Nat × Nat} {i : Ins}
theorem KwR.must : ((mustS br W t s k).1 = 3 ∧ lSt (zN (mustS br W t s k).2.2 t) = lSt (zN s t)) ∨ ((mustS br W t s k).1 < 3 ∧ KwM t s (mustS br W t s k).2.2) := by
  unfold mustS
  split
  · exact Or.inr ⟨by dsimp only; decide, KwM.rf⟩
  split
  · rename_i c1
    split
    · exact Or.inr ⟨by dsimp only; decide, KwM.rf⟩
    · rename_i c2
      refine Or.inl ⟨rfl, ?_⟩
      show lSt (up1 (zN s) t (qW (zN s t) (some (.inr k))) t) = _
      rw [up1_s]
  split
  · exact Or.inr ⟨by dsimp only; decide, KwM.rf⟩
  split
  · exact Or.inr ⟨by dsimp only; decide, KwM.trans (s' := yL s (lkN br W 60 (zL s) k).2) (KwM.of rfl) KwM.begs⟩
  · exact Or.inr ⟨by dsimp only; decide, KwM.of rfl⟩
def KwR (t : Nat) (s s' : Ms) : Prop := KwM t s s' ∨ lSt (zN s' t) = lSt (zN s t)
theorem KwR.first : KwR t s (firstS br W t s) := by
  unfold firstS
  cases fMth br W (zL s) (lCa (zN s t)).1 (lCa (zN s t)).2.1 52 (fun _ => false) with
  | mk y L =>
    have h0 : KwM t s (yL s L) := KwM.of rfl
    cases y with
    | inl e => exact Or.inl (h0.trans KwM.fail)
    | inr q =>
      have hm := KwR.must (br := br) (W := W) (t := t) (s := yL s L) (k := q.1)
      dsimp only
      generalize mustS br W t (yL s L) q.1 = mr at hm
      obtain ⟨r0, e, s1⟩ := mr
      dsimp only at hm
      rcases hm with ⟨h3, hw⟩ | ⟨h3, hm⟩
      · subst h3; exact Or.inr hw
      · match r0, h3 with
        | 0, _ => exact Or.inl ((h0.trans hm).trans KwM.enter)
        | 1, _ => exact Or.inl (h0.trans hm)
        | 2, _ => exact Or.inl ((h0.trans hm).trans KwM.fail)
        | n + 3, h3 => exact absurd h3 (by omega)
theorem KwR.start {own : Bool} : KwR t s (startS br W t s k own U) := by
  unfold startS
  split
  · split
    · exact Or.inl KwM.rf
    · rename_i p _
      have hm := KwR.must (br := br) (W := W) (t := t) (s := s) (k := p)
      generalize mustS br W t s p = mr at hm
      obtain ⟨r0, e, s1⟩ := mr
      dsimp only at hm
      rcases hm with ⟨h3, hw⟩ | ⟨h3, hm⟩
      · subst h3; exact Or.inr hw
      · match r0, h3 with
        | 0, _ => exact Or.inl (hm.trans KwM.startg)
        | 1, _ => exact Or.inl hm
        | 2, _ => exact Or.inl (hm.trans KwM.fail)
        | n + 3, h3 => exact absurd h3 (by omega)
  · exact Or.inl KwM.startg
theorem KwR.ins : KwR t s (insS br W t s c j a lo st U) := by
  unfold insS
  dsimp only
  generalize gin (co (gmt (gc W c) j)) a = i
  split
  · rename_i c1
    refine Or.inr ?_
    show lSt (up1 (zN s) t (qW (zN s t) (some (.inl (tv st 0).1))) t) = _
    rw [up1_s]
  generalize (if i.1 = 54 ∨ i.1 = 55 then ((.inr (0, 0), zL s) : FR) else fIns br W (zL s) c (gmt (gc W c) j) i) = fr
  obtain ⟨y, L⟩ := fr
  have h0 : KwM t s (yL s L) := KwM.of rfl
  cases y with
  | inl e => exact Or.inl ((h0.trans KwM.tk).trans KwM.fail)
  | inr q =>
    dsimp only
    split
    · have hm := KwR.must (br := br) (W := W) (t := t) (s := yL s L) (k := q.1)
      generalize mustS br W t (yL s L) q.1 = mr at hm
      obtain ⟨r0, e, s1⟩ := mr
      dsimp only at hm
      rcases hm with ⟨h3, hw⟩ | ⟨h3, hm⟩
      · subst h3; exact Or.inr hw
      · match r0, h3 with
        | 0, _ => exact Or.inl (((h0.trans hm).trans KwM.tk).trans KwM.act)
        | 1, _ => exact Or.inl (h0.trans hm)
        | 2, _ => exact Or.inl (((h0.trans hm).trans KwM.tk).trans KwM.fail)
        | n + 3, h3 => exact absurd h3 (by omega)
    · exact Or.inl ((h0.trans KwM.tk).trans KwM.act)
theorem KwR.adv : KwR t s (advS br W t s) := by
  unfold advS
  cases gU s t with
  | nil => exact KwR.first
  | cons u U =>
    cases u with
    | inr k =>
      obtain ⟨k, own⟩ := k
      exact KwR.start
    | inl f =>
      obtain ⟨c, j, a, lo, st⟩ := f
      exact KwR.ins
end
/-- who is not on does not wait -/
def NWt (s : Ms) : Prop := ∀ t, t < 3 → lSt (zN s t) ≠ 1 → lWt (zN s t) = none
section
variable {W : List Cls} {br : Int32} {K t : Nat} {s s1 : Ms}
theorem NWt.turn (hG : GI W K s) (e : turnS s = some (t, s1)) (h : NWt s) : NWt (turnA br W t s1) := by
  obtain ⟨⟨ht, hon, hw0⟩, -⟩ := hG.beg e
  obtain ⟨x, ex⟩ := turnS_in e
  subst ex
  have hkq := Kq.adv (br := br) (W := W) (t := t) (s := sWt (yT s x) t none)
  have hkr := KwR.adv (br := br) (W := W) (t := t) (s := sWt (yT s x) t none)
  intro t' ht' hp
  by_cases et : t' = t
  · subst et
    rcases hkr with z | z
    · exact Eq.trans z hw0
    · exact absurd (Eq.trans z hon) hp
  · have eN : zN (turnA br W t (yT s x)) t' = zN s t' := (hkq.2.1 t' et).trans (up1_o et)
    rw [eN] at hp ⊢
    exact h t' ht' hp
theorem gow_nw (hW : WO W) : ∀ f n s, GI W K s → zK s + n + K + 300 < 1000000 → NWt s → NWt (gowS br W f n s).2
  | 0, n, s, _, _, h1 => h1
  | f + 1, 0, s, _, _, h1 => h1
  | f + 1, n + 1, s, hG, hb, h1 => by
    cases e : turnS s with
    | none =>
      have eg : gowS br W (f + 1) (n + 1) s = (false, s) := by
        show (match turnS s with | none => (false, s) | some (t, s1) => _) = _
        rw [e]
      rw [eg]; exact h1
    | some p =>
      obtain ⟨t, s1⟩ := p
      have eg : gowS br W (f + 1) (n + 1) s = gowS br W f (if zK s1 < zK (turnA br W t s1) then n else n + 1) (turnA br W t s1) := by
        show (match turnS s with | none => (false, s) | some (t, s1) => _) = _
        rw [e]
      rw [eg]
      obtain ⟨hok, hG2, hstep⟩ := turn_ok (br := br) hW hG (by omega) e
      have a1 := NWt.turn (br := br) hG e h1
      obtain ⟨x, ex⟩ := turnS_in e
      subst ex
      refine gow_nw hW f _ _ hG2 ?_ a1
      by_cases cs : zK (yT s x) < zK (turnA br W t (yT s x))
      · rw [if_pos cs]
        rcases hstep with z | z <;> omega
      · rw [if_neg cs]
        rcases hstep with z | z
        · omega
        · exact absurd (show zK s < zK (turnA br W t (yT s x)) by omega) cs
theorem NWt.of {s' : Ms} (h : NWt s) (e : zN s' = zN s) : NWt s' := fun t ht hp => by rw [e] at hp ⊢; exact h t ht hp
end
