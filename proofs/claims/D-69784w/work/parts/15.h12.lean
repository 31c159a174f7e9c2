/-! THE MACHINE: the lowest unit of a thread -/
section
variable {br : Int32} {W : List Cls} {s s' : Ms} {t c j a k : Nat} {lo st : List Vl} {U V : List Un} {q : Nat × Nat} {i : Ins}
theorem botF_cons {u v : Un} : botF (u :: v :: U) = botF (v :: U) := by
  cases u <;> cases v <;> rfl
theorem botF_inl {f g : Fm} : botF (.inl f :: U) = botF (.inl g :: U) := by cases U <;> rfl
theorem botF_inr {k : Nat × Bool} : botF (.inr k :: U) = botF U := by
  cases U with
  | nil => rfl
  | cons v V => exact botF_cons
theorem unw_bot : ∀ (U : List Un) (r : Int32) (s : Ms), lSt (zN (unw W t U r s) t) = 1 → U ≠ [] ∧ botF (gU (unw W t U r s) t) = botF U
  | [], r, s, h => by
    have e : zN (unw W t [] r s) t = qR (zN s t) 2 (0, 0, Int32.ofNat (clN s r), ruR s r) := up1_s
    rw [e] at h; exact absurd (show 2 = 1 from h) (by omega)
  | .inr (k, own) :: U, r, s, h => by
    refine ⟨by simp, ?_⟩
    rw [botF_inr]
    unfold unw at h ⊢
    by_cases c1 : own = true ∧ bel W (clN s r) 10 = false
    · rw [if_pos c1] at h ⊢; exact (unw_bot U _ _ h).2
    · rw [if_neg c1] at h ⊢; exact (unw_bot U _ _ h).2
  | .inl (c, j, a, lo, st) :: U, r, s, h => by
    refine ⟨by simp, ?_⟩
    unfold unw at h ⊢
    cases ec : catH W a (clN s r) (hs (gmt (gc W c) j)) with
    | none =>
      rw [ec] at h
      obtain ⟨h1, h2⟩ := unw_bot U _ _ h
      refine h2.trans ?_
      cases U with
      | nil => exact absurd rfl h1
      | cons v V => exact botF_cons.symm
    | some g =>
      dsimp only
      have eg : gU (evS (sU s t (.inl (c, j, g, lo, [(r, true)]) :: U)) t 7 c (some j)) t = .inl (c, j, g, lo, [(r, true)]) :: U := by
        show lU (zN (evS _ _ _ _ _) t) = _
        rw [evS_r.2.2.2.2.2.2.2.1]; exact gU_sU
      rw [eg]; exact botF_inl
theorem fail_bot {f : Nat} {ru : Int32} (h : lSt (zN (failS W t s f ru) t) = 1) : botF (gU (failS W t s f ru) t) = botF (gU s t) := (unw_bot _ _ _ h).2
theorem ev_U {w' k' : Nat} {m : Option Nat} : gU (evS s t w' k' m) t = gU s t := by
  show lU (zN (evS _ _ _ _ _) t) = _
  rw [evS_r.2.2.2.2.2.2.2.1]
theorem enter_bot {c' j' : Nat} {args : List Vl} (hV : botF (.inl (c', j', 0, args ++ List.replicate (20 - args.length) (0, false), []) :: V) = botF (gU s t)) (h : lSt (zN (enterS W t s V c' j' args) t) = 1) : botF (gU (enterS W t s V c' j' args) t) = botF (gU s t) := by
  unfold enterS at h ⊢
  by_cases c1 : frs (gU s t) = 40
  · rw [if_pos c1] at h ⊢; exact fail_bot h
  · rw [if_neg c1, ev_U, gU_sU]; exact hV
theorem leave_bot {op : Nat} {v : Int32} {f : Fm} (h : lSt (zN (leaveS s t c j op v U) t) = 1) : botF (gU (leaveS s t c j op v U) t) = botF (.inl f :: U) := by
  cases U with
  | nil =>
    have e : ∀ r, zN (yN (evS s t 2 c (some j)) (up1 (zN (evS s t 2 c (some j))) t (qR (zN (evS s t 2 c (some j)) t) 0 r))) t = qR (zN (evS s t 2 c (some j)) t) 0 r := fun r => up1_s
    have h : lSt (zN (yN (evS s t 2 c (some j)) (up1 (zN (evS s t 2 c (some j))) t (qR (zN (evS s t 2 c (some j)) t) 0 _))) t) = 1 := h
    rw [e] at h; exact absurd (show 0 = 1 from h) (by omega)
  | cons u U' =>
    cases u with
    | inr k =>
      obtain ⟨k, own⟩ := k
      show botF (gU (evS (sU (yC (evS s t 2 c (some j)) (up1 (zC s) k 2)) t U') t 5 k none) t) = _
      rw [ev_U, gU_sU, botF_cons, botF_inr]
    | inl f' =>
      obtain ⟨c', j', a', lo', st'⟩ := f'
      show botF (gU (sU (evS s t 2 c (some j)) t (.inl (c', j', a' + 1, lo', st' ++ _) :: U')) t) = _
      rw [gU_sU, botF_cons]; exact botF_inl
theorem act_bot (hg : gU s t = .inl (c, j, a, lo, st) :: U) (h : lSt (zN (doS W t s c j a lo st U i q) t) = 1) : botF (gU (doS W t s c j a lo st U i q) t) = botF (gU s t) := by
  refine doS_ind (W := W) (t := t) (s := s) (c := c) (j := j) (a := a) (lo := lo) (st := st) (U := U) (i := i) (q := q) (P := fun s' => lSt (zN s' t) = 1 → botF (gU s' t) = botF (gU s t)) (fun s' f hq _ => ?_) (fun f ru h => fail_bot h) (fun r h => (unw_bot _ _ _ h).2) (fun o v h => ?_) (fun V c' j' args h => enter_bot ?_ h) h
  · rw [gU_sU, hg]; exact botF_inl
  · rw [hg]; exact leave_bot h
  · rw [botF_cons, hg]; exact botF_inl
theorem must_bot (hg : True) : botF (gU (mustS br W t s k).2.2 t) = botF (gU s t) := by
  have hb : ∀ x : Ms, gU x t = gU s t → botF (gU (begS W t x k) t) = botF (gU s t) := fun x hx => by
    have : gU (begS W t x k) t = .inr (k, false) :: gU x t := gU_sU
    rw [this, botF_inr, hx]
  unfold mustS
  split
  · rfl
  split
  · split
    · rfl
    · show botF (lU (zN (sWt s t (some (.inr k))) t)) = _
      rw [show zN (sWt s t (some (.inr k))) t = qW (zN s t) (some (.inr k)) from up1_s]
  split
  · rfl
  split
  · exact hb (yL s (lkN br W 60 (zL s) k).2) rfl
  · rfl
theorem startg_bot {own : Bool} (hg : gU s t = .inr (k, own) :: U) (h : lSt (zN (startG W t s k U) t) = 1) : botF (gU (startG W t s k U) t) = botF (gU s t) := by
  unfold startG at h ⊢
  split
  · rename_i m em
    rw [em] at h
    have e1 : botF (gU (sU s t (.inr (k, true) :: U)) t) = botF (gU s t) := by rw [gU_sU, hg, botF_inr, botF_inr]
    rw [← e1]
    exact enter_bot (by rw [botF_cons, gU_sU]) h
  · rw [ev_U, gU_sU, hg, botF_inr]
end
