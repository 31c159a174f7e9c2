/-! a text's lines lengthen a world: what was there stays -/
section
variable {W W' W0 : List Cls} {br : Int32} {n c : Nat}
theorem set_pre {i : Nat} {x : Cls} (h : W0 <+: W) (hi : W0.length ≤ i) : W0 <+: W.set i x := by
  obtain ⟨R, e⟩ := h
  subst e
  rw [List.set_append, if_neg (by omega)]
  exact List.prefix_append ..
theorem snoc_pre {x : Cls} (h : W0 <+: W) : W0 <+: W ++ [x] := h.trans (List.prefix_append ..)
def preS (W0 : List Cls) (st : PSt) : Prop := W0 <+: st.2.1 ∧ (1 ≤ st.1 → W0.length < st.2.1.length)
theorem bLine_pre {l : List Tok} {st : PSt} (h : W0 <+: W) (hl : W0.length < W.length) (hb : bLine br W l = .inr st) : preS W0 st := by
  unfold bLine at hb
  split at hb
  · split at hb
    · cases hb
    · split at hb
      · cases hb
        exact ⟨set_pre h (by omega), fun _ => by show W0.length < (addF W _ _).length; rw [addF_len]; exact hl⟩
      · cases hb
  split at hb
  · split at hb
    · cases hb
    · split at hb
      · split at hb
        · cases hb
          exact ⟨h, fun _ => hl⟩
        · cases hb
          exact ⟨set_pre h (by omega), fun _ => by show W0.length < (addM W _).length; rw [addM_len]; exact hl⟩
      · cases hb
  split at hb
  · split at hb
    · cases hb
      exact ⟨h, fun _ => hl⟩
    · cases hb
  · cases hb
theorem stp_pre {st st' : PSt} {l : List Tok} (h : preS W0 st) (hs : stp br st l = .inr st') : preS W0 st' := by
  obtain ⟨h1, h3⟩ := h
  unfold stp at hs
  by_cases c0 : st.1 = 0
  · rw [if_pos c0] at hs
    unfold cLine at hs
    split at hs
    · cases hs
    · split at hs
      · cases hs
        refine ⟨snoc_pre h1, fun _ => ?_⟩
        show W0.length < (st.2.1 ++ _).length
        rw [List.length_append, List.length_singleton]
        have := h1.length_le
        omega
      · cases hs
  rw [if_neg c0] at hs
  have hl := h3 (by omega)
  by_cases c1 : st.1 = 1
  · rw [if_pos c1] at hs
    exact bLine_pre h1 hl hs
  rw [if_neg c1] at hs
  by_cases c2 : st.1 = 2
  · rw [if_pos c2] at hs
    unfold rLine at hs
    split at hs
    · cases hs
    · rename_i a b _ hq
      by_cases hlt : b < Int32.ofNat (st.2.2.1.2.1.length + (if st.2.2.1.2.2.2.1 &&& 1 = 0 then 1 else 0))
      · rw [if_pos hlt] at hs; cases hs
      · rw [if_neg hlt] at hs
        cases hs
        exact ⟨h1, fun _ => hl⟩
  rw [if_neg c2] at hs
  unfold kLine at hs
  split at hs
  · split at hs
    · cases hs
    · exact bLine_pre (set_pre h1 (by omega)) (by rw [List.length_set]; exact hl) hs
  split at hs
  · split at hs
    · cases hs
    · split at hs
      · cases hs
      · cases hs
        exact ⟨h1, fun _ => hl⟩
  split at hs
  · split at hs
    · cases hs
    · split at hs
      · cases hs
      · cases hs
        exact ⟨h1, fun _ => hl⟩
  unfold iLine at hs
  split at hs
  split at hs
  · cases hs
    exact ⟨h1, fun _ => hl⟩
  · split at hs
    · cases hs
    · split at hs
      · cases hs
      · cases hs
        exact ⟨h1, fun _ => hl⟩
theorem runL_pre : ∀ {ls : List (List Tok)} {st : PSt} {W' : List Cls}, preS W0 st → runL br n st ls = .inr W' → W0 <+: W'
  | [], st, W', h, e => by
    unfold runL at e
    split at e
    · cases e; exact h.1
    · cases e
  | l :: ls, st, W', h, e => by
    unfold runL at e
    split at e
    · cases e
    · rename_i q
      exact runL_pre (stp_pre h q) e
theorem run_pre {ls : List (List Tok)} (e : runL br n (0, W, noM) ls = .inr W') : W <+: W' := runL_pre (st := (0, W, noM)) ⟨List.prefix_rfl, fun q => absurd q (by show ¬ (1 ≤ 0); omega)⟩ e
theorem gc_pre (h : W <+: W') (hc : c < W.length) : gc W' c = gc W c := by
  obtain ⟨R, e⟩ := h
  subst e
  show (W ++ R).getD c _ = W.getD c _
  rw [List.getD_eq_getElem?_getD, List.getD_eq_getElem?_getD, List.getElem?_append_left hc]
theorem BI.pre (hb : BI W) (h : W <+: W') : BI W' := ⟨Nat.le_trans hb.1 h.length_le, fun d hd => (gc_pre h (by have := hb.1; omega)).trans (hb.2 d hd)⟩
theorem moff_pre (h : W <+: W') : ∀ c, c ≤ W.length → moff W' c = moff W c
  | 0, _ => rfl
  | c + 1, hc => by
    rw [moff_succ (W := W') (by have := h.length_le; omega), moff_succ (W := W) (by omega), moff_pre h c (by omega), gc_pre h (by omega)]
theorem foff_pre (h : W <+: W') : ∀ c, c ≤ W.length → foff W' c = foff W c
  | 0, _ => rfl
  | c + 1, hc => by
    rw [foff_succ (W := W') (by have := h.length_le; omega), foff_succ (W := W) (by omega), foff_pre h c (by omega), gc_pre h (by omega)]
theorem foff_new (h : W <+: W') (hc : W.length ≤ c) (hc' : c ≤ W'.length) : (allF W).length ≤ foff W' c := by
  rw [← foff_all W, ← foff_pre h _ (Nat.le_refl _)]
  exact foff_mono hc hc'
theorem fnd_pre0 {nm : Nm} : ∀ {W R : List Cls} {p : Nat}, fnd W nm = some p → fnd (W ++ R) nm = some p
  | [], _, _, e => by cases e
  | x :: W, R, p, e => by
    unfold fnd at e
    show fnd (x :: (W ++ R)) nm = some p
    unfold fnd
    by_cases c : x.1 = nm
    · rw [if_pos c] at e ⊢; exact e
    · rw [if_neg c] at e ⊢
      cases q : fnd W nm with
      | none => rw [q] at e; cases e
      | some d => rw [q] at e; rw [fnd_pre0 q]; exact e
theorem fnd_pre {nm : Nm} {p : Nat} (h : W <+: W') (e : fnd W nm = some p) : fnd W' nm = some p := by
  obtain ⟨R, q⟩ := h
  subst q
  exact fnd_pre0 e
theorem isFc_pre (h : W <+: W') (hc : c < W.length) : isFc W' c = isFc W c := by unfold isFc; rw [gc_pre h hc]
/-- parents of what is linked -/
theorem upW_pre {L : Nat → Int32} (h : W <+: W') (hI : LInv W L) (hc : c < W.length) (h1 : L c = 1) : upW W' c = upW W c ∧ ∀ p, upW W c = some p → p < W.length ∧ L p = 1 := by
  unfold upW
  rw [isFc_pre h hc, gc_pre h hc]
  by_cases c0 : c = 0
  · rw [if_pos c0, if_pos c0]; exact ⟨rfl, fun p z => by cases z⟩
  rw [if_neg c0, if_neg c0]
  by_cases cf : isFc W c = true
  · rw [if_pos cf, if_pos cf]
    exact ⟨rfl, fun p z => by cases z; exact ⟨by omega, hI.1.2.2.2.2 0 (by omega)⟩⟩
  rw [if_neg cf, if_neg cf]
  rcases hI.2 c hc h1 with q | ⟨_, ⟨p, e, l⟩, _⟩
  · exact absurd q c0
  · rw [e]
    exact ⟨fnd_pre h e, fun p' z => by cases z; exact ⟨fnd_lt e, l⟩⟩
theorem oszN_pre {L : Nat → Int32} (h : W <+: W') (hI : LInv W L) : ∀ n c, c < W.length → L c = 1 → oszN W' n c = oszN W n c
  | 0, _, _, _ => rfl
  | n + 1, c, hc, h1 => by
    obtain ⟨e, hp⟩ := upW_pre h hI hc h1
    unfold oszN
    rw [e, gc_pre h hc]
    cases q : upW W c with
    | none => rfl
    | some p =>
      dsimp only
      rw [oszN_pre h hI n p (hp p q).1 (hp p q).2]
theorem osz_pre {L : Nat → Int32} (h : W <+: W') (hI : LInv W L) (hc : c < W.length) (h1 : L c = 1) : osz W' c = osz W c ∧ oszU W' c = oszU W c := by
  refine ⟨oszN_pre h hI _ c hc h1, ?_⟩
  obtain ⟨e, hp⟩ := upW_pre h hI hc h1
  unfold oszU
  rw [e]
  cases q : upW W c with
  | none => rfl
  | some p => exact oszN_pre h hI _ p (hp p q).1 (hp p q).2
end
