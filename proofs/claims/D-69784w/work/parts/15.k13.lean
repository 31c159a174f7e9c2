/-! SPEC: what holds of a world between operations of the law, and what keeps it -/
def SpC (W : List Cls) : Prop := WO W ∧ (NSw W ∧ PrW W ∧ NXw W) ∧ ∀ c ∈ W, c.1 ≠ []
def SpM (W : List Cls) (K : Nat) (s : Ms) : Prop := (WI W K s ∧ NWt s) ∧ SzN s ∧ WtA s ∧ LN W (zL s)
section
variable {br : Int32} {W W' : List Cls} {s s1 : Ms} {K t n f : Nat} {a b c : Int32} {L : LkS}
theorem WO.bi (h : WO W) : BI W := h.1
theorem SpM.yl (h : SpM W K s) (hm : LkM W (zL s) L) (hl : LN W L) : SpM W K (yL s L) := by
  obtain ⟨⟨⟨⟨hA, ht, hF⟩, hk, hn, he⟩, hw⟩, hz, hwt, -⟩ := h
  exact ⟨⟨⟨⟨hA.lL hm, ht, hF⟩, LkP.eq rfl rfl rfl hk, hn, he⟩, hw.of rfl⟩, SzP.eq rfl hz, hwt.of rfl, hl⟩
theorem qn_eq : zN (qntO a s).2 = zN s ∧ zH (qntO a s).2 = zH s ∧ zL (qntO a s).2 = zL s := by
  unfold qntO
  split <;> exact ⟨rfl, rfl, rfl⟩
theorem SpM.qn (h : SpM W K s) : SpM W K (qntO a s).2 := by
  obtain ⟨e1, e2, e3⟩ := qn_eq (a := a) (s := s)
  exact ⟨⟨h.1.1.qn, h.1.2.of e1⟩, SzP.eq e2 h.2.1, h.2.2.1.of e1, by rw [e3]; exact h.2.2.2⟩
theorem SpM.ln (hW : WO W) (h : SpM W K s) : SpM W K (lnkO br W c s).2 := by
  unfold lnkO
  by_cases c1 : c < 0 ∨ Int32.ofNat W.length ≤ c
  · rw [if_pos c1]; exact h
  · rw [if_neg c1]
    have hi := idx_lt (n := W.length) (by have := hW.2.2.2; omega) (fun z => c1 (Or.inl z)) (fun z => c1 (Or.inr z))
    exact h.yl (lkN_M hW.2.2.2 h.1.1.1.1.1.1.1 hi) (lkN_ln hi h.2.2.2)
theorem SpM.hl (h : SpM W K s) : SpM W K (hltS s) := ⟨⟨h.1.1.hl, fun t _ _ => rfl⟩, SzP.of (s := s) (s' := hltS s) rfl (fun _ => rfl) rfl h.2.1, (fun t _ r hr => by
  have hr : (none : Option (Int32 ⊕ Nat)) = some (.inl r) := hr
  cases hr), h.2.2.2⟩
theorem SpM.co (hB : BI W) (h : SpM W K s) : SpM W K (colS W s) := ⟨⟨h.1.1.co hB h.2.1 h.2.2.1, h.1.2.of rfl⟩, SzN.co, h.2.2.1.of rfl, h.2.2.2⟩
theorem WI.turn (hW : WO W) (h : GI W K s ∧ LkN s) (hb : zK s + K + 300 < 1000000) (e : turnS s = some (t, s1)) : GI W K (turnA br W t s1) ∧ LkN (turnA br W t s1) := by
  have hk1 : zK s1 = zK s := (h.1.beg e).2.2.1.2.2
  obtain ⟨x, ex⟩ := turnS_in e
  have h1 : LkN (sWt s1 t none) := by rw [ex]; exact LkP.eq rfl rfl rfl h.2
  refine ⟨(turn_ok hW h.1 hb e).2.1, LkP.eq (s := advS br W t (sWt s1 t none)) rfl rfl rfl (LkP.adv (br := br) (W := W) (t := t) (s := sWt s1 t none) (by show zK s1 < _; omega) h1)⟩
theorem SpM.gow (hW : WO W) (h12 : W12 W) (h : SpM W K s) (hb : zK s + n + K + 300 < 1000000) : SpM W K (gowS br W f n s).2 := by
  obtain ⟨⟨⟨hG, hk, hn, he⟩, hw⟩, hz, hwt, hl⟩ := h
  have g := gow_ind (br := br) (P := fun s => GI W K s ∧ LkN s) hW (fun s t s1 _ b e h => WI.turn hW h b e) f n s hG hb ⟨hG, hk⟩
  obtain ⟨e1, e2⟩ := gow_inv (br := br) hW h12 f n s hG hb he hn
  exact ⟨⟨⟨g.1, g.2, e2, e1⟩, gow_nw hW f n s hG hb hw⟩, gow_sz hW hG hb hz, gow_wt hW hG hb hwt, gow_ind (P := fun s => LN W (zL s)) hW (fun s t s1 g _ e h => LgP.turn g.1.1.1.1.2.1 hW.2.2.2 e h) f n s hG hb hl⟩
theorem SpM.st {lf : Nat} (hW : WO W) (h12 : W12 W) (h : SpM W K s) (hb : zK s + 4000 + K + 300 < 1000000) : SpM W K (stepO br W lf a s).2 := by
  unfold stepO
  by_cases c1 : a < 1 ∨ 4000 < a
  · rw [if_pos c1]; exact h
  rw [if_neg c1]
  by_cases c2 : ¬ thereS s
  · rw [if_pos c2]; exact h
  rw [if_neg c2]
  by_cases c3 : ¬ anyOn s
  · rw [if_pos c3]; exact h
  rw [if_neg c3]
  by_cases c4 : a.toNatClampNeg ≤ lf
  · rw [if_pos c4]
    obtain ⟨m, -, m4, -, em⟩ := i4000 (fun z => c1 (Or.inl z)) (fun z => c1 (Or.inr z))
    exact h.gow hW h12 (by rw [em]; omega)
  · rw [if_neg c4]; exact h
end
/-! a call, and a call that is refused -/
section
variable {W : List Cls} {K t : Nat} {s : Ms} {x : Nm × Nm × Kd × List Int32} {y : Int32}
theorem WI.cr (h : WI W K s) (ht : t < 3) (hoff : lSt (zN s t) ≠ 1) : WI W (K + 1) (yN s (up1 (zN s) t (clrL (zN s t)))) := by
  obtain ⟨⟨⟨⟨g1, g2, g3⟩, hX, hO, hS⟩, ⟨t1, t2, t3⟩, hF⟩, hk, hn, he⟩ := h
  have nt : zN (yN s (up1 (zN s) t (clrL (zN s t)))) t = clrL (zN s t) := up1_s
  have no : ∀ t', t' ≠ t → zN (yN s (up1 (zN s) t (clrL (zN s t)))) t' = zN s t' := fun t' e => up1_o e
  have sl : sle s (yN s (up1 (zN s) t (clrL (zN s t)))) := sle_of rfl rfl
  refine ⟨⟨⟨⟨g1.same rfl rfl rfl rfl rfl rfl, g2, g3⟩, fun t' h' => ?_, fun t' h' => ?_, fun k hk' => ?_⟩, ⟨t1, t2, t3⟩, ?_⟩, hk, fun t' h' e => ?_, he⟩
  · by_cases e : t' = t
    · subst e
      unfold LX
      rw [nt]
      exact ⟨fun z => absurd z (by show ¬ (0 : Nat) = 1; decide), ⟨by show (0 : Nat) ≤ 2; omega, Nat.zero_le _⟩, fun y hy => (by cases hy)⟩
    · exact (hX t' h').mv (no t' e) sl (Nat.le_refl _)
  · by_cases e : t' = t
    · subst e
      have eg : gU (yN s (up1 (zN s) t' (clrL (zN s t')))) t' = [] := by
        show lU (zN (yN s (up1 (zN s) t' (clrL (zN s t')))) t') = []
        rw [nt]
      rw [eg]
      exact ⟨⟨trivial, List.Pairwise.nil, by show (0 : Nat) ≤ 40; omega⟩, fun _ => rfl⟩
    · have eg : gU (yN s (up1 (zN s) t (clrL (zN s t)))) t' = gU s t' := by
        show lU (zN (yN s (up1 (zN s) t (clrL (zN s t)))) t') = lU (zN s t')
        rw [no t' e]
      rw [eg, no t' e]
      exact ⟨(hO t' h').1.mv sl (fun _ z => z) (fun _ _ => ⟨rfl, rfl⟩), (hO t' h').2⟩
  · obtain ⟨t0, h0, hm⟩ := hS k hk'
    by_cases e : t0 = t
    · subst e
      rw [(hO t0 h0).2 hoff] at hm
      exact absurd hm (by show k ∉ sts []; unfold sts; simp)
    · refine ⟨t0, h0, ?_⟩
      have eg : gU (yN s (up1 (zN s) t (clrL (zN s t)))) t0 = gU s t0 := by
        show lU (zN (yN s (up1 (zN s) t (clrL (zN s t)))) t0) = lU (zN s t0)
        rw [no t0 e]
      rw [eg]; exact hm
  · have h1 : rnT (yN s (up1 (zN s) t (clrL (zN s t)))) ≤ rnT s + 1 := by
      have := cntN_1 (p := fun t' => decide (lSt (zN (yN s (up1 (zN s) t (clrL (zN s t)))) t') = 1)) (q := fun t' => decide (lSt (zN s t') = 1)) (t := t) (fun k hk z => by rw [← no k hk]; exact z) 3
      rw [if_pos ht] at this
      exact this
    show (zF s).length + rnT (yN s (up1 (zN s) t (clrL (zN s t)))) ≤ zK s + (K + 1) + 2 * nC3 (zC s)
    omega
  · by_cases e' : t' = t
    · subst e'
      have eg : gU (yN s (up1 (zN s) t' (clrL (zN s t')))) t' = [] := by
        show lU (zN (yN s (up1 (zN s) t' (clrL (zN s t')))) t') = []
        rw [nt]
      rw [eg, nt]; exact ⟨⟨rfl, rfl⟩, rfl, rfl⟩
    · rw [no t' e'] at e
      obtain ⟨a, b, c⟩ := hn t' h' e
      have eg : gU (yN s (up1 (zN s) t (clrL (zN s t)))) t' = gU s t' := by
        show lU (zN (yN s (up1 (zN s) t (clrL (zN s t)))) t') = lU (zN s t')
        rw [no t' e']
      rw [eg, no t' e']; exact ⟨a, b, c⟩
theorem NWt.cr (h : NWt s) : NWt (yN s (up1 (zN s) t (clrL (zN s t)))) := fun t' h' z => by
  by_cases e : t' = t
  · subst e
    rw [show zN (yN s (up1 (zN s) t' (clrL (zN s t')))) t' = clrL (zN s t') from up1_s]
  · rw [show zN (yN s (up1 (zN s) t (clrL (zN s t)))) t' = zN s t' from up1_o e] at z ⊢
    exact h t' h' z
theorem TI2.cr (h : TI2 y s) (hn : NWt s) (ht : t < 3) (hoff : lSt (zN s t) ≠ 1) : TI2 y (yN s (up1 (zN s) t (clrL (zN s t)))) := by
  obtain ⟨h1, h2, h3⟩ := h
  refine ⟨h1, fun z => ?_, fun z => ?_⟩
  · by_cases e : (zT s).1 = t
    · exact h2 (by rw [e]; exact hn t ht hoff)
    · have eq : zN (yN s (up1 (zN s) t (clrL (zN s t)))) (zT s).1 = zN s (zT s).1 := up1_o e
      have z : lWt (zN (yN s (up1 (zN s) t (clrL (zN s t)))) (zT s).1) = none := z
      rw [eq] at z; exact h2 z
  · have z : lWt (zN (yN s (up1 (zN s) t (clrL (zN s t)))) (zT s).1) ≠ none := z
    by_cases e : (zT s).1 = t
    · rw [e, show zN (yN s (up1 (zN s) t (clrL (zN s t)))) t = clrL (zN s t) from up1_s] at z
      exact absurd rfl z
    · rw [show zN (yN s (up1 (zN s) t (clrL (zN s t)))) (zT s).1 = zN s (zT s).1 from up1_o e] at z
      exact h3 z
theorem WtA.up {l : Ln} (h : WtA s) (hl : lWt l = none) : WtA (yN s (up1 (zN s) t l)) := fun t' h' r hr => by
  by_cases e : t' = t
  · subst e
    rw [show zN (yN s (up1 (zN s) t' l)) t' = l from up1_s, hl] at hr
    cases hr
  · rw [show zN (yN s (up1 (zN s) t l)) t' = zN s t' from up1_o e] at hr
    have := h t' h' r hr
    rw [show gU (yN s (up1 (zN s) t l)) t' = gU s t' from by
      show lU (zN (yN s (up1 (zN s) t l)) t') = lU (zN s t')
      rw [show zN (yN s (up1 (zN s) t l)) t' = zN s t' from up1_o e]]
    exact this
theorem SpM.cl (h : SpM W K s) (ht : t < 3) (hoff : lSt (zN s t) ≠ 1) (hc : caO (lCa (newL x (cvl x)))) : SpM W (K + 1) (yN s (up1 (zN s) t (newL x (cvl x)))) := ⟨⟨h.1.1.cl ht hoff hc, h.1.2.cl⟩, SzP.eq rfl h.2.1, h.2.2.1.up rfl, h.2.2.2⟩
theorem SpM.cr (h : SpM W K s) (ht : t < 3) (hoff : lSt (zN s t) ≠ 1) : SpM W (K + 1) (yN s (up1 (zN s) t (clrL (zN s t)))) := ⟨⟨h.1.1.cr ht hoff, h.1.2.cr⟩, SzP.eq rfl h.2.1, h.2.2.1.up rfl, h.2.2.2⟩
end
