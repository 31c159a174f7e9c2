/-! SPEC: a call -/
theorem cntN_1 {p q : Nat → Bool} {t : Nat} (h : ∀ k, k ≠ t → p k = true → q k = true) : ∀ n, cntN p n ≤ cntN q n + (if t < n then 1 else 0)
  | 0 => by rw [if_neg (by omega)]; exact Nat.le_refl _
  | n + 1 => by
    have ih := cntN_1 h n
    unfold cntN
    by_cases e : n = t
    · subst e
      rw [if_neg (Nat.lt_irrefl n)] at ih
      rw [if_pos (Nat.lt_succ_self n)]
      split <;> split <;> omega
    · have hn := h n e
      have hlt : (t < n + 1) ↔ (t < n) := by omega
      have hif : (if t < n + 1 then 1 else 0) = (if t < n then 1 else 0) := by
        by_cases c : t < n
        · rw [if_pos c, if_pos (hlt.2 c)]
        · rw [if_neg c, if_neg (fun z => c (hlt.1 z))]
      rw [hif]
      cases hp : p n with
      | false =>
        rw [if_neg (by decide)]
        split <;> omega
      | true =>
        rw [hn hp, if_pos rfl]; omega
section
variable {W : List Cls} {K t : Nat} {s : Ms} {x : Nm × Nm × Kd × List Int32} {y : Int32}
theorem caO.of (hl : x.2.2.2.length ≤ 6) (hk : kdOk x.2.2.1) (h1 : x.2.1 ≠ nMake) (h2 : x.2.1 ≠ nStart) : caO (lCa (newL x (cvl x))) := by
  refine ⟨⟨?_, fun κ hκ => List.eq_of_mem_replicate hκ⟩, hk, ?_, h1, h2⟩
  · show (kNs x.2.2.2.length).length ≤ 6
    rw [List.length_replicate]; exact hl
  · show (cvl x).length = 6
    rw [List.length_append, List.length_replicate]; omega
theorem WI.cl (h : WI W K s) (ht : t < 3) (hoff : lSt (zN s t) ≠ 1) (hc : caO (lCa (newL x (cvl x)))) : WI W (K + 1) (yN s (up1 (zN s) t (newL x (cvl x)))) := by
  obtain ⟨⟨⟨⟨g1, g2, g3⟩, hX, hO, hS⟩, ⟨t1, t2, t3⟩, hF⟩, hk, hn, he⟩ := h
  have nt : zN (yN s (up1 (zN s) t (newL x (cvl x)))) t = newL x (cvl x) := up1_s
  have no : ∀ t', t' ≠ t → zN (yN s (up1 (zN s) t (newL x (cvl x)))) t' = zN s t' := fun t' e => up1_o e
  have sl : sle s (yN s (up1 (zN s) t (newL x (cvl x)))) := sle_of rfl rfl
  refine ⟨⟨⟨⟨g1.same rfl rfl rfl rfl rfl rfl, g2, g3⟩, fun t' h' => ?_, fun t' h' => ?_, fun k hk' => ?_⟩, ⟨t1, t2, t3⟩, ?_⟩, hk, fun t' h' e => ?_, he⟩
  · by_cases e : t' = t
    · subst e
      unfold LX
      rw [nt]
      exact ⟨fun _ => ⟨rfl, hc⟩, ⟨by show (1 : Nat) ≤ 2; omega, Nat.zero_le _⟩, fun y hy => (by cases hy)⟩
    · exact (hX t' h').mv (no t' e) sl (Nat.le_refl _)
  · by_cases e : t' = t
    · subst e
      have eg : gU (yN s (up1 (zN s) t' (newL x (cvl x)))) t' = [] := by
        show lU (zN (yN s (up1 (zN s) t' (newL x (cvl x)))) t') = []
        rw [nt]
      rw [eg]
      exact ⟨⟨trivial, List.Pairwise.nil, by show (0 : Nat) ≤ 40; omega⟩, fun _ => rfl⟩
    · have eg : gU (yN s (up1 (zN s) t (newL x (cvl x)))) t' = gU s t' := by
        show lU (zN (yN s (up1 (zN s) t (newL x (cvl x)))) t') = lU (zN s t')
        rw [no t' e]
      rw [eg, no t' e]
      exact ⟨(hO t' h').1.mv sl (fun _ z => z) (fun _ _ => ⟨rfl, rfl⟩), (hO t' h').2⟩
  · obtain ⟨t0, h0, hm⟩ := hS k hk'
    by_cases e : t0 = t
    · subst e
      rw [(hO t0 h0).2 hoff] at hm
      exact absurd hm (by show k ∉ sts []; unfold sts; simp)
    · refine ⟨t0, h0, ?_⟩
      have eg : gU (yN s (up1 (zN s) t (newL x (cvl x)))) t0 = gU s t0 := by
        show lU (zN (yN s (up1 (zN s) t (newL x (cvl x)))) t0) = lU (zN s t0)
        rw [no t0 e]
      rw [eg]; exact hm
  · have h1 : rnT (yN s (up1 (zN s) t (newL x (cvl x)))) ≤ rnT s + 1 := by
      have := cntN_1 (p := fun t' => decide (lSt (zN (yN s (up1 (zN s) t (newL x (cvl x)))) t') = 1)) (q := fun t' => decide (lSt (zN s t') = 1)) (t := t) (fun k hk z => by rw [← no k hk]; exact z) 3
      rw [if_pos ht] at this
      exact this
    show (zF s).length + rnT (yN s (up1 (zN s) t (newL x (cvl x)))) ≤ zK s + (K + 1) + 2 * nC3 (zC s)
    omega
  · by_cases e' : t' = t
    · subst e'
      rw [nt] at e; cases e
    · rw [no t' e'] at e
      obtain ⟨a, b, c⟩ := hn t' h' e
      have eg : gU (yN s (up1 (zN s) t (newL x (cvl x)))) t' = gU s t' := by
        show lU (zN (yN s (up1 (zN s) t (newL x (cvl x)))) t') = lU (zN s t')
        rw [no t' e']
      rw [eg, no t' e']; exact ⟨a, b, c⟩
theorem NWt.cl (h : NWt s) : NWt (yN s (up1 (zN s) t (newL x (cvl x)))) := fun t' h' z => by
  by_cases e : t' = t
  · subst e
    rw [show zN (yN s (up1 (zN s) t' (newL x (cvl x)))) t' = newL x (cvl x) from up1_s]
  · rw [show zN (yN s (up1 (zN s) t (newL x (cvl x)))) t' = zN s t' from up1_o e] at z ⊢
    exact h t' h' z
theorem TI2.cl (h : TI2 y s) (hn : NWt s) (ht : t < 3) (hoff : lSt (zN s t) ≠ 1) : TI2 y (yN s (up1 (zN s) t (newL x (cvl x)))) := by
  obtain ⟨h1, h2, h3⟩ := h
  refine ⟨h1, fun z => ?_, fun z => ?_⟩
  · by_cases e : (zT s).1 = t
    · exact h2 (by rw [e]; exact hn t ht hoff)
    · have eq : zN (yN s (up1 (zN s) t (newL x (cvl x)))) (zT s).1 = zN s (zT s).1 := up1_o e
      have z : lWt (zN (yN s (up1 (zN s) t (newL x (cvl x)))) (zT s).1) = none := z
      rw [eq] at z; exact h2 z
  · have z : lWt (zN (yN s (up1 (zN s) t (newL x (cvl x)))) (zT s).1) ≠ none := z
    by_cases e : (zT s).1 = t
    · rw [e, show zN (yN s (up1 (zN s) t (newL x (cvl x)))) t = newL x (cvl x) from up1_s] at z
      exact absurd rfl z
    · rw [show zN (yN s (up1 (zN s) t (newL x (cvl x)))) (zT s).1 = zN s (zT s).1 from up1_o e] at z
      exact h3 z
theorem RkN.cl (h : RkN s) : RkN (yN s (up1 (zN s) t (newL x (cvl x)))) := fun t' => by
  by_cases e : t' = t
  · subst e
    rw [show zN (yN s (up1 (zN s) t' (newL x (cvl x)))) t' = newL x (cvl x) from up1_s]; exact Or.inl rfl
  · rw [show zN (yN s (up1 (zN s) t (newL x (cvl x)))) t' = zN s t' from up1_o e]; exact h t'
end
