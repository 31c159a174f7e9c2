/-! trials: lines of a text, its first word from a place on; the scratch world's steps are not counted -/
section
variable {L : Trl} {B A : List Nm} {r n a : Nat} {p : Nat → Int32} {M M' : Mem} {Q : Mem → Prop}
theorem txt_cons (l : List Int32) (R : Trl) : txt (l :: R) = l ++ [10] ++ txt R := rfl
theorem txt_at {L0 R : Trl} {l : List Int32} : txt (L0 ++ l :: R) = txt L0 ++ (l ++ [10] ++ txt R) := by rw [txt_app, txt_cons]
theorem nl_txt {L0 R : Trl} {l : List Int32} (h : (10 : Int32) ∉ l) : nl (pT (txt (L0 ++ l :: R))) (txt (L0 ++ l :: R)).length (txt L0).length = (txt L0).length + l.length := by
  have hl : (txt (L0 ++ l :: R)).length = (txt L0).length + (l.length + 1 + (txt R).length) := by
    rw [txt_at]; simp only [List.length_append, List.length_singleton]
  have at0 : ∀ i, i ≤ l.length → pT (txt (L0 ++ l :: R)) ((txt L0).length + i) = gi (l ++ [10]) i := fun i hi => by
    rw [pT_in (by omega), txt_at, gi_r, gi_l (by simp only [List.length_append, List.length_singleton]; omega)]
  refine scn_to (pT_end _) (by omega) (fun i h1 h2 => ?_) ?_
  · obtain ⟨j, ej⟩ : ∃ j, i = (txt L0).length + j := ⟨i - (txt L0).length, by omega⟩
    have hj : j < l.length := by omega
    rw [ej, at0 j (by omega), gi_l hj]
    intro z
    refine h ?_
    rw [← z]
    exact getD_mem hj
  · rw [at0 _ (Nat.le_refl _)]
    have := gi_r l [10] 0
    rw [Nat.add_zero] at this
    rw [this]; rfl
theorem lns_txt : ∀ (R L0 : Trl), (∀ l ∈ R, (10 : Int32) ∉ l) → R ≠ [] → (lns (pT (txt (L0 ++ R))) (txt (L0 ++ R)).length (txt L0).length).length ≤ R.length
  | [], _, _, h => absurd rfl h
  | l :: R, L0, h, _ => by
    have hl : (txt (L0 ++ l :: R)).length = (txt L0).length + (l.length + 1 + (txt R).length) := by
      rw [txt_at]; simp only [List.length_append, List.length_singleton]
    have e1 := nl_txt (L0 := L0) (R := R) (h l (List.mem_cons_self ..))
    rw [lns_eq (pT_end _) (by omega), e1]
    have hr : (rln (pT (txt (L0 ++ l :: R))) (txt (L0 ++ l :: R)).length ((txt L0).length + l.length)).length ≤ R.length := by
      unfold rln
      split
      · rename_i c
        have hne : R ≠ [] := fun z => by
          rw [hl, z] at c
          have : (txt ([] : Trl)).length = 0 := rfl
          omega
        have ih := lns_txt R (L0 ++ [l]) (fun x hx => h x (List.mem_cons_of_mem _ hx)) hne
        have ea : (L0 ++ [l]) ++ R = L0 ++ l :: R := by rw [List.append_assoc]; rfl
        have eb : (txt (L0 ++ [l])).length = (txt L0).length + l.length + 1 := by
          rw [txt_app]; show (_ ++ ((l ++ [10]) ++ [])).length = _
          simp only [List.length_append, List.length_singleton, List.length_nil]; omega
        rw [ea, eb] at ih
        exact ih
      · exact Nat.zero_le _
    split
    · rw [List.length_cons]; omega
    · rw [List.length_cons, List.length_cons]; omega
theorem lines_le (h : ∀ l ∈ L, (10 : Int32) ∉ l) : (lns (pT (txt L)) (txt L).length 0).length ≤ L.length + 1 := by
  by_cases e : L = []
  · subst e
    rw [lns_eq (a := 0) (pT_end _) (Nat.zero_le _)]
    have hr : rln (pT (txt ([] : Trl))) (txt ([] : Trl)).length (nl (pT (txt ([] : Trl))) (txt ([] : Trl)).length 0) = [] := if_neg (show ¬ _ + 1 < 0 by omega)
    rw [hr]
    split
    · exact Nat.zero_le _
    · exact Nat.le_refl _
  · have := lns_txt L [] h e
    exact Nat.le_succ_of_le this
/-- the first word from a place on -/
theorem c_firstW (hT : BT B r n p A M) (hat : mI M 2 0 2 = Int32.ofNat a) (ha : a ≤ n) (hB : NB B (full (nl p n a) (tks p n a)))
    (hQ : ∀ A' M', A <+: A' → RS B r n p (nl p n a) A' (full (nl p n a) (tks p n a)) M' → Q M') : w_Words_next 0 Q M := by
  have hp := hT.2.1.2.2.2.2
  obtain ⟨x1, x2, x3, x4⟩ := nl_ok hp ha
  have hfh : hd (full (nl p n a) (tks p n a)) = (lex p n a).1 := by rw [full_hd (tks_ne hp (by omega)), tks_hd hp (by omega)]
  have hin := lex_in hp x1 x4 x3 x2
  have hok := lex_ok (a := a) hp (by omega)
  have hb : (lex p n a).1.1 = 2 → (lex p n a).1.2.1 ∈ B := fun e => by
    refine hB (lex p n a).1 ?_ e
    rw [← hfh]
    have := tks_ne (p := p) (n := n) (a := a) hp (by omega)
    unfold full
    cases h : tks p n a with
    | nil => exact absurd h this
    | cons x y => split <;> simp
  refine c_next hT.1.1 hT.1.len hT.1.2.1.ms hT.2.1 hat (by omega) (fun M' k1 k2 k3 k4 => ?_)
  exact hQ _ M' (insT_pre A _) ⟨hT.1.more hb k1, k2, hT.2.2, hB, ⟨x2, x3⟩, _, _, k4, hok.1, k3, hin.1, fun i q1 q2 => x4 i (by omega) q2, ⟨fun q => hin.2.2.1 q, fun q => lex_place hp (by omega) q⟩, by rw [tks_eq hp (by omega)]⟩
end
section
variable {A : List Nm} {W : List Cls} {w C C' B F : Nat} {br : Int32} {nq nk np nh nr : Nat} {s : Ms} {M : Mem}
theorem RA.w35 (h : RA A W w br nq nk np nh nr C B F s M) : RA A W w br nq nk np nh nr C' B F s (sI M 6 w 35 1) := by
  have hf : Fr (6339285465397756945139231368132496554128019744394747208275350942065595714223327282882004073897576134671584866440587073589025503475990026413326511053883607915299395946163061310275939887721284702577049600905500587493134081452053068632251299909723723558408707363710485735134568997454657860579673473887642838095995761088133366056241938452588977226108203981105783984530789968290446688647352481978669132377754201179424182135972718209610359179533122512532665478867441240001882627136877088984853105924492165202066976612549324957210631163627495601701311917774915319226625953873436247075670679311426218213474911559991574036858026759204686488479135390583123312128845114580715456954368) M (sI M 6 w 35 1) := Fr.wI rfl (Fr.rf _ _)
  obtain ⟨⟨a1, a2⟩, ⟨b1, b2'⟩, ⟨c1, c2⟩, ⟨d1, d2, d3⟩, ⟨e2, e3⟩, g⟩ := h
  exact ⟨⟨(a1.fr hf).1, a2.fr hf⟩, ⟨b1.fr hf, b2'.fr hf⟩, ⟨c1.fr hf, c2.fr hf (hf.ms rfl)⟩, ⟨d1.fr hf, ⟨d2.1, fun o ho => (hf.Ia (f := 88) rfl rfl w o).trans (d2.2.1 o ho), Or.inl (by rw [mI_sI, if_pos ⟨rfl, rfl, rfl⟩])⟩, d3.fr hf⟩, ⟨(hf.L (f := 700) rfl w).trans e2, fun t' ht => (hf.Ra (f := 700) rfl rfl w t').trans (e3 t' ht)⟩, fun t' ht' => (g t' ht').fr hf (by rfl)⟩
end
