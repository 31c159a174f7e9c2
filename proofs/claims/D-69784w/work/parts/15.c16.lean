/-! B: what may break rule 9, line by line -/
theorem lbl_mem {nm : Nm} : ∀ {LS : List Lb}, (lbl LS nm).isSome = true ↔ nm ∈ LS.map (·.1)
  | [] => by simp [lbl]
  | x :: LS => by
    unfold lbl
    by_cases c : x.1 = nm
    · rw [if_pos c]; simp [c]
    · rw [if_neg c, lbl_mem (LS := LS), List.map_cons, List.mem_cons]
      exact ⟨Or.inr, fun q => q.elim (fun e => absurd e.symm c) id⟩
theorem dupLb_ap2 : ∀ (LS : List Lb) (seen : List Nm) (x : Lb), dupLb seen (LS ++ [x]) = dupLb seen LS ++ (if x.1 ∈ seen ++ LS.map (·.1) then [x.2.2] else [])
  | [], seen, x => by simp [dupLb]
  | a :: LS, seen, x => by
    show (if a.1 ∈ seen then [a.2.2] else []) ++ dupLb (seen ++ [a.1]) (LS ++ [x]) = ((if a.1 ∈ seen then [a.2.2] else []) ++ dupLb (seen ++ [a.1]) LS) ++ _
    have e : seen ++ [a.1] ++ LS.map (·.1) = seen ++ (a :: LS).map (·.1) := by rw [List.append_assoc, List.map_cons]; rfl
    rw [dupLb_ap2 LS, e, ← List.append_assoc]
theorem dupLb_dn : ∀ (ls : List Nm) (LS : List Lb) (n pl : Nat), dupLb [] (LS ++ ls.map (fun nm => (nm, n, pl))) = dupLb [] LS ++ (dnL LS n pl ls).map (fun x => x.2.2.2.1)
  | [], LS, n, pl => by simp [dnL]
  | nm :: ls, LS, n, pl => by
    have e : LS ++ (nm :: ls).map (fun nm => (nm, n, pl)) = (LS ++ [(nm, n, pl)]) ++ ls.map (fun nm => (nm, n, pl)) := by simp
    rw [e, dupLb_dn ls, dupLb_ap2]
    show _ = _ ++ ((if (lbl LS nm).isSome then [((0 : Nat), ([] : Nm), (0 : Nat), pl, false)] else []) ++ dnL (LS ++ [(nm, n, pl)]) n pl ls).map _
    rw [List.map_append, List.append_assoc]
    congr 2
    by_cases c : (lbl LS nm).isSome = true
    · rw [if_pos c, if_pos (by simpa using lbl_mem.mp c)]; rfl
    · rw [if_neg c, if_neg (by simpa using fun q => c (lbl_mem.mpr q))]; rfl
theorem dnL_mem : ∀ (ls : List Nm) (LS : List Lb) (n pl : Nat), ∀ x ∈ dnL LS n pl ls, x = (0, [], 0, pl, false)
  | [], LS, n, pl, x, h => by cases h
  | nm :: ls, LS, n, pl, x, h => by
    have h : x ∈ (if (lbl LS nm).isSome then [((0 : Nat), ([] : Nm), (0 : Nat), pl, false)] else []) ++ dnL (LS ++ [(nm, n, pl)]) n pl ls := h
    rcases List.mem_append.mp h with q | q
    · split at q
      · rw [List.mem_singleton] at q; exact q
      · cases q
    · exact dnL_mem ls _ n pl x q
/-- what comes behind has no earlier place -/
theorem pw_app {NL N2 : List Nine} {pl : Nat} (h : NL.Pairwise (fun x y => x.2.2.2.1 ≤ y.2.2.2.1)) (hle : ∀ x ∈ NL, x.2.2.2.1 ≤ pl) (h2 : ∀ x ∈ N2, x.2.2.2.1 = pl) : (NL ++ N2).Pairwise (fun x y => x.2.2.2.1 ≤ y.2.2.2.1) := by
  rw [List.pairwise_append]
  refine ⟨h, ?_, fun a ha b hb => by rw [h2 b hb]; exact hle a ha⟩
  rw [List.pairwise_iff_forall_sublist]
  intro a b hab
  have ha := h2 a (hab.subset (by simp))
  have hb := h2 b (hab.subset (by simp))
  omega
theorem NLk.labels {p : PM} {NL : List Nine} {n pl : Nat} (h : NLk p NL) (hle : ∀ x ∈ NL, x.2.2.2.1 ≤ pl) (ls : List Nm) : NLk (pL p (ls.map (fun nm => (nm, n, pl)))) (NL ++ dnL p.2.2.2.1 n pl ls) := by
  obtain ⟨h0, h1, h2, h3, h4, h5, h6⟩ := h
  have hd := dnL_mem ls p.2.2.2.1 n pl
  have hdl : dupLb [] (p.2.2.2.1 ++ ls.map (fun nm => (nm, n, pl))) = dupLb [] p.2.2.2.1 ++ (dnL p.2.2.2.1 n pl ls).map (fun x => x.2.2.2.1) := dupLb_dn ls _ n pl
  have mono : ∀ {P : Nine → Prop}, (∃ x ∈ NL, P x) → ∃ x ∈ NL ++ dnL p.2.2.2.1 n pl ls, P x := fun {P} ⟨x, hx, q⟩ => ⟨x, List.mem_append_left _ hx, q⟩
  refine ⟨pw_app h0 hle (fun x hx => by rw [hd x hx]), fun x hx => ?_, fun l hl => ?_, fun i hi nm hn => mono (h3 i hi nm hn), fun y hy => ⟨mono (h4 y hy).1, mono (h4 y hy).2.1, mono (h4 y hy).2.2⟩, fun f hf => mono (h5 f hf), h6⟩
  · rcases List.mem_append.mp hx with q | q
    · rcases h1 x q with ⟨a, b⟩ | b | b
      · left
        refine ⟨a, ?_⟩
        show x.2.2.2.1 ∈ dupLb [] (p.2.2.2.1 ++ _)
        rw [hdl]; exact List.mem_append_left _ b
      · right; left; exact b
      · right; right; exact b
    · left
      refine ⟨by rw [hd x q], ?_⟩
      show x.2.2.2.1 ∈ dupLb [] (p.2.2.2.1 ++ _)
      rw [hdl]; exact List.mem_append_right _ (List.mem_map.mpr ⟨x, q, rfl⟩)
  · have hl : l ∈ dupLb [] (p.2.2.2.1 ++ ls.map (fun nm => (nm, n, pl))) := hl
    rw [hdl] at hl
    rcases List.mem_append.mp hl with q | q
    · exact mono (h2 l q)
    · obtain ⟨x, hx, e⟩ := List.mem_map.mp q
      exact ⟨x, List.mem_append_right _ hx, by rw [hd x hx], e⟩
theorem NLk.ins {p : PM} {NL : List Nine} {L : List Tok} {i : PI} (h : NLk p NL) (hle : ∀ x ∈ NL, x.2.2.2.1 ≤ (hd L).2.2.2) (hpl : i.2.2.2 = (hd L).2.2.2) : NLk (pI p i) (NL ++ i.2.1.2.2.1.map (niU L)) := by
  obtain ⟨h0, h1, h2, h3, h4, h5, h6⟩ := h
  have mono : ∀ {P : Nine → Prop}, (∃ x ∈ NL, P x) → ∃ x ∈ NL ++ i.2.1.2.2.1.map (niU L), P x := fun {P} ⟨x, hx, q⟩ => ⟨x, List.mem_append_left _ hx, q⟩
  have hlen : (p.2.1 ++ [i]).length = p.2.1.length + 1 := by simp
  refine ⟨pw_app h0 hle (fun x hx => ?_), fun x hx => ?_, fun l hl => mono (h2 l hl), fun j hj nm hn => ?_, fun y hy => ⟨mono (h4 y hy).1, mono (h4 y hy).2.1, mono (h4 y hy).2.2⟩, fun f hf => absurd hf (by simp), h6⟩
  · obtain ⟨nm, -, e⟩ := List.mem_map.mp hx
    rw [← e]
  · rcases List.mem_append.mp hx with q | q
    · rcases h1 x q with b | ⟨a, b⟩ | ⟨a, b, d⟩
      · left; exact b
      · right; left
        refine ⟨a, ?_⟩
        rcases b with ⟨j, hj, b⟩ | b
        · exact Or.inl ⟨j, List.mem_append_left _ hj, b⟩
        · exact Or.inr b
      · right; right
        refine ⟨a, b, Or.inl ?_⟩
        show x.2.2.1 < (p.2.1 ++ [i]).length
        rcases d with d | ⟨d, -⟩ <;> omega
    · obtain ⟨nm, hn, e⟩ := List.mem_map.mp q
      right; left
      rw [← e]
      exact ⟨rfl, Or.inl ⟨i, List.mem_append_right _ (by simp), hn, rfl, hpl.symm⟩⟩
  · have hj : j ∈ p.2.1 ++ [i] := hj
    rcases List.mem_append.mp hj with q | q
    · exact mono (h3 j q nm hn)
    · rw [List.mem_singleton] at q
      subst q
      exact ⟨niU L nm, List.mem_append_right _ (List.mem_map.mpr ⟨nm, hn, rfl⟩), rfl, rfl, rfl, hpl.symm⟩
theorem NLk.frame {p : PM} {NL : List Nine} {pl : Nat} {ls ss : List Kd} (h : NLk p NL) (hle : ∀ x ∈ NL, x.2.2.2.1 ≤ pl) (hn : p.2.2.2.2 = Option.none) : NLk (pF p (some (ls, ss, pl))) (NL ++ [(2, [], p.2.1.length, pl, false)]) := by
  obtain ⟨h0, h1, h2, h3, h4, h5, h6⟩ := h
  have mono : ∀ {P : Nine → Prop}, (∃ x ∈ NL, P x) → ∃ x ∈ NL ++ [((2 : Nat), ([] : Nm), p.2.1.length, pl, false)], P x := fun {P} ⟨x, hx, q⟩ => ⟨x, List.mem_append_left _ hx, q⟩
  refine ⟨pw_app h0 hle (fun x hx => by rw [List.mem_singleton] at hx; rw [hx]), fun x hx => ?_, fun l hl => mono (h2 l hl), fun j hj nm hn => mono (h3 j hj nm hn), fun y hy => ⟨mono (h4 y hy).1, mono (h4 y hy).2.1, mono (h4 y hy).2.2⟩, fun f hf => ?_, h6⟩
  · rcases List.mem_append.mp hx with q | q
    · rcases h1 x q with b | b | ⟨a, b, d⟩
      · left; exact b
      · right; left; exact b
      · right; right
        refine ⟨a, b, Or.inl ?_⟩
        show x.2.2.1 < p.2.1.length
        rcases d with d | ⟨-, f, d, -⟩
        · exact d
        · rw [hn] at d; cases d
    · rw [List.mem_singleton] at q
      rw [q]
      right; right
      exact ⟨rfl, rfl, Or.inr ⟨rfl, (ls, ss, pl), rfl, rfl⟩⟩
  · have hf : some (ls, ss, pl) = some f := hf
    have := Option.some.inj hf
    subst this
    exact ⟨_, List.mem_append_right _ (List.mem_singleton.mpr rfl), rfl, rfl, rfl⟩
theorem NLk.hand {p : PM} {NL : List Nine} {pl : Nat} {a b g k : Nm} (h : NLk p NL) (hle : ∀ x ∈ NL, x.2.2.2.1 ≤ pl) : NLk (pHn p (a, b, g, k, pl)) (((NL ++ [(1, a, 0, pl, false)]) ++ [(1, b, 0, pl, true)]) ++ [(1, g, 0, pl, false)]) := by
  obtain ⟨h0, h1, h2, h3, h4, h5, h6⟩ := h
  rw [List.append_assoc, List.append_assoc]
  have mono : ∀ {P : Nine → Prop}, (∃ x ∈ NL, P x) → ∃ x ∈ NL ++ ([((1 : Nat), a, (0 : Nat), pl, false)] ++ ([(1, b, 0, pl, true)] ++ [(1, g, 0, pl, false)])), P x := fun {P} ⟨x, hx, q⟩ => ⟨x, List.mem_append_left _ hx, q⟩
  have hy' : ∀ y ∈ p.2.2.1, y.2.2.2.2 ≤ pl := fun y hy => by
    obtain ⟨x, hx, -, -, -, e⟩ := (h4 y hy).1
    rw [← e]; exact hle x hx
  refine ⟨pw_app h0 hle (fun x hx => ?_), fun x hx => ?_, fun l hl => mono (h2 l hl), fun j hj nm hn => mono (h3 j hj nm hn), fun y hy => ?_, fun f hf => mono (h5 f hf), ?_⟩
  · simp at hx
    rcases hx with e | e | e <;> rw [e]
  · rcases List.mem_append.mp hx with q | q
    · rcases h1 x q with b | ⟨a', b⟩ | b
      · left; exact b
      · right; left
        refine ⟨a', ?_⟩
        rcases b with b | ⟨y, hy, b⟩
        · exact Or.inl b
        · exact Or.inr ⟨y, List.mem_append_left _ hy, b⟩
      · right; right; exact b
    · have hm : (a, b, g, k, pl) ∈ p.2.2.1 ++ [(a, b, g, k, pl)] := List.mem_append_right _ (by simp)
      right; left
      simp at q
      rcases q with e | e | e <;> rw [e]
      · exact ⟨rfl, Or.inr ⟨_, hm, rfl, Or.inl ⟨rfl, Or.inl rfl⟩⟩⟩
      · exact ⟨rfl, Or.inr ⟨_, hm, rfl, Or.inr ⟨rfl, rfl⟩⟩⟩
      · exact ⟨rfl, Or.inr ⟨_, hm, rfl, Or.inl ⟨rfl, Or.inr rfl⟩⟩⟩
  · have hy : y ∈ p.2.2.1 ++ [(a, b, g, k, pl)] := hy
    rcases List.mem_append.mp hy with q | q
    · exact ⟨mono (h4 y q).1, mono (h4 y q).2.1, mono (h4 y q).2.2⟩
    · rw [List.mem_singleton] at q
      subst q
      exact ⟨⟨(1, a, 0, pl, false), by simp, rfl, rfl, rfl, rfl⟩, ⟨(1, b, 0, pl, true), by simp, rfl, rfl, rfl, rfl⟩, ⟨(1, g, 0, pl, false), by simp, rfl, rfl, rfl, rfl⟩⟩
  · show (p.2.2.1 ++ [(a, b, g, k, pl)]).Pairwise _
    rw [List.pairwise_append]
    exact ⟨h6, by simp, fun x hx y hy => by rw [List.mem_singleton] at hy; rw [hy]; exact hy' x hx⟩
theorem NLk.nil (m : Mth) : NLk (m, [], [], [], Option.none) [] := by
  refine ⟨List.Pairwise.nil, fun x hx => (by cases hx), fun l hl => ?_, fun i hi => (by cases hi), fun y hy => (by cases hy), fun f hf => (by cases hf), List.Pairwise.nil⟩
  have hl : l ∈ ([] : List Nat) := hl
  cases hl
