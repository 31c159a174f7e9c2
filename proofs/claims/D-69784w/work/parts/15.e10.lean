/-! B: what a text's lines leave: names are told once -/
def wcF (f : Fld) : Prop := tyOk f.2.1 ∧ (f.2.2.2.2 = true → ¬ f.2.2.1 &&& 1 = 0 ∧ f.2.1 = (0, [])) ∧ (f.2.2.2.2 = false → f.2.2.2.1 = 0)
def ulk (a b : Mth) : Prop := ¬ (a.1 = b.1 ∧ a.2.1 = b.2.1 ∧ a.2.2.1 = b.2.2.1)
def wcM (m : Mth) : Prop := (m.1 = nMake → m.2.2.2.1 &&& 11 = 0 ∧ m.2.2.1 = (-4, [])) ∧ (m.1 = nStart → m.2.2.2.1 = 1 ∧ m.2.1 = [] ∧ m.2.2.1 = (-4, []))
def wcC (c : Cls) : Prop := ((∀ f ∈ c.2.2.2.2.1, wcF f) ∧ c.2.2.2.2.1.Pairwise (fun a b => a.1 ≠ b.1)) ∧ c.2.2.2.2.2.Pairwise ulk ∧ ∀ m ∈ c.2.2.2.2.2, wcM m
def WC (W : List Cls) : Prop := (∀ c ∈ W, wcC c) ∧ (W.map (·.1)).Nodup
theorem gc_mem {W : List Cls} {c : Nat} (h : c < W.length) : gc W c ∈ W := by
  show W.getD c _ ∈ W
  rw [List.getD_eq_getElem?_getD, List.getElem?_eq_getElem h]; exact List.getElem_mem h
theorem WC.at {W : List Cls} {c : Nat} (h : WC W) (hc : c < W.length) : wcC (gc W c) := h.1 _ (gc_mem hc)
theorem names_set {W : List Cls} {i : Nat} {x : Cls} (hx : x.1 = (gc W i).1) : (W.set i x).map (·.1) = W.map (·.1) := by
  rw [List.map_set, hx]
  by_cases hi : i < W.length
  · have : (gc W i).1 = (W.map (·.1))[i]'(by simpa using hi) := by
      show (W.getD i _).1 = _
      rw [List.getD_eq_getElem?_getD, List.getElem?_eq_getElem hi, List.getElem_map]; rfl
    rw [this, List.set_getElem_self]
  · rw [List.set_eq_of_length_le]; simp; omega
theorem WC.set {W : List Cls} {i : Nat} {x : Cls} (h : WC W) (hx : x.1 = (gc W i).1) (hc : wcC x) : WC (W.set i x) :=
  ⟨fun c hc' => (List.mem_or_eq_of_mem_set hc').elim (h.1 c) (fun e => e ▸ hc), by rw [names_set hx]; exact h.2⟩
theorem WC.aM {W : List Cls} {m : Mth} (h : WC W) (h1 : 1 ≤ W.length) (hm : wcM m) (hu : ∀ x ∈ (gc W (W.length - 1)).2.2.2.2.2, ulk x m) : WC (addM W m) := by
  unfold addM
  obtain ⟨a, b, c⟩ := h.at (c := W.length - 1) (by omega)
  refine h.set rfl ⟨a, ?_, fun x hx => ?_⟩
  · show List.Pairwise ulk (_ ++ [m])
    rw [List.pairwise_append]
    exact ⟨b, List.pairwise_singleton _ _, fun x hx y hy => by rw [List.mem_singleton.mp hy]; exact hu x hx⟩
  · rcases List.mem_append.mp hx with q | q
    · exact c x q
    · rw [List.mem_singleton.mp q]; exact hm
theorem WC.aF {W : List Cls} {f : Fld} {d : Nat} (h : WC W) (hd : d < W.length) (hf : wcF f) (hu : ∀ x ∈ (gc W d).2.2.2.2.1, x.1 ≠ f.1) : WC (addF W d f) := by
  unfold addF
  obtain ⟨⟨a, b⟩, c⟩ := h.at hd
  refine h.set rfl ⟨⟨fun x hx => ?_, ?_⟩, c⟩
  · rcases List.mem_append.mp hx with q | q
    · exact a x q
    · rw [List.mem_singleton.mp q]; exact hf
  · show List.Pairwise _ (_ ++ [f])
    rw [List.pairwise_append]
    exact ⟨b, List.pairwise_singleton _ _, fun x hx y hy => by rw [List.mem_singleton.mp hy]; exact hu x hx⟩
theorem WC.aC {W : List Cls} {k : Cls} (h : WC W) (hk : k.2.2.2.2 = ([], [])) (hn : fnd W k.1 = none) : WC (W ++ [k]) := by
  refine ⟨fun c hc => ?_, ?_⟩
  · rcases List.mem_append.mp hc with q | q
    · exact h.1 c q
    · rw [List.mem_singleton.mp q]
      unfold wcC
      rw [hk]
      exact ⟨⟨fun f hf => absurd hf List.not_mem_nil, List.Pairwise.nil⟩, List.Pairwise.nil, fun f hf => absurd hf List.not_mem_nil⟩
  · rw [List.map_append, List.nodup_append]
    refine ⟨h.2, by simp, fun a ha b hb e => ?_⟩
    have := fnd_spec (nm := k.1) (W := W)
    rw [hn] at this
    obtain ⟨c, hc, ec⟩ := List.mem_map.mp ha
    obtain ⟨i, hi, ei⟩ := List.mem_iff_getElem.mp hc
    refine this i hi ?_
    show (W.getD i _).1 = _
    rw [List.getD_eq_getElem?_getD, List.getElem?_eq_getElem hi]
    show W[i].1 = _
    rw [ei, ec, e]
    simpa using hb
theorem rulM_ok {br : Int32} {c : Cls} {bits : Int32} {own : Nm} {ks : List Kd} {κ : Kd} {s l : Int32} {C : List Ins} {H : List Hnd} (h : rulM br c bits own ks κ = 99) : wcM (own, ks, κ, bits, s, l, C, H) ∧ ∀ x ∈ c.2.2.2.2.2, ulk x (own, ks, κ, bits, s, l, C, H) := by
  unfold rulM at h
  split at h
  · exact absurd h (by decide)
  rename_i h3
  split at h
  · exact absurd h (by decide)
  split at h
  · exact absurd h (by decide)
  split at h
  · exact absurd h (by decide)
  split at h
  · exact absurd h (by decide)
  rename_i h7
  clear h
  rw [Bool.or_eq_true, not_or] at h7
  refine ⟨⟨fun e => ?_, fun e => ?_⟩, fun x hx z => h3 (List.any_eq_true.mpr ⟨x, hx, decide_eq_true z⟩)⟩
  · have h7 := h7.1
    rw [decide_eq_true (show own = nMake from e), Bool.true_and, Bool.or_eq_true, not_or] at h7
    exact ⟨Classical.byContradiction (fun z => h7.1 (decide_eq_true z)), Classical.byContradiction (fun z => h7.2 (decide_eq_true z))⟩
  · have h7 := h7.2
    rw [decide_eq_true (show own = nStart from e), Bool.true_and, Bool.or_eq_true, not_or] at h7
    have q : ¬ (ks ≠ [] ∨ κ ≠ (-4, [])) := fun z => h7.2 (decide_eq_true z)
    rw [not_or] at q
    exact ⟨Classical.byContradiction (fun z => h7.1 (decide_eq_true z)), Classical.not_not.mp q.1, Classical.not_not.mp q.2⟩
theorem rulF_ok {br : Int32} {c : Cls} {bits : Int32} {own : Nm} {κ : Kd} {v : Int32} {has : Bool} {ts t : List Tok} (hp : pField ts = .inr ((bits, own, κ, v, has), t)) (h : rulF br c bits own κ has = 99) : wcF (own, κ, bits, v, has) ∧ ∀ x ∈ c.2.2.2.2.1, x.1 ≠ own := by
  have hq : tyOk κ ∧ (has = false → v = 0) := by
    unfold pField at hp
    split at hp
    split at hp
    · cases hp
    · rename_i q
      cases hp
      unfold pFieldT at q
      split at q
      · cases q
      · split at q
        · cases q
        · rename_i hty
          have := pType_ty hty
          split at q
          · split at q
            · cases q
            · split at q
              · cases q; exact ⟨this, fun z => by cases z⟩
              · cases q
          · split at q
            · cases q; exact ⟨this, fun _ => rfl⟩
            · cases q
  unfold rulF at h
  split at h
  · exact absurd h (by decide)
  rename_i h3
  split at h
  · exact absurd h (by decide)
  split at h
  · exact absurd h (by decide)
  split at h
  · exact absurd h (by decide)
  rename_i h14
  refine ⟨⟨hq.1, fun e => ?_, hq.2⟩, fun x hx z => h3 (List.any_eq_true.mpr ⟨x, hx, decide_eq_true z⟩)⟩
  rw [show has = true from e, Bool.true_and, Bool.or_eq_true, not_or] at h14
  exact ⟨fun z => h14.1 (decide_eq_true z), Classical.byContradiction (fun z => h14.2 (decide_eq_true z))⟩
def wcSt (st : PSt) : Prop := WC st.2.1 ∧ 21 ≤ st.2.1.length ∧ (1 ≤ st.1 → 22 ≤ st.2.1.length) ∧ (2 ≤ st.1 → wcM st.2.2.1 ∧ ∀ x ∈ (gc st.2.1 (st.2.1.length - 1)).2.2.2.2.2, ulk x st.2.2.1)
theorem bLine_wc {br : Int32} {W : List Cls} {l : List Tok} {st : PSt} (h : WC W) (hl : 22 ≤ W.length) (hb : bLine br W l = .inr st) : wcSt st := by
  unfold bLine at hb
  split at hb
  · split at hb
    · cases hb
    · rename_i hq
      split at hb
      · rename_i h99
        cases hb
        obtain ⟨a, b⟩ := rulF_ok hq h99
        exact ⟨h.aF (by omega) a b, by show 21 ≤ (addF W _ _).length; rw [addF_len]; omega, fun _ => by show 22 ≤ (addF W _ _).length; rw [addF_len]; exact hl, fun q => absurd q (by show ¬ (2 ≤ 1); omega)⟩
      · cases hb
  split at hb
  · split at hb
    · cases hb
    · split at hb
      · rename_i h99
        split at hb
        · cases hb
          exact ⟨h, by show 21 ≤ W.length; omega, fun _ => hl, fun _ => rulM_ok h99⟩
        · cases hb
          obtain ⟨a, b⟩ := rulM_ok (s := 0) (l := 0) (C := []) (H := []) h99
          refine ⟨h.aM (by omega) a b, ?_, fun _ => ?_, fun q => absurd q (by show ¬ (2 ≤ 1); omega)⟩
          · show 21 ≤ (addM W _).length; rw [addM_len]; omega
          · show 22 ≤ (addM W _).length; rw [addM_len]; omega
      · cases hb
  split at hb
  · split at hb
    · cases hb
      exact ⟨h, by show 21 ≤ W.length; omega, fun q => absurd q (by show ¬ (1 ≤ 0); omega), fun q => absurd q (by show ¬ (2 ≤ 0); omega)⟩
    · cases hb
  · cases hb
theorem stp_wc {br : Int32} {st st' : PSt} {l : List Tok} (h : wcSt st) (hs : stp br st l = .inr st') : wcSt st' := by
  obtain ⟨h1, h2, h3, h4⟩ := h
  unfold stp at hs
  by_cases c0 : st.1 = 0
  · rw [if_pos c0] at hs
    unfold cLine at hs
    split at hs
    · cases hs
    · split at hs
      · rename_i h99
        cases hs
        refine ⟨h1.aC rfl ?_, by show 21 ≤ (st.2.1 ++ _).length; rw [List.length_append]; omega, fun _ => by show 22 ≤ (st.2.1 ++ _).length; rw [List.length_append, List.length_singleton]; omega, fun q => absurd q (by show ¬ (2 ≤ 1); omega)⟩
        unfold rulC at h99
        split at h99
        · exact absurd h99 (by decide)
        · rename_i q
          exact Option.not_isSome_iff_eq_none.mp q
      · cases hs
  rw [if_neg c0] at hs
  have h22 := h3 (by omega)
  by_cases c1 : st.1 = 1
  · rw [if_pos c1] at hs
    exact bLine_wc h1 h22 hs
  rw [if_neg c1] at hs
  obtain ⟨m1, m2⟩ := h4 (by omega)
  have h2l : ∀ {a : Nat}, 1 ≤ a → 22 ≤ st.2.1.length := fun _ => h22
  by_cases c2 : st.1 = 2
  · rw [if_pos c2] at hs
    unfold rLine at hs
    split at hs
    · cases hs
    · rename_i a b _ hq
      by_cases hlt : b < Int32.ofNat (st.2.2.1.2.1.length + (if st.2.2.1.2.2.2.1 &&& 1 = 0 then 1 else 0))
      · rw [if_pos hlt] at hs; cases hs
      · rw [if_neg hlt] at hs
        cases hs
        exact ⟨h1, h2, fun _ => h22, fun _ => ⟨m1, m2⟩⟩
  rw [if_neg c2] at hs
  unfold kLine at hs
  split at hs
  · split at hs
    · cases hs
    · rename_i m he
      have em : m = mthOf st.2.2 := by
        unfold endM at he
        split at he
        · cases he
        split at he
        · cases he
        split at he
        · cases he
        · cases he; rfl
      subst em
      exact bLine_wc (h1.aM (m := mthOf st.2.2) (by omega) m1 m2) (by rw [addM_len]; exact h22) hs
  split at hs
  · split at hs
    · cases hs
    · split at hs
      · cases hs
      · cases hs
        exact ⟨h1, h2, fun _ => h22, fun _ => ⟨m1, m2⟩⟩
  split at hs
  · split at hs
    · cases hs
    · split at hs
      · cases hs
      · cases hs
        exact ⟨h1, h2, fun _ => h22, fun _ => ⟨m1, m2⟩⟩
  unfold iLine at hs
  split at hs
  split at hs
  · cases hs
    exact ⟨h1, h2, fun _ => h22, fun _ => ⟨m1, m2⟩⟩
  · split at hs
    · cases hs
    · split at hs
      · cases hs
      · cases hs
        exact ⟨h1, h2, fun _ => h22, fun _ => ⟨m1, m2⟩⟩
theorem runL_wc {br : Int32} {n : Nat} : ∀ {ls : List (List Tok)} {st : PSt} {W' : List Cls}, wcSt st → runL br n st ls = .inr W' → WC W'
  | [], st, W', h, e => by
    unfold runL at e
    split at e
    · cases e; exact h.1
    · cases e
  | l :: ls, st, W', h, e => by
    unfold runL at e
    split at e
    · cases e
    · rename_i q
      exact runL_wc (stp_wc h q) e
theorem WC.run {br : Int32} {n : Nat} {ls : List (List Tok)} {W W' : List Cls} (h : WC W) (h21 : 21 ≤ W.length) (e : runL br n (0, W, noM) ls = .inr W') : WC W' := runL_wc (st := (0, W, noM)) ⟨h, h21, fun q => absurd q (by show ¬ (1 ≤ 0); omega), fun q => absurd q (by show ¬ (2 ≤ 0); omega)⟩ e
