/-! KINDS in the twin: the told table, a state comes to an instruction -/
/-- what is known, in the twin -/
def TbT (A : List Nm) (x : Mth) (R : Tr) (M : Mem) : Prop := R.length = (co x).length ∧ (mL M 519 0 = 80 ∧ mL M 114 0 = 80 ∧ mL M 115 0 = 1600 ∧ mL M 116 0 = 2240) ∧ ∀ i, i < R.length → mI M 519 0 i = b2 (gR R i).isSome ∧ ∀ lo st, gR R i = some (lo, st) → (mI M 114 0 i = Int32.ofNat st.length ∧ lo.length = lr x ∧ st.length ≤ sr x) ∧ (∀ k, k < lo.length → mI M 115 0 (20 * i + k) = kt A (gk lo k) ∧ kwf A (co x) (gk lo k)) ∧ ∀ k, k < st.length → mI M 116 0 (28 * i + k) = kt A (gk st k) ∧ kwf A (co x) (gk st k)
abbrev gdL (lo : List Kd) : Prop := ∀ κ ∈ lo, κ.1 ≠ -4
abbrev gdS (st : List Kd) : Prop := ∀ κ ∈ st, κ.1 ≠ -4 ∧ κ.1 ≠ -2
/-- no kind that can't be told, no unset on a stack -/
def gdR (R : Tr) : Prop := ∀ i l t, gR R i = some (l, t) → gdL l ∧ gdS t
def TJn (A : List Nm) (x : Mth) (s : Ti) (M : Mem) : Prop := (TbT A x s.1 M ∧ gdR s.1) ∧ (mI M 11 0 103 = b2 s.2 ∧ mI M 11 0 101 = Int32.ofNat (co x).length ∧ mI M 11 0 102 = Int32.ofNat (lr x)) ∧ mL M 117 0 = 20 ∧ mL M 118 0 = 28
theorem gdR.set {R : Tr} {i : Nat} {l t : List Kd} (h : gdR R) (hi : i < R.length) (hl : gdL l) (ht : gdS t) : gdR (R.set i (some (l, t))) := fun j l' t' e => by
  rw [gR_set hi] at e
  by_cases c : j = i
  · rw [if_pos c] at e
    cases e
    exact ⟨hl, ht⟩
  · rw [if_neg c] at e
    exact h j l' t' e
theorem TbT.fr {A : List Nm} {x : Mth} {R : Tr} {F : Nat} {M M' : Mem} (h : TbT A x R M) (hf : Fr F M M') (hF : okF F [519, 114, 115, 116, 5519, 5114, 5115, 5116] = true := by rfl) : TbT A x R M' := by
  have o := fun {b : Nat} (hb : b ∈ [519, 114, 115, 116, 5519, 5114, 5115, 5116]) => okF_in hF hb
  obtain ⟨h1, ⟨l1, l2, l3, l4⟩, h2⟩ := h
  refine ⟨h1, ⟨(hf.L (f := 519) (o (by simp [cd])) 0).trans l1, (hf.L (f := 114) (o (by simp [cd])) 0).trans l2, (hf.L (f := 115) (o (by simp [cd])) 0).trans l3, (hf.L (f := 116) (o (by simp [cd])) 0).trans l4⟩, fun i hi => ⟨(hf.Ia (f := 519) rfl (o (by simp [cd])) 0 i).trans (h2 i hi).1, fun lo st e => ?_⟩⟩
  obtain ⟨⟨a1, a2, a3⟩, a4, a5⟩ := (h2 i hi).2 lo st e
  exact ⟨⟨(hf.Ia (f := 114) rfl (o (by simp [cd])) 0 i).trans a1, a2, a3⟩, fun k hk => ⟨(hf.Ia (f := 115) rfl (o (by simp [cd])) 0 _).trans (a4 k hk).1, (a4 k hk).2⟩, fun k hk => ⟨(hf.Ia (f := 116) rfl (o (by simp [cd])) 0 _).trans (a5 k hk).1, (a5 k hk).2⟩⟩
theorem TJn.fr {A : List Nm} {x : Mth} {s : Ti} {F : Nat} {M M' : Mem} (h : TJn A x s M) (hf : Fr F M M') (hF : okF F [519, 114, 115, 116, 5519, 5114, 5115, 5116, 5117, 5118, 3303, 3301, 3302] = true := by rfl) : TJn A x s M' := by
  have o := fun {b : Nat} (hb : b ∈ [519, 114, 115, 116, 5519, 5114, 5115, 5116, 5117, 5118, 3303, 3301, 3302]) => okF_in hF hb
  exact ⟨⟨h.1.1.fr hf (okF_sub hF rfl), h.1.2⟩, ⟨(hf.I (f := 11) (k := 103) (o (by simp [cd])) 0).trans h.2.1.1, (hf.I (f := 11) (k := 101) (o (by simp [cd])) 0).trans h.2.1.2.1, (hf.I (f := 11) (k := 102) (o (by simp [cd])) 0).trans h.2.1.2.2⟩, (hf.L (f := 117) (o (by simp [cd])) 0).trans h.2.2.1, (hf.L (f := 118) (o (by simp [cd])) 0).trans h.2.2.2⟩
section
variable {A : List Nm} {x : Mth} {R : Tr} {M M' : Mem} {i j : Nat} {l t : List Kd} {κ : Kd}
theorem TbT.new (h : TbT A x R M) (hr : lr x ≤ 20) (hsr : sr x ≤ 20) (hi : i < R.length) (hf : Fr (1716199415032652428745475199770348304317358825035826352348615864796385795849414013030639910165363638744324077847870214509425881311968136126742360969996926976) M M') (e5 : mI M' 519 0 i = 1) (o5 : ∀ j, j ≠ i → mI M' 519 0 j = mI M 519 0 j) (e3 : mI M' 114 0 i = Int32.ofNat t.length) (o3 : ∀ j, j ≠ i → mI M' 114 0 j = mI M 114 0 j) (hl : l.length = lr x) (ht : t.length ≤ sr x) (eL : ∀ q, q < l.length → mI M' 115 0 (20 * i + q) = kt A (gk l q) ∧ kwf A (co x) (gk l q)) (eS : ∀ q, q < t.length → mI M' 116 0 (28 * i + q) = kt A (gk t q) ∧ kwf A (co x) (gk t q)) (o4 : ∀ q, q < 20 * i ∨ 20 * i + 20 ≤ q → mI M' 115 0 q = mI M 115 0 q) (o6 : ∀ q, q < 28 * i ∨ 28 * i + 28 ≤ q → mI M' 116 0 q = mI M 116 0 q) : TbT A x (R.set i (some (l, t))) M' := by
  obtain ⟨h1, ⟨l1, l2, l3, l4⟩, h2⟩ := h
  refine ⟨by rw [List.length_set]; exact h1, ⟨(hf.L (f := 519) rfl 0).trans l1, (hf.L (f := 114) rfl 0).trans l2, (hf.L (f := 115) rfl 0).trans l3, (hf.L (f := 116) rfl 0).trans l4⟩, fun q hq => ?_⟩
  rw [List.length_set] at hq
  rw [gR_set hi]
  by_cases c : q = i
  · subst c
    rw [if_pos rfl]
    refine ⟨e5, fun lo st e => ?_⟩
    cases e
    exact ⟨⟨e3, hl, ht⟩, eL, eS⟩
  · rw [if_neg c, o5 q c]
    refine ⟨(h2 q hq).1, fun lo st e => ?_⟩
    obtain ⟨⟨a1, a2, a3⟩, a4, a5⟩ := (h2 q hq).2 lo st e
    exact ⟨⟨(o3 q c).trans a1, a2, a3⟩, fun k hk => ⟨(o4 _ (by omega)).trans (a4 k hk).1, (a4 k hk).2⟩, fun k hk => ⟨(o6 _ (by omega)).trans (a5 k hk).1, (a5 k hk).2⟩⟩
theorem TbT.setL (h : TbT A x R M) (hr : lr x ≤ 20) (hi : i < R.length) (hR : gR R i = some (l, t)) (hj : j < l.length) (hκ : kwf A (co x) κ) : TbT A x (R.set i (some (l.set j κ, t))) (sI M 115 0 (20 * i + j) (kt A κ)) := by
  have f : Fr (1716199415032652428745475199770348304317358825035826352348615864796385795849414013030639910165363638744324077847870214509425881311968136126742360969996926976) M (sI M 115 0 (20 * i + j) (kt A κ)) := Fr.wIa rfl rfl (Fr.rf _ _)
  obtain ⟨h1, ⟨l1, l2, l3, l4⟩, h2⟩ := h
  have rr : ∀ g q, g ≠ 115 → mI (sI M 115 0 (20 * i + j) (kt A κ)) g 0 q = mI M g 0 q := fun g q hg => by rw [mI_sI, if_neg (fun z => hg z.1)]
  refine ⟨by rw [List.length_set]; exact h1, ⟨l1, l2, l3, l4⟩, fun q hq => ?_⟩
  rw [List.length_set] at hq
  rw [gR_set hi]
  obtain ⟨b1, b2'⟩ := h2 q hq
  by_cases c : q = i
  · subst c
    rw [if_pos rfl, rr _ _ (by decide), b1, hR]
    refine ⟨rfl, fun lo st e => ?_⟩
    cases e
    obtain ⟨⟨a1, a2, a3⟩, a4, a5⟩ := b2' l t hR
    refine ⟨⟨(rr _ _ (by decide)).trans a1, by rw [List.length_set]; exact a2, a3⟩, fun k hk => ?_, fun k hk => by rw [rr _ _ (by decide)]; exact a5 k hk⟩
    rw [List.length_set] at hk
    rw [gk_set hj, mI_sI]
    by_cases e : k = j
    · rw [if_pos ⟨rfl, rfl, by omega⟩, if_pos e]; exact ⟨rfl, hκ⟩
    · rw [if_neg (fun z => e (by omega)), if_neg e]; exact a4 k hk
  · rw [if_neg c, rr _ _ (by decide)]
    refine ⟨b1, fun lo st e => ?_⟩
    obtain ⟨⟨a1, a2, a3⟩, a4, a5⟩ := b2' lo st e
    refine ⟨⟨(rr _ _ (by decide)).trans a1, a2, a3⟩, fun k hk => ?_, fun k hk => by rw [rr _ _ (by decide)]; exact a5 k hk⟩
    have hll : l.length ≤ 20 := by
      have := ((h2 i hi).2 l t hR).1.2.1
      omega
    rw [mI_sI, if_neg (fun z => c (by omega))]
    exact a4 k hk
theorem TbT.setS (h : TbT A x R M) (hsr : sr x ≤ 20) (hi : i < R.length) (hR : gR R i = some (l, t)) (hj : j < t.length) (hκ : kwf A (co x) κ) : TbT A x (R.set i (some (l, t.set j κ))) (sI M 116 0 (28 * i + j) (kt A κ)) := by
  obtain ⟨h1, ⟨l1, l2, l3, l4⟩, h2⟩ := h
  have rr : ∀ g q, g ≠ 116 → mI (sI M 116 0 (28 * i + j) (kt A κ)) g 0 q = mI M g 0 q := fun g q hg => by rw [mI_sI, if_neg (fun z => hg z.1)]
  refine ⟨by rw [List.length_set]; exact h1, ⟨l1, l2, l3, l4⟩, fun q hq => ?_⟩
  rw [List.length_set] at hq
  rw [gR_set hi]
  obtain ⟨b1, b2'⟩ := h2 q hq
  by_cases c : q = i
  · subst c
    rw [if_pos rfl, rr _ _ (by decide), b1, hR]
    refine ⟨rfl, fun lo st e => ?_⟩
    cases e
    obtain ⟨⟨a1, a2, a3⟩, a4, a5⟩ := b2' l t hR
    refine ⟨⟨by rw [List.length_set]; exact (rr _ _ (by decide)).trans a1, a2, by rw [List.length_set]; exact a3⟩, fun k hk => by rw [rr _ _ (by decide)]; exact a4 k hk, fun k hk => ?_⟩
    rw [List.length_set] at hk
    rw [gk_set hj, mI_sI]
    by_cases e : k = j
    · rw [if_pos ⟨rfl, rfl, by omega⟩, if_pos e]; exact ⟨rfl, hκ⟩
    · rw [if_neg (fun z => e (by omega)), if_neg e]; exact a5 k hk
  · rw [if_neg c, rr _ _ (by decide)]
    refine ⟨b1, fun lo st e => ?_⟩
    obtain ⟨⟨a1, a2, a3⟩, a4, a5⟩ := b2' lo st e
    refine ⟨⟨(rr _ _ (by decide)).trans a1, a2, a3⟩, fun k hk => by rw [rr _ _ (by decide)]; exact a4 k hk, fun k hk => ?_⟩
    have htl : t.length ≤ 20 := by
      have := ((h2 i hi).2 l t hR).1.2.2
      omega
    rw [mI_sI, if_neg (fun z => c (by omega))]
    exact a5 k hk
end
