/-! THE MACHINE: kinds at instructions -/
/-- what comes to an instruction, as the check goes through -/
def sqS (W : List Cls) (c : Nat) (x : Mth) : Nat → KSt
  | 0 => (padL x (begL W c x), [], true)
  | a + 1 => match oneS W c x a (sqS W c x a) with
    | .inl _ => ([], [], false)
    | .inr s => s
/-- what is at an instruction -/
def kAt (W : List Cls) (c : Nat) (x : Mth) (a : Nat) : List Kd × List Kd := match frOf x a with
  | none => ((sqS W c x a).1, (sqS W c x a).2.1)
  | some f => (padL x f.1, f.2)
section
variable {W : List Cls} {c : Nat} {x : Mth} {a : Nat}
theorem sqS_succ {s' : KSt} (h : oneS W c x a (sqS W c x a) = .inr s') : sqS W c x (a + 1) = s' := by
  show (match oneS W c x a (sqS W c x a) with | .inl _ => ([], [], false) | .inr s => s) = s'
  rw [h]
theorem allS_at : ∀ n a0, (allS W c x n a0 (sqS W c x a0)).1 = 0 → ∀ a, a0 ≤ a → a < a0 + n → ∃ s', oneS W c x a (sqS W c x a) = .inr s'
  | 0, a0, _, a, h1, h2 => absurd h2 (by omega)
  | n + 1, a0, h, a, h1, h2 => by
    unfold allS at h
    cases e : oneS W c x a0 (sqS W c x a0) with
    | inl r =>
      rw [e] at h
      exact absurd h (oneS_ne e)
    | inr s' =>
      rw [e] at h
      by_cases ea : a = a0
      · rw [ea]; exact ⟨s', e⟩
      · have h : (allS W c x n (a0 + 1) s').1 = 0 := h
        rw [← sqS_succ e] at h
        exact allS_at n (a0 + 1) h a (by omega) (by omega)
/-- what the check says of an instruction -/
def CkA (W : List Cls) (c : Nat) (x : Mth) (a : Nat) : Prop := ∃ s', stepS W c x a (kAt W c x a).1 (kAt W c x a).2 = .inr s' ∧ sqS W c x (a + 1) = s' ∧ (frOf x a = none → (sqS W c x a).2.2 = true) ∧ ∀ f, frOf x a = some f → wrongF x f.1 f.2 = false ∧ ((sqS W c x a).2.2 = true → fitS W (sqS W c x a).1 (sqS W c x a).2.1 f.1 f.2 = 0)
theorem chk_at (h : (chkM W c x).1 = 0) (ha : a < (co x).length) : CkA W c x a := by
  obtain ⟨s', e⟩ := allS_at (co x).length 0 h a (Nat.zero_le _) (by omega)
  refine ⟨s', ?_, sqS_succ e, ?_⟩
  · unfold oneS at e
    unfold kAt
    cases ef : frOf x a with
    | none =>
      rw [ef] at e
      dsimp only at e
      by_cases c1 : (sqS W c x a).2.2 = true
      · rw [if_pos c1] at e; exact e
      · rw [if_neg c1] at e; cases e
    | some f =>
      rw [ef] at e
      obtain ⟨fl, fs⟩ := f
      dsimp only at e
      by_cases c1 : wrongF x fl fs = true
      · rw [if_pos c1] at e; cases e
      rw [if_neg c1] at e
      split at e
      · cases e
      · exact e
  · unfold oneS at e
    cases ef : frOf x a with
    | none =>
      rw [ef] at e
      dsimp only at e
      refine ⟨fun _ => Classical.byContradiction (fun z => ?_), fun f z => by cases z⟩
      rw [if_neg z] at e; cases e
    | some f =>
      rw [ef] at e
      obtain ⟨fl, fs⟩ := f
      dsimp only at e
      refine ⟨(by intro z; cases z), fun f' z => ?_⟩
      cases z
      by_cases c1 : wrongF x fl fs = true
      · rw [if_pos c1] at e; cases e
      refine ⟨by simpa using c1, fun z => Classical.byContradiction (fun y => ?_)⟩
      rw [if_neg c1, if_pos ⟨z, y⟩] at e; cases e
/-- what stepS says, in pieces -/
theorem stepS_in {lo st : List Kd} {s' : KSt} (h : stepS W c x a lo st = .inr s') : handS W x lo a (hs x) = 0 ∧ takenS W c x (gin (co x) a) lo st = 0 ∧ ownS W c x (gin (co x) a) lo st = 0 ∧ (stS W c x (gin (co x) a) a lo st).length ≤ sr x ∧ thenS W x (gin (co x) a) a (loS W c (gin (co x) a) lo st) (stS W c x (gin (co x) a) a lo st) = 0 ∧ (goesOn (gin (co x) a).1 → a + 1 < (co x).length ∨ a + 1 ≠ (co x).length) ∧ (goesOn (gin (co x) a).1 → s' = (loS W c (gin (co x) a) lo st, stS W c x (gin (co x) a) a lo st, true)) := by
  unfold stepS at h
  by_cases c1 : handS W x lo a (hs x) ≠ 0
  · rw [if_pos c1] at h; cases h
  rw [if_neg c1] at h
  by_cases c2 : takenS W c x (gin (co x) a) lo st ≠ 0
  · rw [if_pos c2] at h; cases h
  rw [if_neg c2] at h
  by_cases c3 : ownS W c x (gin (co x) a) lo st ≠ 0
  · rw [if_pos c3] at h; cases h
  rw [if_neg c3] at h
  by_cases c4 : sr x < (stS W c x (gin (co x) a) a lo st).length
  · rw [if_pos c4] at h; cases h
  rw [if_neg c4] at h
  by_cases c5 : thenS W x (gin (co x) a) a (loS W c (gin (co x) a) lo st) (stS W c x (gin (co x) a) a lo st) ≠ 0
  · rw [if_pos c5] at h; cases h
  rw [if_neg c5] at h
  by_cases c6 : goesOn (gin (co x) a).1 ∧ a + 1 = (co x).length
  · rw [if_pos c6] at h; cases h
  rw [if_neg c6] at h
  refine ⟨Classical.not_not.mp c1, Classical.not_not.mp c2, Classical.not_not.mp c3, by omega, Classical.not_not.mp c5, fun z => Or.inr (fun y => c6 ⟨z, y⟩), fun z => ?_⟩
  rw [if_pos z] at h
  cases h; rfl
theorem padL_len {fl : List Kd} (h : fl.length ≤ lr x) : (padL x fl).length = lr x := by
  unfold padL; rw [List.length_append, List.length_replicate]; omega
theorem loS_len {i : Ins} {lo st : List Kd} : (loS W c i lo st).length = lo.length := by
  unfold loS
  split
  · simp
  split
  · simp
  split
  · simp
  · rfl
theorem wrongF_in {fl fs : List Kd} (h : wrongF x fl fs = false) : fl.length ≤ lr x ∧ fs.length ≤ sr x := by
  unfold wrongF at h
  rw [Bool.or_eq_false_iff, Bool.or_eq_false_iff] at h
  have h1 := of_decide_eq_false h.1.1
  have h2 := of_decide_eq_false h.1.2
  exact ⟨by omega, by omega⟩
/-- locals are as many as there is room -/
theorem sq_len (hb : (begL W c x).length ≤ lr x) (h : (chkM W c x).1 = 0) : ∀ a, a ≤ (co x).length → (sqS W c x a).2.2 = true → (sqS W c x a).1.length = lr x
  | 0, _, _ => padL_len hb
  | a + 1, ha, h2 => by
    obtain ⟨s', e1, e2, e3, e4⟩ := chk_at h (show a < (co x).length by omega)
    obtain ⟨-, -, -, -, -, -, g⟩ := stepS_in e1
    by_cases c1 : goesOn (gin (co x) a).1
    · rw [e2, g c1]
      show (loS W c _ _ _).length = _
      rw [loS_len]
      unfold kAt
      cases ef : frOf x a with
      | none => exact sq_len hb h a (by omega) (e3 ef)
      | some f => exact padL_len (wrongF_in (e4 f ef).1).1
    · rw [e2] at h2
      unfold stepS at e1
      obtain ⟨q1, q2, q3, q4, q5, -⟩ := stepS_in (show stepS W c x a (kAt W c x a).1 (kAt W c x a).2 = .inr s' from e1)
      rw [if_neg (fun z => z q1), if_neg (fun z => z q2), if_neg (fun z => z q3), if_neg (by omega), if_neg (fun z => z q5), if_neg (fun z => c1 z.1), if_neg c1] at e1
      cases e1; cases h2
theorem kAt_len (hb : (begL W c x).length ≤ lr x) (h : (chkM W c x).1 = 0) (ha : a < (co x).length) : (kAt W c x a).1.length = lr x := by
  obtain ⟨s', e1, e2, e3, e4⟩ := chk_at h ha
  unfold kAt
  cases ef : frOf x a with
  | none => exact sq_len hb h a (by omega) (e3 ef)
  | some f => exact padL_len (wrongF_in (e4 f ef).1).1
theorem fitL_at {W : List Cls} : ∀ {lo fl : List Kd}, fitL W lo fl = 0 → ∀ i, i < lo.length → fitK W (gk lo i) (fl.getD i uns) = 0
  | [], _, _, i, hi => absurd hi (Nat.not_lt_zero i)
  | a :: lo, fl, h, i, hi => by
    unfold fitL at h
    have q : fitK W a (fl.headD uns) = 0 ∧ fitL W lo fl.tail = 0 := by
      by_cases c1 : fitK W a (fl.headD uns) = 0
      · rw [if_pos c1] at h; exact ⟨c1, h⟩
      · rw [if_neg c1] at h; exact absurd h c1
    cases i with
    | zero =>
      have : fl.getD 0 uns = fl.headD uns := by cases fl <;> rfl
      rw [this]; exact q.1
    | succ i =>
      have := fitL_at q.2 i (by simpa using hi)
      have e : fl.getD (i + 1) uns = fl.tail.getD i uns := by cases fl <;> simp
      rw [e]; exact this
theorem padL_at {fl : List Kd} {i : Nat} (hi : i < lr x) : gk (padL x fl) i = fl.getD i uns := by
  show (fl ++ _).getD i _ = _
  rw [List.getD_eq_getElem?_getD, List.getD_eq_getElem?_getD]
  by_cases c : i < fl.length
  · rw [List.getElem?_append_left c, List.getElem?_eq_getElem c]; rfl
  · rw [List.getElem?_append_right (by omega), List.getElem?_replicate, if_pos (by omega), List.getElem?_eq_none (show fl.length ≤ i by omega)]; rfl
end
/-! values of kinds -/
/-- and a reference is one -/
def cv (W : List Cls) (s : Ms) (c : Nat) (C : List Ins) (κ : Kd) (v : Vl) : Prop := cf W s c C κ v ∧ (v.2 = true → vRf s v.1)
def cvL (W : List Cls) (s : Ms) (c : Nat) (C : List Ins) (ks : List Kd) (vs : List Vl) : Prop := ∀ i, i < ks.length → cv W s c C (gk ks i) (lv vs i)
/-- references of one state are those of another one -/
def sle (s s' : Ms) : Prop := ∀ r, vRf s r → vRf s' r ∧ clR s' r = clR s r
theorem sle.rf (s : Ms) : sle s s := fun _ h => ⟨h, rfl⟩
theorem sle.trans {s s1 s2 : Ms} (h : sle s s1) (h1 : sle s1 s2) : sle s s2 := fun r hr => ⟨(h1 r (h r hr).1).1, ((h1 r (h r hr).1).2).trans (h r hr).2⟩
section
variable {W : List Cls} {s s' : Ms} {c : Nat} {C : List Ins} {κ κ' : Kd} {v : Vl}
theorem vRf.z : vRf s 0 := ⟨0, rfl, Or.inl rfl⟩
theorem cv.sle (h : cv W s c C κ v) (hs : sle s s') : cv W s' c C κ v := by
  obtain ⟨⟨h0, h1, h2, h3, h4, h5⟩, hv⟩ := h
  have hc : v.2 = true → clR s' v.1 = clR s v.1 := fun z => (hs _ (hv z)).2
  refine ⟨⟨h0, h1, fun z => ⟨(h2 z).1, ?_⟩, fun z => ⟨(h3 z).1, ?_⟩, fun z => ⟨(h4 z).1, (h4 z).2.1, ?_⟩, fun z => ⟨(h5 z).1, (h5 z).2.1, ?_⟩⟩, fun z => (hs _ (hv z)).1⟩
  · rw [hc (h2 z).1]; exact (h2 z).2
  · rw [hc (h3 z).1]; exact (h3 z).2
  · rw [hc (h4 z).1]; exact (h4 z).2.2
  · rw [hc (h5 z).1]; exact (h5 z).2.2
theorem cvL.sle {ks : List Kd} {vs : List Vl} (h : cvL W s c C ks vs) (hs : sle s s') : cvL W s' c C ks vs := fun i hi => (h i hi).sle hs
theorem cv.fit (hB : BI W) (h : cv W s c C κ v) (hf : fitK W κ κ' = 0) : cv W s c C κ' v := ⟨h.1.fit hB hf, h.2⟩
theorem cv.num {x : Int32} : cv W s c C (0, []) (x, false) := ⟨cf.num rfl, fun z => by cases z⟩
theorem cvL.fl (hB : BI W) {x : Mth} {lo fl : List Kd} {vs : List Vl} (h : cvL W s c C lo vs) (hl : lo.length = lr x) (hf : fitL W lo fl = 0) (hfl : fl.length ≤ lr x) : cvL W s c C (padL x fl) vs := fun i hi => by
  rw [padL_len hfl] at hi
  rw [padL_at hi]
  exact (h i (by omega)).fit hB (fitL_at hf i (by omega))
theorem cvL.ft (hB : BI W) {st fs : List Kd} {vs : List Vl} (h : cvL W s c C st vs) (hl : st.length = fs.length) (hf : fitL W st fs = 0) : cvL W s c C fs vs := fun i hi => by
  have := (h i (by omega)).fit hB (fitL_at hf i (by omega))
  have e : fs.getD i uns = gk fs i := by
    rw [List.getD_eq_getElem?_getD, List.getElem?_eq_getElem hi]
    show _ = fs.getD i _
    rw [List.getD_eq_getElem?_getD, List.getElem?_eq_getElem hi]; rfl
  rw [e] at this; exact this
end
