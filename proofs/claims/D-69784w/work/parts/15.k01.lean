/-! WORLDS GROW: what is checked stays checked -/
section
variable {W W' : List Cls} {c a n : Nat} {x : Mth} {i : Ins} {lo st : List Kd}
theorem upN_pre (h : W <+: W') (hc : c < W.length) : upN W' c = upN W c := by
  unfold upN
  rw [isFc_pre h hc, gc_pre h hc]
theorem climb_pre (h : W <+: W') {b : Nm} : ∀ {n : Nat} {x : Nm}, climb W b n x = 0 → climb W' b n x = 0
  | 0, _, e => absurd e (by show ¬ (37 : Nat) = 0; decide)
  | n + 1, x, e => by
    unfold climb at e ⊢
    by_cases c1 : x = b
    · rw [if_pos c1]
    · rw [if_neg c1] at e ⊢
      cases ef : fnd W x with
      | none => rw [ef] at e; exact absurd e (by show ¬ (43 : Nat) = 0; decide)
      | some d =>
        rw [ef] at e
        rw [fnd_pre h ef]
        have e : (if d = 0 then 37 else climb W b n (upN W d)) = 0 := e
        show (if d = 0 then 37 else climb W' b n (upN W' d)) = 0
        by_cases c2 : d = 0
        · rw [if_pos c2] at e; exact absurd e (by decide)
        · rw [if_neg c2] at e ⊢
          rw [upN_pre h (fnd_lt ef)]
          exact climb_pre h e
theorem fitC_pre (h : W <+: W') {p q : Nm} (e : fitC W p q = 0) : fitC W' p q = 0 := by
  unfold fitC at e ⊢
  by_cases c1 : q = nThing
  · rw [if_pos c1]
  · rw [if_neg c1] at e ⊢
    cases ef : fnd W q with
    | none => rw [ef] at e; exact absurd e (by show ¬ (43 : Nat) = 0; decide)
    | some d =>
      rw [ef] at e
      rw [fnd_pre h ef]
      have e : (if isFc W d = true then 0 else climb W q 52 p) = 0 := e
      show (if isFc W' d = true then 0 else climb W' q 52 p) = 0
      rw [isFc_pre h (fnd_lt ef)]
      by_cases c2 : isFc W d = true
      · rw [if_pos c2]
      · rw [if_neg c2] at e ⊢
        exact climb_pre h e
theorem fitK_pre (h : W <+: W') {p q : Kd} (e : fitK W p q = 0) : fitK W' p q = 0 := by
  unfold fitK at e ⊢
  by_cases c1 : q.1 = -2 ∨ p = q
  · rw [if_pos c1]
  rw [if_neg c1] at e ⊢
  by_cases c2 : p.1 = -1
  · rw [if_pos c2] at e ⊢; exact e
  rw [if_neg c2] at e ⊢
  by_cases c3 : p.1 = 1
  · rw [if_pos c3] at e ⊢; exact e
  rw [if_neg c3] at e ⊢
  by_cases c4 : p.1 = 2 ∧ q.1 = 2
  · rw [if_pos c4] at e ⊢; exact fitC_pre h e
  · rw [if_neg c4] at e; exact absurd e (by decide)
theorem fitL_pre (h : W <+: W') : ∀ {lo fl : List Kd}, fitL W lo fl = 0 → fitL W' lo fl = 0
  | [], _, _ => rfl
  | κ :: lo, fl, e => by
    unfold fitL at e ⊢
    by_cases c1 : fitK W κ (fl.headD uns) = 0
    · rw [if_pos c1] at e
      rw [if_pos (fitK_pre h c1)]
      exact fitL_pre h e
    · rw [if_neg c1] at e; exact absurd e c1
theorem fitS_pre (h : W <+: W') {fl fs : List Kd} (e : fitS W lo st fl fs = 0) : fitS W' lo st fl fs = 0 := by
  unfold fitS at e ⊢
  by_cases c1 : fitL W lo fl = 0
  · rw [if_neg (fun z => z c1)] at e
    rw [if_neg (fun z => z (fitL_pre h c1))]
    by_cases c2 : st.length ≠ fs.length
    · rw [if_pos c2] at e; exact absurd e (by decide)
    · rw [if_neg c2] at e ⊢; exact fitL_pre h e
  · rw [if_pos c1] at e; exact absurd e c1
theorem goesS_pre (h : W <+: W') {t : Nat} (e : goesS W x lo st t = 0) : goesS W' x lo st t = 0 := by
  unfold goesS at e ⊢
  cases ef : frOf x t with
  | none => rw [ef] at e; exact e
  | some f =>
    obtain ⟨fl, fs⟩ := f
    rw [ef] at e
    have e : (if wrongF x fl fs = true then 38 else fitS W lo st fl fs) = 0 := e
    show (if wrongF x fl fs = true then 38 else fitS W' lo st fl fs) = 0
    by_cases c1 : wrongF x fl fs = true
    · rw [if_pos c1] at e; exact absurd e (by decide)
    · rw [if_neg c1] at e ⊢; exact fitS_pre h e
theorem handOne_pre (h : W <+: W') {H : Hnd} (e : handOne W x lo H = 0) : handOne W' x lo H = 0 := by
  unfold handOne at e ⊢
  cases ef : frOf x H.2.2.1 with
  | none => rw [ef] at e; exact e
  | some f =>
    obtain ⟨fl, fs⟩ := f
    rw [ef] at e
    have e : (if wrongF x fl fs = true then 38 else if fs.length ≠ 1 then 37 else if fitL W lo fl ≠ 0 then fitL W lo fl else fitK W (2, if H.2.2.2 = nAny then nFault else H.2.2.2) (gk fs 0)) = 0 := e
    show (if wrongF x fl fs = true then 38 else if fs.length ≠ 1 then 37 else if fitL W' lo fl ≠ 0 then fitL W' lo fl else fitK W' (2, if H.2.2.2 = nAny then nFault else H.2.2.2) (gk fs 0)) = 0
    by_cases c1 : wrongF x fl fs = true
    · rw [if_pos c1] at e; exact absurd e (by decide)
    rw [if_neg c1] at e ⊢
    by_cases c2 : fs.length ≠ 1
    · rw [if_pos c2] at e; exact absurd e (by decide)
    rw [if_neg c2] at e ⊢
    by_cases c3 : fitL W lo fl = 0
    · rw [if_neg (fun z => z c3)] at e
      rw [if_neg (fun z => z (fitL_pre h c3))]
      exact fitK_pre h e
    · rw [if_pos c3] at e; exact absurd e c3
theorem handS_pre (h : W <+: W') : ∀ {H : List Hnd}, handS W x lo a H = 0 → handS W' x lo a H = 0
  | [], _ => rfl
  | H :: l, e => by
    unfold handS at e ⊢
    by_cases c1 : a < H.1 ∨ H.2.1 ≤ a
    · rw [if_pos c1] at e ⊢; exact handS_pre h e
    rw [if_neg c1] at e ⊢
    by_cases c2 : handOne W x lo H = 0
    · rw [if_pos c2] at e
      rw [if_pos (handOne_pre h c2)]
      exact handS_pre h e
    · rw [if_neg c2] at e; exact absurd e c2
theorem pickS_pre (h : W <+: W') {ts : List Nat} : ∀ {n k : Nat}, pickS W x lo st ts n k = 0 → pickS W' x lo st ts n k = 0
  | 0, _, _ => rfl
  | n + 1, k, e => by
    unfold pickS at e ⊢
    by_cases c2 : goesS W x lo st (gtn ts (k % ts.length)) = 0
    · rw [if_pos c2] at e
      rw [if_pos (goesS_pre h c2)]
      exact pickS_pre h e
    · rw [if_neg c2] at e; exact absurd e c2
theorem thenS_pre (h : W <+: W') (e : thenS W x i a lo st = 0) : thenS W' x i a lo st = 0 := by
  unfold thenS at e ⊢
  by_cases c1 : i.1 = 5 ∨ i.1 = 6 ∨ isMk i
  · rw [if_pos c1] at e ⊢; exact handS_pre h e
  rw [if_neg c1] at e ⊢
  by_cases c2 : isJ i.1
  · rw [if_pos c2] at e ⊢; exact goesS_pre h e
  rw [if_neg c2] at e ⊢
  by_cases c3 : i.1 = 40
  · rw [if_pos c3] at e ⊢; exact pickS_pre h e
  · rw [if_neg c3]
theorem wOne_pre (h : W <+: W') {t : Wt} {κ : Kd} : (wOne W t κ = 0 → wOne W' t κ = 0) ∧ (wOne W t κ = 39 ↔ wOne W' t κ = 39) := by
  unfold wOne
  by_cases c1 : t.1 = 3
  · rw [if_pos c1, if_pos c1]; exact ⟨fun z => z, Iff.rfl⟩
  rw [if_neg c1, if_neg c1]
  by_cases c2 : t.1 = 2
  · rw [if_pos c2, if_pos c2]; exact ⟨fun z => z, Iff.rfl⟩
  rw [if_neg c2, if_neg c2]
  by_cases c3 : t.1 = 0 ∧ t.2.1 = 0
  · rw [if_pos c3, if_pos c3]; exact ⟨fun z => z, Iff.rfl⟩
  rw [if_neg c3, if_neg c3]
  by_cases c4 : umK κ = true
  · rw [if_pos c4, if_pos c4]; exact ⟨fun z => z, Iff.rfl⟩
  rw [if_neg c4, if_neg c4]
  by_cases c5 : t.1 = 1
  · rw [if_pos c5, if_pos c5]; exact ⟨fun z => z, Iff.rfl⟩
  rw [if_neg c5, if_neg c5]
  have n39 : ∀ V : List Cls, ¬ (if fitK V κ t.2 = 0 then 0 else if fitK V κ t.2 = 43 then 43 else 32) = 39 := fun V z => by
    split at z
    · exact absurd z (by decide)
    · split at z <;> exact absurd z (by decide)
  refine ⟨fun z => ?_, ⟨fun z => absurd z (n39 W), fun z => absurd z (n39 W')⟩⟩
  by_cases c6 : fitK W κ t.2 = 0
  · rw [if_pos (fitK_pre h c6)]
  · rw [if_neg c6] at z
    split at z <;> exact absurd z (by decide)
theorem wFst_pre (h : W <+: W') : ∀ {ws : List Wt} {k : Nat}, wFst W st k ws = 0 → wFst W' st k ws = 0
  | [], _, _ => rfl
  | t :: ts, k, e => by
    unfold wFst at e ⊢
    obtain ⟨p0, p39⟩ := wOne_pre h (t := t) (κ := tp st k)
    by_cases c1 : wOne W t (tp st k) = 0 ∨ wOne W t (tp st k) = 39
    · rw [if_pos c1] at e
      rw [if_pos (c1.imp p0 p39.mp)]
      exact wFst_pre h e
    · rw [if_neg c1] at e; exact absurd (Or.inl e) c1
theorem wUn_pre (h : W <+: W') : ∀ {ws : List Wt} {k : Nat}, wUn W' st k ws = wUn W st k ws
  | [], _ => rfl
  | t :: ts, k => by
    unfold wUn
    rw [wUn_pre h]
    congr 1
    rw [decide_eq_decide]
    exact (wOne_pre h).2.symm
theorem takeS_pre (h : W <+: W') {ws : List Wt} (e : takeS W st ws = 0) : takeS W' st ws = 0 := by
  unfold takeS at e ⊢
  by_cases c1 : st.length < ws.length
  · rw [if_pos c1] at e; exact absurd e (by decide)
  rw [if_neg c1] at e ⊢
  by_cases c2 : wFst W st 0 ws = 0
  · rw [if_neg (fun z => z c2)] at e
    rw [if_neg (fun z => z (wFst_pre h c2)), wUn_pre h]
    exact e
  · rw [if_pos c2] at e; exact absurd e c2
theorem wlist_pre (h : W <+: W') (hc : c < W.length) : wlist W' c x i = wlist W c x i := by
  unfold wlist
  rw [gc_pre h hc]
theorem takenS_pre (h : W <+: W') (hc : c < W.length) (e : takenS W c x i lo st = 0) : takenS W' c x i lo st = 0 := by
  unfold takenS at e ⊢
  by_cases c1 : (3 ≤ i.1 ∧ i.1 ≤ 7) ∧ lr x ≤ iL i
  · rw [if_pos c1] at e; exact absurd e (by decide)
  rw [if_neg c1] at e ⊢
  rw [wlist_pre h hc]
  by_cases c2 : takeS W st (wlist W c x i) = 0
  · rw [if_neg (fun z => z c2)] at e
    rw [if_neg (fun z => z (takeS_pre h c2))]
    exact e
  · rw [if_pos c2] at e; exact absurd e c2
theorem ownS_pre (h : W <+: W') (hc : c < W.length) : ownS W' c x i lo st = ownS W c x i lo st := by
  unfold ownS mkRight near
  rw [gc_pre h hc, upN_pre h hc]
theorem made_pre (h : W <+: W') (hc : c < W.length) {κ0 : Kd} : made W' c i κ0 = made W c i κ0 := by
  funext κ
  unfold made
  rw [gc_pre h hc]
theorem loS_pre (h : W <+: W') (hc : c < W.length) : loS W' c i lo st = loS W c i lo st := by
  unfold loS
  rw [made_pre h hc]
theorem stS_pre (h : W <+: W') (hc : c < W.length) : stS W' c x i a lo st = stS W c x i a lo st := by
  unfold stS restS
  rw [made_pre h hc, wlist_pre h hc]
theorem stepS_pre (h : W <+: W') (hc : c < W.length) {s : KSt} (e : stepS W c x a lo st = .inr s) : stepS W' c x a lo st = .inr s := by
  unfold stepS at e ⊢
  rw [ownS_pre h hc, loS_pre h hc, stS_pre h hc]
  by_cases c1 : handS W x lo a (hs x) = 0
  · rw [if_neg (fun z => z c1)] at e
    rw [if_neg (fun z => z (handS_pre h c1))]
    by_cases c2 : takenS W c x (gin (co x) a) lo st = 0
    · rw [if_neg (fun z => z c2)] at e
      rw [if_neg (fun z => z (takenS_pre h hc c2))]
      by_cases c3 : ownS W c x (gin (co x) a) lo st = 0
      · rw [if_neg (fun z => z c3)] at e ⊢
        by_cases c4 : sr x < (stS W c x (gin (co x) a) a lo st).length
        · rw [if_pos c4] at e; cases e
        rw [if_neg c4] at e ⊢
        by_cases c5 : thenS W x (gin (co x) a) a (loS W c (gin (co x) a) lo st) (stS W c x (gin (co x) a) a lo st) = 0
        · rw [if_neg (fun z => z c5)] at e
          rw [if_neg (fun z => z (thenS_pre h c5))]
          exact e
        · rw [if_pos c5] at e; cases e
      · rw [if_pos c3] at e; cases e
    · rw [if_pos c2] at e; cases e
  · rw [if_pos c1] at e; cases e
theorem oneS_pre (h : W <+: W') (hc : c < W.length) {s s' : KSt} (e : oneS W c x a s = .inr s') : oneS W' c x a s = .inr s' := by
  unfold oneS at e ⊢
  cases ef : frOf x a with
  | none =>
    rw [ef] at e
    have e : (if s.2.2 = true then stepS W c x a s.1 s.2.1 else .inl 36) = .inr s' := e
    show (if s.2.2 = true then stepS W' c x a s.1 s.2.1 else .inl 36) = .inr s'
    by_cases c1 : s.2.2 = true
    · rw [if_pos c1] at e ⊢; exact stepS_pre h hc e
    · rw [if_neg c1] at e; cases e
  | some f =>
    obtain ⟨fl, fs⟩ := f
    rw [ef] at e
    have e : (if wrongF x fl fs = true then .inl 38 else if s.2.2 = true ∧ fitS W s.1 s.2.1 fl fs ≠ 0 then .inl (fitS W s.1 s.2.1 fl fs) else stepS W c x a (padL x fl) fs) = .inr s' := e
    show (if wrongF x fl fs = true then .inl 38 else if s.2.2 = true ∧ fitS W' s.1 s.2.1 fl fs ≠ 0 then .inl (fitS W' s.1 s.2.1 fl fs) else stepS W' c x a (padL x fl) fs) = .inr s'
    by_cases c1 : wrongF x fl fs = true
    · rw [if_pos c1] at e; cases e
    rw [if_neg c1] at e ⊢
    by_cases c2 : s.2.2 = true ∧ fitS W s.1 s.2.1 fl fs ≠ 0
    · rw [if_pos c2] at e; cases e
    rw [if_neg c2] at e
    have c3 : ¬ (s.2.2 = true ∧ fitS W' s.1 s.2.1 fl fs ≠ 0) := fun z => z.2 (fitS_pre h (Decidable.byContradiction (fun q => c2 ⟨z.1, q⟩)))
    rw [if_neg c3]
    exact stepS_pre h hc e
theorem begL_pre (h : W <+: W') (hc : c < W.length) : begL W' c x = begL W c x := by
  unfold begL
  rw [gc_pre h hc]
theorem allS_pre (h : W <+: W') (hc : c < W.length) : ∀ {n a : Nat} {s : KSt}, (allS W c x n a s).1 = 0 → allS W' c x n a s = allS W c x n a s
  | 0, _, _, _ => rfl
  | n + 1, a, s, e => by
    unfold allS at e ⊢
    cases e1 : oneS W c x a s with
    | inl r =>
      rw [e1] at e
      exact absurd e (oneS_ne e1)
    | inr s' =>
      rw [e1] at e
      rw [oneS_pre h hc e1]
      exact allS_pre h hc e
theorem chkM_pre (h : W <+: W') (hc : c < W.length) (e : (chkM W c x).1 = 0) : chkM W' c x = chkM W c x := by
  unfold chkM at e ⊢
  rw [begL_pre h hc]
  exact allS_pre h hc e
theorem sqS_pre (h : W <+: W') (hc : c < W.length) (e : (chkM W c x).1 = 0) : ∀ {a : Nat}, a ≤ (co x).length → sqS W' c x a = sqS W c x a
  | 0, _ => by
    show (padL x (begL W' c x), [], true) = (padL x (begL W c x), [], true)
    rw [begL_pre h hc]
  | a + 1, ha => by
    obtain ⟨s', e1⟩ := allS_at (co x).length 0 e a (Nat.zero_le _) (by omega)
    unfold sqS
    rw [sqS_pre h hc e (a := a) (by omega), e1, oneS_pre h hc e1]
theorem kAt_pre (h : W <+: W') (hc : c < W.length) (e : (chkM W c x).1 = 0) (ha : a < (co x).length) : kAt W' c x a = kAt W c x a := by
  unfold kAt
  rw [sqS_pre h hc e (by omega)]
end
