theorem nc_lit {B A : List Nm} {M : Mem} (h : NC B A M) {i : Nat} {x nm : Nm} (e : A0[i]? = some x) (hm : nm ∈ A) : nc A nm = Int32.ofNat i ↔ nm = x := by
  have hx := h.2.1.at e
  have hl := h.len
  rw [← nc_at h.1 hx]
  exact nc_inj (by omega) hm (List.mem_of_getElem? hx)
theorem c_isNoClass {B A : List Nm} {nm : Nm} {Q : Int32 → Mem → Prop} {M : Mem} (h : NC B A M) (hm : nm ∈ A)
    (hQ : Q (b2 (decide (nm ∈ noCls ∨ nm = nMake ∨ nm = nStart))) M) : w_Reader_isNoClass 0 (nc A nm) Q M := by
  unfold w_Reader_isNoClass
  have y : (nm ∈ noCls ∨ nm = nMake ∨ nm = nStart) → Q 1 M := fun q => by rw [decide_eq_true q] at hQ; exact hQ
  by_cases c1 : nm = nNum
  · exact itp ((nc_lit h (i := 1) rfl hm).mpr c1) (y (Or.inl (by rw [c1]; simp [noCls])))
  refine itn (fun q => c1 ((nc_lit h (i := 1) rfl hm).mp q)) ?_
  by_cases c2 : nm = nRow
  · exact itp ((nc_lit h (i := 73) rfl hm).mpr c2) (y (Or.inl (by rw [c2]; simp [noCls])))
  refine itn (fun q => c2 ((nc_lit h (i := 73) rfl hm).mp q)) ?_
  by_cases c3 : nm = nNone
  · exact itp ((nc_lit h (i := 74) rfl hm).mpr c3) (y (Or.inl (by rw [c3]; simp [noCls])))
  refine itn (fun q => c3 ((nc_lit h (i := 74) rfl hm).mp q)) ?_
  by_cases c4 : nm = nNull
  · exact itp ((nc_lit h (i := 2) rfl hm).mpr c4) (y (Or.inl (by rw [c4]; simp [noCls])))
  refine itn (fun q => c4 ((nc_lit h (i := 2) rfl hm).mp q)) ?_
  by_cases c5 : nm = nUnset
  · exact itp ((nc_lit h (i := 75) rfl hm).mpr c5) (y (Or.inl (by rw [c5]; simp [noCls])))
  refine itn (fun q => c5 ((nc_lit h (i := 75) rfl hm).mp q)) ?_
  by_cases c6 : nm = nUnmade
  · exact itp ((nc_lit h (i := 76) rfl hm).mpr c6) (y (Or.inl (by rw [c6]; simp [noCls])))
  refine itn (fun q => c6 ((nc_lit h (i := 76) rfl hm).mp q)) ?_
  by_cases c7 : nm = nAny
  · exact itp ((nc_lit h (i := 77) rfl hm).mpr c7) (y (Or.inl (by rw [c7]; simp [noCls])))
  refine itn (fun q => c7 ((nc_lit h (i := 77) rfl hm).mp q)) ?_
  by_cases c8 : nm = nMake
  · exact itp ((nc_lit h (i := 79) rfl hm).mpr c8) (y (Or.inr (Or.inl c8)))
  refine itn (fun q => c8 ((nc_lit h (i := 79) rfl hm).mp q)) ?_
  by_cases c9 : nm = nStart
  · exact itp ((nc_lit h (i := 80) rfl hm).mpr c9) (y (Or.inr (Or.inr c9)))
  refine itn (fun q => c9 ((nc_lit h (i := 80) rfl hm).mp q)) ?_
  rw [decide_eq_false (by simp [noCls, c1, c2, c3, c4, c5, c6, c7, c8, c9])] at hQ
  exact hQ
theorem kd_of {A : List Nm} {ts : List Tok} {M : Mem} {j : Nat} (h : TokC A (hd ts) M) (q : mR M 2 0 3 = some (0, 100 + j)) : (if (hd ts).1 = 0 then 3 else if (hd ts).1 = 1 then 4 else if (hd ts).1 = 2 ∨ (hd ts).1 = 3 then 0 else if (hd ts).1 = 4 then 1 else 2) = j := by
  have := h.kind.symm.trans q
  simpa using this
theorem c_className {B : List Nm} {r n : Nat} {p : Nat → Int32} {to : Nat} {A : List Nm} {ts : List Tok} {Q : Int32 → Mem → Prop} {X : Mem → Prop} {M : Mem} (hR : RS B r n p to A ts M)
    (hQ : ∀ A' nm ts' M', pCls ts = .inr (nm, ts') → A <+: A' → nm ∈ A → RS B r n p to A' ts' M' → Q (nc A nm) M') (hX : ∀ A' e M', pCls ts = .inl e → A <+: A' → Thr B A' e M' → X M') : w_Reader_className 0 Q X M := by
  unfold w_Reader_className
  obtain ⟨h1, h2, h3⟩ := hR.hd
  have bad : ¬ ((hd ts).1 = 2 ∧ (hd ts).2.1 ∉ noCls) → w_Reader_className_j27 0 Q X M := fun c => by
    unfold w_Reader_className_j27
    exact c_wrong hR (fun M' h => hX A _ M' (if_neg c) (List.prefix_refl _) h)
  refine ⟨h1.isK, ?_⟩
  by_cases c : (hd ts).1 = 2 ∨ (hd ts).1 = 3
  · obtain ⟨k1, k2, k3⟩ := h1.name c
    refine itp k1 ?_
    rw [k2]
    refine c_isNoClass hR.1 k3 ?_
    by_cases c2 : (hd ts).2.1 ∈ noCls ∨ (hd ts).2.1 = nMake ∨ (hd ts).2.1 = nStart
    · rw [decide_eq_true c2]
      refine itn (by decide) (bad (fun q => ?_))
      obtain ⟨-, -, m1, m2⟩ := h2.2.2.1 q.1
      rcases c2 with x | x | x
      · exact q.2 x
      · exact m1 x
      · exact m2 x
    · rw [decide_eq_false c2]
      refine itp (by decide) ?_
      have e2 : (hd ts).1 = 2 := by
        rcases c with e | e
        · exact e
        · rcases h2.2.2.2 e with x | x
          · exact absurd (Or.inr (Or.inl x)) c2
          · exact absurd (Or.inr (Or.inr x)) c2
      refine c_rnext hR (by omega) (fun A' M' q1 q2 => ?_)
      rw [k2]
      exact hQ A' _ _ M' (if_pos ⟨e2, fun q => c2 (Or.inl q)⟩) q1 k3 q2
  · exact itn (fun q => c (kd_name.mp (kd_of (j := 0) h1 q))) (bad (fun q => c (Or.inl q.1)))
theorem c_numberR {B : List Nm} {r n : Nat} {p : Nat → Int32} {to : Nat} {A : List Nm} {ts : List Tok} {Q : Int32 → Mem → Prop} {X : Mem → Prop} {M : Mem} {lo hi : Int32} (hR : RS B r n p to A ts M)
    (hQ : ∀ A' v ts' M', pNum lo hi ts = .inr (v, ts') → A <+: A' → RS B r n p to A' ts' M' → Q v M') (hX : ∀ A' e M', pNum lo hi ts = .inl e → A <+: A' → Thr B A' e M' → X M') : w_Reader_number 0 lo hi Q X M := by
  unfold w_Reader_number
  obtain ⟨h1, h2, h3⟩ := hR.hd
  have bad : ¬ ((hd ts).1 = 4 ∧ lo ≤ (hd ts).2.2.1 ∧ (hd ts).2.2.1 ≤ hi) → w_Reader_number_j28 0 Q X M := fun c => by
    unfold w_Reader_number_j28
    exact c_wrong hR (fun M' h => hX A _ M' (if_neg c) (List.prefix_refl _) h)
  refine ⟨h1.isK, ?_⟩
  by_cases c : (hd ts).1 = 4
  · have hk := h1.2
    rw [if_neg (by omega), if_neg (by omega), if_neg (by omega), if_pos c] at hk
    refine itp hk.1 ?_
    rw [hk.2]
    refine c_isIn ?_
    by_cases c2 : lo ≤ (hd ts).2.2.1 ∧ (hd ts).2.2.1 ≤ hi
    · rw [if_pos c2]
      refine itn (by decide) (c_rnext hR (by omega) (fun A' M' q1 q2 => ?_))
      rw [hk.2]
      exact hQ A' _ _ M' (if_pos ⟨c, c2⟩) q1 q2
    · rw [if_neg c2]
      exact itp rfl (bad (fun q => c2 q.2))
  · refine itn (fun q => c ?_) (bad (fun q => c q.1))
    have := kd_of (j := 1) h1 q
    revert this
    repeat' split
    all_goals omega
theorem kC_cls {A : List Nm} {nm : Nm} : kC A (2, nm) = nc A nm + 2 := by
  show Int32.ofNat (A.idxOf nm + 2) = Int32.ofNat (A.idxOf nm) + 2
  rw [lit32 2, oN_add]
theorem c_type {B : List Nm} {r n : Nat} {p : Nat → Int32} {to : Nat} {A : List Nm} {ts : List Tok} {Q : Int32 → Mem → Prop} {X : Mem → Prop} {M : Mem} (hR : RS B r n p to A ts M)
    (hQ : ∀ A' κ ts' M', pType ts = .inr (κ, ts') → A <+: A' → kok A κ → RS B r n p to A' ts' M' → Q (kC A κ) M') (hX : ∀ A' e M', pType ts = .inl e → A <+: A' → Thr B A' e M' → X M') : w_Reader_type 0 Q X M := by
  unfold w_Reader_type
  obtain ⟨h1, h2, h3⟩ := hR.hd
  unfold pType at hQ hX
  refine c_isWd (v := 1) (nm := nNum) hR rfl ⟨by decide, by decide⟩ ?_
  have j23 : ∀ (i : Nat) (κ : Kd) (nm : Nm), (nm = nNum ∧ κ = (0, []) ∨ nm = nRow ∧ κ = (1, [])) → isWd nm ts = true → (∀ A' M', A <+: A' → RS B r n p to A' ts.tail M' → Q (kC A κ) M') → w_Reader_type_j23 0 Q X M := fun i κ nm hk hw hq => by
    unfold w_Reader_type_j23
    unfold isWd at hw
    have hw := of_decide_eq_true hw
    obtain ⟨k1, k2, k3⟩ := h1.name (Or.inl hw.1)
    rw [k2]
    rcases hk with ⟨e1, e2⟩ | ⟨e1, e2⟩
    · refine itp ((nc_lit hR.1 (i := 1) rfl k3).mpr (hw.2.trans e1)) ?_
      unfold w_Reader_type_j39
      refine c_rnext hR (by omega) (fun A' M' q1 q2 => ?_)
      have := hq A' M' q1 q2
      rw [e2] at this; exact this
    · refine itn (fun q => ?_) ?_
      · have := (nc_lit hR.1 (i := 1) (x := nNum) rfl k3).mp q
        rw [hw.2, e1] at this; exact absurd this (by decide)
      · unfold w_Reader_type_j39
        refine c_rnext hR (by omega) (fun A' M' q1 q2 => ?_)
        have := hq A' M' q1 q2
        rw [e2] at this; exact this
  by_cases c1 : isWd nNum ts = true
  · rw [c1]
    refine itn (by decide) (j23 0 (0, []) nNum (Or.inl ⟨rfl, rfl⟩) c1 (fun A' M' q1 q2 => hQ A' _ _ M' (if_pos c1) q1 (fun e => absurd e (by decide)) q2))
  · have c1' : isWd nNum ts = false := by simpa using c1
    rw [c1']
    refine itp (by decide) (c_isWd (v := 73) (nm := nRow) hR rfl ⟨by decide, by decide⟩ ?_)
    rw [if_neg c1] at hQ hX
    by_cases c2 : isWd nRow ts = true
    · rw [c2]
      refine itn (by decide) (j23 0 (1, []) nRow (Or.inr ⟨rfl, rfl⟩) c2 (fun A' M' q1 q2 => hQ A' _ _ M' (if_pos c2) q1 (fun e => absurd e (by decide)) q2))
    · have c2' : isWd nRow ts = false := by simpa using c2
      rw [c2']
      rw [if_neg c2] at hQ hX
      refine itp (by decide) (c_className hR (fun A' nm ts' M' q1 q2 q3 q4 => ?_) (fun A' e M' q1 q2 q3 => hX A' e M' (by rw [q1]) q2 q3))
      unfold w_Works_kindOf
      have := hQ A' (2, nm) ts' M' (by rw [q1]) q2 (fun _ => q3) q4
      rw [kC_cls] at this
      exact this
theorem c_result {B : List Nm} {r n : Nat} {p : Nat → Int32} {to : Nat} {A : List Nm} {ts : List Tok} {Q : Int32 → Mem → Prop} {X : Mem → Prop} {M : Mem} (hR : RS B r n p to A ts M)
    (hQ : ∀ A' κ ts' M', pRes ts = .inr (κ, ts') → A <+: A' → kok A κ → RS B r n p to A' ts' M' → Q (kC A κ) M') (hX : ∀ A' e M', pRes ts = .inl e → A <+: A' → Thr B A' e M' → X M') : w_Reader_result 0 Q X M := by
  unfold w_Reader_result
  unfold pRes at hQ hX
  refine c_isWd (v := 74) (nm := nNone) hR rfl ⟨by decide, by decide⟩ ?_
  by_cases c1 : isWd nNone ts = true
  · rw [c1]
    have hw := of_decide_eq_true c1
    refine itn (by decide) (c_rnext hR (by rw [hw.1]; decide) (fun A' M' q1 q2 => ?_))
    exact hQ A' (-4, []) _ M' (if_pos c1) q1 (fun e => absurd e (by decide)) q2
  · have c1' : isWd nNone ts = false := by simpa using c1
    rw [if_neg c1] at hQ hX
    rw [c1']
    exact itp (by decide) (c_type hR hQ hX)
theorem c_end {B : List Nm} {r n : Nat} {p : Nat → Int32} {to : Nat} {A : List Nm} {ts : List Tok} {Q X : Mem → Prop} {M : Mem} (hR : RS B r n p to A ts M)
    (hQ : pEnd ts = none → Q M) (hX : ∀ e M', pEnd ts = some e → Thr B A e M' → X M') : w_Reader_end 0 Q X M := by
  unfold w_Reader_end
  obtain ⟨h1, h2, h3⟩ := hR.hd
  unfold pEnd at hQ hX
  refine ⟨h1.isK, ?_⟩
  by_cases c : (hd ts).1 = 0
  · have hk := h1.2
    rw [if_pos c] at hk
    exact itp hk (hQ (if_pos c))
  · refine itn (fun q => c ?_) (c_wrong hR (fun M' h => hX _ M' (if_neg c) h))
    have := kd_of (j := 3) h1 q
    revert this
    repeat' split
    all_goals omega

/-! B: flags, types in brackets, lines -/
def flg (w1 w2 w3 : Nm) (w4 : Option Nm) (nm : Nm) : Int32 := if nm = w1 then 1 else if nm = w2 then 2 else if nm = w3 then 4 else if some nm = w4 then 8 else 0
def pFlags (f : Nm → Int32) : Nat → Int32 → List Tok → Int32 × List Tok
  | 0, bits, ts => (bits, ts)
  | n + 1, bits, ts => if (hd ts).1 = 2 ∧ f (hd ts).2.1 ≠ 0 ∧ bits &&& f (hd ts).2.1 = 0 then pFlags f n (bits ||| f (hd ts).2.1) ts.tail else (bits, ts)
theorem c_isWdN {B : List Nm} {r n : Nat} {p : Nat → Int32} {to : Nat} {A : List Nm} {ts : List Tok} {Q : Int32 → Mem → Prop} {M : Mem} (hR : RS B r n p to A ts M) (hQ : Q 0 M) : w_Words_isWord 0 (-1) Q M := by
  unfold w_Words_isWord
  obtain ⟨h1, h2, h3⟩ := hR.hd
  refine ⟨h1.isK, ?_⟩
  by_cases c : (hd ts).1 = 2 ∨ (hd ts).1 = 3
  · obtain ⟨k1, k2, k3⟩ := h1.name c
    refine itp k1 (itn ?_ hQ)
    rw [k2]
    have hl := hR.1.len
    have := List.idxOf_lt_length_iff.mpr k3
    intro q
    have := oN_nonneg (a := A.idxOf (hd ts).2.1) (by omega)
    unfold nc at q
    rw [q] at this
    exact this (by decide)
  · exact itn (fun q => c (kd_name.mp (kd_of (j := 0) h1 q))) hQ
/-- one of the words of flags -/
def fw (A : List Nm) (v : Int32) (w : Option Nm) : Prop := (v = -1 ∧ w = none) ∨ ∃ i nm, v = Int32.ofNat i ∧ w = some nm ∧ A0[i]? = some nm ∧ nm ≠ nMake ∧ nm ≠ nStart
theorem c_isWdO {B : List Nm} {r n : Nat} {p : Nat → Int32} {to : Nat} {A : List Nm} {ts : List Tok} {Q : Int32 → Mem → Prop} {M : Mem} {v : Int32} {w : Option Nm} (hR : RS B r n p to A ts M) (hv : fw A v w) (hQ : Q (b2 (decide ((hd ts).1 = 2 ∧ some (hd ts).2.1 = w))) M) : w_Words_isWord 0 v Q M := by
  rcases hv with ⟨e1, e2⟩ | ⟨i, nm, e1, e2, e3, e4⟩
  · subst e1 e2
    rw [decide_eq_false (fun q => by cases q.2)] at hQ
    exact c_isWdN hR hQ
  · subst e1 e2
    refine c_isWd hR e3 e4 ?_
    rw [show decide ((hd ts).1 = 2 ∧ some (hd ts).2.1 = some nm) = isWd nm ts from decide_eq_decide.mpr (by simp)] at hQ
    exact hQ
theorem c_flags {B : List Nm} {r n : Nat} {p : Nat → Int32} {to : Nat} {A : List Nm} {ts : List Tok} {Q : Int32 → Mem → Prop} {M : Mem} {v1 v2 v3 v4 : Int32} {w1 w2 w3 : Nm} {w4 : Option Nm} (hR : RS B r n p to A ts M) (h1 : fw A v1 (some w1)) (h2 : fw A v2 (some w2)) (h3 : fw A v3 (some w3)) (h4 : fw A v4 w4)
    (hQ : ∀ A' bits ts' M', pFlags (flg w1 w2 w3 w4) (ts.length + 1) 0 ts = (bits, ts') → A <+: A' → RS B r n p to A' ts' M' → Q bits M') : w_Reader_flags 0 v1 v2 v3 v4 Q M := by
  have main : ∀ d bits A ts M, ts.length < d → fw A v1 (some w1) → fw A v2 (some w2) → fw A v3 (some w3) → fw A v4 w4 → RS B r n p to A ts M → (∀ A' bits' ts' M', pFlags (flg w1 w2 w3 w4) d bits ts = (bits', ts') → A <+: A' → RS B r n p to A' ts' M' → Q bits' M') → w_Reader_flags_L3 0 Q d v1 v2 v3 v4 bits M := by
    intro d
    induction d with
    | zero => intro bits A ts M h; omega
    | succ d ih =>
      intro bits A ts M hlt h1 h2 h3 h4 hR hQ
      unfold w_Reader_flags_L3
      have j66 : ∀ s0 : Int32, (s0 = if (hd ts).1 = 2 then flg w1 w2 w3 w4 (hd ts).2.1 else 0) → w_Reader_flags_j66 0 Q (w_Reader_flags_L3 0 Q d) v1 v2 v3 v4 bits s0 M := by
        intro s0 hs
        unfold w_Reader_flags_j66
        unfold pFlags at hQ
        by_cases c0 : s0 = 0
        · refine itp c0 (hQ A _ _ M (if_neg (fun q => q.2.1 ?_)) (List.prefix_refl _) hR)
          rw [if_pos q.1] at hs; rw [← hs]; exact c0
        · refine itn c0 ?_
          have c2 : (hd ts).1 = 2 := Classical.byContradiction (fun q => c0 (by rw [hs, if_neg q]))
          rw [if_pos c2] at hs
          by_cases c1 : bits &&& s0 = 0
          · refine itp c1 (c_rnext hR (by omega) (fun A' M' q1 q2 => ?_))
            refine ih _ A' ts.tail M' ?_ h1 h2 h3 h4 q2 (fun A'' b' t' M'' g1 g2 g3 => hQ A'' b' t' M'' ?_ (q1.trans g2) g3)
            · have := hR.hd.2.2
              cases ts with
              | nil => exact absurd rfl this
              | cons a b => simp at hlt ⊢; omega
            · rw [← hs, if_pos ⟨c2, c0, c1⟩]; exact g1
          · refine itn c1 (hQ A _ _ M (if_neg (fun q => c1 (by rw [hs]; exact q.2.2))) (List.prefix_refl _) hR)
      have ff : ∀ w : Nm, decide ((hd ts).1 = 2 ∧ some (hd ts).2.1 = some w) = true → (hd ts).1 = 2 ∧ (hd ts).2.1 = w := fun w q => by simpa using q
      have fn : ∀ w : Nm, decide ((hd ts).1 = 2 ∧ some (hd ts).2.1 = some w) = false → (hd ts).1 = 2 → (hd ts).2.1 ≠ w := fun w q e x => by
        rw [decide_eq_true ⟨e, by rw [x]⟩] at q; cases q
      refine c_isWdO hR h1 ?_
      cases c1 : decide ((hd ts).1 = 2 ∧ some (hd ts).2.1 = some w1) with
      | true =>
        obtain ⟨e1, e2⟩ := ff w1 c1
        exact itn (by decide) (j66 1 (by rw [if_pos e1]; unfold flg; rw [if_pos e2]))
      | false =>
        refine itp rfl (c_isWdO hR h2 ?_)
        cases c2 : decide ((hd ts).1 = 2 ∧ some (hd ts).2.1 = some w2) with
        | true =>
          obtain ⟨e1, e2⟩ := ff w2 c2
          exact itn (by decide) (j66 2 (by rw [if_pos e1]; unfold flg; rw [if_neg (fn w1 c1 e1), if_pos e2]))
        | false =>
          refine itp rfl (c_isWdO hR h3 ?_)
          cases c3 : decide ((hd ts).1 = 2 ∧ some (hd ts).2.1 = some w3) with
          | true =>
            obtain ⟨e1, e2⟩ := ff w3 c3
            exact itn (by decide) (j66 4 (by rw [if_pos e1]; unfold flg; rw [if_neg (fn w1 c1 e1), if_neg (fn w2 c2 e1), if_pos e2]))
          | false =>
            refine itp rfl (c_isWdO hR h4 ?_)
            cases c4 : decide ((hd ts).1 = 2 ∧ some (hd ts).2.1 = w4) with
            | true =>
              have := of_decide_eq_true c4
              exact itn (by decide) (j66 8 (by rw [if_pos this.1]; unfold flg; rw [if_neg (fn w1 c1 this.1), if_neg (fn w2 c2 this.1), if_neg (fn w3 c3 this.1), if_pos this.2]))
            | false =>
              have := of_decide_eq_false c4
              refine itp rfl (j66 0 ?_)
              by_cases e1 : (hd ts).1 = 2
              · rw [if_pos e1]; unfold flg; rw [if_neg (fn w1 c1 e1), if_neg (fn w2 c2 e1), if_neg (fn w3 c3 e1), if_neg (fun q => this ⟨e1, q⟩)]
              · rw [if_neg e1]
  unfold w_Reader_flags
  exact ⟨ts.length + 1, main _ 0 A ts M (by omega) h1 h2 h3 h4 hR hQ⟩
def pTypesF (strict : Bool) : Nat → List Kd → List Tok → Rz (List Kd)
  | 0, _, ts => .inl (er ts)
  | n + 1, acc, ts => if (hd ts).1 = 41 then .inr (acc, ts.tail) else match (if acc.length = 0 then (.inr ((), ts) : Rz Unit) else pSign 44 ts) with
    | .inl e => .inl e
    | .inr (_, t1) => if strict = true ∧ acc.length = 6 then .inl (er t1) else match pType t1 with
      | .inl e => .inl e
      | .inr (κ, t2) => pTypesF strict n (acc ++ [κ]) t2
def pTypes (strict : Bool) (ts : List Tok) : Rz (List Kd) := match pSign 40 ts with
  | .inl e => .inl e
  | .inr (_, t1) => pTypesF strict (t1.length + 1) [] t1
abbrev gk (ks : List Kd) (i : Nat) : Kd := ks.getD i (0, [])
/-- the works' list of types -/
def LT (A : List Nm) (ks : List Kd) (M : Mem) : Prop := mI M 3 0 18 = Int32.ofNat ks.length ∧ mL M 211 0 = 3100 ∧ (∀ κ ∈ ks, kok A κ) ∧ ∀ i, i < ks.length → mI M 211 0 i = kC A (gk ks i)
theorem gk_mem {ks : List Kd} {i : Nat} (h : i < ks.length) : gk ks i ∈ ks := by
  simp [gk, List.getD_eq_getElem?_getD, List.getElem?_eq_getElem h]
theorem LT.pre {A A' : List Nm} {ks : List Kd} {M : Mem} (h : LT A ks M) (hp : A <+: A') : LT A' ks M :=
  ⟨h.1, h.2.1, fun κ hk => kok_pre hp (h.2.2.1 κ hk), fun i hi => by rw [kC_pre hp (h.2.2.1 _ (gk_mem hi))]; exact h.2.2.2 i hi⟩
theorem LT.fr {A : List Nm} {ks : List Kd} {M M' : Mem} {S : Nat} (h : LT A ks M) (hf : Fr S M M') (h1 : S.testBit (cd 3 18) = false := by rfl) (h2 : S.testBit 211 = false := by rfl) (h3 : S.testBit (5000 + 211) = false := by rfl) : LT A ks M' :=
  ⟨(hf.I h1 0).trans h.1, (hf.L h3 0).trans h.2.1, h.2.2.1, fun i hi => (hf.Ia rfl h2 0 i).trans (h.2.2.2 i hi)⟩
theorem RS.w3 {B : List Nm} {r n : Nat} {p : Nat → Int32} {to : Nat} {A : List Nm} {ts : List Tok} {M M' : Mem} (h : RS B r n p to A ts M) {S : Nat} (hf : Fr S M M') (h1 : S.testBit (cd 1 4) = false := by rfl) (h2 : S.testBit 20 = false := by rfl) (h3 : S.testBit 21 = false := by rfl) (h4 : S.testBit 22 = false := by rfl) (h5 : S.testBit 600 = false := by rfl)
    (l2 : S.testBit (5000 + 20) = false := by rfl) (l3 : S.testBit (5000 + 21) = false := by rfl) (l4 : S.testBit (5000 + 22) = false := by rfl) (l5 : S.testBit (5000 + 600) = false := by rfl)
    (k0 : S.testBit (cd 2 0) = false := by rfl) (k1 : S.testBit (cd 2 1) = false := by rfl) (k2 : S.testBit (cd 2 2) = false := by rfl) (k3 : S.testBit (cd 2 3) = false := by rfl) (k4 : S.testBit (cd 2 4) = false := by rfl) (k5 : S.testBit (cd 2 5) = false := by rfl) (k6 : S.testBit 400 = false := by rfl) (k7 : S.testBit (5000 + 400) = false := by rfl) : RS B r n p to A ts M' := by
  obtain ⟨hN, hT, hn, hB, hto, t, a, g1, g2, g3, g4⟩ := h
  refine ⟨⟨hN.1.fr hf h1 h2 h3 h4 h5 l2 l3 l4 l5, hN.2⟩, hT.of (hf.R k0 0) (hf.I k1 0) (hf.L k7 r) (fun k => hf.Ia rfl k6 r k), hn, hB, hto, t, a, ?_, g2, (hf.I k2 0).trans g3, g4⟩
  unfold TokC
  rw [hf.I k4, hf.R k3, hf.I k5]; exact g1

theorem tail_lt {ts : List Tok} (h : ts ≠ []) : ts.tail.length < ts.length := by
  cases ts with
  | nil => exact absurd rfl h
  | cons a b => simp
theorem pCls_tail {ts t2 : List Tok} {nm : Nm} (h : pCls ts = .inr (nm, t2)) : t2 = ts.tail := by
  unfold pCls at h
  split at h
  · simp at h; exact h.2.symm
  · cases h
theorem pType_tail {ts t2 : List Tok} {κ : Kd} (h : pType ts = .inr (κ, t2)) : t2 = ts.tail := by
  unfold pType at h
  split at h
  · simp at h; exact h.2.symm
  · split at h
    · simp at h; exact h.2.symm
    · split at h
      · cases h
      · rename_i e
        simp at h
        rw [← h.2]; exact pCls_tail e
theorem RS.of {B : List Nm} {r n : Nat} {p : Nat → Int32} {to : Nat} {A : List Nm} {ts : List Tok} {M M' : Mem} (h : RS B r n p to A ts M) (e1 : mI M' 1 0 4 = mI M 1 0 4) (e2 : ∀ k, mI M' 20 0 k = mI M 20 0 k) (e3 : ∀ k, mI M' 21 0 k = mI M 21 0 k) (e4 : ∀ k, mI M' 22 0 k = mI M 22 0 k) (e5 : ∀ k, mJ M' 600 0 k = mJ M 600 0 k)
    (l2 : mL M' 20 0 = mL M 20 0) (l3 : mL M' 21 0 = mL M 21 0) (l4 : mL M' 22 0 = mL M 22 0) (l5 : mL M' 600 0 = mL M 600 0)
    (k0 : mR M' 2 0 0 = mR M 2 0 0) (k1 : mI M' 2 0 1 = mI M 2 0 1) (k2 : mI M' 2 0 2 = mI M 2 0 2) (k3 : mR M' 2 0 3 = mR M 2 0 3) (k4 : mI M' 2 0 4 = mI M 2 0 4) (k5 : mI M' 2 0 5 = mI M 2 0 5) (k6 : ∀ k, mI M' 400 r k = mI M 400 r k) (k7 : mL M' 400 r = mL M 400 r) : RS B r n p to A ts M' := by
  obtain ⟨hN, hT, hn, hB, hto, t, a, g1, g2, g3, g4⟩ := h
  refine ⟨⟨hN.1.of e1 e2 e3 e4 e5 l2 l3 l4 l5, hN.2⟩, hT.of k0 k1 k7 k6, hn, hB, hto, t, a, ?_, g2, k2.trans g3, g4⟩
  unfold TokC
  rw [k4, k3, k5]; exact g1
theorem RS.s3 {B : List Nm} {r n : Nat} {p : Nat → Int32} {to : Nat} {A : List Nm} {ts : List Tok} {M : Mem} (h : RS B r n p to A ts M) {k : Nat} {v : Int32} : RS B r n p to A ts (sI M 3 0 k v) :=
  h.of rfl (fun _ => rfl) (fun _ => rfl) (fun _ => rfl) (fun _ => rfl) rfl rfl rfl rfl rfl rfl rfl rfl rfl rfl (fun _ => rfl) rfl
theorem RS.s211 {B : List Nm} {r n : Nat} {p : Nat → Int32} {to : Nat} {A : List Nm} {ts : List Tok} {M : Mem} (h : RS B r n p to A ts M) {i k : Nat} {v : Int32} : RS B r n p to A ts (sI M 211 i k v) :=
  h.of rfl (fun _ => rfl) (fun _ => rfl) (fun _ => rfl) (fun _ => rfl) rfl rfl rfl rfl rfl rfl rfl rfl rfl rfl (fun _ => rfl) rfl
theorem tks_len {p : Nat → Int32} {n : Nat} (hp : tend p n) : ∀ d a, n + 2 - a ≤ d → a ≤ n + 1 → (tks p n a).length ≤ n + 2 - a := by
  intro d
  induction d with
  | zero => intro a h1 h2; omega
  | succ d ih =>
    intro a h1 h2
    rw [tks_eq hp h2]
    by_cases c : (lex p n a).1.1 ≤ 1
    · rw [if_pos c]; simp; omega
    · rw [if_neg c]
      obtain ⟨q1, q2⟩ := (lex_ok hp h2).2 (by omega)
      have := ih (lex p n a).2 (by omega) (by omega)
      simp; omega
theorem full_len (to : Nat) (ts : List Tok) : (full to ts).length ≤ ts.length + 1 := by unfold full; split <;> simp
theorem RS.len {B : List Nm} {r n : Nat} {p : Nat → Int32} {to : Nat} {A : List Nm} {ts : List Tok} {M : Mem} (h : RS B r n p to A ts M) : ts.length ≤ n + 4 ∧ n ≤ 2900 := by
  obtain ⟨hN, hT, hn, hB, hto, t, a, g1, g2, g3, g4, g5, g6, g7⟩ := h
  refine ⟨?_, hn⟩
  rw [g7]
  refine Nat.le_trans (full_len _ _) ?_
  split
  · simp
  · have := tks_len hT.2.2.2.2 _ a (Nat.le_refl _) (by omega)
    simp; omega
theorem LT.add {A : List Nm} {ks : List Kd} {κ : Kd} {M : Mem} (h : LT A ks M) (hk : kok A κ) (hl : ks.length < 3000) : LT A (ks ++ [κ]) (sI (sI M 211 0 ks.length (kC A κ)) 3 0 18 (Int32.ofNat (ks.length + 1))) := by
  obtain ⟨h1, h2, h3, h4⟩ := h
  refine ⟨by rw [List.length_append, List.length_singleton]; rfl, h2, fun x hx => ?_, fun i hi => ?_⟩
  · rcases List.mem_append.mp hx with q | q
    · exact h3 x q
    · simp at q; rw [q]; exact hk
  · rw [List.length_append, List.length_singleton] at hi
    have e : mI (sI (sI M 211 0 ks.length (kC A κ)) 3 0 18 (Int32.ofNat (ks.length + 1))) 211 0 i = if i = ks.length then kC A κ else mI M 211 0 i := by simp [mI_sI]
    rw [e]
    by_cases c : i = ks.length
    · rw [if_pos c, c]
      have : gk (ks ++ [κ]) ks.length = κ := by simp [gk, List.getD_eq_getElem?_getD]
      rw [this]
    · rw [if_neg c]
      have : gk (ks ++ [κ]) i = gk ks i := by simp [gk, List.getD_eq_getElem?_getD, List.getElem?_append_left (show i < ks.length by omega)]
      rw [this]; exact h4 i (by omega)
theorem c_types {B : List Nm} {r n : Nat} {p : Nat → Int32} {to : Nat} {A : List Nm} {ts : List Tok} {Q X : Mem → Prop} {M : Mem} {strict : Bool} (hR : RS B r n p to A ts M) (hl : mL M 211 0 = 3100) (hs : mI M 3 0 17 = b2 strict)
    (hQ : ∀ A' ks ts' M', pTypes strict ts = .inr (ks, ts') → A <+: A' → RS B r n p to A' ts' M' → LT A' ks M' → Q M') (hX : ∀ A' e M', pTypes strict ts = .inl e → A <+: A' → Thr B A' e M' → X M') : w_Reader_types 0 Q X M := by
  have main : ∀ d ks A ts M, ts.length < d → ks.length + ts.length ≤ n + 4 → RS B r n p to A ts M → LT A ks M → mI M 3 0 17 = b2 strict →
      (∀ A' ks' ts' M', pTypesF strict d ks ts = .inr (ks', ts') → A <+: A' → RS B r n p to A' ts' M' → LT A' ks' M' → Q M') → (∀ A' e M', pTypesF strict d ks ts = .inl e → A <+: A' → Thr B A' e M' → X M') → w_Reader_types_L11 0 Q X d M := by
    intro d
    induction d with
    | zero => intro ks A ts M h; omega
    | succ d ih =>
      intro ks A ts M hlt hb hR hL hs hQ hX
      have hn := hR.len
      have hh := hR.hd
      unfold w_Reader_types_L11
      unfold pTypesF at hQ hX
      refine c_isSign (b := 41) hh.1 (by omega) (by omega) (by have := hh.2.1.2.1; omega) ?_
      by_cases c41 : (hd ts).1 = 41
      · rw [decide_eq_true c41]
        rw [if_pos c41] at hQ hX
        refine itn (by decide) (mf_w_Words_next (fun M' hf hp => ?_) (c_rnext (Q := fun M' => ∃ A', A <+: A' ∧ RS B r n p to A' ts.tail M') hR (by omega) (fun A' M' q1 q2 => ⟨A', q1, q2⟩)))
        obtain ⟨A', q1, q2⟩ := hp
        exact hQ A' ks _ M' rfl q1 q2 ((hL.fr hf).pre q1)
      · rw [decide_eq_false c41]
        rw [if_neg c41] at hQ hX
        refine itp (by decide) ?_
        -- a type, and so on
        have step : ∀ A1 t1 M1, A <+: A1 → RS B r n p to A1 t1 M1 → LT A1 ks M1 → mI M1 3 0 17 = b2 strict → t1.length ≤ ts.length →
            (∀ A' ks' ts' M', (if strict = true ∧ ks.length = 6 then (.inl (er t1) : Rz (List Kd)) else match pType t1 with
              | .inl e => .inl e
              | .inr (κ, t2) => pTypesF strict d (ks ++ [κ]) t2) = .inr (ks', ts') → A1 <+: A' → RS B r n p to A' ts' M' → LT A' ks' M' → Q M') →
            (∀ A' e M', (if strict = true ∧ ks.length = 6 then (.inl (er t1) : Rz (List Kd)) else match pType t1 with
              | .inl e => .inl e
              | .inr (κ, t2) => pTypesF strict d (ks ++ [κ]) t2) = .inl e → A1 <+: A' → Thr B A' e M' → X M') → w_Reader_types_j36 0 Q X (w_Reader_types_L11 0 Q X d) M1 := by
          intro A1 t1 M1 hp1 hR1 hL1 hs1 ht1 hQ1 hX1
          have j57 : ¬ (strict = true ∧ ks.length = 6) → w_Reader_types_j57 0 Q X (w_Reader_types_L11 0 Q X d) M1 := fun hst => by
            rw [if_neg hst] at hQ1 hX1
            unfold w_Reader_types_j57
            rw [hL1.1]
            refine mf_w_Reader_type (Q := fun v M' => ∃ A' κ t2, pType t1 = .inr (κ, t2) ∧ A1 <+: A' ∧ kok A1 κ ∧ RS B r n p to A' t2 M' ∧ v = kC A1 κ) (X := fun M' => X M') (fun v M' hf hp => ?_) (fun M' _ h => h) (c_type hR1 (fun A' κ t2 M' q1 q2 q3 q4 => ⟨A', κ, t2, q1, q2, q3, q4, rfl⟩) (fun A' e M' q1 q2 q3 => hX1 A' e M' (by rw [q1]) q2 q3))
            obtain ⟨A', κ, t2, q1, q2, q3, q4, q5⟩ := hp
            subst q5
            rw [q1] at hQ1 hX1
            have hL2 := (hL1.fr hf).pre q2
            have hlen2 : t2.length < t1.length := by
              rw [pType_tail q1]; exact tail_lt hR1.hd.2.2
            refine ⟨by rw [hL2.2.1]; exact (vp_oN (by omega)).mpr (by omega), _, rfl, ?_⟩
            have e18 : mI (sI M' 211 0 (Int32.ofNat ks.length).toNatClampNeg (kC A1 κ)) 3 0 18 = Int32.ofNat ks.length := hL2.1
            rw [e18, oN_tnc (by omega), lit32 1, oN_add, ← kC_pre q2 q3]
            refine ih (ks ++ [κ]) A' t2 _ (by omega) (by simp; omega) (q4.s211.s3) (hL2.add (kok_pre q2 q3) (by omega)) ((hf.I (f := 3) (k := 17) rfl 0).trans hs1) (fun A'' ks' ts' M'' g1 g2 g3 g4 => hQ1 A'' ks' ts' M'' g1 (q2.trans g2) g3 g4) (fun A'' e M'' g1 g2 g3 => hX1 A'' e M'' g1 (q2.trans g2) g3)
          unfold w_Reader_types_j36
          rw [hs1]
          cases strict with
          | false => exact itp rfl (j57 (fun q => by cases q.1))
          | true =>
            refine itn (by decide) ?_
            rw [hL1.1]
            by_cases c6 : ks.length = 6
            · refine itp (by rw [c6]; rfl) (c_wrong hR1 (fun M' h => hX1 A1 _ M' (if_pos ⟨rfl, c6⟩) (List.prefix_refl _) h))
            · exact itn (ne_oN (b := 6) c6 (by omega) (by omega)) (j57 (fun q => c6 q.2))
        rw [hL.1]
        by_cases c0 : ks.length = 0
        · rw [if_pos c0] at hQ hX
          refine itp (le_oN (b := 0) (by omega) (by decide)) (step A ts M (List.prefix_refl _) hR hL hs (Nat.le_refl _) hQ hX)
        · rw [if_neg c0] at hQ hX
          refine itn (nle_oN (b := 0) (by omega) (by omega)) (mf_w_Reader_sign (Q := fun M' => ∃ A' t1, pSign 44 ts = .inr ((), t1) ∧ A <+: A' ∧ RS B r n p to A' t1 M') (X := fun M' => X M') (fun M' hf hp => ?_) (fun M' _ h => h) (c_sign (b := 44) hR (by omega) (by omega) (fun A' t1 M' q1 q2 q3 => ⟨A', t1, q1, q2, q3⟩) (fun A' e M' q1 q2 q3 => hX A' e M' (by rw [q1]) q2 q3)))
          obtain ⟨A', t1, q1, q2, q3⟩ := hp
          have et : t1 = ts.tail := by
            unfold pSign at q1
            split at q1
            · simp at q1; exact q1.symm
            · cases q1
          rw [q1] at hQ hX
          refine step A' t1 M' q2 q3 ((hL.fr hf).pre q2) ((hf.I (f := 3) (k := 17) rfl 0).trans hs) (by rw [et]; simp) (fun A'' ks' ts' M'' g1 g2 g3 g4 => hQ A'' ks' ts' M'' g1 (q2.trans g2) g3 g4) (fun A'' e M'' g1 g2 g3 => hX A'' e M'' g1 (q2.trans g2) g3)
  unfold w_Reader_types
  unfold pTypes at hQ hX
  refine mf_w_Reader_sign (Q := fun M' => ∃ A' t1, pSign 40 ts = .inr ((), t1) ∧ A <+: A' ∧ RS B r n p to A' t1 M') (X := fun M' => X M') (fun M' hf hp => ?_) (fun M' _ h => h) (c_sign (b := 40) hR (by omega) (by omega) (fun A' t1 M' q1 q2 q3 => ⟨A', t1, q1, q2, q3⟩) (fun A' e M' q1 q2 q3 => hX A' e M' (by rw [q1]) q2 q3))
  obtain ⟨A', t1, q1, q2, q3⟩ := hp
  rw [q1] at hQ hX
  have hl1 := q3.len
  refine ⟨t1.length + 1, main _ [] A' t1 _ (by omega) (by simp; omega) q3.s3 ⟨rfl, (hf.L (f := 211) rfl 0).trans hl, (fun κ hk => absurd hk (by simp)), fun i hi => absurd hi (Nat.not_lt_zero i)⟩ ((hf.I (f := 3) (k := 17) rfl 0).trans hs) (fun A'' ks' ts' M'' g1 g2 g3 g4 => hQ A'' ks' ts' M'' g1 (q2.trans g2) g3 g4) (fun A'' e M'' g1 g2 g3 => hX A'' e M'' g1 (q2.trans g2) g3)⟩

/-! B: lines -/
abbrev nl (p : Nat → Int32) (n a : Nat) : Nat := scn (fun b => b != 10) p n a
def lnsF (p : Nat → Int32) (n : Nat) : Nat → Nat → List (List Tok)
  | 0, _ => []
  | f + 1, a => if (hd (full (nl p n a) (tks p n a))).1 = 0 then (if nl p n a + 1 < n then lnsF p n f (nl p n a + 1) else []) else full (nl p n a) (tks p n a) :: (if nl p n a + 1 < n then lnsF p n f (nl p n a + 1) else [])
/-- the lines with words from a place on -/
def lns (p : Nat → Int32) (n a : Nat) : List (List Tok) := lnsF p n (n + 1 - a) a
/-- those behind a line that ends at a place -/
def rln (p : Nat → Int32) (n to : Nat) : List (List Tok) := if to + 1 < n then lns p n (to + 1) else []
theorem nl_ok {p : Nat → Int32} {n a : Nat} (hp : tend p n) (ha : a ≤ n) : a ≤ nl p n a ∧ nl p n a ≤ n ∧ p (nl p n a) = 10 ∧ ∀ i, a ≤ i → i < nl p n a → p i ≠ 10 := by
  obtain ⟨s1, s2, s3, s4⟩ := scn_spec (q := fun b => b != 10) hp (by decide) a
  exact ⟨s1, by unfold nl; omega, by simpa using s4, fun i h1 h2 => by simpa using s3 i h1 h2⟩
theorem lnsF_more {p : Nat → Int32} {n : Nat} (hp : tend p n) : ∀ f g a, a ≤ n → n + 1 - a ≤ f → n + 1 - a ≤ g → lnsF p n f a = lnsF p n g a := by
  intro f
  induction f with
  | zero => intro g a h1 h2; omega
  | succ f ih =>
    intro g a h1 h2 h3
    obtain ⟨g, rfl⟩ : ∃ g', g = g' + 1 := ⟨g - 1, by omega⟩
    obtain ⟨x1, x2, x3, x4⟩ := nl_ok hp h1
    unfold lnsF
    by_cases c : nl p n a + 1 < n
    · rw [if_pos c, if_pos c, ih g _ (by omega) (by omega) (by omega)]
    · rw [if_neg c, if_neg c]
theorem lns_eq {p : Nat → Int32} {n a : Nat} (hp : tend p n) (ha : a ≤ n) : lns p n a = if (hd (full (nl p n a) (tks p n a))).1 = 0 then rln p n (nl p n a) else full (nl p n a) (tks p n a) :: rln p n (nl p n a) := by
  obtain ⟨x1, x2, x3, x4⟩ := nl_ok hp ha
  have e : (if nl p n a + 1 < n then lnsF p n (n - a) (nl p n a + 1) else []) = rln p n (nl p n a) := by
    unfold rln lns
    by_cases c : nl p n a + 1 < n
    · rw [if_pos c, if_pos c]; exact lnsF_more hp _ _ _ (by omega) (by omega) (by omega)
    · rw [if_neg c, if_neg c]
  unfold lns
  rw [show n + 1 - a = (n - a) + 1 by omega]
  unfold lnsF
  rw [e]
theorem full_hd {to : Nat} {ts : List Tok} (h : ts ≠ []) : hd (full to ts) = hd ts := by
  unfold full
  split
  · cases ts with
    | nil => exact absurd rfl h
    | cons a b => rfl
  · rfl
theorem tks_hd {p : Nat → Int32} {n a : Nat} (hp : tend p n) (ha : a ≤ n + 1) : hd (tks p n a) = (lex p n a).1 := by
  rw [tks_eq hp ha]; split <;> rfl
/-- between lines: names and text alone -/
def BT (B : List Nm) (r n : Nat) (p : Nat → Int32) (A : List Nm) (M : Mem) : Prop := NC B A M ∧ TX r n p M ∧ n ≤ 2900
theorem RS.bt {B : List Nm} {r n : Nat} {p : Nat → Int32} {to : Nat} {A : List Nm} {ts : List Tok} {M : Mem} (h : RS B r n p to A ts M) : BT B r n p A M := ⟨h.1, h.2.1, h.2.2.1⟩
theorem NC.tx {B A : List Nm} {M M' : Mem} (h : NC B A M) (hC : CNm A M') : NC B A M' := ⟨hC, h.2⟩
theorem c_begin {B : List Nm} {r n a : Nat} {p : Nat → Int32} {A : List Nm} {Q : Int32 → Mem → Prop} {M : Mem} (hT : BT B r n p A M) (hat : mI M 2 0 2 = Int32.ofNat a) (ha : a ≤ n) (hB : ∀ l ∈ lns p n a, NB B l)
    (h0 : ∀ A' M', lns p n a = [] → A <+: A' → BT B r n p A' M' → Q 0 M')
    (h1 : ∀ A' to l M', lns p n a = l :: rln p n to → A <+: A' → RS B r n p to A' l M' → mI M' 3 0 2 = Int32.ofNat (hd l).2.2.2 → 1 ≤ (hd l).1 → Q 1 M') : w_Reader_begin 0 Q M := by
  have hp := hT.2.1.2.2.2.2
  have hn := hT.2.2
  have main : ∀ d a A M, n + 1 - a ≤ d → BT B r n p A M → mI M 2 0 2 = Int32.ofNat a → a ≤ n → (∀ l ∈ lns p n a, NB B l) →
      (∀ A' M', lns p n a = [] → A <+: A' → BT B r n p A' M' → Q 0 M') →
      (∀ A' to l M', lns p n a = l :: rln p n to → A <+: A' → RS B r n p to A' l M' → mI M' 3 0 2 = Int32.ofNat (hd l).2.2.2 → 1 ≤ (hd l).1 → Q 1 M') →
      w_Words_next 0 (fun M1 => w_Reader_begin_L7 0 Q d M1) M := by
    intro d
    induction d with
    | zero => intro a A M h; omega
    | succ d ih =>
      intro a A M hd' hT hat ha hB h0 h1
      obtain ⟨x1, x2, x3, x4⟩ := nl_ok hp ha
      have hl := lns_eq hp ha
      have hfh : hd (full (nl p n a) (tks p n a)) = (lex p n a).1 := by rw [full_hd (tks_ne hp (by omega)), tks_hd hp (by omega)]
      rw [hfh] at hl
      have hin := lex_in hp x1 x4 x3 x2
      have hok := lex_ok (a := a) hp (by omega)
      have hb : (lex p n a).1.1 = 2 → (lex p n a).1.2.1 ∈ B := fun e => by
        rw [if_neg (by omega)] at hl
        refine hB _ (by rw [hl]; exact List.mem_cons_self) (lex p n a).1 ?_ e
        rw [← hfh]
        have := tks_ne (p := p) (n := n) (a := a) hp (by omega)
        unfold full
        cases h : tks p n a with
        | nil => exact absurd h this
        | cons x y => split <;> simp
      refine c_next hT.1.1 hT.1.len hT.1.2.1.ms hT.2.1 hat (by omega) (fun M' k1 k2 k3 k4 => ?_)
      have hN' := hT.1.more hb k1
      unfold w_Reader_begin_L7
      refine ⟨k4.isK, ?_⟩
      by_cases c : (lex p n a).1.1 = 0
      · rw [if_pos c] at hl
        have hk := k4.2
        rw [if_pos c] at hk
        refine itp hk (c_line k1 k2 k3 (by omega) (fun M2 g1 g2 g3 => ?_))
        have es : scn (fun b => b != 10) p n (lex p n a).2 = nl p n a := scn_to hp hin.1 (fun i q1 q2 => x4 i (by omega) q2) x3
        rw [es] at g3 ⊢
        have hT2 : BT B r n p (insT A (lex p n a).1) M2 := ⟨⟨g1, hN'.2⟩, g2, hn⟩
        by_cases c2 : nl p n a + 1 < n
        · rw [decide_eq_true c2]
          have er : rln p n (nl p n a) = lns p n (nl p n a + 1) := if_pos c2
          rw [er] at hl
          rw [hl] at hB h0 h1
          refine itn (by decide) (ih (nl p n a + 1) _ M2 (by omega) hT2 g3 (by omega) hB (fun A' M' q1 q2 q3 => h0 A' M' q1 ((insT_pre A _).trans q2) q3) (fun A' to l M' q1 q2 q3 q4 q5 => h1 A' to l M' q1 ((insT_pre A _).trans q2) q3 q4 q5))
        · rw [decide_eq_false c2]
          have er : rln p n (nl p n a) = [] := if_neg c2
          rw [er] at hl
          exact itp rfl (h0 _ M2 hl (insT_pre A _) hT2)
      · rw [if_neg c] at hl
        refine itn (fun q => c ?_) ?_
        · have e := k4.kind.symm.trans q
          simp only [Option.some.injEq, Prod.mk.injEq, true_and] at e
          revert e
          repeat' split
          all_goals omega
        · have hm : full (nl p n a) (tks p n a) ∈ lns p n a := by rw [hl]; exact List.mem_cons_self
          have hRS : RS B r n p (nl p n a) (insT A (lex p n a).1) (full (nl p n a) (tks p n a)) M' :=
            ⟨hN', k2, hn, hB _ hm, ⟨x2, x3⟩, _, _, k4, hok.1, k3, hin.1, fun i q1 q2 => x4 i (by omega) q2, ⟨fun q => hin.2.2.1 q, fun q => lex_place hp (by omega) q⟩, by rw [tks_eq hp (by omega)]⟩
          have hpl := k4.1
          refine h1 _ (nl p n a) _ _ hl (insT_pre A _) hRS.s3 ?_ (by rw [hfh]; omega)
          rw [hfh, ← hpl]; rfl
  unfold w_Reader_begin
  exact mf_w_Words_next (fun M' _ h => ⟨_, h⟩) (main (n + 1 - a) a A M (Nat.le_refl _) hT hat ha hB h0 h1)
theorem c_nextLine {B : List Nm} {r n to : Nat} {p : Nat → Int32} {A : List Nm} {ts : List Tok} {Q : Int32 → Mem → Prop} {M : Mem} (hR : RS B r n p to A ts M) (hB : ∀ l ∈ rln p n to, NB B l)
    (h0 : ∀ A' M', rln p n to = [] → A <+: A' → BT B r n p A' M' → Q 0 M')
    (h1 : ∀ A' to' l M', rln p n to = l :: rln p n to' → A <+: A' → RS B r n p to' A' l M' → mI M' 3 0 2 = Int32.ofNat (hd l).2.2.2 → 1 ≤ (hd l).1 → Q 1 M') : w_Reader_nextLine 0 Q M := by
  obtain ⟨hN, hT, hn, -, hto, t, a, g1, g2, g3, g4, g5, g6, g7⟩ := hR
  have hp := hT.2.2.2.2
  unfold w_Reader_nextLine
  refine c_line hN.1 hT g3 (by omega) (fun M2 k1 k2 k3 => ?_)
  have es : scn (fun b => b != 10) p n a = to := scn_to hp g4 g5 hto.2
  rw [es] at k3 ⊢
  by_cases c : to + 1 < n
  · rw [decide_eq_true c]
    have er : rln p n to = lns p n (to + 1) := if_pos c
    rw [er] at hB h0 h1
    refine itn (by decide) (c_begin ⟨⟨k1, hN.2⟩, k2, hn⟩ k3 (by omega) hB (fun A' M' q1 q2 q3 => ⟨Or.inl rfl, h0 A' M' q1 q2 q3⟩) (fun A' to' l M' q1 q2 q3 q4 q5 => ⟨Or.inr rfl, h1 A' to' l M' q1 q2 q3 q4 q5⟩))
  · rw [decide_eq_false c]
    exact itp rfl (h0 A M2 (if_neg c) (List.prefix_refl _) ⟨⟨k1, hN.2⟩, k2, hn⟩)
theorem c_needLine {B : List Nm} {r n to : Nat} {p : Nat → Int32} {A : List Nm} {ts : List Tok} {Q X : Mem → Prop} {M : Mem} (hR : RS B r n p to A ts M) (hB : ∀ l ∈ rln p n to, NB B l)
    (h0 : ∀ A' M', rln p n to = [] → A <+: A' → Thr B A' (1, n) M' → X M')
    (h1 : ∀ A' to' l M', rln p n to = l :: rln p n to' → A <+: A' → RS B r n p to' A' l M' → mI M' 3 0 2 = Int32.ofNat (hd l).2.2.2 → 1 ≤ (hd l).1 → Q M') : w_Reader_needLine 0 Q X M := by
  unfold w_Reader_needLine
  refine c_nextLine hR hB (fun A' M' q1 q2 q3 => ?_) (fun A' to' l M' q1 q2 q3 q4 q5 => itn (by decide) (h1 A' to' l M' q1 q2 q3 q4 q5))
  refine itp rfl ?_
  unfold w_Works_refuse
  refine ⟨rfl, h0 A' _ q1 q2 ⟨q3.1.r9, rfl, ?_⟩⟩
  show mI M' 2 0 1 = _
  exact q3.2.1.1.2

/-! B: how the twin takes words -/
def kt (A : List Nm) (κ : Kd) : Int32 := if κ.1 = 2 then Int32.ofNat (A.idxOf κ.2 + 16) else if κ.1 = 0 then 1 else if κ.1 = 1 then 2 else if κ.1 = -1 then 3 else if κ.1 = -2 then 4 else if κ.1 = -3 then 5 else if κ.1 = -4 then 0 else Int32.ofInt (κ.1 + 9)
theorem kt_pre {A A' : List Nm} (h : A <+: A') {κ : Kd} (hx : kok A κ) : kt A' κ = kt A κ := by
  unfold kt
  by_cases e : κ.1 = 2
  · rw [if_pos e, if_pos e, idx_pre h (hx e)]
  · rw [if_neg e, if_neg e]
/-- fields of the twin that hold names -/
def nNop : Nm := [110, 111, 112]
def kF : List (Nat × Nm) := [(6, nMake), (7, nStart), (8, nThing), (9, nClass), (10, nFinal), (11, nAbstract), (12, nFace), (13, nField), (14, nMethod), (15, nPrivate), (16, nRoom), (17, nFrame), (18, nHandler), (19, nEnd), (20, nRow), (21, nNone), (22, nUnset), (23, nUnmade), (24, nAny), (25, nRun), (26, nNop), (27, nNum), (28, nNull), (29, nStatic)]
def TKs (A : List Nm) (M : Mem) : Prop := ∀ x ∈ kF, mI M 11 0 x.1 = nc A x.2 ∧ x.2 ∈ A
theorem TKs.pre {A A' : List Nm} {M : Mem} (h : TKs A M) (hp : A <+: A') : TKs A' M := fun x hx => by
  rw [nc_pre hp (h x hx).2]; exact ⟨(h x hx).1, hp.subset (h x hx).2⟩
def kOk (S : Nat) : Bool := kF.all (fun x => !S.testBit (cd 11 x.1))
theorem TKs.fr {A : List Nm} {M M' : Mem} {S : Nat} (h : TKs A M) (hf : Fr S M M') (hS : kOk S = true := by rfl) : TKs A M' := fun x hx => by
  unfold kOk at hS
  have := List.all_eq_true.mp hS x hx
  rw [hf.I (by simpa using this)]; exact h x hx
theorem TKs.s {A : List Nm} {M : Mem} (h : TKs A M) {k : Nat} {v : Int32} (hk : 30 ≤ k) : TKs A (sI M 11 0 k v) := fun x hx => by
  rw [mI_sI, if_neg (fun q => ?_)]
  · exact h x hx
  · have : x.1 < 30 := by
      simp only [kF, List.mem_cons, List.not_mem_nil, or_false] at hx
      rcases hx with e | e | e | e | e | e | e | e | e | e | e | e | e | e | e | e | e | e | e | e | e | e | e | e <;> (rw [e]; decide)
    omega
theorem WA.s {A : List Nm} {L : List Tok} {M : Mem} (h : WA A L M) {k : Nat} {v : Int32} (hk : k ≠ 42) : WA A L (sI M 11 0 k v) :=
  h.of (by rw [mI_sI, if_neg (fun q => hk q.2.2.symm)]) (fun _ => rfl) (fun _ => rfl) (fun _ => rfl) rfl rfl rfl
/-- the twin is at a word -/
def TQ (A : List Nm) (L ts : List Tok) (M : Mem) : Prop := (WA A L M ∧ TKs A M ∧ A.length ≤ 200000 ∧ L.length ≤ 6002 ∧ ∀ t ∈ L, t.1 < 100) ∧ ∃ k, mI M 11 0 43 = Int32.ofNat k ∧ ts = L.drop k ∧ k ≤ L.length
def ThT (e : Nat × Nat) (M : Mem) : Prop := mI M 11 0 49 = Int32.ofNat e.1 ∧ mI M 11 0 50 = Int32.ofNat e.2
theorem TQ.top {A : List Nm} {L ts : List Tok} {M : Mem} (h : TQ A L ts M) (hne : ts ≠ []) : ∃ k, k < 6002 ∧ mI M 11 0 43 = Int32.ofNat k ∧ (mL M 411 0 = 6002 ∧ mL M 107 0 = 6002 ∧ mL M 108 0 = 6002) ∧ tokT A (hd ts) (mI M 411 0 k) (mI M 107 0 k) (mI M 108 0 k) ∧ (hd ts).1 < 100 ∧ ∀ (M' : Mem), (∀ f, f ≠ 11 → M'.1 f = M.1 f) → (∀ j, j ≠ 43 → j ≠ 49 → j ≠ 50 → mI M' 11 0 j = mI M 11 0 j) → (∀ f i, mL M' f i = mL M f i) → mI M' 11 0 43 = Int32.ofNat (k + 1) → TQ A L ts.tail M' := by
  obtain ⟨⟨h1, h2, h3, h4, h5⟩, k, e1, e2, e3⟩ := h
  have hk : k < L.length := Nat.lt_of_not_le (fun q => hne (by rw [e2]; exact List.drop_eq_nil_of_le q))
  have eh : hd ts = gt L k := by
    rw [e2]
    have : L.drop k = L[k] :: L.drop (k + 1) := List.drop_eq_getElem_cons hk
    rw [this]
    simp [gt, List.getD_eq_getElem?_getD, List.getElem?_eq_getElem hk]
  refine ⟨k, by omega, e1, h1.2.1, by rw [eh]; exact h1.2.2 k hk, ?_, fun M' g1 g2 g3 g4 => ⟨⟨h1.of (g2 42 (by omega) (by omega) (by omega)) (fun j => congrFun (congrFun (g1 411 (by omega)) 0) j) (fun j => congrFun (congrFun (g1 107 (by omega)) 0) j) (fun j => congrFun (congrFun (g1 108 (by omega)) 0) j) (g3 _ _) (g3 _ _) (g3 _ _), fun x hx => ?_, h3, h4, h5⟩, k + 1, g4, ?_, by omega⟩⟩
  · rw [eh]
    have : gt L k ∈ L := by simp [gt, List.getD_eq_getElem?_getD, List.getElem?_eq_getElem hk]
    exact h5 _ this
  · have : x.1 < 30 := by
      simp only [kF, List.mem_cons, List.not_mem_nil, or_false] at hx
      rcases hx with e | e | e | e | e | e | e | e | e | e | e | e | e | e | e | e | e | e | e | e | e | e | e | e <;> (rw [e]; decide)
    rw [g2 x.1 (by omega) (by omega) (by omega)]
    exact h2 x hx
  · rw [e2, List.tail_drop]
theorem TQ.next {A : List Nm} {L ts : List Tok} {M : Mem} (h : TQ A L ts M) (hne : ts ≠ []) : TQ A L ts.tail (sI M 11 0 43 (mI M 11 0 43 + 1)) := by
  obtain ⟨k, h1, h2, h3, h4, h5, h6⟩ := h.top hne
  refine h6 _ (fun f hf => ?_) (fun j a b c => ?_) (fun f i => rfl) ?_
  · funext i k; exact if_neg (fun q => hf q.1)
  · rw [mI_sI, if_neg (fun q => a q.2.2)]
  · show mI M 11 0 43 + 1 = _
    rw [h2, lit32 1, oN_add]
theorem ct_wrong {A : List Nm} {L ts : List Tok} {Q X : Mem → Prop} {M : Mem} (h : TQ A L ts M) (hne : ts ≠ []) (hX : ∀ M', ThT (er ts) M' → X M') : w_Model_wrong 0 Q X M := by
  obtain ⟨k, h1, h2, ⟨h3, h4, h5⟩, h6, h7, -⟩ := h.top hne
  unfold w_Model_wrong
  have e : mI (sI M 11 0 49 1) 11 0 43 = Int32.ofNat k := h2
  rw [e, oN_tnc (by omega)]
  refine ⟨by show vp_in _ (mL M 108 0); rw [h5]; exact (vp_oN (by omega)).mpr h1, _, rfl, hX _ ⟨rfl, ?_⟩⟩
  show mI M 108 0 k = _
  exact h6.2.1
theorem ct_need {A : List Nm} {L ts : List Tok} {Q X : Mem → Prop} {M : Mem} {b : Nat} (h : TQ A L ts M) (hne : ts ≠ []) (hb : b < 100) (hQ : ∀ M', (hd ts).1 = b → TQ A L ts.tail M' → Q M') (hX : ∀ M', (hd ts).1 ≠ b → ThT (er ts) M' → X M') : w_Model_need 0 (Int32.ofNat b) Q X M := by
  obtain ⟨k, h1, h2, ⟨h3, h4, h5⟩, h6, h7, -⟩ := h.top hne
  unfold w_Model_need
  rw [h2, h3, oN_tnc (by omega), h6.1]
  refine ⟨(vp_oN (by omega)).mpr h1, ?_⟩
  by_cases c : (hd ts).1 = b
  · refine itp (by rw [c]) ?_
    unfold w_Model_need_j17
    exact hQ _ c (h.next hne)
  · exact itn (ne_oN c (by omega) (by omega)) (ct_wrong h hne (fun M' q => hX M' c q))
theorem ct_isWord {A : List Nm} {L ts : List Tok} {Q : Int32 → Mem → Prop} {M : Mem} {nm : Nm} (h : TQ A L ts M) (hne : ts ≠ []) (hm : nm ∈ A) (hQ : Q (b2 (isWd nm ts)) M) : w_Model_isWord 0 (nc A nm) Q M := by
  obtain ⟨k, h1, h2, ⟨h3, h4, h5⟩, h6, h7, -⟩ := h.top hne
  unfold w_Model_isWord
  rw [h2, h3, h4, oN_tnc (by omega), h6.1]
  refine ⟨(vp_oN (by omega)).mpr h1, ?_⟩
  unfold isWd at hQ
  have hl := h.1.2.2.1
  by_cases c : (hd ts).1 = 2
  · obtain ⟨v1, v2⟩ := h6.2.2.1 (Or.inl c)
    refine itp (by rw [c]; rfl) ⟨(vp_oN (by omega)).mpr h1, ?_⟩
    rw [v1]
    by_cases c2 : (hd ts).2.1 = nm
    · rw [decide_eq_true ⟨c, c2⟩] at hQ
      exact itp (by rw [c2]; rfl) hQ
    · rw [decide_eq_false (fun q => c2 q.2)] at hQ
      exact itn (fun q => c2 ((nc_inj (by omega) v2 hm).mp q)) hQ
  · rw [decide_eq_false (fun q => c q.1)] at hQ
    exact itn (ne_oN (b := 2) c (by omega) (by omega)) hQ
theorem isWd_ne {nm : Nm} {ts : List Tok} (h : isWd nm ts = true) : ts ≠ [] := fun q => by
  rw [q] at h; unfold isWd at h; exact absurd (of_decide_eq_true h).1 (by decide)
theorem TQ.same {A : List Nm} {L ts : List Tok} {M : Mem} (h : TQ A L ts M) : TQ A L ts (sI M 11 0 43 (mI M 11 0 43 + 0)) := by
  have : sI M 11 0 43 (mI M 11 0 43 + 0) = M := by
    have e : mI M 11 0 43 + 0 = mI M 11 0 43 := Int32.add_zero _
    rw [e]
    unfold sI
    have : (fun f' i' k' => if f' = 11 ∧ i' = 0 ∧ k' = 43 then mI M 11 0 43 else M.1 f' i' k') = M.1 := by
      funext f' i' k'
      split
      · rename_i q; rw [q.1, q.2.1, q.2.2]; rfl
      · rfl
    rw [this]
  rw [this]; exact h
theorem ct_takes {A : List Nm} {L ts : List Tok} {Q : Int32 → Mem → Prop} {M : Mem} {nm : Nm} (h : TQ A L ts M) (hne : ts ≠ []) (hm : nm ∈ A) (hQ1 : ∀ M', isWd nm ts = true → TQ A L ts.tail M' → Q 1 M') (hQ0 : ∀ M', isWd nm ts = false → TQ A L ts M' → Q 0 M') : w_Model_takes 0 (nc A nm) Q M := by
  unfold w_Model_takes
  refine ct_isWord h hne hm ?_
  cases c : isWd nm ts with
  | true =>
    refine itn (by decide) ?_
    unfold w_Model_takes_j20
    exact ⟨Or.inr rfl, hQ1 _ c (h.next hne)⟩
  | false =>
    refine itp (by decide) ?_
    unfold w_Model_takes_j20
    exact ⟨Or.inl rfl, hQ0 _ c h.same⟩
theorem ct_needWord {A : List Nm} {L ts : List Tok} {Q X : Mem → Prop} {M : Mem} {nm : Nm} (h : TQ A L ts M) (hne : ts ≠ []) (hm : nm ∈ A) (hQ : ∀ M', isWd nm ts = true → TQ A L ts.tail M' → Q M') (hX : ∀ M', isWd nm ts = false → ThT (er ts) M' → X M') : w_Model_needWord 0 (nc A nm) Q X M := by
  unfold w_Model_needWord
  exact ct_takes h hne hm (fun M' a b => itn (by decide) (hQ M' a b)) (fun M' a b => itp rfl (ct_wrong b hne (fun M'' q => hX M'' a q)))
theorem ct_plainName {A : List Nm} {L ts : List Tok} {Q : Int32 → Mem → Prop} {X : Mem → Prop} {M : Mem} (h : TQ A L ts M) (hne : ts ≠ []) (hQ : ∀ nm ts' M', pName ts = .inr (nm, ts') → nm ∈ A → TQ A L ts' M' → Q (nc A nm) M') (hX : ∀ e M', pName ts = .inl e → ThT e M' → X M') : w_Model_plainName 0 Q X M := by
  obtain ⟨k, h1, h2, ⟨h3, h4, h5⟩, h6, h7, -⟩ := h.top hne
  unfold w_Model_plainName
  rw [h2, h4, oN_tnc (by omega)]
  refine ⟨(vp_oN (by omega)).mpr h1, ct_need (b := 2) h hne (by omega) (fun M' c q => ?_) (fun M' c q => hX _ M' (if_neg c) q)⟩
  obtain ⟨v1, v2⟩ := h6.2.2.1 (Or.inl c)
  rw [v1]
  exact hQ _ _ M' (if_pos c) v2 q
theorem ct_isClassName {A : List Nm} {L ts : List Tok} {Q : Int32 → Mem → Prop} {M : Mem} {nm : Nm} (h : TQ A L ts M) (hm : nm ∈ A) (hQ : Q (b2 (decide (nm ∉ noCls))) M) : w_Model_isClassName 0 (nc A nm) Q M := by
  have hk := h.1.2.1
  have hl := h.1.2.2.1
  unfold w_Model_isClassName
  have k27 := hk (27, nNum) (by simp [kF])
  have k20 := hk (20, nRow) (by simp [kF])
  have k21 := hk (21, nNone) (by simp [kF])
  have k28 := hk (28, nNull) (by simp [kF])
  have k22 := hk (22, nUnset) (by simp [kF])
  have k23 := hk (23, nUnmade) (by simp [kF])
  have k24 := hk (24, nAny) (by simp [kF])
  simp only [] at k27 k20 k21 k28 k22 k23 k24
  rw [k27.1, k20.1, k21.1, k28.1, k22.1, k23.1, k24.1]
  have y : nm ∈ noCls → Q 0 M := fun q => by rw [decide_eq_false (fun x => x q)] at hQ; exact hQ
  have ii : ∀ {x : Nm}, x ∈ A → (nc A nm = nc A x ↔ nm = x) := fun hx => nc_inj (by omega) hm hx
  by_cases c1 : nm = nNum
  · exact itp ((ii k27.2).mpr c1) (y (by rw [c1]; simp [noCls]))
  refine itn (fun q => c1 ((ii k27.2).mp q)) ?_
  by_cases c2 : nm = nRow
  · exact itp ((ii k20.2).mpr c2) (y (by rw [c2]; simp [noCls]))
  refine itn (fun q => c2 ((ii k20.2).mp q)) ?_
  by_cases c3 : nm = nNone
  · exact itp ((ii k21.2).mpr c3) (y (by rw [c3]; simp [noCls]))
  refine itn (fun q => c3 ((ii k21.2).mp q)) ?_
  by_cases c4 : nm = nNull
  · exact itp ((ii k28.2).mpr c4) (y (by rw [c4]; simp [noCls]))
  refine itn (fun q => c4 ((ii k28.2).mp q)) ?_
  by_cases c5 : nm = nUnset
  · exact itp ((ii k22.2).mpr c5) (y (by rw [c5]; simp [noCls]))
  refine itn (fun q => c5 ((ii k22.2).mp q)) ?_
  by_cases c6 : nm = nUnmade
  · exact itp ((ii k23.2).mpr c6) (y (by rw [c6]; simp [noCls]))
  refine itn (fun q => c6 ((ii k23.2).mp q)) ?_
  by_cases c7 : nm = nAny
  · exact itp ((ii k24.2).mpr c7) (y (by rw [c7]; simp [noCls]))
  refine itn (fun q => c7 ((ii k24.2).mp q)) ?_
  rw [decide_eq_true (by simp [noCls, c1, c2, c3, c4, c5, c6, c7])] at hQ
  exact hQ
theorem ct_className {A : List Nm} {L ts : List Tok} {Q : Int32 → Mem → Prop} {X : Mem → Prop} {M : Mem} (h : TQ A L ts M) (hne : ts ≠ []) (hQ : ∀ nm ts' M', pCls ts = .inr (nm, ts') → nm ∈ A → TQ A L ts' M' → Q (nc A nm) M') (hX : ∀ e M', pCls ts = .inl e → ThT e M' → X M') : w_Model_className 0 Q X M := by
  obtain ⟨k, h1, h2, ⟨h3, h4, h5⟩, h6, h7, -⟩ := h.top hne
  unfold w_Model_className
  rw [h2, h3, h4, oN_tnc (by omega), h6.1]
  refine ⟨(vp_oN (by omega)).mpr h1, ?_⟩
  have bad : ¬ ((hd ts).1 = 2 ∧ (hd ts).2.1 ∉ noCls) → w_Model_className_j29 0 Q X M := fun c => by
    unfold w_Model_className_j29
    exact ct_wrong h hne (fun M' q => hX _ M' (if_neg c) q)
  by_cases c : (hd ts).1 = 2
  · obtain ⟨v1, v2⟩ := h6.2.2.1 (Or.inl c)
    refine itp (by rw [c]; rfl) ⟨(vp_oN (by omega)).mpr h1, ?_⟩
    rw [v1]
    refine ct_isClassName h v2 ?_
    by_cases c2 : (hd ts).2.1 ∉ noCls
    · rw [decide_eq_true c2]
      refine itn (by decide) ?_
      unfold w_Model_className_j33
      refine ct_plainName h hne (fun nm ts' M' q1 q2 q3 => ?_) (fun e M' q1 q2 => ?_)
      · unfold pName at q1
        rw [if_pos c] at q1
        obtain ⟨e1, e2⟩ := Prod.mk.inj (Sum.inr.inj q1)
        subst e1 e2
        exact hQ _ _ M' (if_pos ⟨c, c2⟩) q2 q3
      · unfold pName at q1
        rw [if_pos c] at q1
        cases q1
    · rw [decide_eq_false c2]
      exact itp (by decide) (bad (fun q => c2 q.2))
  · exact itn (ne_oN (b := 2) c (by omega) (by omega)) (bad (fun q => c q.1))
theorem kt_cls {A : List Nm} {nm : Nm} : kt A (2, nm) = 16 + nc A nm := by
  show Int32.ofNat (A.idxOf nm + 16) = 16 + Int32.ofNat (A.idxOf nm)
  rw [lit32 16, oN_add, Nat.add_comm]
theorem ct_type {A : List Nm} {L ts : List Tok} {Q : Int32 → Mem → Prop} {X : Mem → Prop} {M : Mem} (h : TQ A L ts M) (hne : ts ≠ []) (hQ : ∀ κ ts' M', pType ts = .inr (κ, ts') → kok A κ → TQ A L ts' M' → Q (kt A κ) M') (hX : ∀ e M', pType ts = .inl e → ThT e M' → X M') : w_Model_type 0 Q X M := by
  unfold w_Model_type
  unfold pType at hQ hX
  have k27 := h.1.2.1 (27, nNum) (by simp [kF])
  simp only [] at k27
  rw [k27.1]
  refine ct_takes h hne k27.2 (fun M' a b => itn (by decide) (hQ (0, []) _ M' (if_pos a) (fun e => absurd e (by decide)) b)) (fun M' a b => itp rfl ?_)
  have k20 := b.1.2.1 (20, nRow) (by simp [kF])
  simp only [] at k20
  rw [k20.1]
  rw [if_neg (by rw [a]; decide)] at hQ hX
  refine ct_takes b hne k20.2 (fun M2 a2 b2 => itn (by decide) (hQ (1, []) _ M2 (if_pos a2) (fun e => absurd e (by decide)) b2)) (fun M2 a2 b2 => itp rfl ?_)
  rw [if_neg (by rw [a2]; decide)] at hQ hX
  refine ct_className b2 hne (fun nm ts' M3 q1 q2 q3 => ?_) (fun e M3 q1 q2 => hX e M3 (by rw [q1]) q2)
  have := hQ (2, nm) ts' M3 (by rw [q1]) (fun _ => q2) q3
  rw [kt_cls] at this
  exact this
theorem ct_numberIn {A : List Nm} {L ts : List Tok} {Q : Int32 → Mem → Prop} {X : Mem → Prop} {M : Mem} {lo hi : Int32} (h : TQ A L ts M) (hne : ts ≠ []) (hQ : ∀ v ts' M', pNum lo hi ts = .inr (v, ts') → TQ A L ts' M' → Q v M') (hX : ∀ e M', pNum lo hi ts = .inl e → ThT e M' → X M') : w_Model_numberIn 0 lo hi Q X M := by
  obtain ⟨k, h1, h2, ⟨h3, h4, h5⟩, h6, h7, -⟩ := h.top hne
  unfold w_Model_numberIn
  have hn := h.next hne
  rw [h2, h3, h4, oN_tnc (by omega), h6.1]
  have hv := (vp_oN (a := k) (n := 6002) (by omega)).mpr h1
  refine ⟨hv, ?_⟩
  have bad : ¬ ((hd ts).1 = 4 ∧ lo ≤ (hd ts).2.2.1 ∧ (hd ts).2.2.1 ≤ hi) → w_Model_numberIn_j39 0 Q X M := fun c => by
    unfold w_Model_numberIn_j39
    exact ct_wrong h hne (fun M' q => hX _ M' (if_neg c) q)
  by_cases c : (hd ts).1 = 4
  · have v1 := h6.2.2.2 c
    refine itp (by rw [c]; rfl) ⟨hv, ?_⟩
    rw [v1]
    by_cases c1 : (hd ts).2.2.1 < lo
    · exact itp c1 (bad (fun q => absurd q.2.1 (nle32.mpr c1)))
    · refine itn c1 ⟨hv, ?_⟩
      by_cases c2 : (hd ts).2.2.1 ≤ hi
      · refine itp c2 ?_
        unfold w_Model_numberIn_j43
        have e : mI (sI M 11 0 43 (mI M 11 0 43 + 1)) 11 0 43 - 1 = Int32.ofNat k := by
          show mI M 11 0 43 + 1 - 1 = _
          rw [Int32.add_sub_cancel, h2]
        rw [e, oN_tnc (by omega)]
        refine ⟨by show vp_in _ (mL M 107 0); rw [h4]; exact hv, ?_⟩
        have e2 : mI (sI M 11 0 43 (mI M 11 0 43 + 1)) 107 0 k = (hd ts).2.2.1 := v1
        rw [e2]
        exact hQ _ _ _ (if_pos ⟨c, nlt32.mp c1, c2⟩) hn
      · exact itn c2 (bad (fun q => c2 q.2.2))
  · exact itn (ne_oN (b := 4) c (by omega) (by omega)) (bad (fun q => c q.1))

/-! B: the twin's signatures: types and a result, each once -/
abbrev Sg : Type := List Int32 × Int32
abbrev sF : Sl := (11, 0, 30, 300)
abbrev sC : Sl := (11, 0, 31, 300)
abbrev sRe : Sl := (11, 0, 32, 300)
abbrev sNx : Sl := (11, 0, 33, 300)
abbrev sTy : Sl := (11, 0, 35, 300)
abbrev sTr : Sl := (11, 0, 55, 300)
abbrev X5 : List Sl := [sF, sC, sRe, sNx, sTy]
abbrev gi (l : List Int32) (k : Nat) : Int32 := l.getD k 0
abbrev gs1 (S : List Sg) (x : Nat) : Sg := S.getD x ([], 0)
def off : List Sg → Nat → Nat
  | _, 0 => 0
  | [], _ => 0
  | s :: S, x + 1 => s.1.length + off S x
theorem off_app (S : List Sg) (t : Sg) : ∀ x, x ≤ S.length → off (S ++ [t]) x = off S x := by
  induction S with
  | nil => intro x h; simp at h; subst h; rfl
  | cons s S ih =>
    intro x h
    cases x with
    | zero => rfl
    | succ x => show _ + off (S ++ [t]) x = _ + off S x; rw [ih x (by simpa using h)]
theorem off_end (S : List Sg) (t : Sg) : off (S ++ [t]) (S.length + 1) = off S S.length + t.1.length := by
  induction S with
  | nil => simp [off]
  | cons s S ih =>
    show s.1.length + off (S ++ [t]) (S.length + 1) = s.1.length + off S S.length + t.1.length
    rw [ih]; omega
theorem off_succ (S : List Sg) : ∀ x, x < S.length → off S (x + 1) = off S x + (gs1 S x).1.length := by
  induction S with
  | nil => intro x h; simp at h
  | cons s S ih =>
    intro x h
    cases x with
    | zero => simp [off, gs1]
    | succ x =>
      show s.1.length + off S (x + 1) = s.1.length + off S x + _
      rw [ih x (by simpa using h)]
      simp [gs1]; omega
theorem off_mono (S : List Sg) : ∀ y x, x ≤ y → y ≤ S.length → off S x ≤ off S y := by
  intro y
  induction y with
  | zero => intro x h _; simp at h; rw [h]; exact Nat.le_refl _
  | succ y ih =>
    intro x h hy
    by_cases e : x = y + 1
    · rw [e]; exact Nat.le_refl _
    · have := ih x (by omega) (by omega)
      have := off_succ S y (by omega)
      omega
def TSg (hS : Sg → Nat) (S : List Sg) (M : Mem) : Prop :=
  (mI M 11 0 36 = Int32.ofNat S.length ∧ mI M 11 0 37 = Int32.ofNat (off S S.length) ∧ S.length ≤ 100000 ∧ off S S.length ≤ 1000000 ∧ mL M 106 0 = 1024) ∧
  (S.length ≤ rl M sF ∧ S.length ≤ rl M sC ∧ S.length ≤ rl M sRe ∧ S.length ≤ rl M sNx ∧ off S S.length ≤ rl M sTy ∧ rl M sF ≤ 2 * S.length + 600 ∧ rl M sC ≤ 2 * S.length + 600 ∧ rl M sRe ≤ 2 * S.length + 600 ∧ rl M sNx ≤ 2 * S.length + 600 ∧ rl M sTy ≤ 2 * off S S.length + 3000) ∧
  S.Nodup ∧ (∀ x, x < S.length → (rd M sF x = Int32.ofNat (off S x) ∧ rd M sC x = Int32.ofNat (gs1 S x).1.length ∧ rd M sRe x = (gs1 S x).2 ∧ rd M sNx x = last (fun j => hS (gs1 S j) == hS (gs1 S x)) x + 1) ∧ ∀ k, k < (gs1 S x).1.length → rd M sTy (off S x + k) = gi (gs1 S x).1 k) ∧
  ∀ h, h < 1024 → mI M 106 0 h = last (fun j => hS (gs1 S j) == h) S.length + 1
def sumS : Sg → Nat → Int32
  | s, 0 => (31 : Int32) * Int32.ofNat s.1.length + s.2
  | s, k + 1 => (31 : Int32) * sumS s k + gi s.1 k
def hashS (s : Sg) : Int32 := (sumS s s.1.length ^^^ ((sumS s s.1.length).toUInt32 >>> ((11 : Int32).toUInt32 &&& Int32.toUInt32 31)).toInt32) &&& (1023 : Int32)
def hSg (s : Sg) : Nat := (hashS s).toNatClampNeg
theorem hSg_eq (s : Sg) : hSg s < 1024 ∧ hashS s = Int32.ofNat (hSg s) := by
  obtain ⟨h, a, b⟩ := and_lt (x := sumS s s.1.length ^^^ ((sumS s s.1.length).toUInt32 >>> ((11 : Int32).toUInt32 &&& Int32.toUInt32 31)).toInt32) (m := 1023) (by decide)
  have e : hashS s = Int32.ofNat h := b
  unfold hSg
  rw [e, oN_tnc (by omega)]
  exact ⟨by omega, rfl⟩
theorem gs_app {S : List Sg} {x : Sg} {j : Nat} (h : j < S.length) : gs1 (S ++ [x]) j = gs1 S j := by
  simp [gs1, List.getD_eq_getElem?_getD, List.getElem?_append_left h]
theorem gs_end {S : List Sg} {x : Sg} : gs1 (S ++ [x]) S.length = x := by
  simp [gs1, List.getD_eq_getElem?_getD]
theorem gs_mem {S : List Sg} {j : Nat} (h : j < S.length) : gs1 S j ∈ S := by
  simp [gs1, List.getD_eq_getElem?_getD, List.getElem?_eq_getElem h]
theorem idx_gs {S : List Sg} (hn : S.Nodup) {j : Nat} (h : j < S.length) : S.idxOf (gs1 S j) = j := by
  have e : gs1 S j = S[j] := by simp [gs1, List.getD_eq_getElem?_getD, List.getElem?_eq_getElem h]
  rw [e]; exact hn.idxOf_getElem j h
theorem mem_gs {S : List Sg} {x : Sg} (h : x ∈ S) : ∃ j, j < S.length ∧ gs1 S j = x := by
  obtain ⟨j, hj, e⟩ := List.getElem_of_mem h
  exact ⟨j, hj, by simp [gs1, List.getD_eq_getElem?_getD, List.getElem?_eq_getElem hj, e]⟩
theorem ext_gi {a b : List Int32} (hl : a.length = b.length) (h : ∀ j, j < a.length → gi a j = gi b j) : a = b := by
  refine List.ext_getElem hl (fun i h1 h2 => ?_)
  have := h i h1
  simpa [gi, List.getD_eq_getElem?_getD, List.getElem?_eq_getElem h1, List.getElem?_eq_getElem h2] using this
/-- a row of types: n of them -/
def RowI (M : Mem) (r : Nat) (l : List Int32) : Prop := l.length ≤ mL M 300 r ∧ l.length ≤ 6000 ∧ ∀ k, k < l.length → mI M 300 r k = gi l k
theorem c_isSig {hS : Sg → Nat} {S : List Sg} {G : List Sl} {M : Mem} {r x : Nat} {s : Sg} {Q : Int32 → Mem → Prop} (hG : TG G M) (hGs : sF ∈ G ∧ sC ∈ G ∧ sRe ∈ G ∧ sNx ∈ G ∧ sTy ∈ G) (hN : TSg hS S M) (hx : x < S.length) (hr : RowI M r s.1)
    (hQ : Q (b2 (decide (gs1 S x = s))) M) : w_Model_isSignature 0 (Int32.ofNat x) r (Int32.ofNat s.1.length) s.2 Q M := by
  obtain ⟨⟨n1, n2, n3, n4, n5⟩, ⟨m1, m2, m3, m4, m5, m6, m7, m8, m9, m10⟩, n6, n7, n8⟩ := id hN
  obtain ⟨⟨z1, z2, z3, z4⟩, z5⟩ := n7 x hx
  obtain ⟨hr1, hr3, hr2⟩ := hr
  have hFr : mR M 11 0 30 = some (300, rdI M sF) := (hG sF hGs.1).1.1
  have hCr : mR M 11 0 31 = some (300, rdI M sC) := (hG sC hGs.2.1).1.1
  have hRr : mR M 11 0 32 = some (300, rdI M sRe) := (hG sRe hGs.2.2.1).1.1
  have hTr : mR M 11 0 35 = some (300, rdI M sTy) := (hG sTy hGs.2.2.2.2).1.1
  have ho : off S x + (gs1 S x).1.length ≤ off S S.length := by
    rw [← off_succ S x hx]; exact off_mono S S.length (x + 1) (by omega) (Nat.le_refl _)
  generalize hy : gs1 S x = y at z1 z2 z3 z4 z5 hQ ho
  have hyl : y.1.length ≤ 1000000 := by omega
  unfold w_Model_isSignature
  have ef : ∀ c : Bool, (c = decide (y.1.length = s.1.length ∧ y.2 = s.2)) → w_Model_isSignature_j26 0 Q (Int32.ofNat x) r (Int32.ofNat s.1.length) (b2 c) M := by
    intro c hc
    unfold w_Model_isSignature_j26
    have main : ∀ d k c, s.1.length - k < d → k ≤ s.1.length → (c = decide ((y.1.length = s.1.length ∧ y.2 = s.2) ∧ ∀ j, j < k → gi y.1 j = gi s.1 j)) →
        w_Model_isSignature_L31 0 Q d (Int32.ofNat x) r (Int32.ofNat s.1.length) (b2 c) (Int32.ofNat k) M := by
      intro d
      induction d with
      | zero => intro k c h; omega
      | succ d ih =>
        intro k c hd hk hc
        have hend : (c = true → k = s.1.length) → (b2 c = 0 ∨ b2 c = 1) ∧ Q (b2 c) M := by
          intro he
          refine ⟨by cases c <;> simp [b2], ?_⟩
          have : c = decide (y = s) := by
            cases c with
            | true =>
              have ek := he rfl
              have h1 := of_decide_eq_true hc.symm
              exact (decide_eq_true (Prod.ext (ext_gi h1.1.1 (fun j hj => h1.2 j (by omega))) h1.1.2)).symm
            | false =>
              have h1 := of_decide_eq_false hc.symm
              refine (decide_eq_false (fun q => h1 ?_)).symm
              rw [q]; exact ⟨⟨rfl, rfl⟩, fun _ _ => rfl⟩
          rw [this]; exact hQ
        unfold w_Model_isSignature_L31
        by_cases e : k = s.1.length
        · exact itp (le_oN (by omega) (by omega)) (hend (fun _ => e))
        · refine itn (nle_oN (by omega) (by omega)) ?_
          cases c with
          | false => exact itp rfl (hend (fun q => by cases q))
          | true =>
            refine itn (by decide) ?_
            have h1 := of_decide_eq_true hc.symm
            refine ⟨_, hTr, _, hFr, ?_⟩
            have e0 : mI M 300 (rdI M sF) x = Int32.ofNat (off S x) := z1
            rw [oN_tnc (k := x) (by omega), e0, oN_add, oN_tnc (by omega), oN_tnc (by omega)]
            refine ⟨(vp_oN (by omega)).mpr (show _ < rl M sF by omega), (vp_oN (by omega)).mpr (show _ < rl M sTy by omega), (vp_oN (by omega)).mpr (by omega), ?_⟩
            have e1 : mI M 300 (rdI M sTy) (off S x + k) = gi y.1 k := z5 k (by omega)
            rw [e1, hr2 k (by omega)]
            have st : ∀ c', (c' = decide (gi y.1 k = gi s.1 k)) → w_Model_isSignature_j68 0 Q (w_Model_isSignature_L31 0 Q d) (Int32.ofNat x) r (Int32.ofNat s.1.length) (Int32.ofNat k) (b2 c') M := by
              intro c' hc'
              unfold w_Model_isSignature_j68
              rw [lit32 1, oN_add]
              refine ih (k + 1) c' (by omega) (by omega) ?_
              rw [hc']
              refine decide_eq_decide.mpr ⟨fun q => ⟨h1.1, fun j hj => ?_⟩, fun q => q.2 k (by omega)⟩
              by_cases ej : j = k
              · rw [ej]; exact q
              · exact h1.2 j (by omega)
            by_cases e2 : gi y.1 k = gi s.1 k
            · exact itp e2 (st true (decide_eq_true e2).symm)
            · exact itn e2 (st false (decide_eq_false e2).symm)
    exact ⟨s.1.length + 1, main _ 0 c (by omega) (by omega) (by rw [hc]; exact decide_eq_decide.mpr ⟨fun q => ⟨q, fun j hj => by omega⟩, fun q => q.1⟩)⟩
  rw [oN_tnc (by omega)]
  refine ⟨_, hCr, (vp_oN (by omega)).mpr (show _ < rl M sC by omega), ?_⟩
  have e1 : mI M 300 (rdI M sC) x = Int32.ofNat y.1.length := z2
  rw [e1]
  have j25 : ¬ (y.1.length = s.1.length ∧ y.2 = s.2) → w_Model_isSignature_j25 0 Q (Int32.ofNat x) r (Int32.ofNat s.1.length) M := fun h => by
    unfold w_Model_isSignature_j25
    exact ef false (decide_eq_false h).symm
  by_cases e : y.1.length = s.1.length
  · refine itp (by rw [e]) ⟨_, hRr, (vp_oN (by omega)).mpr (show _ < rl M sRe by omega), ?_⟩
    have e2 : mI M 300 (rdI M sRe) x = y.2 := z3
    rw [e2]
    by_cases e3 : y.2 = s.2
    · exact itp e3 (ef true (decide_eq_true ⟨e, e3⟩).symm)
    · exact itn e3 (j25 (fun q => e3 q.2))
  · exact itn (ne_oN e (by omega) (by omega)) (j25 (fun q => e q.1))

theorem rd_upd {G : List Sl} {M : Mem} {s s' : Sl} {k k0 i : Nat} {v : Int32} (h : TG G M) (hs : s ∈ G) (hs' : s' ∈ G) (ei : i = rdI M s) : rd (sI M s.2.2.2 i k0 v) s' k = if s' = s ∧ k = k0 then v else rd M s' k := by
  subst ei
  by_cases e : s' = s
  · subst e
    rw [rd_wr]
    by_cases c : k = k0
    · rw [if_pos c, if_pos ⟨rfl, c⟩]
    · rw [if_neg c, if_neg (fun q => c q.2)]
  · rw [if_neg (fun q => e q.1)]
    show (if s'.2.2.2 = s.2.2.2 ∧ rdI M s' = rdI M s ∧ k = k0 then v else rd M s' k) = _
    exact if_neg (fun q => (h s hs).2 s' hs' e q.1 q.2.1)
theorem GF.cp {G X : List Sl} {M M1 : Mem} {s : Sl} {f j sp i dp n : Nat} (h : GF G X M M1) (hs : s ∈ G) (hx : s ∈ X) (ei : i = rdI M1 s) : GF G X M (cpI M1 f j sp s.2.2.2 i dp n) := by
  subst ei
  refine ⟨fun s' hs' => h.1 s' hs', fun s' hs' hx' => ⟨fun k' => ?_, (h.2.1 s' hs' hx').2.1, (h.2.1 s' hs' hx').2.2⟩, h.2.2⟩
  rw [← (h.2.1 s' hs' hx').1 k']
  have hne : s' ≠ s := fun e => hx' (e ▸ hx)
  exact if_neg (fun q => (h.1 s hs).2 s' hs' hne q.1 q.2)
theorem rd_cp {G : List Sl} {M : Mem} {s s' : Sl} {f j sp i dp n k : Nat} (h : TG G M) (hs : s ∈ G) (hs' : s' ∈ G) (ei : i = rdI M s) : rd (cpI M f j sp s.2.2.2 i dp n) s' k = if s' = s ∧ dp ≤ k ∧ k < dp + n then mI M f j (sp + (k - dp)) else rd M s' k := by
  subst ei
  by_cases e : s' = s
  · subst e
    show (if s'.2.2.2 = s'.2.2.2 ∧ rdI M s' = rdI M s' then (if dp ≤ k ∧ k < dp + n then mI M f j (sp + (k - dp)) else rd M s' k) else rd M s' k) = _
    rw [if_pos ⟨rfl, rfl⟩]
    by_cases c : dp ≤ k ∧ k < dp + n
    · rw [if_pos c, if_pos ⟨rfl, c⟩]
    · rw [if_neg c, if_neg (fun q => c q.2)]
  · rw [if_neg (fun q => e q.1)]
    show (if s'.2.2.2 = s.2.2.2 ∧ rdI M s' = rdI M s then _ else rd M s' k) = _
    exact if_neg (fun q => (h s hs).2 s' hs' e q.1 q.2)
theorem lastS {hS : Sg → Nat} {S : List Sg} {x : Sg} {h n : Nat} (hn : n ≤ S.length) : last (fun j => hS (gs1 (S ++ [x]) j) == h) n = last (fun j => hS (gs1 S j) == h) n :=
  last_congr _ (fun j hj => by rw [gs_app (show j < S.length by omega)])
abbrev Gs5 (G : List Sl) : Prop := sF ∈ G ∧ sC ∈ G ∧ sRe ∈ G ∧ sNx ∈ G ∧ sTy ∈ G
/-- what making room for signatures leaves alone -/
def NS (M M1 : Mem) : Prop := mI M1 11 0 36 = mI M 11 0 36 ∧ mI M1 11 0 37 = mI M 11 0 37 ∧ (∀ k, mI M1 106 0 k = mI M 106 0 k) ∧ mL M1 106 0 = mL M 106 0
theorem NS.trans {M M1 M2 : Mem} (h : NS M M1) (h1 : NS M1 M2) : NS M M2 := ⟨h1.1.trans h.1, h1.2.1.trans h.2.1, fun k => (h1.2.2.1 k).trans (h.2.2.1 k), h1.2.2.2.trans h.2.2.2⟩
theorem NS.room {M M1 : Mem} {k : Nat} {v : Option (Nat × Nat)} (h : Fr F_Model_room M M1) : NS M (sR M1 11 0 k v) :=
  ⟨h.I (f := 11) (k := 36) rfl 0, h.I (f := 11) (k := 37) rfl 0, h.Ia (f := 106) rfl rfl 0, h.L (f := 106) rfl 0⟩
/-- the last of it: the rows have room -/
theorem c_sigEnd {hS : Sg → Nat} {S : List Sg} {G : List Sl} {M M5 : Mem} {r : Nat} {s : Sg} (hob : ∀ s ∈ G, 300 ≤ s.2.2.2) (hGs : Gs5 G) (hlt : ∀ x, hS x < 1024) (hF : GF G X5 M M5) (hr : RowI M5 r s.1) (hnot : s ∉ S) (hlen : S.length < 100000) (hoff : off S S.length + s.1.length ≤ 1000000)
    (n1 : mI M5 11 0 36 = Int32.ofNat S.length ∧ mI M5 11 0 37 = Int32.ofNat (off S S.length) ∧ mL M5 106 0 = 1024)
    (n2 : S.length + 1 ≤ rl M5 sF ∧ S.length + 1 ≤ rl M5 sC ∧ S.length + 1 ≤ rl M5 sRe ∧ S.length + 1 ≤ rl M5 sNx ∧ off S S.length + s.1.length ≤ rl M5 sTy ∧ rl M5 sF ≤ 2 * (S.length + 1) + 600 ∧ rl M5 sC ≤ 2 * (S.length + 1) + 600 ∧ rl M5 sRe ≤ 2 * (S.length + 1) + 600 ∧ rl M5 sNx ≤ 2 * (S.length + 1) + 600 ∧ rl M5 sTy ≤ 2 * (off S S.length + s.1.length) + 3000)
    (n6 : S.Nodup) (n7 : ∀ x, x < S.length → (rd M5 sF x = Int32.ofNat (off S x) ∧ rd M5 sC x = Int32.ofNat (gs1 S x).1.length ∧ rd M5 sRe x = (gs1 S x).2 ∧ rd M5 sNx x = last (fun j => hS (gs1 S j) == hS (gs1 S x)) x + 1) ∧ ∀ k, k < (gs1 S x).1.length → rd M5 sTy (off S x + k) = gi (gs1 S x).1 k)
    (n8 : ∀ h, h < 1024 → mI M5 106 0 h = last (fun j => hS (gs1 S j) == h) S.length + 1) :
    let Ma := cpI M5 300 r 0 300 (rdI M5 sTy) (off S S.length) s.1.length
    let Mb := sI Ma 300 (rdI M5 sF) S.length (Int32.ofNat (off S S.length))
    let Mc := sI Mb 300 (rdI M5 sC) S.length (Int32.ofNat s.1.length)
    let Md := sI Mc 300 (rdI M5 sRe) S.length s.2
    let Me := sI Md 300 (rdI M5 sNx) S.length (mI M5 106 0 (hS s))
    let Mf := sI (sI Me 11 0 37 (Int32.ofNat (off S S.length + s.1.length))) 11 0 36 (Int32.ofNat (S.length + 1))
    TSg hS (S ++ [s]) (sI Mf 106 0 (hS s) (Int32.ofNat (S.length + 1))) ∧ GF G X5 M (sI Mf 106 0 (hS s) (Int32.ofNat (S.length + 1))) := by
  intro Ma Mb Mc Md Me Mf
  obtain ⟨g1, g2, g3, g4, g5⟩ := hGs
  have fa : GF G X5 M Ma := hF.cp (s := sTy) g5 (by simp) rfl
  have fb : GF G X5 M Mb := fa.wr (s := sF) g1 (by simp) rfl
  have fc : GF G X5 M Mc := fb.wr (s := sC) g2 (by simp) rfl
  have fd : GF G X5 M Md := fc.wr (s := sRe) g3 (by simp) rfl
  have fe : GF G X5 M Me := fd.wr (s := sNx) g4 (by simp) rfl
  have rr : ∀ s' ∈ G, ∀ k, rd Me s' k = if s' = sNx ∧ k = S.length then mI M5 106 0 (hS s) else if s' = sRe ∧ k = S.length then s.2 else if s' = sC ∧ k = S.length then Int32.ofNat s.1.length else if s' = sF ∧ k = S.length then Int32.ofNat (off S S.length) else if s' = sTy ∧ off S S.length ≤ k ∧ k < off S S.length + s.1.length then mI M5 300 r (0 + (k - off S S.length)) else rd M5 s' k := fun s' hs' k => by
    have e1 : rd Me s' k = _ := rd_upd (s := sNx) (k0 := S.length) (v := mI M5 106 0 (hS s)) (i := rdI M5 sNx) fd.1 g4 hs' rfl
    have e2 : rd Md s' k = _ := rd_upd (s := sRe) (k0 := S.length) (v := s.2) (i := rdI M5 sRe) fc.1 g3 hs' rfl
    have e3 : rd Mc s' k = _ := rd_upd (s := sC) (k0 := S.length) (v := Int32.ofNat s.1.length) (i := rdI M5 sC) fb.1 g2 hs' rfl
    have e4 : rd Mb s' k = _ := rd_upd (s := sF) (k0 := S.length) (v := Int32.ofNat (off S S.length)) (i := rdI M5 sF) fa.1 g1 hs' rfl
    have e5 : rd Ma s' k = _ := rd_cp (s := sTy) (f := 300) (j := r) (sp := 0) (dp := off S S.length) (n := s.1.length) (i := rdI M5 sTy) hF.1 g5 hs' rfl
    rw [e1, e2, e3, e4, e5]
  have lM : ∀ f i, mL Me f i = mL M5 f i := fun f i => rfl
  have iM : ∀ s', rdI Me s' = rdI M5 s' := fun s' => rfl
  have l6 : ∀ h, mI Me 106 0 h = mI M5 106 0 h := fun h => rfl
  have dl : ∀ s', rl Me s' = rl M5 s' := fun s' => rfl
  have hfin : GF G X5 M (sI Mf 106 0 (hS s) (Int32.ofNat (S.length + 1))) := fe.of (fun s' hs' => rfl) (fun s' hs' i k => by
    have := hob s' hs'
    show mI (sI (sI (sI Me 11 0 37 _) 11 0 36 _) 106 0 (hS s) _) _ i k = _
    rw [mI_sI, if_neg (fun q => by omega), mI_sI, if_neg (fun q => by omega), mI_sI, if_neg (fun q => by omega)]) (fun s' hs' i => rfl) rfl rfl
  refine ⟨?_, hfin⟩
  have eo := off_end S s
  have rE : ∀ s' ∈ G, ∀ k, rd (sI Mf 106 0 (hS s) (Int32.ofNat (S.length + 1))) s' k = rd Me s' k := fun s' hs' k => by
    have := hob s' hs'
    show mI (sI (sI (sI Me 11 0 37 _) 11 0 36 _) 106 0 (hS s) _) _ (rdI Me s') k = mI Me _ (rdI Me s') k
    rw [mI_sI, if_neg (fun q => by omega), mI_sI, if_neg (fun q => by omega), mI_sI, if_neg (fun q => by omega)]
  have e106 : ∀ h, mI (sI Mf 106 0 (hS s) (Int32.ofNat (S.length + 1))) 106 0 h = if h = hS s then Int32.ofNat (S.length + 1) else mI M5 106 0 h := fun h => by
    rw [mI_sI]
    by_cases c : h = hS s
    · rw [if_pos ⟨rfl, rfl, c⟩, if_pos c]
    · rw [if_neg (fun q => c q.2.2), if_neg c]; exact l6 h
  have e36 : mI (sI Mf 106 0 (hS s) (Int32.ofNat (S.length + 1))) 11 0 36 = Int32.ofNat (S.length + 1) := rfl
  have e37 : mI (sI Mf 106 0 (hS s) (Int32.ofNat (S.length + 1))) 11 0 37 = Int32.ofNat (off S S.length + s.1.length) := rfl
  have eL : mL (sI Mf 106 0 (hS s) (Int32.ofNat (S.length + 1))) 106 0 = 1024 := n1.2.2
  have dl' : ∀ s', rl (sI Mf 106 0 (hS s) (Int32.ofNat (S.length + 1))) s' = rl M5 s' := fun s' => rfl
  generalize sI Mf 106 0 (hS s) (Int32.ofNat (S.length + 1)) = Mz at rE e106 e36 e37 eL dl'
  clear hfin
  obtain ⟨m1, m2, m3, m4, m5, m6, m7, m8, m9, m10⟩ := n2
  unfold TSg
  rw [List.length_append, List.length_singleton, eo, dl', dl', dl', dl', dl']
  refine ⟨⟨e36, e37, by omega, hoff, eL⟩, ⟨m1, m2, m3, m4, m5, m6, m7, m8, m9, m10⟩, ?_, fun x hx => ?_, fun h hh => ?_⟩
  · rw [List.nodup_append]
    exact ⟨n6, by simp, fun a ha b hb => by simp at hb; subst hb; exact fun e => hnot (e ▸ ha)⟩
  · rw [rE sF g1, rE sC g2, rE sRe g3, rE sNx g4, rr sF g1, rr sC g2, rr sRe g3, rr sNx g4]
    by_cases ex : x = S.length
    · subst ex
      rw [gs_end, off_app S s _ (Nat.le_refl _)]
      simp only [and_true, if_true, if_false, show ¬ sF = sNx by decide, show ¬ sF = sRe by decide, show ¬ sF = sC by decide, show ¬ sC = sNx by decide, show ¬ sC = sRe by decide, show ¬ sRe = sNx by decide]
      refine ⟨⟨trivial, trivial, trivial, ?_⟩, fun k hk => ?_⟩
      · rw [n8 _ (hlt s), lastS (Nat.le_refl _)]
      · rw [rE sTy g5, rr sTy g5]
        simp only [false_and, if_false, show ¬ sTy = sNx by decide, show ¬ sTy = sRe by decide, show ¬ sTy = sC by decide, show ¬ sTy = sF by decide]
        rw [if_pos ⟨trivial, by omega, by omega⟩]
        have : 0 + (off S S.length + k - off S S.length) = k := by omega
        rw [this]; exact hr.2.2 k hk
    · have hx' : x < S.length := by omega
      obtain ⟨⟨y1, y2, y3, y4⟩, y5⟩ := n7 x hx'
      rw [gs_app hx', off_app S s _ (by omega)]
      simp only [ex, and_false, if_false, false_and, show ¬ sF = sTy by decide, show ¬ sC = sTy by decide, show ¬ sRe = sTy by decide, show ¬ sNx = sTy by decide]
      refine ⟨⟨y1, y2, y3, ?_⟩, fun k hk => ?_⟩
      · rw [y4, lastS (by omega)]
      · have ho : off S x + (gs1 S x).1.length ≤ off S S.length := by
          rw [← off_succ S x hx']; exact off_mono S S.length (x + 1) (by omega) (Nat.le_refl _)
        rw [rE sTy g5, rr sTy g5]
        simp only [false_and, if_false, show ¬ sTy = sNx by decide, show ¬ sTy = sRe by decide, show ¬ sTy = sC by decide, show ¬ sTy = sF by decide]
        rw [if_neg (fun q => by omega)]
        exact y5 k hk
  · rw [e106]
    unfold last
    rw [gs_end]
    by_cases eh : hS s = h
    · subst eh
      rw [if_pos rfl, if_pos (by simp), lit32 1, oN_add]
    · rw [if_neg (fun q => eh q.symm), if_neg (by simpa using eh), n8 h hh, lastS (Nat.le_refl _)]

theorem ins_memS {S : List Sg} {s : Sg} : s ∈ ins S s := ins_mem S s
theorem c_sig_L58 {hS : Sg → Nat} (hlt : ∀ x, hS x < 1024) {S : List Sg} {G : List Sl} {M : Mem} {r : Nat} {s : Sg} {Q : Int32 → Mem → Prop} (hG : Gok G) (hGs : Gs5 G) (hob : ∀ s ∈ G, s.1 < 20 ∧ 300 ≤ s.2.2.2) (hTG : TG G M) (hN : TSg hS S M) (hlen : S.length < 100000) (hoff : off S S.length + s.1.length ≤ 1000000) (hr : ∀ M', GF G X5 M M' → RowI M' r s.1)
    (hQ : ∀ M', TSg hS (ins S s) M' → GF G X5 M M' → Q (Int32.ofNat (S.idxOf s)) M') :
    ∀ n m, m < n → m ≤ S.length → (∀ j, m ≤ j → j < S.length → gs1 S j ≠ s) →
      w_Model_signature_L58 0 Q n r (Int32.ofNat s.1.length) s.2 (Int32.ofNat (hS s)) (last (fun j => hS (gs1 S j) == hS s) m + 1) M := by
  have hob' : ∀ s ∈ G, s.1 < 20 := fun s hs => (hob s hs).1
  obtain ⟨g1, g2, g3, g4, g5⟩ := id hGs
  obtain ⟨⟨n1, n2, n3, n4, n5⟩, ⟨m1, m2, m3, m4, m5, m6, m7, m8, m9, m10⟩, n6, n7, n8⟩ := id hN
  have hNr : mR M 11 0 33 = some (300, rdI M sNx) := (hTG sNx g4).1.1
  have hr0 := hr M (GF.rf hTG)
  have hsl := hr0.2.1
  intro n
  induction n with
  | zero => intro m hm; omega
  | succ n ih =>
    intro m hm hml hno
    unfold w_Model_signature_L58
    rcases last_cases (fun j => hS (gs1 S j) == hS s) m with ⟨e, q⟩ | ⟨k, hk, e, q1, q2⟩
    · rw [e]
      have hFr : mR M 11 0 30 = some (300, rdI M sF) := (hTG sF g1).1.1
      refine itp (by decide) ⟨_, hFr, ?_⟩
      have hnot : s ∉ S := by
        intro hx
        obtain ⟨j, hj, ej⟩ := mem_gs hx
        by_cases hjm : j < m
        · have := q j hjm; rw [ej] at this; simp at this
        · exact hno j (by omega) hj ej
      have hidx : S.idxOf s = S.length := List.idxOf_eq_length hnot
      rw [n1, lit32 1, oN_add]
      refine mf_w_Model_room (fun i7 M6 hf hp => ?_) (c_room (s := sF) (X := [sF]) (Q := fun i M' => Gr1 G [sF] sF (S.length + 1) M (sR M' 11 0 30 (some (300, i)))) hG hob' hTG g1 (by simp) rfl (by omega) (by omega) (fun i M' h => h))
      have a1 := NS.room (k := 30) (v := some (300, i7)) hf
      obtain ⟨p1, p2, p3, p4, p5⟩ := hp
      generalize sR M6 11 0 30 (some (300, i7)) = M1 at a1 p1 p2 p3 p4 p5 ⊢
      refine ⟨_, (p1.1 sC g2).1.1, ?_⟩
      rw [a1.1, n1, oN_add]
      have pC := p1.2.1 sC g2 (by decide)
      have pR := p1.2.1 sRe g3 (by decide)
      have pN := p1.2.1 sNx g4 (by decide)
      have pT := p1.2.1 sTy g5 (by decide)
      refine mf_w_Model_room (fun i10 M9 hf hp => ?_) (c_room (s := sC) (X := [sC]) (Q := fun i M' => Gr1 G [sC] sC (S.length + 1) M1 (sR M' 11 0 31 (some (300, i)))) hG hob' p1.1 g2 (by simp) rfl (by omega) (by omega) (fun i M' h => h))
      have a2 := NS.room (k := 31) (v := some (300, i10)) hf
      obtain ⟨t1, t2, t3, t4, t5⟩ := hp
      generalize sR M9 11 0 31 (some (300, i10)) = M2 at a2 t1 t2 t3 t4 t5 ⊢
      refine ⟨_, (t1.1 sRe g3).1.1, ?_⟩
      rw [a2.1, a1.1, n1, oN_add]
      have tF := t1.2.1 sF g1 (by decide)
      have tR := t1.2.1 sRe g3 (by decide)
      have tN := t1.2.1 sNx g4 (by decide)
      have tT := t1.2.1 sTy g5 (by decide)
      refine mf_w_Model_room (fun i13 M12 hf hp => ?_) (c_room (s := sRe) (X := [sRe]) (Q := fun i M' => Gr1 G [sRe] sRe (S.length + 1) M2 (sR M' 11 0 32 (some (300, i)))) hG hob' t1.1 g3 (by simp) rfl (by omega) (by omega) (fun i M' h => h))
      have a3 := NS.room (k := 32) (v := some (300, i13)) hf
      obtain ⟨u1, u2, u3, u4, u5⟩ := hp
      generalize sR M12 11 0 32 (some (300, i13)) = M3 at a3 u1 u2 u3 u4 u5 ⊢
      refine ⟨_, (u1.1 sNx g4).1.1, ?_⟩
      rw [a3.1, a2.1, a1.1, n1, oN_add]
      have uF := u1.2.1 sF g1 (by decide)
      have uC := u1.2.1 sC g2 (by decide)
      have uN := u1.2.1 sNx g4 (by decide)
      have uT := u1.2.1 sTy g5 (by decide)
      refine mf_w_Model_room (fun i16 M15 hf hp => ?_) (c_room (s := sNx) (X := [sNx]) (Q := fun i M' => Gr1 G [sNx] sNx (S.length + 1) M3 (sR M' 11 0 33 (some (300, i)))) hG hob' u1.1 g4 (by simp) rfl (by omega) (by omega) (fun i M' h => h))
      have a4 := NS.room (k := 33) (v := some (300, i16)) hf
      obtain ⟨v1, v2, v3, v4, v5⟩ := hp
      generalize sR M15 11 0 33 (some (300, i16)) = M4 at a4 v1 v2 v3 v4 v5 ⊢
      refine ⟨_, (v1.1 sTy g5).1.1, ?_⟩
      rw [a4.2.1, a3.2.1, a2.2.1, a1.2.1, n2, oN_add]
      have vF := v1.2.1 sF g1 (by decide)
      have vC := v1.2.1 sC g2 (by decide)
      have vR := v1.2.1 sRe g3 (by decide)
      have vT := v1.2.1 sTy g5 (by decide)
      refine mf_w_Model_room (fun i19 M18 hf hp => ?_) (c_room (s := sTy) (X := [sTy]) (Q := fun i M' => Gr1 G [sTy] sTy (off S S.length + s.1.length) M4 (sR M' 11 0 35 (some (300, i)))) hG hob' v1.1 g5 (by simp) rfl (by omega) (by omega) (fun i M' h => h))
      have a5 := NS.room (k := 35) (v := some (300, i19)) hf
      obtain ⟨w1, w2, w3, w4, w5⟩ := hp
      generalize sR M18 11 0 35 (some (300, i19)) = M5 at a5 w1 w2 w3 w4 w5 ⊢
      have wF := w1.2.1 sF g1 (by decide)
      have wC := w1.2.1 sC g2 (by decide)
      have wR := w1.2.1 sRe g3 (by decide)
      have wN := w1.2.1 sNx g4 (by decide)
      have aa := (((a1.trans a2).trans a3).trans a4).trans a5
      have hF5 : GF G X5 M M5 := ((((p1.sub (by simp)).trans (t1.sub (by simp))).trans (u1.sub (by simp))).trans (v1.sub (by simp))).trans (w1.sub (by simp))
      have hr5 := hr M5 hF5
      have hTr : mR M5 11 0 35 = some (300, rdI M5 sTy) := (w1.1 sTy g5).1.1
      have h36 : mI M5 11 0 36 = Int32.ofNat S.length := aa.1.trans n1
      have h37 : mI M5 11 0 37 = Int32.ofNat (off S S.length) := aa.2.1.trans n2
      have h106 : mL M5 106 0 = 1024 := aa.2.2.2.trans n5
      have lF : rl M5 sF = rl M1 sF := by rw [wF.2.1, vF.2.1, uF.2.1, tF.2.1]
      have lC : rl M5 sC = rl M2 sC := by rw [wC.2.1, vC.2.1, uC.2.1]
      have lR : rl M5 sRe = rl M3 sRe := by rw [wR.2.1, vR.2.1]
      have lN : rl M5 sNx = rl M4 sNx := wN.2.1
      have hle : ∀ x, x < S.length → off S x + (gs1 S x).1.length ≤ off S S.length := fun x hx => by
        rw [← off_succ S x hx]; exact off_mono S S.length (x + 1) (by omega) (Nat.le_refl _)
      have bnd : ∀ {a b n : Nat}, (n ≤ a → b = a ∧ True) → (a < n → b = max n (2 * a) ∧ True) → a ≤ 2 * n + 600 → b ≤ 2 * n + 600 := fun {a b n} h1 h2 h3 => by
        by_cases c : n ≤ a
        · rw [(h1 c).1]; exact h3
        · rw [(h2 (by omega)).1]; omega
      have fin := c_sigEnd (r := r) (s := s) (fun s hs => (hob s hs).2) hGs hlt hF5 hr5 hnot hlen hoff ⟨h36, h37, h106⟩
        ⟨by omega, by omega, by omega, by omega, w2,
          by rw [lF]; exact bnd (fun c => ⟨(p4 c).1, trivial⟩) (fun c => ⟨(p5 c).1, trivial⟩) (by omega),
          by rw [lC]; exact bnd (fun c => ⟨(t4 c).1, trivial⟩) (fun c => ⟨(t5 c).1, trivial⟩) (by omega),
          by rw [lR]; exact bnd (fun c => ⟨(u4 c).1, trivial⟩) (fun c => ⟨(u5 c).1, trivial⟩) (by omega),
          by rw [lN]; exact bnd (fun c => ⟨(v4 c).1, trivial⟩) (fun c => ⟨(v5 c).1, trivial⟩) (by omega), ?_⟩ n6 (fun x hx => ?_) (fun h hh => by rw [aa.2.2.1]; exact n8 h hh)
      · refine ⟨_, hTr, by decide, ?_⟩
        rw [h37, oN_tnc (k := s.1.length) (by omega), oN_tnc (k := off S S.length) (by omega), show (0 : Int32).toNatClampNeg = 0 by decide]
        refine ⟨oN_nonneg (by omega), oN_nonneg (by omega), by have := hr5.1; omega, by show _ ≤ rl M5 sTy; omega, _, rfl, ?_⟩
        -- the rows are written
        have i36 : ∀ a b c d, mI (cpI M5 a b c 300 (rdI M5 sTy) (off S S.length) d) 11 0 36 = Int32.ofNat S.length := fun _ _ _ _ => h36
        have i37 : ∀ a b c d, mI (cpI M5 a b c 300 (rdI M5 sTy) (off S S.length) d) 11 0 37 = Int32.ofNat (off S S.length) := fun _ _ _ _ => h37
        refine ⟨rdI M5 sF, (w1.1 sF g1).1.1, ?_⟩
        rw [i36, i37, oN_tnc (by omega)]
        refine ⟨(vp_oN (by omega)).mpr (show _ < rl M5 sF by omega), rdI M5 sC, (w1.1 sC g2).1.1, ?_⟩
        simp only [mI_sI, mI_cpI, Nat.reduceEqDiff, false_and, if_false, h36, h37, oN_tnc (k := S.length) (by omega)]
        refine ⟨(vp_oN (by omega)).mpr (show _ < rl M5 sC by omega), _, rfl, rdI M5 sRe, (w1.1 sRe g3).1.1, ?_⟩
        simp only [mI_sI, mI_cpI, Nat.reduceEqDiff, false_and, if_false, h36, h37, oN_tnc (k := S.length) (by omega)]
        refine ⟨(vp_oN (by omega)).mpr (show _ < rl M5 sRe by omega), rdI M5 sNx, (w1.1 sNx g4).1.1, ?_⟩
        have hh := hlt s
        rw [oN_tnc (k := hS s) (by omega)]
        refine ⟨(vp_oN (by omega)).mpr (by show _ < mL M5 106 0; omega), (vp_oN (by omega)).mpr (show _ < rl M5 sNx by omega), _, rfl, _, rfl, (vp_oN (by omega)).mpr (by show _ < mL M5 106 0; omega), ?_⟩
        simp only [mI_sI, mI_cpI, Nat.reduceEqDiff, false_and, and_false, and_self, if_false, if_true, h36, h37, oN_add]
        rw [oN_sub (by omega), Nat.add_sub_cancel, ← hidx]
        rw [hidx]
        have hq := hQ _ (by unfold ins; rw [if_neg hnot]; exact fin.1) fin.2
        rw [hidx] at hq
        exact hq
      · have e5 : rl M4 sTy = rl M sTy := by rw [vT.2.1, uT.2.1, tT.2.1, pT.2.1]
        by_cases c : off S S.length + s.1.length ≤ rl M4 sTy
        · rw [(w4 c).1]; omega
        · rw [(w5 (by omega)).1]; omega
      · obtain ⟨⟨y1, y2, y3, y4⟩, y5⟩ := n7 x hx
        refine ⟨⟨?_, ?_, ?_, ?_⟩, fun k hk => ?_⟩
        · rw [wF.1, vF.1, uF.1, tF.1, p3 x (by omega)]; exact y1
        · rw [wC.1, vC.1, uC.1, t3 x (by omega), pC.1]; exact y2
        · rw [wR.1, vR.1, u3 x (by omega), tR.1, pR.1]; exact y3
        · rw [wN.1, v3 x (by omega), uN.1, tN.1, pN.1]; exact y4
        · have := hle x hx
          rw [w3 _ (by omega), vT.1, uT.1, tT.1, pT.1]; exact y5 k hk
    · rw [e, lit32 1, oN_add]
      have hkL : k < S.length := by omega
      refine itn (nle_oN (b := 0) (by omega) (by omega)) ?_
      rw [oN_sub (by omega), Nat.add_sub_cancel]
      refine c_isSig hTG hGs hN hkL hr0 ?_
      by_cases ex : gs1 S k = s
      · refine itn (by rw [decide_eq_true ex]; decide) ?_
        have := hQ M (by unfold ins; rw [if_pos (ex ▸ gs_mem hkL)]; exact hN) (GF.rf hTG)
        rw [← ex, idx_gs n6 hkL] at this
        exact this
      · refine itp (by rw [decide_eq_false ex]; decide) ⟨_, hNr, ?_⟩
        rw [oN_tnc (by omega)]
        refine ⟨(vp_oN (by omega)).mpr (show _ < rl M sNx by omega), ?_⟩
        have e3 : mI M 300 (rdI M sNx) k = _ := (n7 k hkL).1.2.2.2
        rw [e3]
        have hh : hS (gs1 S k) = hS s := by simpa using q1
        rw [hh]
        refine ih k (by omega) (by omega) (fun j hj hjL => ?_)
        by_cases hjk : j = k
        · subst hjk; exact ex
        · by_cases hjm : j < m
          · intro ej
            have := q2 j (by omega) hjm
            rw [ej] at this; simp at this
          · exact hno j (by omega) hjL
theorem c_signature {S : List Sg} {G : List Sl} {M : Mem} {r : Nat} {s : Sg} {Q : Int32 → Mem → Prop} (hG : Gok G) (hGs : Gs5 G) (hob : ∀ s ∈ G, s.1 < 20 ∧ 300 ≤ s.2.2.2) (hTG : TG G M) (hN : TSg hSg S M) (hlen : S.length < 100000) (hoff : off S S.length + s.1.length ≤ 1000000) (hr : ∀ M', GF G X5 M M' → RowI M' r s.1)
    (hQ : ∀ M', TSg hSg (ins S s) M' → GF G X5 M M' → Q (Int32.ofNat (S.idxOf s)) M') : w_Model_signature 0 r (Int32.ofNat s.1.length) s.2 Q M := by
  have hr0 := hr M (GF.rf hTG)
  obtain ⟨r1, r2, r3⟩ := id hr0
  have main : ∀ d k, s.1.length - k < d → k ≤ s.1.length → w_Model_signature_L11 0 Q d r (Int32.ofNat s.1.length) s.2 (sumS s k) (Int32.ofNat k) M := by
    intro d
    induction d with
    | zero => intro k h; omega
    | succ d ih =>
      intro k hd hk
      unfold w_Model_signature_L11
      by_cases e : k = s.1.length
      · refine itp (le_oN (by omega) (by omega)) ⟨_, rfl, ?_⟩
        subst e
        have eh := (hSg_eq s).2
        have hlt := (hSg_eq s).1
        unfold hashS at eh
        rw [eh, oN_tnc (by omega)]
        refine ⟨(vp_oN (by omega)).mpr (by rw [hN.1.2.2.2.2]; omega), S.length + 1, ?_⟩
        rw [hN.2.2.2.2 _ hlt]
        exact c_sig_L58 (fun x => (hSg_eq x).1) hG hGs hob hTG hN hlen hoff hr hQ _ _ (by omega) (Nat.le_refl _) (fun j a b => by omega)
      · refine itn (nle_oN (by omega) (by omega)) ?_
        rw [oN_tnc (by omega), r3 k (by omega), lit32 1, oN_add]
        exact ⟨(vp_oN (by omega)).mpr (by omega), ih (k + 1) (by omega) (by omega)⟩
  unfold w_Model_signature
  exact ⟨s.1.length + 1, main _ 0 (by omega) (by omega)⟩

/-- the last word is the end -/
def lz (L : List Tok) : Prop := ∃ i z, L = i ++ [z] ∧ z.1 = 0
theorem tl_ne {A : List Nm} {L ts : List Tok} {M : Mem} (h : TQ A L ts M) (hz : lz L) (hne : ts ≠ []) (hk : (hd ts).1 ≠ 0) : ts.tail ≠ [] := by
  obtain ⟨-, k, -, e2, e3⟩ := h
  obtain ⟨i, z, eL, ez⟩ := hz
  intro ht
  have hkl : k < L.length := Nat.lt_of_not_le (fun q => hne (by rw [e2]; exact List.drop_eq_nil_of_le q))
  have hd1 : L.drop k = L[k] :: L.drop (k + 1) := List.drop_eq_getElem_cons hkl
  rw [e2, hd1] at ht hk
  have hlast : L.length ≤ k + 1 := by simpa using ht
  have hkk : k = i.length := by rw [eL] at hkl hlast; simp at hkl hlast; omega
  have : L[k] = z := by subst eL; subst hkk; simp
  apply hk
  show (L[k]).1 = 0
  rw [this]; exact ez
theorem TN.gf {X G : List Sl} {A : List Nm} {M M' : Mem} {S : Nat} (h : TN hT A M) (hf : Fr S M M') (hg : GF G X M M') (hG : sB ∈ G ∧ sZ ∈ G ∧ sX ∈ G) (hX : sB ∉ X ∧ sZ ∉ X ∧ sX ∉ X) (h1 : S.testBit (cd 11 4) = false := by rfl) (h2 : S.testBit 105 = false := by rfl) (h3 : S.testBit (5000 + 105) = false := by rfl) : TN hT A M' :=
  h.of (hf.I h1 0) (hf.L h3 0) (hf.Ia rfl h2 0) (hg.2.1 sB hG.1 hX.1).1 (hg.2.1 sZ hG.2.1 hX.2.1).1 (hg.2.1 sX hG.2.2 hX.2.2).1 (hg.2.1 sB hG.1 hX.1).2.1 (hg.2.1 sZ hG.2.1 hX.2.1).2.1 (hg.2.1 sX hG.2.2 hX.2.2).2.1
theorem TSg.of {hS : Sg → Nat} {S : List Sg} {M M' : Mem} (h : TSg hS S M) (e1 : mI M' 11 0 36 = mI M 11 0 36) (e2 : mI M' 11 0 37 = mI M 11 0 37) (e3 : mL M' 106 0 = mL M 106 0) (e4 : ∀ k, mI M' 106 0 k = mI M 106 0 k) (r : ∀ s ∈ X5, (∀ k, rd M' s k = rd M s k) ∧ rl M' s = rl M s) : TSg hS S M' := by
  obtain ⟨⟨n1, n2, n3, n4, n5⟩, hm, n6, n7, n8⟩ := h
  have rF := r sF (by simp)
  have rC := r sC (by simp)
  have rR := r sRe (by simp)
  have rN := r sNx (by simp)
  have rT := r sTy (by simp)
  refine ⟨⟨e1.trans n1, e2.trans n2, n3, n4, e3.trans n5⟩, by rw [rF.2, rC.2, rR.2, rN.2, rT.2]; exact hm, n6, fun x hx => ?_, fun h hh => (e4 h).trans (n8 h hh)⟩
  obtain ⟨⟨a, b, c, d⟩, e⟩ := n7 x hx
  exact ⟨⟨(rF.1 x).trans a, (rC.1 x).trans b, (rR.1 x).trans c, (rN.1 x).trans d⟩, fun k hk => (rT.1 _).trans (e k hk)⟩
theorem TSg.gf {X G : List Sl} {S : List Sg} {M M' : Mem} {F : Nat} (h : TSg hSg S M) (hf : Fr F M M') (hg : GF G X M M') (hG : Gs5 G) (hX : ∀ s ∈ X5, s ∉ X) (h1 : F.testBit (cd 11 36) = false := by rfl) (h2 : F.testBit (cd 11 37) = false := by rfl) (h3 : F.testBit 106 = false := by rfl) (h4 : F.testBit (5000 + 106) = false := by rfl) : TSg hSg S M' :=
  h.of (hf.I h1 0) (hf.I h2 0) (hf.L h4 0) (hf.Ia rfl h3 0) (fun s hs => by
    have hs' : s ∈ G := by
      obtain ⟨g1, g2, g3, g4, g5⟩ := hG
      simp only [List.mem_cons, List.not_mem_nil, or_false] at hs
      rcases hs with e | e | e | e | e <;> (rw [e]; assumption)
    exact ⟨(hg.2.1 s hs' (hX s hs)).1, (hg.2.1 s hs' (hX s hs)).2.1⟩)
/-- the twin's row of types -/
def TR (A : List Nm) (ks : List Kd) (M : Mem) : Prop := mI M 11 0 56 = Int32.ofNat ks.length ∧ ks.length ≤ rl M sTr ∧ (6 ≤ rl M sTr ∧ rl M sTr ≤ 20000) ∧ (∀ κ ∈ ks, kok A κ) ∧ ∀ k, k < ks.length → rd M sTr k = kt A (gk ks k)
theorem TQ.fr {A : List Nm} {L ts : List Tok} {M M' : Mem} {S : Nat} (h : TQ A L ts M) (hf : Fr S M M') (h0 : S.testBit (cd 11 43) = false := by rfl) (h1 : S.testBit (cd 11 42) = false := by rfl) (h2 : S.testBit 411 = false := by rfl) (h3 : S.testBit 107 = false := by rfl) (h4 : S.testBit 108 = false := by rfl) (l2 : S.testBit (5000 + 411) = false := by rfl) (l3 : S.testBit (5000 + 107) = false := by rfl) (l4 : S.testBit (5000 + 108) = false := by rfl) (hk : kOk S = true := by rfl) : TQ A L ts M' := by
  obtain ⟨⟨a, b, c⟩, k, e1, e2⟩ := h
  exact ⟨⟨a.fr hf h1 h2 h3 h4 l2 l3 l4, b.fr hf hk, c⟩, k, (hf.I h0 0).trans e1, e2⟩
theorem TQ.of {A : List Nm} {L ts : List Tok} {M M' : Mem} (h : TQ A L ts M) (e : ∀ k, k < 30 ∨ k = 42 ∨ k = 43 → mI M' 11 0 k = mI M 11 0 k) (e2 : ∀ k, mI M' 411 0 k = mI M 411 0 k) (e3 : ∀ k, mI M' 107 0 k = mI M 107 0 k) (e4 : ∀ k, mI M' 108 0 k = mI M 108 0 k)
    (l2 : mL M' 411 0 = mL M 411 0) (l3 : mL M' 107 0 = mL M 107 0) (l4 : mL M' 108 0 = mL M 108 0) : TQ A L ts M' := by
  obtain ⟨⟨a, b, c⟩, k, e1, ek⟩ := h
  refine ⟨⟨a.of (e 42 (by omega)) e2 e3 e4 l2 l3 l4, fun x hx => ?_, c⟩, k, (e 43 (by omega)).trans e1, ek⟩
  have : x.1 < 30 := by
    simp only [kF, List.mem_cons, List.not_mem_nil, or_false] at hx
    rcases hx with e | e | e | e | e | e | e | e | e | e | e | e | e | e | e | e | e | e | e | e | e | e | e | e <;> (rw [e]; decide)
  rw [e _ (Or.inl this)]; exact b x hx
theorem pType_ne {ts : List Tok} {κ : Kd} {t2 : List Tok} (h : pType ts = .inr (κ, t2)) : (hd ts).1 = 2 := by
  unfold pType at h
  split at h
  · rename_i c; exact (of_decide_eq_true c).1
  · split at h
    · rename_i c; exact (of_decide_eq_true c).1
    · split at h
      · cases h
      · rename_i e
        unfold pCls at e
        split at e
        · rename_i c; exact c.1
        · cases e
theorem ct_addType {G : List Sl} {A : List Nm} {L ts : List Tok} {ks : List Kd} {Q X : Mem → Prop} {M : Mem} (hG : Ga G) (hs : sTr ∈ G) (hTG : TG G M) (h : TQ A L ts M) (hne : ts ≠ []) (hR : TR A ks M) (hl : ks.length < 7000)
    (hQ : ∀ κ ts' M', pType ts = .inr (κ, ts') → TQ A L ts' M' → TR A (ks ++ [κ]) M' → GF G [sTr] M M' → Q M') (hX : ∀ e M', pType ts = .inl e → ThT e M' → GF G [sTr] M M' → (6 ≤ rl M' sTr ∧ rl M' sTr ≤ 20000) → X M') : w_Model_addType 0 Q X M := by
  obtain ⟨r1, r2, r3, r4, r5⟩ := id hR
  unfold w_Model_addType
  rw [r1, lit32 1, oN_add]
  refine ⟨_, (hTG sTr hs).1.1, ?_⟩
  refine mf_w_Model_room (fun i M' hf hp => ?_) (c_room (s := sTr) (X := [sTr]) (Q := fun i M' => Gr1 G [sTr] sTr (ks.length + 1) M (sR M' 11 0 55 (some (300, i)))) hG.1 (fun s hs => (hG.ob s hs).1) hTG hs (by simp) rfl (by omega) (by omega) (fun i M' h => h))
  have hTQ1 : TQ A L ts (sR M' 11 0 55 (some (300, i))) := (h.fr hf).of (fun _ _ => rfl) (fun _ => rfl) (fun _ => rfl) (fun _ => rfl) rfl rfl rfl
  have h56 : mI (sR M' 11 0 55 (some (300, i))) 11 0 56 = Int32.ofNat ks.length := (hf.I (f := 11) (k := 56) rfl 0).trans r1
  obtain ⟨p1, p2, p3, p4, p5⟩ := hp
  generalize sR M' 11 0 55 (some (300, i)) = M1 at hTQ1 h56 p1 p2 p3 p4 p5 ⊢
  have hb : (6 ≤ rl M1 sTr ∧ rl M1 sTr ≤ 20000) := by
    by_cases c : ks.length + 1 ≤ rl M sTr
    · rw [(p4 c).1]; exact r3
    · rw [(p5 (by omega)).1]; omega
  refine ⟨_, (p1.1 sTr hs).1.1, ?_⟩
  rw [h56]
  refine mf_w_Model_type (Q := fun v M' => ∃ κ ts', pType ts = .inr (κ, ts') ∧ kok A κ ∧ TQ A L ts' M' ∧ v = kt A κ) (X := fun M' => ∃ e, pType ts = .inl e ∧ ThT e M') (fun v M2 hf2 hp2 => ?_) (fun M2 hf2 hp2 => ?_) (ct_type hTQ1 hne (fun κ ts' M' a b c => ⟨κ, ts', a, b, c, rfl⟩) (fun e M' a b => ⟨e, a, b⟩))
  · obtain ⟨κ, ts', q1, q2, q3, q4⟩ := hp2
    subst q4
    have g2 : GF G [sTr] M M2 := p1.fr hf2 hG
    have rd2 := rd_fr hf2 hG (by rfl) hs
    have hI : rdI M2 sTr = rdI M1 sTr := by unfold rdI; rw [hf2.R (f := 11) (k := 55) rfl]
    rw [oN_tnc (by omega)]
    refine ⟨(vp_oN (by omega)).mpr ?_, _, rfl, ?_⟩
    · rw [← hI]; show _ < rl M2 sTr; rw [rd2.2]; omega
    · have e8 : mI (sI M2 300 (rdI M1 sTr) ks.length (kt A κ)) 11 0 56 = Int32.ofNat ks.length := (hf2.I (f := 11) (k := 56) rfl 0).trans h56
      rw [e8, oN_add]
      have g3 : GF G [sTr] M (sI M2 300 (rdI M1 sTr) ks.length (kt A κ)) := g2.wr (s := sTr) hs (by simp) hI.symm
      have rr : ∀ k, rd (sI M2 300 (rdI M1 sTr) ks.length (kt A κ)) sTr k = if k = ks.length then kt A κ else rd M2 sTr k := fun k => by
        have := rd_upd (s := sTr) (s' := sTr) (k := k) (k0 := ks.length) (v := kt A κ) (i := rdI M1 sTr) g2.1 hs hs hI.symm
        rw [this]
        by_cases c : k = ks.length
        · rw [if_pos ⟨rfl, c⟩, if_pos c]
        · rw [if_neg (fun q => c q.2), if_neg c]
      refine hQ κ ts' _ q1 (q3.of (fun k hk => ?_) (fun _ => rfl) (fun _ => rfl) (fun _ => rfl) rfl rfl rfl) ⟨?_, ?_, ?_, ?_, fun k hk => ?_⟩ (g3.of (fun s hs => rfl) (fun s hs i k => ?_) (fun s hs i => rfl) rfl rfl)
      · rw [mI_sI, if_neg (fun q => by omega)]; rfl
      · rw [List.length_append, List.length_singleton]; rfl
      · rw [List.length_append, List.length_singleton]; show _ ≤ rl M2 sTr; rw [rd2.2]; exact p2
      · show 6 ≤ rl M2 sTr ∧ rl M2 sTr ≤ _; rw [rd2.2]; exact hb
      · intro x hx
        rcases List.mem_append.mp hx with c | c
        · exact r4 x c
        · simp at c; rw [c]; exact q2
      · rw [List.length_append, List.length_singleton] at hk
        show rd (sI M2 300 (rdI M1 sTr) ks.length (kt A κ)) sTr k = _
        rw [rr]
        by_cases c : k = ks.length
        · rw [if_pos c, c]
          have : gk (ks ++ [κ]) ks.length = κ := by simp [gk, List.getD_eq_getElem?_getD]
          rw [this]
        · rw [if_neg c]
          have : gk (ks ++ [κ]) k = gk ks k := by simp [gk, List.getD_eq_getElem?_getD, List.getElem?_append_left (show k < ks.length by omega)]
          rw [this, rd2.1, p3 k (by omega)]; exact r5 k (by omega)
      · have := hG.ob s hs
        rw [mI_sI, if_neg (fun q => by omega)]
  · obtain ⟨e, q1, q2⟩ := hp2
    exact hX e M2 q1 q2 (p1.fr hf2 hG) (by rw [(rd_fr hf2 hG (by rfl) hs).2]; exact hb)

def pSig (ts : List Tok) : Rz (List Kd × Kd) := match pTypes false ts with
  | .inl e => .inl e
  | .inr (ks, t1) => match pRes t1 with
    | .inl e => .inl e
    | .inr (κ, t2) => .inr ((ks, κ), t2)
def sg (A : List Nm) (ks : List Kd) (κ : Kd) : Sg := (ks.map (kt A), kt A κ)
abbrev X6 : List Sl := [sTr, sF, sC, sRe, sNx, sTy]
/-- names and signatures of the twin -/
def TU (A : List Nm) (S : List Sg) (M : Mem) : Prop := TN hT A M ∧ TSg hSg S M
theorem pRes_ne {ts : List Tok} {κ : Kd} {t2 : List Tok} (h : pRes ts = .inr (κ, t2)) : (hd ts).1 = 2 ∧ t2 = ts.tail := by
  unfold pRes at h
  split at h
  · rename_i c
    have := Prod.mk.inj (Sum.inr.inj h)
    exact ⟨(of_decide_eq_true c).1, this.2.symm⟩
  · exact ⟨pType_ne h, pType_tail h⟩
theorem gi_map {A : List Nm} {ks : List Kd} {k : Nat} (h : k < ks.length) : gi (ks.map (kt A)) k = kt A (gk ks k) := by
  simp [gi, gk, List.getD_eq_getElem?_getD, List.getElem?_map, List.getElem?_eq_getElem h]
theorem ct_sigTail {G : List Sl} {A : List Nm} {S : List Sg} {L ts : List Tok} {ks : List Kd} {Q : Int32 → Mem → Prop} {X : Mem → Prop} {M0 M : Mem} (hG : Ga G) (hGs : Gs5 G) (hs : sTr ∈ G) (hz : lz L) (hF : GF G X6 M0 M) (h : TQ A L ts M) (hne : ts ≠ []) (hR : TR A ks M) (hl : ks.length ≤ 6000) (hU : TU A S M) (hlen : S.length < 100000) (hoff : off S S.length ≤ 900000)
    (hQ : ∀ κ t2 M', (hd ts).1 = 41 → pRes ts.tail = .inr (κ, t2) → kok A κ → TQ A L t2 M' → TU A (ins S (sg A ks κ)) M' → GF G X6 M0 M' → (6 ≤ rl M' sTr ∧ rl M' sTr ≤ 20000) → Q (Int32.ofNat (S.idxOf (sg A ks κ))) M')
    (hX1 : ∀ M', (hd ts).1 ≠ 41 → ThT (er ts) M' → TU A S M' → GF G X6 M0 M' → (6 ≤ rl M' sTr ∧ rl M' sTr ≤ 20000) → X M') (hX2 : ∀ e M', (hd ts).1 = 41 → pRes ts.tail = .inl e → ThT e M' → TU A S M' → GF G X6 M0 M' → (6 ≤ rl M' sTr ∧ rl M' sTr ≤ 20000) → X M') : w_Model_wholeSignature_j60 0 Q X M := by
  have hTR : ∀ {M1 : Mem} {F : Nat}, Fr F M M1 → sOk F = true → F.testBit (cd 11 56) = false → TR A ks M1 := fun {M1 F} hf hS h56 => by
    obtain ⟨r1, r2, r3, r4, r5⟩ := hR
    have := rd_fr hf hG hS hs
    exact ⟨(hf.I h56 0).trans r1, by rw [this.2]; exact r2, by rw [this.2]; exact r3, r4, fun k hk => (this.1 k).trans (r5 k hk)⟩
  unfold w_Model_wholeSignature_j60
  refine mf_w_Model_need (Q := fun M' => (hd ts).1 = 41 ∧ TQ A L ts.tail M') (X := fun M' => (hd ts).1 ≠ 41 ∧ ThT (er ts) M') (fun M4 hf hp => ?_) (fun M4 hf hp => hX1 M4 hp.1 hp.2 ⟨hU.1.fr hf hG, hU.2.gf hf ((GF.rf hF.1).fr hf hG (X := [])) hGs (by simp)⟩ (hF.fr hf hG) (hTR hf (by rfl) (by rfl)).2.2.1) (ct_need (b := 41) h hne (by omega) (fun M' a b => ⟨a, b⟩) (fun M' a b => ⟨a, b⟩))
  obtain ⟨c41, q4⟩ := hp
  have hF4 : GF G X6 M0 M4 := hF.fr hf hG
  have hU4 : TU A S M4 := ⟨hU.1.fr hf hG, hU.2.gf hf ((GF.rf hF.1).fr hf hG (X := [])) hGs (by simp)⟩
  have hR4 : TR A ks M4 := hTR hf (by rfl) (by rfl)
  have hne4 : ts.tail ≠ [] := tl_ne h hz hne (by omega)
  refine ⟨_, (hF4.1 sTr hs).1.1, ?_⟩
  have k21 := q4.1.2.1 (21, nNone) (by simp [kF])
  simp only [] at k21
  rw [k21.1, hR4.1]
  -- the signature is looked for
  have fin : ∀ κ t2 M5, pRes ts.tail = .inr (κ, t2) → kok A κ → TQ A L t2 M5 → TU A S M5 → TR A ks M5 → GF G X6 M0 M5 → rdI M5 sTr = rdI M4 sTr → w_Model_wholeSignature_j94 0 Q X (kt A κ) (Int32.ofNat ks.length) (rdI M4 sTr) M5 := by
    intro κ t2 M5 e1 e2 e3 e4 e5 e6 e7
    unfold w_Model_wholeSignature_j94
    have hsl : (sg A ks κ).1.length = ks.length := by simp [sg]
    have := c_signature (s := sg A ks κ) (r := rdI M4 sTr) (Q := fun v M' => (TSg hSg (ins S (sg A ks κ)) M' ∧ GF G X5 M5 M') ∧ v = Int32.ofNat (S.idxOf (sg A ks κ))) hG.1 hGs (fun s hs => ⟨(hG.ob s hs).1, (hG.ob s hs).2.1⟩) e6.1 e4.2 hlen (by rw [hsl]; omega) (fun M' hg => by
      have gT := hg.2.1 sTr hs (by decide)
      rw [← e7, ← gT.2.2]
      refine ⟨?_, by rw [hsl]; exact hl, fun k hk => ?_⟩
      · rw [hsl]; show _ ≤ rl M' sTr; rw [gT.2.1]; exact e5.2.1
      · rw [hsl] at hk
        show rd M' sTr k = _
        rw [gT.1, e5.2.2.2.2 k hk]; exact (gi_map hk).symm) (fun M' a b => ⟨⟨a, b⟩, rfl⟩)
    rw [hsl] at this
    refine mf_w_Model_signature (fun v M' hf hp => ?_) this
    obtain ⟨⟨a, b⟩, c⟩ := hp
    subst c
    exact hQ κ t2 M' c41 e1 e2 (e3.fr hf) ⟨e4.1.gf hf b hG.2.1 ⟨by decide, by decide, by decide⟩, a⟩ (e6.trans (b.sub (by simp))) (by rw [(b.2.1 sTr hs (by decide)).2.1]; exact e5.2.2.1)
  refine mf_w_Model_takes (Q := fun v M' => (v = 1 ∧ isWd nNone ts.tail = true ∧ TQ A L ts.tail.tail M') ∨ (v = 0 ∧ isWd nNone ts.tail = false ∧ TQ A L ts.tail M')) (fun v M6 hf6 hp6 => ?_) (ct_takes q4 hne4 k21.2 (fun M' a b => Or.inl ⟨rfl, a, b⟩) (fun M' a b => Or.inr ⟨rfl, a, b⟩))
  have hF6 : GF G X6 M0 M6 := hF4.fr hf6 hG
  have hU6 : TU A S M6 := ⟨hU4.1.fr hf6 hG, hU4.2.gf hf6 ((GF.rf hF4.1).fr hf6 hG (X := [])) hGs (by simp)⟩
  have hR6 : TR A ks M6 := by
    obtain ⟨r1, r2, r3, r4, r5⟩ := hR4
    have := rd_fr hf6 hG (by rfl) hs
    exact ⟨(hf6.I (f := 11) (k := 56) rfl 0).trans r1, by rw [this.2]; exact r2, by rw [this.2]; exact r3, r4, fun k hk => (this.1 k).trans (r5 k hk)⟩
  have hI6 : rdI M6 sTr = rdI M4 sTr := by unfold rdI; rw [hf6.R (f := 11) (k := 55) rfl]
  rcases hp6 with ⟨e, a, b⟩ | ⟨e, a, b⟩
  · subst e
    refine itn (by decide) ?_
    have hres : pRes ts.tail = .inr ((-4, []), ts.tail.tail) := by unfold pRes; rw [if_pos a]
    exact fin (-4, []) _ M6 hres (fun x => absurd x (by decide)) b hU6 hR6 hF6 hI6
  · subst e
    refine itp rfl ?_
    have hres : pRes ts.tail = pType ts.tail := by unfold pRes; rw [if_neg (by rw [a]; decide)]
    refine mf_w_Model_type (Q := fun v M' => ∃ κ t2, pType ts.tail = .inr (κ, t2) ∧ kok A κ ∧ TQ A L t2 M' ∧ v = kt A κ) (X := fun M' => ∃ e, pType ts.tail = .inl e ∧ ThT e M') (fun v M7 hf7 hp7 => ?_) (fun M7 hf7 hp7 => ?_) (ct_type b hne4 (fun κ t2 M' a b c => ⟨κ, t2, a, b, c, rfl⟩) (fun e M' a b => ⟨e, a, b⟩))
    · obtain ⟨κ, t2, x1, x2, x3, x4⟩ := hp7
      subst x4
      refine fin κ t2 M7 (hres.trans x1) x2 x3 ⟨hU6.1.fr hf7 hG, hU6.2.gf hf7 ((GF.rf hF6.1).fr hf7 hG (X := [])) hGs (by simp)⟩ ?_ (hF6.fr hf7 hG) (by rw [← hI6]; unfold rdI; rw [hf7.R (f := 11) (k := 55) rfl])
      obtain ⟨r1, r2, r3, r4, r5⟩ := hR6
      have := rd_fr hf7 hG (by rfl) hs
      exact ⟨(hf7.I (f := 11) (k := 56) rfl 0).trans r1, by rw [this.2]; exact r2, by rw [this.2]; exact r3, r4, fun k hk => (this.1 k).trans (r5 k hk)⟩
    · obtain ⟨e, x1, x2⟩ := hp7
      exact hX2 e M7 c41 (hres.trans x1) x2 ⟨hU6.1.fr hf7 hG, hU6.2.gf hf7 ((GF.rf hF6.1).fr hf7 hG (X := [])) hGs (by simp)⟩ (hF6.fr hf7 hG) (by rw [(rd_fr hf7 hG (by rfl) hs).2]; exact hR6.2.2.1)

