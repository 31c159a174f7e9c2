/-! B: what the works' words leave alone, once for all -/
/-- what words taken change: words, names, refusal, the list of types -/
def Wk (M M' : Mem) : Prop := Fr F_Reader_types M M' ∧ ∀ i k, i ≠ 0 → mI M' 211 i k = mI M 211 i k
theorem Wk.rf (M : Mem) : Wk M M := ⟨Fr.rf _ _, fun _ _ _ => rfl⟩
theorem Wk.trans {M M1 M2 : Mem} (h : Wk M M1) (h1 : Wk M1 M2) : Wk M M2 := ⟨h.1.trans h1.1, fun i k e => (h1.2 i k e).trans (h.2 i k e)⟩
theorem Wk.of {S : Nat} {M M' : Mem} (h : Fr S M M') (h1 : S &&& F_Reader_types = S := by rfl) (h2 : S.testBit 211 = false := by rfl) : Wk M M' := ⟨h.sub h1, fun i k _ => h.Ia rfl h2 i k⟩
/-- what holds on while words are taken -/
def PW (Inv : List Nm → Mem → Prop) : Prop := ∀ A A' M M', Inv A M → A <+: A' → A'.length < 41200 → Wk M M' → Inv A' M'
theorem xt_j57 {Q Q' X X' k k' : Mem → Prop} {M0 M : Mem} (hX : ∀ z, Wk M0 z → X z → X' z) (hk : ∀ z, Wk M0 z → k z → k' z) (hf : Wk M0 M) : w_Reader_types_j57 0 Q X k M → w_Reader_types_j57 0 Q' X' k' M := by
  unfold w_Reader_types_j57
  refine mf_w_Reader_type (fun r8 M7 f1 => mf_and fun _ => ?_) (fun z f => hX z (hf.trans (Wk.of f)))
  rintro ⟨M10, e, q⟩
  refine ⟨M10, e, hk _ ?_ q⟩
  rw [e]
  refine (hf.trans (Wk.of f1)).trans ⟨Fr.wI rfl (Fr.wIa rfl rfl (Fr.rf _ _)), fun i k h => ?_⟩
  rw [mI_sI, if_neg (fun q => absurd q.1 (by decide)), mI_sI, if_neg (fun q => h q.2.1)]
theorem xt_j36 {Q Q' X X' k k' : Mem → Prop} {M0 M : Mem} (hX : ∀ z, Wk M0 z → X z → X' z) (hk : ∀ z, Wk M0 z → k z → k' z) (hf : Wk M0 M) : w_Reader_types_j36 0 Q X k M → w_Reader_types_j36 0 Q' X' k' M := by
  unfold w_Reader_types_j36
  exact mf_ite (xt_j57 hX hk hf) (mf_ite (mf_w_Reader_wrong (fun i z f => mf_and fun _ => hX z (hf.trans (Wk.of f)))) (xt_j57 hX hk hf))
theorem xt_L11 {Q Q' X X' : Mem → Prop} {M0 : Mem} (hQ : ∀ z, Wk M0 z → Q z → Q' z) (hX : ∀ z, Wk M0 z → X z → X' z) : ∀ n M, Wk M0 M → w_Reader_types_L11 0 Q X n M → w_Reader_types_L11 0 Q' X' n M
  | 0, _, _, h => h
  | n + 1, M, hf, h => by
    revert h
    unfold w_Reader_types_L11
    exact mf_w_Words_isSign (fun r3 M2 f1 => mf_ite (mf_ite (xt_j36 hX (fun z hz => xt_L11 hQ hX n z hz) (hf.trans (Wk.of f1))) (mf_w_Reader_sign (fun M14 f2 => xt_j36 hX (fun z hz => xt_L11 hQ hX n z hz) ((hf.trans (Wk.of f1)).trans (Wk.of f2))) (fun z f3 => hX z ((hf.trans (Wk.of f1)).trans (Wk.of f3))))) (mf_w_Words_next (fun M15 f5 => hQ _ ((hf.trans (Wk.of f1)).trans (Wk.of f5)))))
theorem xt_types {Q Q' X X' : Mem → Prop} {M : Mem} (hQ : ∀ z, Wk M z → Q z → Q' z) (hX : ∀ z, Wk M z → X z → X' z) : w_Reader_types 0 Q X M → w_Reader_types 0 Q' X' M := by
  unfold w_Reader_types
  refine mf_w_Reader_sign (fun M1 f1 => Exists.imp fun n16 => xt_L11 hQ hX _ _ ((Wk.of f1).trans ⟨Fr.wI rfl (Fr.rf _ _), fun i k h => ?_⟩)) (fun z f2 => hX z (Wk.of f2))
  rw [mI_sI, if_neg (fun q => absurd q.1 (by decide))]
theorem k_next {Inv : List Nm → Mem → Prop} (hI : PW Inv) {B : List Nm} {r n : Nat} {p : Nat → Int32} {to : Nat} {A : List Nm} {ts : List Tok} {Q : Mem → Prop} {M : Mem} (hR : RS B r n p to A ts M) (hi : Inv A M) (h1 : 1 < (hd ts).1)
    (hQ : ∀ A' M', A <+: A' → RS B r n p to A' ts.tail M' → Inv A' M' → Q M') : w_Words_next 0 Q M :=
  mf_w_Words_next (Q := fun M' => Fr F_Words_next M M' → Q M') (fun _ hf hp => hp hf) (c_rnext hR h1 (fun A' M' a b hf => hQ A' M' a b (hI A A' M M' hi a b.1.len (Wk.of hf))))
theorem k_flags {Inv : List Nm → Mem → Prop} (hI : PW Inv) {B : List Nm} {r n : Nat} {p : Nat → Int32} {to : Nat} {A : List Nm} {ts : List Tok} {Q : Int32 → Mem → Prop} {M : Mem} {v1 v2 v3 v4 : Int32} {w1 w2 w3 : Nm} {w4 : Option Nm} (hR : RS B r n p to A ts M) (hi : Inv A M) (h1 : fw A v1 (some w1)) (h2 : fw A v2 (some w2)) (h3 : fw A v3 (some w3)) (h4 : fw A v4 w4)
    (hQ : ∀ A' bits ts' M', pFlags (flg w1 w2 w3 w4) (ts.length + 1) 0 ts = (bits, ts') → A <+: A' → RS B r n p to A' ts' M' → Inv A' M' → Q bits M') : w_Reader_flags 0 v1 v2 v3 v4 Q M :=
  mf_w_Reader_flags (Q := fun v M' => Fr F_Reader_flags M M' → Q v M') (fun _ _ hf hp => hp hf) (c_flags hR h1 h2 h3 h4 (fun A' bits ts' M' a b c hf => hQ A' bits ts' M' a b c (hI A A' M M' hi b c.1.len (Wk.of hf))))
theorem k_anyName {Inv : List Nm → Mem → Prop} (hI : PW Inv) {B : List Nm} {r n : Nat} {p : Nat → Int32} {to : Nat} {A : List Nm} {ts : List Tok} {Q : Int32 → Mem → Prop} {X : Mem → Prop} {M : Mem} (hR : RS B r n p to A ts M) (hi : Inv A M)
    (hQ : ∀ A' nm ts' M', pName ts = .inr (nm, ts') → A <+: A' → nm ∈ A → RS B r n p to A' ts' M' → Inv A' M' → Q (nc A nm) M') (hX : ∀ A' e M', pName ts = .inl e → A <+: A' → Thr B A' e M' → Inv A' M' → X M') : w_Reader_anyName 0 Q X M :=
  mf_w_Reader_anyName (Q := fun v M' => Fr F_Reader_anyName M M' → Q v M') (X := fun M' => Fr F_Reader_anyName M M' → X M') (fun _ _ hf hp => hp hf) (fun _ hf hp => hp hf) (c_anyName hR (fun A' nm ts' M' a b c d hf => hQ A' nm ts' M' a b c d (hI A A' M M' hi b d.1.len (Wk.of hf))) (fun A' e M' a b c hf => hX A' e M' a b c (hI A A' M M' hi b c.1.len (Wk.of hf))))
theorem k_className {Inv : List Nm → Mem → Prop} (hI : PW Inv) {B : List Nm} {r n : Nat} {p : Nat → Int32} {to : Nat} {A : List Nm} {ts : List Tok} {Q : Int32 → Mem → Prop} {X : Mem → Prop} {M : Mem} (hR : RS B r n p to A ts M) (hi : Inv A M)
    (hQ : ∀ A' nm ts' M', pCls ts = .inr (nm, ts') → A <+: A' → nm ∈ A → RS B r n p to A' ts' M' → Inv A' M' → Q (nc A nm) M') (hX : ∀ A' e M', pCls ts = .inl e → A <+: A' → Thr B A' e M' → Inv A' M' → X M') : w_Reader_className 0 Q X M :=
  mf_w_Reader_className (Q := fun v M' => Fr F_Reader_className M M' → Q v M') (X := fun M' => Fr F_Reader_className M M' → X M') (fun _ _ hf hp => hp hf) (fun _ hf hp => hp hf) (c_className hR (fun A' nm ts' M' a b c d hf => hQ A' nm ts' M' a b c d (hI A A' M M' hi b d.1.len (Wk.of hf))) (fun A' e M' a b c hf => hX A' e M' a b c (hI A A' M M' hi b c.1.len (Wk.of hf))))
theorem k_number {Inv : List Nm → Mem → Prop} (hI : PW Inv) {B : List Nm} {r n : Nat} {p : Nat → Int32} {to : Nat} {A : List Nm} {ts : List Tok} {Q : Int32 → Mem → Prop} {X : Mem → Prop} {M : Mem} {lo hi' : Int32} (hR : RS B r n p to A ts M) (hi : Inv A M)
    (hQ : ∀ A' v ts' M', pNum lo hi' ts = .inr (v, ts') → A <+: A' → RS B r n p to A' ts' M' → Inv A' M' → Q v M') (hX : ∀ A' e M', pNum lo hi' ts = .inl e → A <+: A' → Thr B A' e M' → Inv A' M' → X M') : w_Reader_number 0 lo hi' Q X M :=
  mf_w_Reader_number (Q := fun v M' => Fr F_Reader_number M M' → Q v M') (X := fun M' => Fr F_Reader_number M M' → X M') (fun _ _ hf hp => hp hf) (fun _ hf hp => hp hf) (c_numberR hR (fun A' v ts' M' a b d hf => hQ A' v ts' M' a b d (hI A A' M M' hi b d.1.len (Wk.of hf))) (fun A' e M' a b c hf => hX A' e M' a b c (hI A A' M M' hi b c.1.len (Wk.of hf))))
theorem k_type {Inv : List Nm → Mem → Prop} (hI : PW Inv) {B : List Nm} {r n : Nat} {p : Nat → Int32} {to : Nat} {A : List Nm} {ts : List Tok} {Q : Int32 → Mem → Prop} {X : Mem → Prop} {M : Mem} (hR : RS B r n p to A ts M) (hi : Inv A M)
    (hQ : ∀ A' κ ts' M', pType ts = .inr (κ, ts') → A <+: A' → kok A κ → RS B r n p to A' ts' M' → Inv A' M' → Q (kC A κ) M') (hX : ∀ A' e M', pType ts = .inl e → A <+: A' → Thr B A' e M' → Inv A' M' → X M') : w_Reader_type 0 Q X M :=
  mf_w_Reader_type (Q := fun v M' => Fr F_Reader_type M M' → Q v M') (X := fun M' => Fr F_Reader_type M M' → X M') (fun _ _ hf hp => hp hf) (fun _ hf hp => hp hf) (c_type hR (fun A' nm ts' M' a b c d hf => hQ A' nm ts' M' a b c d (hI A A' M M' hi b d.1.len (Wk.of hf))) (fun A' e M' a b c hf => hX A' e M' a b c (hI A A' M M' hi b c.1.len (Wk.of hf))))
theorem k_result {Inv : List Nm → Mem → Prop} (hI : PW Inv) {B : List Nm} {r n : Nat} {p : Nat → Int32} {to : Nat} {A : List Nm} {ts : List Tok} {Q : Int32 → Mem → Prop} {X : Mem → Prop} {M : Mem} (hR : RS B r n p to A ts M) (hi : Inv A M)
    (hQ : ∀ A' κ ts' M', pRes ts = .inr (κ, ts') → A <+: A' → kok A κ → RS B r n p to A' ts' M' → Inv A' M' → Q (kC A κ) M') (hX : ∀ A' e M', pRes ts = .inl e → A <+: A' → Thr B A' e M' → Inv A' M' → X M') : w_Reader_result 0 Q X M :=
  mf_w_Reader_result (Q := fun v M' => Fr F_Reader_result M M' → Q v M') (X := fun M' => Fr F_Reader_result M M' → X M') (fun _ _ hf hp => hp hf) (fun _ hf hp => hp hf) (c_result hR (fun A' nm ts' M' a b c d hf => hQ A' nm ts' M' a b c d (hI A A' M M' hi b d.1.len (Wk.of hf))) (fun A' e M' a b c hf => hX A' e M' a b c (hI A A' M M' hi b c.1.len (Wk.of hf))))
theorem k_end {Inv : List Nm → Mem → Prop} (hI : PW Inv) {B : List Nm} {r n : Nat} {p : Nat → Int32} {to : Nat} {A : List Nm} {ts : List Tok} {Q X : Mem → Prop} {M : Mem} (hR : RS B r n p to A ts M) (hi : Inv A M)
    (hQ : (hd ts).1 = 0 → Q M) (hX : ∀ M', (hd ts).1 ≠ 0 → Thr B A (er ts) M' → Inv A M' → X M') : w_Reader_end 0 Q X M :=
  mf_w_Reader_end (Q := Q) (X := fun M' => Fr F_Reader_end M M' → X M') (fun _ _ hp => hp) (fun _ hf hp => hp hf) (c_end hR (fun a => hQ (Classical.byContradiction fun q => by unfold pEnd at a; rw [if_neg q] at a; cases a)) (fun e M' a c hf => by
    unfold pEnd at a
    by_cases q : (hd ts).1 = 0
    · rw [if_pos q] at a; cases a
    · rw [if_neg q] at a; cases a
      exact hX M' q c (hI A A M M' hi (List.prefix_refl A) hR.1.len (Wk.of hf))))
theorem k_wrong {Inv : List Nm → Mem → Prop} (hI : PW Inv) {B : List Nm} {r n : Nat} {p : Nat → Int32} {to : Nat} {A : List Nm} {ts : List Tok} {X : Mem → Prop} {M : Mem} (hR : RS B r n p to A ts M) (hi : Inv A M)
    (hX : ∀ M', Thr B A (er ts) M' → Inv A M' → X M') : w_Reader_wrong 0 (fun i M' => i = 0 ∧ X M') M :=
  mf_w_Reader_wrong (Q := fun i M' => i = 0 ∧ (Fr F_Reader_wrong M M' → X M')) (fun _ _ hf hp => ⟨hp.1, hp.2 hf⟩) (c_wrong hR (fun M' c hf => hX M' c (hI A A M M' hi (List.prefix_refl A) hR.1.len (Wk.of hf))))
theorem k_types {Inv : List Nm → Mem → Prop} (hI : PW Inv) {B : List Nm} {r n : Nat} {p : Nat → Int32} {to : Nat} {A : List Nm} {ts : List Tok} {Q X : Mem → Prop} {M : Mem} {strict : Bool} (hR : RS B r n p to A ts M) (hi : Inv A M) (hl : mL M 211 0 = 3100) (hs : mI M 3 0 17 = b2 strict)
    (hQ : ∀ A' ks ts' M', pTypes strict ts = .inr (ks, ts') → A <+: A' → RS B r n p to A' ts' M' → LT A' ks M' → Inv A' M' → Q M') (hX : ∀ A' e M', pTypes strict ts = .inl e → A <+: A' → Thr B A' e M' → Inv A' M' → X M') : w_Reader_types 0 Q X M :=
  xt_types (Q := fun M' => Wk M M' → Q M') (X := fun M' => Wk M M' → X M') (fun _ hf hp => hp hf) (fun _ hf hp => hp hf) (c_types hR hl hs (fun A' ks ts' M' a b d e hf => hQ A' ks ts' M' a b d e (hI A A' M M' hi b d.1.len hf)) (fun A' e M' a b c hf => hX A' e M' a b c (hI A A' M M' hi b c.1.len hf)))
