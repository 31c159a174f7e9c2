/-! THE OPERATIONS call, asked: the line, in the works (printed by gen/ca.py) -/
abbrev FWd : Nat := F_Reader_className ||| F_Reader_sign ||| F_Reader_anyName ||| F_Reader_number ||| F_Reader_result ||| F_Words_next ||| F_Reader_end ||| F_Reader_wrong
def PV (Inv : List Nm → Mem → Prop) : Prop := ∀ A A' M M', Inv A M → A <+: A' → A'.length < 41200 → Fr FWd M M' → Inv A' M'
theorem o_next {Inv : List Nm → Mem → Prop} (hI : PV Inv) {B : List Nm} {r n : Nat} {p : Nat → Int32} {to : Nat} {A : List Nm} {ts : List Tok} {Q : Mem → Prop} {M : Mem} (hR : RS B r n p to A ts M) (hi : Inv A M) (h1 : 1 < (hd ts).1)
    (hQ : ∀ A' M', A <+: A' → RS B r n p to A' ts.tail M' → Inv A' M' → Q M') : w_Words_next 0 Q M :=
  mf_w_Words_next (Q := fun M' => Fr F_Words_next M M' → Q M') (fun _ hf hp => hp hf) (c_rnext hR h1 (fun A' M' a b hf => hQ A' M' a b (hI A A' M M' hi a b.1.len (hf.sub rfl))))
theorem o_anyName {Inv : List Nm → Mem → Prop} (hI : PV Inv) {B : List Nm} {r n : Nat} {p : Nat → Int32} {to : Nat} {A : List Nm} {ts : List Tok} {Q : Int32 → Mem → Prop} {X : Mem → Prop} {M : Mem} (hR : RS B r n p to A ts M) (hi : Inv A M)
    (hQ : ∀ A' nm ts' M', pName ts = .inr (nm, ts') → A <+: A' → nm ∈ A → RS B r n p to A' ts' M' → Inv A' M' → Q (nc A nm) M') (hX : ∀ A' e M', pName ts = .inl e → A <+: A' → Thr B A' e M' → Inv A' M' → X M') : w_Reader_anyName 0 Q X M :=
  mf_w_Reader_anyName (Q := fun v M' => Fr F_Reader_anyName M M' → Q v M') (X := fun M' => Fr F_Reader_anyName M M' → X M') (fun _ _ hf hp => hp hf) (fun _ hf hp => hp hf) (c_anyName hR (fun A' nm ts' M' a b c d hf => hQ A' nm ts' M' a b c d (hI A A' M M' hi b d.1.len (hf.sub rfl))) (fun A' e M' a b c hf => hX A' e M' a b c (hI A A' M M' hi b c.1.len (hf.sub rfl))))
theorem o_className {Inv : List Nm → Mem → Prop} (hI : PV Inv) {B : List Nm} {r n : Nat} {p : Nat → Int32} {to : Nat} {A : List Nm} {ts : List Tok} {Q : Int32 → Mem → Prop} {X : Mem → Prop} {M : Mem} (hR : RS B r n p to A ts M) (hi : Inv A M)
    (hQ : ∀ A' nm ts' M', pCls ts = .inr (nm, ts') → A <+: A' → nm ∈ A → RS B r n p to A' ts' M' → Inv A' M' → Q (nc A nm) M') (hX : ∀ A' e M', pCls ts = .inl e → A <+: A' → Thr B A' e M' → Inv A' M' → X M') : w_Reader_className 0 Q X M :=
  mf_w_Reader_className (Q := fun v M' => Fr F_Reader_className M M' → Q v M') (X := fun M' => Fr F_Reader_className M M' → X M') (fun _ _ hf hp => hp hf) (fun _ hf hp => hp hf) (c_className hR (fun A' nm ts' M' a b c d hf => hQ A' nm ts' M' a b c d (hI A A' M M' hi b d.1.len (hf.sub rfl))) (fun A' e M' a b c hf => hX A' e M' a b c (hI A A' M M' hi b c.1.len (hf.sub rfl))))
theorem o_number {Inv : List Nm → Mem → Prop} (hI : PV Inv) {B : List Nm} {r n : Nat} {p : Nat → Int32} {to : Nat} {A : List Nm} {ts : List Tok} {Q : Int32 → Mem → Prop} {X : Mem → Prop} {M : Mem} {lo hi' : Int32} (hR : RS B r n p to A ts M) (hi : Inv A M)
    (hQ : ∀ A' v ts' M', pNum lo hi' ts = .inr (v, ts') → A <+: A' → RS B r n p to A' ts' M' → Inv A' M' → Q v M') (hX : ∀ A' e M', pNum lo hi' ts = .inl e → A <+: A' → Thr B A' e M' → Inv A' M' → X M') : w_Reader_number 0 lo hi' Q X M :=
  mf_w_Reader_number (Q := fun v M' => Fr F_Reader_number M M' → Q v M') (X := fun M' => Fr F_Reader_number M M' → X M') (fun _ _ hf hp => hp hf) (fun _ hf hp => hp hf) (c_numberR hR (fun A' v ts' M' a b d hf => hQ A' v ts' M' a b d (hI A A' M M' hi b d.1.len (hf.sub rfl))) (fun A' e M' a b c hf => hX A' e M' a b c (hI A A' M M' hi b c.1.len (hf.sub rfl))))
theorem o_result {Inv : List Nm → Mem → Prop} (hI : PV Inv) {B : List Nm} {r n : Nat} {p : Nat → Int32} {to : Nat} {A : List Nm} {ts : List Tok} {Q : Int32 → Mem → Prop} {X : Mem → Prop} {M : Mem} (hR : RS B r n p to A ts M) (hi : Inv A M)
    (hQ : ∀ A' κ ts' M', pRes ts = .inr (κ, ts') → A <+: A' → kok A κ → RS B r n p to A' ts' M' → Inv A' M' → Q (kC A κ) M') (hX : ∀ A' e M', pRes ts = .inl e → A <+: A' → Thr B A' e M' → Inv A' M' → X M') : w_Reader_result 0 Q X M :=
  mf_w_Reader_result (Q := fun v M' => Fr F_Reader_result M M' → Q v M') (X := fun M' => Fr F_Reader_result M M' → X M') (fun _ _ hf hp => hp hf) (fun _ hf hp => hp hf) (c_result hR (fun A' nm ts' M' a b c d hf => hQ A' nm ts' M' a b c d (hI A A' M M' hi b d.1.len (hf.sub rfl))) (fun A' e M' a b c hf => hX A' e M' a b c (hI A A' M M' hi b c.1.len (hf.sub rfl))))
theorem o_end {Inv : List Nm → Mem → Prop} (hI : PV Inv) {B : List Nm} {r n : Nat} {p : Nat → Int32} {to : Nat} {A : List Nm} {ts : List Tok} {Q X : Mem → Prop} {M : Mem} (hR : RS B r n p to A ts M) (hi : Inv A M)
    (hQ : (hd ts).1 = 0 → Q M) (hX : ∀ M', (hd ts).1 ≠ 0 → Thr B A (er ts) M' → Inv A M' → X M') : w_Reader_end 0 Q X M :=
  mf_w_Reader_end (Q := Q) (X := fun M' => Fr F_Reader_end M M' → X M') (fun _ _ hp => hp) (fun _ hf hp => hp hf) (c_end hR (fun a => hQ (Classical.byContradiction fun q => by unfold pEnd at a; rw [if_neg q] at a; cases a)) (fun e M' a c hf => by
    unfold pEnd at a
    by_cases q : (hd ts).1 = 0
    · rw [if_pos q] at a; cases a
    · rw [if_neg q] at a; cases a
      exact hX M' q c (hI A A M M' hi (List.prefix_refl A) hR.1.len (hf.sub rfl))))
theorem o_wrong {Inv : List Nm → Mem → Prop} (hI : PV Inv) {B : List Nm} {r n : Nat} {p : Nat → Int32} {to : Nat} {A : List Nm} {ts : List Tok} {X : Mem → Prop} {M : Mem} (hR : RS B r n p to A ts M) (hi : Inv A M)
    (hX : ∀ M', Thr B A (er ts) M' → Inv A M' → X M') : w_Reader_wrong 0 (fun i M' => i = 0 ∧ X M') M :=
  mf_w_Reader_wrong (Q := fun i M' => i = 0 ∧ (Fr F_Reader_wrong M M' → X M')) (fun _ _ hf hp => ⟨hp.1, hp.2 hf⟩) (c_wrong hR (fun M' c hf => hX M' c (hI A A M M' hi (List.prefix_refl A) hR.1.len (hf.sub rfl))))
theorem o_sign {Inv : List Nm → Mem → Prop} (hI : PV Inv) {B : List Nm} {r n : Nat} {p : Nat → Int32} {to : Nat} {A : List Nm} {ts : List Tok} {Q X : Mem → Prop} {M : Mem} {b : Nat} (hR : RS B r n p to A ts M) (hi : Inv A M) (hb : 5 ≤ b) (hb2 : b < 100)
    (hQ : ∀ A' M', (hd ts).1 = b → A <+: A' → RS B r n p to A' ts.tail M' → Inv A' M' → Q M') (hX : ∀ A' M', (hd ts).1 ≠ b → A <+: A' → Thr B A' (er ts) M' → Inv A' M' → X M') : w_Reader_sign 0 (Int32.ofNat b) Q X M :=
  mf_w_Reader_sign (Q := fun M' => Fr F_Reader_sign M M' → Q M') (X := fun M' => Fr F_Reader_sign M M' → X M') (fun _ hf hp => hp hf) (fun _ hf hp => hp hf) (c_sign hR hb hb2 (fun A' ts' M' a b' d hf => by
    unfold pSign at a
    by_cases q : (hd ts).1 = b
    · rw [if_pos q] at a; cases a
      exact hQ A' M' q b' d (hI A A' M M' hi b' d.1.len (hf.sub rfl))
    · rw [if_neg q] at a; cases a) (fun A' e M' a b' c hf => by
    unfold pSign at a
    by_cases q : (hd ts).1 = b
    · rw [if_pos q] at a; cases a
    · rw [if_neg q] at a; cases a
      exact hX A' M' q b' c (hI A A' M M' hi b' c.1.len (hf.sub rfl))))
def pNumsF : Nat → Nat → List Tok → Rz Nat
  | 0, _, ts => .inl (er ts)
  | f + 1, n, ts => if (hd ts).1 = 41 then .inr (n, ts.tail) else match (if n = 0 then (.inr ((), ts) : Rz Unit) else pSign 44 ts) with
    | .inl e => .inl e
    | .inr (_, t1) => if isWd nNum t1 = true ∧ n ≠ 6 then pNumsF f (n + 1) t1.tail else .inl (er t1)
def pValsF : Nat → List Int32 → List Tok → Rz (List Int32)
  | 0, vs, ts => .inr (vs, ts)
  | f + 1, vs, ts => match pSign (if vs.length = 0 then 58 else 44) ts with
    | .inl e => .inl e
    | .inr (_, t1) => match pNum i32min i32max t1 with
      | .inl e => .inl e
      | .inr (v, t2) => pValsF f (vs ++ [v]) t2
/-- the end of a call: the result, the numbers -/
def pCall2 (k m : Nm) (n : Nat) (ts : List Tok) : (Nat × Nat) ⊕ (Nm × Nm × Kd × List Int32) := match pRes ts with
  | .inl e => .inl e
  | .inr (κ, t6) => match pValsF n [] t6 with
    | .inl e => .inl e
    | .inr (vs, t7) => match pEnd t7 with
      | some e => .inl e
      | none => .inr (k, m, κ, vs)
def pC3 (k m : Nm) (ts : List Tok) : (Nat × Nat) ⊕ (Nm × Nm × Kd × List Int32) := match pSign 40 ts with
  | .inl e => .inl e
  | .inr (_, t4) => match pNumsF (t4.length + 1) 0 t4 with
    | .inl e => .inl e
    | .inr (n, t5) => pCall2 k m n t5
def pC2 (k : Nm) (ts : List Tok) : (Nat × Nat) ⊕ (Nm × Nm × Kd × List Int32) := match pName ts with
  | .inl e => .inl e
  | .inr (m, t3) => pC3 k m t3
def pC1 (k : Nm) (ts : List Tok) : (Nat × Nat) ⊕ (Nm × Nm × Kd × List Int32) := match pSign 46 ts with
  | .inl e => .inl e
  | .inr (_, t2) => pC2 k t2
/-- a call: class, name, result, numbers -/
def pCall (ts : List Tok) : (Nat × Nat) ⊕ (Nm × Nm × Kd × List Int32) := match pCls ts with
  | .inl e => .inl e
  | .inr (k, t1) => pC1 k t1
abbrev kNs (n : Nat) : List Kd := List.replicate n (0, [])
theorem gk_kNs {n i : Nat} : gk (kNs n) i = (0, []) := by
  by_cases h : i < n
  · simp [List.getD_eq_getElem?_getD, h]
  · simp [List.getD_eq_getElem?_getD, h]
theorem pNumsF_le : ∀ f n ts m t2, n ≤ 6 → pNumsF f n ts = .inr (m, t2) → n ≤ m ∧ m ≤ 6
  | 0, _, _, _, _, _, h => by unfold pNumsF at h; cases h
  | f + 1, n, ts, m, t2, hn, h => by
    unfold pNumsF at h
    by_cases c : (hd ts).1 = 41
    · rw [if_pos c] at h; cases h; exact ⟨Nat.le_refl _, hn⟩
    · rw [if_neg c] at h
      split at h
      · cases h
      · split at h
        · rename_i q
          have := pNumsF_le f (n + 1) _ m t2 (by omega) h
          exact ⟨by omega, this.2⟩
        · cases h
theorem pValsF_len : ∀ f vs ts ws t2, pValsF f vs ts = .inr (ws, t2) → ws.length = vs.length + f
  | 0, vs, ts, ws, t2, h => by unfold pValsF at h; cases h; rfl
  | f + 1, vs, ts, ws, t2, h => by
    unfold pValsF at h
    split at h
    · cases h
    · split at h
      · cases h
      · have := pValsF_len f _ _ ws t2 h
        rw [List.length_append, List.length_singleton] at this
        omega
/-- only the row of a thread's reference changes -/
def Tk (w t : Nat) (M M' : Mem) : Prop := (∀ i j, (i ≠ w ∨ j < 4 * t ∨ 4 * t + 4 ≤ j) → mI M' 76 i j = mI M 76 i j) ∧ (∀ i j, i ≠ 0 → (i ≠ 2 * w + 2 ∨ j < 6 * t ∨ 6 * t + 6 ≤ j) → mI M' 211 i j = mI M 211 i j) ∧ ∀ i, mI M' 5 i 53 = mI M 5 i 53
theorem Tk.trans {w t : Nat} {M M1 M2 : Mem} (h : Tk w t M M1) (h1 : Tk w t M1 M2) : Tk w t M M2 := ⟨fun i j q => (h1.1 i j q).trans (h.1 i j q), fun i j a q => (h1.2.1 i j a q).trans (h.2.1 i j a q), fun i => (h1.2.2 i).trans (h.2.2 i)⟩
theorem Tk.rf (w t : Nat) (M : Mem) : Tk w t M M := ⟨fun _ _ _ => rfl, fun _ _ _ _ => rfl, fun _ => rfl⟩
def Tk5 (w t : Nat) (M M' : Mem) : Prop := (∀ i j, (i ≠ w ∨ j < 4 * t ∨ 4 * t + 4 ≤ j) → mI M' 76 i j = mI M 76 i j) ∧ (∀ i j, (i ≠ 2 * w + 2 ∨ j < 6 * t ∨ 6 * t + 6 ≤ j) → mI M' 211 i j = mI M 211 i j) ∧ (∀ i j, (i ≠ w ∨ j ≠ 53) → mI M' 5 i j = mI M 5 i j) ∧ (∀ f i j, f ≠ 76 → f ≠ 211 → f ≠ 5 → mI M' f i j = mI M f i j) ∧ (∀ f i, mL M' f i = mL M f i) ∧ (∀ f i j, mR M' f i j = mR M f i j) ∧ ∀ f i j, mJ M' f i j = mJ M f i j
theorem Tk5.w76 {w t j : Nat} {v : Int32} {M M' : Mem} (h : Tk5 w t M M') (h1 : 4 * t ≤ j) (h2 : j < 4 * t + 4) : Tk5 w t M (sI M' 76 w j v) := by
  obtain ⟨a, b, c, d, e, f, g⟩ := h
  refine ⟨fun i k q => ?_, fun i k q => ?_, fun i k q => ?_, fun f i k q1 q2 q3 => ?_, e, f, g⟩
  · rw [mI_sI, if_neg (fun z => by omega)]; exact a i k q
  · rw [mI_sI, if_neg (fun z => by omega)]; exact b i k q
  · rw [mI_sI, if_neg (fun z => by omega)]; exact c i k q
  · rw [mI_sI, if_neg (fun z => by omega)]; exact d f i k q1 q2 q3
theorem Tk5.w211 {w t j : Nat} {v : Int32} {M M' : Mem} (h : Tk5 w t M M') (h1 : 6 * t ≤ j) (h2 : j < 6 * t + 6) : Tk5 w t M (sI M' 211 (2 * w + 2) j v) := by
  obtain ⟨a, b, c, d, e, f, g⟩ := h
  refine ⟨fun i k q => ?_, fun i k q => ?_, fun i k q => ?_, fun f i k q1 q2 q3 => ?_, e, f, g⟩
  · rw [mI_sI, if_neg (fun z => by omega)]; exact a i k q
  · rw [mI_sI, if_neg (fun z => by omega)]; exact b i k q
  · rw [mI_sI, if_neg (fun z => by omega)]; exact c i k q
  · rw [mI_sI, if_neg (fun z => by omega)]; exact d f i k q1 q2 q3
theorem Tk5.w53 {w t : Nat} {v : Int32} {M M' : Mem} (h : Tk5 w t M M') : Tk5 w t M (sI M' 5 w 53 v) := by
  obtain ⟨a, b, c, d, e, f, g⟩ := h
  refine ⟨fun i k q => ?_, fun i k q => ?_, fun i k q => ?_, fun f i k q1 q2 q3 => ?_, e, f, g⟩
  · rw [mI_sI, if_neg (fun z => by omega)]; exact a i k q
  · rw [mI_sI, if_neg (fun z => by omega)]; exact b i k q
  · rw [mI_sI, if_neg (fun z => by omega)]; exact c i k q
  · rw [mI_sI, if_neg (fun z => by omega)]; exact d f i k q1 q2 q3
theorem Tk5.rf (w t : Nat) (M : Mem) : Tk5 w t M M := ⟨fun _ _ _ => rfl, fun _ _ _ => rfl, fun _ _ _ => rfl, fun _ _ _ _ _ _ => rfl, fun _ _ => rfl, fun _ _ _ => rfl, fun _ _ _ => rfl⟩
theorem Tk5.rs {w t' : Nat} {B : List Nm} {r n : Nat} {p : Nat → Int32} {to : Nat} {A : List Nm} {ts : List Tok} {M M' : Mem} (h : Tk5 w t' M M') (hR : RS B r n p to A ts M) : RS B r n p to A ts M' := by
  obtain ⟨a, b, c, d, e, f, g⟩ := h
  exact hR.of (d 1 0 4 (by omega) (by omega) (by omega)) (fun k => d 20 0 k (by omega) (by omega) (by omega)) (fun k => d 21 0 k (by omega) (by omega) (by omega)) (fun k => d 22 0 k (by omega) (by omega) (by omega)) (fun k => g 600 0 k) (e 20 0) (e 21 0) (e 22 0) (e 600 0) (f 2 0 0) (d 2 0 1 (by omega) (by omega) (by omega)) (d 2 0 2 (by omega) (by omega) (by omega)) (f 2 0 3) (d 2 0 4 (by omega) (by omega) (by omega)) (d 2 0 5 (by omega) (by omega) (by omega)) (fun k => d 400 r k (by omega) (by omega) (by omega)) (e 400 r)
/-- a thread's reference -/
theorem c_addRefT {A : List Nm} {w t : Nat} {k m : Nm} {ks : List Kd} {κ : Kd} {Q : Int32 → Mem → Prop} {M : Mem} (ht : t < 4) (hw : mR M 3 0 1 = some (5, w)) (h53 : mI M 5 w 53 = Int32.ofNat t) (hLT : LT A ks M) (hlk : ks.length ≤ 6) (h76 : 4 * t + 4 ≤ mL M 76 w) (h76' : mL M 76 w < 1000000) (h212 : 6 * t + 6 ≤ mL M 211 (2 * w + 2)) (h212' : mL M 211 (2 * w + 2) < 1000000) (hk : k ∈ A) (hm : m ∈ A) (hkk : kok A κ)
    (hQ : ∀ M', Tk5 w t M M' → cRf A w t k m ks κ M' → Q (Int32.ofNat t) M') : w_Reader_addReference 0 (nc A k) (nc A m) (kC A κ) Q M := by
  have main : ∀ d i M1, 6 - i < d → i ≤ 6 → Tk5 w t M M1 ∧ (mI M1 76 w (4 * t) = nc A k ∧ mI M1 76 w (4 * t + 1) = nc A m ∧ mI M1 76 w (4 * t + 2) = kC A κ ∧ mI M1 76 w (4 * t + 3) = Int32.ofNat ks.length) ∧ (∀ j, j < ks.length → j < i → mI M1 211 (2 * w + 2) (6 * t + j) = kC A (gk ks j)) → w_Reader_addReference_L86 0 Q d (Int32.ofNat t) (Int32.ofNat i) M1 := by
    intro d
    induction d with
    | zero => intro i M1 h; omega
    | succ d ih =>
      intro i M1 hd hi ⟨x1, ⟨f0, f1, f2, f3⟩, g⟩
      have fin : (ks.length ≤ i ∨ i = 6) → Q (Int32.ofNat t) M1 := fun q => hQ M1 x1 ⟨⟨f0, hk⟩, ⟨f1, hm⟩, ⟨f2, hkk⟩, f3, fun j a c => ⟨g j a (by omega), hLT.2.2.1 _ (gk_mem a)⟩⟩
      have e18 : mI M1 3 0 18 = Int32.ofNat ks.length := (x1.2.2.2.1 3 0 18 (by omega) (by omega) (by omega)).trans hLT.1
      unfold w_Reader_addReference_L86
      rw [e18]
      by_cases c1 : ks.length ≤ i
      · exact itp (le_oN c1 (by omega)) (fin (Or.inl c1))
      refine itn (nle_oN (by omega) (by omega)) ?_
      by_cases c2 : i = 6
      · exact itp (le_oN (a := 6) (by omega) (by omega)) (fin (Or.inr c2))
      refine itn (nle_oN (a := 6) (by omega) (by omega)) ?_
      have hw1 : mR M1 3 0 1 = some (5, w) := (x1.2.2.2.2.2.1 3 0 1).trans hw
      have l1 := x1.2.2.2.2.1
      have ei : (6 : Int32) * Int32.ofNat t + Int32.ofNat i = Int32.ofNat (6 * t + i) := by rw [lit32 6, oN_mul, oN_add]
      refine ⟨w, hw1, by rw [l1, hLT.2.1]; exact (vp_oN (by omega)).mpr (by omega), by rw [ei, l1]; exact (vp_oN (by omega)).mpr (by omega), _, rfl, ?_⟩
      have e211 : mI M1 211 0 i = kC A (gk ks i) := (x1.2.1 0 i (Or.inl (by omega))).trans (hLT.2.2.2 i (by omega))
      rw [ei, oN_tnc (by omega), oN_tnc (by omega), e211, lit32 1, oN_add]
      refine ih (i + 1) _ (by omega) (by omega) ⟨x1.w211 (by omega) (by omega), ⟨f0, f1, f2, f3⟩, fun j a c => ?_⟩
      rw [mI_sI]
      by_cases cj : j = i
      · rw [if_pos ⟨rfl, rfl, by omega⟩, cj]
      · rw [if_neg (fun q => by omega)]; exact g j a (by omega)
  unfold w_Reader_addReference
  have e4 : ∀ j, j < 4 → (4 : Int32) * Int32.ofNat t + Int32.ofNat j = Int32.ofNat (4 * t + j) := fun j _ => by rw [lit32 4, oN_mul, oN_add]
  have e40 : (4 : Int32) * Int32.ofNat t = Int32.ofNat (4 * t) := by rw [lit32 4, oN_mul]
  have v : ∀ j, j < 4 → vp_in (Int32.ofNat (4 * t + j)) (mL M 76 w) := fun j hj => (vp_oN (by omega)).mpr (by omega)
  refine ⟨w, hw, w, hw, w, hw, ?_⟩
  rw [h53, lit32 1, lit32 2, lit32 3, e4 1 (by omega), e4 2 (by omega), e4 3 (by omega), e40]
  refine ⟨v 0 (by omega), _, rfl, w, hw, v 1 (by omega), _, rfl, w, hw, v 2 (by omega), _, rfl, w, hw, v 3 (by omega), _, rfl, 7, ?_⟩
  rw [oN_tnc (by omega), oN_tnc (by omega), oN_tnc (by omega), oN_tnc (by omega), oN_add]
  have e18 : ∀ a b c d e, mI (sI (sI (sI (sI M 5 w 53 e) 76 w a b) 76 w c d) 76 w (4 * t + 2) (kC A κ)) 3 0 18 = Int32.ofNat ks.length := fun a b c d e => hLT.1
  rw [e18]
  refine main 7 0 _ (by omega) (by omega) ⟨((((Tk5.rf w t M).w53.w76 (by omega) (by omega)).w76 (by omega) (by omega)).w76 (by omega) (by omega)).w76 (by omega) (by omega), ⟨?_, ?_, ?_, ?_⟩, fun j _ c => absurd c (Nat.not_lt_zero j)⟩
  · simp only [mI_sI, true_and]
    rw [if_neg (by omega), if_neg (by omega), if_neg (by omega), if_pos trivial]
  · simp only [mI_sI, true_and]
    rw [if_neg (by omega), if_neg (by omega), if_pos trivial]
  · simp only [mI_sI, true_and]
    rw [if_neg (by omega), if_pos trivial]
  · simp only [mI_sI, true_and]
    rw [if_pos trivial]
