/-! B: the works' rows of a world, and what is below bounds in them -/
theorem k_sign {Inv : List Nm → Mem → Prop} (hI : PW Inv) {B : List Nm} {r n : Nat} {p : Nat → Int32} {to : Nat} {A : List Nm} {ts : List Tok} {Q X : Mem → Prop} {M : Mem} {b : Nat} (hR : RS B r n p to A ts M) (hi : Inv A M) (hb : 5 ≤ b) (hb2 : b < 100)
    (hQ : ∀ A' M', (hd ts).1 = b → A <+: A' → RS B r n p to A' ts.tail M' → Inv A' M' → Q M') (hX : ∀ A' M', (hd ts).1 ≠ b → A <+: A' → Thr B A' (er ts) M' → Inv A' M' → X M') : w_Reader_sign 0 (Int32.ofNat b) Q X M :=
  mf_w_Reader_sign (Q := fun M' => Fr F_Reader_sign M M' → Q M') (X := fun M' => Fr F_Reader_sign M M' → X M') (fun _ hf hp => hp hf) (fun _ hf hp => hp hf) (c_sign hR hb hb2 (fun A' ts' M' a b' d hf => by
    unfold pSign at a
    by_cases q : (hd ts).1 = b
    · rw [if_pos q] at a; cases a
      exact hQ A' M' q b' d (hI A A' M M' hi b' d.1.len (Wk.of hf))
    · rw [if_neg q] at a; cases a) (fun A' e M' a b' c hf => by
    unfold pSign at a
    by_cases q : (hd ts).1 = b
    · rw [if_pos q] at a; cases a
    · rw [if_neg q] at a; cases a
      exact hX A' M' q b' c (hI A A' M M' hi b' c.1.len (Wk.of hf))))
/-- what holds on over lines, too -/
def Wq (M M' : Mem) : Prop := Fr (F_Reader_types ||| F_Reader_needLine) M M' ∧ ∀ i k, i ≠ 0 → mI M' 211 i k = mI M 211 i k
theorem Wk.wq {M M' : Mem} (h : Wk M M') : Wq M M' := ⟨h.1.sub (by rfl), h.2⟩
theorem Wq.of {S : Nat} {M M' : Mem} (h : Fr S M M') (h1 : S &&& (F_Reader_types ||| F_Reader_needLine) = S := by rfl) (h2 : S.testBit 211 = false := by rfl) : Wq M M' := ⟨h.sub h1, fun i k _ => h.Ia rfl h2 i k⟩
def PQ (Inv : List Nm → Mem → Prop) : Prop := ∀ A A' M M', Inv A M → A <+: A' → A'.length < 41200 → Wq M M' → Inv A' M'
theorem PQ.pw {Inv : List Nm → Mem → Prop} (h : PQ Inv) : PW Inv := fun A A' M M' a b c d => h A A' M M' a b c d.wq
theorem PQ.line {Inv : List Nm → Mem → Prop} (h : PQ Inv) (line : Nat) : PW (fun A M => Inv A M ∧ mI M 3 0 2 = Int32.ofNat line) := fun A A' M M' a b c d => ⟨h A A' M M' a.1 b c d.wq, (d.1.I (f := 3) (k := 2) rfl 0).trans a.2⟩
theorem k_needLine {Inv : List Nm → Mem → Prop} (hI : PQ Inv) {B : List Nm} {r n to : Nat} {p : Nat → Int32} {A : List Nm} {ts : List Tok} {Q X : Mem → Prop} {M : Mem} (hR : RS B r n p to A ts M) (hi : Inv A M) (hB : ∀ l ∈ rln p n to, NB B l)
    (h0 : ∀ A' M', rln p n to = [] → A <+: A' → Thr B A' (1, n) M' → Inv A' M' → X M')
    (h1 : ∀ A' to' l M', rln p n to = l :: rln p n to' → A <+: A' → RS B r n p to' A' l M' → mI M' 3 0 2 = Int32.ofNat (hd l).2.2.2 → 1 ≤ (hd l).1 → Inv A' M' → Q M') : w_Reader_needLine 0 Q X M :=
  mf_w_Reader_needLine (Q := fun M' => Fr F_Reader_needLine M M' → Q M') (X := fun M' => Fr F_Reader_needLine M M' → X M') (fun _ hf hp => hp hf) (fun _ hf hp => hp hf) (c_needLine hR hB (fun A' M' a b c hf => h0 A' M' a b c (hI A A' M M' hi b c.1.len (Wq.of hf))) (fun A' to' l M' a b c d e hf => h1 A' to' l M' a b c d e (hI A A' M M' hi b c.1.len (Wq.of hf))))
theorem k_refuse {Inv : List Nm → Mem → Prop} (hI : PW Inv) {B A : List Nm} {line rule : Nat} {X : Mem → Prop} {M : Mem} (hN : NC B A M) (hi : Inv A M) (hl : mI M 3 0 2 = Int32.ofNat line)
    (hX : ∀ M', Thr B A (rule, line) M' → Inv A M' → X M') : w_Works_refuse 0 (Int32.ofNat rule) (mI M 3 0 2) (fun i M' => i = 0 ∧ X M') M := by
  refine mf_w_Works_refuse (Q := fun i M' => i = 0 ∧ (Fr F_Works_refuse M M' → X M')) (fun _ _ hf hp => ⟨hp.1, hp.2 hf⟩) ?_
  unfold w_Works_refuse
  refine ⟨rfl, fun hf => hX _ ⟨hN.r9, rfl, ?_⟩ (hI A A M _ hi (List.prefix_refl A) hN.len (Wk.of hf))⟩
  rw [mI_sI, if_pos ⟨rfl, rfl, rfl⟩]; exact hl
/-- families of a world's rows -/
def wFm (f : Nat) : Bool := (Nat.ble 36 f && Nat.ble f 76) || Nat.beq f 511
/-- bounds: classes, fields, methods, code, kinds, picks, handlers, references -/
def bnd (c nf nm nq nk np nh nr f : Nat) : Nat := if f = 38 then 4 * c else if f ≤ 48 then c else if f ≤ 54 then nf else if f ≤ 65 then nm else if f ≤ 72 then nq else if f = 73 then nk else if f = 74 then np else if f = 75 then 4 * nh else if f = 76 then 4 * nr else if f = 211 then 6 * nm else if f = 212 then 6 * nr else nf
/-- other worlds, and what is below the bounds, are as they were -/
def Lo (w : Nat) (b : Nat → Nat) (M M' : Mem) : Prop := (∀ f, wFm f = true → (∀ i k, (i ≠ w ∨ k < b f) → mI M' f i k = mI M f i k) ∧ ∀ i, mL M' f i = mL M f i) ∧ (∀ i k, i ≠ w → k < 65 → mI M' 5 i k = mI M 5 i k) ∧ (∀ i k, i ≠ 0 → (i = 2 * w + 1 → k < b 211) → (i = 2 * w + 2 → k < b 212) → mI M' 211 i k = mI M 211 i k) ∧ ∀ i, mL M' 211 i = mL M 211 i
theorem Lo.rf (w : Nat) (b : Nat → Nat) (M : Mem) : Lo w b M M := ⟨fun _ _ => ⟨fun _ _ _ => rfl, fun _ => rfl⟩, fun _ _ _ _ => rfl, fun _ _ _ _ _ => rfl, fun _ => rfl⟩
theorem Lo.trans {w : Nat} {b : Nat → Nat} {M M1 M2 : Mem} (h : Lo w b M M1) (h1 : Lo w b M1 M2) : Lo w b M M2 :=
  ⟨fun f hf => ⟨fun i k q => ((h1.1 f hf).1 i k q).trans ((h.1 f hf).1 i k q), fun i => ((h1.1 f hf).2 i).trans ((h.1 f hf).2 i)⟩, fun i k q r => (h1.2.1 i k q r).trans (h.2.1 i k q r), fun i k q r s => (h1.2.2.1 i k q r s).trans (h.2.2.1 i k q r s), fun i => (h1.2.2.2 i).trans (h.2.2.2 i)⟩
theorem Lo.mono {w : Nat} {b b' : Nat → Nat} {M M1 : Mem} (h : Lo w b' M M1) (hb : ∀ f, b f ≤ b' f) : Lo w b M M1 :=
  ⟨fun f hf => ⟨fun i k e => (h.1 f hf).1 i k (e.imp id (fun q => Nat.lt_of_lt_of_le q (hb f))), (h.1 f hf).2⟩, h.2.1, fun i k q r s => h.2.2.1 i k q (fun e => Nat.lt_of_lt_of_le (r e) (hb _)) (fun e => Nat.lt_of_lt_of_le (s e) (hb _)), h.2.2.2⟩
def loOk (S : Nat) : Bool := ((List.range 41).all (fun j => !S.testBit (36 + j) && !S.testBit (5036 + j)) && (!S.testBit 511 && (!S.testBit 5511 && !S.testBit 5211))) && (List.range 65).all (fun k => !S.testBit (2000 + k))
theorem Lo.fr {w : Nat} {b : Nat → Nat} {M M1 M2 : Mem} {S : Nat} (h : Lo w b M M1) (hf : Fr S M1 M2) (h2 : ∀ i k, i ≠ 0 → mI M2 211 i k = mI M1 211 i k) (hS : loOk S = true := by rfl) : Lo w b M M2 := by
  unfold loOk at hS
  simp only [Bool.and_eq_true, Bool.not_eq_true', List.all_eq_true, List.mem_range] at hS
  obtain ⟨⟨a, b1, b2, b3⟩, d⟩ := hS
  refine h.trans ⟨fun f hf' => ?_, fun i k _ q => (hf.1 5 k (d k q) i).1, fun i k q _ _ => h2 i k q, fun i => hf.L b3 i⟩
  unfold wFm at hf'
  rw [Bool.or_eq_true, Bool.and_eq_true] at hf'
  have h20 : Nat.ble 20 f = true := Nat.ble_eq.mpr (by
    rcases hf' with q | q
    · have := Nat.ble_eq.mp q.1; omega
    · have := Nat.eq_of_beq_eq_true q; omega)
  have hb : S.testBit f = false ∧ S.testBit (5000 + f) = false := by
    rcases hf' with q | q
    · have q1 := Nat.ble_eq.mp q.1
      have q2 := Nat.ble_eq.mp q.2
      have := a (f - 36) (by omega)
      rw [show 36 + (f - 36) = f by omega, show 5036 + (f - 36) = 5000 + f by omega] at this
      exact this
    · have := Nat.eq_of_beq_eq_true q
      rw [this]; exact ⟨b1, b2⟩
  exact ⟨fun i k _ => hf.Ia h20 hb.1 i k, fun i => hf.L hb.2 i⟩
theorem Lo.wk {w : Nat} {b : Nat → Nat} {M M1 M2 : Mem} (h : Lo w b M M1) (hf : Wq M1 M2) : Lo w b M M2 := h.fr hf.1 hf.2
theorem Lo.w {w : Nat} {b : Nat → Nat} {M M1 : Mem} {f k : Nat} {v : Int32} (h : Lo w b M M1) (hk : b f ≤ k) (h211 : Nat.beq f 211 = false := by rfl) : Lo w b M (sI M1 f w k v) :=
  h.trans ⟨fun g hg => ⟨fun i' k' e => if_neg (fun q => by
    rcases e with e | e
    · exact e q.2.1
    · rw [q.1, q.2.2] at e; omega), fun _ => rfl⟩, fun i' k' e _ => if_neg (fun q => e q.2.1), fun i' k' _ _ _ => if_neg (fun q => by rw [← q.1] at h211; cases h211), fun _ => rfl⟩
theorem Lo.w5 {w : Nat} {b : Nat → Nat} {M M1 : Mem} {k : Nat} {v : Int32} (h : Lo w b M M1) : Lo w b M (sI M1 5 w k v) :=
  h.trans ⟨fun g hg => ⟨fun i' k' e => if_neg (fun q => by rw [q.1] at hg; cases hg), fun _ => rfl⟩, fun i' k' e _ => if_neg (fun q => e q.2.1), fun i' k' _ _ _ => by rw [mI_sI, if_neg (fun q => absurd q.1 (by decide))], fun _ => rfl⟩
theorem Lo.wo {w : Nat} {b : Nat → Nat} {M M1 : Mem} {f i k : Nat} {v : Int32} (h : Lo w b M M1) (hf : wFm f = false := by rfl) (h5 : Nat.beq f 5 = false := by rfl) (h211 : Nat.beq f 211 = false := by rfl) : Lo w b M (sI M1 f i k v) :=
  h.trans ⟨fun g hg => ⟨fun i' k' _ => if_neg (fun q => by rw [q.1, hf] at hg; cases hg), fun _ => rfl⟩, fun i' k' _ _ => if_neg (fun q => by rw [← q.1] at h5; cases h5), fun i' k' _ _ _ => if_neg (fun q => by rw [← q.1] at h211; cases h211), fun _ => rfl⟩
theorem Lo.w211 {w : Nat} {b : Nat → Nat} {M M1 : Mem} {i k : Nat} {v : Int32} (h : Lo w b M M1) (hk : i = 0 ∨ (i = 2 * w + 1 ∧ b 211 ≤ k) ∨ (i = 2 * w + 2 ∧ b 212 ≤ k)) : Lo w b M (sI M1 211 i k v) :=
  h.trans ⟨fun g hg => ⟨fun i' k' _ => if_neg (fun q => by rw [q.1] at hg; cases hg), fun _ => rfl⟩, fun i' k' _ _ => by rw [mI_sI, if_neg (fun q => absurd q.1 (by decide))], fun i' k' q r s => if_neg (fun e => by
    obtain ⟨-, e1, e2⟩ := e
    subst e1 e2
    rcases hk with x | ⟨x, y⟩ | ⟨x, y⟩
    · exact q x
    · have := r x; omega
    · have := s x; omega), fun _ => rfl⟩
theorem bnd_mono {c c' nf nf' nm nm' nq nq' nk nk' np np' nh nh' nr nr' : Nat} (h1 : c ≤ c') (h2 : nf ≤ nf') (h3 : nm ≤ nm') (h4 : nq ≤ nq') (h5 : nk ≤ nk') (h6 : np ≤ np') (h7 : nh ≤ nh') (h8 : nr ≤ nr') (f : Nat) : bnd c nf nm nq nk np nh nr f ≤ bnd c' nf' nm' nq' nk' np' nh' nr' f := by
  unfold bnd
  by_cases a : f = 38
  · rw [if_pos a, if_pos a]; omega
  rw [if_neg a, if_neg a]
  by_cases a : f ≤ 48
  · rw [if_pos a, if_pos a]; exact h1
  rw [if_neg a, if_neg a]
  by_cases a : f ≤ 54
  · rw [if_pos a, if_pos a]; exact h2
  rw [if_neg a, if_neg a]
  by_cases a : f ≤ 65
  · rw [if_pos a, if_pos a]; exact h3
  rw [if_neg a, if_neg a]
  by_cases a : f ≤ 72
  · rw [if_pos a, if_pos a]; exact h4
  rw [if_neg a, if_neg a]
  by_cases a : f = 73
  · rw [if_pos a, if_pos a]; exact h5
  rw [if_neg a, if_neg a]
  by_cases a : f = 74
  · rw [if_pos a, if_pos a]; exact h6
  rw [if_neg a, if_neg a]
  by_cases a : f = 75
  · rw [if_pos a, if_pos a]; omega
  rw [if_neg a, if_neg a]
  by_cases a : f = 76
  · rw [if_pos a, if_pos a]; omega
  rw [if_neg a, if_neg a]
  by_cases a : f = 211
  · rw [if_pos a, if_pos a]; omega
  rw [if_neg a, if_neg a]
  by_cases a : f = 212
  · rw [if_pos a, if_pos a]; omega
  rw [if_neg a, if_neg a]; exact h2
