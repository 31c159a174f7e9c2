/-! B: what lines change in the works -/
def Ez (w : Nat) (b : Nat → Nat) (M M' : Mem) : Prop := Lo w b M M' ∧ (mR M' 3 0 1 = mR M 3 0 1 ∧ mI M' 3 0 17 = mI M 3 0 17 ∧ mI M' 5 w 1 = mI M 5 w 1) ∧ ∀ f, 23 ≤ f → f ≤ 29 → mL M' f 0 = mL M f 0
/-- in one line, of one method -/
def Ex (w : Nat) (b : Nat → Nat) (M M' : Mem) : Prop := Ez w b M M' ∧ mI M' 3 0 2 = mI M 3 0 2 ∧ mI M' 3 0 3 = mI M 3 0 3 ∧ mI M' 3 0 4 = mI M 3 0 4
theorem Ez.rf (w : Nat) (b : Nat → Nat) (M : Mem) : Ez w b M M := ⟨Lo.rf w b M, ⟨rfl, rfl, rfl⟩, fun _ _ _ => rfl⟩
theorem Ez.trans {w : Nat} {b : Nat → Nat} {M M1 M2 : Mem} (h : Ez w b M M1) (h1 : Ez w b M1 M2) : Ez w b M M2 := ⟨h.1.trans h1.1, ⟨h1.2.1.1.trans h.2.1.1, h1.2.1.2.1.trans h.2.1.2.1, h1.2.1.2.2.trans h.2.1.2.2⟩, fun f p q => (h1.2.2 f p q).trans (h.2.2 f p q)⟩
theorem Ez.mono {w : Nat} {b b' : Nat → Nat} {M M1 : Mem} (h : Ez w b' M M1) (hb : ∀ f, b f ≤ b' f) : Ez w b M M1 := ⟨h.1.mono hb, h.2⟩
theorem Ez.lo {w : Nat} {b : Nat → Nat} {M M' : Mem} {S : Nat} (h : Lo w b M M') (hf : Fr S M M') (s1 : S.testBit (cd 3 1) = false := by rfl) (s2 : S.testBit (cd 3 17) = false := by rfl) (s3 : S.testBit (cd 5 1) = false := by rfl) (s4 : (List.range 7).all (fun j => !S.testBit (5023 + j)) = true := by rfl) : Ez w b M M' := by
  refine ⟨h, ⟨hf.R s1 0, hf.I s2 0, hf.I s3 w⟩, fun f a c => ?_⟩
  have := List.all_eq_true.mp s4 (f - 23) (List.mem_range.mpr (by omega))
  rw [show 5023 + (f - 23) = 5000 + f by omega, Bool.not_eq_true'] at this
  exact hf.L this 0
theorem Ez.fr {w : Nat} {b : Nat → Nat} {M M1 M2 : Mem} {S : Nat} (h : Ez w b M M1) (hf : Fr S M1 M2) (h2 : ∀ i k, i ≠ 0 → mI M2 211 i k = mI M1 211 i k) (hS : loOk S = true := by rfl) (s1 : S.testBit (cd 3 1) = false := by rfl) (s2 : S.testBit (cd 3 17) = false := by rfl) (s3 : S.testBit (cd 5 1) = false := by rfl) (s4 : (List.range 7).all (fun j => !S.testBit (5023 + j)) = true := by rfl) : Ez w b M M2 :=
  h.trans (Ez.lo ((Lo.rf w b M1).fr hf h2 hS) hf s1 s2 s3 s4)
theorem Ez.wq {w : Nat} {b : Nat → Nat} {M M1 M2 : Mem} (h : Ez w b M M1) (hf : Wq M1 M2) : Ez w b M M2 := h.fr hf.1 hf.2
theorem Ex.ez {w : Nat} {b : Nat → Nat} {M M1 : Mem} (h : Ex w b M M1) : Ez w b M M1 := h.1
theorem Ex.rf (w : Nat) (b : Nat → Nat) (M : Mem) : Ex w b M M := ⟨Ez.rf w b M, rfl, rfl, rfl⟩
theorem Ex.trans {w : Nat} {b : Nat → Nat} {M M1 M2 : Mem} (h : Ex w b M M1) (h1 : Ex w b M1 M2) : Ex w b M M2 := ⟨h.1.trans h1.1, h1.2.1.trans h.2.1, h1.2.2.1.trans h.2.2.1, h1.2.2.2.trans h.2.2.2⟩
theorem Ex.mono {w : Nat} {b b' : Nat → Nat} {M M1 : Mem} (h : Ex w b' M M1) (hb : ∀ f, b f ≤ b' f) : Ex w b M M1 := ⟨h.1.mono hb, h.2⟩
theorem Ex.wk {w : Nat} {b : Nat → Nat} {M M1 M2 : Mem} (h : Ex w b M M1) (hf : Wk M1 M2) : Ex w b M M2 := ⟨h.1.wq hf.wq, (hf.1.I (f := 3) (k := 2) rfl 0).trans h.2.1, (hf.1.I (f := 3) (k := 3) rfl 0).trans h.2.2.1, (hf.1.I (f := 3) (k := 4) rfl 0).trans h.2.2.2⟩
theorem Ez.w {w : Nat} {b : Nat → Nat} {M M1 : Mem} {f k : Nat} {v : Int32} (h : Ez w b M M1) (hk : b f ≤ k) (hf : wFm f = true := by rfl) (h211 : Nat.beq f 211 = false := by rfl) : Ez w b M (sI M1 f w k v) :=
  ⟨h.1.w hk h211, ⟨h.2.1.1, by rw [mI_sI, if_neg (fun q => by rw [← q.1] at hf; cases hf)]; exact h.2.1.2.1, by rw [mI_sI, if_neg (fun q => by rw [← q.1] at hf; cases hf)]; exact h.2.1.2.2⟩, h.2.2⟩
theorem Ez.w5 {w : Nat} {b : Nat → Nat} {M M1 : Mem} {k : Nat} {v : Int32} (h : Ez w b M M1) (hk : k ≠ 1 := by decide) : Ez w b M (sI M1 5 w k v) :=
  ⟨h.1.w5, ⟨h.2.1.1, by rw [mI_sI, if_neg (fun q => absurd q.1 (by decide))]; exact h.2.1.2.1, by rw [mI_sI, if_neg (fun q => hk q.2.2.symm)]; exact h.2.1.2.2⟩, h.2.2⟩
theorem Ez.w3 {w : Nat} {b : Nat → Nat} {M M1 : Mem} {k : Nat} {v : Int32} (h : Ez w b M M1) (hk : k ≠ 17 := by decide) : Ez w b M (sI M1 3 0 k v) :=
  ⟨h.1.wo, ⟨h.2.1.1, by rw [mI_sI, if_neg (fun q => hk q.2.2.symm)]; exact h.2.1.2.1, by rw [mI_sI, if_neg (fun q => absurd q.1 (by decide))]; exact h.2.1.2.2⟩, h.2.2⟩
theorem Ez.wo {w : Nat} {b : Nat → Nat} {M M1 : Mem} {f i k : Nat} {v : Int32} (h : Ez w b M M1) (hf : wFm f = false := by rfl) (h5 : Nat.beq f 5 = false := by rfl) (h211 : Nat.beq f 211 = false := by rfl) (h3 : Nat.beq f 3 = false := by rfl) : Ez w b M (sI M1 f i k v) :=
  ⟨h.1.wo hf h5 h211, ⟨h.2.1.1, by rw [mI_sI, if_neg (fun q => by rw [← q.1] at h3; cases h3)]; exact h.2.1.2.1, by rw [mI_sI, if_neg (fun q => by rw [← q.1] at h5; cases h5)]; exact h.2.1.2.2⟩, h.2.2⟩
theorem Ez.w211 {w : Nat} {b : Nat → Nat} {M M1 : Mem} {i k : Nat} {v : Int32} (h : Ez w b M M1) (hk : i = 0 ∨ (i = 2 * w + 1 ∧ b 211 ≤ k) ∨ (i = 2 * w + 2 ∧ b 212 ≤ k)) : Ez w b M (sI M1 211 i k v) :=
  ⟨h.1.w211 hk, ⟨h.2.1.1, by rw [mI_sI, if_neg (fun q => absurd q.1 (by decide))]; exact h.2.1.2.1, by rw [mI_sI, if_neg (fun q => absurd q.1 (by decide))]; exact h.2.1.2.2⟩, h.2.2⟩
/-- a write that is none of the line's, the class's, the method's number -/
theorem Ex.of {w : Nat} {b : Nat → Nat} {M M1 : Mem} {f i k : Nat} {v : Int32} (h : Ex w b M M1) (hz : Ez w b M (sI M1 f i k v)) (h3 : Nat.beq f 3 = false := by rfl) : Ex w b M (sI M1 f i k v) :=
  ⟨hz, by rw [mI_sI, if_neg (fun q => by rw [← q.1] at h3; cases h3)]; exact h.2.1, by rw [mI_sI, if_neg (fun q => by rw [← q.1] at h3; cases h3)]; exact h.2.2.1, by rw [mI_sI, if_neg (fun q => by rw [← q.1] at h3; cases h3)]; exact h.2.2.2⟩
theorem Ex.w {w : Nat} {b : Nat → Nat} {M M1 : Mem} {f k : Nat} {v : Int32} (h : Ex w b M M1) (hk : b f ≤ k) (hf : wFm f = true := by rfl) (h211 : Nat.beq f 211 = false := by rfl) (h3 : Nat.beq f 3 = false := by rfl) : Ex w b M (sI M1 f w k v) := h.of (h.1.w hk hf h211) h3
theorem Ex.w5 {w : Nat} {b : Nat → Nat} {M M1 : Mem} {k : Nat} {v : Int32} (h : Ex w b M M1) (hk : k ≠ 1 := by decide) : Ex w b M (sI M1 5 w k v) := h.of (h.1.w5 hk)
theorem Ex.wo {w : Nat} {b : Nat → Nat} {M M1 : Mem} {f i k : Nat} {v : Int32} (h : Ex w b M M1) (hf : wFm f = false := by rfl) (h5 : Nat.beq f 5 = false := by rfl) (h211 : Nat.beq f 211 = false := by rfl) (h3 : Nat.beq f 3 = false := by rfl) : Ex w b M (sI M1 f i k v) := h.of (h.1.wo hf h5 h211 h3) h3
theorem Ex.w211 {w : Nat} {b : Nat → Nat} {M M1 : Mem} {i k : Nat} {v : Int32} (h : Ex w b M M1) (hk : i = 0 ∨ (i = 2 * w + 1 ∧ b 211 ≤ k) ∨ (i = 2 * w + 2 ∧ b 212 ≤ k)) : Ex w b M (sI M1 211 i k v) := h.of (h.1.w211 hk)
theorem Ex.w3 {w : Nat} {b : Nat → Nat} {M M1 : Mem} {k : Nat} {v : Int32} (h : Ex w b M M1) (hk : 5 ≤ k ∧ k ≠ 17 := by decide) : Ex w b M (sI M1 3 0 k v) :=
  ⟨h.1.w3 hk.2, by rw [mI_sI, if_neg (fun q => by omega)]; exact h.2.1, by rw [mI_sI, if_neg (fun q => by omega)]; exact h.2.2.1, by rw [mI_sI, if_neg (fun q => by omega)]; exact h.2.2.2⟩
theorem Ex.lo {w : Nat} {b : Nat → Nat} {M M' : Mem} {S : Nat} (h : Lo w b M M') (hf : Fr S M M') (s1 : S.testBit (cd 3 1) = false := by rfl) (s2 : S.testBit (cd 3 17) = false := by rfl) (s3 : S.testBit (cd 5 1) = false := by rfl) (s4 : (List.range 7).all (fun j => !S.testBit (5023 + j)) = true := by rfl) (s5 : S.testBit (cd 3 2) = false := by rfl) (s6 : S.testBit (cd 3 3) = false := by rfl) (s7 : S.testBit (cd 3 4) = false := by rfl) : Ex w b M M' :=
  ⟨Ez.lo h hf s1 s2 s3 s4, hf.I s5 0, hf.I s6 0, hf.I s7 0⟩
theorem Ex.fr {w : Nat} {b : Nat → Nat} {M M1 M2 : Mem} {S : Nat} (h : Ex w b M M1) (hf : Fr S M1 M2) (h2 : ∀ i k, i ≠ 0 → mI M2 211 i k = mI M1 211 i k) (hS : loOk S = true := by rfl) (s1 : S.testBit (cd 3 1) = false := by rfl) (s2 : S.testBit (cd 3 17) = false := by rfl) (s3 : S.testBit (cd 5 1) = false := by rfl) (s4 : (List.range 7).all (fun j => !S.testBit (5023 + j)) = true := by rfl) (s5 : S.testBit (cd 3 2) = false := by rfl) (s6 : S.testBit (cd 3 3) = false := by rfl) (s7 : S.testBit (cd 3 4) = false := by rfl) : Ex w b M M2 :=
  h.trans (Ex.lo ((Lo.rf w b M1).fr hf h2 hS) hf s1 s2 s3 s4 s5 s6 s7)
theorem Ex.pw {w : Nat} {b : Nat → Nat} {M : Mem} : PW (fun _ M' => Ex w b M M') := fun _ _ _ _ h _ _ d => h.wk d
/-- families that the reader's words do not use -/
def rOk (f : Nat) : Bool := !Nat.beq f 1 && (!Nat.beq f 2 && (!Nat.beq f 20 && (!Nat.beq f 21 && (!Nat.beq f 22 && !Nat.beq f 400))))
theorem RS.w {B : List Nm} {r n : Nat} {p : Nat → Int32} {to : Nat} {A : List Nm} {ts : List Tok} {M : Mem} (h : RS B r n p to A ts M) {f i k : Nat} {v : Int32} (hf : rOk f = true := by rfl) : RS B r n p to A ts (sI M f i k v) :=
  h.of (by rw [mI_sI, if_neg (fun q => by rw [← q.1] at hf; cases hf)]) (fun _ => by rw [mI_sI, if_neg (fun q => by rw [← q.1] at hf; cases hf)]) (fun _ => by rw [mI_sI, if_neg (fun q => by rw [← q.1] at hf; cases hf)]) (fun _ => by rw [mI_sI, if_neg (fun q => by rw [← q.1] at hf; cases hf)]) (fun _ => rfl) rfl rfl rfl rfl rfl
    (by rw [mI_sI, if_neg (fun q => by rw [← q.1] at hf; cases hf)]) (by rw [mI_sI, if_neg (fun q => by rw [← q.1] at hf; cases hf)]) rfl (by rw [mI_sI, if_neg (fun q => by rw [← q.1] at hf; cases hf)]) (by rw [mI_sI, if_neg (fun q => by rw [← q.1] at hf; cases hf)]) (fun _ => by rw [mI_sI, if_neg (fun q => by rw [← q.1] at hf; cases hf)]) rfl
theorem fwI {A : List Nm} {i : Nat} {nm : Nm} (h : A0[i]? = some nm) (h1 : nm ≠ nMake := by decide) (h2 : nm ≠ nStart := by decide) : fw A (Int32.ofNat i) (some nm) := Or.inr ⟨i, nm, rfl, rfl, h, h1, h2⟩
/-- a field's line in the works -/
theorem c_field {B A : List Nm} {W : List Cls} {w c r n to line : Nat} {p : Nat → Int32} {br : Int32} {ts : List Tok} {b : Nat → Nat} {Q X : Mem → Prop} {M : Mem} (hR : RS B r n p to A ts M) (hw : 1 < (hd ts).1) (hC : C4 A W w c br M) (hl : mI M 3 0 2 = Int32.ofNat line) (hc : c + 1 = W.length) (h21 : 21 ≤ c) (hb42 : b 42 ≤ c) (hb : ∀ f, 49 ≤ f → f ≤ 54 ∨ f = 511 → b f ≤ (allF W).length)
    (hX : ∀ A' e M', sField br W ts.tail line = .inl e → A <+: A' → Thr B A' e M' → Ex w b M M' → X M')
    (hQ : ∀ A' W' t' M', sField br W ts.tail line = .inr W' → A <+: A' → RS B r n p to A' t' M' → C4 A' W' w c br M' → Ex w b M M' → W'.length = W.length → (∃ f, W' = addF W c f) → (mI M' 53 w (allF W).length = 0 ∧ mI M' 54 w (allF W).length = 0) → Q M') : w_Reader_field 0 Q X M := by
  have hI : PW (fun A' M' => (C4 A' W w c br M' ∧ Ex w b M M')) := fun A1 A2 M1 M2 h hp hl hk => ⟨C4.pq A1 A2 M1 M2 h.1 hp hl hk.wq, h.2.wk hk⟩
  have hc1 : W.length - 1 = c := by omega
  unfold w_Reader_field
  refine k_next hI hR ⟨hC, Ex.rf w b M⟩ hw (fun A1 M1 p1 R1 i1 => ?_)
  refine k_flags hI R1 i1 (fwI (i := 52) (nm := nStatic) (by decide +kernel)) (fwI (i := 69) (nm := nFinal) (by decide +kernel)) (fwI (i := 72) (nm := nPrivate) (by decide +kernel)) (Or.inl ⟨rfl, rfl⟩) (fun A2 bits t2 M2 hp2 p2 R2 i2 => ?_)
  have q2 := p1.trans p2
  have sp1 : ∀ e, pFieldT t2 = .inl e → sField br W ts.tail line = .inl e := fun e he => by
    unfold sField pField; rw [hp2]; dsimp only; rw [he]
  have sp2 : ∀ own κ v has t', pFieldT t2 = .inr ((own, κ, v, has), t') → sField br W ts.tail line = if rulF br (gc W c) bits own κ has = 99 then .inr (addF W c (own, κ, bits, v, has)) else .inl (rulF br (gc W c) bits own κ has, line) := fun own κ v has t' he => by
    unfold sField pField; rw [hp2]; dsimp only; rw [he, hc1]
  refine k_anyName hI R2 i2 (fun A3 own t3 M3 hp3 p3 ho R3 i3 => ?_) (fun A' e M' he p' th iv => hX A' e M' (sp1 e (by unfold pFieldT; rw [he])) (q2.trans p') th iv.2)
  refine k_type hI R3 i3 (fun A4 κ t4 M4 hp4 p4 hk R4 i4 => ?_) (fun A' e M' he p' th iv => hX A' e M' (sp1 e (by unfold pFieldT; rw [hp3]; dsimp only; rw [he])) ((q2.trans p3).trans p') th iv.2)
  have q4 := (q2.trans p3).trans p4
  have hpf : ∀ x, (if (hd t4).1 = 61 then (match pNum i32min i32max t4.tail with
        | .inl e => .inl e
        | .inr (v, t3) => if (hd t3).1 = 0 then .inr ((own, κ, v, true), t3) else .inl (er t3))
      else if (hd t4).1 = 0 then .inr ((own, κ, 0, false), t4) else .inl (er t4)) = x → pFieldT t2 = x := fun x hx => by
    unfold pFieldT; rw [hp3]; dsimp only; rw [hp4]; exact hx
  have j65 : ∀ (v : Int32) (has : Bool) A5 t5 M5, A4 <+: A5 → RS B r n p to A5 t5 M5 → C4 A5 W w c br M5 ∧ Ex w b M M5 → pFieldT t2 = (if (hd t5).1 = 0 then .inr ((own, κ, v, has), t5) else .inl (er t5)) → w_Reader_field_j65 0 Q X bits (nc A2 own) (kC A3 κ) (b2 has) v M5 := by
    intro v has A5 t5 M5 p5 R5 i5 hx
    unfold w_Reader_field_j65
    refine k_end hI R5 i5 (fun h0 => ?_) (fun M' h0 th iv => ?_)
    · rw [if_pos h0] at hx
      obtain ⟨⟨⟨a1, b', a3, a4⟩, d, e⟩, g1, g2, g4⟩ := i5.1.2
      have d1 := d c (by omega)
      have hW := i5.1.1.1.1.2.2.1
      refine ⟨w, g1, ?_, w, g1, ?_, ?_⟩
      · rw [g2, a3]; exact (vp_oN (by omega)).mpr (by omega)
      · rw [g2, a4]; exact (vp_oN (by omega)).mpr (by omega)
      rw [g2, oN_tnc (by omega), d1.1.1, d1.1.2, ← nc_pre ((p3.trans p4).trans p5) ho, ← kC_pre (p4.trans p5) hk]
      refine c_fieldRules (Ex.pw (w := w) (b := b) (M := M)) R5.1 i5.1 i5.2 (i5.2.2.1.trans hl) hc h21 (((p3.trans p4).trans p5).subset ho) (kok_pre (p4.trans p5) hk) (pType_kind hp4) (fun M' h99 th hC' hi' => ?_) (fun M' h99 hC' hf lo h53 h54 => ?_)
      · exact hX A5 _ M' (by rw [sp2 _ _ _ _ _ hx, if_neg h99]) (q4.trans p5) th hi'
      · exact hQ A5 _ t5 M' (by rw [sp2 _ _ _ _ _ hx, if_pos h99]) (q4.trans p5) (R5.w3 hf) hC' (i5.2.trans (Ex.lo (lo b hb42 hb) hf)) (addF_len _ _ _) ⟨_, rfl⟩ ⟨h53, h54⟩
    · rw [if_neg h0] at hx
      exact hX A5 _ M' (sp1 _ hx) (q4.trans p5) th iv.2
  refine c_isSign R4.hd.1 (b := 61) (by omega) (by omega) (by have := R4.hd.2.1.2.1; omega) ?_
  by_cases c61 : (hd t4).1 = 61
  · rw [decide_eq_true c61]
    refine itn (by decide) ?_
    refine k_next hI R4 i4 (by omega) (fun A5 M5 p5 R5 i5 => ?_)
    refine k_number hI R5 i5 (fun A6 v t6 M6 hp6 p6 R6 i6 => ?_) (fun A' e M' he p' th iv => hX A' e M' (sp1 e (hpf _ (by rw [if_pos c61, he]))) ((q4.trans p5).trans p') th iv.2)
    exact j65 v true A6 t6 M6 (p5.trans p6) R6 i6 (hpf _ (by rw [if_pos c61, hp6]))
  · rw [decide_eq_false c61]
    refine itp (by decide) ?_
    exact j65 0 false A4 t4 M4 (List.prefix_refl _) R4 i4 (hpf _ (by rw [if_neg c61]))
