/-! B: labels that are used, references, in the works -/
/-- a use: name, kind, index, line -/
abbrev Us : Type := Nm × Nat × Nat × Nat
abbrev gu (U : List Us) (i : Nat) : Us := U.getD i ([], 0, 0, 0)
def cUs (A : List Nm) (U : List Us) (M : Mem) : Prop := mI M 3 0 9 = Int32.ofNat U.length ∧ ∀ i, i < U.length → (mI M 26 0 i = nc A (gu U i).1 ∧ (gu U i).1 ∈ A) ∧ mI M 27 0 i = Int32.ofNat (gu U i).2.1 ∧ mI M 28 0 i = Int32.ofNat (gu U i).2.2.1 ∧ mI M 29 0 i = Int32.ofNat (gu U i).2.2.2
theorem cUs.pre {A A' : List Nm} {U : List Us} {M : Mem} (h : cUs A U M) (hp : A <+: A') : cUs A' U M := ⟨h.1, fun i hi => ⟨⟨(h.2 i hi).1.1.trans (nc_pre hp (h.2 i hi).1.2).symm, hp.subset (h.2 i hi).1.2⟩, (h.2 i hi).2⟩⟩
theorem cUs.fr {A : List Nm} {U : List Us} {M M' : Mem} {S : Nat} (h : cUs A U M) (hf : Fr S M M') (s9 : S.testBit (cd 3 9) = false := by rfl) (s1 : S.testBit 26 = false := by rfl) (s2 : S.testBit 27 = false := by rfl) (s3 : S.testBit 28 = false := by rfl) (s4 : S.testBit 29 = false := by rfl) : cUs A U M' :=
  ⟨(hf.I s9 0).trans h.1, fun i hi => by rw [hf.Ia (f := 26) rfl s1, hf.Ia (f := 27) rfl s2, hf.Ia (f := 28) rfl s3, hf.Ia (f := 29) rfl s4]; exact h.2 i hi⟩
theorem gu_app1 {U l : List Us} {i : Nat} (h : i < U.length) : gu (U ++ l) i = gu U i := by simp [gu, List.getD_eq_getElem?_getD, List.getElem?_append_left h]
theorem gu_app2 {U l : List Us} {i : Nat} (h : U.length ≤ i) : gu (U ++ l) i = gu l (i - U.length) := by simp [gu, List.getD_eq_getElem?_getD, List.getElem?_append_right h]
theorem cUs.add {A : List Nm} {U : List Us} {M M' : Mem} {nm : Nm} {kd ix line : Nat} (h : cUs A U M) (hm : nm ∈ A) (e9 : mI M' 3 0 9 = Int32.ofNat (U.length + 1)) (e26 : ∀ k, mI M' 26 0 k = if k = U.length then nc A nm else mI M 26 0 k) (e27 : ∀ k, mI M' 27 0 k = if k = U.length then Int32.ofNat kd else mI M 27 0 k) (e28 : ∀ k, mI M' 28 0 k = if k = U.length then Int32.ofNat ix else mI M 28 0 k) (e29 : ∀ k, mI M' 29 0 k = if k = U.length then Int32.ofNat line else mI M 29 0 k) : cUs A (U ++ [(nm, kd, ix, line)]) M' := by
  have hl : (U ++ [(nm, kd, ix, line)]).length = U.length + 1 := by simp
  refine ⟨by rw [hl]; exact e9, fun i hi => ?_⟩
  rw [hl] at hi
  rw [e26, e27, e28, e29]
  by_cases c : i < U.length
  · rw [if_neg (by omega), if_neg (by omega), if_neg (by omega), if_neg (by omega), gu_app1 c]; exact h.2 i c
  · have : i = U.length := by omega
    rw [if_pos this, if_pos this, if_pos this, if_pos this, gu_app2 (by omega), this, Nat.sub_self]
    exact ⟨⟨rfl, hm⟩, rfl, rfl, rfl⟩
theorem c_used {B : List Nm} {r n : Nat} {p : Nat → Int32} {to : Nat} {A : List Nm} {ts : List Tok} {U : List Us} {kd ix line : Nat} {Q X : Mem → Prop} {M : Mem} (hR : RS B r n p to A ts M) (hU : cUs A U M) (hrm : U.length < 3100) (hl : ∀ f, 23 ≤ f → f ≤ 29 → mL M f 0 = 3100) (hline : mI M 3 0 2 = Int32.ofNat line)
    (hQ : ∀ A' nm t' M', pName ts = .inr (nm, t') → A <+: A' → RS B r n p to A' t' M' → cUs A' (U ++ [(nm, kd, ix, line)]) M' → nm ∈ A' → Fr F_Reader_used M M' → Q M')
    (hX : ∀ A' e M', pName ts = .inl e → A <+: A' → Thr B A' e M' → Fr F_Reader_used M M' → X M') : w_Reader_used 0 (Int32.ofNat kd) (Int32.ofNat ix) Q X M := by
  refine mf_w_Reader_used (Q := fun M' => Fr F_Reader_used M M' → Q M') (X := fun M' => Fr F_Reader_used M M' → X M') (fun _ hf hp => hp hf) (fun _ hf hp => hp hf) ?_
  unfold w_Reader_used
  have hI : PW (fun A' M' => cUs A' U M' ∧ Ex 0 (fun _ => 0) M M') := fun A A' M1 M2 h hp _ hk => ⟨(h.1.fr hk.1).pre hp, h.2.wk hk⟩
  refine k_anyName hI hR ⟨hU, Ex.rf _ _ M⟩ (fun A1 nm t1 M1 a1 p1 hm R1 i1 => ?_) (fun A' e M' a1 p1 th _ hf => hX A' e M' a1 p1 th hf)
  rw [hU.1, oN_tnc (by omega)]
  have l26 : mL M1 26 0 = 3100 := (i1.2.1.2.2 26 (by omega) (by omega)).trans (hl 26 (by omega) (by omega))
  have l27 : mL M1 27 0 = 3100 := (i1.2.1.2.2 27 (by omega) (by omega)).trans (hl 27 (by omega) (by omega))
  have l28 : mL M1 28 0 = 3100 := (i1.2.1.2.2 28 (by omega) (by omega)).trans (hl 28 (by omega) (by omega))
  have l29 : mL M1 29 0 = 3100 := (i1.2.1.2.2 29 (by omega) (by omega)).trans (hl 29 (by omega) (by omega))
  have e9 := i1.1.1
  have vp : vp_in (Int32.ofNat U.length) 3100 := (vp_oN (by omega)).mpr hrm
  refine ⟨by rw [l26]; exact vp, by show vp_in (mI M1 3 0 9) (mL M1 27 0); rw [e9, l27]; exact vp, _, rfl, by show vp_in (mI M1 3 0 9) (mL M1 28 0); rw [e9, l28]; exact vp, by show vp_in (mI M1 3 0 9) (mL M1 29 0); rw [e9, l29]; exact vp, _, rfl, ?_⟩
  simp only [mI_sI, Nat.reduceEqDiff, false_and, if_false, e9, oN_tnc (show U.length < 2147483648 by omega), i1.2.2.1, hline]
  rw [lit32 1, oN_add, ← nc_pre p1 hm]
  refine hQ A1 nm t1 _ a1 p1 R1.w.w.w.w.w (i1.1.add (p1.subset hm) ?_ ?_ ?_ ?_ ?_) (p1.subset hm)
  · rw [mI_sI, if_pos ⟨rfl, rfl, rfl⟩]
  · intro k; simp [mI_sI]
  · intro k; simp [mI_sI]
  · intro k; simp [mI_sI]
  · intro k; simp [mI_sI]
/-- a member that is named, as the works hold it -/
def cRf (A : List Nm) (w r : Nat) (k m : Nm) (ks : List Kd) (κ : Kd) (M : Mem) : Prop := (mI M 76 w (4 * r) = nc A k ∧ k ∈ A) ∧ (mI M 76 w (4 * r + 1) = nc A m ∧ m ∈ A) ∧ (mI M 76 w (4 * r + 2) = kC A κ ∧ kok A κ) ∧ mI M 76 w (4 * r + 3) = Int32.ofNat ks.length ∧ ∀ i, i < ks.length → i < 6 → mI M 211 (2 * w + 2) (6 * r + i) = kC A (gk ks i) ∧ kok A (gk ks i)
theorem cRf.pre {A A' : List Nm} {w r : Nat} {k m : Nm} {ks : List Kd} {κ : Kd} {M : Mem} (h : cRf A w r k m ks κ M) (hp : A <+: A') : cRf A' w r k m ks κ M :=
  ⟨⟨h.1.1.trans (nc_pre hp h.1.2).symm, hp.subset h.1.2⟩, ⟨h.2.1.1.trans (nc_pre hp h.2.1.2).symm, hp.subset h.2.1.2⟩, ⟨h.2.2.1.1.trans (kC_pre hp h.2.2.1.2).symm, kok_pre hp h.2.2.1.2⟩, h.2.2.2.1, fun i a b => ⟨(h.2.2.2.2 i a b).1.trans (kC_pre hp (h.2.2.2.2 i a b).2).symm, kok_pre hp (h.2.2.2.2 i a b).2⟩⟩
theorem cRf.lo {A : List Nm} {w r : Nat} {k m : Nm} {ks : List Kd} {κ : Kd} {b : Nat → Nat} {M M' : Mem} (h : cRf A w r k m ks κ M) (hx : Lo w b M M') (h1 : 4 * r + 4 ≤ b 76) (h2 : 6 * r + 6 ≤ b 212) : cRf A w r k m ks κ M' := by
  have e : ∀ j, j < b 76 → mI M' 76 w j = mI M 76 w j := fun j hj => (hx.1 76 rfl).1 w j (Or.inr hj)
  have e2 : ∀ j, j < b 212 → mI M' 211 (2 * w + 2) j = mI M 211 (2 * w + 2) j := fun j hj => hx.2.2.1 (2 * w + 2) j (by omega) (fun q => by omega) (fun _ => hj)
  unfold cRf
  rw [e _ (by omega), e _ (by omega), e _ (by omega), e _ (by omega)]
  exact ⟨h.1, h.2.1, h.2.2.1, h.2.2.2.1, fun i a c => by rw [e2 _ (by omega)]; exact h.2.2.2.2 i a c⟩
theorem c_addReference {B : List Nm} {r n : Nat} {p : Nat → Int32} {to : Nat} {A : List Nm} {ts : List Tok} {w nr : Nat} {b : Nat → Nat} {k m : Nm} {ks : List Kd} {κ : Kd} {Q : Int32 → Mem → Prop} {M : Mem} (hR : RS B r n p to A ts M) (hw : mR M 3 0 1 = some (5, w)) (h53 : mI M 5 w 53 = Int32.ofNat nr) (hLT : LT A ks M) (hlk : ks.length < 4000) (hb : b 76 ≤ 4 * nr) (hb2 : b 212 ≤ 6 * nr) (h76 : 4 * nr + 4 ≤ mL M 76 w) (h76' : mL M 76 w < 1000000) (h212 : 6 * nr + 6 ≤ mL M 211 (2 * w + 2)) (h212' : mL M 211 (2 * w + 2) < 1000000) (hk : k ∈ A) (hm : m ∈ A) (hkk : kok A κ)
    (hQ : ∀ M', RS B r n p to A ts M' → Ex w b M M' → mI M' 5 w 53 = Int32.ofNat (nr + 1) → cRf A w nr k m ks κ M' → mI M' 3 0 18 = Int32.ofNat ks.length → Q (Int32.ofNat nr) M') : w_Reader_addReference 0 (nc A k) (nc A m) (kC A κ) Q M := by
  have main : ∀ d i M1, 6 - i < d → i ≤ 6 → RS B r n p to A ts M1 ∧ Ex w b M M1 ∧ mI M1 5 w 53 = Int32.ofNat (nr + 1) ∧ (mI M1 76 w (4 * nr) = nc A k ∧ mI M1 76 w (4 * nr + 1) = nc A m ∧ mI M1 76 w (4 * nr + 2) = kC A κ ∧ mI M1 76 w (4 * nr + 3) = Int32.ofNat ks.length) ∧ LT A ks M1 ∧ (∀ j, j < ks.length → j < i → mI M1 211 (2 * w + 2) (6 * nr + j) = kC A (gk ks j)) → w_Reader_addReference_L86 0 Q d (Int32.ofNat nr) (Int32.ofNat i) M1 := by
    intro d
    induction d with
    | zero => intro i M1 h; omega
    | succ d ih =>
      intro i M1 hd hi ⟨R1, x1, e53, ⟨f0, f1, f2, f3⟩, L1, g⟩
      have fin : (ks.length ≤ i ∨ i = 6) → Q (Int32.ofNat nr) M1 := fun q => hQ M1 R1 x1 e53 ⟨⟨f0, hk⟩, ⟨f1, hm⟩, ⟨f2, hkk⟩, f3, fun j a c => ⟨g j a (by omega), hLT.2.2.1 _ (gk_mem a)⟩⟩ L1.1
      unfold w_Reader_addReference_L86
      rw [L1.1]
      by_cases c1 : ks.length ≤ i
      · exact itp (le_oN c1 (by omega)) (fin (Or.inl c1))
      refine itn (nle_oN (by omega) (by omega)) ?_
      by_cases c2 : i = 6
      · exact itp (le_oN (a := 6) (by omega) (by omega)) (fin (Or.inr c2))
      refine itn (nle_oN (a := 6) (by omega) (by omega)) ?_
      have hw1 : mR M1 3 0 1 = some (5, w) := x1.1.2.1.1.trans hw
      have l1 : mL M1 211 (2 * w + 2) = mL M 211 (2 * w + 2) := x1.1.1.2.2.2 _
      have ei : (6 : Int32) * Int32.ofNat nr + Int32.ofNat i = Int32.ofNat (6 * nr + i) := by rw [lit32 6, oN_mul, oN_add]
      refine ⟨w, hw1, by rw [L1.2.1]; exact (vp_oN (by omega)).mpr (by omega), by rw [ei, l1]; exact (vp_oN (by omega)).mpr (by omega), _, rfl, ?_⟩
      rw [ei, oN_tnc (by omega), oN_tnc (by omega), L1.2.2.2 i (by omega), lit32 1, oN_add]
      refine ih (i + 1) _ (by omega) (by omega) ⟨R1.w, x1.w211 (Or.inr (Or.inr ⟨rfl, by omega⟩)), e53, ⟨f0, f1, f2, f3⟩, ⟨L1.1, L1.2.1, L1.2.2.1, fun j hj => ?_⟩, fun j a c => ?_⟩
      · rw [mI_sI, if_neg (fun q => by omega)]; exact L1.2.2.2 j hj
      · rw [mI_sI]
        by_cases cj : j = i
        · rw [if_pos ⟨rfl, rfl, by omega⟩, cj]
        · rw [if_neg (fun q => by omega)]; exact g j a (by omega)
  unfold w_Reader_addReference
  have e4 : ∀ j, j < 4 → (4 : Int32) * Int32.ofNat nr + Int32.ofNat j = Int32.ofNat (4 * nr + j) := fun j _ => by rw [lit32 4, oN_mul, oN_add]
  have e40 : (4 : Int32) * Int32.ofNat nr = Int32.ofNat (4 * nr) := by rw [lit32 4, oN_mul]
  have v : ∀ j, j < 4 → vp_in (Int32.ofNat (4 * nr + j)) (mL M 76 w) := fun j hj => (vp_oN (by omega)).mpr (by omega)
  refine ⟨w, hw, w, hw, w, hw, ?_⟩
  rw [h53, lit32 1, lit32 2, lit32 3, e4 1 (by omega), e4 2 (by omega), e4 3 (by omega), e40]
  refine ⟨v 0 (by omega), _, rfl, w, hw, v 1 (by omega), _, rfl, w, hw, v 2 (by omega), _, rfl, w, hw, v 3 (by omega), _, rfl, 7, ?_⟩
  rw [oN_tnc (by omega), oN_tnc (by omega), oN_tnc (by omega), oN_tnc (by omega), oN_add]
  have e18 : ∀ a b c d e, mI (sI (sI (sI (sI M 5 w 53 e) 76 w a b) 76 w c d) 76 w (4 * nr + 2) (kC A κ)) 3 0 18 = Int32.ofNat ks.length := fun a b c d e => hLT.1
  rw [e18]
  refine main 7 0 _ (by omega) (by omega) ⟨hR.w.w.w.w.w, (((((Ex.rf w b M).w5).w (by omega)).w (by omega)).w (by omega)).w (by omega), ?_, ⟨?_, ?_, ?_, ?_⟩, ⟨hLT.1, hLT.2.1, hLT.2.2.1, hLT.2.2.2⟩, fun j _ c => absurd c (Nat.not_lt_zero j)⟩
  · simp only [mI_sI, Nat.reduceEqDiff, false_and, if_false, and_self, if_true]
  · simp only [mI_sI, true_and]
    rw [if_neg (by omega), if_neg (by omega), if_neg (by omega), if_pos trivial]
  · simp only [mI_sI, true_and]
    rw [if_neg (by omega), if_neg (by omega), if_pos trivial]
  · simp only [mI_sI, true_and]
    rw [if_neg (by omega), if_pos trivial]
  · simp only [mI_sI, true_and]
    rw [if_pos trivial]
theorem pRes_tail {ts t2 : List Tok} {κ : Kd} (h : pRes ts = .inr (κ, t2)) : t2 = ts.tail := by
  unfold pRes at h
  split at h
  · cases h; rfl
  · exact pType_tail h
theorem pTypesF_len {s : Bool} : ∀ d acc ts ks t', pTypesF s d acc ts = .inr (ks, t') → ks.length ≤ acc.length + d := by
  intro d
  induction d with
  | zero => intro acc ts ks t' h; unfold pTypesF at h; cases h
  | succ d ih =>
    intro acc ts ks t' h
    unfold pTypesF at h
    by_cases c : (hd ts).1 = 41
    · rw [if_pos c] at h; cases h; omega
    · rw [if_neg c] at h
      split at h
      · cases h
      · split at h
        · cases h
        · split at h
          · cases h
          · have := ih _ _ _ _ h
            rw [List.length_append, List.length_singleton] at this; omega
theorem pTypes_len {s : Bool} {ts t' : List Tok} {ks : List Kd} (h : pTypes s ts = .inr (ks, t')) : ks.length ≤ ts.length + 1 := by
  unfold pTypes pSign at h
  by_cases c : (hd ts).1 = 40
  · rw [if_pos c] at h
    have := pTypesF_len _ _ _ _ _ h
    rw [List.length_tail] at this
    simp at this; omega
  · rw [if_neg c] at h; cases h
/-- C . NAME and what follows -/
theorem c_member {B : List Nm} {r n : Nat} {p : Nat → Int32} {to : Nat} {A : List Nm} {ts : List Tok} {w nr q : Nat} {b : Nat → Nat} {meth : Bool} {Q X : Mem → Prop} {M : Mem} (hR : RS B r n p to A ts M) (hw : mR M 3 0 1 = some (5, w)) (hst : mI M 3 0 17 = 0) (h53 : mI M 5 w 53 = Int32.ofNat nr) (hl0 : mL M 211 0 = 3100) (hb : b 76 ≤ 4 * nr) (hb2 : b 212 ≤ 6 * nr) (hb67 : b 67 ≤ q) (hq : q < mL M 67 w) (hq2 : mL M 67 w < 1000000) (h76 : 4 * nr + 4 ≤ mL M 76 w) (h76' : mL M 76 w < 1000000) (h212 : 6 * nr + 6 ≤ mL M 211 (2 * w + 2)) (h212' : mL M 211 (2 * w + 2) < 1000000)
    (hQ : ∀ A' k m ks κ t' M', pMember meth ts = .inr ((k, m, ks, κ), t') → A <+: A' → RS B r n p to A' t' M' → Ex w b M M' → mI M' 5 w 53 = Int32.ofNat (nr + 1) → cRf A' w nr k m ks κ M' → mI M' 3 0 18 = Int32.ofNat ks.length → ks.length < 4000 → mI M' 67 w q = Int32.ofNat nr → Fr F_Reader_member M M' → Q M')
    (hX : ∀ A' e M', pMember meth ts = .inl e → A <+: A' → Thr B A' e M' → Ex w b M M' → X M') : w_Reader_member 0 (Int32.ofNat q) (b2 meth) Q X M := by
  refine mf_w_Reader_member (Q := fun M' => Fr F_Reader_member M M' → Q M') (X := X) (fun _ hf hp => hp hf) (fun _ _ hp => hp) ?_
  have hI : PW (fun _ M' => Ex w b M M' ∧ mI M' 5 w 53 = Int32.ofNat nr) := fun A A' M1 M2 h hp _ hk => ⟨h.1.wk hk, (hk.1.I (f := 5) (k := 53) rfl w).trans h.2⟩
  unfold w_Reader_member
  refine k_className hI hR ⟨Ex.rf w b M, h53⟩ (fun A1 k t1 M1 a1 p1 hk R1 i1 => ?_) (fun A' e M' a1 p1 th iv => hX A' e M' (by unfold pMember; rw [a1]) p1 th iv.1)
  refine k_sign hI R1 i1 (b := 46) (by omega) (by omega) (fun A2 M2 q46 p2 R2 i2 => ?_) (fun A' M' q46 p2 th iv => hX A' _ M' (by unfold pMember; rw [a1]; dsimp only; unfold pSign; rw [if_neg q46]) (p1.trans p2) th iv.1)
  have q2 := p1.trans p2
  have hpm : ∀ x, (if (hd t1.tail).1 = 2 ∨ (meth = true ∧ (hd t1.tail).1 = 3 ∧ (hd t1.tail).2.1 = nMake) then (if meth then (match pSig t1.tail.tail with
          | .inl e => .inl e
          | .inr ((ks, κ), t3) => .inr ((k, (hd t1.tail).2.1, ks, κ), t3)) else (match pType t1.tail.tail with
          | .inl e => .inl e
          | .inr (κ, t3) => .inr ((k, (hd t1.tail).2.1, [], κ), t3))) else .inl (er t1.tail)) = x → pMember meth ts = x := fun x hx => by
    unfold pMember; rw [a1]; dsimp only; unfold pSign; rw [if_pos q46]; exact hx
  have bad : ¬ ((hd t1.tail).1 = 2 ∨ (meth = true ∧ (hd t1.tail).1 = 3 ∧ (hd t1.tail).2.1 = nMake)) → w_Reader_member_j52 0 (fun M' => Fr F_Reader_member M M' → Q M') X M2 := fun c => by
    unfold w_Reader_member_j52
    exact k_wrong hI R2 i2 (fun M' th iv => hX A2 _ M' (hpm _ (by rw [if_neg c])) q2 th iv.1)
  -- behind the types
  have j101 : ∀ (m : Nm) (ks : List Kd) (κ : Kd) (A5 A6 : List Nm) t6 M6, A2 <+: A5 → A5 <+: A6 → m ∈ A2 → kok A5 κ → RS B r n p to A6 t6 M6 → (Ex w b M M6 ∧ mI M6 5 w 53 = Int32.ofNat nr) → LT A6 ks M6 → ks.length < 4000 → pMember meth ts = .inr ((k, m, ks, κ), t6) → w_Reader_member_j101 0 (fun M' => Fr F_Reader_member M M' → Q M') X (Int32.ofNat q) (nc A k) (nc A2 m) (kC A5 κ) M6 := by
    intro m ks κ A5 A6 t6 M6 p5 p6 hm hκ R6 i6 L6 hlen hpp
    unfold w_Reader_member_j101
    have hw6 : mR M6 3 0 1 = some (5, w) := i6.1.1.2.1.1.trans hw
    have lo6 := i6.1.1.1
    refine ⟨w, hw6, ?_⟩
    rw [← nc_pre ((q2.trans p5).trans p6) hk, ← nc_pre (p5.trans p6) hm, ← kC_pre p6 hκ]
    refine c_addReference (b := b) R6 hw6 i6.2 L6 hlen hb hb2 (by rw [(lo6.1 76 rfl).2]; exact h76) (by rw [(lo6.1 76 rfl).2]; exact h76') (by rw [lo6.2.2.2]; exact h212) (by rw [lo6.2.2.2]; exact h212') (((q2.trans p5).trans p6).subset hk) ((p5.trans p6).subset hm) (kok_pre p6 hκ) (fun M7 R7 x7 e7 c7 l7 => ?_)
    have l67 : mL M7 67 w = mL M 67 w := ((i6.1.trans x7).1.1.1 67 rfl).2 w
    refine ⟨by rw [l67]; exact (vp_oN (by omega)).mpr hq, ?_⟩
    rw [oN_tnc (by omega)]
    refine hQ A6 k m ks κ t6 _ hpp ((q2.trans p5).trans p6) R7.w ((i6.1.trans x7).w hb67) e7 c7 l7 hlen (by rw [mI_sI, if_pos ⟨rfl, rfl, rfl⟩])
  have j57 : ((hd t1.tail).1 = 2 ∨ (meth = true ∧ (hd t1.tail).1 = 3 ∧ (hd t1.tail).2.1 = nMake)) → w_Reader_member_j57 0 (fun M' => Fr F_Reader_member M M' → Q M') X (Int32.ofNat q) (b2 meth) (nc A k) M2 := fun c => by
    unfold w_Reader_member_j57
    have hnm : (hd t1.tail).1 = 2 ∨ (hd t1.tail).1 = 3 := c.imp id (fun x => x.2.1)
    obtain ⟨k1, k2, k3⟩ := R2.hd.1.name hnm
    rw [k2]
    refine k_next hI R2 i2 (by omega) (fun A3 M3 p3 R3 i3 => ?_)
    have x3 : Ex w b M (sI M3 3 0 18 0) ∧ mI (sI M3 3 0 18 0) 5 w 53 = Int32.ofNat nr := ⟨i3.1.w3, i3.2⟩
    have lens := R3.len
    cases meth with
    | false =>
      refine itp rfl ?_
      unfold w_Reader_member_j86
      refine itp rfl ?_
      have L3 : LT A3 [] (sI M3 3 0 18 0) := ⟨rfl, (i3.1.1.1.2.2.2 0).trans hl0, by simp, fun i h => absurd h (Nat.not_lt_zero i)⟩
      refine mf_w_Reader_type (Q := fun v M' => ∃ A4 κ t4, pType t1.tail.tail = .inr (κ, t4) ∧ A3 <+: A4 ∧ kok A3 κ ∧ RS B r n p to A4 t4 M' ∧ (Ex w b M M' ∧ mI M' 5 w 53 = Int32.ofNat nr) ∧ v = kC A3 κ) (X := X) (fun v M' hf hp => ?_) (fun _ _ h => h) (k_type hI R3.s3 x3 (fun A4 κ t4 M4 a4 p4 hκ R4 i4 => ⟨A4, κ, t4, a4, p4, hκ, R4, i4, rfl⟩) (fun A' e M' a4 p4 th iv => hX A' e M' (hpm _ (by rw [if_pos c, if_neg (by decide), a4])) ((q2.trans p3).trans p4) th iv.1))
      obtain ⟨A4, κ, t4, a4, p4, hκ, R4, i4, e4⟩ := hp
      rw [e4]
      exact j101 (hd t1.tail).2.1 [] κ A3 A4 t4 M' p3 p4 k3 hκ R4 i4 ((L3.fr hf).pre p4) (by simp) (hpm _ (by rw [if_pos c, if_neg (by decide), a4]))
    | true =>
      refine itn (by decide) ?_
      have hs3 : mI (sI M3 3 0 18 0) 3 0 17 = b2 false := i3.1.1.2.1.2.1.trans hst
      have hl3 : mL (sI M3 3 0 18 0) 211 0 = 3100 := (i3.1.1.1.2.2.2 0).trans hl0
      refine k_types hI (M := sI M3 3 0 18 0) (strict := false) R3.s3 x3 hl3 hs3 (fun A4 ks t4 M4 a4 p4 R4 L4 i4 => ?_) (fun A' e M' a4 p4 th iv => hX A' e M' (hpm _ (by rw [if_pos c, if_pos rfl]; unfold pSig; rw [a4])) ((q2.trans p3).trans p4) th iv.1)
      unfold w_Reader_member_j86
      refine itn (by decide) ?_
      have hlen : ks.length < 4000 := by have := pTypes_len a4; omega
      refine mf_w_Reader_result (Q := fun v M' => ∃ A5 κ t5, pRes t4 = .inr (κ, t5) ∧ A4 <+: A5 ∧ kok A4 κ ∧ RS B r n p to A5 t5 M' ∧ (Ex w b M M' ∧ mI M' 5 w 53 = Int32.ofNat nr) ∧ v = kC A4 κ) (X := X) (fun v M' hf hp => ?_) (fun _ _ h => h) (k_result hI R4 i4 (fun A5 κ t5 M5 a5 p5 hκ R5 i5 => ⟨A5, κ, t5, a5, p5, hκ, R5, i5, rfl⟩) (fun A' e M' a5 p5 th iv => hX A' e M' (hpm _ (by rw [if_pos c, if_pos rfl]; unfold pSig; rw [a4]; dsimp only; rw [a5])) (((q2.trans p3).trans p4).trans p5) th iv.1))
      obtain ⟨A5, κ, t5, a5, p5, hκ, R5, i5, e5⟩ := hp
      rw [e5]
      exact j101 (hd t1.tail).2.1 ks κ A4 A5 t5 M' (p3.trans p4) p5 k3 hκ R5 i5 ((L4.fr hf).pre p5) hlen (hpm _ (by rw [if_pos c, if_pos rfl]; unfold pSig; rw [a4]; dsimp only; rw [a5]))
  refine ⟨R2.hd.1.isK, ?_⟩
  by_cases cn : (hd t1.tail).1 = 2 ∨ (hd t1.tail).1 = 3
  · refine itp (R2.isN.mpr cn) ?_
    obtain ⟨k1, k2, k3⟩ := R2.hd.1.name cn
    have hms := R2.1.2.1.ms
    have hl := R2.1.len
    have e79 := nc_at R2.1.1 hms.1
    have e80 := nc_at R2.1.1 hms.2
    rw [k2]
    by_cases c2 : (hd t1.tail).1 = 2
    · obtain ⟨-, -, m1, m2⟩ := R2.hd.2.1.2.2.1 c2
      refine itn (fun q => m2 ((nc_inj (by omega) k3 (List.mem_of_getElem? hms.2)).mp (q.trans e80.symm))) (itn (fun q => m1 ((nc_inj (by omega) k3 (List.mem_of_getElem? hms.1)).mp (q.trans e79.symm))) (j57 (Or.inl c2)))
    · have c3 : (hd t1.tail).1 = 3 := by omega
      rcases R2.hd.2.1.2.2.2 c3 with e | e
      · rw [e, e79]
        refine itn (by decide) (itp rfl ?_)
        cases meth with
        | false => exact itp rfl (bad (fun q => by rcases q with q | q; exact c2 q; cases q.1))
        | true => exact itn (by decide) (j57 (Or.inr ⟨rfl, c3, e⟩))
      · rw [e, e80]
        exact itp rfl (bad (fun q => by
          rcases q with q | q
          · exact c2 q
          · rw [e] at q; exact absurd q.2.2 (by decide)))
  · refine itn (fun q => cn (R2.isN.mp q)) (bad (fun q => cn (q.imp id (fun x => x.2.1))))
