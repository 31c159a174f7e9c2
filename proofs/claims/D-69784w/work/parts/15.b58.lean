/-! B: what stands behind an operation, in the works -/
theorem c_isInN {o lo hi : Nat} {Q : Int32 → Mem → Prop} {M : Mem} (ho : o < 1000) (h1 : lo < 1000) (h2 : hi < 1000) (hQ : Q (b2 (decide (lo ≤ o ∧ o ≤ hi))) M) : w_Works_isIn (Int32.ofNat o) (Int32.ofNat lo) (Int32.ofNat hi) Q M := by
  refine c_isIn ?_
  by_cases c : lo ≤ o ∧ o ≤ hi
  · rw [decide_eq_true c] at hQ
    rw [if_pos ⟨le_oN c.1 (by omega), le_oN c.2 (by omega)⟩]; exact hQ
  · rw [decide_eq_false c] at hQ
    rw [if_neg (fun q => c ⟨(oN_le (by omega) (by omega)).mp q.1, (oN_le (by omega) (by omega)).mp q.2⟩)]; exact hQ
/-- labels of a pick, as uses -/
def usP (line : Nat) : Nat → List Nm → List Us
  | _, [] => []
  | pf, nm :: l => (nm, 1, pf, line) :: usP line (pf + 1) l
theorem usP_app {line : Nat} {nm : Nm} : ∀ (l : List Nm) (pf : Nat), usP line pf (l ++ [nm]) = usP line pf l ++ [(nm, 1, pf + l.length, line)]
  | [], pf => rfl
  | a :: l, pf => by
    show (a, 1, pf, line) :: usP line (pf + 1) (l ++ [nm]) = (a, 1, pf, line) :: (usP line (pf + 1) l ++ _)
    rw [usP_app l (pf + 1), show pf + 1 + l.length = pf + (a :: l).length by simp; omega]
theorem usP_len {line : Nat} : ∀ (l : List Nm) (pf : Nat), (usP line pf l).length = l.length
  | [], _ => rfl
  | a :: l, pf => by
    show (usP line (pf + 1) l).length + 1 = l.length + 1
    rw [usP_len l (pf + 1)]
/-- the uses of an instruction -/
def newU (o q pf line : Nat) (ls : List Nm) : List Us := if isJ o then ls.map (fun nm => (nm, 0, q, line)) else if o = 40 then usP line pf ls else []
/-- the numbers of an instruction, but for labels -/
def cOp0 (A : List Nm) (w nr q o pf : Nat) (x : Opr) (M : Mem) : Prop :=
  if isN o then mI M 67 w q = nc A x.2.2.2.1 ∧ x.2.2.2.1 ∈ A
  else if isFo o ∨ isMo o then ∃ r, r < nr ∧ (mI M 67 w q = Int32.ofNat r ∧ 4 ≤ r) ∧ cRf A w r x.2.2.2.1 x.2.2.2.2.1 x.2.2.2.2.2.1 x.2.2.2.2.2.2 M
  else if o = 40 then mI M 67 w q = x.1 ∧ mI M 68 w q = Int32.ofNat pf ∧ mI M 69 w q = Int32.ofNat x.2.2.1.length
  else if isJ o then True else mI M 67 w q = x.1 ∧ mI M 68 w q = x.2.1
/-- (a row that only a pick uses is 0 elsewhere) -/
def cOp (A : List Nm) (w nr q o pf : Nat) (x : Opr) (M : Mem) : Prop := cOp0 A w nr q o pf x M ∧ (o ≠ 40 → mI M 69 w q = 0)
theorem cOp.pre {A A' : List Nm} {w nr q o pf : Nat} {x : Opr} {M : Mem} (h : cOp A w nr q o pf x M) (hp : A <+: A') : cOp A' w nr q o pf x M := by
  refine ⟨?_, h.2⟩
  have h := h.1
  unfold cOp0 at h ⊢
  by_cases c1 : isN o
  · rw [if_pos c1] at h ⊢; exact ⟨h.1.trans (nc_pre hp h.2).symm, hp.subset h.2⟩
  rw [if_neg c1] at h ⊢
  by_cases c2 : isFo o ∨ isMo o
  · rw [if_pos c2] at h ⊢
    obtain ⟨r, a, b, c⟩ := h
    exact ⟨r, a, b, c.pre hp⟩
  rw [if_neg c2] at h ⊢; exact h
theorem cOp.lo {A : List Nm} {w nr q o pf : Nat} {x : Opr} {b : Nat → Nat} {M M' : Mem} (h : cOp A w nr q o pf x M) (hx : Lo w b M M') (h7 : q < b 67 ∨ mI M' 67 w q = mI M 67 w q) (h8 : q < b 68) (h9 : q < b 69) (h76 : 4 * nr ≤ b 76) (h212 : 6 * nr ≤ b 212) : cOp A w nr q o pf x M' := by
  have e7 : mI M' 67 w q = mI M 67 w q := h7.elim (fun q' => (hx.1 67 rfl).1 w q (Or.inr q')) id
  have e8 : mI M' 68 w q = mI M 68 w q := (hx.1 68 rfl).1 w q (Or.inr h8)
  have e9 : mI M' 69 w q = mI M 69 w q := (hx.1 69 rfl).1 w q (Or.inr h9)
  refine ⟨?_, fun z => e9.trans (h.2 z)⟩
  have h := h.1
  unfold cOp0 at h ⊢
  rw [e7, e8, e9]
  by_cases c1 : isN o
  · rw [if_pos c1] at h ⊢; exact h
  rw [if_neg c1] at h ⊢
  by_cases c2 : isFo o ∨ isMo o
  · rw [if_pos c2] at h ⊢
    obtain ⟨r, a, b', c⟩ := h
    exact ⟨r, a, b', c.lo hx (by omega) (by omega)⟩
  rw [if_neg c2] at h ⊢; exact h
theorem pPicks_len : ∀ d acc ts ls t', pPicks d acc ts = .inr (ls, t') → ls.length ≤ acc.length + d := by
  intro d
  induction d with
  | zero => intro acc ts ks t' h; unfold pPicks at h; cases h
  | succ d ih =>
    intro acc ts ks t' h
    unfold pPicks at h
    by_cases c : acc.length ≠ 0 ∧ (hd ts).1 = 0
    · rw [if_pos c] at h; cases h; omega
    · rw [if_neg c] at h
      split at h
      · cases h
      · split at h
        · cases h
        · have := ih _ _ _ _ h
          rw [List.length_append, List.length_singleton] at this; omega
/-- the labels of a pick -/
theorem c_picks {B : List Nm} {r n : Nat} {p : Nat → Int32} {to : Nat} {A : List Nm} {ts : List Tok} {w np q line : Nat} {b : Nat → Nat} {U : List Us} {Q X : Mem → Prop} {M : Mem} (hR : RS B r n p to A ts M) (hw : mR M 3 0 1 = some (5, w)) (h49 : mI M 5 w 49 = Int32.ofNat np) (hU : cUs A U M) (hline : mI M 3 0 2 = Int32.ofNat line) (hl : ∀ f, 23 ≤ f → f ≤ 29 → mL M f 0 = 3100) (hUr : U.length + ts.length ≤ 3100) (hb : b 69 ≤ q) (hq : q < mL M 69 w) (hq2 : mL M 69 w < 1000000) (h69 : mI M 69 w q = 0)
    (hQ : ∀ A' ls t' M', pPicks (ts.length + 1) [] ts = .inr (ls, t') → A <+: A' → RS B r n p to A' t' M' → Ex w b M M' → mI M' 5 w 49 = Int32.ofNat (np + ls.length) → mI M' 69 w q = Int32.ofNat ls.length → cUs A' (U ++ usP line np ls) M' → mI M' 5 w 53 = mI M 5 w 53 → mI M' 67 w q = mI M 67 w q → mI M' 68 w q = mI M 68 w q → 2 * ls.length ≤ ts.length → Q M')
    (hX : ∀ A' e M', pPicks (ts.length + 1) [] ts = .inl e → A <+: A' → Thr B A' e M' → Ex w b M M' → X M') : ∃ d, w_Reader_operands_L166 0 Q X d (Int32.ofNat q) M := by
  have main : ∀ d acc A1 t M1, t.length < d → A <+: A1 → RS B r n p to A1 t M1 → (Ex w b M M1 ∧ mI M1 5 w 49 = Int32.ofNat (np + acc.length) ∧ mI M1 69 w q = Int32.ofNat acc.length ∧ cUs A1 (U ++ usP line np acc) M1 ∧ mI M1 5 w 53 = mI M 5 w 53 ∧ mI M1 67 w q = mI M 67 w q ∧ mI M1 68 w q = mI M 68 w q) → 2 * acc.length + t.length ≤ ts.length + (if acc.length = 0 then 0 else 1) → pPicks (ts.length + 1) [] ts = pPicks d acc t → w_Reader_operands_L166 0 Q X d (Int32.ofNat q) M1 := by
    intro d
    induction d with
    | zero => intro acc A1 t M1 h; omega
    | succ d ih =>
      intro acc A1 t M1 hlt p1 R1 i1 hcnt hp
      have hI : PW (fun A' M' => Ex w b M M' ∧ mI M' 5 w 49 = Int32.ofNat (np + acc.length) ∧ mI M' 69 w q = Int32.ofNat acc.length ∧ cUs A' (U ++ usP line np acc) M' ∧ mI M' 5 w 53 = mI M 5 w 53 ∧ mI M' 67 w q = mI M 67 w q ∧ mI M' 68 w q = mI M 68 w q) := fun A A' M1 M2 h hp _ hk =>
        ⟨h.1.wk hk, (hk.1.I (f := 5) (k := 49) rfl w).trans h.2.1, (hk.1.Ia (f := 69) rfl rfl w q).trans h.2.2.1, (h.2.2.2.1.fr hk.1).pre hp, (hk.1.I (f := 5) (k := 53) rfl w).trans h.2.2.2.2.1, (hk.1.Ia (f := 67) rfl rfl w q).trans h.2.2.2.2.2.1, (hk.1.Ia (f := 68) rfl rfl w q).trans h.2.2.2.2.2.2⟩
      obtain ⟨x1, e49, e69, u1, e53, e67, e68⟩ := id i1
      have hw1 : mR M1 3 0 1 = some (5, w) := x1.1.2.1.1.trans hw
      have l69 : mL M1 69 w = mL M 69 w := (x1.1.1.1 69 rfl).2 w
      have vq : vp_in (Int32.ofNat q) (mL M1 69 w) := by rw [l69]; exact (vp_oN (by omega)).mpr hq
      have hlen := R1.len
      have htp := List.length_pos_iff.mpr R1.hd.2.2
      have hacc : acc.length < ts.length ∧ acc.length ≤ 2000 := by
        by_cases c0 : acc.length = 0
        · rw [if_pos c0] at hcnt; omega
        · rw [if_neg c0] at hcnt
          have := hR.len
          omega
      have j209 : ∀ A2 t2 M2, A1 <+: A2 → RS B r n p to A2 t2 M2 → (Ex w b M M2 ∧ mI M2 5 w 49 = Int32.ofNat (np + acc.length) ∧ mI M2 69 w q = Int32.ofNat acc.length ∧ cUs A2 (U ++ usP line np acc) M2 ∧ mI M2 5 w 53 = mI M 5 w 53 ∧ mI M2 67 w q = mI M 67 w q ∧ mI M2 68 w q = mI M 68 w q) → t2.length + (if acc.length = 0 then 0 else 1) = t.length → pPicks (ts.length + 1) [] ts = (match pName t2 with
          | .inl e => .inl e
          | .inr (nm, t3) => pPicks d (acc ++ [nm]) t3) → w_Reader_operands_j209 0 Q X (w_Reader_operands_L166 0 Q X d) (Int32.ofNat q) M2 := by
        intro A2 t2 M2 p2 R2 i2 ht2 hpp
        obtain ⟨x2, f49, f69, u2, f53, f67, f68⟩ := i2
        unfold w_Reader_operands_j209
        have hw2 : mR M2 3 0 1 = some (5, w) := x2.1.2.1.1.trans hw
        refine ⟨w, hw2, ?_⟩
        rw [f49]
        have ul : (U ++ usP line np acc).length = U.length + acc.length := by rw [List.length_append, usP_len]
        refine c_used (kd := 1) R2 u2 (by rw [ul]; omega) (fun f a c => (x2.1.2.2 f a c).trans (hl f a c)) (x2.2.1.trans hline) (fun A3 nm t3 M3 a3 p3 R3 u3 hm hf3 => ?_) (fun A' e M' a3 p3 th hf => hX A' e M' (by rw [hpp, a3]) ((p1.trans p2).trans p3) th (x2.fr hf (fun i k _ => hf.Ia rfl rfl i k)))
        have hw3 : mR M3 3 0 1 = some (5, w) := (hf3.R (f := 3) (k := 1) rfl 0).trans hw2
        have l3 : mL M3 69 w = mL M 69 w := (hf3.L (f := 69) rfl w).trans ((x2.1.1.1 69 rfl).2 w)
        have v3 : vp_in (Int32.ofNat q) (mL M3 69 w) := by rw [l3]; exact (vp_oN (by omega)).mpr hq
        refine ⟨w, hw3, w, hw3, v3, v3, _, rfl, ?_⟩
        have g49 : mI M3 5 w 49 = Int32.ofNat (np + acc.length) := (hf3.I (f := 5) (k := 49) rfl w).trans f49
        have g69 : ∀ v, mI (sI M3 5 w 49 v) 69 w q = Int32.ofNat acc.length := fun v => (hf3.Ia (f := 69) rfl rfl w q).trans f69
        rw [oN_tnc (by omega), g69, g49, lit32 1, oN_add, oN_add]
        have hl' : (acc ++ [nm]).length = acc.length + 1 := by simp
        have ht3 := (pName_tail a3).1
        have htl : t2.tail.length + 1 = t2.length := by rw [List.length_tail]; have := List.length_pos_iff.mpr R2.hd.2.2; omega
        refine ih (acc ++ [nm]) A3 t3 _ (by rw [ht3]; split at ht2 <;> omega) ((p1.trans p2).trans p3) R3.w.w ⟨((x2.fr hf3 (fun i k _ => hf3.Ia rfl rfl i k)).w5).w hb, ?_, ?_, ?_, ?_, (hf3.Ia (f := 67) rfl rfl w q).trans f67, (hf3.Ia (f := 68) rfl rfl w q).trans f68⟩ ?_ (by rw [hpp, a3])
        · rw [hl', mI_sI, if_neg (fun q => absurd q.1 (by decide)), mI_sI, if_pos ⟨rfl, rfl, rfl⟩]; rfl
        · rw [hl', mI_sI, if_pos ⟨rfl, rfl, rfl⟩]
        · rw [usP_app, ← List.append_assoc]; exact ⟨u3.1, u3.2⟩
        · rw [mI_sI, if_neg (fun q => absurd q.1 (by decide)), mI_sI, if_neg (fun q => absurd q.2.2 (by decide))]
          exact (hf3.I (f := 5) (k := 53) rfl w).trans f53
        · rw [hl', if_neg (by omega), ht3]
          by_cases c0 : acc.length = 0
          · rw [if_pos c0] at ht2 hcnt; omega
          · rw [if_neg c0] at ht2 hcnt; omega
      have j191 : ¬ (acc.length ≠ 0 ∧ (hd t).1 = 0) → w_Reader_operands_j191 0 Q X (w_Reader_operands_L166 0 Q X d) (Int32.ofNat q) M1 := fun hne => by
        unfold w_Reader_operands_j191
        refine ⟨w, hw1, vq, ?_⟩
        rw [oN_tnc (by omega), e69]
        by_cases c0 : acc.length = 0
        · refine itp (le_oN (b := 0) (by omega) (by omega)) (j209 A1 t M1 (List.prefix_refl _) R1 i1 (by rw [if_pos c0]; rfl) (hp.trans ?_))
          conv => lhs; unfold pPicks
          rw [if_neg hne, if_pos c0]
          dsimp only
          cases pName t <;> rfl
        · refine itn (nle_oN (b := 0) (by omega) (by omega)) ?_
          refine k_sign hI R1 i1 (b := 44) (by omega) (by omega) (fun A2 M2 q' p2 R2 i2 => ?_) (fun A' M' q' p' th iv => hX A' _ M' (hp.trans ?_) (p1.trans p') th iv.1)
          · refine j209 A2 t.tail M2 p2 R2 i2 (by rw [if_neg c0, List.length_tail]; omega) (hp.trans ?_)
            conv => lhs; unfold pPicks
            rw [if_neg hne, if_neg c0]
            unfold pSign
            rw [if_pos q']
            dsimp only
            cases pName t.tail <;> rfl
          · unfold pPicks
            rw [if_neg hne, if_neg c0]
            unfold pSign
            rw [if_neg q']
      unfold w_Reader_operands_L166
      refine ⟨w, hw1, vq, ?_⟩
      rw [oN_tnc (by omega), e69]
      by_cases c0 : acc.length = 0
      · exact itp (by rw [c0]; rfl) (j191 (fun q' => q'.1 c0))
      · refine itn (ne_oN (b := 0) c0 (by omega) (by omega)) ⟨R1.hd.1.isK, ?_⟩
        by_cases ce : (hd t).1 = 0
        · refine itp (R1.isE.mpr ce) (hQ A1 acc t M1 (hp.trans (by unfold pPicks; rw [if_pos ⟨c0, ce⟩])) p1 R1 x1 e49 e69 u1 e53 e67 e68 ?_)
          rw [if_neg c0] at hcnt; omega
        · exact itn (fun q' => ce (R1.isE.mp q')) (j191 (fun q' => ce q'.2))
  exact ⟨_, main (ts.length + 1) [] A ts M (by omega) (List.prefix_refl _) hR ⟨Ex.rf w b M, h49, h69, by rw [show U ++ usP line np [] = U by simp [usP]]; exact hU, rfl, rfl, rfl⟩ (by simp) rfl⟩
