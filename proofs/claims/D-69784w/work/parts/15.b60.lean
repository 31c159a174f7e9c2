/-! B: an instruction's line in the works -/
theorem op_val {A : List Nm} (hB : Base A) (nm : Nm) : (A0.take 62).idxOf nm = if A.idxOf nm < 62 then A.idxOf nm else 62 := by
  obtain ⟨C, rfl⟩ := hB
  have h1 : A0 ++ C = A0.take 62 ++ (A0.drop 62 ++ C) := by rw [← List.append_assoc, List.take_append_drop]
  have hl : (A0.take 62).length = 62 := by decide +kernel
  rw [h1, List.idxOf_append]
  by_cases c : nm ∈ A0.take 62
  · have := List.idxOf_lt_length_iff.mpr c
    rw [if_pos c, if_pos (by omega)]
  · rw [if_neg c, if_neg (by omega)]
    have := List.idxOf_eq_length c
    omega
/-- the frame in front of an instruction -/
def cFm (A : List Nm) (w nk q : Nat) (f : Option (List Kd × List Kd)) (M : Mem) : Prop := match f with
  | none => mI M 70 w q = -1 ∧ mI M 71 w q = 0 ∧ mI M 72 w q = 0
  | some (ls, ss) => ∃ kf, kf + (ls.length + ss.length) ≤ nk ∧ mI M 70 w q = Int32.ofNat kf ∧ mI M 71 w q = Int32.ofNat ls.length ∧ mI M 72 w q = Int32.ofNat ss.length ∧ cKs A w kf (ls ++ ss) M
/-- the frame that was told and has no instruction yet -/
def cPf (A : List Nm) (w nk : Nat) (f : Option (List Kd × List Kd × Nat)) (M : Mem) : Prop := match f with
  | none => mI M 3 0 14 = 0
  | some (ls, ss, ln) => mI M 3 0 14 = 1 ∧ mI M 3 0 15 = Int32.ofNat ln ∧ ∃ kf, kf + (ls.length + ss.length) ≤ nk ∧ mI M 3 0 19 = Int32.ofNat kf ∧ mI M 3 0 20 = Int32.ofNat ls.length ∧ mI M 3 0 21 = Int32.ofNat ss.length ∧ cKs A w kf (ls ++ ss) M
theorem cFm.pre {A A' : List Nm} {w nk q : Nat} {f : Option (List Kd × List Kd)} {M : Mem} (h : cFm A w nk q f M) (hp : A <+: A') : cFm A' w nk q f M := by
  cases f with
  | none => exact h
  | some f => obtain ⟨kf, a, b, c, d, e⟩ := h; exact ⟨kf, a, b, c, d, e.pre hp⟩
theorem cFm.lo {A : List Nm} {w nk q : Nat} {f : Option (List Kd × List Kd)} {b : Nat → Nat} {M M' : Mem} (h : cFm A w nk q f M) (hx : Lo w b M M') (h0 : q < b 70) (h1 : q < b 71) (h2 : q < b 72) (h3 : nk ≤ b 73) : cFm A w nk q f M' := by
  have e0 : mI M' 70 w q = mI M 70 w q := (hx.1 70 rfl).1 w q (Or.inr h0)
  have e1 : mI M' 71 w q = mI M 71 w q := (hx.1 71 rfl).1 w q (Or.inr h1)
  have e2 : mI M' 72 w q = mI M 72 w q := (hx.1 72 rfl).1 w q (Or.inr h2)
  cases f with
  | none => exact ⟨e0.trans h.1, e1.trans h.2.1, e2.trans h.2.2⟩
  | some f =>
    obtain ⟨kf, a, b', c, d, e⟩ := h
    exact ⟨kf, a, e0.trans b', e1.trans c, e2.trans d, e.lo hx (by rw [List.length_append]; omega)⟩
theorem cFm.mono {A : List Nm} {w nk nk' q : Nat} {f : Option (List Kd × List Kd)} {M : Mem} (h : cFm A w nk q f M) (hk : nk ≤ nk') : cFm A w nk' q f M := by
  cases f with
  | none => exact h
  | some f => obtain ⟨kf, a, b, c, d, e⟩ := h; exact ⟨kf, by omega, b, c, d, e⟩
theorem cPf.pre {A A' : List Nm} {w nk : Nat} {f : Option (List Kd × List Kd × Nat)} {M : Mem} (h : cPf A w nk f M) (hp : A <+: A') : cPf A' w nk f M := by
  cases f with
  | none => exact h
  | some f => obtain ⟨x, y, kf, a, b, c, d, e⟩ := h; exact ⟨x, y, kf, a, b, c, d, e.pre hp⟩
theorem cPf.fr {A : List Nm} {w nk : Nat} {f : Option (List Kd × List Kd × Nat)} {M M' : Mem} {S : Nat} (h : cPf A w nk f M) (hf : Fr S M M') (s1 : S.testBit (cd 3 14) = false := by rfl) (s2 : S.testBit (cd 3 15) = false := by rfl) (s3 : S.testBit (cd 3 19) = false := by rfl) (s4 : S.testBit (cd 3 20) = false := by rfl) (s5 : S.testBit (cd 3 21) = false := by rfl) (s6 : S.testBit 73 = false := by rfl) : cPf A w nk f M' := by
  cases f with
  | none => exact (hf.I s1 0).trans h
  | some f =>
    obtain ⟨x, y, kf, a, b, c, d, e⟩ := h
    exact ⟨(hf.I s1 0).trans x, (hf.I s2 0).trans y, kf, a, (hf.I s3 0).trans b, (hf.I s4 0).trans c, (hf.I s5 0).trans d, fun i hi => by rw [hf.Ia (f := 73) rfl s6]; exact e i hi⟩
/-- what is refused of an instruction's line -/
def sInstr (cl line : Nat) (ts : List Tok) : Option (Nat × Nat) := match pInstr ts with
  | .inl e => some e
  | .inr ((_, x), _) => if cl = 80 ∨ 6 < x.2.2.2.2.2.1.length then some (12, line) else none
theorem c_instruction {B : List Nm} {r n : Nat} {p : Nat → Int32} {to : Nat} {A : List Nm} {ts : List Tok} {w nr np nk m q0 cl L line : Nat} {b : Nat → Nat} {U : List Us} {fr : Option (List Kd × List Kd × Nat)} {Q X : Mem → Prop} {M : Mem} (hR : RS B r n p to A ts M) (hw : mR M 3 0 1 = some (5, w)) (hst : mI M 3 0 17 = 0) (h53 : mI M 5 w 53 = Int32.ofNat nr) (h49 : mI M 5 w 49 = Int32.ofNat np) (hU : cUs A U M) (hline : mI M 3 0 2 = Int32.ofNat line) (hl : ∀ f, 23 ≤ f → f ≤ 29 → mL M f 0 = 3100) (hl0 : mL M 211 0 = 3100) (hUr : U.length + ts.length ≤ 3100)
    (hm : mI M 3 0 4 = Int32.ofNat m) (hm2 : m < mL M 62 w) (hm3 : m < mL M 63 w) (hm4 : m < 1000) (h62 : mI M 62 w m = Int32.ofNat q0) (h63 : mI M 63 w m = Int32.ofNat cl) (hcl : cl ≤ 80) (h39 : mI M 5 w 39 = Int32.ofNat (q0 + cl)) (hq : q0 + cl < L) (hLs : ∀ f, 66 ≤ f → f ≤ 72 → mL M f w = L) (hL2 : L < 1000000)
    (hb : ∀ f, 66 ≤ f → f ≤ 72 → b f ≤ q0 + cl) (hb63 : b 63 ≤ m) (hb76 : b 76 ≤ 4 * nr) (hb212 : b 212 ≤ 6 * nr) (h4 : 4 ≤ nr) (h76 : 4 * nr + 4 ≤ mL M 76 w) (h76' : mL M 76 w < 1000000) (h212 : 6 * nr + 6 ≤ mL M 211 (2 * w + 2)) (h212' : mL M 211 (2 * w + 2) < 1000000) (hP : cPf A w nk fr M)
    (hQ : ∀ A' o x t' M', pInstr ts = .inr ((o, x), t') → o < 62 → ¬ (cl = 80 ∨ 6 < x.2.2.2.2.2.1.length) → A <+: A' → RS B r n p to A' t' M' → Ex w b M M' → mI M' 66 w (q0 + cl) = Int32.ofNat o → cOp A' w (nr + if isFo o ∨ isMo o then 1 else 0) (q0 + cl) o np x M' → cFm A' w nk (q0 + cl) (fr.map (fun f => (f.1, f.2.1))) M' → cUs A' (U ++ newU o (q0 + cl) np line x.2.2.1) M' → mI M' 5 w 53 = Int32.ofNat (nr + if isFo o ∨ isMo o then 1 else 0) → mI M' 5 w 49 = Int32.ofNat (np + if o = 40 then x.2.2.1.length else 0) → mI M' 5 w 39 = Int32.ofNat (q0 + cl + 1) → mI M' 63 w m = Int32.ofNat (cl + 1) → mI M' 3 0 14 = 0 → (if o = 40 then 2 * x.2.2.1.length else 0) ≤ ts.length → Fr F_Reader_instruction M M' → Q M')
    (hX : ∀ A' e M', sInstr cl line ts = some e → A <+: A' → Thr B A' e M' → Ex w b M M' → X M') : w_Reader_instruction 0 Q X M := by
  refine mf_w_Reader_instruction (Q := fun M' => Fr F_Reader_instruction M M' → Q M') (X := X) (fun _ hf hp => hp hf) (fun _ _ hp => hp) ?_
  unfold w_Reader_instruction
  refine ⟨hR.hd.1.isK, ?_⟩
  have bad : ¬ opOf ts < 62 → w_Reader_instruction_j25 0 (fun M' => Fr F_Reader_instruction M M' → Q M') X M := fun c => by
    unfold w_Reader_instruction_j25
    refine k_wrong (Ex.pw (w := w) (b := b) (M := M)) hR (Ex.rf w b M) (fun M' th iv => hX A _ M' ?_ (List.prefix_refl _) th iv)
    unfold sInstr pInstr; rw [if_neg c]
  by_cases cn : (hd ts).1 = 2 ∨ (hd ts).1 = 3
  · refine itp (hR.isN.mpr cn) ?_
    obtain ⟨k1, k2, k3⟩ := hR.hd.1.name cn
    rw [k2]
    have hAl := hR.1.len
    have hix := List.idxOf_lt_length_iff.mpr k3
    by_cases ci : A.idxOf (hd ts).2.1 < 62
    · refine itp (lt_oN (b := 62) ci (by omega)) ?_
      have c2 : (hd ts).1 = 2 := by
        rcases cn with c | c
        · exact c
        · have hms := hR.1.2.1.ms
          rcases hR.hd.2.1.2.2.2 c with e | e
          · have := (hR.1.1.get hms.1).2.2.1
            rw [e, this] at ci; omega
          · have := (hR.1.1.get hms.2).2.2.1
            rw [e, this] at ci; omega
      have hop : opOf ts = A.idxOf (hd ts).2.1 := by
        unfold opOf; rw [if_pos c2, op_val hR.1.2.1, if_pos ci]
      show w_Words_next 0 (fun M4 => w_Reader_nextCode 0 (fun r6 M5 => ∃ i7, (mR M5 3 0 1) = some (5, i7) ∧ vp_in (mI M5 3 0 4) (mL M5 63 i7) ∧ if (mI M5 63 i7 (mI M5 3 0 4).toNatClampNeg) = (80 : Int32) then (w_Reader_instruction_j72 0 (fun M' => Fr F_Reader_instruction M M' → Q M') X (Int32.ofNat (A.idxOf (hd ts).2.1)) r6 (1 : Int32) M5) else (w_Reader_instruction_j72 0 (fun M' => Fr F_Reader_instruction M M' → Q M') X (Int32.ofNat (A.idxOf (hd ts).2.1)) r6 (0 : Int32) M5)) M4) M
      generalize A.idxOf (hd ts).2.1 = o at hop ci
      have hI : PW (fun A' M' => Ex w b M M' ∧ mI M' 5 w 53 = Int32.ofNat nr ∧ mI M' 5 w 49 = Int32.ofNat np ∧ cUs A' U M' ∧ mI M' 62 w m = Int32.ofNat q0 ∧ mI M' 63 w m = Int32.ofNat cl ∧ mI M' 5 w 39 = Int32.ofNat (q0 + cl) ∧ cPf A' w nk fr M') := fun A A' M1 M2 h hp _ hk =>
        ⟨h.1.wk hk, (hk.1.I (f := 5) (k := 53) rfl w).trans h.2.1, (hk.1.I (f := 5) (k := 49) rfl w).trans h.2.2.1, (h.2.2.2.1.fr hk.1).pre hp, (hk.1.Ia (f := 62) rfl rfl w m).trans h.2.2.2.2.1, (hk.1.Ia (f := 63) rfl rfl w m).trans h.2.2.2.2.2.1, (hk.1.I (f := 5) (k := 39) rfl w).trans h.2.2.2.2.2.2.1, (h.2.2.2.2.2.2.2.fr hk.1).pre hp⟩
      refine k_next hI hR ⟨Ex.rf w b M, h53, h49, hU, h62, h63, h39, hP⟩ (by omega) (fun A1 M1 p1 R1 i1 => ?_)
      obtain ⟨x1, e53, e49, u1, e62, e63, e39, P1⟩ := i1
      have hw1 : mR M1 3 0 1 = some (5, w) := x1.1.2.1.1.trans hw
      have e4 : mI M1 3 0 4 = Int32.ofNat m := x1.2.2.2.trans hm
      have lo1 := x1.1.1
      have v62 : vp_in (mI M1 3 0 4) (mL M1 62 w) := by rw [e4, (lo1.1 62 rfl).2]; exact (vp_oN (by omega)).mpr hm2
      have v63 : vp_in (mI M1 3 0 4) (mL M1 63 w) := by rw [e4, (lo1.1 63 rfl).2]; exact (vp_oN (by omega)).mpr hm3
      unfold w_Reader_nextCode
      refine ⟨w, hw1, v62, w, hw1, v63, w, hw1, v63, ?_⟩
      rw [e4, oN_tnc (by omega), e62, e63, oN_add]
      have htl : ts.tail.length ≤ ts.length := by rw [List.length_tail]; omega
      have hpi : ∀ y, pOpr o ts.tail = y → pInstr ts = (match y with
          | .inl e => .inl e
          | .inr (x, t1) => if (hd t1).1 = 0 then .inr ((o, x), t1) else .inl (er t1)) := fun y hy => by
        unfold pInstr; rw [hop, if_pos ci, hy]; cases y <;> rfl
      have tq : (Int32.ofNat (q0 + cl)).toNatClampNeg = q0 + cl := oN_tnc (by omega)
      have j72 : ∀ s0 : Int32, (s0 = 1 ∧ cl = 80 ∨ s0 = 0 ∧ cl ≠ 80) → w_Reader_instruction_j72 0 (fun M' => Fr F_Reader_instruction M M' → Q M') X (Int32.ofNat o) (Int32.ofNat (q0 + cl)) s0 M1 := fun s0 hs => by
        unfold w_Reader_instruction_j72
        refine ⟨w, hw1, ?_⟩
        rw [e53]
        refine c_operands (b := b) (nr := nr) (np := np) (q := q0 + cl) (line := line) (U := U) ci R1 hw1 (x1.1.2.1.2.1.trans hst) e53 e49 u1 (x1.2.1.trans hline) (fun f a c => (x1.1.2.2 f a c).trans (hl f a c)) ((lo1.2.2.2 0).trans hl0) (by omega) (hb 67 (by omega) (by omega)) (hb 68 (by omega) (by omega)) (hb 69 (by omega) (by omega)) hb76 hb212 (by rw [(lo1.1 67 rfl).2, hLs 67 (by omega) (by omega)]; exact hq) (by rw [(lo1.1 67 rfl).2, (lo1.1 68 rfl).2, hLs 67 (by omega) (by omega), hLs 68 (by omega) (by omega)]) (by rw [(lo1.1 67 rfl).2, (lo1.1 69 rfl).2, hLs 67 (by omega) (by omega), hLs 69 (by omega) (by omega)]) (by rw [(lo1.1 67 rfl).2, hLs 67 (by omega) (by omega)]; exact hL2) h4 (by rw [(lo1.1 76 rfl).2]; exact h76) (by rw [(lo1.1 76 rfl).2]; exact h76') (by rw [lo1.2.2.2]; exact h212) (by rw [lo1.2.2.2]; exact h212') (fun A2 x t2 M2 a2 p2 R2 x2 co u2 f53 f49 hm18 hm0 cnt hf2 => ?_) (fun A' e M' a2 p2 th x2 => hX A' e M' (by unfold sInstr; rw [hpi _ a2]) (p1.trans p2) th (x1.trans x2))
        have x12 := x1.trans x2
        refine k_end (Ex.pw (w := w) (b := b) (M := M)) R2 x12 (fun h0 => ?_) (fun M' h0 th iv => hX A2 _ M' (by unfold sInstr; rw [hpi _ a2]; dsimp only; rw [if_neg h0]) (p1.trans p2) th iv)
        have hpi2 : pInstr ts = .inr ((o, x), t2) := by rw [hpi _ a2]; dsimp only; rw [if_pos h0]
        have hw2 : mR M2 3 0 1 = some (5, w) := x12.1.2.1.1.trans hw
        have j118 : cl = 80 ∨ 6 < x.2.2.2.2.2.1.length → w_Reader_instruction_j118 0 (fun M' => Fr F_Reader_instruction M M' → Q M') X M2 := fun c => by
          unfold w_Reader_instruction_j118
          exact k_refuse (line := line) (rule := 12) (Ex.pw (w := w) (b := b) (M := M)) R2.1 x12 (x12.2.1.trans hline) (fun M' th iv => hX A2 _ M' (by unfold sInstr; rw [hpi2]; dsimp only; rw [if_pos c]) (p1.trans p2) th iv)
        have j132 : ¬ (cl = 80 ∨ 6 < x.2.2.2.2.2.1.length) → w_Reader_instruction_j132 0 (fun M' => Fr F_Reader_instruction M M' → Q M') X (Int32.ofNat o) (Int32.ofNat (q0 + cl)) M2 := fun c => by
          have P2 := (P1.fr hf2).pre p2
          have lo2 := x12.1.1
          have v : ∀ f, 66 ≤ f → f ≤ 72 → wFm f = true → vp_in (Int32.ofNat (q0 + cl)) (mL M2 f w) := fun f a c d => by rw [(lo2.1 f d).2, hLs f a c]; exact (vp_oN (by omega)).mpr hq
          have f4 : mI M2 3 0 4 = Int32.ofNat m := x12.2.2.2.trans hm
          have v63' : vp_in (Int32.ofNat m) (mL M2 63 w) := by rw [(lo2.1 63 rfl).2]; exact (vp_oN (by omega)).mpr hm3
          have f63 : mI M2 63 w m = Int32.ofNat cl := (hf2.Ia (f := 63) rfl rfl w m).trans e63
          have f39 : mI M2 5 w 39 = Int32.ofNat (q0 + cl) := (hf2.I (f := 5) (k := 39) rfl w).trans e39
          have tm : (Int32.ofNat m).toNatClampNeg = m := oN_tnc (by omega)
          have fin : ∀ v70 v71 v72 : Int32, (∀ Mf, (∀ k, mI Mf 73 w k = mI M2 73 w k) → mI Mf 70 w (q0 + cl) = v70 → mI Mf 71 w (q0 + cl) = v71 → mI Mf 72 w (q0 + cl) = v72 → cFm A2 w nk (q0 + cl) (fr.map (fun f => (f.1, f.2.1))) Mf) → (Fr F_Reader_instruction M (sI (sI (sI (sI (sI (sI (sI M2 66 w (q0 + cl) (Int32.ofNat o)) 70 w (q0 + cl) v70) 71 w (q0 + cl) v71) 72 w (q0 + cl) v72) 3 0 14 0) 63 w m (Int32.ofNat (cl + 1))) 5 w 39 (Int32.ofNat (q0 + cl + 1))) → Q (sI (sI (sI (sI (sI (sI (sI M2 66 w (q0 + cl) (Int32.ofNat o)) 70 w (q0 + cl) v70) 71 w (q0 + cl) v71) 72 w (q0 + cl) v72) 3 0 14 0) 63 w m (Int32.ofNat (cl + 1))) 5 w 39 (Int32.ofNat (q0 + cl + 1)))) := fun v70 v71 v72 hfm hf => by
            refine hQ A2 o x t2 _ hpi2 ci c (p1.trans p2) R2.w.w.w.w.w.w.w (((((((x12.w (hb 66 (by omega) (by omega))).w (hb 70 (by omega) (by omega))).w (hb 71 (by omega) (by omega))).w (hb 72 (by omega) (by omega))).w3).w hb63).w5) ?_ ?_ (hfm _ (fun k => ?_) ?_ ?_ ?_) ⟨u2.1, u2.2⟩ ?_ ?_ ?_ ?_ ?_ (Nat.le_trans cnt htl) hf
            · simp only [mI_sI, Nat.reduceEqDiff, false_and, if_false, and_self, if_true]
            · refine ⟨?_, co.2⟩
              have co1 := co.1
              unfold cOp0 at co1 ⊢; exact co1
            · simp only [mI_sI, Nat.reduceEqDiff, false_and, if_false]
            · simp only [mI_sI, Nat.reduceEqDiff, false_and, if_false, and_self, if_true]
            · simp only [mI_sI, Nat.reduceEqDiff, false_and, if_false, and_self, if_true]
            · simp only [mI_sI, Nat.reduceEqDiff, false_and, if_false, and_self, if_true]
            · simp only [mI_sI, Nat.reduceEqDiff, false_and, and_false, if_false]; exact f53
            · simp only [mI_sI, Nat.reduceEqDiff, false_and, and_false, if_false]; exact f49
            · simp only [mI_sI, and_self, if_true]
            · simp only [mI_sI, Nat.reduceEqDiff, false_and, if_false, and_self, if_true]
            · simp only [mI_sI, Nat.reduceEqDiff, false_and, if_false, and_self, if_true]
          have s14 : ∀ f k v f' k' v' f'' k'' v'', 66 ≤ f → 66 ≤ f' → 66 ≤ f'' → mI (sI (sI (sI M2 f w k v) f' w k' v') f'' w k'' v'') 3 0 14 = mI M2 3 0 14 := fun f k v f' k' v' f'' k'' v'' a b c => by
            rw [mI_sI, if_neg (fun q => by omega), mI_sI, if_neg (fun q => by omega), mI_sI, if_neg (fun q => by omega)]
          unfold w_Reader_instruction_j132
          refine ⟨w, hw2, v 66 (by omega) (by omega) rfl, w, hw2, ?_⟩
          rw [tq]
          cases fr with
          | none =>
            have e14 : mI M2 3 0 14 = 0 := P2
            refine itp e14 ?_
            unfold w_Reader_instruction_j165
            refine ⟨v 70 (by omega) (by omega) rfl, w, hw2, ?_⟩
            rw [tq]
            refine itp e14 ?_
            unfold w_Reader_instruction_j189
            refine ⟨v 71 (by omega) (by omega) rfl, w, hw2, ?_⟩
            rw [tq]
            refine itp e14 ?_
            unfold w_Reader_instruction_j213
            refine ⟨v 72 (by omega) (by omega) rfl, Or.inl rfl, w, hw2, ?_⟩
            rw [tq]
            simp only [mI_sI, Nat.reduceEqDiff, false_and, and_false, if_false, f4, tm, mL_sI, f63, f39]
            refine ⟨v63', v63', _, rfl, w, hw2, ?_⟩
            simp only [mI_sI, Nat.reduceEqDiff, false_and, and_false, if_false, f39]
            rw [lit32 1, oN_add, oN_add]
            exact fin (-1) 0 0 (fun Mf _ a b c => ⟨a, b, c⟩)
          | some f =>
            obtain ⟨e14, e15, kf, g1, g2, g3, g4, g5⟩ := P2
            have n14 : ¬ mI M2 3 0 14 = 0 := by rw [e14]; decide
            refine itn n14 ?_
            unfold w_Reader_instruction_j165
            refine ⟨v 70 (by omega) (by omega) rfl, w, hw2, ?_⟩
            rw [tq]
            refine itn n14 ?_
            unfold w_Reader_instruction_j189
            refine ⟨v 71 (by omega) (by omega) rfl, w, hw2, ?_⟩
            rw [tq]
            refine itn n14 ?_
            unfold w_Reader_instruction_j213
            refine ⟨v 72 (by omega) (by omega) rfl, Or.inl rfl, w, hw2, ?_⟩
            rw [tq]
            simp only [mI_sI, Nat.reduceEqDiff, false_and, and_false, if_false, f4, tm, mL_sI, f63, f39, g2, g3, g4]
            refine ⟨v63', v63', _, rfl, w, hw2, ?_⟩
            simp only [mI_sI, Nat.reduceEqDiff, false_and, and_false, if_false, f39]
            rw [lit32 1, oN_add, oN_add]
            exact fin _ _ _ (fun Mf h73 a b c => ⟨kf, g1, a, b, c, fun i hi => by rw [h73]; exact g5 i hi⟩)
        rcases hs with ⟨h1, h2⟩ | ⟨h1, h2⟩
        · rw [h1]; exact itn (by decide) (j118 (Or.inl h2))
        · rw [h1]
          refine itp rfl ?_
          by_cases tr : isFo o ∨ isMo o
          · obtain ⟨l18, l4⟩ := hm18 tr
            rw [l18]
            by_cases c6 : x.2.2.2.2.2.1.length ≤ 6
            · exact itp (le_oN (b := 6) c6 (by omega)) (j132 (fun q => by omega))
            · refine itn (nle_oN (b := 6) (by omega) (by omega)) ⟨w, hw2, ?_⟩
              rw [f53, if_pos tr]
              exact itn (nle_oN (by omega) (by omega)) (j118 (Or.inr (by omega)))
          · have hx0 := hm0 tr
            have nb : ¬ (cl = 80 ∨ 6 < x.2.2.2.2.2.1.length) := fun q => by
              rcases q with q | q
              · exact h2 q
              · rw [hx0] at q; simp at q
            by_cases c6 : mI M2 3 0 18 ≤ 6
            · exact itp c6 (j132 nb)
            · refine itn c6 ⟨w, hw2, ?_⟩
              rw [f53, if_neg tr]
              exact itp (le_oN (by omega) (by omega)) (j132 nb)
      by_cases c80 : cl = 80
      · exact itp (by rw [c80]; rfl) (j72 1 (Or.inl ⟨rfl, c80⟩))
      · exact itn (ne_oN (b := 80) c80 (by omega) (by omega)) (j72 0 (Or.inr ⟨rfl, c80⟩))
    · refine itn (nlt_oN (b := 62) (by omega) (by omega)) (bad ?_)
      unfold opOf
      split
      · rw [op_val hR.1.2.1, if_neg ci]; omega
      · omega
  · refine itn (fun q => cn (hR.isN.mp q)) (bad ?_)
    unfold opOf
    rw [if_neg (fun q => cn (Or.inl q))]; omega
