/-- what stands behind an operation -/
theorem c_operands {B : List Nm} {r n : Nat} {p : Nat → Int32} {to : Nat} {A : List Nm} {ts : List Tok} {w nr np q o line : Nat} {b : Nat → Nat} {U : List Us} {fl : Int32} {Q X : Mem → Prop} {M : Mem} (ho : o < 62) (hR : RS B r n p to A ts M) (hw : mR M 3 0 1 = some (5, w)) (hst : mI M 3 0 17 = 0) (h53 : mI M 5 w 53 = Int32.ofNat nr) (h49 : mI M 5 w 49 = Int32.ofNat np) (hU : cUs A U M) (hline : mI M 3 0 2 = Int32.ofNat line) (hl : ∀ f, 23 ≤ f → f ≤ 29 → mL M f 0 = 3100) (hl0 : mL M 211 0 = 3100) (hUr : U.length + ts.length ≤ 3100)
    (hb7 : b 67 ≤ q) (hb8 : b 68 ≤ q) (hb9 : b 69 ≤ q) (hb76 : b 76 ≤ 4 * nr) (hb212 : b 212 ≤ 6 * nr) (hq : q < mL M 67 w) (l68 : mL M 68 w = mL M 67 w) (l69 : mL M 69 w = mL M 67 w) (hq2 : mL M 67 w < 1000000) (h4 : 4 ≤ nr) (h76 : 4 * nr + 4 ≤ mL M 76 w) (h76' : mL M 76 w < 1000000) (h212 : 6 * nr + 6 ≤ mL M 211 (2 * w + 2)) (h212' : mL M 211 (2 * w + 2) < 1000000)
    (hQ : ∀ A' x t' M', pOpr o ts = .inr (x, t') → A <+: A' → RS B r n p to A' t' M' → Ex w b M M' → cOp A' w (nr + if isFo o ∨ isMo o then 1 else 0) q o np x M' → cUs A' (U ++ newU o q np line x.2.2.1) M' → mI M' 5 w 53 = Int32.ofNat (nr + if isFo o ∨ isMo o then 1 else 0) → mI M' 5 w 49 = Int32.ofNat (np + if o = 40 then x.2.2.1.length else 0) → ((isFo o ∨ isMo o) → mI M' 3 0 18 = Int32.ofNat x.2.2.2.2.2.1.length ∧ x.2.2.2.2.2.1.length < 4000) → (¬ (isFo o ∨ isMo o) → x.2.2.2.2.2.1 = []) → (if o = 40 then 2 * x.2.2.1.length else 0) ≤ ts.length → Fr F_Reader_operands M M' → Q M')
    (hX : ∀ A' e M', pOpr o ts = .inl e → A <+: A' → Thr B A' e M' → Ex w b M M' → X M') : w_Reader_operands 0 (Int32.ofNat o) (Int32.ofNat q) fl Q X M := by
  refine mf_w_Reader_operands (Q := fun M' => Fr F_Reader_operands M M' → Q M') (X := X) (fun _ hf hp => hp hf) (fun _ _ hp => hp) ?_
  unfold w_Reader_operands
  have vq : vp_in (Int32.ofNat q) (mL M 67 w) := (vp_oN (by omega)).mpr hq
  refine ⟨w, hw, vq, w, hw, by show vp_in _ (mL M 68 w); rw [l68]; exact vq, _, rfl, w, hw, by show vp_in _ (mL M 69 w); rw [l69]; exact vq, ?_⟩
  rw [oN_tnc (by omega)]
  generalize hM0 : sI (sI (sI M 67 w q 0) 68 w q 0) 69 w q 0 = M0
  have x0 : Ex w b M M0 := by rw [← hM0]; exact (((Ex.rf w b M).w hb7).w hb8).w hb9
  have R0 : RS B r n p to A ts M0 := by rw [← hM0]; exact hR.w.w.w
  have u0 : cUs A U M0 := by rw [← hM0]; exact ⟨hU.1, hU.2⟩
  have a0 : mI M0 67 w q = 0 := by rw [← hM0]; simp [mI_sI]
  have b0 : mI M0 68 w q = 0 := by rw [← hM0]; simp [mI_sI]
  have c0 : mI M0 69 w q = 0 := by rw [← hM0]; simp [mI_sI]
  have e53 : mI M0 5 w 53 = Int32.ofNat nr := by rw [← hM0]; exact h53
  have e49 : mI M0 5 w 49 = Int32.ofNat np := by rw [← hM0]; exact h49
  clear hM0
  have hw0 : mR M0 3 0 1 = some (5, w) := x0.1.2.1.1.trans hw
  have hI : ∀ va vb vc, PW (fun A' M' => Ex w b M M' ∧ mI M' 5 w 53 = Int32.ofNat nr ∧ mI M' 5 w 49 = Int32.ofNat np ∧ cUs A' U M' ∧ mI M' 67 w q = va ∧ mI M' 68 w q = vb ∧ mI M' 69 w q = vc) := fun va vb vc A A' M1 M2 h hp _ hk =>
    ⟨h.1.wk hk, (hk.1.I (f := 5) (k := 53) rfl w).trans h.2.1, (hk.1.I (f := 5) (k := 49) rfl w).trans h.2.2.1, (h.2.2.2.1.fr hk.1).pre hp, (hk.1.Ia (f := 67) rfl rfl w q).trans h.2.2.2.2.1, (hk.1.Ia (f := 68) rfl rfl w q).trans h.2.2.2.2.2.1, (hk.1.Ia (f := 69) rfl rfl w q).trans h.2.2.2.2.2.2⟩
  have v7 : ∀ M', Ex w b M M' → vp_in (Int32.ofNat q) (mL M' 67 w) := fun M' x => by rw [(x.1.1.1 67 rfl).2]; exact vq
  have v8 : ∀ M', Ex w b M M' → vp_in (Int32.ofNat q) (mL M' 68 w) := fun M' x => by rw [(x.1.1.1 68 rfl).2, l68]; exact vq
  have tq : (Int32.ofNat q).toNatClampNeg = q := oN_tnc (by omega)
  have fin : ∀ A' x t' M', pOpr o ts = .inr (x, t') → A <+: A' → RS B r n p to A' t' M' → Ex w b M M' → mI M' 5 w 53 = Int32.ofNat nr → mI M' 5 w 49 = Int32.ofNat np → cUs A' U M' → ¬ isJ o → o ≠ 40 → ¬ (isFo o ∨ isMo o) → x.2.2.2.2.2.1 = [] → cOp A' w nr q o np x M' → Fr F_Reader_operands M M' → Q M' := fun A' x t' M' h1 h2 h3 h4 h5 h6 h7 h8 h9 h10 h11 h12 hf => by
    refine hQ A' x t' M' h1 h2 h3 h4 ?_ ?_ ?_ ?_ (fun q' => absurd q' h10) (fun _ => h11) ?_ hf
    · rw [if_neg h10]; exact h12
    · unfold newU; rw [if_neg h8, if_neg h9, List.append_nil]; exact h7
    · rw [if_neg h10]; exact h5
    · rw [if_neg h9]; exact h6
    · rw [if_neg h9]; exact Nat.zero_le _
  by_cases c1 : o = 1
  · refine itp (by rw [c1]; rfl) ⟨w, hw0, ?_⟩
    have hpo : ∀ x, pNum i32min i32max ts = x → pOpr o ts = (match x with
        | .inl e => .inl e
        | .inr (v, t1) => .inr ((v, 0, [], [], [], [], (0, [])), t1)) := fun x hx => by unfold pOpr; rw [if_pos c1, hx]; cases x <;> rfl
    refine k_number (hI 0 0 0) R0 ⟨x0, e53, e49, u0, a0, b0, c0⟩ (fun A1 v t1 M1 a1 p1 R1 i1 => ⟨v7 M1 i1.1, fun hf => ?_⟩) (fun A' e M' a1 p1 th iv => hX A' e M' (by rw [hpo _ a1]) p1 th iv.1)
    refine fin A1 _ t1 _ (hpo _ a1) p1 R1.w (i1.1.w hb7) i1.2.1 i1.2.2.1 ⟨i1.2.2.2.1.1, i1.2.2.2.1.2⟩ (show ¬ (23 ≤ o ∧ o ≤ 39) by omega) (by omega) (show ¬ ((46 ≤ o ∧ o ≤ 49) ∨ (50 ≤ o ∧ o ≤ 53)) by omega) rfl ?_ hf
    refine ⟨?_, fun _ => i1.2.2.2.2.2.2⟩
    unfold cOp0
    rw [if_neg (show ¬ (o = 41 ∨ o = 54 ∨ o = 55) by omega), if_neg (show ¬ ((46 ≤ o ∧ o ≤ 49) ∨ (50 ≤ o ∧ o ≤ 53)) by omega), if_neg (by omega), if_neg (show ¬ (23 ≤ o ∧ o ≤ 39) by omega), mI_sI, if_pos ⟨rfl, rfl, rfl⟩]
    exact ⟨rfl, i1.2.2.2.2.2.1⟩
  refine itn (ne_oN (b := 1) c1 (by omega) (by omega)) (c_isInN (lo := 3) (hi := 7) (by omega) (by omega) (by omega) ?_)
  by_cases c2 : 3 ≤ o ∧ o ≤ 7
  · rw [decide_eq_true c2]
    refine itn (by decide) ⟨w, hw0, ?_⟩
    have nN := (show ¬ (o = 41 ∨ o = 54 ∨ o = 55) by omega)
    have nM := (show ¬ ((46 ≤ o ∧ o ≤ 49) ∨ (50 ≤ o ∧ o ≤ 53)) by omega)
    have nJ := (show ¬ (23 ≤ o ∧ o ≤ 39) by omega)
    by_cases c7 : o = 7
    · have hpo : pOpr o ts = (match pNum 0 19 ts with
          | .inl e => .inl e
          | .inr (v, t1) => match pNum i32min i32max t1 with
            | .inl e => .inl e
            | .inr (u, t2) => .inr ((v, u, [], [], [], [], (0, [])), t2)) := by
        unfold pOpr; rw [if_neg c1, if_neg (by omega), if_pos c7]; rfl
      refine k_number (hI 0 0 0) R0 ⟨x0, e53, e49, u0, a0, b0, c0⟩ (fun A1 v t1 M1 a1 p1 R1 i1 => ⟨v7 M1 i1.1, itp (by rw [c7]; rfl) ?_⟩) (fun A' e M' a1 p1 th iv => hX A' e M' (by rw [hpo, a1]) p1 th iv.1)
      have hw1 : mR (sI M1 67 w q v) 3 0 1 = some (5, w) := i1.1.1.2.1.1.trans hw
      refine ⟨w, hw1, ?_⟩
      refine k_number (hI v 0 0) (M := sI M1 67 w q v) R1.w ⟨i1.1.w hb7, i1.2.1, i1.2.2.1, ⟨i1.2.2.2.1.1, i1.2.2.2.1.2⟩, by rw [mI_sI, if_pos ⟨rfl, rfl, rfl⟩], i1.2.2.2.2.2.1, i1.2.2.2.2.2.2⟩ (fun A2 u t2 M2 a2 p2 R2 i2 => ⟨v8 M2 i2.1, fun hf => ?_⟩) (fun A' e M' a2 p2 th iv => hX A' e M' (by rw [hpo, a1]; dsimp only; rw [a2]) (p1.trans p2) th iv.1)
      refine fin A2 (v, u, [], [], [], [], (0, [])) t2 _ (by rw [hpo, a1]; dsimp only; rw [a2]) (p1.trans p2) R2.w (i2.1.w hb8) i2.2.1 i2.2.2.1 ⟨i2.2.2.2.1.1, i2.2.2.2.1.2⟩ nJ (by omega) nM rfl ?_ hf
      refine ⟨?_, fun _ => i2.2.2.2.2.2.2⟩
      unfold cOp0
      rw [if_neg nN, if_neg nM, if_neg (by omega), if_neg nJ]
      exact ⟨i2.2.2.2.2.1, by rw [mI_sI, if_pos ⟨rfl, rfl, rfl⟩]⟩
    · have hpo : pOpr o ts = (match pNum 0 19 ts with
          | .inl e => .inl e
          | .inr (v, t1) => .inr ((v, 0, [], [], [], [], (0, [])), t1)) := by
        unfold pOpr; rw [if_neg c1, if_pos (by omega)]; rfl
      refine k_number (hI 0 0 0) R0 ⟨x0, e53, e49, u0, a0, b0, c0⟩ (fun A1 v t1 M1 a1 p1 R1 i1 => ⟨v7 M1 i1.1, itn (ne_oN (b := 7) c7 (by omega) (by omega)) (fun hf => ?_)⟩) (fun A' e M' a1 p1 th iv => hX A' e M' (by rw [hpo, a1]) p1 th iv.1)
      refine fin A1 (v, 0, [], [], [], [], (0, [])) t1 _ (by rw [hpo, a1]) p1 R1.w (i1.1.w hb7) i1.2.1 i1.2.2.1 ⟨i1.2.2.2.1.1, i1.2.2.2.1.2⟩ nJ (by omega) nM rfl ?_ hf
      refine ⟨?_, fun _ => i1.2.2.2.2.2.2⟩
      unfold cOp0
      rw [if_neg nN, if_neg nM, if_neg (by omega), if_neg nJ, mI_sI, if_pos ⟨rfl, rfl, rfl⟩]
      exact ⟨rfl, i1.2.2.2.2.2.1⟩
  rw [decide_eq_false c2]
  refine itp (by decide) (c_isInN (lo := 23) (hi := 39) (by omega) (by omega) (by omega) ?_)
  by_cases c3 : 23 ≤ o ∧ o ≤ 39
  · rw [decide_eq_true c3]
    refine itn (by decide) ?_
    have nN := (show ¬ (o = 41 ∨ o = 54 ∨ o = 55) by omega)
    have nM := (show ¬ ((46 ≤ o ∧ o ≤ 49) ∨ (50 ≤ o ∧ o ≤ 53)) by omega)
    have hpo : pOpr o ts = (match pName ts with
        | .inl e => .inl e
        | .inr (nm, t1) => .inr ((0, 0, [nm], [], [], [], (0, [])), t1)) := by
      unfold pOpr; rw [if_neg c1, if_neg (by omega), if_neg (by omega), if_pos c3]; rfl
    have htp := List.length_pos_iff.mpr hR.hd.2.2
    refine c_used (kd := 0) (ix := q) R0 u0 (by omega) (fun f a c => (x0.1.2.2 f a c).trans (hl f a c)) (x0.2.1.trans hline) (fun A1 nm t1 M1 a1 p1 R1 u1 hm hf1 hf => ?_) (fun A' e M' a1 p1 th hf => hX A' e M' (by rw [hpo, a1]) p1 th (x0.fr hf (fun i k _ => hf.Ia rfl rfl i k)))
    have x1 := x0.fr hf1 (fun i k _ => hf1.Ia rfl rfl i k)
    refine hQ A1 (0, 0, [nm], [], [], [], (0, [])) t1 M1 (by rw [hpo, a1]) p1 R1 x1 ?_ ?_ ?_ ?_ (fun q' => absurd q' nM) (fun _ => rfl) ?_ hf
    · refine ⟨?_, fun _ => (hf1.Ia (f := 69) rfl rfl w q).trans c0⟩
      unfold cOp0; rw [if_neg nN, if_neg nM, if_neg (by omega), if_pos c3]; trivial
    · unfold newU; rw [if_pos c3]; exact u1
    · rw [if_neg nM]; exact (hf1.I (f := 5) (k := 53) rfl w).trans e53
    · rw [if_neg (by omega)]; exact (hf1.I (f := 5) (k := 49) rfl w).trans e49
    · rw [if_neg (by omega)]; exact Nat.zero_le _
  rw [decide_eq_false c3]
  refine itp (by decide) ?_
  by_cases c4 : o = 40
  · refine itp (by rw [c4]; rfl) ⟨w, hw0, ?_⟩
    have nN := (show ¬ (o = 41 ∨ o = 54 ∨ o = 55) by omega)
    have nM := (show ¬ ((46 ≤ o ∧ o ≤ 49) ∨ (50 ≤ o ∧ o ≤ 53)) by omega)
    have hpo : pOpr o ts = (match pNum i32min i32max ts with
        | .inl e => .inl e
        | .inr (v, t1) => match pPicks (t1.length + 1) [] t1 with
          | .inl e => .inl e
          | .inr (ls, t2) => .inr ((v, 0, ls, [], [], [], (0, [])), t2)) := by
      unfold pOpr; rw [if_neg c1, if_neg (by omega), if_neg (by omega), if_neg c3, if_pos c4]; rfl
    refine k_number (hI 0 0 0) R0 ⟨x0, e53, e49, u0, a0, b0, c0⟩ (fun A1 v t1 M1 a1 p1 R1 i1 => ⟨v7 M1 i1.1, ?_⟩) (fun A' e M' a1 p1 th iv => hX A' e M' (by rw [hpo, a1]) p1 th iv.1)
    have hw1 : mR (sI M1 67 w q v) 3 0 1 = some (5, w) := i1.1.1.2.1.1.trans hw
    refine ⟨w, hw1, w, hw1, v8 _ (i1.1.w hb7), _, rfl, ?_⟩
    have g49 : mI (sI M1 67 w q v) 5 w 49 = Int32.ofNat np := i1.2.2.1
    rw [g49]
    have x2 : Ex w b M (sI (sI M1 67 w q v) 68 w q (Int32.ofNat np)) := (i1.1.w hb7).w hb8
    have ht1 : t1.length ≤ ts.length := by rw [(pNum_tail a1).1, List.length_tail]; omega
    refine c_picks (b := b) (np := np) (U := U) (line := line) R1.w.w hw1 g49 ⟨i1.2.2.2.1.1, i1.2.2.2.1.2⟩ (x2.2.1.trans hline) (fun f a c => (x2.1.2.2 f a c).trans (hl f a c)) (by omega) hb9 (by rw [(x2.1.1.1 69 rfl).2, l69]; exact hq) (by rw [(x2.1.1.1 69 rfl).2, l69]; exact hq2) i1.2.2.2.2.2.2 (fun A3 ls t3 M3 a3 p3 R3 x3 f49 f69 u3 f53 f67 f68 hcnt hf => ?_) (fun A' e M' a3 p3 th x3 => hX A' e M' (by rw [hpo, a1]; dsimp only; rw [a3]) (p1.trans p3) th (x2.trans x3))
    refine hQ A3 (v, 0, ls, [], [], [], (0, [])) t3 M3 (by rw [hpo, a1]; dsimp only; rw [a3]) (p1.trans p3) R3 (x2.trans x3) ?_ ?_ ?_ ?_ (fun q' => absurd q' nM) (fun _ => rfl) ?_ hf
    · refine ⟨?_, fun z => absurd c4 z⟩
      unfold cOp0
      rw [if_neg nN, if_neg nM, if_pos c4]
      refine ⟨f67.trans ?_, f68.trans ?_, f69⟩
      · rw [mI_sI, if_neg (fun q' => absurd q'.1 (by decide)), mI_sI, if_pos ⟨rfl, rfl, rfl⟩]
      · rw [mI_sI, if_pos ⟨rfl, rfl, rfl⟩]
    · unfold newU; rw [if_neg c3, if_pos c4]; exact u3
    · rw [if_neg nM]; exact f53.trans i1.2.1
    · rw [if_pos c4]; exact f49
    · rw [if_pos c4]; show 2 * ls.length ≤ ts.length; omega
  refine itn (ne_oN (b := 40) c4 (by omega) (by omega)) ?_
  have nJ : ¬ isJ o := c3
  have j268 : isN o → w_Reader_operands_j268 0 (fun M' => Fr F_Reader_operands M M' → Q M') X (Int32.ofNat q) M0 := fun c => by
    unfold w_Reader_operands_j268
    have c' : o = 41 ∨ o = 54 ∨ o = 55 := c
    have nM := (show ¬ ((46 ≤ o ∧ o ≤ 49) ∨ (50 ≤ o ∧ o ≤ 53)) by omega)
    have hpo : pOpr o ts = (match pCls ts with
        | .inl e => .inl e
        | .inr (k, t1) => .inr ((0, 0, [], k, [], [], (0, [])), t1)) := by
      unfold pOpr; rw [if_neg c1, if_neg (by omega), if_neg (by omega), if_neg c3, if_neg c4, if_pos c]; rfl
    refine ⟨w, hw0, ?_⟩
    refine k_className (hI 0 0 0) R0 ⟨x0, e53, e49, u0, a0, b0, c0⟩ (fun A1 k t1 M1 a1 p1 hk R1 i1 => ⟨v7 M1 i1.1, fun hf => ?_⟩) (fun A' e M' a1 p1 th iv => hX A' e M' (by rw [hpo, a1]) p1 th iv.1)
    rw [tq] at hf ⊢
    refine fin A1 (0, 0, [], k, [], [], (0, [])) t1 _ (by rw [hpo, a1]) p1 R1.w (i1.1.w hb7) i1.2.1 i1.2.2.1 ⟨i1.2.2.2.1.1, i1.2.2.2.1.2⟩ nJ c4 nM rfl ?_ hf
    refine ⟨?_, fun _ => i1.2.2.2.2.2.2⟩
    unfold cOp0
    rw [if_pos c, mI_sI, if_pos ⟨rfl, rfl, rfl⟩]
    exact ⟨(nc_pre p1 hk).symm, p1.subset hk⟩
  by_cases c41 : o = 41
  · exact itp (by rw [c41]; rfl) (j268 (Or.inl c41))
  refine itn (ne_oN (b := 41) c41 (by omega) (by omega)) ?_
  by_cases c54 : o = 54
  · exact itp (by rw [c54]; rfl) (j268 (Or.inr (Or.inl c54)))
  refine itn (ne_oN (b := 54) c54 (by omega) (by omega)) ?_
  by_cases c55 : o = 55
  · exact itp (by rw [c55]; rfl) (j268 (Or.inr (Or.inr c55)))
  refine itn (ne_oN (b := 55) c55 (by omega) (by omega)) (c_isInN (lo := 46) (hi := 49) (by omega) (by omega) (by omega) ?_)
  have nN := (show ¬ (o = 41 ∨ o = 54 ∨ o = 55) by omega)
  have lo0 := x0.1.1
  -- members
  have mem : ∀ meth : Bool, (isFo o ∨ isMo o) → (∀ k m ks κ t', pMember meth ts = .inr ((k, m, ks, κ), t') → pOpr o ts = .inr ((0, 0, [], k, m, ks, κ), t')) → (∀ e, pMember meth ts = .inl e → pOpr o ts = .inl e) → w_Reader_member 0 (Int32.ofNat q) (b2 meth) (fun M' => Fr F_Reader_operands M M' → Q M') X M0 := fun meth cm hp1 hp2 => by
    refine c_member (b := b) R0 hw0 (x0.1.2.1.2.1.trans hst) e53 ((lo0.2.2.2 0).trans hl0) hb76 hb212 hb7 (by rw [(lo0.1 67 rfl).2]; exact hq) (by rw [(lo0.1 67 rfl).2]; exact hq2) (by rw [(lo0.1 76 rfl).2]; exact h76) (by rw [(lo0.1 76 rfl).2]; exact h76') (by rw [lo0.2.2.2]; exact h212) (by rw [lo0.2.2.2]; exact h212') (fun A1 k m ks κ t1 M1 a1 p1 R1 x1 f53 cr l18 hlen f67 hf1 hf => ?_) (fun A' e M' a1 p1 th x1 => hX A' e M' (hp2 e a1) p1 th (x0.trans x1))
    refine hQ A1 (0, 0, [], k, m, ks, κ) t1 M1 (hp1 _ _ _ _ _ a1) p1 R1 (x0.trans x1) ?_ ?_ ?_ ?_ (fun _ => ⟨l18, hlen⟩) (fun q' => absurd cm q') ?_ hf
    · refine ⟨?_, fun _ => (hf1.Ia (f := 69) rfl rfl w q).trans c0⟩
      unfold cOp0
      rw [if_neg nN, if_pos cm, if_pos cm]
      exact ⟨nr, by omega, ⟨f67, h4⟩, cr⟩
    · unfold newU; rw [if_neg nJ, if_neg c4, List.append_nil]; exact (u0.fr hf1).pre p1
    · rw [if_pos cm]; exact f53
    · rw [if_neg c4]; exact (hf1.I (f := 5) (k := 49) rfl w).trans e49
    · rw [if_neg c4]; exact Nat.zero_le _
  by_cases c46 : 46 ≤ o ∧ o ≤ 49
  · rw [decide_eq_true c46]
    refine itn (by decide) (mem false (Or.inl c46) (fun k m ks κ t' h => ?_) (fun e h => ?_))
    · unfold pOpr; rw [if_neg c1, if_neg (by omega), if_neg (by omega), if_neg c3, if_neg c4, if_neg nN, if_pos c46, h]
    · unfold pOpr; rw [if_neg c1, if_neg (by omega), if_neg (by omega), if_neg c3, if_neg c4, if_neg nN, if_pos c46, h]
  rw [decide_eq_false c46]
  refine itp (by decide) (c_isInN (lo := 50) (hi := 53) (by omega) (by omega) (by omega) ?_)
  by_cases c50 : 50 ≤ o ∧ o ≤ 53
  · rw [decide_eq_true c50]
    refine itn (by decide) (mem true (Or.inr c50) (fun k m ks κ t' h => ?_) (fun e h => ?_))
    · unfold pOpr; rw [if_neg c1, if_neg (by omega), if_neg (by omega), if_neg c3, if_neg c4, if_neg nN, if_neg c46, if_pos c50, h]
    · unfold pOpr; rw [if_neg c1, if_neg (by omega), if_neg (by omega), if_neg c3, if_neg c4, if_neg nN, if_neg c46, if_pos c50, h]
  rw [decide_eq_false c50]
  refine itp (by decide) (fun hf => ?_)
  have nM : ¬ (isFo o ∨ isMo o) := fun q' => q'.elim c46 c50
  refine fin A noO ts M0 (by unfold pOpr; rw [if_neg c1, if_neg (by omega), if_neg (by omega), if_neg c3, if_neg c4, if_neg nN, if_neg c46, if_neg c50]) (List.prefix_refl _) R0 x0 e53 e49 u0 nJ c4 nM rfl ?_ hf
  refine ⟨?_, fun _ => c0⟩
  unfold cOp0
  rw [if_neg nN, if_neg nM, if_neg c4, if_neg nJ]
  exact ⟨a0, b0⟩
