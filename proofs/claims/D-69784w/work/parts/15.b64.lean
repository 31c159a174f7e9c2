theorem c_bodyLine {B : List Nm} {r n : Nat} {p : Nat → Int32} {to : Nat} {A : List Nm} {l : List Tok} {w m q0 np0 nh0 nq nk np nh nr nu L : Nat} {W : List Cls} {P : PM} {Q : Int32 → Mem → Prop} {X : Mem → Prop} {M : Mem} (hR : RS B r n p to A l M) (h1 : 1 ≤ (hd l).1) (hline : mI M 3 0 2 = Int32.ofNat (hd l).2.2.2) (hw : mR M 3 0 1 = some (5, w)) (hst : mI M 3 0 17 = 0) (hl : ∀ f, 23 ≤ f → f ≤ 29 → mL M f 0 = 3100) (hl0 : mL M 211 0 = 3100) (hm : mI M 3 0 4 = Int32.ofNat m) (hm4 : m < 1000) (lm : m < mL M 62 w ∧ m < mL M 63 w ∧ m < mL M 65 w)
    (hP : cPM A w m q0 np0 nh0 nq nk np nh nr nu P M) (r1 : nq < L) (hLs : ∀ f, 66 ≤ f → f ≤ 72 → mL M f w = L) (hL2 : L < 1000000) (r2 : 2 * nk + l.length ≤ 2 * mL M 73 w) (r2' : mL M 73 w < 100000) (r4n : 4 ≤ nr) (r3 : 4 * nr + 4 ≤ mL M 76 w) (r3' : mL M 76 w < 1000000) (r4 : 6 * nr + 6 ≤ mL M 211 (2 * w + 2)) (r4' : mL M 211 (2 * w + 2) < 1000000) (r5 : P.2.2.1.length < 8 → 4 * nh + 4 ≤ mL M 75 w) (r5' : mL M 75 w < 1000000) (r6 : nu + l.length + 3 ≤ 3100)
    (h0 : ∀ A' M', kCond l = true → A <+: A' → RS B r n p to A' l M' → cPM A' w m q0 np0 nh0 nq nk np nh nr nu P M' → Ex w (bQ m nq nk nh nr) M M' → Q 0 M')
    (hQ : ∀ A' P' nq' nk' np' nh' nr' t' M', kCond l = false → kRest W P l = .inr (3, W, P') → A <+: A' → RS B r n p to A' t' M' → cPM A' w m q0 np0 nh0 nq' nk' np' nh' nr' (nu + l.length + 2) P' M' → Ex w (bQ m nq nk nh nr) M M' → grw l.length nq nk np nh nr nq' nk' np' nh' nr' → Q 1 M')
    (hX : ∀ A' e M', kCond l = false → kRest W P l = .inl e → A <+: A' → Thr B A' e M' → Ex w (bQ m nq nk nh nr) M M' → X M') : w_Reader_bodyLine 0 Q X M := by
  have hlen := hR.len
  have hpl : (hd l).2.2.2 ≤ 100000 := by have := hR.hd.2.1.1; omega
  have gr0 : grw l.length nq nk np nh nr nq nk np nh nr := ⟨⟨by omega, by omega⟩, ⟨by omega, by omega⟩, ⟨by omega, by omega⟩, ⟨by omega, by omega⟩, by omega, by omega, fun q => by omega⟩
  have b63 : bQ m nq nk nh nr 63 = m := rfl
  have b65 : bQ m nq nk nh nr 65 = m := rfl
  have b73 : bQ m nq nk nh nr 73 = nk := rfl
  have b75 : bQ m nq nk nh nr 75 = 4 * nh := rfl
  have b76 : bQ m nq nk nh nr 76 = 4 * nr := rfl
  have b212 : bQ m nq nk nh nr 212 = 6 * nr := rfl
  -- an instruction behind labels
  have ins : ∀ (acc : List Nm) A2 t M2, A <+: A2 → RS B r n p to A2 t M2 → Ex w (bQ m nq nk nh nr) M M2 → cPM A2 w m q0 np0 nh0 nq nk np nh nr (nu + acc.length) (P.1, P.2.1, P.2.2.1, P.2.2.2.1 ++ acc.map (fun nm => (nm, P.2.1.length, (hd l).2.2.2)), P.2.2.2.2) M2 → acc.length + t.length ≤ l.length → pLabels (l.length + 1) [] l = (acc, t) → ¬ (acc ≠ [] ∧ (hd t).1 = 0) → kCond l = false → kRest W P l = iLine W P l → w_Reader_bodyLine_j261 0 Q X M2 := by
    intro acc A2 t M2 p2 R2 x2 c2 hcnt hlab hne hkc hkr
    obtain ⟨⟨⟨a1, a2, a3, a4, a5⟩, ⟨b1, b2', b3⟩⟩, ⟨c1, c2', c3, c4, c5, c6⟩, ⟨d1, d2⟩, ⟨e1, e2⟩, ⟨E, f1, f2, f3⟩, g1, g2⟩ := c2
    have lo2 := x2.1.1
    have htp := List.length_pos_iff.mpr R2.hd.2.2
    have hi : iLine W P l = (match pInstr t with
      | .inl e => .inl e
      | .inr ((o, x), _) => if P.2.1.length = 80 ∨ 6 < x.2.2.2.2.2.1.length then .inl (12, (hd l).2.2.2) else .inr (3, W, P.1, P.2.1 ++ [(o, x, P.2.2.2.2.map (fun f => (f.1, f.2.1)), (hd l).2.2.2)], P.2.2.1, P.2.2.2.1 ++ acc.map (fun nm => (nm, P.2.1.length, (hd l).2.2.2)), none)) := by
      unfold iLine; rw [hlab]; dsimp only; rw [if_neg hne]; rfl
    unfold w_Reader_bodyLine_j261
    have b1' : nq = q0 + P.2.1.length := b1
    refine c_instruction (b := bQ m nq nk nh nr) (L := L) (m := m) (q0 := q0) (cl := P.2.1.length) (nk := nk) (np := np) (nr := nr) (line := (hd l).2.2.2) (U := usE q0 np0 nh0 E) (fr := P.2.2.2.2) R2 (x2.1.2.1.1.trans hw) (x2.1.2.1.2.1.trans hst) a5 a3 f2 (x2.2.1.trans hline) (fun f a c => (x2.1.2.2 f a c).trans (hl f a c)) ((lo2.2.2.2 0).trans hl0) (by omega) (x2.2.2.2.trans hm) (by rw [(lo2.1 62 rfl).2]; exact lm.1) (by rw [(lo2.1 63 rfl).2]; exact lm.2.1) hm4 c1 c2' c3 (by rw [← b1']; exact a1) (by omega) (fun f a c => ?_) hL2 (fun f a c => by rw [bQ66 ⟨a, c⟩]; omega) (by rw [b63]; exact Nat.le_refl _) (by rw [b76]; exact Nat.le_refl _) (by rw [b212]; exact Nat.le_refl _) r4n (by rw [(lo2.1 76 rfl).2]; exact r3) (by rw [(lo2.1 76 rfl).2]; exact r3') (by rw [lo2.2.2.2]; exact r4) (by rw [lo2.2.2.2]; exact r4') g1 (fun A3 o x t3 M3 a hoi nb p3 R3 x3 k66 kop kfm kus k53 k49 k39 k63 k14 kcnt hf => ?_) (fun A3 e M3 a p3 th x3 => ?_)
    · have : wFm f = true := by
        unfold wFm
        rw [Bool.or_eq_true, Bool.and_eq_true]
        exact Or.inl ⟨Nat.ble_eq.mpr (by omega), Nat.ble_eq.mpr (by omega)⟩
      rw [(lo2.1 f this).2]; exact hLs f a c
    · have hlb : lbOk o x.2.2.1 := by
        unfold pInstr at a
        by_cases co : opOf t < 62
        · rw [if_pos co] at a
          split at a
          · cases a
          · rename_i q
            by_cases c0 : (hd t3).1 = 0
            · split at a
              · cases a; exact pOpr_lb q
              · cases a
            · split at a
              · cases a; exact pOpr_lb q
              · cases a
        · rw [if_neg co] at a; cases a
      have lo3 := x3.1.1
      have hnl : x.2.2.1.length ≤ t.length := by
        by_cases cj : isJ o
        · rw [hlb.1 cj]; omega
        · by_cases c40 : o = 40
          · rw [if_pos c40] at kcnt; omega
          · rw [hlb.2 cj c40]; simp
      have hnU := newU_len (o := o) (q := q0 + P.2.1.length) (pf := np) (line := (hd l).2.2.2) (ls := x.2.2.1)
      have hpk : np + (if o = 40 then x.2.2.1.length else 0) = np0 + pkS (P.2.1 ++ [(o, x, P.2.2.2.2.map (fun f => (f.1, f.2.1)), (hd l).2.2.2)]) := by
        rw [pkS_app, b2', Nat.add_assoc]; rfl
      have hrd : (if isFo o ∨ isMo o then 1 else 0) ≤ 1 := by split <;> omega
      refine hQ A3 (P.1, P.2.1 ++ [(o, x, P.2.2.2.2.map (fun f => (f.1, f.2.1)), (hd l).2.2.2)], P.2.2.1, P.2.2.2.1 ++ acc.map (fun nm => (nm, P.2.1.length, (hd l).2.2.2)), none) (nq + 1) nk (np + if o = 40 then x.2.2.1.length else 0) nh (nr + if isFo o ∨ isMo o then 1 else 0) t3 M3 hkc (by rw [hkr, hi, a]; dsimp only; rw [if_neg nb]) (p2.trans p3) R3 ?_ (x2.trans x3) ⟨⟨by omega, by omega⟩, ⟨by omega, by omega⟩, ⟨by omega, ?_⟩, ⟨by omega, by omega⟩, by omega, by omega, fun q => ?_⟩
      · refine ⟨⟨⟨by rw [b1']; exact k39, (hf.I (f := 5) (k := 47) rfl w).trans a2, k49, (hf.I (f := 5) (k := 51) rfl w).trans a4, k53⟩, ⟨?_, hpk, b3⟩⟩, ⟨(hf.Ia (f := 62) rfl rfl w m).trans c1, ?_, ?_, (hf.Ia (f := 64) rfl rfl w m).trans c4, (hf.Ia (f := 65) rfl rfl w m).trans c5, c6⟩, ⟨?_, (d2.lo lo3 (by rw [b3]; exact Nat.le_refl _)).pre p3⟩, ⟨(e1.fr hf).pre p3, ?_⟩, ⟨E ++ [.inl (o, x, P.2.2.2.2.map (fun f => (f.1, f.2.1)), (hd l).2.2.2)], ⟨?_, ?_⟩, ?_, ?_⟩, k14, fun f q => by cases q⟩
        · show nq + 1 = q0 + (P.2.1 ++ _).length
          rw [List.length_append, List.length_singleton]; omega
        · show mI M3 63 w m = Int32.ofNat (P.2.1 ++ _).length
          rw [List.length_append, List.length_singleton]; exact k63
        · show (P.2.1 ++ _).length ≤ 80
          rw [List.length_append, List.length_singleton]; omega
        · refine cCd.add (((d1.lo lo3 (by rw [b1']; exact Nat.le_refl _)).pre p3).mono (Nat.le_refl _) (by omega)) ⟨⟨k66, hoi⟩, ?_, kfm, Nat.le_of_not_lt (fun q => nb (Or.inr q)), hlb, hpl⟩
          have : np = np0 + pkS P.2.1 := b2'
          rw [← this]; exact kop
        · have e2' : (P.2.2.2.1 ++ acc.map (fun nm => (nm, P.2.1.length, (hd l).2.2.2))).length ≤ nu + acc.length := e2
          show (P.2.2.2.1 ++ acc.map (fun nm => (nm, P.2.1.length, (hd l).2.2.2))).length ≤ nu + l.length + 2
          omega
        · rw [lfE_app, f1.1]; rfl
        · rw [rgE_app, f1.2]; exact List.append_nil _
        · rw [usE_app, f1.1]
          have : usE (q0 + P.2.1.length) (np0 + pkS P.2.1) (nh0 + (rgE E).length) [.inl (o, x, P.2.2.2.2.map (fun f => (f.1, f.2.1)), (hd l).2.2.2)] = newU o (q0 + P.2.1.length) np (hd l).2.2.2 x.2.2.1 := by
            show newU o (q0 + P.2.1.length) (np0 + pkS P.2.1) (hd l).2.2.2 x.2.2.1 ++ [] = _
            have e : np = np0 + pkS P.2.1 := b2'
            rw [List.append_nil, ← e]
          rw [show (P.1, P.2.1, P.2.2.1, P.2.2.2.1 ++ acc.map (fun nm => (nm, P.2.1.length, (hd l).2.2.2)), P.2.2.2.2).2.1 = P.2.1 from rfl, this]
          exact kus
        · rw [usE_app, f1.1, List.length_append]
          have : usE (q0 + P.2.1.length) (np0 + pkS P.2.1) (nh0 + (rgE E).length) [.inl (o, x, P.2.2.2.2.map (fun f => (f.1, f.2.1)), (hd l).2.2.2)] = newU o (q0 + P.2.1.length) np (hd l).2.2.2 x.2.2.1 := by
            show newU o (q0 + P.2.1.length) (np0 + pkS P.2.1) (hd l).2.2.2 x.2.2.1 ++ [] = _
            have e : np = np0 + pkS P.2.1 := b2'
            rw [List.append_nil, ← e]
          rw [show (P.1, P.2.1, P.2.2.1, P.2.2.2.1 ++ acc.map (fun nm => (nm, P.2.1.length, (hd l).2.2.2)), P.2.2.2.2).2.1 = P.2.1 from rfl, this]
          omega
      · by_cases c40 : o = 40
        · rw [if_pos c40] at kcnt ⊢; omega
        · rw [if_neg c40]; omega
      · by_cases tr : isFo o ∨ isMo o
        · have := pInstr_len a R3.hd.2.2 tr
          omega
        · rw [if_neg tr] at q; omega
    · refine hX A3 e M3 hkc ?_ (p2.trans p3) th (x2.trans x3)
      rw [hkr, hi]
      unfold sInstr at a
      revert a
      cases hpi : pInstr t with
      | inl e' => intro a; cases a; rfl
      | inr y =>
        obtain ⟨⟨o, x⟩, t3⟩ := y
        dsimp only
        intro a
        by_cases c : P.2.1.length = 80 ∨ 6 < x.2.2.2.2.2.1.length
        · rw [if_pos c] at a ⊢; cases a; rfl
        · rw [if_neg c] at a; cases a
  -- a line that is no instruction's, nor the next thing's
  have j158 : ∀ (acc : List Nm) A2 t M2, A <+: A2 → RS B r n p to A2 t M2 → Ex w (bQ m nq nk nh nr) M M2 → cPM A2 w m q0 np0 nh0 nq nk np nh nr (nu + acc.length) (P.1, P.2.1, P.2.2.1, P.2.2.2.1 ++ acc.map (fun nm => (nm, P.2.1.length, (hd l).2.2.2)), P.2.2.2.2) M2 → acc.length + t.length ≤ l.length → pLabels (l.length + 1) [] l = (acc, t) → (acc = [] ∧ t = l ∧ ((hd l).1 = 2 → (hd l.tail).1 ≠ 58) ∨ acc ≠ [] ∧ (hd l.tail).1 = 58) → w_Reader_bodyLine_j158 0 Q X (b2 (decide (acc ≠ []))) M2 := by
    intro acc A2 t M2 p2 R2 x2 c2 hcnt hlab hst'
    have far : (hd l.tail).1 = 58 → kCond l = false ∧ kRest W P l = iLine W P l := fun q => by
      unfold kCond kRest
      rw [decide_eq_false (p := (hd l.tail).1 ≠ 58) (fun z => z q), Bool.and_false, Bool.and_false, Bool.and_false]
      exact ⟨rfl, rfl⟩
    unfold w_Reader_bodyLine_j158
    refine ⟨R2.hd.1.isK, ?_⟩
    by_cases ce : (hd t).1 = 0
    · refine itp (R2.isE.mpr ce) ?_
      rcases hst' with ⟨-, q, -⟩ | ⟨q1, q2⟩
      · rw [q] at ce; omega
      · have hi : iLine W P l = .inr (3, W, P.1, P.2.1, P.2.2.1, P.2.2.2.1 ++ acc.map (fun nm => (nm, P.2.1.length, (hd l).2.2.2)), P.2.2.2.2) := by
          unfold iLine; rw [hlab]; dsimp only; rw [if_pos ⟨q1, ce⟩]
        refine hQ A2 _ nq nk np nh nr t M2 (far q2).1 ((far q2).2.trans hi) p2 R2 ?_ x2 gr0
        obtain ⟨u, v, z, ⟨e1, e2⟩, ⟨E, f1, f2, f3⟩, g⟩ := c2
        exact ⟨u, v, z, ⟨e1, by omega⟩, ⟨E, f1, f2, by omega⟩, g⟩
    refine itn (fun q => ce (R2.isE.mp q)) ?_
    rcases hst' with ⟨q1, q2, q3⟩ | ⟨q1, q2⟩
    · subst q1 q2
      refine itp rfl ?_
      have hc0 : cPM A2 w m q0 np0 nh0 nq nk np nh nr nu P M2 := by
        have e : P.2.2.2.1 ++ ([] : List Nm).map (fun nm => (nm, P.2.1.length, (hd t).2.2.2)) = P.2.2.2.1 := List.append_nil _
        rw [e] at c2
        exact c2
      have yes : ∀ {nm : Nm}, isWd nm t = true → (hd t.tail).1 ≠ 58 := fun q => q3 (of_decide_eq_true q).1
      refine c_isWd (v := 63) (nm := nField) R2 rfl ⟨by decide, by decide⟩ ?_
      cases w1 : isWd nField t with
      | true => exact itn (by decide) (h0 A2 M2 (by unfold kCond; rw [w1, decide_eq_true (yes w1)]; rfl) p2 R2 hc0 x2)
      | false =>
      refine itp (by decide) (c_isWd (v := 64) (nm := nMethod) R2 rfl ⟨by decide, by decide⟩ ?_)
      cases w2 : isWd nMethod t with
      | true => exact itn (by decide) (h0 A2 M2 (by unfold kCond; rw [w1, w2, decide_eq_true (yes w2)]; rfl) p2 R2 hc0 x2)
      | false =>
      refine itp (by decide) (c_isWd (v := 68) (nm := nEnd) R2 rfl ⟨by decide, by decide⟩ ?_)
      cases w3 : isWd nEnd t with
      | true => exact itn (by decide) (h0 A2 M2 (by unfold kCond; rw [w1, w2, w3, decide_eq_true (yes w3)]; rfl) p2 R2 hc0 x2)
      | false =>
      refine itp (by decide) ?_
      have hkc : kCond t = false := by unfold kCond; rw [w1, w2, w3]; rfl
      unfold w_Reader_bodyLine_j215
      refine itp rfl (c_isWd (v := 66) (nm := nFrame) R2 rfl ⟨by decide, by decide⟩ ?_)
      obtain ⟨⟨⟨a1, a2, a3, a4, a5⟩, ⟨b1, b2', b3⟩⟩, ⟨c1, c2', c3, c4, c5, c6⟩, ⟨d1, d2⟩, ⟨e1, e2⟩, ⟨E, f1, f2, f3⟩, g1, g2⟩ := id hc0
      have lo2 := x2.1.1
      cases w4 : isWd nFrame t with
      | true =>
        refine itn (by decide) ?_
        have hkr : kRest W P t = (if P.2.2.2.2.isSome then .inl (er t) else match pFrame t.tail with
            | .inl e => .inl e
            | .inr ((ls, ss), _) => .inr (3, W, P.1, P.2.1, P.2.2.1, P.2.2.2.1, some (ls, ss, (hd t).2.2.2))) := by
          unfold kRest; rw [w4, decide_eq_true (yes w4)]; rfl
        have hfr : mI M2 3 0 14 = b2 P.2.2.2.2.isSome := by
          revert g1
          cases P.2.2.2.2 with
          | none => intro g1; exact g1
          | some f => intro g1; exact g1.1
        refine mf_w_Reader_frame (Q := fun M' => Fr F_Reader_frame M2 M' → Q 1 M') (X := X) (fun _ hf hp => hp hf) (fun _ _ hp => hp) (c_frame (b := bQ m nq nk nh nr) R2 (by have := (of_decide_eq_true w4).1; omega) (x2.1.2.1.1.trans hw) hfr a2 (by rw [b73]; exact Nat.le_refl _) (by rw [(lo2.1 73 rfl).2]; exact r2) (by rw [(lo2.1 73 rfl).2]; exact r2') (fun A3 ls ss t3 M3 hns a p3 R3 x3 k47 kks k5 kcnt hf => ?_) (fun A3 e M3 a p3 th x3 => ?_))
        · have lo3 := x3.1.1
          refine hQ A3 (P.1, P.2.1, P.2.2.1, P.2.2.2.1, some (ls, ss, (hd t).2.2.2)) nq (nk + ls.length + ss.length) np nh nr t3 M3 hkc (by rw [hkr, hns, if_neg (by decide), a]) (p2.trans p3) R3 ?_ (x2.trans x3) ⟨⟨by omega, by omega⟩, ⟨by omega, by omega⟩, ⟨by omega, by omega⟩, ⟨by omega, by omega⟩, by omega, by omega, fun q => by omega⟩
          refine ⟨⟨⟨(hf.I (f := 5) (k := 39) rfl w).trans a1, k47, (hf.I (f := 5) (k := 49) rfl w).trans a3, (hf.I (f := 5) (k := 51) rfl w).trans a4, (hf.I (f := 5) (k := 53) rfl w).trans a5⟩, ⟨b1, b2', b3⟩⟩, ⟨(hf.Ia (f := 62) rfl rfl w m).trans c1, (hf.Ia (f := 63) rfl rfl w m).trans c2', c3, (hf.Ia (f := 64) rfl rfl w m).trans c4, (hf.Ia (f := 65) rfl rfl w m).trans c5, c6⟩, ⟨((d1.lo lo3 (by omega)).pre p3).mono (by omega) (Nat.le_refl _), (d2.lo lo3 (by omega)).pre p3⟩, ⟨(e1.fr hf).pre p3, ?_⟩, ⟨E, f1, (f2.fr hf).pre p3, by omega⟩, ⟨k5.1, k5.2.1.trans (x2.2.1.trans hline), nk, ?_, k5.2.2.1, k5.2.2.2.1, k5.2.2.2.2, kks⟩, fun f q => ?_⟩
          · show P.2.2.2.1.length ≤ _; omega
          · show nk + (ls.length + ss.length) ≤ _; omega
          · cases q; exact hpl
        · refine hX A3 e M3 hkc ?_ (p2.trans p3) th (x2.trans x3)
          rw [hkr]
          by_cases cs : P.2.2.2.2.isSome = true
          · rw [if_pos cs] at a ⊢; cases a; rfl
          · rw [if_neg cs] at a ⊢; rw [a]
      | false =>
      refine itp (by decide) ?_
      unfold w_Reader_bodyLine_j238
      refine itp rfl (c_isWd (v := 67) (nm := nHandler) R2 rfl ⟨by decide, by decide⟩ ?_)
      cases w5 : isWd nHandler t with
      | true =>
        refine itn (by decide) ?_
        have hkr : kRest W P t = (match pHandler t.tail with
            | .inl e => .inl e
            | .inr ((a, b, g, k), _) => if P.2.2.1.length = 8 then .inl (12, (hd t).2.2.2) else .inr (3, W, P.1, P.2.1, P.2.2.1 ++ [(a, b, g, k, (hd t).2.2.2)], P.2.2.2.1, P.2.2.2.2)) := by
          unfold kRest; rw [w4, w5, decide_eq_true (yes w5)]; rfl
        refine c_handler (b := bQ m nq nk nh nr) (m := m) (hc := P.2.2.1.length) (nh := nh) (line := (hd t).2.2.2) (U := usE q0 np0 nh0 E) R2 (by have := (of_decide_eq_true w5).1; omega) (x2.1.2.1.1.trans hw) f2 (x2.2.1.trans hline) (fun f a c => (x2.1.2.2 f a c).trans (hl f a c)) (by omega) (x2.2.2.2.trans hm) (by rw [(lo2.1 65 rfl).2]; exact lm.2.2) hm4 c5 c6 a4 (fun q => by rw [(lo2.1 75 rfl).2]; exact r5 q) (by rw [(lo2.1 75 rfl).2]; exact r5') (by rw [b65]; exact Nat.le_refl _) (by rw [b75]; exact Nat.le_refl _) (fun A3 a' b' g' k t3 M3 a n8 p3 R3 x3 kus k75 k51 k65 hf => ?_) (fun A3 e M3 a p3 th x3 => ?_)
        · have lo3 := x3.1.1
          have hlh : ∀ x : PH, (P.2.2.1 ++ [x]).length = P.2.2.1.length + 1 := fun x => by simp
          refine hQ A3 (P.1, P.2.1, P.2.2.1 ++ [(a', b', g', k, (hd t).2.2.2)], P.2.2.2.1, P.2.2.2.2) nq nk np (nh + 1) nr t3 M3 hkc (by rw [hkr, a]; dsimp only; rw [if_neg n8]) (p2.trans p3) R3 ?_ (x2.trans x3) ⟨⟨by omega, by omega⟩, ⟨by omega, by omega⟩, ⟨by omega, by omega⟩, ⟨by omega, by omega⟩, by omega, by omega, fun q => by omega⟩
          refine ⟨⟨⟨(hf.I (f := 5) (k := 39) rfl w).trans a1, (hf.I (f := 5) (k := 47) rfl w).trans a2, (hf.I (f := 5) (k := 49) rfl w).trans a3, k51, (hf.I (f := 5) (k := 53) rfl w).trans a5⟩, ⟨b1, b2', ?_⟩⟩, ⟨(hf.Ia (f := 62) rfl rfl w m).trans c1, (hf.Ia (f := 63) rfl rfl w m).trans c2', c3, (hf.Ia (f := 64) rfl rfl w m).trans c4, ?_, ?_⟩, ⟨(d1.lo lo3 (by omega)).pre p3, ((d2.lo lo3 (by omega)).pre p3).add ?_ hpl⟩, ⟨(e1.fr hf).pre p3, ?_⟩, ⟨E ++ [.inr (a', b', g', k, (hd t).2.2.2)], ⟨?_, ?_⟩, ?_, ?_⟩, (g1.fr hf).pre p3, g2⟩
          · show nh + 1 = nh0 + (P.2.2.1 ++ [_]).length; rw [hlh]; omega
          · show mI M3 65 w m = Int32.ofNat (P.2.2.1 ++ [_]).length; rw [hlh]; exact k65
          · show (P.2.2.1 ++ [_]).length ≤ 8; rw [hlh]; omega
          · rw [← b3]; exact k75
          · show P.2.2.2.1.length ≤ _; omega
          · rw [lfE_app, f1.1]; exact List.append_nil _
          · rw [rgE_app, f1.2]; rfl
          · rw [usE_app, f1.2, ← b3]; exact kus
          · rw [usE_app, List.length_append]
            have : (usE (q0 + (lfE E).length) (np0 + pkS (lfE E)) (nh0 + (rgE E).length) [.inr (a', b', g', k, (hd t).2.2.2)]).length = 3 := rfl
            have htp := List.length_pos_iff.mpr R2.hd.2.2
            omega
        · refine hX A3 e M3 hkc ?_ (p2.trans p3) th (x2.trans x3)
          rw [hkr]
          unfold sHandler at a
          revert a
          cases hpi : pHandler t.tail with
          | inl e' => intro a; cases a; rfl
          | inr y =>
            obtain ⟨⟨a', b', g', k⟩, t3⟩ := y
            dsimp only
            intro a
            by_cases c : P.2.2.1.length = 8
            · rw [if_pos c] at a ⊢; cases a; rfl
            · rw [if_neg c] at a; cases a
      | false =>
      refine itp (by decide) ?_
      have hkr : kRest W P t = iLine W P t := by unfold kRest; rw [w4, w5]; rfl
      exact ins [] A2 t M2 p2 R2 x2 c2 hcnt hlab (fun q => q.1 rfl) hkc hkr
    · rw [decide_eq_true q1]
      refine itn (by decide) ?_
      unfold w_Reader_bodyLine_j215
      refine itn (by decide) ?_
      unfold w_Reader_bodyLine_j238
      exact itn (by decide) (ins acc A2 t M2 p2 R2 x2 c2 hcnt hlab (fun q => ce q.2) (far q2).1 (far q2).2)
  have main : ∀ d (acc : List Nm) A1 t M1, t.length < d → A <+: A1 → RS B r n p to A1 t M1 → Ex w (bQ m nq nk nh nr) M M1 → cPM A1 w m q0 np0 nh0 nq nk np nh nr (nu + acc.length) (P.1, P.2.1, P.2.2.1, P.2.2.2.1 ++ acc.map (fun nm => (nm, P.2.1.length, (hd l).2.2.2)), P.2.2.2.2) M1 → acc.length + t.length ≤ l.length → (acc = [] ∧ t = l ∨ acc ≠ [] ∧ (hd l.tail).1 = 58) → pLabels (l.length + 1) [] l = pLabels d acc t → w_Reader_bodyLine_L2 0 Q X d (b2 (decide (acc ≠ []))) M1 := by
    intro d
    induction d with
    | zero => intro acc A1 t M1 h; omega
    | succ d ih =>
      intro acc A1 t M1 hlt p1 R1 x1 c1 hcnt hst' hp
      have exit' : ¬ ((hd t).1 = 2 ∧ (hd t.tail).1 = 58) → ∀ A2 M2, A1 <+: A2 → RS B r n p to A2 t M2 → Ex w (bQ m nq nk nh nr) M M2 → cPM A2 w m q0 np0 nh0 nq nk np nh nr (nu + acc.length) (P.1, P.2.1, P.2.2.1, P.2.2.2.1 ++ acc.map (fun nm => (nm, P.2.1.length, (hd l).2.2.2)), P.2.2.2.2) M2 → w_Reader_bodyLine_j158 0 Q X (b2 (decide (acc ≠ []))) M2 := fun hne A2 M2 p2 R2 x2 c2 =>
        j158 acc A2 t M2 (p1.trans p2) R2 x2 c2 hcnt (hp.trans (by unfold pLabels; rw [if_neg hne])) (hst'.imp (fun q => ⟨q.1, q.2, fun a b => hne (by rw [q.2]; exact ⟨a, b⟩)⟩) id)
      have hI : PW (fun A' M' => Ex w (bQ m nq nk nh nr) M M' ∧ cPM A' w m q0 np0 nh0 nq nk np nh nr (nu + acc.length) (P.1, P.2.1, P.2.2.1, P.2.2.2.1 ++ acc.map (fun nm => (nm, P.2.1.length, (hd l).2.2.2)), P.2.2.2.2) M') := fun A A' M1 M2 h hp _ hk => ⟨h.1.wk hk, h.2.wk hk hp⟩
      have hms := R1.1.2.1.ms
      have hAl := R1.1.len
      have e79 := nc_at R1.1.1 hms.1
      have e80 := nc_at R1.1.1 hms.2
      unfold w_Reader_bodyLine_L2
      refine ⟨R1.hd.1.isK, ?_⟩
      by_cases c2 : (hd t).1 = 2
      · refine itp (R1.isN.mpr (Or.inl c2)) ?_
        obtain ⟨k1, k2, k3⟩ := R1.hd.1.name (Or.inl c2)
        obtain ⟨-, -, m1, m2⟩ := R1.hd.2.1.2.2.1 c2
        rw [k2]
        refine itn (fun q => m1 ((nc_inj (by omega) k3 (List.mem_of_getElem? hms.1)).mp (q.trans e79.symm))) (itn (fun q => m2 ((nc_inj (by omega) k3 (List.mem_of_getElem? hms.2)).mp (q.trans e80.symm))) ?_)
        refine k_next hI R1 ⟨x1, c1⟩ (by omega) (fun A2 M2 p2 R2 i2 => ?_)
        refine c_isSign R2.hd.1 (b := 58) (by omega) (by omega) (by have := R2.hd.2.1.2.1; omega) ?_
        by_cases c58 : (hd t.tail).1 = 58
        · rw [decide_eq_true c58]
          refine itn (by decide) ?_
          refine k_next hI R2 i2 (by omega) (fun A3 M3 p3 R3 i3 => ?_)
          obtain ⟨x3, c3⟩ := i3
          obtain ⟨⟨⟨a1, a2, a3, a4, a5⟩, ⟨b1, b2', b3⟩⟩, ⟨g1, g2, g3, g4, g5, g6⟩, ⟨d1, d2⟩, ⟨e1, e2⟩, ⟨E, f1, f2, f3⟩, h1', h2'⟩ := c3
          have hw3 : mR M3 3 0 1 = some (5, w) := x3.1.2.1.1.trans hw
          have e4 : mI M3 3 0 4 = Int32.ofNat m := x3.2.2.2.trans hm
          have eln : mI M3 3 0 2 = Int32.ofNat (hd l).2.2.2 := x3.2.1.trans hline
          have tm : (Int32.ofNat m).toNatClampNeg = m := oN_tnc (by omega)
          have e5 := e1.1
          generalize hLS : P.2.2.2.1 ++ acc.map (fun nm => (nm, P.2.1.length, (hd l).2.2.2)) = LS at e1 e2 e5
          have e2' : LS.length ≤ nu + acc.length := e2
          have e5' : mI M3 3 0 5 = Int32.ofNat LS.length := e5
          have hkp := hd_tl (ts := t) (by omega)
          have hkp2 := hd_tl (ts := t.tail) (by omega)
          have hLS2 : LS.length < 3100 := by omega
          have tk : (Int32.ofNat LS.length).toNatClampNeg = LS.length := oN_tnc (by omega)
          have vk : ∀ f, 23 ≤ f → f ≤ 29 → vp_in (Int32.ofNat LS.length) (mL M3 f 0) := fun f a c => by rw [(x3.1.2.2 f a c).trans (hl f a c)]; exact (vp_oN (by omega)).mpr hLS2
          have v63 : vp_in (Int32.ofNat m) (mL M3 63 w) := by rw [(x3.1.1.1 63 rfl).2]; exact (vp_oN (by omega)).mpr lm.2.1
          have g2' : mI M3 63 w m = Int32.ofNat P.2.1.length := g2
          have g3' : P.2.1.length ≤ 80 := g3
          rw [e5', tk]
          refine ⟨vk 23 (by omega) (by omega), w, hw3, ?_⟩
          simp only [mI_sI, Nat.reduceEqDiff, false_and, if_false, e5', e4, tm, tk, g2', mL_sI]
          refine ⟨v63, vk 24 (by omega) (by omega), _, rfl, ?_⟩
          simp only [mI_sI, Nat.reduceEqDiff, false_and, if_false, e5', tk, mL_sI, eln]
          refine ⟨vk 25 (by omega) (by omega), _, rfl, ?_⟩
          rw [show Int32.ofNat LS.length + (1 : Int32) = Int32.ofNat (LS.length + 1) by rw [lit32 1, oN_add], ← nc_pre (p2.trans p3) k3]
          have hm3 : (hd t).2.1 ∈ A3 := (p2.trans p3).subset k3
          have hb : b2 (decide (acc ++ [(hd t).2.1] ≠ [])) = 1 := by rw [decide_eq_true (by simp)]; rfl
          have hla : (acc ++ [(hd t).2.1]).length = acc.length + 1 := by simp
          have hmap : P.2.2.2.1 ++ (acc ++ [(hd t).2.1]).map (fun nm => (nm, P.2.1.length, (hd l).2.2.2)) = LS ++ [((hd t).2.1, P.2.1.length, (hd l).2.2.2)] := by
            rw [← hLS, List.map_append, List.append_assoc]; rfl
          have xf : Ex w (bQ m nq nk nh nr) M (sI (sI (sI (sI M3 23 0 LS.length (nc A3 (hd t).2.1)) 24 0 LS.length (Int32.ofNat P.2.1.length)) 25 0 LS.length (Int32.ofNat (hd l).2.2.2)) 3 0 5 (Int32.ofNat (LS.length + 1))) := x3.wo.wo.wo.w3
          have lo : Lo w (bQ m nq nk nh nr) M3 (sI (sI (sI (sI M3 23 0 LS.length (nc A3 (hd t).2.1)) 24 0 LS.length (Int32.ofNat P.2.1.length)) 25 0 LS.length (Int32.ofNat (hd l).2.2.2)) 3 0 5 (Int32.ofNat (LS.length + 1))) := (Lo.rf w _ M3).wo.wo.wo.wo
          have := ih (acc ++ [(hd t).2.1]) A3 t.tail.tail _ (by omega) ((p1.trans p2).trans p3) R3.w.w.w.w xf ?_ (by rw [hla]; omega) (Or.inr ⟨by simp, ?_⟩) (hp.trans ?_)
          · rw [hb] at this; exact this
          · rw [hmap, hla]
            refine ⟨⟨⟨a1, a2, a3, a4, a5⟩, ⟨b1, b2', b3⟩⟩, ⟨g1, g2, g3, g4, g5, g6⟩, ⟨d1.lo lo (by rw [b1]; exact Nat.le_refl _), d2.lo lo (by rw [b3]; exact Nat.le_refl _)⟩, ⟨e1.add hm3 g3' hpl ?_ ?_ ?_ ?_, ?_⟩, ⟨E, f1, ⟨f2.1, f2.2⟩, by omega⟩, cPf.of h1' (fun k a c => by rw [mI_sI, if_neg (fun q => by omega)]; rfl) (fun k => rfl), h2'⟩
            · rw [mI_sI, if_pos ⟨rfl, rfl, rfl⟩]
            · intro k; simp [mI_sI]
            · intro k; simp [mI_sI]
            · intro k; simp [mI_sI]
            · show (LS ++ [_]).length ≤ _
              rw [List.length_append, List.length_singleton]; omega
          · rcases hst' with ⟨q1, q2⟩ | ⟨q1, q2⟩
            · rw [← q2]; exact c58
            · exact q2
          · conv => lhs; unfold pLabels
            rw [if_pos ⟨c2, c58⟩]
        · rw [decide_eq_false c58]
          refine itp (by decide) ?_
          refine mf_w_Words_next (Q := fun M' => ∃ A', A2 <+: A' ∧ RS B r n p to A' t M') (fun M' hf hp' => ?_) (R1.again (by show 1 < (hd t).1; omega) R2 (fun A' M' a b => ⟨A', a, b⟩))
          obtain ⟨A', pa, Ra⟩ := hp'
          have wk : Wk M2 M' := Wk.trans ⟨Fr.wI rfl (Fr.rf _ _), fun i k h => by rw [mI_sI, if_neg (fun q => absurd q.1 (by decide))]⟩ (Wk.of hf)
          exact exit' (fun q => c58 q.2) A' M' (p2.trans pa) Ra (i2.1.wk wk) (i2.2.wk wk pa)
      · by_cases c3 : (hd t).1 = 3
        · refine itp (R1.isN.mpr (Or.inr c3)) ?_
          obtain ⟨k1, k2, k3⟩ := R1.hd.1.name (Or.inr c3)
          rw [k2]
          have ex := exit' (fun q => c2 q.1) A1 M1 (List.prefix_refl _) R1 x1 c1
          rcases R1.hd.2.1.2.2.2 c3 with e | e
          · rw [e, e79]; exact itp rfl ex
          · rw [e, e80]; exact itn (by decide) (itp rfl ex)
        · exact itn (fun q => (R1.isN.mp q).elim c2 c3) (exit' (fun q => c2 q.1) A1 M1 (List.prefix_refl _) R1 x1 c1)
  unfold w_Reader_bodyLine
  refine ⟨_, main (l.length + 1) [] A l M (by omega) (List.prefix_refl _) hR (Ex.rf w _ M) ?_ (by simp) (Or.inl ⟨rfl, rfl⟩) rfl⟩
  have e : P.2.2.2.1 ++ ([] : List Nm).map (fun nm => (nm, P.2.1.length, (hd l).2.2.2)) = P.2.2.2.1 := List.append_nil _
  rw [e]
  exact hP
