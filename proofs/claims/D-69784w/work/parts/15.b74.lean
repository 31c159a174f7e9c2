theorem runL_3 {br : Int32} {n : Nat} {W : List Cls} {P : PM} {l : List Tok} {ls : List (List Tok)} : runL br n (3, W, P) (l :: ls) = match kLine br W P l with
    | .inl e => .inl e
    | .inr st' => runL br n st' ls := rfl
theorem runL_1 {br : Int32} {n : Nat} {W : List Cls} {P : PM} {l : List Tok} {ls : List (List Tok)} : runL br n (1, W, P) (l :: ls) = match bLine br W l with
    | .inl e => .inl e
    | .inr st' => runL br n st' ls := rfl
/-- the lines of a method's code, to its end -/
theorem c_body {B : List Nm} {r n : Nat} {p : Nat → Int32} {W : List Cls} {w : Nat} {br : Int32} {q0 nk0 np0 nh0 nr0 : Nat} {b : Nat → Nat} {Q X : Mem → Prop} {M0 : Mem} (h22 : 22 ≤ W.length) (hm12 : (gc W (W.length - 1)).2.2.2.2.2.length < 12) (hnh0 : nh0 ≤ 8 * ((allM W).length - 21)) (hbb : q0 ≤ 100000 ∧ nk0 ≤ 100000 ∧ np0 ≤ 100000 ∧ nh0 ≤ 100000 ∧ nr0 ≤ 100000) (hb : ∀ f, b f ≤ bQ (allM W).length q0 nk0 nh0 nr0 f) (hb74 : b 74 ≤ np0)
    {K : Nat × Nat × Nat × Nat × Nat × Nat} (hKO : KOk w K) (lns0 : List (List Tok)) : ∀ d A l to nq nk np nh nr nu P M, (rln p n to).length < d → RS B r n p to A l M → 1 ≤ (hd l).1 → mI M 3 0 2 = Int32.ofNat (hd l).2.2.2 → (∀ x ∈ rln p n to, NB B x ∧ x ∈ lns0) → K3 A W w br q0 nk0 np0 nh0 nr0 nq nk np nh nr nu P M → Bud K (l :: rln p n to) nq nk np nh nr → nu + tk (l :: rln p n to) + 2 * (rln p n to).length + 3 ≤ 3100 → Ez w b M0 M →
    (∀ A' W' to' l' M' nq' nk' np' nh' nr', runL br n (3, W, P) (l :: rln p n to) = runL br n (1, W', noM) (l' :: rln p n to') → A <+: A' → RS B r n p to' A' l' M' → 1 ≤ (hd l').1 → mI M' 3 0 2 = Int32.ofNat (hd l').2.2.2 → CW A' W' w br nq' nk' np' nh' nr' M' → W'.length = W.length → (∃ x, W' = addM W x) → Ez w b M0 M' → Bud K (l' :: rln p n to') nq' nk' np' nh' nr' → (∀ x ∈ rln p n to', NB B x ∧ x ∈ lns0) → (rln p n to').length ≤ (rln p n to).length → tk (l' :: rln p n to') ≤ tk (l :: rln p n to) → (nq ≤ nq' ∧ nk ≤ nk' ∧ np ≤ np' ∧ nh ≤ nh' ∧ nr ≤ nr') → Q M') →
    (∀ A' e M', runL br n (3, W, P) (l :: rln p n to) = .inl e → A <+: A' → Thr B A' e M' → Ez w b M0 M' → X M') → w_Reader_aMethod_L316 0 Q X d M := by
  intro d
  induction d with
  | zero => intro A l to nq nk np nh nr nu P M h; omega
  | succ d ih =>
    intro A l to nq nk np nh nr nu P M hlen hR h1 hline hNB hK hBud hnu hez hQ hX
    obtain ⟨k1, k2, k3, k4, k5, k6, k7, k8, k10⟩ := id hK
    have h51 := k1.1.1.1.2.2.1
    obtain ⟨m21, m369, m381⟩ := k2.many h22 h51
    have hm380 : (allM W).length ≤ 380 := by omega
    obtain ⟨l1, l2, l3, l4, l5⟩ := L_le w
    obtain ⟨⟨-, ⟨b1, b2', b3⟩⟩, ⟨-, -, c3, -, -, c6⟩, -⟩ := id k4
    obtain ⟨u1, u2, u3, u4, u5⟩ := hBud.toW hKO
    have eL : (l :: rln p n to).length = (rln p n to).length + 1 := rfl
    have eT : tk (l :: rln p n to) = l.length + tk (rln p n to) := rfl
    have hlm : ∀ f, 55 ≤ f → f ≤ 65 → (allM W).length < mL M f w := fun f a c => by rw [k2.1.2.1 f a c]; omega
    have hnr : 4 * nr + 4 ≤ mL M 76 w ∧ 6 * nr + 6 ≤ mL M 211 (2 * w + 2) := by
      rw [k6.2.2.2.2.1, k6.2.2.2.2.2.1]
      unfold L76 L212
      by_cases z : w = 0
      · rw [if_pos z, if_pos z]; have := (u4 z).1; rw [eL] at this; omega
      · rw [if_neg z, if_neg z]; have := u5 z; omega
    have hnh : 4 * nh + 4 ≤ mL M 75 w ∨ ¬ P.2.2.1.length < 8 := by
      rw [k6.2.2.2.1]
      unfold L75
      by_cases z : w = 0
      · rw [if_pos z]; have := (u4 z).2; rw [eL] at this; omega
      · rw [if_neg z]; omega
    have hnh4 : 4 * nh ≤ mL M 75 w := by
      rw [k6.2.2.2.1]
      unfold L75
      by_cases z : w = 0
      · rw [if_pos z]; have := (u4 z).2; rw [eL] at this; omega
      · rw [if_neg z]; omega
    have hq0 : q0 ≤ nq := by omega
    have hnh0' : nh0 ≤ nh := by omega
    have exz : ∀ {M' : Mem}, Ex w (bQ (allM W).length nq nk nh nr) M M' → Ez w b M0 M' := fun x => hez.trans (x.1.mono (fun f => Nat.le_trans (hb f) (bQ_mono hq0 k10.1 hnh0' k10.2)))
    unfold w_Reader_aMethod_L316
    refine mf_w_Reader_bodyLine (Q := fun v M' => Fr F_Reader_bodyLine M M' → (if v = 0 then (w_Reader_endMethod 0 (fun M53 => Q M53) X M') else (w_Reader_needLine 0 (fun M54 => (w_Reader_aMethod_L316 0 Q X d) M54) X M'))) (X := X) (fun _ _ hf hp => hp hf) (fun _ _ hp => hp) (c_bodyLine (W := W) (m := (allM W).length) (q0 := q0) (np0 := np0) (nh0 := nh0) (nq := nq) (nk := nk) (np := np) (nh := nh) (nr := nr) (nu := nu) (L := L6 w) (P := P) hR h1 hline k1.2.2.1 k7.1 k7.2.1 k7.2.2 k8 (by omega) ⟨hlm 62 (by omega) (by omega), hlm 63 (by omega) (by omega), hlm 65 (by omega) (by omega)⟩ k4 (by omega) k6.1 (by omega) (by rw [k6.2.1]; omega) (by rw [k6.2.1]; omega) hBud.2.2.2.2.2.2 hnr.1 (by rw [k6.2.2.2.2.1]; omega) hnr.2 (by rw [k6.2.2.2.2.2.1]; omega) (fun q => hnh.resolve_right (fun z => z q)) (by rw [k6.2.2.2.1]; omega) (by omega) (fun A1 M1 kc p1 R1 c1 x1 hf => ?_) (fun A1 P1 nq1 nk1 np1 nh1 nr1 t1 M1 kc kr p1 R1 c1 x1 gr hf => ?_) (fun A1 e M1 kc kr p1 th x1 => ?_))
    · -- the end of the method
      have C1 := (k1.fr hf)
      have lo1 := x1.1.1
      have hst : runL br n (3, W, P) (l :: rln p n to) = match endM (hd l).2.2.2 P with
          | .inl e => .inl e
          | .inr m => runL br n (1, addM W m, noM) (l :: rln p n to) := by
        rw [runL_3, kLine_eq, if_pos kc]
        cases endM (hd l).2.2.2 P <;> rfl
      refine itp rfl (c_endMethod (line := (hd l).2.2.2) R1.1 c1 (C1.2.2.1) (x1.2.2.2.trans k8) (by omega) (by rw [(lo1.1 63 rfl).2]; exact hlm 63 (by omega) (by omega)) (x1.2.1.trans hline) (fun f a c => (x1.1.2.2 f a c).trans (k7.2.1 f a c)) (by omega) (by rw [(lo1.1 67 rfl).2, k6.1 67 (by omega) (by omega)]; omega) (by rw [(lo1.1 67 rfl).2, k6.1 67 (by omega) (by omega)]; omega) (by rw [(lo1.1 74 rfl).2, k6.2.2.1]; omega) (by rw [(lo1.1 74 rfl).2, k6.2.2.1]; omega) (by rw [(lo1.1 75 rfl).2]; exact hnh4) (by rw [(lo1.1 75 rfl).2, k6.2.2.2.1]; omega) (fun M2 he hW hMc => ?_) (fun e M2 he th hx => ?_))
      · have hb67 : b 67 ≤ q0 := hb 67
        have hb75 : b 75 ≤ 4 * nh0 := hb 75
        have ez2 : Ez w b M0 M2 := (exz x1).trans (hW.ex hb67 hb74 hb75).1
        have hc1 : W.length - 1 + 1 = W.length := by omega
        have C2 := C1.wr hW
        have lo2 : Lo w (fun f => if f = 67 then q0 else if f = 74 then np0 else if f = 75 then 4 * nh0 else 10000000) M1 M2 := hW.lo (Nat.le_refl _) (Nat.le_refl _) (Nat.le_refl _)
        have ms2 : cMs A1 W w 1 nq nk np nh nr M2 := ((((k2.lo lo1 (by show W.length ≤ 10000000; omega) (by show W.length ≤ 10000000; omega) (bQ_M hq0 k10.1 hnh0' k10.2 hbb.2.2.1 (by omega))).pre p1).lo lo2 (by show W.length ≤ 10000000; omega) (by show W.length ≤ 10000000; omega) ⟨fun f a c => by (try dsimp only); rw [if_neg (by omega), if_neg (by omega), if_neg (by omega)]; omega, by show 6 * (allM W).length ≤ 10000000; omega, fun f a c => by (try dsimp only); split; exact Nat.le_refl _; rw [if_neg (by omega), if_neg (by omega)]; omega, by show nk0 ≤ 10000000; omega, Nat.le_refl _, Nat.le_refl _, by show 4 * nr0 ≤ 10000000; omega, by show 6 * nr0 ≤ 10000000; omega⟩).mono hq0 k10.1 (by omega) hnh0' k10.2)
        have hd2 : cHd A1 w (W.length - 1) (allM W).length (mthOf P) M2 := ((k3.lo lo1 (fun f a c => by
            unfold bQ; rw [if_neg (by omega), if_neg (by omega), if_neg (by omega), if_neg (by omega), if_neg (by omega), if_neg (by omega)]; omega) (by show 6 * (allM W).length + 6 ≤ 10000000; omega)).pre p1).lo lo2 (fun f a c => by (try dsimp only); rw [if_neg (by omega), if_neg (by omega), if_neg (by omega)]; omega) (by show 6 * (allM W).length + 6 ≤ 10000000; omega)
        have hs2 := ms2.fin hc1 (by omega) hm12 hd2 hMc
        obtain ⟨e1, -, -, -⟩ := addM_last (m := mthOf P) hc1
        have hal : (allM (addM W (mthOf P))).length = (allM W).length + 1 := by rw [e1]; simp
        obtain ⟨⟨a1, a2, a3, a4, a5⟩, -⟩ := c1.1
        refine hQ A1 (addM W (mthOf P)) to l M2 nq nk np nh nr (by rw [hst, he]) p1 ?_ h1 ((hW.o (by decide) 0 2).trans (x1.2.1.trans hline)) ⟨?_, hs2, ⟨?_, (hW.o (by decide) w 39).trans a1, (hW.o (by decide) w 47).trans a2, (hW.o (by decide) w 49).trans a3, (hW.o (by decide) w 51).trans a4, (hW.o (by decide) w 53).trans a5⟩, (k6.lo lo1).lo lo2, (k7.ez x1.1).ez (hW.ex (b := fun f => if f = 67 then q0 else if f = 74 then np0 else if f = 75 then 4 * nh0 else 10000000) (Nat.le_refl _) (Nat.le_refl _) (Nat.le_refl _)).1, by rw [hal]; omega⟩ (addM_len _ _) ⟨_, rfl⟩ ez2 hBud hNB (Nat.le_refl _) (Nat.le_refl _) ⟨Nat.le_refl _, Nat.le_refl _, Nat.le_refl _, Nat.le_refl _, Nat.le_refl _⟩
        · exact R1.of (hW.o (by decide) 0 4) (fun k => hW.o (by decide) 0 k) (fun k => hW.o (by decide) 0 k) (fun k => hW.o (by decide) 0 k) (fun k => (hW.2.1 _ _ _).2) (hW.2.2 _ _) (hW.2.2 _ _) (hW.2.2 _ _) (hW.2.2 _ _) (hW.2.1 _ _ _).1 (hW.o (by decide) 0 1) (hW.o (by decide) 0 2) (hW.2.1 _ _ _).1 (hW.o (by decide) 0 4) (hW.o (by decide) 0 5) (fun k => hW.o (by decide) r k) (hW.2.2 _ _)
        · rw [addM_len]
          have C3 : C4 A1 W w (W.length - 1) br M2 := ⟨C2.1.pre p1 (by have := R1.1.len; omega), C2.2.1.pre p1, C2.2.2⟩
          exact ⟨C3.1.setM hc1, C3.2.1.setM hc1, C3.2.2⟩
        · rw [hal, hW.o (by decide) w 26, hf.I (f := 5) (k := 26) rfl w]; exact k5
      · refine hX A1 e M2 (by rw [hst, he]) p1 th ((exz x1).trans (hx b (hb 67) hb74 (hb 75)).1)
    · -- one more line
      refine itn (by decide) ?_
      have lo1 := x1.1.1
      have C1 := (k1.fr hf)
      have hst : runL br n (3, W, P) (l :: rln p n to) = runL br n (3, W, P1) (rln p n to) := by
        rw [runL_3, kLine_eq, if_neg (by rw [kc]; decide), kr]
      have K1 : K3 A1 W w br q0 nk0 np0 nh0 nr0 nq1 nk1 np1 nh1 nr1 (nu + l.length + 2) P1 M1 := by
        have hP1 : P1.1 = P.1 := by
          have := kr
          unfold kRest at this
          split at this
          · split at this
            · cases this
            · split at this
              · cases this
              · cases this; rfl
          · split at this
            · split at this
              · cases this
              · split at this
                · cases this
                · cases this; rfl
            · unfold iLine at this
              dsimp only at this
              split at this
              · cases this; rfl
              · split at this
                · cases this
                · split at this
                  · cases this
                  · cases this; rfl
        refine ⟨⟨C1.1.pre p1 (by have := R1.1.len; omega), C1.2.1.pre p1, C1.2.2⟩, (k2.lo lo1 (by show W.length ≤ 10000000; omega) (by show W.length ≤ 10000000; omega) (bQ_M hq0 k10.1 hnh0' k10.2 hbb.2.2.1 (by omega))).pre p1, ?_, c1, (hf.I (f := 5) (k := 26) rfl w).trans k5, k6.lo lo1, k7.ez x1.1, x1.2.2.2.trans k8, by have := gr.2.1.1; omega, by have := gr.2.2.2.2.1; omega⟩
        rw [hP1]
        exact (k3.lo lo1 (fun f a c => by
            unfold bQ; rw [if_neg (by omega), if_neg (by omega), if_neg (by omega), if_neg (by omega), if_neg (by omega), if_neg (by omega)]; omega) (by show 6 * (allM W).length + 6 ≤ 10000000; omega)).pre p1
      have hI : PQ (fun A M => K3 A W w br q0 nk0 np0 nh0 nr0 nq1 nk1 np1 nh1 nr1 (nu + l.length + 2) P1 M ∧ Ez w b M0 M) := fun A A' M M' h hp hl hw => ⟨K3.pq ⟨h51, by omega, hbb⟩ A A' M M' h.1 hp hl hw, h.2.wq hw⟩
      refine k_needLine hI R1 ⟨K1, exz x1⟩ (fun x hx => (hNB x hx).1) (fun A2 M2 e0 p2 th iv => hX A2 _ M2 (by rw [hst, e0]; rfl) (p1.trans p2) th iv.2) (fun A2 to2 l2 M2 e0 p2 R2 hln2 h12 iv => ?_)
      have hB1 := Bud.step hBud gr
      rw [e0] at hst hlen hnu hB1
      have hsub : ∀ x ∈ rln p n to2, NB B x ∧ x ∈ lns0 := fun x hx => hNB x (by rw [e0]; exact List.mem_cons_of_mem _ hx)
      have e1 : (l2 :: rln p n to2).length = (rln p n to2).length + 1 := rfl
      have e2 : tk (l :: l2 :: rln p n to2) = l.length + tk (l2 :: rln p n to2) := rfl
      refine ih A2 l2 to2 nq1 nk1 np1 nh1 nr1 (nu + l.length + 2) P1 M2 (by omega) R2 h12 hln2 hsub iv.1 hB1 (by omega) iv.2 (fun A3 W3 to3 l3 M3 nq3 nk3 np3 nh3 nr3 z1 z2 z3 z4 z5 z6 z7 z7x z8 z9 z10 z11 z12 z13 => ?_) (fun A3 e M3 z1 z2 z3 z4 => hX A3 e M3 (by rw [e0, hst]; exact z1) ((p1.trans p2).trans z2) z3 z4)
      refine hQ A3 W3 to3 l3 M3 nq3 nk3 np3 nh3 nr3 (by rw [e0, hst]; exact z1) ((p1.trans p2).trans z2) z3 z4 z5 z6 z7 z7x z8 z9 z10 (by rw [e0]; omega) (by rw [e0]; omega) ?_
      obtain ⟨g1, g2, g3, g4, g5, -⟩ := gr
      omega
    · refine hX A1 e M1 ?_ p1 th (exz x1)
      rw [runL_3, kLine_eq, if_neg (by rw [kc]; decide), kr]
