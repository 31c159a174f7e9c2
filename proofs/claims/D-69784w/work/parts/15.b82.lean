/-- a class in the works, from its line to its end -/
theorem c_aClass {B : List Nm} {r n : Nat} {p : Nat → Int32} {to : Nat} {A : List Nm} {l : List Tok} {W : List Cls} {w : Nat} {br : Int32} {nq nk np nh nr : Nat} {b : Nat → Nat} {c0 f0 : Nat} {Q : Int32 → Mem → Prop} {X : Mem → Prop} {M0 M : Mem} {K : Nat × Nat × Nat × Nat × Nat × Nat} (hKO : KOk w K) (lns0 : List (List Tok)) (hR : RS B r n p to A l M) (hline : mI M 3 0 2 = Int32.ofNat (hd l).2.2.2) (hNB : ∀ x ∈ rln p n to, NB B x ∧ x ∈ lns0) (hCW : CW0 A W w br nq nk np nh nr M) (hNw : cNw c0 f0 W w M) (h21 : 21 ≤ W.length) (hBud : Bud K (l :: rln p n to) nq nk np nh nr) (htk : tk (l :: rln p n to) + 2 * (rln p n to).length + 3 ≤ 3100) (hez : Ez w b M0 M) (hb : ∀ f, b f ≤ bA W.length (allF W).length (allM W).length nq nk np nh nr f)
    (hQ0 : ∀ A' W' M' nq' nk' np' nh' nr', runL br n (0, W, noM) (l :: rln p n to) = .inr W' → A <+: A' → NC B A' M' → CW0 A' W' w br nq' nk' np' nh' nr' M' → cNw c0 f0 W' w M' → W'.length = W.length + 1 → Ez w b M0 M' → Bud K [] nq' nk' np' nh' nr' → Q 0 M')
    (hQ1 : ∀ A' W' to' l' M' nq' nk' np' nh' nr', runL br n (0, W, noM) (l :: rln p n to) = runL br n (0, W', noM) (l' :: rln p n to') → A <+: A' → RS B r n p to' A' l' M' → mI M' 3 0 2 = Int32.ofNat (hd l').2.2.2 → CW0 A' W' w br nq' nk' np' nh' nr' M' → cNw c0 f0 W' w M' → W'.length = W.length + 1 → Ez w b M0 M' → Bud K (l' :: rln p n to') nq' nk' np' nh' nr' → (∀ x ∈ rln p n to', NB B x ∧ x ∈ lns0) → (rln p n to').length < (rln p n to).length → tk (l' :: rln p n to') ≤ tk (l :: rln p n to) → (∀ f, b f ≤ bA W'.length (allF W').length (allM W').length nq' nk' np' nh' nr' f) → Q 1 M')
    (hX : ∀ A' e M', runL br n (0, W, noM) (l :: rln p n to) = .inl e → A <+: A' → Thr B A' e M' → Ez w b M0 M' → X M') : w_Reader_aClass 0 Q X M := by
  obtain ⟨s1, s2, s3, s4, s5, s6, s7, s8⟩ := hCW.small (hBud.toW hKO)
  have hsm : (allF W).length ≤ 1000 ∧ W.length ≤ 1000 ∧ (allM W).length ≤ 1000 ∧ nq ≤ 100000 ∧ nk ≤ 100000 ∧ np ≤ 100000 ∧ nh ≤ 100000 ∧ nr ≤ 100000 := ⟨by omega, by omega, by omega, s4, s5, s6, s7, s8⟩
  have b7 : ∀ f, b f ≤ 10000000 := fun f => Nat.le_trans (hb f) (Nat.le_trans (bA_T (by omega)) (bT_big hsm f))
  have hrun : runL br n (0, W, noM) (l :: rln p n to) = match cLine br W l with
      | .inl e => .inl e
      | .inr st' => runL br n st' (rln p n to) := rfl
  have inl1 : ∀ e, pClass l = .inl e → runL br n (0, W, noM) (l :: rln p n to) = .inl e := fun e he => by rw [hrun]; unfold cLine; rw [he]
  have hIw : PW (fun A' M' => CW0 A' W w br nq nk np nh nr M' ∧ Ex w (fun _ => 10000000) M M') := fun A A' M1 M2 h hp hl hk => ⟨CW0.pq ⟨s1, by omega, s4, s5, s6, s7, s8⟩ A A' M1 M2 h.1 hp hl hk.wq, h.2.wk hk⟩
  have hIc : ∀ ns, PC (fun A' M' => (CW0 A' W w br nq nk np nh nr M' ∧ Ex w (fun _ => 10000000) M M') ∧ NL A' ns M') := fun ns A A' M1 M2 h hp hl hf => ⟨hIw A A' M1 M2 h.1 hp hl (FC_wk hf), (h.2.fr hf).pre hp⟩
  have ezx : ∀ {M' : Mem}, Ex w (fun _ => 10000000) M M' → Ez w b M0 M' := fun x => hez.trans (x.1.mono b7)
  unfold w_Reader_aClass
  refine k_flags hIw hR ⟨hCW, Ex.rf w _ M⟩ (fwI (i := 69) (nm := nFinal) (by decide +kernel)) (fwI (i := 70) (nm := nAbstract) (by decide +kernel)) (fwI (i := 71) (nm := nFace) (by decide +kernel)) (Or.inl ⟨rfl, rfl⟩) (fun A1 bits t1 M1 hp1 p1 R1 i1 => ?_)
  have hbits := pFlags_bits _ _ _ _ _ hp1 (Or.inl rfl)
  have err : ∀ e, pClassT t1 = .inl e → runL br n (0, W, noM) (l :: rln p n to) = .inl e := fun e he => inl1 e (by unfold pClass; rw [hp1]; dsimp only; rw [he])
  refine c_isWd (v := 62) (nm := nClass) R1 rfl ⟨by decide, by decide⟩ ?_
  cases wc : isWd nClass t1 with
  | false =>
    have nw : ¬ isWd nClass t1 = true := by rw [wc]; decide
    exact itp (by decide) (k_wrong hIw R1 i1 (fun M' th iv => hX A1 _ M' (err _ (by unfold pClassT; rw [if_neg nw])) p1 th (ezx iv.2)))
  | true =>
  refine itn (by decide) ?_
  have hk1 := (of_decide_eq_true wc).1
  refine k_next hIw R1 i1 (by omega) (fun A2 M2 p2 R2 i2 => ?_)
  refine k_className hIw R2 i2 (fun A3 own t3 M3 a3 p3 ho R3 i3 => ?_) (fun A' e M' a3 p3 th iv => hX A' e M' (err e (by unfold pClassT; rw [if_pos wc, a3])) ((p1.trans p2).trans p3) th (ezx iv.2))
  have ho2 := pCls_ne R2 a3
  refine k_sign hIw R3 i3 (b := 58) (by omega) (by omega) (fun A4 M4 q58 p4 R4 i4 => ?_) (fun A' M' q58 p4 th iv => hX A' _ M' (err _ (by unfold pClassT; rw [if_pos wc, a3]; dsimp only; unfold pSign; rw [if_neg q58])) (((p1.trans p2).trans p3).trans p4) th (ezx iv.2))
  have q4 := ((p1.trans p2).trans p3).trans p4
  have i4' : CW0 A4 W w br nq nk np nh nr (sI M4 3 0 18 0) ∧ Ex w (fun _ => 10000000) M (sI M4 3 0 18 0) := by
    refine ⟨?_, i4.2.w3⟩
    obtain ⟨⟨c, h1⟩, h2, h3, h4, h5, h6⟩ := i4.1
    have lo : Lo w (fun _ => 10000000) M4 (sI M4 3 0 18 0) := (Lo.rf w _ M4).wo
    exact ⟨⟨c, h1.w3⟩, h2.lo lo (by (try dsimp only); omega) (by (try dsimp only); omega) ⟨fun f _ _ => by (try dsimp only); omega, by (try dsimp only); omega, fun f _ _ => by (try dsimp only); omega, by (try dsimp only); omega, by (try dsimp only); omega, by (try dsimp only); omega, by (try dsimp only); omega, by (try dsimp only); omega⟩, h3, h4.lo lo, h5.ez (w := w) (b := fun _ => 10000000) (Ez.rf w _ M4).w3, h6⟩
  have hpc : ∀ x, pCls t3.tail = x → pClassT t1 = (match x with
      | .inl e => .inl e
      | .inr (par, t4) => match pFaces (t4.length + 1) [] t4 with
        | .inl e => .inl e
        | .inr (fs, t5) => .inr ((own, par, fs), t5)) := fun x hx => by
    unfold pClassT; rw [if_pos wc, a3]; dsimp only; unfold pSign; rw [if_pos q58]; dsimp only; rw [hx]; cases x <;> rfl
  refine k_className hIw (M := sI M4 3 0 18 0) R4.s3 i4' (fun A5 par t5 M5 a5 p5 hpar R5 i5 => ?_) (fun A' e M' a5 p5 th iv => hX A' e M' (err e (by rw [hpc _ a5])) (q4.trans p5) th (ezx iv.2))
  have hp2 := pCls_ne R4 a5
  have q5 := q4.trans p5
  have e211 : mL M5 211 0 = 3100 := i5.1.2.2.2.2.1.2.2
  refine ⟨by rw [e211]; exact (vp_oN (a := 0) (by omega)).mpr (by omega), _, rfl, ?_⟩
  have e0 : (0 : Int32).toNatClampNeg = 0 := rfl
  rw [e0, ← nc_pre p5 hpar]
  have hpA5 : par ∈ A5 := p5.subset hpar
  have hfx : ∀ x, pFaces (t5.length + 1) [] t5 = x → pClass l = (match x with
      | .inl e => .inl e
      | .inr (fs, t6) => .inr ((bits, own, par, fs), t6)) := fun x hx => by
    unfold pClass; rw [hp1]; dsimp only; rw [hpc _ a5]; dsimp only; rw [hx]; cases x <;> rfl
  have errF : ∀ e, pFaces (t5.length + 1) [] t5 = .inl e → runL br n (0, W, noM) (l :: rln p n to) = .inl e := fun e he => inl1 e (by rw [hfx _ he])
  have i6 : (CW0 A5 W w br nq nk np nh nr (sI (sI M5 211 0 0 (nc A5 par)) 3 0 18 1) ∧ Ex w (fun _ => 10000000) M (sI (sI M5 211 0 0 (nc A5 par)) 3 0 18 1)) ∧ NL A5 [par] (sI (sI M5 211 0 0 (nc A5 par)) 3 0 18 1) := by
    refine ⟨⟨?_, (i5.2.w211 (Or.inl rfl)).w3⟩, ⟨rfl, e211, fun i hi => ?_⟩⟩
    · obtain ⟨⟨c, h1⟩, h2, h3, h4, h5, h6⟩ := i5.1
      have lo : Lo w (fun _ => 10000000) M5 (sI (sI M5 211 0 0 (nc A5 par)) 3 0 18 1) := ((Lo.rf w _ M5).w211 (Or.inl rfl)).wo
      exact ⟨⟨c, (h1.wo).w3⟩, h2.lo lo (by (try dsimp only); omega) (by (try dsimp only); omega) ⟨fun f _ _ => by (try dsimp only); omega, by (try dsimp only); omega, fun f _ _ => by (try dsimp only); omega, by (try dsimp only); omega, by (try dsimp only); omega, by (try dsimp only); omega, by (try dsimp only); omega, by (try dsimp only); omega⟩, h3, h4.lo lo, h5.ez (w := w) (b := fun _ => 10000000) (((Ez.rf w _ M5).w211 (Or.inl rfl)).w3), h6⟩
    · have : i = 0 := by simp at hi; exact hi
      subst this
      exact ⟨rfl, hpA5⟩
  have R6 : RS B r n p to A5 t5 (sI (sI M5 211 0 0 (nc A5 par)) 3 0 18 1) := R5.s211.s3
  generalize sI (sI M5 211 0 0 (nc A5 par)) 3 0 18 1 = M6 at i6 R6
  have hlen5 := R5.len
  have q25 := ((p3.trans p4).trans p5)
  have hIq : ∀ {W' : List Cls} {nq' nk' np' nh' nr' : Nat}, (W'.length ≤ 51 ∧ (allM W').length ≤ 1000 ∧ nq' ≤ 100000 ∧ nk' ≤ 100000 ∧ np' ≤ 100000 ∧ nh' ≤ 100000 ∧ nr' ≤ 100000) → (allF W').length ≤ 1000 → PQ (fun A M => CW A W' w br nq' nk' np' nh' nr' M ∧ cNw c0 f0 W' w M ∧ Ez w b M0 M) := fun hs hs2 A A' M M' h hp hl hw => ⟨CW.pq hs A A' M M' h.1 hp hl hw, h.2.1.lo (b := fun _ => 10000000) ((Lo.rf w _ M).wk hw) (fun f _ _ => by (try dsimp only); omega) (by (try dsimp only); omega) (by (try dsimp only); omega), h.2.2.wq hw⟩
  have main : ∀ d (acc : List Nm) A1' t M1', t.length < d → A5 <+: A1' → RS B r n p to A1' t M1' → ((CW0 A1' W w br nq nk np nh nr M1' ∧ Ex w (fun _ => 10000000) M M1') ∧ NL A1' (par :: acc) M1') → acc.length + t.length ≤ t5.length → pFaces (t5.length + 1) [] t5 = pFaces d acc t → w_Reader_aClass_L67 0 Q X d bits (nc A2 own) M1' := by
    intro d
    induction d with
    | zero => intro acc A1' t M1' h; omega
    | succ d ih =>
      intro acc A7 t M7 hlt p7 R7 i7 hcnt hp
      have htp := List.length_pos_iff.mpr R7.hd.2.2
      have q7 := q5.trans p7
      have ho7 : own ∈ A7 := (q25.trans p7).subset ho
      unfold w_Reader_aClass_L67
      refine ⟨R7.hd.1.isK, ?_⟩
      by_cases ce : (hd t).1 = 0
      · refine itp (R7.isE.mpr ce) ?_
        have hpl : pClass l = .inr ((bits, own, par, acc), t) := by rw [hfx _ (hp.trans (by unfold pFaces; rw [if_pos ce]))]
        have hr1 : runL br n (0, W, noM) (l :: rln p n to) = match (if rulC br W bits own par acc = 99 then .inr (1, W ++ [cls0 own par acc bits], noM) else .inl (rulC br W bits own par acc, (hd l).2.2.2) : (Nat × Nat) ⊕ PSt) with
            | .inl e => .inl e
            | .inr st' => runL br n st' (rln p n to) := by rw [hrun]; unfold cLine; rw [hpl]
        rw [← nc_pre (q25.trans p7) ho]
        obtain ⟨⟨cw7, x7⟩, nl7⟩ := i7
        obtain ⟨⟨cc, C7⟩, cwr⟩ := id cw7
        have hline7 : mI M7 3 0 2 = Int32.ofNat (hd l).2.2.2 := x7.2.1.trans hline
        refine c_classRules (b := fun _ => 10000000) R7.1 C7 nl7 hline7 ho7 (by omega) hbits (fun M' h99 th x8 => hX A7 _ M' (by rw [hr1, if_neg h99]) q7 th (ezx (x7.trans x8))) (fun hr d' => ?_)
        have h18 : mI M7 3 0 18 = Int32.ofNat (acc.length + 1) := nl7.1
        unfold w_Reader_aClass_L223
        rw [h18]
        refine itp (le_oN (Nat.le_refl _) (by omega)) ?_
        have j338 : (4 < acc.length ∨ W.length = 51) → w_Reader_aClass_j338 0 Q X M7 := fun z => by
          rw [if_pos z] at hr
          unfold w_Reader_aClass_j338
          exact k_refuse (line := (hd l).2.2.2) (rule := 12) (Ex.pw (w := w) (b := fun _ => 10000000) (M := M)) R7.1 x7 hline7 (fun M' th iv => hX A7 _ M' (by rw [hr1, hr]; rfl) q7 th (ezx iv))
        by_cases c5 : 4 < acc.length
        · exact itp (lt_oN (a := 5) (by omega) (by omega)) (j338 (Or.inl c5))
        refine itn (nlt_oN (a := 5) (by omega) (by omega)) ⟨w, C7.2.2.1, ?_⟩
        have e52 := C7.1.1.1.1
        rw [e52]
        by_cases c51 : W.length = 51
        · exact itp (by rw [c51]; rfl) (j338 (Or.inr c51))
        refine itn (ne_oN (b := 51) c51 (by omega) (by omega)) ?_
        rw [if_neg (fun z => z.elim c5 c51)] at hr
        rw [hr, if_pos rfl] at hr1
        have nw7 : cNw c0 f0 W w M7 := hNw.lo x7.1.1 (fun f _ _ => by (try dsimp only); omega) (by (try dsimp only); omega) (by (try dsimp only); omega)
        refine c_newClass R7 cw7 h21 (by omega) nl7 (by omega) ho7 ho2 hp2 (by omega) ⟨s4, s5, s6, s7, s8⟩ (fun d2 M8 R8 cw8 h45 h18' z8 => ?_)
        have ll : (W ++ [cls0 own par acc bits]).length = W.length + 1 := by simp
        have hallM : allM (W ++ [cls0 own par acc bits]) = allM W := by rw [allM_app]; simp [allM]
        have hallF : allF (W ++ [cls0 own par acc bits]) = allF W := by rw [allF_app]; simp [allF]
        have nw8 : cNw c0 f0 (W ++ [cls0 own par acc bits]) w M8 := by
          have o := nw7.lo z8.1 (fun f a c => by unfold bC; rw [if_neg (by omega), if_pos (by omega)]; exact Nat.le_refl _) (by show (allF W).length ≤ 10000000; omega) (by show (allF W).length ≤ 10000000; omega)
          refine ⟨fun c a e => ?_, fun i a e => o.2 i a (by rw [hallF] at e; exact e)⟩
          rw [ll] at e
          by_cases q : c = W.length
          · rw [q]; exact h45
          · exact o.1 c a (by omega)
        have ez8 : Ez w b M0 M8 := (ezx x7).trans (z8.mono (fun f => Nat.le_trans (hb f) (bA_C hsm f)))
        unfold w_Reader_aClass_L392
        rw [h18']
        refine itp (le_oN (Nat.le_refl _) (by omega)) ?_
        refine k_needLine (hIq (W' := W ++ [cls0 own par acc bits]) ⟨by rw [ll]; omega, by rw [hallM]; omega, s4, s5, s6, s7, s8⟩ (by rw [hallF]; omega)) R8 ⟨cw8, nw8, ez8⟩ (fun x hx => (hNB x hx).1) (fun A9 M9 e9 p9 th iv => hX A9 _ M9 (by rw [hr1, e9]; rfl) (q7.trans p9) th iv.2.2) (fun A9 to9 l9 M9 e9 p9 R9 hln9 h19 iv => ?_)
        have hB9 := hBud.skip
        rw [e9] at hr1 hB9
        have eL9 : (rln p n to).length = (rln p n to9).length + 1 := by rw [e9]; rfl
        have eT9 : tk (l :: rln p n to) = l.length + tk (l9 :: rln p n to9) := by rw [e9]; rfl
        refine ⟨_, c_members (b := b) (M0 := M0) (c0 := c0) (f0 := f0) hKO lns0 ((rln p n to9).length + 1) A9 l9 to9 (W ++ [cls0 own par acc bits]) nq nk np nh nr M9 (by omega) R9 hln9 (fun x hx => hNB x (by rw [e9]; exact List.mem_cons_of_mem _ hx)) iv.1 iv.2.1 (by rw [ll]; omega) hB9 (by omega) iv.2.2 (fun f => ?_) (fun A' W' M' nq' nk' np' nh' nr' y1 y2 y3 y4 y5 y6 y7 y8 => hQ0 A' W' M' nq' nk' np' nh' nr' (by rw [e9, hr1]; exact y1) ((q7.trans p9).trans y2) y3 y4 y5 (y6.trans ll) y7 y8) (fun A' W' to' l' M' nq' nk' np' nh' nr' y1 y2 y3 y4 y5 y6 y7 y8 y9 y10 y11 y12 y13 y14 => hQ1 A' W' to' l' M' nq' nk' np' nh' nr' (by rw [e9, hr1]; exact y1) ((q7.trans p9).trans y2) y3 y5 y6 y7 (y8.trans ll) y9 y10 y11 (by omega) (by omega) (fun f => ?_)) (fun A' e M' y1 y2 y3 y4 => hX A' e M' (by rw [e9, hr1]; exact y1) ((q7.trans p9).trans y2) y3 y4)⟩
        · rw [ll, Nat.add_sub_cancel, hallM, hallF]
          exact Nat.le_trans (hb f) (bA_T (by omega))
        · have hbf := hb f
          have hy := y14 f
          have hlW : W'.length = W.length + 1 := y8.trans ll
          rw [hlW, Nat.add_sub_cancel] at hy
          unfold bA at hbf ⊢
          by_cases e38 : f = 38
          · rw [if_pos e38] at hbf ⊢; omega
          · rw [if_neg e38] at hbf ⊢
            by_cases e36 : 36 ≤ f ∧ f ≤ 48
            · rw [if_pos e36] at hbf ⊢; omega
            · rw [if_neg e36]
              have hn : ¬ (f = 42 ∨ f = 44) := by omega
              unfold bT at hy ⊢
              rw [if_neg hn] at hy ⊢; exact hy
      · refine itn (fun q => ce (R7.isE.mp q)) ?_
        refine h_sign (hIc (par :: acc)) R7 i7 (b := 44) (by omega) (by omega) (fun A8 M8 q44 p8 R8 i8 => ?_) (fun A' M' q44 p8 th iv => hX A' _ M' (errF _ (hp.trans (by unfold pFaces; rw [if_neg ce]; unfold pSign; rw [if_neg q44]))) (q7.trans p8) th (ezx iv.1.2))
        refine h_className (hIc (par :: acc)) R8 i8 (fun A9 nm t9 M9 a9 p9 hnm R9 i9 => ?_) (fun A' e M' a9 p9 th iv => hX A' e M' (errF _ (hp.trans (by unfold pFaces; rw [if_neg ce]; unfold pSign; rw [if_pos q44]; dsimp only; rw [a9]))) ((q7.trans p8).trans p9) th (ezx iv.1.2))
        obtain ⟨⟨cw9, x9⟩, nl9⟩ := i9
        have h18 : mI M8 3 0 18 = Int32.ofNat (acc.length + 1) := i8.2.1
        have h18' : mI M9 3 0 18 = Int32.ofNat (acc.length + 1) := nl9.1
        have hln9 := pCls_len a9
        have htl := hd_tl (ts := t) (by omega)
        rw [h18, oN_tnc (by omega)]
        refine ⟨by rw [nl9.2.1]; exact (vp_oN (by omega)).mpr (by omega), _, rfl, ?_⟩
        have e18 : mI (sI M9 211 0 (acc.length + 1) (nc A8 nm)) 3 0 18 = Int32.ofNat (acc.length + 1) := h18'
        rw [e18, lit32 1, oN_add, ← nc_pre p9 hnm]
        refine ih (acc ++ [nm]) A9 t9 _ (by omega) ((p7.trans p8).trans p9) R9.s211.s3 ⟨⟨?_, (x9.w211 (Or.inl rfl)).w3⟩, nl9.add (p9.subset hnm)⟩ (by rw [List.length_append, List.length_singleton]; omega) (hp.trans ?_)
        · obtain ⟨⟨c, h1⟩, h2, h3, h4, h5, h6⟩ := cw9
          have lo : Lo w (fun _ => 10000000) M9 (sI (sI M9 211 0 (acc.length + 1) (nc A9 nm)) 3 0 18 (Int32.ofNat (acc.length + 1 + 1))) := ((Lo.rf w _ M9).w211 (Or.inl rfl)).wo
          exact ⟨⟨c, (h1.wo).w3⟩, h2.lo lo (by (try dsimp only); omega) (by (try dsimp only); omega) ⟨fun f _ _ => by (try dsimp only); omega, by (try dsimp only); omega, fun f _ _ => by (try dsimp only); omega, by (try dsimp only); omega, by (try dsimp only); omega, by (try dsimp only); omega, by (try dsimp only); omega, by (try dsimp only); omega⟩, h3, h4.lo lo, h5.ez (w := w) (b := fun _ => 10000000) (((Ez.rf w _ M9).w211 (Or.inl rfl)).w3), h6⟩
        · conv => lhs; unfold pFaces
          rw [if_neg ce]; unfold pSign; rw [if_pos q44]; dsimp only; rw [a9]
  exact ⟨_, main (t5.length + 1) [] A5 t5 M6 (by omega) (List.prefix_refl _) R6 i6 (by simp) rfl⟩
