theorem HD.s60 {A : List Nm} {W : List Cls} {w : Nat} {br va vb v : Int32} {nq nk np nh nr : Nat} {own : Nm} {ks : List Kd} {κ : Kd} {bits : Int32} {M : Mem} (h : HD A W w br nq nk np nh nr (own, ks, κ, bits, va, vb, [], []) 6 M) (hs : W.length ≤ 51 ∧ (allM W).length ≤ 1000 ∧ nq ≤ 100000 ∧ nk ≤ 100000 ∧ np ≤ 100000 ∧ nh ≤ 100000 ∧ nr ≤ 100000) : HD A W w br nq nk np nh nr (own, ks, κ, bits, v, vb, [], []) 6 (sI M 60 w (allM W).length v) := by
  obtain ⟨s1, s2, s3, s4, s5, s6, s7⟩ := hs
  obtain ⟨q1, q2, ⟨q3, q4, q5, q6, q9, q9a, q9b⟩, q10, q11, q12, q13, q14, q15, q16⟩ := h
  have lo : Lo w (fun f => if f = 60 then (allM W).length else 10000000) M (sI M 60 w (allM W).length v) := (Lo.rf w _ M).w (Nat.le_refl _)
  refine ⟨q1.wo, q2.lo lo (by show W.length ≤ 10000000; omega) (by show W.length ≤ 10000000; omega) ⟨fun f _ _ => ?_, by show 6 * (allM W).length ≤ 10000000; omega, fun f a c => by (try dsimp only); rw [if_neg (by omega)]; omega, by show nk ≤ 10000000; omega, by show np ≤ 10000000; omega, by show 4 * nh ≤ 10000000; omega, by show 4 * nr ≤ 10000000; omega, by show 6 * nr ≤ 10000000; omega⟩, ⟨q3, q4, q5, q6, q9, by rw [mI_sI, if_pos ⟨rfl, rfl, rfl⟩], q9b⟩, q10, q11, q12.lo lo, q13, q14, q15, q16⟩
  (try dsimp only)
  split
  · exact Nat.le_refl _
  · omega
theorem HD.s61 {A : List Nm} {W : List Cls} {w : Nat} {br va vb v : Int32} {nq nk np nh nr : Nat} {own : Nm} {ks : List Kd} {κ : Kd} {bits : Int32} {M : Mem} (h : HD A W w br nq nk np nh nr (own, ks, κ, bits, va, vb, [], []) 6 M) (hs : W.length ≤ 51 ∧ (allM W).length ≤ 1000 ∧ nq ≤ 100000 ∧ nk ≤ 100000 ∧ np ≤ 100000 ∧ nh ≤ 100000 ∧ nr ≤ 100000) : HD A W w br nq nk np nh nr (own, ks, κ, bits, va, v, [], []) 6 (sI M 61 w (allM W).length v) := by
  obtain ⟨s1, s2, s3, s4, s5, s6, s7⟩ := hs
  obtain ⟨q1, q2, ⟨q3, q4, q5, q6, q9, q9a, q9b⟩, q10, q11, q12, q13, q14, q15, q16⟩ := h
  have lo : Lo w (fun f => if f = 61 then (allM W).length else 10000000) M (sI M 61 w (allM W).length v) := (Lo.rf w _ M).w (Nat.le_refl _)
  refine ⟨q1.wo, q2.lo lo (by show W.length ≤ 10000000; omega) (by show W.length ≤ 10000000; omega) ⟨fun f _ _ => ?_, by show 6 * (allM W).length ≤ 10000000; omega, fun f a c => by (try dsimp only); rw [if_neg (by omega)]; omega, by show nk ≤ 10000000; omega, by show np ≤ 10000000; omega, by show 4 * nh ≤ 10000000; omega, by show 4 * nr ≤ 10000000; omega, by show 6 * nr ≤ 10000000; omega⟩, ⟨q3, q4, q5, q6, q9, q9a, by rw [mI_sI, if_pos ⟨rfl, rfl, rfl⟩]⟩, q10, q11, q12.lo lo, q13, q14, q15, q16⟩
  (try dsimp only)
  split
  · exact Nat.le_refl _
  · omega
theorem gk_all {ks : List Kd} {Pd : Kd → Prop} (h : ∀ κ ∈ ks, Pd κ) {i : Nat} (hi : i < ks.length) : Pd (gk ks i) := h _ (gk_mem hi)
theorem HD.hd {A : List Nm} {W : List Cls} {w : Nat} {br a b : Int32} {nq nk np nh nr : Nat} {own : Nm} {ks : List Kd} {κ : Kd} {bits : Int32} {M M' : Mem} {va vb : Int32} (h : HD A W w br nq nk np nh nr (own, ks, κ, bits, va, vb, [], []) 6 M) (e : ∀ f, 55 ≤ f → f ≤ 59 → mI M' f w (allM W).length = mI M f w (allM W).length) (e2 : ∀ k, mI M' 211 (2 * w + 1) k = mI M 211 (2 * w + 1) k) (e60 : mI M' 60 w (allM W).length = a) (e61 : mI M' 61 w (allM W).length = b) : cHd A w (W.length - 1) (allM W).length (own, ks, κ, bits, a, b, [], []) M' := by
  obtain ⟨-, -, ⟨q3, q4, q5, ⟨q6, q7, q8⟩, q9, -⟩, -, -, -, -, -, q15, q16⟩ := h
  unfold cHd
  rw [e 55 (by omega) (by omega), e 56 (by omega) (by omega), e 57 (by omega) (by omega), e 58 (by omega) (by omega), e 59 (by omega) (by omega)]
  exact ⟨q3, q4, q5, ⟨q6, q7, fun i hi => ⟨by rw [e2]; exact q8 i hi (Nat.lt_of_lt_of_le hi q7), q15.2.2.1 _ (gk_mem hi), q16 _ (gk_mem hi)⟩⟩, q9, e60, e61⟩
/-- numbers and words taken in one line -/
def PL1 (Inv : List Nm → Mem → Prop) : Prop := ∀ A A' M M', Inv A M → A <+: A' → A'.length < 41200 → Fr F_Reader_number M M' → Inv A' M'
theorem i_next {Inv : List Nm → Mem → Prop} (hI : PL1 Inv) {B : List Nm} {r n : Nat} {p : Nat → Int32} {to : Nat} {A : List Nm} {ts : List Tok} {Q : Mem → Prop} {M : Mem} (hR : RS B r n p to A ts M) (hi : Inv A M) (h1 : 1 < (hd ts).1)
    (hQ : ∀ A' M', A <+: A' → RS B r n p to A' ts.tail M' → Inv A' M' → Q M') : w_Words_next 0 Q M :=
  mf_w_Words_next (Q := fun M' => Fr F_Words_next M M' → Q M') (fun _ hf hp => hp hf) (c_rnext hR h1 (fun A' M' a b hf => hQ A' M' a b (hI A A' M M' hi a b.1.len (hf.sub (by rfl)))))
theorem i_number {Inv : List Nm → Mem → Prop} (hI : PL1 Inv) {B : List Nm} {r n : Nat} {p : Nat → Int32} {to : Nat} {A : List Nm} {ts : List Tok} {Q : Int32 → Mem → Prop} {X : Mem → Prop} {M : Mem} {lo hi' : Int32} (hR : RS B r n p to A ts M) (hi : Inv A M)
    (hQ : ∀ A' v ts' M', pNum lo hi' ts = .inr (v, ts') → A <+: A' → RS B r n p to A' ts' M' → Inv A' M' → Q v M') (hX : ∀ A' e M', pNum lo hi' ts = .inl e → A <+: A' → Thr B A' e M' → Inv A' M' → X M') : w_Reader_number 0 lo hi' Q X M :=
  mf_w_Reader_number (Q := fun v M' => Fr F_Reader_number M M' → Q v M') (X := fun M' => Fr F_Reader_number M M' → X M') (fun _ _ hf hp => hp hf) (fun _ hf hp => hp hf) (c_numberR hR (fun A' v ts' M' a b d hf => hQ A' v ts' M' a b d (hI A A' M M' hi b d.1.len hf)) (fun A' e M' a b c hf => hX A' e M' a b c (hI A A' M M' hi b c.1.len hf)))
theorem rulM_99 {br bits : Int32} {c : Cls} {own : Nm} {ks : List Kd} {κ : Kd} (h : rulM br c bits own ks κ = 99) : ks.length ≤ 6 ∧ c.2.2.2.2.2.length ≠ 12 := by
  unfold rulM at h
  split at h
  · omega
  split at h
  · omega
  split at h
  · omega
  split at h
  · omega
  split at h
  · omega
  split at h
  · omega
  rename_i z
  rw [Bool.or_eq_true, not_or, decide_eq_true_eq, decide_eq_true_eq] at z
  exact ⟨by omega, z.1⟩
theorem c_aMethod {B : List Nm} {r n : Nat} {p : Nat → Int32} {to : Nat} {A : List Nm} {l : List Tok} {W : List Cls} {w : Nat} {br : Int32} {nq nk np nh nr : Nat} {b : Nat → Nat} {Q X : Mem → Prop} {M0 M : Mem} {K : Nat × Nat × Nat × Nat × Nat × Nat} (hKO : KOk w K) (lns0 : List (List Tok)) (hR : RS B r n p to A l M) (hwd : isWd nMethod l = true) (hline : mI M 3 0 2 = Int32.ofNat (hd l).2.2.2) (hNB : ∀ x ∈ rln p n to, NB B x ∧ x ∈ lns0) (hCW : CW A W w br nq nk np nh nr M) (h22 : 22 ≤ W.length) (hBud : Bud K (l :: rln p n to) nq nk np nh nr) (htk : tk (l :: rln p n to) + 2 * (rln p n to).length + 3 ≤ 3100) (hez : Ez w b M0 M) (hb : ∀ f, b f ≤ bT (W.length - 1) (allF W).length (allM W).length nq nk np nh nr f)
    (hQ : ∀ A' W' to' l' M' nq' nk' np' nh' nr', runL br n (1, W, noM) (l :: rln p n to) = runL br n (1, W', noM) (l' :: rln p n to') → A <+: A' → RS B r n p to' A' l' M' → 1 ≤ (hd l').1 → mI M' 3 0 2 = Int32.ofNat (hd l').2.2.2 → CW A' W' w br nq' nk' np' nh' nr' M' → W'.length = W.length → (∃ x, W' = addM W x) → Ez w b M0 M' → Bud K (l' :: rln p n to') nq' nk' np' nh' nr' → (∀ x ∈ rln p n to', NB B x ∧ x ∈ lns0) → (rln p n to').length < (rln p n to).length → tk (l' :: rln p n to') ≤ tk (l :: rln p n to) → (nq ≤ nq' ∧ nk ≤ nk' ∧ np ≤ np' ∧ nh ≤ nh' ∧ nr ≤ nr') → Q M')
    (hX : ∀ A' e M', runL br n (1, W, noM) (l :: rln p n to) = .inl e → A <+: A' → Thr B A' e M' → Ez w b M0 M' → X M') : w_Reader_aMethod 0 Q X M := by
  obtain ⟨s1, s2, s3, s4, s5, s6, s7, s8⟩ := hCW.small h22 (hBud.toW hKO)
  have hwd' := of_decide_eq_true hwd
  have hnf : isWd nField l = false := decide_eq_false (fun q => by rw [hwd'.2] at q; exact absurd q.2 (by decide))
  have hbl : bLine br W l = (match pMethod l.tail with
    | .inl e => .inl e
    | .inr ((bits, own, ks, κ), _) => if rulM br (gc W (W.length - 1)) bits own ks κ = 99 then (if bits &&& 8 = 0 then .inr (2, W, (own, ks, κ, bits, 0, 0, [], []), [], [], [], none) else .inr (1, addM W (own, ks, κ, bits, 0, 0, [], []), noM)) else .inl (rulM br (gc W (W.length - 1)) bits own ks κ, (hd l).2.2.2)) := by
    unfold bLine; rw [hnf, hwd]; rfl
  have inl1 : ∀ e, pMethod l.tail = .inl e → runL br n (1, W, noM) (l :: rln p n to) = .inl e := fun e he => by rw [runL_1, hbl, he]
  have hlt := hd_tl (ts := l) (by omega)
  -- words up to the result
  have hIw : PW (fun A' M' => CW A' W w br nq nk np nh nr M' ∧ Ex w (fun _ => 10000000) M M') := fun A A' M1 M2 h hp hl hk => ⟨CW.pq ⟨s1, by omega, s4, s5, s6, s7, s8⟩ A A' M1 M2 h.1 hp hl hk.wq, h.2.wk hk⟩
  have bHle : ∀ f, bH (W.length - 1) (allM W).length f ≤ 10000000 := fun f => by
    unfold bH
    repeat' split
    all_goals omega
  have b7 : ∀ f, b f ≤ 10000000 := fun f => Nat.le_trans (hb f) (Nat.le_trans (bT_H ⟨by omega, by omega, s4, s5, s6, s7, s8⟩ f) (bHle f))
  have ezx : ∀ {M' : Mem}, Ex w (fun _ => 10000000) M M' → Ez w b M0 M' := fun x => hez.trans (x.1.mono b7)
  unfold w_Reader_aMethod
  refine k_next hIw hR ⟨hCW, Ex.rf w _ M⟩ (by omega) (fun A1 M1 p1 R1 i1 => ?_)
  refine k_flags hIw R1 i1 (fwI (i := 52) (nm := nStatic) (by decide +kernel)) (fwI (i := 69) (nm := nFinal) (by decide +kernel)) (fwI (i := 72) (nm := nPrivate) (by decide +kernel)) (fwI (i := 70) (nm := nAbstract) (by decide +kernel)) (fun A2 bits t2 M2 hp2 p2 R2 i2 => ?_)
  have q2 := p1.trans p2
  have hpm : ∀ x, pMethodT t2 = x → pMethod l.tail = (match x with
      | .inl e => .inl e
      | .inr ((own, ks, κ), t3) => .inr ((bits, own, ks, κ), t3)) := fun x hx => by
    unfold pMethod; rw [hp2]; dsimp only; rw [hx]; cases x <;> rfl
  have err : ∀ e, pMethodT t2 = .inl e → runL br n (1, W, noM) (l :: rln p n to) = .inl e := fun e he => inl1 e (by rw [hpm _ he])
  refine ⟨R2.hd.1.isK, ?_⟩
  by_cases cn : ¬ ((hd t2).1 = 2 ∨ (hd t2).1 = 3)
  · refine itn (fun q => cn (R2.isN.mp q)) (k_wrong hIw R2 i2 (fun M' th iv => hX A2 _ M' (err _ (by unfold pMethodT; rw [if_neg cn])) q2 th (ezx iv.2)))
  replace cn := Classical.not_not.mp cn
  refine itp (R2.isN.mpr cn) ?_
  obtain ⟨-, k2, k3⟩ := R2.hd.1.name cn
  rw [k2]
  have hpt : ∀ x, pSig t2.tail = x → pMethodT t2 = (match x with
      | .inl e => .inl e
      | .inr ((ks, κ), t3) => if (hd t3).1 = 0 then .inr (((hd t2).2.1, ks, κ), t3) else .inl (er t3)) := fun x hx => by
    unfold pMethodT pSigE; rw [if_pos cn, hx]
    cases x with
    | inl e => rfl
    | inr y =>
      obtain ⟨⟨ks, κ⟩, t3⟩ := y
      dsimp only
      by_cases c0 : (hd t3).1 = 0
      · rw [if_pos c0, if_pos c0]
      · rw [if_neg c0, if_neg c0]
  generalize hown : (hd t2).2.1 = own at k3 hpt
  have errS : ∀ e, pSig t2.tail = .inl e → runL br n (1, W, noM) (l :: rln p n to) = .inl e := fun e he => err e (by rw [hpt _ he])
  refine k_next hIw R2 i2 (by omega) (fun A3 M3 p3 R3 i3 => ?_)
  have hst3 : mI M3 3 0 17 = b2 false := i3.1.2.2.2.2.1.1
  have hl3 : mL M3 211 0 = 3100 := i3.1.2.2.2.2.1.2.2
  refine k_types hIw (strict := false) R3 i3 hl3 hst3 (fun A4 ks t4 M4 a4 p4 R4 L4 i4 => ?_) (fun A' e M' a4 p4 th iv => hX A' e M' (errS _ (by unfold pSig; rw [a4])) ((q2.trans p3).trans p4) th (ezx iv.2))
  refine mf_w_Reader_result (Q := fun v M' => ∃ A5 κ t5, pRes t4 = .inr (κ, t5) ∧ A4 <+: A5 ∧ kok A4 κ ∧ RS B r n p to A5 t5 M' ∧ (CW A5 W w br nq nk np nh nr M' ∧ Ex w (fun _ => 10000000) M M') ∧ v = kC A4 κ) (X := X) (fun v M5 hf5 hp5 => ?_) (fun _ _ h => h) (k_result hIw R4 i4 (fun A5 κ t5 M5 a5 p5 hκ R5 i5 => ⟨A5, κ, t5, a5, p5, hκ, R5, i5, rfl⟩) (fun A' e M' a5 p5 th iv => hX A' e M' (errS _ (by unfold pSig; rw [a4]; dsimp only; rw [a5])) (((q2.trans p3).trans p4).trans p5) th (ezx iv.2)))
  obtain ⟨A5, κ, t5, a5, p5, hκ, R5, i5, e5⟩ := hp5
  rw [e5]
  have q5 := ((q2.trans p3).trans p4).trans p5
  have hsg : pSig t2.tail = .inr ((ks, κ), t5) := by unfold pSig; rw [a4]; dsimp only; rw [a5]
  refine k_end hIw R5 i5 (fun h0 => ?_) (fun M' h0 th iv => hX A5 _ M' (err _ (by rw [hpt _ hsg]; dsimp only; rw [if_neg h0])) q5 th (ezx iv.2))
  have hpM : pMethod l.tail = .inr ((bits, own, ks, κ), t5) := by
    have := hpm _ (hpt _ hsg)
    rw [this]; dsimp only; rw [if_pos h0]
  have hrun : runL br n (1, W, noM) (l :: rln p n to) = match (if rulM br (gc W (W.length - 1)) bits own ks κ = 99 then (if bits &&& 8 = 0 then .inr (2, W, (own, ks, κ, bits, 0, 0, [], []), [], [], [], none) else .inr (1, addM W (own, ks, κ, bits, 0, 0, [], []), noM)) else .inl (rulM br (gc W (W.length - 1)) bits own ks κ, (hd l).2.2.2) : (Nat × Nat) ⊕ PSt) with
      | .inl e => .inl e
      | .inr st' => runL br n st' (rln p n to) := by rw [runL_1, hbl, hpM]; rfl
  have L5 := (L4.fr hf5).pre p5
  have hlk : ks.length < 4000 := by have := pTypes_len a4; have := R3.len; omega
  have hkd := pTypes_kd a4
  have hκ2 := pRes_kd a5
  have ho5 : own ∈ A5 := ((p3.trans p4).trans p5).subset k3
  rw [← nc_pre ((p3.trans p4).trans p5) k3, ← kC_pre p5 hκ]
  refine c_askMethod (b := fun _ => 10000000) (line := (hd l).2.2.2) R5.1 i5.1.1 i5.1.2.1 L5 hlk hkd (i5.2.2.1.trans hline) (by omega) ho5 (kok_pre p5 hκ) hκ2 (fun M' h99 th x6 => hX A5 _ M' (by rw [hrun, if_neg h99]) q5 th (ezx (i5.2.trans x6))) (fun h99 => ?_)
  rw [if_pos h99] at hrun
  have hk12 : ks.length ≤ 6 ∧ (gc W (W.length - 1)).2.2.2.2.2.length < 12 := by
    have h12' := (i5.1.2.1.2.1 (W.length - 1) (by omega)).2.1
    exact ⟨(rulM_99 h99).1, Nat.lt_of_le_of_ne h12' (rulM_99 h99).2⟩
  refine c_head R5 i5.1 h22 L5 hk12.1 hkd ho5 (kok_pre p5 hκ) hκ2 hk12.2 ⟨s4, s5, s6, s7, s8⟩ (fun d M6 R6 H6 z6 => ?_)
  have ez6 : Ez w b M0 M6 := (ezx i5.2).trans (z6.mono (fun f => Nat.le_trans (hb f) (bT_H ⟨by omega, by omega, s4, s5, s6, s7, s8⟩ f)))
  have L6' : LT A5 ks M6 := H6.2.2.2.2.2.2.2.2.1
  unfold w_Reader_aMethod_L134
  rw [L6'.1]
  refine itp (le_oN (Nat.le_refl _) (by omega)) ?_
  have hIn : PN (fun A M => HD A W w br nq nk np nh nr (own, ks, κ, bits, 0, 0, [], []) 6 M ∧ Ez w b M0 M) := fun A A' M M' h hp hl hf => ⟨HD.pn ⟨s1, by omega, s4, s5, s6, s7, s8⟩ A A' M M' h.1 hp hl hf, h.2.wq (FN_wq hf)⟩
  refine j_needLine hIn R6 ⟨H6, ez6⟩ (fun x hx => (hNB x hx).1) (fun A7 M7 e0 p7 th iv => hX A7 _ M7 ?_ (q5.trans p7) th iv.2) (fun A7 to7 l7 M7 e0 p7 R7 hln7 h17 iv => ?_)
  · rw [hrun, e0]
    by_cases c8 : bits &&& 8 = 0
    · rw [if_pos c8]; rfl
    · rw [if_neg c8]; rfl
  rw [e0] at hrun hBud htk hNB
  have hNB7 : ∀ x ∈ rln p n to7, NB B x ∧ x ∈ lns0 := fun x hx => hNB x (List.mem_cons_of_mem _ hx)
  have eTk : tk (l :: l7 :: rln p n to7) = l.length + tk (l7 :: rln p n to7) := rfl
  have eTk7 : tk (l7 :: rln p n to7) = l7.length + tk (rln p n to7) := rfl
  have eLn : (l7 :: rln p n to7).length = (rln p n to7).length + 1 := rfl
  have hc1 : W.length - 1 + 1 = W.length := by omega
  obtain ⟨q1, q2', q3, ⟨q10, q10a, q10b, q10c⟩, q11, q12, q13, q14, q15, q16⟩ := id iv.1
  by_cases c8 : ¬ bits &&& 8 = 0
  · -- an abstract method
    refine itn c8 ?_
    rw [if_neg c8] at hrun
    have hd7 : cHd A7 w (W.length - 1) (allM W).length (own, ks, κ, bits, 0, 0, [], []) M7 := iv.1.hd (fun _ _ _ => rfl) (fun _ => rfl) q3.2.2.2.2.2.1 q3.2.2.2.2.2.2
    have hmc : cMc A7 w nq nk np nh nr (allM W).length (own, ks, κ, bits, 0, 0, [], []) M7 := ⟨nq, nh, ⟨q10, q10a, by show nq + 0 ≤ nq; omega, by show 0 ≤ 80; omega, q10b, q10c, by show nh + 0 ≤ nh; omega, by show 0 ≤ 8; omega⟩, fun i hi => absurd hi (Nat.not_lt_zero i), fun i hi => absurd hi (Nat.not_lt_zero i)⟩
    have ms7 := q2'.fin hc1 (by omega) hk12.2 hd7 hmc
    obtain ⟨e1, -, -, -⟩ := addM_last (m := (own, ks, κ, bits, 0, 0, [], [])) hc1
    have hal : (allM (addM W (own, ks, κ, bits, 0, 0, [], []))).length = (allM W).length + 1 := by rw [e1]; simp
    obtain ⟨f1, f2, f3, f4, f5, f6⟩ := q11
    refine hQ A7 (addM W (own, ks, κ, bits, 0, 0, [], [])) to7 l7 M7 nq nk np nh nr (by rw [e0]; exact hrun) (q5.trans p7) R7 h17 hln7 ⟨?_, ms7, ⟨by rw [hal]; exact f1, f2, f3, f4, f5, f6⟩, q12, q13, by rw [hal]; have := hCW.2.2.2.2.2; omega⟩ (addM_len _ _) ⟨_, rfl⟩ iv.2 hBud.skip hNB7 (by rw [e0, eLn]; omega) (by rw [e0]; omega) ⟨Nat.le_refl _, Nat.le_refl _, Nat.le_refl _, Nat.le_refl _, Nat.le_refl _⟩
    rw [addM_len]
    exact ⟨q1.1.setM hc1, q1.2.1.setM hc1, q1.2.2⟩
  replace c8 := Classical.not_not.mp c8
  refine itp c8 ?_
  rw [if_pos c8] at hrun
  -- the room
  have hr2 : runL br n (1, W, noM) (l :: l7 :: rln p n to7) = match rLine W ((own, ks, κ, bits, 0, 0, [], []), [], [], [], none) l7 with
      | .inl e => .inl e
      | .inr st' => runL br n st' (rln p n to7) := hrun
  have hx7 : ∀ A' e M', rLine W ((own, ks, κ, bits, 0, 0, [], []), [], [], [], none) l7 = .inl e → A <+: A' → Thr B A' e M' → Ez w b M0 M' → X M' := fun A' e M' he => hX A' e M' (by rw [e0, hr2, he])
  refine c_isWd (v := 65) (nm := nRoom) R7 rfl ⟨by decide, by decide⟩ ?_
  cases cr : isWd nRoom l7 with
  | false =>
    have nr' : ¬ isWd nRoom l7 = true := by rw [cr]; decide
    exact itp (by decide) (k_wrong (Ex.pw (w := w) (b := fun _ => 10000000) (M := M7)) R7 (Ex.rf w _ M7) (fun M' th iv' => hx7 A7 _ M' (by unfold rLine pRoom; rw [if_neg nr']) (q5.trans p7) th (iv.2.trans (iv'.1.mono b7))))
  | true =>
  refine itn (by decide) ?_
  have hk7 := (of_decide_eq_true cr).1
  have hsm : W.length ≤ 51 ∧ (allM W).length ≤ 1000 ∧ nq ≤ 100000 ∧ nk ≤ 100000 ∧ np ≤ 100000 ∧ nh ≤ 100000 ∧ nr ≤ 100000 := ⟨s1, by omega, s4, s5, s6, s7, s8⟩
  have hIg : ∀ va vb : Int32, PL1 (fun A M => HD A W w br nq nk np nh nr (own, ks, κ, bits, va, vb, [], []) 6 M ∧ Ez w b M0 M ∧ mI M 3 0 2 = Int32.ofNat (hd l7).2.2.2) := fun va vb A A' M M' h hp hl hf => ⟨HD.pn hsm A A' M M' h.1 hp hl (hf.sub (by rfl)), h.2.1.wq (FN_wq (hf.sub (by rfl))), (hf.I (f := 3) (k := 2) rfl 0).trans h.2.2⟩
  refine i_next (hIg 0 0) R7 ⟨iv.1, iv.2, hln7⟩ (by omega) (fun A8 M8 p8 R8 i8 => ?_)
  have hpr : ∀ x, pNum 0 20 l7.tail = x → pRoom l7 = (match x with
      | .inl e => .inl e
      | .inr (a, t2) => match pNum 0 20 t2 with
        | .inl e => .inl e
        | .inr (b, t3) => if (hd t3).1 = 0 then .inr ((a, b), t3) else .inl (er t3)) := fun x hx => by
    unfold pRoom; rw [if_pos cr, hx]; cases x <;> rfl
  have g18 := i8.1.1.2.2.1
  refine ⟨w, g18, ?_⟩
  have m8 : mI M8 3 0 4 = Int32.ofNat (allM W).length := i8.1.2.2.2.2.2.2.2.1
  have tm : (Int32.ofNat (allM W).length).toNatClampNeg = (allM W).length := oN_tnc (by omega)
  obtain ⟨m21, m369, -⟩ := hCW.2.1.many h22 s1
  have hm381 : (allM W).length < 381 := by omega
  refine i_number (hIg 0 0) R8 i8 (fun A9 va t9 M9 a9 p9 R9 i9 => ?_) (fun A' e M' a9 p9 th iv' => hx7 A' e M' (by unfold rLine; rw [hpr _ a9]) (((q5.trans p7).trans p8).trans p9) th iv'.2.1)
  rw [m8, tm]
  have l55 : ∀ {A' : List Nm} {M' : Mem}, cMs A' W w 1 nq nk np nh nr M' → ∀ f, 55 ≤ f → f ≤ 65 → vp_in (Int32.ofNat (allM W).length) (mL M' f w) := fun h f x y => by rw [h.1.2.1 f x y]; exact (vp_oN (by omega)).mpr hm381
  have g19 : mR (sI M9 60 w (allM W).length va) 3 0 1 = some (5, w) := i9.1.1.2.2.1
  refine ⟨l55 i9.1.2.1 60 (by omega) (by omega), w, g19, ?_⟩
  have m9 : mI (sI M9 60 w (allM W).length va) 3 0 4 = Int32.ofNat (allM W).length := i9.1.2.2.2.2.2.2.2.1
  rw [m9, tm]
  have hbm : ∀ f, 55 ≤ f ∧ f ≤ 65 → b f ≤ (allM W).length := fun f q => Nat.le_trans (hb f) (by unfold bT; rw [if_neg (by omega), if_neg (by omega), if_pos q]; exact Nat.le_refl _)
  have i9' : HD A9 W w br nq nk np nh nr (own, ks, κ, bits, va, 0, [], []) 6 (sI M9 60 w (allM W).length va) ∧ Ez w b M0 (sI M9 60 w (allM W).length va) ∧ mI (sI M9 60 w (allM W).length va) 3 0 2 = Int32.ofNat (hd l7).2.2.2 := ⟨i9.1.s60 hsm, i9.2.1.w (hbm 60 (by omega)), i9.2.2⟩
  refine i_number (hIg va 0) (M := sI M9 60 w (allM W).length va) R9.w i9' (fun A10 vb t10 M10 a10 p10 R10 i10 => ?_) (fun A' e M' a10 p10 th iv' => hx7 A' e M' (by unfold rLine; rw [hpr _ a9]; dsimp only; rw [a10]) ((((q5.trans p7).trans p8).trans p9).trans p10) th iv'.2.1)
  have q10' := (((q5.trans p7).trans p8).trans p9).trans p10
  refine ⟨l55 i10.1.2.1 61 (by omega) (by omega), _, rfl, ?_⟩
  have i11 : HD A10 W w br nq nk np nh nr (own, ks, κ, bits, va, vb, [], []) 6 (sI M10 61 w (allM W).length vb) ∧ Ez w b M0 (sI M10 61 w (allM W).length vb) := ⟨i10.1.s61 hsm, i10.2.1.w (hbm 61 (by omega))⟩
  have R11 : RS B r n p to7 A10 t10 (sI M10 61 w (allM W).length vb) := R10.w
  have hpr2 : pRoom l7 = if (hd t10).1 = 0 then .inr ((va, vb), t10) else .inl (er t10) := by
    rw [hpr _ a9]; dsimp only; rw [a10]
  have hln11 : mI (sI M10 61 w (allM W).length vb) 3 0 2 = Int32.ofNat (hd l7).2.2.2 := i10.2.2
  generalize sI M10 61 w (allM W).length vb = M11 at i11 R11 hln11
  refine k_end (Inv := fun _ M' => Ex w (fun _ => 10000000) M11 M') Ex.pw R11 (Ex.rf w _ M11) (fun h0 => ?_) (fun M' h0 th iv' => hx7 A10 _ M' (by unfold rLine; rw [hpr2, if_neg h0]) q10' th (i11.2.trans (iv'.1.mono b7)))
  rw [if_pos h0] at hpr2
  obtain ⟨H11, z11⟩ := i11
  obtain ⟨y1, y2, y3, ⟨y10, y10a, y10b, y10c⟩, ⟨f1, f2, f3, f4, f5, f6⟩, y12, y13, y14, y15, y16⟩ := id H11
  have y15' : LT A10 ks M11 := y15
  refine ⟨w, y1.2.2.1, by rw [y14]; exact l55 y2 61 (by omega) (by omega), ?_⟩
  have y61 : mI M11 61 w (allM W).length = vb := y3.2.2.2.2.2.2
  rw [y14, tm, y15'.1, y61]
  have hrl : rLine W ((own, ks, κ, bits, 0, 0, [], []), [], [], [], none) l7 = if vb < Int32.ofNat (ks.length + (if bits &&& 1 = 0 then 1 else 0)) then .inl (13, (hd l7).2.2.2) else .inr (3, W, (own, ks, κ, bits, va, vb, [], []), [], [], [], none) := by
    unfold rLine; rw [hpr2]
  have j279 : ∀ s0 : Int32, Int32.ofNat ks.length + s0 = Int32.ofNat (ks.length + (if bits &&& 1 = 0 then 1 else 0)) → w_Reader_aMethod_j279 0 Q X s0 (Int32.ofNat ks.length) vb M11 := fun s0 hs0 => by
    unfold w_Reader_aMethod_j279
    rw [hs0]
    by_cases c13 : vb < Int32.ofNat (ks.length + (if bits &&& 1 = 0 then 1 else 0))
    · rw [if_pos c13] at hrl
      refine itn (fun z => absurd c13 (Int32.not_lt.mpr z)) ?_
      exact k_refuse (line := (hd l7).2.2.2) (rule := 13) (Ex.pw (w := w) (b := fun _ => 10000000) (M := M11)) R11.1 (Ex.rf w _ M11) hln11 (fun M' th iv' => hx7 A10 _ M' hrl q10' th (z11.trans (iv'.1.mono b7)))
    · rw [if_neg c13] at hrl
      refine itp (Int32.not_lt.mp c13) ⟨Or.inl rfl, _, rfl, ?_⟩
      have hr3 : runL br n (1, W, noM) (l :: l7 :: rln p n to7) = runL br n (3, W, (own, ks, κ, bits, va, vb, [], []), [], [], [], none) (rln p n to7) := by rw [hr2, hrl]
      have hK : K3 A10 W w br nq nk np nh nr nq nk np nh nr 0 ((own, ks, κ, bits, va, vb, [], []), [], [], [], none) (sI (sI (sI M11 3 0 5 0) 3 0 9 0) 3 0 14 0) := by
        refine ⟨y1.w3.w3.w3, ?_, ?_, ?_, f1, ?_, ?_, y14, Nat.le_refl _, Nat.le_refl _⟩
        · exact y2.lo (b := fun _ => 10000000) (((Lo.rf w _ M11).wo).wo).wo (by (try dsimp only); omega) (by (try dsimp only); omega) ⟨fun f _ _ => by (try dsimp only); omega, by (try dsimp only); omega, fun f _ _ => by (try dsimp only); omega, by (try dsimp only); omega, by (try dsimp only); omega, by (try dsimp only); omega, by (try dsimp only); omega, by (try dsimp only); omega⟩
        · exact H11.hd (fun f a c => by rw [mI_sI, if_neg (fun z => by omega), mI_sI, if_neg (fun z => by omega), mI_sI, if_neg (fun z => by omega)]) (fun _ => rfl) y3.2.2.2.2.2.1 y61
        · refine ⟨⟨⟨f2, f3, f4, f5, f6⟩, rfl, rfl, rfl⟩, ⟨y10, y10a, by show 0 ≤ 80; omega, y10b, y10c, by show 0 ≤ 8; omega⟩, ⟨fun i hi => absurd hi (Nat.not_lt_zero i), fun i hi => absurd hi (Nat.not_lt_zero i)⟩, ⟨⟨rfl, fun i hi => absurd hi (Nat.not_lt_zero i)⟩, Nat.le_refl _⟩, ⟨[], ⟨rfl, rfl⟩, ⟨rfl, fun i hi => absurd hi (Nat.not_lt_zero i)⟩, Nat.le_refl _⟩, rfl, fun f q => by cases q⟩
        · exact y12.lo (b := fun _ => 10000000) (((Lo.rf w _ M11).wo).wo).wo
        · exact y13.ez (w := w) (b := fun _ => 10000000) (((Ez.rf w _ M11).w3).w3).w3
      have hez12 : Ez w b M0 (sI (sI (sI M11 3 0 5 0) 3 0 9 0) 3 0 14 0) := ((z11.w3).w3).w3
      have hIq : PQ (fun A M => K3 A W w br nq nk np nh nr nq nk np nh nr 0 ((own, ks, κ, bits, va, vb, [], []), [], [], [], none) M ∧ Ez w b M0 M) := fun A A' M M' h hp hl hw => ⟨K3.pq hsm A A' M M' h.1 hp hl hw, h.2.wq hw⟩
      refine k_needLine hIq (M := sI (sI (sI M11 3 0 5 0) 3 0 9 0) 3 0 14 0) R11.s3.s3.s3 ⟨hK, hez12⟩ (fun x hx => (hNB7 x hx).1) (fun A12 M12 e12 p12 th iv' => hX A12 _ M12 (by rw [e0, hr3, e12]; rfl) (q10'.trans p12) th iv'.2) (fun A12 to12 l12 M12 e12 p12 R12 hln12 h112 iv' => ?_)
      rw [e12] at hr3
      have hBud12 : Bud K (l12 :: rln p n to12) nq nk np nh nr := by have := hBud.skip.skip; rw [e12] at this; exact this
      have eL12 : (rln p n to7).length = (rln p n to12).length + 1 := by rw [e12]; rfl
      have eT12 : tk (rln p n to7) = tk (l12 :: rln p n to12) := by rw [e12]
      have hnh0 : nh ≤ 8 * ((allM W).length - 21) := hCW.2.2.2.2.2
      refine ⟨_, c_body (b := b) (M0 := M0) h22 hk12.2 hnh0 ⟨s4, s5, s6, s7, s8⟩ (fun f => Nat.le_trans (hb f) (bT_Q ⟨by omega, by omega, by omega, s6⟩ f)) (hb 74) hKO lns0 ((rln p n to12).length + 1) A12 l12 to12 nq nk np nh nr 0 ((own, ks, κ, bits, va, vb, [], []), [], [], [], none) M12 (by omega) R12 h112 hln12 (fun x hx => hNB7 x (by rw [e12]; exact List.mem_cons_of_mem _ hx)) iv'.1 hBud12 (by omega) iv'.2 (fun A3 W3 to3 l3 M3 nq3 nk3 np3 nh3 nr3 z1 z2 z3 z4 z5 z6 z7 z7x z8 z9 z10 z11 z12 z13 => ?_) (fun A3 e M3 z1 z2 z3 z4 => hX A3 e M3 (by rw [e0, e12, hr3]; exact z1) ((q10'.trans p12).trans z2) z3 z4)⟩
      exact hQ A3 W3 to3 l3 M3 nq3 nk3 np3 nh3 nr3 (by rw [e0, e12, hr3]; exact z1) ((q10'.trans p12).trans z2) z3 z4 z5 z6 z7 z7x z8 z9 z10 (by rw [e0, eLn]; omega) (by rw [e0]; omega) z13
  by_cases c1 : bits &&& 1 = 0
  · refine itp c1 (j279 1 ?_)
    rw [if_pos c1, lit32 1, oN_add]
  · refine itn c1 (j279 0 ?_)
    rw [if_neg c1, lit32 0, oN_add]
