/-! B: a class's members in the works -/
/-- classes and fields that are new: not linked, not started -/
def cNw (c0 f0 : Nat) (W : List Cls) (w : Nat) (M : Mem) : Prop := (∀ c, c0 ≤ c → c < W.length → mI M 45 w c = 0 ∧ mI M 46 w c = 0 ∧ mI M 47 w c = 0 ∧ mI M 48 w c = 0) ∧ ∀ i, f0 ≤ i → i < (allF W).length → mI M 53 w i = 0 ∧ mI M 54 w i = 0
theorem cNw.lo {c0 f0 : Nat} {W : List Cls} {w : Nat} {b : Nat → Nat} {M M' : Mem} (h : cNw c0 f0 W w M) (hx : Lo w b M M') (h1 : ∀ f, 45 ≤ f → f ≤ 48 → W.length ≤ b f) (h2 : (allF W).length ≤ b 53) (h3 : (allF W).length ≤ b 54) : cNw c0 f0 W w M' := by
  refine ⟨fun c a d => ?_, fun i a d => ?_⟩
  · rw [(hx.1 45 rfl).1 w c (Or.inr (by have := h1 45 (by omega) (by omega); omega)), (hx.1 46 rfl).1 w c (Or.inr (by have := h1 46 (by omega) (by omega); omega)), (hx.1 47 rfl).1 w c (Or.inr (by have := h1 47 (by omega) (by omega); omega)), (hx.1 48 rfl).1 w c (Or.inr (by have := h1 48 (by omega) (by omega); omega))]
    exact h.1 c a d
  · rw [(hx.1 53 rfl).1 w i (Or.inr (by omega)), (hx.1 54 rfl).1 w i (Or.inr (by omega))]; exact h.2 i a d
theorem cNw.same {c0 f0 : Nat} {W W' : List Cls} {w : Nat} {M : Mem} (h : cNw c0 f0 W w M) (h1 : W'.length = W.length) (h2 : (allF W').length = (allF W).length) : cNw c0 f0 W' w M := ⟨fun c a d => h.1 c a (by omega), fun i a d => h.2 i a (by omega)⟩
theorem k_nextLine {Inv : List Nm → Mem → Prop} (hI : PQ Inv) {B : List Nm} {r n to : Nat} {p : Nat → Int32} {A : List Nm} {ts : List Tok} {Q : Int32 → Mem → Prop} {M : Mem} (hR : RS B r n p to A ts M) (hi : Inv A M) (hB : ∀ l ∈ rln p n to, NB B l)
    (h0 : ∀ A' M', rln p n to = [] → A <+: A' → NC B A' M' → Inv A' M' → Q 0 M')
    (h1 : ∀ A' to' l M', rln p n to = l :: rln p n to' → A <+: A' → RS B r n p to' A' l M' → mI M' 3 0 2 = Int32.ofNat (hd l).2.2.2 → 1 ≤ (hd l).1 → Inv A' M' → Q 1 M') : w_Reader_nextLine 0 Q M :=
  mf_w_Reader_nextLine (Q := fun v M' => Fr F_Reader_nextLine M M' → Q v M') (fun _ _ hf hp => hp hf) (c_nextLine hR hB (fun A' M' a b c hf => h0 A' M' a b c.1 (hI A A' M M' hi b c.1.len (Wq.of hf))) (fun A' to' l M' a b c d e hf => h1 A' to' l M' a b c d e (hI A A' M M' hi b c.1.len (Wq.of hf))))
theorem bT_mono {c nf nm nq nk np nh nr nf' nm' nq' nk' np' nh' nr' f : Nat} (h1 : nf ≤ nf') (h2 : nm ≤ nm') (h3 : nq ≤ nq') (h4 : nk ≤ nk') (h5 : np ≤ np') (h6 : nh ≤ nh') (h7 : nr ≤ nr') : bT c nf nm nq nk np nh nr f ≤ bT c nf' nm' nq' nk' np' nh' nr' f := by
  unfold bT
  repeat' split
  all_goals omega
theorem bT_big {c nf nm nq nk np nh nr : Nat} (h : nf ≤ 1000 ∧ c ≤ 1000 ∧ nm ≤ 1000 ∧ nq ≤ 100000 ∧ nk ≤ 100000 ∧ np ≤ 100000 ∧ nh ≤ 100000 ∧ nr ≤ 100000) (f : Nat) : bT c nf nm nq nk np nh nr f ≤ 10000000 := by
  unfold bT
  repeat' split
  all_goals omega
def bFd (c nf f : Nat) : Nat := if f = 42 then c else if (49 ≤ f ∧ f ≤ 54) ∨ f = 511 then nf else 10000000
theorem bT_F {c nf nm nq nk np nh nr : Nat} (h : nf ≤ 1000 ∧ c ≤ 1000 ∧ nm ≤ 1000 ∧ nq ≤ 100000 ∧ nk ≤ 100000 ∧ np ≤ 100000 ∧ nh ≤ 100000 ∧ nr ≤ 100000) (f : Nat) : bT c nf nm nq nk np nh nr f ≤ bFd c nf f := by
  unfold bT bFd
  repeat' split
  all_goals omega
theorem bFd_M {c nf nm nq nk np nh nr : Nat} (h : nm ≤ 1000 ∧ nq ≤ 100000 ∧ nk ≤ 100000 ∧ np ≤ 100000 ∧ nh ≤ 100000 ∧ nr ≤ 100000) : bM nm nq nk np nh nr (bFd c nf) := by
  refine ⟨fun f a b => ?_, ?_, fun f a b => ?_, ?_, ?_, ?_, ?_, ?_⟩
  · unfold bFd; rw [if_neg (by omega), if_neg (by omega)]; omega
  · show 6 * nm ≤ 10000000; omega
  · unfold bFd; rw [if_neg (by omega), if_neg (by omega)]; omega
  · show nk ≤ 10000000; omega
  · show np ≤ 10000000; omega
  · show 4 * nh ≤ 10000000; omega
  · show 4 * nr ≤ 10000000; omega
  · show 6 * nr ≤ 10000000; omega
theorem bLine_wd {br : Int32} {W : List Cls} {l : List Tok} {n : Nat} {ls : List (List Tok)} (h1 : isWd nField l = false) (h2 : isWd nMethod l = false) (h3 : isWd nEnd l = false) : runL br n (1, W, noM) (l :: ls) = .inl (er l) := by
  rw [runL_1]; unfold bLine; rw [h1, h2, h3]; rfl
theorem addF_all {W : List Cls} {c : Nat} {f : Fld} (hc : c + 1 = W.length) : allM (addF W c f) = allM W ∧ (allF (addF W c f)).length = (allF W).length + 1 := by
  have h1 : W = W.take c ++ [gc W c] := by rw [← take_gc (by omega), hc, List.take_length]
  have hl : (W.take c).length = c := by rw [List.length_take]; omega
  have h2 : addF W c f = W.take c ++ [((gc W c).1, (gc W c).2.1, (gc W c).2.2.1, (gc W c).2.2.2.1, (gc W c).2.2.2.2.1 ++ [f], (gc W c).2.2.2.2.2)] := by
    refine List.ext_getElem? (fun i => ?_)
    unfold addF
    rw [List.getElem?_set]
    by_cases e : c = i
    · subst e
      rw [if_pos rfl, if_pos (by omega), List.getElem?_append_right (by omega), hl]; simp
    · rw [if_neg e]
      by_cases e2 : i < c
      · rw [List.getElem?_append_left (by omega), List.getElem?_take, if_pos e2]
      · rw [List.getElem?_eq_none (by omega), List.getElem?_eq_none (by rw [List.length_append, hl]; simp; omega)]
  refine ⟨?_, by rw [(addF_last hc).1]; simp⟩
  rw [h2, allM_app]
  conv => rhs; rw [h1, allM_app]
  simp [allM]
theorem cMs.setF {A : List Nm} {W : List Cls} {w e nq nk np nh nr c : Nat} {f : Fld} {M : Mem} (h : cMs A W w e nq nk np nh nr M) (hc : c + 1 = W.length) : cMs A (addF W c f) w e nq nk np nh nr M := by
  obtain ⟨a, b, d⟩ := h
  have eg : ∀ j, (gc (addF W c f) j).2.2.2.2.2 = (gc W j).2.2.2.2.2 := fun j => by
    rw [gc_addF (by omega)]
    by_cases q : j = c
    · rw [if_pos q, q]
    · rw [if_neg q]
  have em : ∀ j, j ≤ W.length → moff (addF W c f) j = moff W j := fun j => by
    induction j with
    | zero => intro _; rfl
    | succ j ih =>
      intro hj
      rw [moff_succ (by rw [addF_len]; omega), moff_succ (by omega), ih (by omega), eg]
  refine ⟨a, fun j hj => ?_, fun j hj k hk => ?_⟩
  · rw [addF_len] at hj ⊢
    rw [em j (by omega), eg]; exact b j hj
  · rw [addF_len] at hj
    rw [eg] at hk
    have : gmt (gc (addF W c f) j) k = gmt (gc W j) k := by show (gc (addF W c f) j).2.2.2.2.2.getD k _ = _; rw [eg]
    rw [em j (by omega), this]; exact d j hj k hk
/-- the members of a class, to its end -/
theorem c_members {B : List Nm} {r n : Nat} {p : Nat → Int32} {w : Nat} {br : Int32} {b : Nat → Nat} {c0 f0 : Nat} {Q : Int32 → Mem → Prop} {X : Mem → Prop} {M0 : Mem} {K : Nat × Nat × Nat × Nat × Nat × Nat} (hKO : KOk w K) (lns0 : List (List Tok)) : ∀ d A l to W nq nk np nh nr M, (rln p n to).length < d → RS B r n p to A l M → mI M 3 0 2 = Int32.ofNat (hd l).2.2.2 → (∀ x ∈ rln p n to, NB B x ∧ x ∈ lns0) → CW A W w br nq nk np nh nr M → cNw c0 f0 W w M → 22 ≤ W.length → Bud K (l :: rln p n to) nq nk np nh nr → tk (l :: rln p n to) + 2 * (rln p n to).length + 3 ≤ 3100 → Ez w b M0 M → (∀ f, b f ≤ bT (W.length - 1) (allF W).length (allM W).length nq nk np nh nr f) →
    (∀ A' W' M' nq' nk' np' nh' nr', runL br n (1, W, noM) (l :: rln p n to) = .inr W' → A <+: A' → NC B A' M' → CW0 A' W' w br nq' nk' np' nh' nr' M' → cNw c0 f0 W' w M' → W'.length = W.length → Ez w b M0 M' → Bud K [] nq' nk' np' nh' nr' → Q 0 M') →
    (∀ A' W' to' l' M' nq' nk' np' nh' nr', runL br n (1, W, noM) (l :: rln p n to) = runL br n (0, W', noM) (l' :: rln p n to') → A <+: A' → RS B r n p to' A' l' M' → 1 ≤ (hd l').1 → mI M' 3 0 2 = Int32.ofNat (hd l').2.2.2 → CW0 A' W' w br nq' nk' np' nh' nr' M' → cNw c0 f0 W' w M' → W'.length = W.length → Ez w b M0 M' → Bud K (l' :: rln p n to') nq' nk' np' nh' nr' → (∀ x ∈ rln p n to', NB B x ∧ x ∈ lns0) → (rln p n to').length < (rln p n to).length → tk (l' :: rln p n to') ≤ tk (l :: rln p n to) → (∀ f, b f ≤ bT (W'.length - 1) (allF W').length (allM W').length nq' nk' np' nh' nr' f) → Q 1 M') →
    (∀ A' e M', runL br n (1, W, noM) (l :: rln p n to) = .inl e → A <+: A' → Thr B A' e M' → Ez w b M0 M' → X M') → w_Reader_aClass_L437 0 Q X d M := by
  intro d
  induction d with
  | zero => intro A l to W nq nk np nh nr M h; omega
  | succ d ih =>
    intro A l to W nq nk np nh nr M hlen hR hline hNB hCW hNw h22 hBud htk hez hb hQ0 hQ1 hX
    obtain ⟨s1, s2, s3, s4, s5, s6, s7, s8⟩ := hCW.small h22 (hBud.toW hKO)
    have hsm : (allF W).length ≤ 1000 ∧ W.length - 1 ≤ 1000 ∧ (allM W).length ≤ 1000 ∧ nq ≤ 100000 ∧ nk ≤ 100000 ∧ np ≤ 100000 ∧ nh ≤ 100000 ∧ nr ≤ 100000 := ⟨by omega, by omega, by omega, s4, s5, s6, s7, s8⟩
    have hIq : ∀ {W' : List Cls} {nq' nk' np' nh' nr' : Nat}, (W'.length ≤ 51 ∧ (allM W').length ≤ 1000 ∧ nq' ≤ 100000 ∧ nk' ≤ 100000 ∧ np' ≤ 100000 ∧ nh' ≤ 100000 ∧ nr' ≤ 100000) → (allF W').length ≤ 1000 → PQ (fun A M => CW A W' w br nq' nk' np' nh' nr' M ∧ cNw c0 f0 W' w M ∧ Ez w b M0 M) := fun hs hs2 A A' M M' h hp hl hw => ⟨CW.pq hs A A' M M' h.1 hp hl hw, h.2.1.lo (b := fun _ => 10000000) ((Lo.rf w _ M).wk hw) (fun f _ _ => by (try dsimp only); omega) (by (try dsimp only); omega) (by (try dsimp only); omega), h.2.2.wq hw⟩
    have hI0 := hIq (W' := W) (nq' := nq) (nk' := nk) (np' := np) (nh' := nh) (nr' := nr) ⟨s1, by omega, s4, s5, s6, s7, s8⟩ (by omega)
    have hc1 : W.length - 1 + 1 = W.length := by omega
    have eTk : ∀ x y, tk (x :: y) = x.length + tk y := fun _ _ => rfl
    unfold w_Reader_aClass_L437
    refine c_isWd (v := 68) (nm := nEnd) hR rfl ⟨by decide, by decide⟩ ?_
    cases w1 : isWd nEnd l with
    | true =>
      have hk1 := of_decide_eq_true w1
      have nf : isWd nField l = false := decide_eq_false (fun q => by rw [hk1.2] at q; exact absurd q.2 (by decide))
      have nm : isWd nMethod l = false := decide_eq_false (fun q => by rw [hk1.2] at q; exact absurd q.2 (by decide))
      have hrun : runL br n (1, W, noM) (l :: rln p n to) = if (hd l.tail).1 = 0 then runL br n (0, W, noM) (rln p n to) else .inl (er l.tail) := by
        rw [runL_1]; unfold bLine; rw [nf, nm, w1]
        by_cases c0 : (hd l.tail).1 = 0
        · rw [if_pos c0, if_pos c0]; rfl
        · rw [if_neg c0, if_neg c0]; rfl
      refine itn (by decide) (k_next hI0.pw hR ⟨hCW, hNw, hez⟩ (by omega) (fun A1 M1 p1 R1 i1 => ?_))
      refine k_end hI0.pw R1 i1 (fun h0 => ?_) (fun M' h0 th iv => hX A1 _ M' (by rw [hrun, if_neg h0]) p1 th iv.2.2)
      rw [if_pos h0] at hrun
      refine k_nextLine hI0 R1 i1 (fun x hx => (hNB x hx).1) (fun A2 M2 e0 p2 nc2 iv => ⟨Or.inl rfl, ?_⟩) (fun A2 to2 l2 M2 e0 p2 R2 hln2 h12 iv => ⟨Or.inr rfl, ?_⟩)
      · refine hQ0 A2 W M2 nq nk np nh nr (by rw [hrun, e0]; rfl) (p1.trans p2) nc2 ⟨⟨_, iv.1.1⟩, iv.1.2⟩ iv.2.1 rfl iv.2.2 ?_
        have := hBud.skip
        rw [e0] at this; exact this
      · have hB2 := hBud.skip
        rw [e0] at hB2
        refine hQ1 A2 W to2 l2 M2 nq nk np nh nr (by rw [hrun, e0]) (p1.trans p2) R2 h12 hln2 ⟨⟨_, iv.1.1⟩, iv.1.2⟩ iv.2.1 rfl iv.2.2 hB2 (fun x hx => hNB x (by rw [e0]; exact List.mem_cons_of_mem _ hx)) (by rw [e0]; simp) (by rw [eTk l, e0]; omega) hb
    | false =>
    refine itp (by decide) (c_isWd (v := 63) (nm := nField) hR rfl ⟨by decide, by decide⟩ ?_)
    cases w2 : isWd nField l with
    | true =>
      have hk2 := of_decide_eq_true w2
      refine itn (by decide) ?_
      have hsf : bLine br W l = (match sField br W l.tail (hd l).2.2.2 with
          | .inl e => .inl e
          | .inr W' => .inr (1, W', noM)) := by
        unfold bLine sField; rw [w2]
        show (match pField l.tail with | .inl e => _ | .inr ((bits, own, κ, v, has), _) => _) = _
        cases hpf : pField l.tail with
        | inl e => rfl
        | inr y =>
          obtain ⟨⟨bits, own, κ, v, has⟩, t⟩ := y
          dsimp only
          by_cases c99 : rulF br (gc W (W.length - 1)) bits own κ has = 99
          · rw [if_pos c99, if_pos c99]
          · rw [if_neg c99, if_neg c99]
      have bF42 : bT (W.length - 1) (allF W).length (allM W).length nq nk np nh nr 42 ≤ W.length - 1 := Nat.le_refl _
      refine mf_w_Reader_field (Q := fun M' => Fr F_Reader_field M M' → w_Reader_needLine 0 (fun M55 => (w_Reader_aClass_L437 0 Q X d) M55) X M') (X := X) (fun _ hf hp => hp hf) (fun _ _ hp => hp) (c_field (b := bFd (W.length - 1) (allF W).length) hR (by omega) hCW.1 hline hc1 (by omega) (Nat.le_refl _) (fun f a q => by unfold bFd; rw [if_neg (by omega), if_pos (by omega)]; exact Nat.le_refl _) (fun A1 e M1 he p1 th x1 => hX A1 e M1 (by rw [runL_1, hsf, he]) p1 th (hez.trans (x1.1.mono (fun f => Nat.le_trans (hb f) (bT_F hsm f))))) (fun A1 W1 t1 M1 he p1 R1 C1 x1 hl1 ⟨ff, hff⟩ h5354 hf => ?_))
      have hal := addF_all (f := ff) hc1
      have lo1 := x1.1.1
      obtain ⟨c1, Ms, ⟨ct1, ct2, ct3, ct4, ct5, ct6⟩, Rm, Rd, hnh⟩ := id hCW
      subst hff
      have hW1 : (addF W (W.length - 1) ff).length = W.length := hl1
      have ez1 : Ez w b M0 M1 := hez.trans (x1.1.mono (fun f => Nat.le_trans (hb f) (bT_F hsm f)))
      have nw1 : cNw c0 f0 (addF W (W.length - 1) ff) w M1 := by
        have o := hNw.lo lo1 (fun f _ _ => (by unfold bFd; rw [if_neg (by omega), if_neg (by omega)]; omega)) (Nat.le_refl _) (Nat.le_refl _)
        refine ⟨fun c a e => o.1 c a (by omega), fun i a e => ?_⟩
        rw [hal.2] at e
        by_cases q : i < (allF W).length
        · exact o.2 i a q
        · rw [show i = (allF W).length by omega]; exact h5354
      have CW1 : CW A1 (addF W (W.length - 1) ff) w br nq nk np nh nr M1 := ⟨by rw [hW1]; exact C1, ((Ms.lo lo1 (by show W.length ≤ 10000000; omega) (by show W.length ≤ 10000000; omega) (bFd_M ⟨by omega, s4, s5, s6, s7, s8⟩)).pre p1).setF hc1, ⟨by rw [hal.1]; exact (hf.I (f := 5) (k := 26) rfl w).trans ct1, (hf.I (f := 5) (k := 39) rfl w).trans ct2, (hf.I (f := 5) (k := 47) rfl w).trans ct3, (hf.I (f := 5) (k := 49) rfl w).trans ct4, (hf.I (f := 5) (k := 51) rfl w).trans ct5, (hf.I (f := 5) (k := 53) rfl w).trans ct6⟩, Rm.lo lo1, Rd.ez x1.1, by rw [hal.1]; exact hnh⟩
      have hrun : runL br n (1, W, noM) (l :: rln p n to) = runL br n (1, addF W (W.length - 1) ff, noM) (rln p n to) := by rw [runL_1, hsf, he]
      refine k_needLine (hIq (W' := addF W (W.length - 1) ff) ⟨by omega, by rw [hal.1]; omega, s4, s5, s6, s7, s8⟩ (by rw [hal.2]; omega)) R1 ⟨CW1, nw1, ez1⟩ (fun x hx => (hNB x hx).1) (fun A2 M2 e0 p2 th iv => hX A2 _ M2 (by rw [hrun, e0]; rfl) (p1.trans p2) th iv.2.2) (fun A2 to2 l2 M2 e0 p2 R2 hln2 h12 iv => ?_)
      have hB2 := hBud.skip
      rw [e0] at hrun hB2
      have eL2 : (rln p n to).length = (rln p n to2).length + 1 := by rw [e0]; rfl
      have eT2 : tk (l :: rln p n to) = l.length + tk (l2 :: rln p n to2) := by rw [eTk l, e0]
      refine ih A2 l2 to2 (addF W (W.length - 1) ff) nq nk np nh nr M2 (by omega) R2 hln2 (fun x hx => hNB x (by rw [e0]; exact List.mem_cons_of_mem _ hx)) iv.1 iv.2.1 (by omega) hB2 (by omega) iv.2.2 (fun f => ?_) (fun A' W' M' nq' nk' np' nh' nr' z1 z2 z3 z4 z5 z6 z7 z8 => hQ0 A' W' M' nq' nk' np' nh' nr' (by rw [e0, hrun]; exact z1) ((p1.trans p2).trans z2) z3 z4 z5 (z6.trans hW1) z7 z8) (fun A' W' to' l' M' nq' nk' np' nh' nr' z1 z2 z3 z4 z5 z6 z7 z8 z9 z10 z11 z12 z13 z14 => hQ1 A' W' to' l' M' nq' nk' np' nh' nr' (by rw [e0, hrun]; exact z1) ((p1.trans p2).trans z2) z3 z4 z5 z6 z7 (z8.trans hW1) z9 z10 z11 (by omega) (by omega) z14) (fun A' e M' z1 z2 z3 z4 => hX A' e M' (by rw [e0, hrun]; exact z1) ((p1.trans p2).trans z2) z3 z4)
      rw [hW1, hal.1, hal.2]
      exact Nat.le_trans (hb f) (bT_mono (by omega) (Nat.le_refl _) (Nat.le_refl _) (Nat.le_refl _) (Nat.le_refl _) (Nat.le_refl _) (Nat.le_refl _))
    | false =>
    refine itp (by decide) (c_isWd (v := 64) (nm := nMethod) hR rfl ⟨by decide, by decide⟩ ?_)
    cases w3 : isWd nMethod l with
    | false =>
      refine itp (by decide) (k_wrong hI0.pw hR ⟨hCW, hNw, hez⟩ (fun M' th iv => hX A _ M' (bLine_wd w2 w3 w1) (List.prefix_refl _) th iv.2.2))
    | true =>
      refine itn (by decide) ?_
      refine c_aMethod (M0 := M) (b := bT (W.length - 1) (allF W).length (allM W).length nq nk np nh nr) hKO lns0 hR w3 hline hNB hCW h22 hBud htk (Ez.rf w _ M) (fun f => Nat.le_refl _) (fun A1 W1 to1 l1 M1 nq1 nk1 np1 nh1 nr1 z1 z2 z3 z4 z5 z6 z7 z7x z8 z9 z10 z11 z12 z13 => ?_) (fun A1 e M1 z1 z2 z3 z4 => hX A1 e M1 z1 z2 z3 (hez.trans (z4.mono hb)))
      obtain ⟨xm, hxm⟩ := z7x
      have hal := addM_last (m := xm) hc1
      have haM : (allM W1).length = (allM W).length + 1 := by rw [hxm, hal.1]; simp
      have haF : (allF W1).length = (allF W).length := by rw [hxm, hal.2.2.1]
      have nw1 : cNw c0 f0 W1 w M1 := (hNw.lo z8.1 (fun f _ _ => by unfold bT; rw [if_neg (by omega), if_neg (by omega), if_neg (by omega), if_neg (by omega), if_neg (by omega), if_neg (by omega), if_neg (by omega), if_neg (by omega), if_neg (by omega), if_neg (by omega)]; omega) (Nat.le_refl _) (Nat.le_refl _)).same z7 haF
      refine ih A1 l1 to1 W1 nq1 nk1 np1 nh1 nr1 M1 (by omega) z3 z5 z10 z6 nw1 (by omega) z9 (by omega) (hez.trans (z8.mono hb)) (fun f => ?_) (fun A' W' M' nq' nk' np' nh' nr' y1 y2 y3 y4 y5 y6 y7 y8 => hQ0 A' W' M' nq' nk' np' nh' nr' (z1.trans y1) (z2.trans y2) y3 y4 y5 (y6.trans z7) y7 y8) (fun A' W' to' l' M' nq' nk' np' nh' nr' y1 y2 y3 y4 y5 y6 y7 y8 y9 y10 y11 y12 y13 y14 => hQ1 A' W' to' l' M' nq' nk' np' nh' nr' (z1.trans y1) (z2.trans y2) y3 y4 y5 y6 y7 (y8.trans z7) y9 y10 y11 (by omega) (by omega) y14) (fun A' e M' y1 y2 y3 y4 => hX A' e M' (z1.trans y1) (z2.trans y2) y3 y4)
      rw [z7, haF, haM]
      exact Nat.le_trans (hb f) (bT_mono (Nat.le_refl _) (by omega) z13.1 z13.2.1 z13.2.2.1 z13.2.2.2.1 z13.2.2.2.2)
