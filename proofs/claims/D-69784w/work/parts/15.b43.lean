theorem B1.lens {G : List Sl} {A : List Nm} {W : List Cls} {w : Nat} {br : Int32} {L t : List Tok} {l : Nat} {fs : List Nm} {M0 M : Mem} (h : B1 G A W w br L t l fs M0 M) : A.length ≤ 200000 ∧ W.length ≤ 51 := ⟨h.1.1.1.2.2.1, h.1.2.1.1.1.1.2.2.1⟩
theorem noCls_ne {ts t2 : List Tok} {nm : Nm} (h : pCls ts = .inr (nm, t2)) (hL : ∀ t ∈ ts, t.1 = 2 → t.2.1 ≠ []) (hne : ts ≠ []) : nm ≠ [] := by
  obtain ⟨a, b⟩ := pCls_mem h
  cases ts with
  | nil => exact absurd rfl hne
  | cons x y => rw [← b]; exact hL x List.mem_cons_self a
set_option maxRecDepth 4000 in
theorem ct_classLine {G : List Sl} {A : List Nm} {W : List Cls} {w : Nat} {br : Int32} {L ts : List Tok} {Q X : Mem → Prop} {M : Mem} (hG : Ga G) (hs : sFr ∈ G) (hTG : TG G M) (hz : lz L) (hLl : L.length ≤ 5000) (hLn : ∀ t ∈ L, t.1 = 2 → t.2.1 ≠ []) (h : TQ A L ts M) (hne : ts ≠ []) (hC : Cx1 A W w br M) (h51 : mI M 11 0 51 = Int32.ofNat 99) (hrow : rl M sFr ≤ 20000)
    (hX : ∀ e M', pClass ts = .inl e → ThT e M' → Cx1 A W w br M' → GF G [sFr] M M' → LoT w W.length M M' → rl M' sFr ≤ 20000 → X M')
    (hQ0 : ∀ bits own par fs t5 M', pClass ts = .inr ((bits, own, par, fs), t5) → rulC br W bits own par fs < 99 → mI M' 11 0 51 = Int32.ofNat (rulC br W bits own par fs) → Cx1 A W w br M' → GF G [sFr] M M' → LoT w W.length M M' → rl M' sFr ≤ 20000 → Q M')
    (hQ1 : ∀ bits own par fs t5 M', pClass ts = .inr ((bits, own, par, fs), t5) → rulC br W bits own par fs = 99 → mI M' 11 0 51 = Int32.ofNat 99 → Cx1 A (W ++ [(own, par, fs, bits, [], [])]) w br M' → (mI M' 135 w W.length = 0 ∧ mI M' 136 w W.length = 0 ∧ mI M' 137 w W.length = 0 ∧ mI M' 138 w W.length = 0) → mI M' 11 0 53 = Int32.ofNat W.length → mI M' 11 0 52 = 1 → GF G [sFr] M M' → LoT w W.length M M' → rl M' sFr ≤ 20000 → Q M') : w_Model_classLine 0 Q X M := by
  have hdrop : ∀ {t : List Tok} {M1 : Mem}, TQ A L t M1 → ∀ x ∈ t, x.1 = 2 → x.2.1 ≠ [] := fun {t M1} q x hx => by
    obtain ⟨-, k, -, e, -⟩ := q
    rw [e] at hx
    exact hLn x (List.mem_of_mem_drop hx)
  refine ct_classFlags hz h hne (fun bits t1 M1 n hpf hq1 hne1 hfr1 => ?_)
  have hpc : pClass ts = match pClassT t1 with
      | .inl e => .inl e
      | .inr ((own, par, fs), t5) => .inr ((bits, own, par, fs), t5) := by
    unfold pClass; rw [hpf]
    all_goals (try dsimp only)
    all_goals (cases pClassT t1 <;> rfl)
  rw [hpc] at hX hQ0 hQ1
  have rr := rd_fr hfr1 hG (by rfl) hs
  have hB1 : B1 G A W w br L t1 99 [] M M1 := ⟨⟨hq1, hC.fr hfr1, (hfr1.I (f := 11) (k := 51) rfl 0).trans h51, (GF.rf hTG).fr hfr1 hG, Nat.zero_le _, by rw [rr.2]; exact hrow, (fun f hf => absurd hf (by simp)), fun k hk => absurd hk (Nat.not_lt_zero k)⟩, (LoT.rf w _ M).fr hfr1⟩
  clear hpf hq1 hfr1 rr
  unfold w_Model_classLine_L4
  refine itp rfl ?_
  have k9 := hB1.1.1.1.2.1 (9, nClass) (by simp [kF])
  simp only [] at k9
  rw [k9.1]
  refine mf_w_Model_needWord (Q := fun M' => isWd nClass t1 = true ∧ TQ A L t1.tail M') (X := fun M' => isWd nClass t1 = false ∧ ThT (er t1) M') (fun M2 hf2 hp2 => ?_) (fun M2 hf2 hp2 => hX _ M2 (by unfold pClassT; rw [if_neg (by rw [hp2.1]; decide)]) hp2.2 (hB1.1.2.1.fr hf2) (hB1.1.2.2.2.1.fr hf2 hG) (hB1.2.fr hf2) (hB1.rw hf2 hG hs)) (ct_needWord hB1.1.1 hne1 k9.2 (fun M' a b => ⟨a, b⟩) (fun M' a b => ⟨a, b⟩))
  obtain ⟨cw, hq2⟩ := hp2
  have hB2 := hB1.step hG hs hf2 hq2
  have hne2 : t1.tail ≠ [] := tl_ne hB1.1.1 hz hne1 (by rw [(of_decide_eq_true cw).1]; decide)
  unfold pClassT at hX hQ0 hQ1
  rw [if_pos cw] at hX hQ0 hQ1
  -- its name
  refine mf_w_Model_className (Q := fun v M' => ∃ nm t2, pCls t1.tail = .inr (nm, t2) ∧ nm ∈ A ∧ TQ A L t2 M' ∧ v = nc A nm) (X := fun M' => ∃ e, pCls t1.tail = .inl e ∧ ThT e M') (fun v M3 hf3 hp3 => ?_) (fun M3 hf3 hp3 => ?_) (ct_className hB2.1.1 hne2 (fun nm t2 M' a b c => ⟨nm, t2, a, b, c, rfl⟩) (fun e M' a b => ⟨e, a, b⟩))
  rotate_left
  · obtain ⟨e, a, b⟩ := hp3
    exact hX e M3 (by simp only [a]) b (hB2.1.2.1.fr hf3) (hB2.1.2.2.2.1.fr hf3 hG) (hB2.2.fr hf3) (hB2.rw hf3 hG hs)
  obtain ⟨own, t2, a3, ho, hq3, e3⟩ := hp3
  subst e3
  have hB3 := hB2.step hG hs hf3 hq3
  have hne3 : t2 ≠ [] := by rw [pCls_tail a3]; exact tl_ne hB2.1.1 hz hne2 (by rw [(pCls_mem a3).1]; decide)
  have hon := noCls_ne a3 (hdrop hB2.1.1) hne2
  simp only [a3] at hX hQ0 hQ1
  -- a colon
  refine mf_w_Model_need (Q := fun M' => (hd t2).1 = 58 ∧ TQ A L t2.tail M') (X := fun M' => (hd t2).1 ≠ 58 ∧ ThT (er t2) M') (fun M4 hf4 hp4 => ?_) (fun M4 hf4 hp4 => hX (er t2) M4 (by simp only [show pSign 58 t2 = .inl (er t2) from if_neg hp4.1]) hp4.2 (hB3.1.2.1.fr hf4) (hB3.1.2.2.2.1.fr hf4 hG) (hB3.2.fr hf4) (hB3.rw hf4 hG hs)) (ct_need (b := 58) hB3.1.1 hne3 (by omega) (fun M' a b => ⟨a, b⟩) (fun M' a b => ⟨a, b⟩))
  obtain ⟨c58, hq4⟩ := hp4
  have hB4 := hB3.step hG hs hf4 hq4
  have hne4 : t2.tail ≠ [] := tl_ne hB3.1.1 hz hne3 (by omega)
  simp only [show pSign 58 t2 = .inr ((), t2.tail) from if_pos c58] at hX hQ0 hQ1
  -- its parent
  refine mf_w_Model_className (Q := fun v M' => ∃ nm t3, pCls t2.tail = .inr (nm, t3) ∧ nm ∈ A ∧ TQ A L t3 M' ∧ v = nc A nm) (X := fun M' => ∃ e, pCls t2.tail = .inl e ∧ ThT e M') (fun v M5 hf5 hp5 => ?_) (fun M5 hf5 hp5 => ?_) (ct_className hB4.1.1 hne4 (fun nm t3 M' a b c => ⟨nm, t3, a, b, c, rfl⟩) (fun e M' a b => ⟨e, a, b⟩))
  rotate_left
  · obtain ⟨e, a, b⟩ := hp5
    exact hX e M5 (by simp only [a]) b (hB4.1.2.1.fr hf5) (hB4.1.2.2.2.1.fr hf5 hG) (hB4.2.fr hf5) (hB4.rw hf5 hG hs)
  obtain ⟨par, t3, a5, hp, hq5, e5⟩ := hp5
  subst e5
  have hB5 := hB4.step hG hs hf5 hq5
  have hne5 : t3 ≠ [] := by rw [pCls_tail a5]; exact tl_ne hB4.1.1 hz hne4 (by rw [(pCls_mem a5).1]; decide)
  have hpn := noCls_ne a5 (hdrop hB4.1.1) hne4
  simp only [a5] at hX hQ0 hQ1
  have hAl := hB5.lens
  have hW51 := hAl.2
  refine ct_classOf hB5.1.2.1.2.1 hB5.1.2.1.1.1 ho ?_
  -- the faces, and the end
  have faces : ∀ (b2' b4 b11 b12 : Bool) M9, b2' = (fnd W own).isSome → b4 = (brk br 0 && wfC bits par) → b11 = decide (par = own) → b12 = decide (W.length = 51) → B1 G A W w br L t3 (lst (lst (lst (lst 99 2 b2') 4 b4) 11 b11) 12 b12) [] M M9 → w_Model_classLine_L240 0 Q X (t3.length + 1) bits (nc A own) (nc A par) (Int32.ofNat 0) M9 := by
    intro b2' b4 b11 b12 M9 e2 e4 e11 e12 hB9
    have hl9 : lst (lst (lst (lst 99 2 b2') 4 b4) 11 b11) 12 b12 < 1000 := lst_le (lst_le (lst_le (lst_le (by omega) (by omega)) (by omega)) (by omega)) (by omega)
    have hl99 : ∀ {l r : Nat} {b : Bool}, l ≤ 99 → r ≤ 99 → lst l r b ≤ 99 := fun {l r b} x y => by unfold lst; split <;> omega
    have h99 : ∀ fs, lst (lst (lst (lst (lst 99 2 b2') 4 b4) 11 b11) 12 b12) 11 (dupL own par [] fs) ≤ 99 := fun fs => hl99 (hl99 (hl99 (hl99 (hl99 (by omega) (by omega)) (by omega)) (by omega)) (by omega)) (by omega)
    have hrul : ∀ fs : List Nm, lst (lst (lst (lst (lst (lst 99 2 b2') 4 b4) 11 b11) 12 b12) 11 (dupL own par [] fs)) 12 (decide (4 < fs.length)) = rulC br W bits own par fs := fun fs => by
      rw [lst_fin, e2, e4, e11, e12]
      unfold rulC
      have : (decide (4 < fs.length) || decide (W.length = 51)) = decide (4 < fs.length ∨ W.length = 51) := by simp
      rw [this]
      simp only [decide_eq_true_eq]
    have h12 : ∀ fs : List Nm, lst (lst (lst (lst (lst (lst 99 2 b2') 4 b4) 11 b11) 12 b12) 11 (dupL own par [] fs)) 12 (decide (4 < fs.length)) = 99 → W.length < 51 := fun fs q => by
      rw [hrul] at q
      unfold rulC at q
      repeat' split at q
      all_goals first | omega | skip
    have hlt3 : t3.length ≤ 5000 := by
      obtain ⟨-, k, -, e, -⟩ := hB5.1.1
      rw [e, List.length_drop]; omega
    refine ct_classFaces hG hs hz hLl ho hp hl9 (t3.length + 1) [] t3 M9 (by omega) (by simp; omega) hne5 ?_ (fun fs' t' M' q1 q2 q3 q4 => ?_) (fun fs' t' M' q0 q1 q2 q3 q4 => ?_) (fun e M' q1 q2 q3 q4 q5 q6 => hX e M' (by simp only [q1]) q2 q3 q4 q5 q6)
    · have : lst (lst (lst (lst (lst 99 2 b2') 4 b4) 11 b11) 12 b12) 11 (dupL own par [] []) = lst (lst (lst (lst 99 2 b2') 4 b4) 11 b11) 12 b12 := by simp [lst, dupL]
      rw [this]; exact hB9
    · have hh0 : (hd t').1 = 0 := pFaces_end q1
      simp only [q1] at hX hQ0 hQ1
      refine ct_classEnd hG hs ho hon hp hpn q3 (lst_le hl9 (by omega)) q4 q2 (h12 fs') (fun M2 c _ _ _ _ _ => absurd hh0 c) (fun M2 c d e f g lo rw9 => ?_) (fun M2 c d e f g i j k lo rw9 => ?_) (h99 fs')
      · rw [hrul] at d e
        exact hQ0 bits own par fs' t' M2 rfl d e f g lo rw9
      · rw [hrul] at d e
        have : rulC br W bits own par fs' = 99 := by
          have := h99 fs'
          have x := hl99 (r := 12) (b := decide (4 < fs'.length)) this (by omega)
          rw [hrul] at x; omega
        rw [this] at e
        exact hQ1 bits own par fs' t' M2 rfl this e f g i j k lo rw9
    · refine ct_classEnd hG hs ho hon hp hpn q3 (lst_le hl9 (by omega)) q4 q2 (h12 fs') (fun M2 c a b d lo rw9 => hX _ M2 (by simp only [q1]) a b d lo rw9) (fun M2 c => absurd c q0) (fun M2 c => absurd c q0) (h99 fs')
  have j194 : ∀ (b2' b4 : Bool) M6, b2' = (fnd W own).isSome → b4 = (brk br 0 && wfC bits par) → B1 G A W w br L t3 (lst 99 2 b2') [] M M6 → w_Model_classLine_j194 0 Q X bits (nc A own) (nc A par) (b2 b4) 4 M6 := by
    intro b2' b4 M6 e2 e4 hB6
    unfold w_Model_classLine_j194
    refine hB6.asks (rule := 4) hG (lst_le (by omega) (by omega)) (by omega) (fun M7 hB7 => ?_)
    have j211 : ∀ b11 : Bool, b11 = decide (par = own) → w_Model_classLine_j211 0 Q X bits (nc A own) (nc A par) (b2 b11) 11 M7 := by
      intro b11 e11
      unfold w_Model_classLine_j211
      refine hB7.asks (rule := 11) hG (lst_le (lst_le (by omega) (by omega)) (by omega)) (by omega) (fun M8 hB8 => ⟨w, hB8.1.2.1.2.1, ?_⟩)
      rw [hB8.1.2.1.1.1.1.1]
      have j234 : ∀ b12 : Bool, b12 = decide (W.length = 51) → w_Model_classLine_j234 0 Q X bits (nc A own) (nc A par) (b2 b12) 12 M8 := by
        intro b12 e12
        unfold w_Model_classLine_j234
        refine hB8.asks (rule := 12) hG (lst_le (lst_le (lst_le (by omega) (by omega)) (by omega)) (by omega)) (by omega) (fun M9 hB9 => ⟨t3.length + 1, ?_⟩)
        exact faces b2' b4 b11 b12 M9 e2 e4 e11 e12 hB9
      by_cases c : W.length = 51
      · exact itp (by rw [c]; rfl) (j234 true (decide_eq_true c).symm)
      · exact itn (ne_oN (b := 51) c (by omega) (by omega)) (j234 false (decide_eq_false c).symm)
    by_cases c : par = own
    · exact itp (by rw [c]) (j211 true (decide_eq_true c).symm)
    · exact itn (fun q => c ((nc_inj (by omega) hp ho).mp q)) (j211 false (decide_eq_false c).symm)
  have j144 : ∀ b2' : Bool, b2' = (fnd W own).isSome → w_Model_classLine_j144 0 Q X bits (nc A own) (nc A par) (b2 b2') 2 M5 := by
    intro b2' e2
    unfold w_Model_classLine_j144
    refine hB5.asks (rule := 2) hG (by omega) (by omega) (fun M6 hB6 => ?_)
    refine ct_isOff (bit := 0) hB6.1.2.1 ?_
    have y : (brk br 0 && wfC bits par) = true → w_Model_classLine_j189 0 Q X bits (nc A own) (nc A par) 4 M6 := fun q => by
      unfold w_Model_classLine_j189
      exact j194 b2' true M6 e2 q.symm hB6
    have z : (brk br 0 && wfC bits par) = false → w_Model_classLine_j193 0 Q X bits (nc A own) (nc A par) 4 M6 := fun q => by
      unfold w_Model_classLine_j193
      exact j194 b2' false M6 e2 q.symm hB6
    cases cb : brk br 0 with
    | false => exact itn (by decide) (z (by rw [cb]; rfl))
    | true =>
      refine itp (by decide) ?_
      rw [cb, Bool.true_and] at y z
      have k8 := hB6.1.1.1.2.1 (8, nThing) (by simp [kF])
      simp only [] at k8
      have j168 : (bits &&& 1 = 0 ∨ bits = 1) → w_Model_classLine_j168 0 Q X bits (nc A own) (nc A par) 4 M6 := fun h1 => by
        unfold w_Model_classLine_j168
        have w1 : (decide (¬ bits &&& 1 = 0) && decide (¬ bits = 1)) = false := by
          rcases h1 with q | q
          · rw [decide_eq_false (fun x => x q)]; rfl
          · rw [decide_eq_false (p := ¬ bits = 1) (fun x => x q), Bool.and_false]
        unfold wfC at y z
        rw [w1, Bool.false_or] at y z
        by_cases c6 : bits = 6
        · exact itp c6 (y (by rw [decide_eq_true c6]; rfl))
        · rw [decide_eq_false c6, Bool.false_or] at y z
          refine itn c6 ?_
          by_cases c4 : bits &&& 4 = 0
          · exact itp c4 (z (by rw [decide_eq_false (p := ¬ bits &&& 4 = 0) (fun x => x c4)]; rfl))
          · rw [decide_eq_true c4, Bool.true_and] at y z
            refine itn c4 ?_
            rw [k8.1]
            by_cases ct : par = nThing
            · exact itp (by rw [ct]) (z (decide_eq_false (fun x => x ct)))
            · exact itn (fun q => ct ((nc_inj (by omega) hp k8.2).mp q)) (y (decide_eq_true ct))
      by_cases c1 : bits &&& 1 = 0
      · exact itp c1 (j168 (Or.inl c1))
      · refine itn c1 ?_
        by_cases c2 : bits = 1
        · exact itp c2 (j168 (Or.inr c2))
        · refine itn c2 (y ?_)
          unfold wfC
          rw [decide_eq_true c1, decide_eq_true c2]; rfl
  cases hf : fnd W own with
  | none => exact itp (by decide) (j144 false (by rw [hf]; rfl))
  | some k =>
    have := fnd_lt hf
    exact itn (oN_nonneg (by omega)) (j144 true (by rw [hf]; rfl))
