/-! B: a class in the works -/
theorem CW0.pq {W : List Cls} {w : Nat} {br : Int32} {nq nk np nh nr : Nat} (hs : W.length ≤ 51 ∧ (allM W).length ≤ 1000 ∧ nq ≤ 100000 ∧ nk ≤ 100000 ∧ np ≤ 100000 ∧ nh ≤ 100000 ∧ nr ≤ 100000) : PQ (fun A M => CW0 A W w br nq nk np nh nr M) := fun A A' M M' h hp hl hw => by
  obtain ⟨s1, s2, s3, s4, s5, s6, s7⟩ := hs
  obtain ⟨⟨c, h1⟩, h2, ⟨c1, c2, c3, c4, c5, c6⟩, h4, h5, h6⟩ := h
  have lo : Lo w (fun _ => 10000000) M M' := (Lo.rf w _ M).wk hw
  have ez : Ez w (fun _ => 10000000) M M' := (Ez.rf w _ M).wq hw
  exact ⟨⟨c, C4.pq A A' M M' h1 hp hl hw⟩, (h2.lo lo (by (try dsimp only); omega) (by (try dsimp only); omega) ⟨fun f _ _ => by (try dsimp only); omega, by (try dsimp only); omega, fun f _ _ => by (try dsimp only); omega, by (try dsimp only); omega, by (try dsimp only); omega, by (try dsimp only); omega, by (try dsimp only); omega, by (try dsimp only); omega⟩).pre hp, ⟨(hw.1.I (f := 5) (k := 26) rfl w).trans c1, (hw.1.I (f := 5) (k := 39) rfl w).trans c2, (hw.1.I (f := 5) (k := 47) rfl w).trans c3, (hw.1.I (f := 5) (k := 49) rfl w).trans c4, (hw.1.I (f := 5) (k := 51) rfl w).trans c5, (hw.1.I (f := 5) (k := 53) rfl w).trans c6⟩, h4.lo lo, h5.ez ez, h6⟩
theorem CW0.small {A : List Nm} {W : List Cls} {w : Nat} {br : Int32} {nq nk np nh nr : Nat} {ls : List (List Tok)} {M : Mem} (h : CW0 A W w br nq nk np nh nr M) (hB : BudW w ls nq nk np nh nr) : W.length ≤ 51 ∧ (allM W).length ≤ 381 ∧ (allF W).length ≤ 240 ∧ nq ≤ 100000 ∧ nk ≤ 100000 ∧ np ≤ 100000 ∧ nh ≤ 100000 ∧ nr ≤ 100000 := by
  obtain ⟨⟨c, h1⟩, h2, -, -, -, h6⟩ := h
  have h51 := h1.1.1.1.2.2.1
  have hm := moff_le (W := W) (fun c hc => (h2.2.1 c hc).2) W.length (Nat.le_refl _)
  rw [moff_all] at hm
  obtain ⟨l1, l2, -⟩ := L_le w
  obtain ⟨b1, b2', b3, b4, b5⟩ := hB
  have hF := foff_le (W := W) (fun j hj => (h1.2.1.2.1 j hj).2) W.length (Nat.le_refl _)
  rw [foff_all] at hF
  refine ⟨h51, by omega, by omega, by omega, by omega, by omega, by omega, ?_⟩
  by_cases z : w = 0
  · have := b4 z; omega
  · have := b5 z; omega
/-- rules 2, 4, 11 of a class's line -/
theorem c_classRules {B A : List Nm} {W : List Cls} {w c line : Nat} {br bits : Int32} {own par : Nm} {fs : List Nm} {b : Nat → Nat} {Q : Int32 → Mem → Prop} {X : Mem → Prop} {M : Mem} (hN : NC B A M) (hC : C4 A W w c br M) (hL : NL A (par :: fs) M) (hl : mI M 3 0 2 = Int32.ofNat line) (ho : own ∈ A) (hfl : fs.length < 3000) (hb : bits = 0 ∨ bits = 1 ∨ bits = 2 ∨ bits = 3 ∨ bits = 4 ∨ bits = 5 ∨ bits = 6 ∨ bits = 7)
    (hX : ∀ M', rulC br W bits own par fs ≠ 99 → Thr B A (rulC br W bits own par fs, line) M' → Ex w b M M' → X M')
    (hQ : rulC br W bits own par fs = (if 4 < fs.length ∨ W.length = 51 then 12 else 99) → ∀ d, w_Reader_aClass_L223 0 Q X (d + 1) bits (nc A own) (Int32.ofNat (fs.length + 1)) M) :
    ∃ i18, (mR M 3 0 1) = some (5, i18) ∧ w_World_find i18 (nc A own) (fun r20 M19 => if r20 < 0 then (if (bits &&& (4 : Int32)) = 0 then (w_Reader_aClass_j147 0 Q X bits (nc A own) (0 : Int32) M19) else (w_Reader_aClass_j147 0 Q X bits (nc A own) (1 : Int32) M19)) else (w_Works_refuse 0 (2 : Int32) (mI M19 3 0 2) (fun i88 M87 => i88 = 0 ∧ X M87) M19)) M := by
  obtain ⟨hcl, -, g1, g2, g4⟩ := id hC
  have hA := hN.len
  have ref : ∀ rule M1, M1 = M → rulC br W bits own par fs = rule → rule ≠ 99 → w_Works_refuse 0 (Int32.ofNat rule) (mI M1 3 0 2) (fun i M' => i = 0 ∧ X M') M1 := fun rule M1 e1 e2 e3 => by
    subst e1
    refine k_refuse (Ex.pw (w := w) (b := b) (M := M1)) hN (Ex.rf w b M1) hl (fun M' t q => ?_)
    rw [← e2] at t e3
    exact hX M' e3 t q
  obtain ⟨lp, hpA⟩ := hL.2.2 0 (by simp)
  have lp : mI M 211 0 0 = nc A par := lp
  have hpA : par ∈ A := hpA
  refine ⟨w, g1, c_find hcl.1 ho ?_⟩
  have hfnd : fnd W own = none → w_Reader_aClass_j220 0 Q X bits (nc A own) M ∨ True := fun _ => Or.inr trivial
  have j220 : fnd W own = none → (brk br 0 && wfC bits par) = false → w_Reader_aClass_j220 0 Q X bits (nc A own) M := fun q1 q2 => by
    have hr : rulC br W bits own par fs = if decide (par = own) || dupL own par [] fs then 11 else if 4 < fs.length ∨ W.length = 51 then 12 else 99 := by
      unfold rulC; rw [q1, q2]; rfl
    refine c_dup hL (by omega) ho hfl (fun z => ref 11 M rfl (by rw [hr, z]; rfl) (by decide)) (fun z d => hQ (by rw [hr, z]; rfl) d)
  cases hf : fnd W own with
  | some k =>
    have hk := fnd_lt hf
    have := hcl.1.1.2.2.1
    refine itn (oN_nonneg (by omega)) (ref 2 M rfl ?_ (by decide))
    unfold rulC; rw [hf]; rfl
  | none =>
    refine itp (by decide) ?_
    have k220 := j220 hf
    have hwf := wfC_eq (par := par) hb
    have j189 : ∀ s0 : Int32, (s0 = 0 ∧ wfC bits par = false ∨ s0 = 1 ∧ wfC bits par = true) → w_Reader_aClass_j189 0 Q X bits (nc A own) s0 M := fun s0 hs => by
      unfold w_Reader_aClass_j189
      rcases hs with ⟨s1, s2⟩ | ⟨s1, s2⟩
      · exact itp s1 (k220 (by rw [s2, Bool.and_false]))
      · refine itn (by rw [s1]; decide) ⟨w, g1, c_asks (rule := 4) (bit := 0) (by simp) ?_⟩
        rw [g4]
        cases cb : brk br 0 with
        | false => exact itp rfl (k220 (by rw [cb, Bool.false_and]))
        | true => exact itn (by decide) (ref 4 M rfl (by unfold rulC; rw [hf, cb, s2]; rfl) (by decide))
    have j184 : wfC bits par = true → w_Reader_aClass_j184 0 Q X bits (nc A own) M := fun z => by
      unfold w_Reader_aClass_j184; exact j189 1 (Or.inr ⟨rfl, z⟩)
    have j188 : wfC bits par = false → w_Reader_aClass_j188 0 Q X bits (nc A own) M := fun z => by
      unfold w_Reader_aClass_j188; exact j189 0 (Or.inl ⟨rfl, z⟩)
    have i81 := nc_lit hN (i := 81) (x := nThing) (nm := par) rfl hpA
    have j147 : ∀ s0 : Int32, (s0 = 0 ∧ bits &&& 4 = 0 ∨ s0 = 1 ∧ ¬ bits &&& 4 = 0) → w_Reader_aClass_j147 0 Q X bits (nc A own) s0 M := fun s0 hs => by
      have j169 : (decide (¬ bits &&& 1 = 0) && decide (¬ bits = 1)) = false → (decide (¬ bits &&& 4 = 0) && decide (¬ bits &&& 2 = 0)) = false → w_Reader_aClass_j169 0 Q X bits (nc A own) s0 M := fun q1 q2 => by
        unfold w_Reader_aClass_j169
        rw [q1, Bool.false_or] at hwf
        rcases hs with ⟨s1, s2⟩ | ⟨s1, s2⟩
        · exact itp s1 (j188 (by rw [hwf, decide_eq_false (p := ¬ bits &&& 4 = 0) (fun z => z s2)]; rfl))
        · rw [decide_eq_true s2, Bool.true_and] at q2 hwf
          rw [q2, Bool.false_or] at hwf
          refine itn (by rw [s1]; decide) ⟨by rw [hL.2.1]; exact (vp_oN (a := 0) (by omega)).mpr (by omega), ?_⟩
          have e0 : (0 : Int32).toNatClampNeg = 0 := rfl
          rw [e0, lp]
          by_cases ct : par = nThing
          · exact itp (i81.mpr ct) (j188 (by rw [hwf]; exact decide_eq_false (fun z => z ct)))
          · exact itn (fun z => ct (i81.mp z)) (j184 (by rw [hwf]; exact decide_eq_true ct))
      have j159 : (decide (¬ bits &&& 1 = 0) && decide (¬ bits = 1)) = false → w_Reader_aClass_j159 0 Q X bits (nc A own) s0 M := fun q1 => by
        unfold w_Reader_aClass_j159
        rcases hs with ⟨s1, s2⟩ | ⟨s1, s2⟩
        · exact itp s1 (j169 q1 (by rw [decide_eq_false (p := ¬ bits &&& 4 = 0) (fun z => z s2)]; rfl))
        · refine itn (by rw [s1]; decide) ?_
          by_cases c2 : bits &&& 2 = 0
          · exact itp c2 (j169 q1 (by rw [decide_eq_false (p := ¬ bits &&& 2 = 0) (fun z => z c2), Bool.and_false]))
          · exact itn c2 (j184 (by rw [hwf, decide_eq_true s2, decide_eq_true c2]; simp))
      unfold w_Reader_aClass_j147
      by_cases c1 : bits &&& 1 = 0
      · exact itp c1 (j159 (by rw [decide_eq_false (p := ¬ bits &&& 1 = 0) (fun z => z c1)]; rfl))
      · refine itn c1 ?_
        by_cases c2 : bits = 1
        · exact itp c2 (j159 (by rw [decide_eq_false (p := ¬ bits = 1) (fun z => z c2), Bool.and_false]))
        · exact itn c2 (j184 (by rw [hwf, decide_eq_true c1, decide_eq_true c2]; rfl))
    by_cases c4 : bits &&& 4 = 0
    · exact itp c4 (j147 0 (Or.inl ⟨rfl, c4⟩))
    · exact itn c4 (j147 1 (Or.inr ⟨rfl, c4⟩))
/-- bounds of a world's classes -/
def bA (c nf nm nq nk np nh nr f : Nat) : Nat := if f = 38 then 4 * c else if 36 ≤ f ∧ f ≤ 48 then c else bT c nf nm nq nk np nh nr f
theorem bA_T {c nf nm nq nk np nh nr f : Nat} (h : c ≤ 1000) : bA c nf nm nq nk np nh nr f ≤ bT c nf nm nq nk np nh nr f := by
  unfold bA
  by_cases e : f = 38
  · rw [if_pos e, e]; show 4 * c ≤ 10000000; omega
  rw [if_neg e]
  by_cases e2 : 36 ≤ f ∧ f ≤ 48
  · rw [if_pos e2]
    unfold bT
    by_cases e3 : f = 42 ∨ f = 44
    · rw [if_pos e3]; exact Nat.le_refl _
    · rw [if_neg e3, if_neg (by omega), if_neg (by omega), if_neg (by omega), if_neg (by omega), if_neg (by omega), if_neg (by omega), if_neg (by omega), if_neg (by omega), if_neg (by omega)]; omega
  · rw [if_neg e2]; exact Nat.le_refl _
theorem bA_C {c nf nm nq nk np nh nr : Nat} (h : nf ≤ 1000 ∧ c ≤ 1000 ∧ nm ≤ 1000 ∧ nq ≤ 100000 ∧ nk ≤ 100000 ∧ np ≤ 100000 ∧ nh ≤ 100000 ∧ nr ≤ 100000) (f : Nat) : bA c nf nm nq nk np nh nr f ≤ bC c f := by
  unfold bA bC
  by_cases e : f = 38
  · rw [if_pos e, if_pos e]; exact Nat.le_refl _
  rw [if_neg e, if_neg e]
  by_cases e2 : 36 ≤ f ∧ f ≤ 48
  · rw [if_pos e2, if_pos e2]; exact Nat.le_refl _
  · rw [if_neg e2, if_neg e2]; exact bT_big h f
theorem bA_mono {c c' nf nm nq nk np nh nr nf' nm' nq' nk' np' nh' nr' f : Nat} (h0 : c ≤ c') (h1 : nf ≤ nf') (h2 : nm ≤ nm') (h3 : nq ≤ nq') (h4 : nk ≤ nk') (h5 : np ≤ np') (h6 : nh ≤ nh') (h7 : nr ≤ nr') : bA c nf nm nq nk np nh nr f ≤ bA c' nf' nm' nq' nk' np' nh' nr' f := by
  unfold bA
  by_cases e : f = 38
  · rw [if_pos e, if_pos e]; omega
  rw [if_neg e, if_neg e]
  by_cases e2 : 36 ≤ f ∧ f ≤ 48
  · rw [if_pos e2, if_pos e2]; exact h0
  · rw [if_neg e2, if_neg e2]
    have : bT c nf nm nq nk np nh nr f = bT c' nf nm nq nk np nh nr f := by
      have hn : ¬ (f = 42 ∨ f = 44) := by omega
      unfold bT; rw [if_neg hn, if_neg hn]
    rw [this]; exact bT_mono h1 h2 h3 h4 h5 h6 h7
