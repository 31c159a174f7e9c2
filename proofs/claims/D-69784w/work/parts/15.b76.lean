/-! B: a method in the works -/
/-- lines, words and numbers taken, but no types -/
abbrev FN : Nat := F_Reader_needLine ||| F_Reader_number
def PN (Inv : List Nm → Mem → Prop) : Prop := ∀ A A' M M', Inv A M → A <+: A' → A'.length < 41200 → Fr FN M M' → Inv A' M'
theorem j_needLine {Inv : List Nm → Mem → Prop} (hI : PN Inv) {B : List Nm} {r n to : Nat} {p : Nat → Int32} {A : List Nm} {ts : List Tok} {Q X : Mem → Prop} {M : Mem} (hR : RS B r n p to A ts M) (hi : Inv A M) (hB : ∀ l ∈ rln p n to, NB B l)
    (h0 : ∀ A' M', rln p n to = [] → A <+: A' → Thr B A' (1, n) M' → Inv A' M' → X M')
    (h1 : ∀ A' to' l M', rln p n to = l :: rln p n to' → A <+: A' → RS B r n p to' A' l M' → mI M' 3 0 2 = Int32.ofNat (hd l).2.2.2 → 1 ≤ (hd l).1 → Inv A' M' → Q M') : w_Reader_needLine 0 Q X M :=
  mf_w_Reader_needLine (Q := fun M' => Fr F_Reader_needLine M M' → Q M') (X := fun M' => Fr F_Reader_needLine M M' → X M') (fun _ hf hp => hp hf) (fun _ hf hp => hp hf) (c_needLine hR hB (fun A' M' a b c hf => h0 A' M' a b c (hI A A' M M' hi b c.1.len (hf.sub (by rfl)))) (fun A' to' l M' a b c d e hf => h1 A' to' l M' a b c d e (hI A A' M M' hi b c.1.len (hf.sub (by rfl)))))
theorem j_next {Inv : List Nm → Mem → Prop} (hI : PN Inv) {B : List Nm} {r n : Nat} {p : Nat → Int32} {to : Nat} {A : List Nm} {ts : List Tok} {Q : Mem → Prop} {M : Mem} (hR : RS B r n p to A ts M) (hi : Inv A M) (h1 : 1 < (hd ts).1)
    (hQ : ∀ A' M', A <+: A' → RS B r n p to A' ts.tail M' → Inv A' M' → Q M') : w_Words_next 0 Q M :=
  mf_w_Words_next (Q := fun M' => Fr F_Words_next M M' → Q M') (fun _ hf hp => hp hf) (c_rnext hR h1 (fun A' M' a b hf => hQ A' M' a b (hI A A' M M' hi a b.1.len (hf.sub (by rfl)))))
theorem j_number {Inv : List Nm → Mem → Prop} (hI : PN Inv) {B : List Nm} {r n : Nat} {p : Nat → Int32} {to : Nat} {A : List Nm} {ts : List Tok} {Q : Int32 → Mem → Prop} {X : Mem → Prop} {M : Mem} {lo hi' : Int32} (hR : RS B r n p to A ts M) (hi : Inv A M)
    (hQ : ∀ A' v ts' M', pNum lo hi' ts = .inr (v, ts') → A <+: A' → RS B r n p to A' ts' M' → Inv A' M' → Q v M') (hX : ∀ A' e M', pNum lo hi' ts = .inl e → A <+: A' → Thr B A' e M' → Inv A' M' → X M') : w_Reader_number 0 lo hi' Q X M :=
  mf_w_Reader_number (Q := fun v M' => Fr F_Reader_number M M' → Q v M') (X := fun M' => Fr F_Reader_number M M' → X M') (fun _ _ hf hp => hp hf) (fun _ hf hp => hp hf) (c_numberR hR (fun A' v ts' M' a b d hf => hQ A' v ts' M' a b d (hI A A' M M' hi b d.1.len (hf.sub (by rfl)))) (fun A' e M' a b c hf => hX A' e M' a b c (hI A A' M M' hi b c.1.len (hf.sub (by rfl)))))
theorem FN_wq {M M' : Mem} (h : Fr FN M M') : Wq M M' := ⟨h.sub (by rfl), fun i k _ => h.Ia rfl rfl i k⟩
theorem HD.pn {W : List Cls} {w : Nat} {br : Int32} {nq nk np nh nr i : Nat} {x : Mth} (hs : W.length ≤ 51 ∧ (allM W).length ≤ 1000 ∧ nq ≤ 100000 ∧ nk ≤ 100000 ∧ np ≤ 100000 ∧ nh ≤ 100000 ∧ nr ≤ 100000) : PN (fun A M => HD A W w br nq nk np nh nr x i M) := fun A A' M M' h hp hl hf => by
  obtain ⟨s1, s2, s3, s4, s5, s6, s7⟩ := hs
  have hw := FN_wq hf
  obtain ⟨q1, q2, ⟨q3, q4, q5, ⟨q6, q7, q8⟩, q9, q9a, q9b⟩, ⟨q10, q10a, q10b, q10c⟩, ⟨q11, q11a, q11b, q11c, q11d, q11e⟩, q12, q13, q14, q15, q16⟩ := h
  have lo : Lo w (fun _ => 10000000) M M' := (Lo.rf w _ M).wk hw
  have ez : Ez w (fun _ => 10000000) M M' := (Ez.rf w _ M).wq hw
  have q15' := (q15.fr hf).pre hp
  refine ⟨C4.pq A A' M M' q1 hp hl hw, (q2.lo lo (by (try dsimp only); omega) (by (try dsimp only); omega) ⟨fun f _ _ => by (try dsimp only); omega, by (try dsimp only); omega, fun f _ _ => by (try dsimp only); omega, by (try dsimp only); omega, by (try dsimp only); omega, by (try dsimp only); omega, by (try dsimp only); omega, by (try dsimp only); omega⟩).pre hp, ⟨(hf.Ia (f := 55) rfl rfl w _).trans q3, ⟨(hf.Ia (f := 56) rfl rfl w _).trans (q4.1.trans (nc_pre hp q4.2).symm), hp.subset q4.2⟩, (hf.Ia (f := 57) rfl rfl w _).trans q5, ⟨(hf.Ia (f := 58) rfl rfl w _).trans q6, q7, fun j a c => ?_⟩, ⟨(hf.Ia (f := 59) rfl rfl w _).trans (q9.1.trans (kC_pre hp q9.2.1).symm), kok_pre hp q9.2.1, q9.2.2⟩, (hf.Ia (f := 60) rfl rfl w _).trans q9a, (hf.Ia (f := 61) rfl rfl w _).trans q9b⟩, ⟨(hf.Ia (f := 62) rfl rfl w _).trans q10, (hf.Ia (f := 63) rfl rfl w _).trans q10a, (hf.Ia (f := 64) rfl rfl w _).trans q10b, (hf.Ia (f := 65) rfl rfl w _).trans q10c⟩, ⟨(hf.I (f := 5) (k := 26) rfl w).trans q11, (hf.I (f := 5) (k := 39) rfl w).trans q11a, (hf.I (f := 5) (k := 47) rfl w).trans q11b, (hf.I (f := 5) (k := 49) rfl w).trans q11c, (hf.I (f := 5) (k := 51) rfl w).trans q11d, (hf.I (f := 5) (k := 53) rfl w).trans q11e⟩, q12.lo lo, q13.ez ez, (hf.I (f := 3) (k := 4) rfl 0).trans q14, q15', q16⟩
  rw [hf.Ia (f := 211) rfl rfl, q8 j a c]
  exact (kC_pre hp (q15.2.2.1 _ (gk_mem a))).symm
theorem CW.pq {W : List Cls} {w : Nat} {br : Int32} {nq nk np nh nr : Nat} (hs : W.length ≤ 51 ∧ (allM W).length ≤ 1000 ∧ nq ≤ 100000 ∧ nk ≤ 100000 ∧ np ≤ 100000 ∧ nh ≤ 100000 ∧ nr ≤ 100000) : PQ (fun A M => CW A W w br nq nk np nh nr M) := fun A A' M M' h hp hl hw => by
  obtain ⟨s1, s2, s3, s4, s5, s6, s7⟩ := hs
  obtain ⟨h1, h2, ⟨c1, c2, c3, c4, c5, c6⟩, h4, h5, h6⟩ := h
  have lo : Lo w (fun _ => 10000000) M M' := (Lo.rf w _ M).wk hw
  have ez : Ez w (fun _ => 10000000) M M' := (Ez.rf w _ M).wq hw
  exact ⟨C4.pq A A' M M' h1 hp hl hw, (h2.lo lo (by (try dsimp only); omega) (by (try dsimp only); omega) ⟨fun f _ _ => by (try dsimp only); omega, by (try dsimp only); omega, fun f _ _ => by (try dsimp only); omega, by (try dsimp only); omega, by (try dsimp only); omega, by (try dsimp only); omega, by (try dsimp only); omega, by (try dsimp only); omega⟩).pre hp, ⟨(hw.1.I (f := 5) (k := 26) rfl w).trans c1, (hw.1.I (f := 5) (k := 39) rfl w).trans c2, (hw.1.I (f := 5) (k := 47) rfl w).trans c3, (hw.1.I (f := 5) (k := 49) rfl w).trans c4, (hw.1.I (f := 5) (k := 51) rfl w).trans c5, (hw.1.I (f := 5) (k := 53) rfl w).trans c6⟩, h4.lo lo, h5.ez ez, h6⟩
/-- bounds of a class's members -/
def bT (c nf nm nq nk np nh nr f : Nat) : Nat := if f = 42 ∨ f = 44 then c else if (49 ≤ f ∧ f ≤ 54) ∨ f = 511 then nf else if 55 ≤ f ∧ f ≤ 65 then nm else if f = 211 then 6 * nm else if 66 ≤ f ∧ f ≤ 72 then nq else if f = 73 then nk else if f = 74 then np else if f = 75 then 4 * nh else if f = 76 then 4 * nr else if f = 212 then 6 * nr else 10000000
theorem bT_H {c nf nm nq nk np nh nr : Nat} (h : nf ≤ 1000 ∧ c ≤ 1000 ∧ nq ≤ 100000 ∧ nk ≤ 100000 ∧ np ≤ 100000 ∧ nh ≤ 100000 ∧ nr ≤ 100000) (f : Nat) : bT c nf nm nq nk np nh nr f ≤ bH c nm f := by
  unfold bT bH
  by_cases a : f = 44
  · rw [if_pos (Or.inr a), if_pos a]; exact Nat.le_refl _
  rw [if_neg a]
  by_cases a1 : 55 ≤ f ∧ f ≤ 65
  · rw [if_neg (by omega), if_neg (by omega), if_pos a1, if_pos a1]; exact Nat.le_refl _
  rw [if_neg a1]
  by_cases a2 : f = 211
  · rw [if_neg (by omega), if_neg (by omega), if_neg a1, if_pos a2, if_pos a2]; exact Nat.le_refl _
  rw [if_neg a2, if_neg a1, if_neg a2]
  repeat' split
  all_goals omega
theorem bT_Q {c nf nm nq nk np nh nr : Nat} (h : nf ≤ 1000 ∧ c ≤ 1000 ∧ nm ≤ 1000 ∧ np ≤ 100000) (f : Nat) : bT c nf nm nq nk np nh nr f ≤ bQ nm nq nk nh nr f := by
  unfold bT bQ
  repeat' split
  all_goals omega
/-- how big a world's numbers are -/
theorem CW.small {A : List Nm} {W : List Cls} {w : Nat} {br : Int32} {nq nk np nh nr : Nat} {ls : List (List Tok)} {M : Mem} (h : CW A W w br nq nk np nh nr M) (h22 : 22 ≤ W.length) (hB : BudW w ls nq nk np nh nr) : W.length ≤ 51 ∧ (allM W).length ≤ 381 ∧ (allF W).length ≤ 240 ∧ nq ≤ 100000 ∧ nk ≤ 100000 ∧ np ≤ 100000 ∧ nh ≤ 100000 ∧ nr ≤ 100000 := by
  have h51 := h.1.1.1.1.2.2.1
  obtain ⟨-, -, m⟩ := h.2.1.many h22 h51
  obtain ⟨l1, l2, -⟩ := L_le w
  obtain ⟨b1, b2', b3, b4, b5⟩ := hB
  have hF := foff_le (W := W) (fun j hj => (h.1.2.1.2.1 j hj).2) W.length (Nat.le_refl _)
  rw [foff_all] at hF
  have := h.2.2.2.2.2
  refine ⟨h51, m, by omega, by omega, by omega, by omega, by omega, ?_⟩
  by_cases z : w = 0
  · have := b4 z; omega
  · have := b5 z; omega
