/-! B: the lines of a method in the works -/
theorem cFl.of {A : List Nm} {W : List Cls} {w : Nat} {M M' : Mem} (h : cFl A W w M) (e17 : mI M' 5 w 17 = mI M 5 w 17) (e : ∀ f, (41 ≤ f ∧ f ≤ 42) ∨ (49 ≤ f ∧ f ≤ 54) ∨ f = 511 → ∀ k, mI M' f w k = mI M f w k) (l : ∀ f, (41 ≤ f ∧ f ≤ 42) ∨ (49 ≤ f ∧ f ≤ 54) ∨ f = 511 → mL M' f w = mL M f w) : cFl A W w M' := by
  obtain ⟨⟨a1, ⟨b1, b2', b3, b4, b5, b6, b7⟩, a3, a4⟩, d, g⟩ := h
  refine ⟨⟨e17.trans a1, ⟨(l 49 (by omega)).trans b1, (l 50 (by omega)).trans b2', (l 51 (by omega)).trans b3, (l 52 (by omega)).trans b4, (l 511 (by omega)).trans b5, (l 53 (by omega)).trans b6, (l 54 (by omega)).trans b7⟩, (l 41 (by omega)).trans a3, (l 42 (by omega)).trans a4⟩, fun j hj => ?_, fun i hi => ?_⟩
  · rw [e 41 (by omega), e 42 (by omega)]; exact d j hj
  · rw [e 49 (by omega), e 50 (by omega), e 51 (by omega), e 52 (by omega), e 511 (by omega)]; exact g i hi
theorem C4.of {A : List Nm} {W : List Cls} {w c : Nat} {br : Int32} {M M' : Mem} (h : C4 A W w c br M) (e5 : ∀ k, k = 1 ∨ k = 2 ∨ k = 17 → mI M' 5 w k = mI M 5 w k) (eR : mR M' 3 0 1 = mR M 3 0 1) (e3 : mI M' 3 0 3 = mI M 3 0 3) (e : ∀ f, (36 ≤ f ∧ f ≤ 42) ∨ (49 ≤ f ∧ f ≤ 54) ∨ f = 511 → ∀ k, mI M' f w k = mI M f w k) (l : ∀ f, (36 ≤ f ∧ f ≤ 42) ∨ (49 ≤ f ∧ f ≤ 54) ∨ f = 511 → mL M' f w = mL M f w) : C4 A W w c br M' :=
  ⟨h.1.of (e5 2 (by omega)) (fun f a b k _ => e f (by omega) k) (fun f a b => l f (by omega)), h.2.1.of (e5 17 (by omega)) (fun f a => e f (by omega)) (fun f a => l f (by omega)), eR.trans h.2.2.1, e3.trans h.2.2.2.1, (e5 1 (by omega)).trans h.2.2.2.2⟩
def c4Ok (S : Nat) : Bool := [36, 37, 38, 39, 40, 41, 42, 49, 50, 51, 52, 53, 54, 511].all (fun f => !S.testBit f && !S.testBit (5000 + f)) && (!S.testBit (cd 5 1) && (!S.testBit (cd 5 2) && (!S.testBit (cd 5 17) && (!S.testBit (cd 3 1) && !S.testBit (cd 3 3)))))
theorem C4.fr {A : List Nm} {W : List Cls} {w c : Nat} {br : Int32} {M M' : Mem} {S : Nat} (h : C4 A W w c br M) (hf : Fr S M M') (hS : c4Ok S = true := by rfl) : C4 A W w c br M' := by
  unfold c4Ok at hS
  simp only [Bool.and_eq_true, Bool.not_eq_true', List.all_eq_true] at hS
  obtain ⟨a, b1, b2', b3, b4, b5⟩ := hS
  have hm : ∀ f, (36 ≤ f ∧ f ≤ 42) ∨ (49 ≤ f ∧ f ≤ 54) ∨ f = 511 → f ∈ [36, 37, 38, 39, 40, 41, 42, 49, 50, 51, 52, 53, 54, 511] := fun f q => by
    simp only [List.mem_cons, List.not_mem_nil, or_false]; omega
  refine h.of (fun k q => ?_) (hf.R b4 0) (hf.I b5 0) (fun f q k => hf.Ia (Nat.ble_eq.mpr (by omega)) (a f (hm f q)).1 w k) (fun f q => hf.L (a f (hm f q)).2 w)
  rcases q with q | q | q
  · rw [q]; exact hf.I b1 w
  · rw [q]; exact hf.I b2' w
  · rw [q]; exact hf.I b3 w
theorem C4.wr {A : List Nm} {W : List Cls} {w c q pf h : Nat} {br : Int32} {M M' : Mem} (a : C4 A W w c br M) (b : Wr w q pf h M M') : C4 A W w c br M' :=
  a.of (fun k _ => b.o (by decide) w k) (b.2.1 3 0 1).1 (b.o (by decide) 0 3) (fun f q k => b.o (by omega) w k) (fun f _ => b.2.2 f w)
theorem cPM.wq {A A' : List Nm} {w m q0 np0 nh0 nq nk np nh nr nu : Nat} {P : PM} {M M' : Mem} (h : cPM A w m q0 np0 nh0 nq nk np nh nr nu P M) (hk : Wq M M') (hp : A <+: A') : cPM A' w m q0 np0 nh0 nq nk np nh nr nu P M' := by
  obtain ⟨⟨⟨a1, a2, a3, a4, a5⟩, b⟩, ⟨c1, c2, c3, c4, c5, c6⟩, ⟨d1, d2⟩, ⟨e1, e2⟩, ⟨E, f1, f2, f3⟩, g1, g2⟩ := h
  have lo : Lo w (bQ m nq nk nh nr) M M' := (Lo.rf w _ M).wk hk
  refine ⟨⟨⟨(hk.1.I (f := 5) (k := 39) rfl w).trans a1, (hk.1.I (f := 5) (k := 47) rfl w).trans a2, (hk.1.I (f := 5) (k := 49) rfl w).trans a3, (hk.1.I (f := 5) (k := 51) rfl w).trans a4, (hk.1.I (f := 5) (k := 53) rfl w).trans a5⟩, b⟩, ⟨(hk.1.Ia (f := 62) rfl rfl w m).trans c1, (hk.1.Ia (f := 63) rfl rfl w m).trans c2, c3, (hk.1.Ia (f := 64) rfl rfl w m).trans c4, (hk.1.Ia (f := 65) rfl rfl w m).trans c5, c6⟩, ⟨(d1.lo lo (by omega)).pre hp, (d2.lo lo (by omega)).pre hp⟩, ⟨(e1.fr hk.1).pre hp, e2⟩, ⟨E, f1, (f2.fr hk.1).pre hp, f3⟩, (g1.fr hk.1).pre hp, g2⟩
/-- a world of the works while a method's lines come -/
def K3 (A : List Nm) (W : List Cls) (w : Nat) (br : Int32) (q0 nk0 np0 nh0 nr0 nq nk np nh nr nu : Nat) (P : PM) (M : Mem) : Prop := C4 A W w (W.length - 1) br M ∧ cMs A W w 1 q0 nk0 np0 nh0 nr0 M ∧ cHd A w (W.length - 1) (allM W).length P.1 M ∧ cPM A w (allM W).length q0 np0 nh0 nq nk np nh nr nu P M ∧ mI M 5 w 26 = Int32.ofNat ((allM W).length + 1) ∧ cRm w M ∧ cRd M ∧ mI M 3 0 4 = Int32.ofNat (allM W).length ∧ (nk0 ≤ nk ∧ nr0 ≤ nr)
theorem bBig (f : Nat) : (fun _ : Nat => 10000000) f = 10000000 := rfl
theorem K3.pq {W : List Cls} {w : Nat} {br : Int32} {q0 nk0 np0 nh0 nr0 nq nk np nh nr nu : Nat} {P : PM} (hs : W.length ≤ 51 ∧ (allM W).length ≤ 1000 ∧ q0 ≤ 100000 ∧ nk0 ≤ 100000 ∧ np0 ≤ 100000 ∧ nh0 ≤ 100000 ∧ nr0 ≤ 100000) : PQ (fun A M => K3 A W w br q0 nk0 np0 nh0 nr0 nq nk np nh nr nu P M) := fun A A' M M' h hp hl hw => by
  obtain ⟨s1, s2, s3, s4, s5, s6, s7⟩ := hs
  obtain ⟨h1, h2, h3, h4, h5, h6, h7, h8, h9⟩ := h
  have lo : Lo w (fun _ => 10000000) M M' := (Lo.rf w _ M).wk hw
  have ez : Ez w (fun _ => 10000000) M M' := (Ez.rf w _ M).wq hw
  refine ⟨C4.pq A A' M M' h1 hp hl hw, (h2.lo lo (by (try dsimp only); omega) (by (try dsimp only); omega) ⟨fun f _ _ => by (try dsimp only); omega, by (try dsimp only); omega, fun f _ _ => by (try dsimp only); omega, by (try dsimp only); omega, by (try dsimp only); omega, by (try dsimp only); omega, by (try dsimp only); omega, by (try dsimp only); omega⟩).pre hp, (h3.lo lo (fun f _ _ => by (try dsimp only); omega) (by (try dsimp only); omega)).pre hp, h4.wq hw hp, (hw.1.I (f := 5) (k := 26) rfl w).trans h5, h6.lo lo, h7.ez ez, (hw.1.I (f := 3) (k := 4) rfl 0).trans h8, h9⟩
theorem bQ_mono {m nq nk nh nr nq' nk' nh' nr' f : Nat} (h1 : nq ≤ nq') (h2 : nk ≤ nk') (h3 : nh ≤ nh') (h4 : nr ≤ nr') : bQ m nq nk nh nr f ≤ bQ m nq' nk' nh' nr' f := by
  unfold bQ
  by_cases a : 66 ≤ f ∧ f ≤ 72
  · rw [if_pos a, if_pos a]; exact h1
  rw [if_neg a, if_neg a]
  by_cases a : f = 63 ∨ f = 65
  · rw [if_pos a, if_pos a]; exact Nat.le_refl _
  rw [if_neg a, if_neg a]
  by_cases a : f = 73
  · rw [if_pos a, if_pos a]; exact h2
  rw [if_neg a, if_neg a]
  by_cases a : f = 75
  · rw [if_pos a, if_pos a]; omega
  rw [if_neg a, if_neg a]
  by_cases a : f = 76
  · rw [if_pos a, if_pos a]; omega
  rw [if_neg a, if_neg a]
  by_cases a : f = 212
  · rw [if_pos a, if_pos a]; omega
  rw [if_neg a, if_neg a]; exact Nat.le_refl _
theorem bQ_M {nm q0 nk0 np0 nh0 nr0 nq nk nh nr : Nat} (h1 : q0 ≤ nq) (h2 : nk0 ≤ nk) (h3 : nh0 ≤ nh) (h4 : nr0 ≤ nr) (hp : np0 ≤ 100000) (hm : nm ≤ 100000) : bM nm q0 nk0 np0 nh0 nr0 (bQ nm nq nk nh nr) := by
  refine ⟨fun f a b => ?_, ?_, fun f a b => ?_, h2, ?_, ?_, ?_, ?_⟩
  · unfold bQ
    rw [if_neg (by omega)]
    split
    · exact Nat.le_refl _
    · rw [if_neg (by omega), if_neg (by omega), if_neg (by omega), if_neg (by omega)]; omega
  · show 6 * nm ≤ 10000000; omega
  · rw [bQ66 ⟨a, b⟩]; exact h1
  · show np0 ≤ 10000000; omega
  · show 4 * nh0 ≤ 4 * nh; omega
  · show 4 * nr0 ≤ 4 * nr; omega
  · show 6 * nr0 ≤ 6 * nr; omega
theorem moff_ge {W : List Cls} (h : ∀ c, c < W.length → (c < 21 → (gc W c).2.2.2.2.2.length = 1)) : ∀ n, n ≤ W.length → min n 21 ≤ moff W n
  | 0, _ => by simp
  | n + 1, hn => by
    have ih := moff_ge h n (by omega)
    rw [moff_succ (by omega)]
    by_cases c : n < 21
    · rw [h n (by omega) c]; omega
    · omega
/-- how many methods there are -/
theorem cMs.many {A : List Nm} {W : List Cls} {w e nq nk np nh nr : Nat} {M : Mem} (h : cMs A W w e nq nk np nh nr M) (h22 : 22 ≤ W.length) (h51 : W.length ≤ 51) : 21 ≤ (allM W).length ∧ (allM W).length ≤ 369 + (gc W (W.length - 1)).2.2.2.2.2.length ∧ (allM W).length ≤ 381 := by
  have h1 := moff_ge (W := W) (fun c hc => (h.2.1 c hc).2.2) W.length (Nat.le_refl _)
  have h2 := moff_le (W := W) (fun c hc => (h.2.1 c hc).2) (W.length - 1) (by omega)
  have h3 := moff_succ (W := W) (n := W.length - 1) (by omega)
  have h4 := (h.2.1 (W.length - 1) (by omega)).2.1
  rw [moff_all] at h1
  rw [show W.length - 1 + 1 = W.length by omega, moff_all] at h3
  omega
