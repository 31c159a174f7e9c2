/-! B: rows of code grow -/
def aOk (S : Nat) : Bool := (List.range 26).all (fun j => !S.testBit (130 + j) && !S.testBit (5130 + j)) && (!S.testBit 523 && !S.testBit 5523)
abbrev S_ok (F f : Nat) : Prop := Nat.ble 20 f = true ∧ F.testBit f = false ∧ F.testBit (5000 + f) = false
theorem ar_fr {F : Nat} {M M' : Mem} (hf : Fr F M M') (h : aOk F = true) : ∀ f, tFm f = true → (∀ i k, mI M' f i k = mI M f i k) ∧ ∀ i, mL M' f i = mL M f i := by
  intro f hf'
  unfold aOk at h
  simp only [Bool.and_eq_true, Bool.not_eq_true', List.all_eq_true, List.mem_range] at h
  obtain ⟨h1, h2, h3⟩ := h
  unfold tFm at hf'
  rw [Bool.or_eq_true, Bool.and_eq_true] at hf'
  have hb : S_ok F f := by
    rcases hf' with ⟨a, b⟩ | q
    · have a := Nat.le_of_ble_eq_true a
      have b := Nat.le_of_ble_eq_true b
      have := h1 (f - 130) (by omega)
      rw [show 130 + (f - 130) = f by omega, show 5130 + (f - 130) = 5000 + f by omega] at this
      exact ⟨Nat.ble_eq.mpr (by omega), this.1, this.2⟩
    · have := Nat.eq_of_beq_eq_true q
      rw [this]; exact ⟨rfl, h2, h3⟩
  exact ⟨fun i k => hf.Ia hb.1 hb.2.1 i k, fun i => hf.L hb.2.2 i⟩
def rwOk (S : Nat) : Bool := aOk S && ([45, 53, 54, 65, 4, 36, 37, 38, 51, 60, 64].all (fun k => !S.testBit (cd 11 k)) && ([1, 2].all (fun k => !S.testBit (cd 12 k)) && [105, 106, 109, 5105, 5106, 5109].all (fun k => !S.testBit k)))
theorem JM.rows {G : List Sl} {US : UST} {A : List Nm} {S : List Sg} {W : List Cls} {w c : Nat} {br : Int32} {q0 nl0 nq nl nf nk : Nat} {p : PM} {NL : List Nine} {z : Nat × Nat × Nat × Nat × Nat × Nat} {L ts : List Tok} {M0 M : Mem} {X : List Sl} {nq' nl' nf' nk' : Nat} {ts' : List Tok} {M' : Mem} {F : Nat} (h : JM G US A S W w c br q0 nl0 nq nl nf nk p NL z L ts M0 M) (hx : Gx G w) (hf : Fr F M M') (hg : GF G X M M') (hXW : ∀ s ∈ X, s ∈ XW w) (hq : TQ A L ts' M') (cnt : mI M' 12 w 35 = Int32.ofNat nq' ∧ mI M' 12 w 37 = Int32.ofNat nl' ∧ mI M' 12 w 41 = Int32.ofNat nf' ∧ mI M' 12 w 43 = Int32.ofNat nk') (hRL : RLo w nq' nl' nf' nk' M') (hb : (nq ≤ nq' ∧ nl ≤ nl' ∧ nf ≤ nf' ∧ nk ≤ nk') ∧ nq' ≤ 3900 ∧ nl' ≤ 3900 ∧ nf' ≤ 3900 ∧ nk' ≤ 3900) (hqq : nq = q0 + p.2.1.length) (rk : Rk w nq nl nf nk M M') (lo : LoT w z.1 M M') (hz : z.2.1 ≤ nq ∧ z.2.2.1 ≤ nl ∧ z.2.2.2.1 ≤ nf ∧ z.2.2.2.2.1 ≤ nk) (hR : rwOk F = true := by rfl) : JM G US A S W w c br q0 nl0 nq' nl' nf' nk' p NL z L ts' M0 M' := by
  obtain ⟨g1, ⟨⟨hC, hFl, hMs⟩, -, -, hbn⟩, ⟨h0, hLb, hNi⟩, g4, g5, g6⟩ := h
  unfold rwOk at hR
  simp only [Bool.and_eq_true, Bool.not_eq_true', List.all_eq_true] at hR
  obtain ⟨hA, h11, h12, h1⟩ := hR
  have ar := ar_fr hf hA
  have tI : ∀ f, tFm f = true → ∀ k, mI M' f w k = mI M f w k := fun f h' k => (ar f h').1 w k
  have tL : ∀ f, tFm f = true → mL M' f w = mL M f w := fun f h' => (ar f h').2 w
  have rg : ∀ f, 130 ≤ f → f ≤ 155 → tFm f = true := fun f a b => by
    unfold tFm; rw [Bool.or_eq_true, Bool.and_eq_true]; exact Or.inl ⟨Nat.ble_eq.mpr a, Nat.ble_eq.mpr b⟩
  have nX : ∀ s : Sl, s ∈ [sB, sZ, sX, sTr, sF, sC, sRe, sNx, sTy] ∨ s ∈ XL → s ∉ X := fun s hs q => by
    have q := hXW s q
    simp only [List.mem_cons, List.not_mem_nil, or_false] at hs q
    rcases hs with hs | hs
    · rcases hs with e | e | e | e | e | e | e | e | e <;> rcases q with q | q | q | q | q | q | q | q | q | q <;> (rw [e] at q; cases q)
    · rcases hs with e | e | e | e | e <;> rcases q with q | q | q | q | q | q | q | q | q | q <;> (rw [e] at q; cases q)
  have xl : ∀ s ∈ XL, (∀ k, rd M' s k = rd M s k) ∧ rl M' s = rl M s := fun s hs => ⟨(hg.2.1 s (hx.2.2.2.2.1 s hs) (nX s (Or.inr hs))).1, (hg.2.1 s (hx.2.2.2.2.1 s hs) (nX s (Or.inr hs))).2.1⟩
  have hXT : ∀ s ∈ X, s ∈ XT w := fun s hs => by
    have := hXW s hs
    simp only [List.mem_cons, List.not_mem_nil, or_false] at this ⊢
    rcases this with e | e | e | e | e | e | e | e | e | e <;> simp [e]
  have i11 : ∀ k, k ∈ [45, 53, 54, 65, 4, 36, 37, 38, 51, 60, 64] → mI M' 11 0 k = mI M 11 0 k := fun k hk => hf.I (h11 k hk) 0
  refine ⟨hq, ⟨⟨⟨hC.1.of (hf.I (h12 2 (by simp)) w) (fun f a b => tI f (rg f a (by omega))) (fun f a b => tL f (rg f a (by omega))), (hf.R (h11 45 (by simp)) 0).trans hC.2.1, (hf.I (h12 1 (by simp)) w).trans hC.2.2.1, ?_⟩, ⟨?_, fun d hd' => ?_⟩, ?_⟩, cnt, hRL, ⟨by omega, by omega, hb.2⟩⟩, ⟨?_, hLb.of (i11 60 (by simp)) xl, hNi.of (i11 64 (by simp)) xl⟩, g4.gf hf hg hx (fun s hs => nX s (Or.inl hs)) (h11 4 (by simp)) (h1 105 (by simp)) (h1 5105 (by simp)) (h11 36 (by simp)) (h11 37 (by simp)) (h1 106 (by simp)) (h1 5106 (by simp)) (h11 38 (by simp)), ⟨g5.1.trans (hg.sub hXT), g5.2.1.trans lo, g5.2.2.trans (rk.mono hz.1 hz.2.1 hz.2.2.1 hz.2.2.2)⟩, (i11 51 (by simp)).trans g6⟩
  · rw [tL 135 rfl, tL 136 rfl, tL 137 rfl, tL 138 rfl]; exact hC.2.2.2
  · rw [tL 139 rfl, tL 140 rfl, tL 141 rfl, tL 142 rfl, tL 523 rfl, tL 143 rfl]; exact hFl.1
  · rw [tI 135 rfl]
    refine ⟨(hFl.2 d hd').1, fun k hk => ?_⟩
    rw [tI 139 rfl, tI 140 rfl, tI 141 rfl, tI 142 rfl, tI 523 rfl]; exact (hFl.2 d hd').2 k hk
  · exact (hMs.keep (hMs.1.of (fun f q k => tI f (rg f (by omega) (by omega)) k) (fun f a b => tL f (rg f (by omega) (by omega)))) (rk.mono hbn.1 hbn.2.1 (Nat.le_refl _) (Nat.le_refl _)) (fun f a b c hc k hk => tI f (rg f (by omega) (by omega)) _) (fun f a b c hc k hk i hi => tI f (rg f (by omega) (by omega)) _) (fun f a b => tL f (rg f (by omega) (by omega)))).pre (List.prefix_refl _) (List.prefix_refl _) (Nat.le_refl _) (Nat.le_refl _) hb.1.2.2.1 hb.1.2.2.2
  · refine (h0.of (fun f a b k => tI f (rg f (by omega) b) k) (fun k hk => i11 k ?_) ⟨fun k => hf.Ia (f := 109) rfl (h1 109 (by simp)) 0 k, hf.L (f := 109) (h1 5109 (by simp)) 0⟩ (rk.mono (by omega) (Nat.le_refl _) (Nat.le_refl _) (Nat.le_refl _))).pre (List.prefix_refl _) (List.prefix_refl _) hb.1.2.1 hb.1.2.2.1 hb.1.2.2.2
    simp only [List.mem_cons, List.not_mem_nil, or_false] at hk ⊢
    omega
