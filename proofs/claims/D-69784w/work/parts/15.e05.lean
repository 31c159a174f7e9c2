/-! B: linking in the works -/
def cLk (M : Mem) : Prop := mL M 515 0 = 51 ∧ mL M 97 0 = 255 ∧ mL M 31 0 = 20 ∧ mL M 32 0 = 24 ∧ mI M 4 0 9 = 0 ∧ mI M 4 0 10 = 0
/-- a world of the works with its links -/
def LKw (A : List Nm) (W : List Cls) (w : Nat) (br : Int32) (nq nk np nh nr : Nat) (s : LkS) (M : Mem) : Prop := CWx A W w br nq nk np nh nr M ∧ (∀ c, c < W.length → mI M 45 w c = s.1 c) ∧ (mI M 5 w 56 = s.2.1 ∧ mI M 5 w 57 = s.2.2.1 ∧ mI M 5 w 58 = s.2.2.2) ∧ Laid W s.1 w M ∧ cLk M
def lkOk (S : Nat) : Bool := cwOk S && (!S.testBit 5515 && (!S.testBit 5097 && (!S.testBit 5031 && (!S.testBit 5032 && (!S.testBit (cd 4 9) && !S.testBit (cd 4 10))))))
theorem foff_mono {W : List Cls} : ∀ {n m : Nat}, n ≤ m → m ≤ W.length → foff W n ≤ foff W m := by
  intro n m h
  induction m with
  | zero => intro _; rw [show n = 0 by omega]; exact Nat.le_refl _
  | succ m ih =>
    intro hm
    by_cases e : n = m + 1
    · rw [e]; exact Nat.le_refl _
    · have := ih (by omega) (by omega)
      rw [foff_succ (by omega)]; omega
section
variable {A : List Nm} {W : List Cls} {w c p : Nat} {br : Int32} {nq nk np nh nr : Nat} {M M' : Mem} {Q : Int32 → Mem → Prop} {s : LkS}
theorem LKw.fr {S : Nat} (h : LKw A W w br nq nk np nh nr s M) (hf : Fr S M M') (hS : lkOk S = true := by rfl) : LKw A W w br nq nk np nh nr s M' ∧ Lo w bL M M' := by
  unfold lkOk at hS
  simp only [Bool.and_eq_true, Bool.not_eq_true'] at hS
  obtain ⟨s1, s2, s3, s4, s5, s6, s7⟩ := hS
  have hcw := h.1.fr hf s1
  unfold cwOk at s1
  rw [Bool.and_eq_true, Bool.not_eq_true'] at s1
  have hlo : ∀ b, Lo w b M M' := fun b => (Lo.rf w b M).fr hf (fun i k _ => hf.Ia rfl s1.2 i k) s1.1
  have h5 : ∀ k, k < 65 → mI M' 5 w k = mI M 5 w k := fun k hk => by
    have := s1.1
    unfold loOk at this
    simp only [Bool.and_eq_true, Bool.not_eq_true', List.all_eq_true, List.mem_range] at this
    exact (hf.1 5 k (this.2 k hk) w).1
  have row : ∀ f, wFm f = true → ∀ k, mI M' f w k = mI M f w k := fun f hw k => ((hlo (fun _ => k + 1)).1 f hw).1 w k (Or.inr (Nat.lt_succ_self k))
  obtain ⟨-, h45, ⟨a, b, d⟩, hl, e1, e2, e3, e4, e5, e6⟩ := h
  refine ⟨⟨hcw, fun c hc => (row 45 rfl c).trans (h45 c hc), ⟨(h5 56 (by omega)).trans a, (h5 57 (by omega)).trans b, (h5 58 (by omega)).trans d⟩, fun c hc hl1 => ?_, (hf.L s2 0).trans e1, (hf.L s3 0).trans e2, (hf.L s4 0).trans e3, (hf.L s5 0).trans e4, (hf.I s6 0).trans e5, (hf.I s7 0).trans e6⟩, hlo bL⟩
  obtain ⟨x, y, z⟩ := hl c hc hl1
  exact ⟨(row 47 rfl c).trans x, (row 48 rfl c).trans y, fun f hf' hs => (row 53 rfl _).trans (z f hf' hs)⟩
/-- where checking failed -/
theorem LKw.w5 {a b d : Int32} (h : LKw A W w br nq nk np nh nr s M) (hK : KB w nq nk np nh nr) : LKw A W w br nq nk np nh nr (s.1, a, b, d) (sI (sI (sI M 5 w 56 a) 5 w 57 b) 5 w 58 d) ∧ Lo w bL M (sI (sI (sI M 5 w 56 a) 5 w 57 b) 5 w 58 d) := by
  have hlo : Lo w bL M (sI (sI (sI M 5 w 56 a) 5 w 57 b) 5 w 58 d) := (((Lo.rf w bL M).w5).w5).w5
  obtain ⟨hcw, h45, -, hl, e1, e2, e3, e4, e5, e6⟩ := h
  have row : ∀ f i k, f ≠ 5 → mI (sI (sI (sI M 5 w 56 a) 5 w 57 b) 5 w 58 d) f i k = mI M f i k := fun f i k hf => by
    rw [mI_sI, if_neg (fun z => hf z.1), mI_sI, if_neg (fun z => hf z.1), mI_sI, if_neg (fun z => hf z.1)]
  refine ⟨⟨hcw.lw hlo hK (fun k hk => ?_), fun c hc => (row 45 w c (by omega)).trans (h45 c hc), ⟨?_, ?_, ?_⟩, fun c hc hl1 => ?_, e1, e2, e3, e4, (row 4 0 9 (by omega)).trans e5, (row 4 0 10 (by omega)).trans e6⟩, hlo⟩
  · rw [mI_sI, if_neg (fun z => by omega), mI_sI, if_neg (fun z => by omega), mI_sI, if_neg (fun z => by omega)]
  · simp only [mI_sI, mI_sR, mI_sJ, mR_sI, mL_sI, mL_sR, mR_sR, Nat.reduceEqDiff, and_false, false_and, if_false, and_self, true_and, and_true, if_true]
  · simp only [mI_sI, mI_sR, mI_sJ, mR_sI, mL_sI, mL_sR, mR_sR, Nat.reduceEqDiff, and_false, false_and, if_false, and_self, true_and, and_true, if_true]
  · simp only [mI_sI, mI_sR, mI_sJ, mR_sI, mL_sI, mL_sR, mR_sR, Nat.reduceEqDiff, and_false, false_and, if_false, and_self, true_and, and_true, if_true]
  · obtain ⟨x, y, z⟩ := hl c hc hl1
    exact ⟨(row 47 w c (by omega)).trans x, (row 48 w c (by omega)).trans y, fun f hf' hs => (row 53 w _ (by omega)).trans (z f hf' hs)⟩
/-- a link is set -/
theorem LKw.w45 {r : Int32} (h : LKw A W w br nq nk np nh nr s M) (hK : KB w nq nk np nh nr) (hc : c < W.length) (h0 : s.1 c = 0) (hl : r = 1 → LaidC W w c M) : LKw A W w br nq nk np nh nr (LSm s.1 c r, s.2) (sI M 45 w c r) ∧ Lo w bL M (sI M 45 w c r) := by
  have hlo : Lo w bL M (sI M 45 w c r) := (Lo.rf w bL M).w (Nat.zero_le _)
  obtain ⟨hcw, h45, hx, hla, e1, e2, e3, e4, e5, e6⟩ := h
  have row : ∀ f i k, f ≠ 45 → mI (sI M 45 w c r) f i k = mI M f i k := fun f i k hf => by
    rw [mI_sI, if_neg (fun z => hf z.1)]
  refine ⟨⟨hcw.lw hlo hK (fun k hk => row 5 w k (by omega)), fun d hd => ?_, ⟨(row 5 w 56 (by omega)).trans hx.1, (row 5 w 57 (by omega)).trans hx.2.1, (row 5 w 58 (by omega)).trans hx.2.2⟩, fun d hd hl1 => ?_, e1, e2, e3, e4, (row 4 0 9 (by omega)).trans e5, (row 4 0 10 (by omega)).trans e6⟩, hlo⟩
  · show _ = LSm s.1 c r d
    unfold LSm
    rw [mI_sI]
    by_cases e : d = c
    · rw [if_pos ⟨rfl, rfl, e⟩, if_pos e]
    · rw [if_neg (fun z => e z.2.2), if_neg e]; exact h45 d hd
  · have : LaidC W w d M := by
      replace hl1 : LSm s.1 c r d = 1 := hl1
      unfold LSm at hl1
      by_cases e : d = c
      · rw [if_pos e] at hl1; rw [e]; exact hl hl1
      · rw [if_neg e] at hl1; exact hla d hd hl1
    obtain ⟨x, y, z⟩ := this
    exact ⟨(row 47 w d (by omega)).trans x, (row 48 w d (by omega)).trans y, fun f hf' hs => (row 53 w _ (by omega)).trans (z f hf' hs)⟩
/-- fields are laid -/
theorem k_lay {u : Nat} (h : LKw A W w br nq nk np nh nr s M) (hK : KB w nq nk np nh nr) (hI : LInv W s.1) (hc : c < W.length) (hul : u < W.length) (hu : upW W c = some u) (hu1 : s.1 u = 1) (h0 : s.1 c = 0) (hru : u = 0 ∨ rk W u < rk W c) {Q : Mem → Prop} (hQ : ∀ M', LKw A W w br nq nk np nh nr s M' → LaidC W w c M' → Lo w bL M M' → Q M') : w_World_lay w (Int32.ofNat c) (Int32.ofNat u) Q M := by
  obtain ⟨hcw, h45, hx, hla, e1, e2, e3, e4, e5, e6⟩ := h
  have h51 : W.length ≤ 51 := hcw.1.1.1.1.2.2.1
  have hs : osz W c = osz W u + instF (gc W c).2.2.2.2.1 := by
    have hk := rk_le (W := W) (c := c)
    have := osz_up hI hu hul (Or.inr hu1) (by unfold mu; split <;> omega)
    rw [this]; unfold oszU; rw [hu]
  have hou : oszU W c = osz W u := by unfold oszU; rw [hu]
  refine c_wlay hcw hK hc hul (hla u hul hu1).2.1 (fun M' hlo hf p1 p2 p3 p4 p5 => hQ M' ⟨?_, fun d hd => ?_, ⟨?_, ?_, ?_⟩, fun d hd hl1 => ?_, ?_, ?_, ?_, ?_, ?_, ?_⟩ ⟨?_, ?_, ?_⟩ hlo)
  · exact hcw.lw hlo hK (fun k hk => (hf.1 5 k (by
      have : ∀ k, k < 56 → ((9429411719806976)).testBit (cd 5 k) = false := by decide
      exact this k hk) w).1)
  · rw [hf.Ia (f := 45) rfl rfl]; exact h45 d hd
  · rw [hf.I (f := 5) (k := 56) rfl]; exact hx.1
  · rw [hf.I (f := 5) (k := 57) rfl]; exact hx.2.1
  · rw [hf.I (f := 5) (k := 58) rfl]; exact hx.2.2
  · have hdc : d ≠ c := fun z => by rw [z, h0] at hl1; exact absurd hl1 (by decide)
    obtain ⟨x, y, z⟩ := hla d hd hl1
    refine ⟨(p4 d hdc).1.trans x, (p4 d hdc).2.trans y, fun f hf' hs => ?_⟩
    rw [p5]
    · exact z f hf' hs
    · have q1 := foff_succ (W := W) (n := d) hd
      have q2 := foff_succ (W := W) (n := c) hc
      by_cases lt : d < c
      · have := foff_mono (W := W) (n := d + 1) (m := c) (by omega) (by omega); omega
      · have := foff_mono (W := W) (n := c + 1) (m := d) (by omega) (by omega); omega
  · rw [hf.L (f := 515) rfl]; exact e1
  · rw [hf.L (f := 97) rfl]; exact e2
  · rw [hf.L (f := 31) rfl]; exact e3
  · rw [hf.L (f := 32) rfl]; exact e4
  · rw [hf.I (f := 4) (k := 9) rfl]; exact e5
  · rw [hf.I (f := 4) (k := 10) rfl]; exact e6
  · rw [hou]; exact p1
  · rw [hs]; exact p2
  · intro f hf' hs'
    rw [hou]; exact p3 f hf' hs'
end
