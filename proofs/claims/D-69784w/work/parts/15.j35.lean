/-! TRIALS in the works: the state in which outcomes are worked out -/
abbrev gTr (T : List Trl) (t : Nat) : Trl := T.getD t []
/-- breaks of which outcomes are remembered -/
def brK (k : Nat) : Int32 := if k = 0 then 0 else Int32.ofNat (2 ^ (k - 1))
/-- what was worked out is remembered -/
def cKn (T : List Trl) (M : Mem) : Prop := (mL M 516 0 = 360 ∧ mL M 99 0 = 360 ∧ mL M 100 0 = 360) ∧ ∀ t k, t < T.length → k < 9 → mI M 516 0 (9 * t + k) ≠ 0 → mI M 99 0 (9 * t + k) = (outS (gTr T t) (brK k)).1 ∧ mI M 100 0 (9 * t + k) = (outS (gTr T t) (brK k)).2
def WkB (BB A : List Nm) (B F : Nat) (M : Mem) : Prop := (NC BB A M ∧ rmC 0 B F M) ∧ (cRd M ∧ cLk M ∧ mL M 30 0 = 6) ∧ (mI M 6 0 35 = 1 ∨ (mI M 6 0 35 = 0 ∧ ∃ C1, mI M 10 0 8 = Int32.ofNat C1))
def WkT (BB A : List Nm) (B F : Nat) (T : List Trl) (M : Mem) : Prop := WkB BB A B F M ∧ (cTx (T.map txt) M ∧ cKn T M) ∧ ∀ L ∈ T, TrO L ∧ nmL BB L
section
variable {BB A : List Nm} {B F t b r : Nat} {T : List Trl} {L : Trl} {M M' : Mem} {Q X : Mem → Prop} {br a : Int32}
theorem cLk.fr {S : Nat} (h : cLk M) (hf : Fr S M M') (hS : okF S [5515, 5097, 5031, 5032, cd 4 9, cd 4 10] = true := by rfl) : cLk M' := by
  have o := fun {b : Nat} (hb : b ∈ [5515, 5097, 5031, 5032, cd 4 9, cd 4 10]) => okF_in hS hb
  obtain ⟨q1, q2, q3, q4, q5, q6⟩ := h
  exact ⟨(hf.L (f := 515) (o (by simp)) 0).trans q1, (hf.L (f := 97) (o (by simp)) 0).trans q2, (hf.L (f := 31) (o (by simp)) 0).trans q3, (hf.L (f := 32) (o (by simp)) 0).trans q4, (hf.I (f := 4) (k := 9) (o (by simp)) 0).trans q5, (hf.I (f := 4) (k := 10) (o (by simp)) 0).trans q6⟩
theorem cTx.fr {S : Nat} {Y : List (List Int32)} (h : cTx Y M) (hf : Fr S M M') (hS : okF S [cd 10 10, 98, 400, 701, 5701, 5098, 5400] = true := by rfl) : cTx Y M' := by
  have o := fun {b : Nat} (hb : b ∈ [cd 10 10, 98, 400, 701, 5701, 5098, 5400]) => okF_in hS hb
  obtain ⟨⟨e10, h40⟩, ⟨l701, l98⟩, π, hr, hi, ht⟩ := h
  refine ⟨⟨(hf.I (f := 10) (k := 10) (o (by simp)) 0).trans e10, h40⟩, ⟨(hf.L (f := 701) (o (by simp)) 0).trans l701, (hf.L (f := 98) (o (by simp)) 0).trans l98⟩, π, fun t h1 => ?_, hi, fun t h1 => ?_⟩
  · rw [hf.Ra (f := 701) rfl (o (by simp)), hf.L (f := 400) (o (by simp))]; exact hr t h1
  · rw [hf.Ia (f := 98) rfl (o (by simp))]
    exact ⟨(ht t h1).1, fun i h2 => by rw [hf.Ia (f := 400) rfl (o (by simp))]; exact (ht t h1).2 i h2⟩
theorem cKn.fr {S : Nat} (h : cKn T M) (hf : Fr S M M') (hS : okF S [516, 99, 100, 5516, 5099, 5100] = true := by rfl) : cKn T M' := by
  have o := fun {b : Nat} (hb : b ∈ [516, 99, 100, 5516, 5099, 5100]) => okF_in hS hb
  refine ⟨⟨(hf.L (f := 516) (o (by simp)) 0).trans h.1.1, (hf.L (f := 99) (o (by simp)) 0).trans h.1.2.1, (hf.L (f := 100) (o (by simp)) 0).trans h.1.2.2⟩, fun t k h1 h2 h3 => ?_⟩
  rw [hf.Ia (f := 516) rfl (o (by simp))] at h3
  rw [hf.Ia (f := 99) rfl (o (by simp)), hf.Ia (f := 100) rfl (o (by simp))]
  exact h.2 t k h1 h2 h3
theorem okF_sub {S : Nat} {L l : List Nat} (hS : okF S L = true) (hl : l.all (fun b => L.contains b) = true) : okF S l = true := by
  unfold okF at *
  rw [List.all_eq_true] at hS hl ⊢
  exact fun b hb => hS b (List.contains_iff_mem.mp (hl b hb))
theorem Fr.ml {S : Nat} (hf : Fr S M M') (h5 : S >>> 4999 = 0) : mL M' = mL M ∧ mS M' = mS M ∧ mN M' = mN M := by
  have tb : ∀ k, 4999 ≤ k → S.testBit k = false := fun k hk => by
    have := Nat.testBit_shiftRight S (i := 4999) (j := k - 4999)
    rw [h5, Nat.zero_testBit, show 4999 + (k - 4999) = k by omega] at this
    exact this.symm
  exact ⟨funext fun f => funext fun i => hf.2.1 f (tb _ (by omega)) i, (hf.2.2.1 (tb _ (by omega))).2, (hf.2.2.1 (tb _ (by omega))).1⟩
theorem rmC.fr {S w : Nat} (h : rmC w B F M) (hf : Fr S M M') (h5 : S >>> 4999 = 0 := by rfl) (hS : okF S [77, 700, cd 5 61, cd 7 0, cd 6 22, cd 6 23, cd 6 24, cd 6 25] = true := by rfl) : rmC w B F M' := by
  have o := fun {b : Nat} (hb : b ∈ [77, 700, cd 5 61, cd 7 0, cd 6 22, cd 6 23, cd 6 24, cd 6 25]) => okF_in hS hb
  obtain ⟨e, es, en⟩ := hf.ml h5
  obtain ⟨⟨a1, a2, a3, a4⟩, ⟨q1, q2, q3, q4, q5, q6⟩, c, x, n, d1, d2, d3⟩ := h
  unfold cRm at a3
  refine ⟨⟨?_, ?_, ?_, ?_, ?_⟩, ⟨?_, ?_, ?_, ?_, ?_, fun t ht => ?_⟩, fun t ht => ⟨?_, ?_⟩, x, n, ⟨d1.1, d1.2.1, ?_⟩, fun k hk => ?_, d3⟩
  · rw [e]; exact a1
  · rw [e]; exact a2
  · unfold cRm; rw [e]; exact a3
  · rw [e]; exact a4.1
  · intro i hi
    rw [hf.Ia (f := 77) rfl (o (by simp)), hf.I (f := 5) (k := 61) (o (by simp))]; exact a4.2 i hi
  · rw [e]; exact q1
  · rw [e]; exact q2
  · rw [e]; exact q3
  · rw [e]; exact q4
  · rw [e]; exact q5
  · rw [hf.Ra (f := 700) rfl (o (by simp))]; exact q6 t ht
  · rw [e]; exact (c t ht).1
  · rw [hf.I (f := 7) (k := 0) (o (by simp))]; exact (c t ht).2
  · rw [es]; exact d1.2.2
  · obtain ⟨y1, y2, y3, y4⟩ := d2 k hk
    have e6 : mR M' 6 w (22 + k) = mR M 6 w (22 + k) := by
      have : k = 0 ∨ k = 1 ∨ k = 2 ∨ k = 3 := by omega
      rcases this with z | z | z | z <;> subst z
      · exact hf.R (f := 6) (k := 22) (o (by simp)) w
      · exact hf.R (f := 6) (k := 23) (o (by simp)) w
      · exact hf.R (f := 6) (k := 24) (o (by simp)) w
      · exact hf.R (f := 6) (k := 25) (o (by simp)) w
    rw [e6, e, en]
    exact ⟨y1, y2, y3, y4⟩
abbrev wkL : List Nat := [cd 1 4, 20, 21, 22, 600, 5020, 5021, 5022, 5600, cd 3 17, 5023, 5024, 5025, 5026, 5027, 5028, 5029, 5211, 5515, 5097, 5031, 5032, cd 4 9, cd 4 10, 5030, cd 6 35, cd 10 8, 77, 700, cd 5 61, cd 7 0, cd 6 22, cd 6 23, cd 6 24, cd 6 25]
theorem WkB.fr {S : Nat} (h : WkB BB A B F M) (hf : Fr S M M') (h5 : S >>> 4999 = 0 := by rfl) (hS : okF S wkL = true := by rfl) : WkB BB A B F M' := by
  have o := fun {b : Nat} (hb : b ∈ wkL) => okF_in hS hb
  obtain ⟨⟨hN, hR⟩, ⟨hRd, hLk, h30⟩, h35⟩ := h
  refine ⟨⟨hN.fr hf (okF_sub hS (by rfl)), hR.fr hf h5 (okF_sub hS (by rfl))⟩, ⟨hRd.fr hf (okF_sub hS (by rfl)), hLk.fr hf (okF_sub hS (by rfl)), (hf.L (f := 30) (o (by simp)) 0).trans h30⟩, ?_⟩
  rw [hf.I (f := 6) (k := 35) (o (by simp)), hf.I (f := 10) (k := 8) (o (by simp))]; exact h35
theorem k_work1 (h : w_Works_work1 0 r a br (fun M' => Fr F_Works_work1 M M' → Q M') (fun M' => X M') M) : w_Works_work1 0 r a br Q X M := mf_w_Works_work1 (fun _ hf hp => hp hf) (fun _ _ hp => hp) h
/-- the outcome of a text -/
theorem c_work1 (h : WkB BB A B F M) (hL : TrO L) (hnm : nmT BB L) (hT : (txt L).length ≤ mL M 400 r ∧ ∀ k, k < (txt L).length → mI M 400 r k = gi (txt L) k) (hF : F < 1000000) (hCF : 601 < F)
    (hQ : ∀ A' M', A <+: A' → WkB BB A' B F M' → Fr F_Works_work1 M M' → mI M' 10 0 16 = (outS L br).1 → mI M' 10 0 17 = (outS L br).2 → Q M') : w_Works_work1 0 r (Int32.ofNat (txt L).length) br Q X M := by
  obtain ⟨⟨hN, hR⟩, ⟨hRd, hLk, h30⟩, h35⟩ := h
  have hne := hL.1.1
  have h10 : (10 : Int32) ∉ L.getLastD [] := hL.2.2.1 _ (by
    rcases List.eq_nil_or_concat L with e | ⟨l, a, e⟩
    · exact absurd e hne
    · rw [e, List.concat_eq_append, List.getLastD_concat]; simp)
  refine k_work1 (c_wk5 hne h10 (by have := hL.2.1; omega) hT (c_wk27 hL hR hN hRd hLk h30 h35 hT hnm.1 hnm.2 hF hCF (fun A' M' p1 p2 p3 p4 p5 p6 hf => ?_)))
  exact hQ A' M' p1 ⟨⟨p2, p3⟩, ⟨hRd.fr hf, hLk.fr hf, (hf.L (f := 30) rfl 0).trans h30⟩, Or.inl p4⟩ hf p5 p6
def bcF (a1 : Int32) : Int32 :=
  let x1 := a1 - ((a1.toUInt32 >>> ((1 : Int32).toUInt32 &&& Int32.toUInt32 31)).toInt32 &&& (1431655765 : Int32))
  let x2 := (x1 &&& (858993459 : Int32)) + ((x1.toUInt32 >>> ((2 : Int32).toUInt32 &&& Int32.toUInt32 31)).toInt32 &&& (858993459 : Int32))
  let x3 := (x2 + (x2.toUInt32 >>> ((4 : Int32).toUInt32 &&& Int32.toUInt32 31)).toInt32) &&& (252645135 : Int32)
  let x4 := x3 + (x3.toUInt32 >>> ((8 : Int32).toUInt32 &&& Int32.toUInt32 31)).toInt32
  let x5 := x4 + (x4.toUInt32 >>> ((16 : Int32).toUInt32 &&& Int32.toUInt32 31)).toInt32
  x5 &&& (63 : Int32)
theorem c_bitC {Q : Int32 → Mem → Prop} (h : Q (bcF a) M) : w_JInteger_bitCount a Q M := ⟨_, rfl, _, rfl, _, rfl, _, rfl, _, rfl, h⟩
set_option maxRecDepth 100000 in
theorem bcF_1 : ∀ b, b < 256 → bcF (Int32.ofNat b) = 1 → b = 1 ∨ b = 2 ∨ b = 4 ∨ b = 8 ∨ b = 16 ∨ b = 32 ∨ b = 64 ∨ b = 128 := by decide
theorem c_ntz {Q : Int32 → Mem → Prop} {k : Nat} (hk : k < 8) (h : Q (Int32.ofNat k) M) : w_JInteger_numberOfTrailingZeros (Int32.ofNat (2 ^ k)) Q M := by
  unfold w_JInteger_numberOfTrailingZeros w_JInteger_numberOfTrailingZeros_j34 w_JInteger_numberOfTrailingZeros_j49 w_JInteger_numberOfTrailingZeros_j62
  have : k = 0 ∨ k = 1 ∨ k = 2 ∨ k = 3 ∨ k = 4 ∨ k = 5 ∨ k = 6 ∨ k = 7 := by omega
  rcases this with e | e | e | e | e | e | e | e <;> subst e
  · exact itn (by decide) h
  · exact itp (by decide) (itp (by decide) (itp (by decide) (itp (by decide) (itp (by decide) h))))
  · exact itp (by decide) (itp (by decide) (itp (by decide) (itp (by decide) (itp (by decide) h))))
  · exact itp (by decide) (itp (by decide) (itp (by decide) (itp (by decide) (itn (by decide) ⟨_, rfl, h⟩))))
  · exact itp (by decide) (itp (by decide) (itp (by decide) (itp (by decide) (itn (by decide) ⟨_, rfl, h⟩))))
  · exact itp (by decide) (itp (by decide) (itp (by decide) (itn (by decide) ⟨_, rfl, itp (by decide) h⟩)))
  · exact itp (by decide) (itp (by decide) (itp (by decide) (itn (by decide) ⟨_, rfl, itp (by decide) h⟩)))
  · exact itp (by decide) (itp (by decide) (itp (by decide) (itn (by decide) ⟨_, rfl, itn (by decide) ⟨_, rfl, h⟩⟩)))
/-- which of the remembered outcomes it is -/
theorem c_wk26 (hb : b < 256) (hk : ∀ k, k < 9 → brK k = Int32.ofNat b → w_Works_work2_j26 0 Q X a (Int32.ofNat b) (Int32.ofNat k) M) (hn : w_Works_work2_j26 0 Q X a (Int32.ofNat b) (-1) M) : w_Works_work2 0 a (Int32.ofNat b) Q X M := by
  unfold w_Works_work2
  by_cases e0 : b = 0
  · subst e0
    exact itp rfl (hk 0 (by omega) rfl)
  refine itn (fun z => e0 ((oN_inj (by omega) (by omega)).mp (z.trans (show (0 : Int32) = Int32.ofNat 0 from rfl)))) (c_bitC ?_)
  by_cases c : bcF (Int32.ofNat b) = 1
  · refine itp c ?_
    have go : ∀ k, k < 8 → b = 2 ^ k → w_JInteger_numberOfTrailingZeros (Int32.ofNat b) (fun r22 M21 => w_Works_work2_j26 0 Q X a (Int32.ofNat b) ((1 : Int32) + r22) M21) M := fun k hk8 e => by
      rw [e]
      refine c_ntz hk8 ?_
      rw [lit32 1, oN_add, ← e, Nat.add_comm]
      refine hk (k + 1) (by omega) ?_
      unfold brK
      rw [if_neg (by omega), Nat.add_sub_cancel, e]
    rcases bcF_1 b hb c with e | e | e | e | e | e | e | e
    · exact go 0 (by omega) e
    · exact go 1 (by omega) e
    · exact go 2 (by omega) e
    · exact go 3 (by omega) e
    · exact go 4 (by omega) e
    · exact go 5 (by omega) e
    · exact go 6 (by omega) e
    · exact go 7 (by omega) e
  · exact itn c hn
theorem gTr_map (ht : t < T.length) : gT (T.map txt) t = txt (gTr T t) := by
  show (T.map txt).getD t [] = txt (T.getD t [])
  rw [List.getD_eq_getElem?_getD, List.getD_eq_getElem?_getD, List.getElem?_map, List.getElem?_eq_getElem ht]; rfl
theorem gTr_mem (ht : t < T.length) : gTr T t ∈ T := getD_mem ht
/-- THE OUTCOME OF A TRIAL, in the works -/
theorem c_work2 (h : WkT BB A B F T M) (ht : t < T.length) (hb : b < 256) (hF : F < 1000000) (hCF : 601 < F)
    (hQ : ∀ A' M', A <+: A' → WkT BB A' B F T M' → mI M' 10 0 16 = (outS (gTr T t) (Int32.ofNat b)).1 → mI M' 10 0 17 = (outS (gTr T t) (Int32.ofNat b)).2 → Q M') : w_Works_work2 0 (Int32.ofNat t) (Int32.ofNat b) Q X M := by
  obtain ⟨hB, ⟨hX, hK⟩, hT⟩ := h
  generalize eo : outS (gTr T t) (Int32.ofNat b) = o at hQ
  obtain ⟨hTO, hnmL⟩ := hT _ (gTr_mem ht)
  have hnm := nmT_of hTO hnmL
  have h40 : T.length ≤ 40 := by have := hX.1.2; rw [List.length_map] at this; exact this
  -- what is worked out
  have wk : ∀ (Q' : Mem → Prop), (∀ A' M', A <+: A' → WkT BB A' B F T M' → mI M' 10 0 16 = o.1 → mI M' 10 0 17 = o.2 → Q' M') → vp_in (Int32.ofNat t) (mL M 701 0) ∧ ∃ i4, (mR M 701 0 (Int32.ofNat t).toNatClampNeg) = some (400, i4) ∧ vp_in (Int32.ofNat t) (mL M 98 0) ∧ w_Works_work1 0 i4 (mI M 98 0 (Int32.ofNat t).toNatClampNeg) (Int32.ofNat b) Q' X M := by
    intro Q' hQ'
    obtain ⟨⟨e10, -⟩, ⟨l701, l98⟩, π, hr, hi, hx⟩ := hX
    obtain ⟨r1, r2, -⟩ := hr t (by omega)
    obtain ⟨⟨x1, x2⟩, x3⟩ := hx t (by rw [List.length_map]; exact ht)
    rw [gTr_map ht] at x1 x2 x3
    refine ⟨by rw [l701]; exact (vp_oN (by omega)).mpr (by omega), π t, by rw [oN_tnc (k := t) (by omega)]; exact r1, by rw [l98]; exact (vp_oN (by omega)).mpr (by omega), ?_⟩
    rw [oN_tnc (k := t) (by omega), x1]
    refine c_work1 hB hTO hnm ⟨by rw [r2]; omega, x3⟩ hF hCF (fun A' M' p1 p2 hf o1 o2 => ?_)
    rw [eo] at o1 o2
    exact hQ' A' M' p1 ⟨p2, ⟨cTx.fr ⟨⟨e10, by rw [List.length_map]; exact h40⟩, ⟨l701, l98⟩, π, hr, hi, hx⟩ hf, hK.fr hf⟩, hT⟩ o1 o2
  refine c_wk26 hb (fun k hk ek => ?_) ?_
  · have hk1 : 9 * t + k < 360 := by omega
    unfold w_Works_work2_j26
    refine itn (nlt_oN (b := 0) (by omega) (by omega)) ?_
    rw [lit32 9, oN_mul, oN_add, oN_tnc (k := 9 * t + k) (by omega)]
    refine ⟨by rw [hK.1.1]; exact (vp_oN (by omega)).mpr hk1, ?_⟩
    by_cases c : mI M 516 0 (9 * t + k) = 0
    · refine itp c ?_
      unfold w_Works_work2_j72
      refine wk _ (fun A' M' p1 p2 o1 o2 => ?_)
      refine itp ((oN_le (a := 0) (by omega) (by omega)).mpr (Nat.zero_le _)) ?_
      rw [oN_tnc (k := 9 * t + k) (by omega)]
      obtain ⟨q1, ⟨q2, q3⟩, q4⟩ := p2
      have s16 : mI (sI M' 516 0 (9 * t + k) ((1 : Int32) &&& 1)) 10 0 16 = o.1 := by rw [mI_sI, if_neg (fun z => absurd z.1 (by decide))]; exact o1
      have s17 : mI (sI (sI M' 516 0 (9 * t + k) ((1 : Int32) &&& 1)) 99 0 (9 * t + k) (mI (sI M' 516 0 (9 * t + k) ((1 : Int32) &&& 1)) 10 0 16)) 10 0 17 = o.2 := by rw [mI_sI, if_neg (fun z => absurd z.1 (by decide)), mI_sI, if_neg (fun z => absurd z.1 (by decide))]; exact o2
      refine ⟨by rw [q3.1.1]; exact (vp_oN (by omega)).mpr hk1, show vp_in _ (mL M' 99 0) from by rw [q3.1.2.1]; exact (vp_oN (by omega)).mpr hk1, _, rfl, show vp_in _ (mL M' 100 0) from by rw [q3.1.2.2]; exact (vp_oN (by omega)).mpr hk1, ?_⟩
      rw [s17, s16]
      have f1 : Fr (214524926879081553593184399971293538039669853129478294043576983099548224481176751628829988770670454843040509730983776813660064026467045461487040629152153600) M' (sI (sI (sI M' 516 0 (9 * t + k) ((1 : Int32) &&& 1)) 99 0 (9 * t + k) o.1) 100 0 (9 * t + k) o.2) := Fr.wIa rfl rfl (Fr.wIa rfl rfl (Fr.wIa rfl rfl (Fr.rf _ _)))
      have hl : ∀ f i, mL (sI (sI (sI M' 516 0 (9 * t + k) ((1 : Int32) &&& 1)) 99 0 (9 * t + k) o.1) 100 0 (9 * t + k) o.2) f i = mL M' f i := fun _ _ => rfl
      have ev : ∀ t' k', t' < T.length → k' < 9 → mI (sI (sI (sI M' 516 0 (9 * t + k) ((1 : Int32) &&& 1)) 99 0 (9 * t + k) o.1) 100 0 (9 * t + k) o.2) 516 0 (9 * t' + k') ≠ 0 → mI (sI (sI (sI M' 516 0 (9 * t + k) ((1 : Int32) &&& 1)) 99 0 (9 * t + k) o.1) 100 0 (9 * t + k) o.2) 99 0 (9 * t' + k') = (outS (gTr T t') (brK k')).1 ∧ mI (sI (sI (sI M' 516 0 (9 * t + k) ((1 : Int32) &&& 1)) 99 0 (9 * t + k) o.1) 100 0 (9 * t + k) o.2) 100 0 (9 * t' + k') = (outS (gTr T t') (brK k')).2 := by
        intro t' k' h1 h2 h3
        by_cases ce : 9 * t' + k' = 9 * t + k
        · have e1 : t' = t := by omega
          have e2 : k' = k := by omega
          subst e1; subst e2
          rw [ek, eo]
          constructor
          · rw [mI_sI, if_neg (fun z => absurd z.1 (by decide)), mI_sI, if_pos ⟨rfl, rfl, rfl⟩]
          · rw [mI_sI, if_pos ⟨rfl, rfl, rfl⟩]
        · rw [mI_sI, if_neg (fun z => ce z.2.2), mI_sI, if_neg (fun z => ce z.2.2), mI_sI, if_neg (fun z => ce z.2.2)] at h3
          rw [mI_sI, if_neg (fun z => ce z.2.2), mI_sI, if_neg (fun z => ce z.2.2), mI_sI, if_neg (fun z => ce z.2.2), mI_sI, if_neg (fun z => ce z.2.2), mI_sI, if_neg (fun z => ce z.2.2), mI_sI, if_neg (fun z => ce z.2.2)]
          exact q3.2 t' k' h1 h2 h3
      have c16 : mI (sI (sI (sI M' 516 0 (9 * t + k) ((1 : Int32) &&& 1)) 99 0 (9 * t + k) o.1) 100 0 (9 * t + k) o.2) 10 0 16 = mI M' 10 0 16 := f1.I (f := 10) (k := 16) rfl 0
      have c17 : mI (sI (sI (sI M' 516 0 (9 * t + k) ((1 : Int32) &&& 1)) 99 0 (9 * t + k) o.1) 100 0 (9 * t + k) o.2) 10 0 17 = mI M' 10 0 17 := f1.I (f := 10) (k := 17) rfl 0
      exact hQ A' _ p1 ⟨q1.fr f1, ⟨q2.fr f1, ⟨q3.1, ev⟩⟩, q4⟩ (c16.trans o1) (c17.trans o2)
    · refine itn c ⟨by rw [hK.1.2.1]; exact (vp_oN (by omega)).mpr hk1, _, rfl, show vp_in _ (mL M 100 0) from by rw [hK.1.2.2]; exact (vp_oN (by omega)).mpr hk1, _, rfl, ?_⟩
      obtain ⟨k1, k2⟩ := hK.2 t k ht hk c
      rw [ek, eo] at k1 k2
      have f1 : Fr (241873437752252925922159915160715758398481477613027403189344933477100840671249619112825992217610182901582328480540617259452901133038040545411415896633904004707442887954761977183539688920454398002323402569762120744914349912691902057037120947593286197600576469495446819666230015777517044754752388989979213412818688935227736592338808951092665464065768445097510268675748875532188248044369680230566567703180982962779081589510778785326440987137881162567754565380691455629620678854912452505495882848157195597993110758525638496043111903169940402770294904415194176986581272922439133169643038360692638878855186612446903430195586337410268641534170706167693418712535053471104059966103649134961507352216018206328441493360117435323577908674820611767451122805398979578490457405719254180003051012877411471261106602737796808974281735949386873748711156597419191293493274575874786898558303199201669894741461274267136161751236608) M (sI (sI M 10 0 16 (mI M 99 0 (9 * t + k))) 10 0 17 (mI (sI M 10 0 16 (mI M 99 0 (9 * t + k))) 100 0 (9 * t + k))) := Fr.wI rfl (Fr.wI rfl (Fr.rf _ _))
      refine hQ A _ List.prefix_rfl ⟨hB.fr f1, ⟨hX.fr f1, hK.fr f1⟩, hT⟩ ?_ ?_
      · rw [mI_sI, if_neg (fun z => absurd z.2.2 (by decide)), mI_sI, if_pos ⟨rfl, rfl, rfl⟩]; exact k1
      · rw [mI_sI, if_pos ⟨rfl, rfl, rfl⟩, mI_sI, if_neg (fun z => absurd z.1 (by decide))]; exact k2
  · unfold w_Works_work2_j26
    refine itp (by decide) ?_
    unfold w_Works_work2_j72
    exact wk _ (fun A' M' p1 p2 o1 o2 => itn (by decide) (hQ A' M' p1 p2 o1 o2))
end
