/-! B: a class comes into a world of the works -/
theorem cCl.add {A : List Nm} {W : List Cls} {w : Nat} {M M' : Mem} {own par : Nm} {fs : List Nm} {bits : Int32} (h : cCl A W w M) (hl : W.length < 51) (ho : own ∈ A) (ho2 : own ≠ []) (hp : par ∈ A) (hp2 : par ≠ []) (hf : ∀ f ∈ fs, f ∈ A) (hf4 : fs.length ≤ 4)
    (e0 : mI M' 5 w 2 = Int32.ofNat (W.length + 1)) (e1 : ∀ k, mI M' 36 w k = if k = W.length then nc A own else mI M 36 w k) (e2 : ∀ k, mI M' 37 w k = if k = W.length then nc A par else mI M 37 w k) (e3 : ∀ k, mI M' 40 w k = if k = W.length then bits else mI M 40 w k) (e4 : ∀ k, mI M' 39 w k = if k = W.length then Int32.ofNat fs.length else mI M 39 w k)
    (e5 : ∀ k, mI M' 38 w k = if 4 * W.length ≤ k ∧ k < 4 * W.length + fs.length then nc A (gnm fs (k - 4 * W.length)) else mI M 38 w k) (lm : ∀ f, mL M' f w = mL M f w) : cCl A (W ++ [(own, par, fs, bits, [], [])]) w M' := by
  obtain ⟨⟨⟨x1, x2, x3, x4⟩, x5⟩, ⟨y1, y2, y3, y4⟩, y5⟩ := h
  have ga : ∀ {c}, c < W.length → gc (W ++ [(own, par, fs, bits, [], [])]) c = gc W c := fun {c} hc => by
    simp [gc, List.getD_eq_getElem?_getD, List.getElem?_append_left hc]
  have ge : gc (W ++ [(own, par, fs, bits, [], [])]) W.length = (own, par, fs, bits, [], []) := by
    simp [gc, List.getD_eq_getElem?_getD]
  have ll : (W ++ [(own, par, fs, bits, ([] : List Fld), ([] : List Mth))]).length = W.length + 1 := by simp
  refine ⟨⟨⟨by rw [ll]; exact e0, (lm 36).trans x2, by rw [ll]; omega, x4⟩, fun c hc => ?_⟩, ⟨(lm 37).trans y1, (lm 38).trans y2, (lm 39).trans y3, (lm 40).trans y4⟩, fun c hc => ?_⟩
  · rw [ll] at hc
    rw [e1]
    by_cases q : c = W.length
    · rw [if_pos q, q, ge]; exact ⟨rfl, ho⟩
    · rw [if_neg q, ga (by omega)]; exact x5 c (by omega)
  · rw [ll] at hc
    rw [e2, e4, e3]
    by_cases q : c = W.length
    · rw [if_pos q, if_pos q, if_pos q, q, ge]
      refine ⟨⟨by unfold pcC; rw [if_neg hp2], Or.inr hp, ho2⟩, ⟨rfl, hf4, fun i hi => ?_⟩, rfl⟩
      have hi' : i < fs.length := hi
      rw [e5, if_pos ⟨by omega, by omega⟩, show 4 * W.length + i - 4 * W.length = i by omega]
      refine ⟨rfl, hf _ ?_⟩
      simp [List.getD_eq_getElem?_getD, List.getElem?_eq_getElem hi']
    · rw [if_neg q, if_neg q, if_neg q, ga (by omega)]
      obtain ⟨z1, z2, z3⟩ := y5 c (by omega)
      refine ⟨z1, ⟨z2.1, z2.2.1, fun i hi => ?_⟩, z3⟩
      have := z2.2.1
      rw [e5, if_neg (fun x => by omega)]
      exact z2.2.2 i hi

abbrev cls0 (own par : Nm) (fs : List Nm) (bits : Int32) : Cls := (own, par, fs, bits, [], [])
theorem gc_snoc1 {W : List Cls} {x : Cls} {c : Nat} (hc : c < W.length) : gc (W ++ [x]) c = gc W c := by simp [gc, List.getD_eq_getElem?_getD, List.getElem?_append_left hc]
theorem gc_snoc2 {W : List Cls} {x : Cls} : gc (W ++ [x]) W.length = x := by simp [gc, List.getD_eq_getElem?_getD]
theorem off_snoc {W : List Cls} {x : Cls} {c : Nat} (hc : c ≤ W.length) : foff (W ++ [x]) c = foff W c ∧ moff (W ++ [x]) c = moff W c := by
  unfold foff moff
  rw [List.take_append_of_le_length hc]; exact ⟨rfl, rfl⟩
theorem cFl.add {A : List Nm} {W : List Cls} {w : Nat} {own par : Nm} {fs : List Nm} {bits : Int32} {M M' : Mem} (h : cFl A W w M) (e17 : mI M' 5 w 17 = mI M 5 w 17) (e41 : ∀ k, mI M' 41 w k = if k = W.length then Int32.ofNat (allF W).length else mI M 41 w k) (e42 : ∀ k, mI M' 42 w k = if k = W.length then 0 else mI M 42 w k) (e : ∀ f, (49 ≤ f ∧ f ≤ 54) ∨ f = 511 → ∀ k, mI M' f w k = mI M f w k) (lm : ∀ f, mL M' f w = mL M f w) : cFl A (W ++ [cls0 own par fs bits]) w M' := by
  obtain ⟨⟨a1, ⟨b1, b2', b3, b4, b5, b6, b7⟩, a3, a4⟩, d, g⟩ := h
  have ha : allF (W ++ [cls0 own par fs bits]) = allF W := by rw [allF_app]; simp [allF]
  have ll : (W ++ [cls0 own par fs bits]).length = W.length + 1 := by simp
  refine ⟨⟨by rw [ha]; exact e17.trans a1, ⟨(lm _).trans b1, (lm _).trans b2', (lm _).trans b3, (lm _).trans b4, (lm _).trans b5, (lm _).trans b6, (lm _).trans b7⟩, (lm _).trans a3, (lm _).trans a4⟩, fun j hj => ?_, fun i hi => ?_⟩
  · rw [ll] at hj
    rw [e41, e42, (off_snoc (by omega)).1]
    by_cases q : j = W.length
    · rw [if_pos q, if_pos q, q, gc_snoc2, foff_all]
      exact ⟨⟨rfl, rfl⟩, by show 0 ≤ 8; omega, fun _ => rfl⟩
    · rw [if_neg q, if_neg q, gc_snoc1 (by omega)]; exact d j (by omega)
  · rw [ha] at hi ⊢
    rw [e 49 (by omega), e 50 (by omega), e 51 (by omega), e 52 (by omega), e 511 (by omega)]; exact g i hi
theorem cMs.add {A : List Nm} {W : List Cls} {w nq nk np nh nr : Nat} {own par : Nm} {fs : List Nm} {bits : Int32} {b : Nat → Nat} {M M' : Mem} (h : cMs A W w 0 nq nk np nh nr M) (h21 : 21 ≤ W.length) (hx : Lo w b M M') (h43 : W.length ≤ b 43) (h44 : W.length ≤ b 44) (hb : bM (allM W).length nq nk np nh nr b) (e43 : mI M' 43 w W.length = Int32.ofNat (allM W).length) (e44 : mI M' 44 w W.length = 0) : cMs A (W ++ [cls0 own par fs bits]) w 0 nq nk np nh nr M' := by
  have hl := h.lo hx h43 h44 hb
  obtain ⟨a, c1, c2⟩ := hl
  have ll : (W ++ [cls0 own par fs bits]).length = W.length + 1 := by simp
  have i0 : ∀ c n : Nat, (if c + 1 = n then 0 else 0) = 0 := fun c n => by split <;> rfl
  refine ⟨a, fun c hc => ?_, fun c hc k hk => ?_⟩
  · rw [ll] at hc
    rw [(off_snoc (by omega)).2]
    by_cases q : c = W.length
    · rw [q, gc_snoc2, moff_all, i0]
      exact ⟨⟨e43, e44⟩, by show 0 ≤ 12; omega, fun z => by omega⟩
    · rw [gc_snoc1 (by omega), i0]
      have := c1 c (by omega)
      rw [i0] at this; exact this
  · rw [ll] at hc
    by_cases q : c = W.length
    · rw [q, gc_snoc2] at hk; exact absurd hk (Nat.not_lt_zero k)
    · rw [gc_snoc1 (by omega)] at hk ⊢
      rw [(off_snoc (by omega)).2]; exact c2 c (by omega) k hk
/-- a world of the works, between classes -/
def CW0 (A : List Nm) (W : List Cls) (w : Nat) (br : Int32) (nq nk np nh nr : Nat) (M : Mem) : Prop := (∃ c, C4 A W w c br M) ∧ cMs A W w 0 nq nk np nh nr M ∧ cCt W w 0 nq nk np nh nr M ∧ cRm w M ∧ cRd M ∧ nh ≤ 8 * ((allM W).length - 21)
def bC (c f : Nat) : Nat := if f = 38 then 4 * c else if 36 ≤ f ∧ f ≤ 48 then c else 10000000
theorem c_newClass {B : List Nm} {r n : Nat} {p : Nat → Int32} {to : Nat} {A : List Nm} {t : List Tok} {W : List Cls} {w : Nat} {br : Int32} {nq nk np nh nr : Nat} {own par : Nm} {fs : List Nm} {bits : Int32} {Q : Int32 → Mem → Prop} {X : Mem → Prop} {M : Mem} (hR : RS B r n p to A t M) (hCW : CW0 A W w br nq nk np nh nr M) (h21 : 21 ≤ W.length) (hW : W.length < 51) (hL : NL A (par :: fs) M) (h4 : fs.length ≤ 4) (ho : own ∈ A) (ho2 : own ≠ []) (hp2 : par ≠ []) (hal : (allM W).length ≤ 381) (hbd : nq ≤ 100000 ∧ nk ≤ 100000 ∧ np ≤ 100000 ∧ nh ≤ 100000 ∧ nr ≤ 100000)
    (hQ : ∀ d M', RS B r n p to A t M' → CW A (W ++ [cls0 own par fs bits]) w br nq nk np nh nr M' → (mI M' 45 w W.length = 0 ∧ mI M' 46 w W.length = 0 ∧ mI M' 47 w W.length = 0 ∧ mI M' 48 w W.length = 0) → mI M' 3 0 18 = Int32.ofNat (fs.length + 1) → Ez w (bC W.length) M M' → w_Reader_aClass_L392 0 Q X (d + 1) (Int32.ofNat (fs.length + 1)) M') :
    ∃ i33, (mR M 3 0 1) = some (5, i33) ∧ vp_in (0 : Int32) (mL M 211 0) ∧ w_World_addClass i33 (nc A own) (mI M 211 0 (0 : Int32).toNatClampNeg) bits (fun r36 M35 => ∃ i37, (mR (sI M35 3 0 3 r36) 3 0 1) = some (5, i37) ∧ vp_in (mI (sI M35 3 0 3 r36) 3 0 3) (mL (sI M35 3 0 3 r36) 39 i37) ∧ ∃ M39, M39 = (sI (sI M35 3 0 3 r36) 39 i37 (mI (sI M35 3 0 3 r36) 3 0 3).toNatClampNeg ((mI (sI M35 3 0 3 r36) 3 0 18) - (1 : Int32))) ∧ ∃ n65 : Nat, w_Reader_aClass_L392 0 Q X n65 (1 : Int32) M39) M := by
  obtain ⟨⟨cc, C⟩, Ms, ⟨ct1, ct2, ct3, ct4, ct5, ct6⟩, Rm, Rd, hnh⟩ := hCW
  obtain ⟨hcl, hfl, g1, g2, g4⟩ := id C
  have e52 := hcl.1.1.1
  have e517 := hfl.1.1
  have ct1 : mI M 5 w 26 = Int32.ofNat (allM W).length := ct1
  have l0 : mI M 211 0 (0 : Int32).toNatClampNeg = nc A par := (hL.2.2 0 (by simp)).1
  have hpA : par ∈ A := (hL.2.2 0 (by simp)).2
  have hfA : ∀ f ∈ fs, f ∈ A := fun f hf => by
    obtain ⟨i, i1, i2⟩ := mem_gnm hf
    have := (hL.2.2 (i + 1) (by simp; omega)).2
    rw [← i2]; exact this
  have lens : ∀ f, 36 ≤ f → f ≤ 48 → f ≠ 38 → mL M f w = 51 := fun f a c d => by
    have h : f = 36 ∨ f = 37 ∨ f = 39 ∨ f = 40 ∨ f = 41 ∨ f = 42 ∨ f = 43 ∨ f = 44 ∨ 45 ≤ f := by omega
    rcases h with h | h | h | h | h | h | h | h | h
    · rw [h]; exact hcl.1.1.2.1
    · rw [h]; exact hcl.2.1.1
    · rw [h]; exact hcl.2.1.2.2.1
    · rw [h]; exact hcl.2.1.2.2.2
    · rw [h]; exact hfl.1.2.2.1
    · rw [h]; exact hfl.1.2.2.2
    · rw [h]; exact Ms.1.1.1
    · rw [h]; exact Ms.1.1.2
    · exact Rm.2.2.2.2.2.2 f h c
  have tc : (Int32.ofNat W.length).toNatClampNeg = W.length := oN_tnc (by omega)
  have v : ∀ f, 36 ≤ f → f ≤ 48 → f ≠ 38 → vp_in (Int32.ofNat W.length) (mL M f w) := fun f a c d => by rw [lens f a c d]; exact (vp_oN (by omega)).mpr hW
  have h18 : mI M 3 0 18 = Int32.ofNat (fs.length + 1) := hL.1
  have e18 : Int32.ofNat (fs.length + 1) - (1 : Int32) = Int32.ofNat fs.length := by rw [lit32 1, oN_sub (by omega), Nat.add_sub_cancel]
  refine ⟨w, g1, by rw [hL.2.1]; exact (vp_oN (a := 0) (by omega)).mpr (by omega), ?_⟩
  rw [l0]
  unfold w_World_addClass
  simp only [mI_sI, Nat.reduceEqDiff, false_and, and_false, if_false, e52, tc, mL_sI]
  refine ⟨v 36 (by omega) (by omega) (by omega), _, rfl, ?_⟩
  simp only [mI_sI, Nat.reduceEqDiff, false_and, and_false, if_false, mL_sI]
  refine ⟨v 37 (by omega) (by omega) (by omega), v 39 (by omega) (by omega) (by omega), _, rfl, ?_⟩
  simp only [mI_sI, Nat.reduceEqDiff, false_and, and_false, if_false, mL_sI, e517]
  refine ⟨v 40 (by omega) (by omega) (by omega), v 41 (by omega) (by omega) (by omega), _, rfl, ?_⟩
  simp only [mI_sI, Nat.reduceEqDiff, false_and, and_false, if_false, mL_sI, ct1]
  refine ⟨v 42 (by omega) (by omega) (by omega), v 43 (by omega) (by omega) (by omega), _, rfl, ?_⟩
  simp only [mI_sI, Nat.reduceEqDiff, false_and, and_false, if_false, mL_sI]
  refine ⟨v 44 (by omega) (by omega) (by omega), v 45 (by omega) (by omega) (by omega), _, rfl, ?_⟩
  simp only [mI_sI, Nat.reduceEqDiff, false_and, and_false, if_false, mL_sI]
  refine ⟨v 46 (by omega) (by omega) (by omega), v 47 (by omega) (by omega) (by omega), _, rfl, ?_⟩
  simp only [mI_sI, Nat.reduceEqDiff, false_and, and_false, if_false, mL_sI]
  refine ⟨v 48 (by omega) (by omega) (by omega), w, g1, ?_⟩
  simp only [mI_sI, Nat.reduceEqDiff, false_and, and_false, if_false, and_self, if_true, mL_sI, tc, h18, e18]
  refine ⟨v 39 (by omega) (by omega) (by omega), _, rfl, 6, ?_⟩
  rw [show Int32.ofNat W.length + (1 : Int32) = Int32.ofNat (W.length + 1) by rw [lit32 1, oN_add]]
  have main : ∀ M9, RS B r n p to A t M9 → Ez w (bC W.length) M M9 → mI M9 5 w 2 = Int32.ofNat (W.length + 1) → (∀ k, mI M9 36 w k = if k = W.length then nc A own else mI M 36 w k) → (∀ k, mI M9 37 w k = if k = W.length then nc A par else mI M 37 w k) → (∀ k, mI M9 39 w k = if k = W.length then Int32.ofNat fs.length else mI M 39 w k) → (∀ k, mI M9 40 w k = if k = W.length then bits else mI M 40 w k) → (∀ k, mI M9 41 w k = if k = W.length then Int32.ofNat (allF W).length else mI M 41 w k) → (∀ k, mI M9 42 w k = if k = W.length then 0 else mI M 42 w k) → (mI M9 43 w W.length = Int32.ofNat (allM W).length ∧ mI M9 44 w W.length = 0) → (mI M9 45 w W.length = 0 ∧ mI M9 46 w W.length = 0 ∧ mI M9 47 w W.length = 0 ∧ mI M9 48 w W.length = 0) → (∀ k, mI M9 38 w k = mI M 38 w k) → (∀ f, (49 ≤ f ∧ f ≤ 54) ∨ f = 511 → ∀ k, mI M9 f w k = mI M f w k) → (∀ k, k ≠ 2 → mI M9 5 w k = mI M 5 w k) → mI M9 3 0 3 = Int32.ofNat W.length → mI M9 3 0 18 = mI M 3 0 18 → (∀ k, mI M9 211 0 k = mI M 211 0 k) → (∀ f j, mL M9 f j = mL M f j) → mR M9 3 0 1 = some (5, w) → w_Reader_aClass_L392 0 Q X 6 1 M9 := by
    intro M9 F0 F1 F2 F3 F4 F5 F6 F7 F8 F9 F11 F12 F13 F14 F15 F16 F17 F18 F19
    have loop : ∀ d i M1, fs.length + 1 - i < d → 1 ≤ i → i ≤ fs.length + 1 → RS B r n p to A t M1 → Ez w (bC W.length) M M1 → (∀ f, f ≠ 38 → ∀ j k, mI M1 f j k = mI M9 f j k) → (∀ f j, mL M1 f j = mL M f j) → mR M1 3 0 1 = some (5, w) → (∀ k, mI M1 38 w k = if 4 * W.length ≤ k ∧ k < 4 * W.length + (i - 1) then nc A (gnm fs (k - 4 * W.length)) else mI M 38 w k) → w_Reader_aClass_L392 0 Q X d (Int32.ofNat i) M1 := by
      intro d
      induction d with
      | zero => intro i M1 h; omega
      | succ d ih =>
        intro i M1 hd h1 hi R1 z1 e1 l1 m1 e38
        by_cases ei : i = fs.length + 1
        · rw [ei]
          rw [ei, Nat.add_sub_cancel] at e38
          have ll : (W ++ [cls0 own par fs bits]).length = W.length + 1 := by simp
          have hall : allM (W ++ [cls0 own par fs bits]) = allM W := by rw [allM_app]; simp [allM]
          have bMb : bM (allM W).length nq nk np nh nr (bC W.length) := by
            refine ⟨fun f a c => ?_, ?_, fun f a c => ?_, ?_, ?_, ?_, ?_, ?_⟩
            · unfold bC; rw [if_neg (by omega), if_neg (by omega)]; omega
            · show 6 * (allM W).length ≤ 10000000; omega
            · unfold bC; rw [if_neg (by omega), if_neg (by omega)]; omega
            · show nk ≤ 10000000; omega
            · show np ≤ 10000000; omega
            · show 4 * nh ≤ 10000000; omega
            · show 4 * nr ≤ 10000000; omega
            · show 6 * nr ≤ 10000000; omega
          refine hQ d M1 R1 ⟨⟨?_, ?_, m1, ?_, ?_⟩, Ms.add h21 z1.1 (Nat.le_refl _) (Nat.le_refl _) bMb (by rw [e1 43 (by omega)]; exact F9.1) (by rw [e1 44 (by omega)]; exact F9.2), ⟨?_, ?_, ?_, ?_, ?_, ?_⟩, Rm.lo z1.1, Rd.ez z1, by rw [hall]; exact hnh⟩ (by rw [e1 45 (by omega), e1 46 (by omega), e1 47 (by omega), e1 48 (by omega)]; exact F11) (by rw [e1 3 (by omega), F16]; exact h18) z1
          · exact hcl.add hW ho ho2 hpA hp2 hfA h4 (by rw [e1 5 (by omega)]; exact F2) (fun k => by rw [e1 36 (by omega)]; exact F3 k) (fun k => by rw [e1 37 (by omega)]; exact F4 k) (fun k => by rw [e1 40 (by omega)]; exact F6 k) (fun k => by rw [e1 39 (by omega)]; exact F5 k) e38 (fun f => l1 f w)
          · exact hfl.add (by rw [e1 5 (by omega)]; exact F14 17 (by omega)) (fun k => by rw [e1 41 (by omega)]; exact F7 k) (fun k => by rw [e1 42 (by omega)]; exact F8 k) (fun f q k => by rw [e1 f (by omega)]; exact F13 f q k) (fun f => l1 f w)
          · rw [ll, Nat.add_sub_cancel, e1 3 (by omega)]; exact F15
          · rw [e1 5 (by omega), F14 1 (by omega)]; exact g4
          · rw [hall, e1 5 (by omega), F14 26 (by omega)]; exact ct1
          · rw [e1 5 (by omega), F14 39 (by omega)]; exact ct2
          · rw [e1 5 (by omega), F14 47 (by omega)]; exact ct3
          · rw [e1 5 (by omega), F14 49 (by omega)]; exact ct4
          · rw [e1 5 (by omega), F14 51 (by omega)]; exact ct5
          · rw [e1 5 (by omega), F14 53 (by omega)]; exact ct6
        · unfold w_Reader_aClass_L392
          have x18 : mI M1 3 0 18 = Int32.ofNat (fs.length + 1) := by rw [e1 3 (by omega), F16]; exact h18
          have x3 : mI M1 3 0 3 = Int32.ofNat W.length := by rw [e1 3 (by omega)]; exact F15
          rw [x18]
          have ex : (4 : Int32) * Int32.ofNat W.length + Int32.ofNat i - (1 : Int32) = Int32.ofNat (4 * W.length + (i - 1)) := by
            rw [lit32 4, lit32 1, oN_mul, oN_add, oN_sub (by omega), show 4 * W.length + i - 1 = 4 * W.length + (i - 1) by omega]
          have li := hL.2.2 i (by simp; omega)
          have lg : gnm (par :: fs) i = gnm fs (i - 1) := by rw [show i = i - 1 + 1 by omega]; rfl
          rw [lg] at li
          refine itn (nle_oN (by omega) (by omega)) ⟨w, m1, by rw [l1, hL.2.1]; exact (vp_oN (by omega)).mpr (by omega), ?_⟩
          rw [x3, ex, oN_tnc (by omega), oN_tnc (by omega), e1 211 (by omega), F17, li.1, lit32 1, oN_add]
          refine ⟨by rw [l1, hcl.2.1.2.1]; exact (vp_oN (by omega)).mpr (by omega), _, rfl, ?_⟩
          refine ih (i + 1) _ (by omega) (by omega) (by omega) R1.w (z1.w (by show 4 * W.length ≤ _; omega)) (fun f hf j k => by rw [mI_sI, if_neg (fun q => hf q.1)]; exact e1 f hf j k) (fun f j => l1 f j) m1 (fun k => ?_)
          rw [mI_sI]
          by_cases ck : k = 4 * W.length + (i - 1)
          · rw [if_pos ⟨rfl, rfl, ck⟩, if_pos ⟨by omega, by omega⟩, ck, show 4 * W.length + (i - 1) - 4 * W.length = i - 1 by omega]
          · rw [if_neg (fun q => ck q.2.2), e38]
            by_cases cr : 4 * W.length ≤ k ∧ k < 4 * W.length + (i - 1)
            · rw [if_pos cr, if_pos ⟨cr.1, by omega⟩]
            · rw [if_neg cr, if_neg (fun q => by omega)]
    exact loop 6 1 M9 (by omega) (by omega) (by omega) F0 F1 (fun _ _ _ _ => rfl) F18 F19 (fun k => by rw [if_neg (fun q => by omega)]; exact F12 k)
  have le36 : ∀ f, 36 ≤ f ∧ f ≤ 48 → f ≠ 38 → bC W.length f ≤ W.length := fun f q q2 => by unfold bC; rw [if_neg q2, if_pos q]; exact Nat.le_refl _
  refine main _ ?_ ?_ ?_ ?_ ?_ ?_ ?_ ?_ ?_ ⟨?_, ?_⟩ ⟨?_, ?_, ?_, ?_⟩ ?_ ?_ ?_ ?_ rfl (fun _ => rfl) (fun _ _ => rfl) g1
  · exact hR.w.w.w.w.w.w.w.w.w.w.w.w.w.w.w
  · exact (((((((((((((((Ez.rf w (bC W.length) M).w5).w (le36 36 (by omega) (by omega))).w (le36 37 (by omega) (by omega))).w (le36 39 (by omega) (by omega))).w (le36 40 (by omega) (by omega))).w (le36 41 (by omega) (by omega))).w (le36 42 (by omega) (by omega))).w (le36 43 (by omega) (by omega))).w (le36 44 (by omega) (by omega))).w (le36 45 (by omega) (by omega))).w (le36 46 (by omega) (by omega))).w (le36 47 (by omega) (by omega))).w (le36 48 (by omega) (by omega))).w3).w (le36 39 (by omega) (by omega))
  · simp only [mI_sI, Nat.reduceEqDiff, false_and, and_false, if_false, and_self, if_true]
  · intro k; simp only [mI_sI, Nat.reduceEqDiff, false_and, if_false, true_and]
  · intro k; simp only [mI_sI, Nat.reduceEqDiff, false_and, if_false, true_and]
  · intro k
    simp only [mI_sI, Nat.reduceEqDiff, false_and, if_false, true_and]
    by_cases c : k = W.length
    · rw [if_pos c, if_pos c]
    · rw [if_neg c, if_neg c, if_neg c]
  · intro k; simp only [mI_sI, Nat.reduceEqDiff, false_and, if_false, true_and]
  · intro k; simp only [mI_sI, Nat.reduceEqDiff, false_and, if_false, true_and]
  · intro k; simp only [mI_sI, Nat.reduceEqDiff, false_and, if_false, true_and]
  · simp only [mI_sI, Nat.reduceEqDiff, false_and, if_false, and_self, if_true]
  · simp only [mI_sI, Nat.reduceEqDiff, false_and, if_false, and_self, if_true]
  · simp only [mI_sI, Nat.reduceEqDiff, false_and, if_false, and_self, if_true]
  · simp only [mI_sI, Nat.reduceEqDiff, false_and, if_false, and_self, if_true]
  · simp only [mI_sI, Nat.reduceEqDiff, false_and, if_false, and_self, if_true]
  · simp only [mI_sI, Nat.reduceEqDiff, false_and, if_false, and_self, if_true]
  · intro k; simp only [mI_sI, Nat.reduceEqDiff, false_and, if_false]
  · intro f q k
    iterate 15 rw [mI_sI, if_neg (fun z => by omega)]
  · intro k q
    simp only [mI_sI, Nat.reduceEqDiff, false_and, if_false, true_and]
    rw [if_neg (fun z => q z)]
  · simp only [mI_sI, Nat.reduceEqDiff, false_and, if_false, and_self, if_true]
