/-! B: a method's head is laid, in the works -/
def c4f (f : Nat) : Bool := (Nat.ble 36 f && Nat.ble f 42) || ((Nat.ble 49 f && Nat.ble f 54) || (Nat.beq f 511 || (Nat.beq f 5 || Nat.beq f 3)))
theorem c4f_ne {f g : Nat} (hf : c4f f = false) (hg : (36 ≤ g ∧ g ≤ 42) ∨ (49 ≤ g ∧ g ≤ 54) ∨ g = 511 ∨ g = 5 ∨ g = 3) : ¬ g = f := fun e => by
  subst e
  unfold c4f at hf
  simp only [Bool.or_eq_false_iff, Bool.and_eq_false_iff] at hf
  obtain ⟨h1, h2, h3, h4, h5⟩ := hf
  have q : ∀ a b, Nat.ble a b = false → b < a := fun a b h => Nat.lt_of_not_le (fun z => by rw [Nat.ble_eq.mpr z] at h; cases h)
  have q2 : ∀ a b, Nat.beq a b = false → a ≠ b := fun a b h z => by rw [z, Nat.beq_refl] at h; cases h
  have h3' := q2 _ _ h3
  have h4' := q2 _ _ h4
  have h5' := q2 _ _ h5
  rcases h1 with h1 | h1 <;> rcases h2 with h2 | h2 <;> (have a1 := q _ _ h1; have a2 := q _ _ h2; omega)
theorem C4.wo {A : List Nm} {W : List Cls} {w c f i k : Nat} {br v : Int32} {M : Mem} (h : C4 A W w c br M) (hf : c4f f = false := by rfl) : C4 A W w c br (sI M f i k v) :=
  h.of (fun j _ => by rw [mI_sI, if_neg (fun q => c4f_ne hf (by omega) q.1)]) rfl (by rw [mI_sI, if_neg (fun q => c4f_ne hf (by omega) q.1)]) (fun g hg j => by rw [mI_sI, if_neg (fun q => c4f_ne hf (by omega) q.1)]) (fun _ _ => rfl)
theorem C4.w5 {A : List Nm} {W : List Cls} {w c i k : Nat} {br v : Int32} {M : Mem} (h : C4 A W w c br M) (hk : k ≠ 1 ∧ k ≠ 2 ∧ k ≠ 17 := by decide) : C4 A W w c br (sI M 5 i k v) :=
  h.of (fun j hj => by rw [mI_sI, if_neg (fun q => by omega)]) rfl (by rw [mI_sI, if_neg (fun q => absurd q.1 (by decide))]) (fun g hg j => by rw [mI_sI, if_neg (fun q => by omega)]) (fun _ _ => rfl)
theorem C4.w3 {A : List Nm} {W : List Cls} {w c i k : Nat} {br v : Int32} {M : Mem} (h : C4 A W w c br M) (hk : k ≠ 3 := by decide) : C4 A W w c br (sI M 3 i k v) :=
  h.of (fun j hj => by rw [mI_sI, if_neg (fun q => absurd q.1 (by decide))]) rfl (by rw [mI_sI, if_neg (fun q => by omega)]) (fun g hg j => by rw [mI_sI, if_neg (fun q => by omega)]) (fun _ _ => rfl)
theorem cMs.opn {A : List Nm} {W : List Cls} {w nq nk np nh nr : Nat} {b : Nat → Nat} {M M' : Mem} (h : cMs A W w 0 nq nk np nh nr M) (hx : Lo w b M M') (h43 : W.length ≤ b 43) (h44 : W.length - 1 ≤ b 44) (e44 : mI M' 44 w (W.length - 1) = Int32.ofNat ((gc W (W.length - 1)).2.2.2.2.2.length + 1)) (hb : bM (allM W).length nq nk np nh nr b) : cMs A W w 1 nq nk np nh nr M' := by
  obtain ⟨⟨⟨a1, a2⟩, a3, a4⟩, c1, c2⟩ := h
  refine ⟨⟨⟨((hx.1 43 rfl).2 w).trans a1, ((hx.1 44 rfl).2 w).trans a2⟩, fun f x y => ?_, (hx.2.2.2 _).trans a4⟩, fun c hc => ?_, fun c hc k hk => ?_⟩
  · rw [(hx.1 f (by unfold wFm; rw [Bool.or_eq_true, Bool.and_eq_true]; exact Or.inl ⟨Nat.ble_eq.mpr (by omega), Nat.ble_eq.mpr (by omega)⟩)).2]; exact a3 f x y
  · have := c1 c hc
    rw [(hx.1 43 rfl).1 w c (Or.inr (by omega))]
    by_cases e : c + 1 = W.length
    · rw [if_pos e] at this ⊢
      have ec : c = W.length - 1 := by omega
      refine ⟨⟨this.1.1, ?_⟩, this.2⟩
      rw [ec]; exact e44
    · rw [if_neg e] at this ⊢
      rw [(hx.1 44 rfl).1 w c (Or.inr (by omega))]; exact this
  · have hlt := moff_at hc hk
    exact ⟨(c2 c hc k hk).1.lo hx (fun f x y => by have := hb.1 f (by omega) (by omega); omega) (by have := hb.2.1; omega), (c2 c hc k hk).2.lo hx hlt hb⟩
/-- bounds of a method's head -/
def bH (c nm f : Nat) : Nat := if f = 44 then c else if 55 ≤ f ∧ f ≤ 65 then nm else if f = 211 then 6 * nm else 10000000
/-- a head that is laid: the world is open for its lines -/
def HD (A : List Nm) (W : List Cls) (w : Nat) (br : Int32) (nq nk np nh nr : Nat) (x : Mth) (i : Nat) (M : Mem) : Prop := C4 A W w (W.length - 1) br M ∧ cMs A W w 1 nq nk np nh nr M ∧ (mI M 55 w (allM W).length = Int32.ofNat (W.length - 1) ∧ (mI M 56 w (allM W).length = nc A x.1 ∧ x.1 ∈ A) ∧ mI M 57 w (allM W).length = x.2.2.2.1 ∧ (mI M 58 w (allM W).length = Int32.ofNat x.2.1.length ∧ x.2.1.length ≤ 6 ∧ ∀ j, j < x.2.1.length → j < i → mI M 211 (2 * w + 1) (6 * (allM W).length + j) = kC A (gk x.2.1 j)) ∧ (mI M 59 w (allM W).length = kC A x.2.2.1 ∧ kok A x.2.2.1 ∧ kdOk x.2.2.1) ∧ mI M 60 w (allM W).length = x.2.2.2.2.1 ∧ mI M 61 w (allM W).length = x.2.2.2.2.2.1) ∧
  (mI M 62 w (allM W).length = Int32.ofNat nq ∧ mI M 63 w (allM W).length = 0 ∧ mI M 64 w (allM W).length = Int32.ofNat nh ∧ mI M 65 w (allM W).length = 0) ∧ cCt W w 1 nq nk np nh nr M ∧ cRm w M ∧ cRd M ∧ mI M 3 0 4 = Int32.ofNat (allM W).length ∧ LT A x.2.1 M ∧ ∀ κ ∈ x.2.1, kdOk κ
theorem c_head {B : List Nm} {r n : Nat} {p : Nat → Int32} {to : Nat} {A : List Nm} {t : List Tok} {W : List Cls} {w : Nat} {br : Int32} {nq nk np nh nr : Nat} {own : Nm} {ks : List Kd} {κ : Kd} {bits : Int32} {Q X : Mem → Prop} {M : Mem} (hR : RS B r n p to A t M) (hCW : CW A W w br nq nk np nh nr M) (h22 : 22 ≤ W.length) (hL : LT A ks M) (hk6 : ks.length ≤ 6) (hkd : ∀ κ ∈ ks, kdOk κ) (ho : own ∈ A) (hκ : kok A κ) (hκ2 : kdOk κ) (h12 : (gc W (W.length - 1)).2.2.2.2.2.length < 12) (hbd : nq ≤ 100000 ∧ nk ≤ 100000 ∧ np ≤ 100000 ∧ nh ≤ 100000 ∧ nr ≤ 100000)
    (hQ : ∀ d M', RS B r n p to A t M' → HD A W w br nq nk np nh nr (own, ks, κ, bits, 0, 0, [], []) 6 M' → Ez w (bH (W.length - 1) (allM W).length) M M' → w_Reader_aMethod_L134 0 Q X (d + 1) bits (Int32.ofNat ks.length) M') :
    ∃ i12, (mR M 3 0 1) = some (5, i12) ∧ w_World_addMethod i12 (nc A own) bits (fun r14 M13 => ∃ i15, (mR (sI M13 3 0 4 r14) 3 0 1) = some (5, i15) ∧ vp_in (mI (sI M13 3 0 4 r14) 3 0 3) (mL (sI M13 3 0 4 r14) 44 i15) ∧ vp_in (mI (sI M13 3 0 4 r14) 3 0 3) (mL (sI M13 3 0 4 r14) 44 i15) ∧ ∃ M18, M18 = (sI (sI M13 3 0 4 r14) 44 i15 (mI (sI M13 3 0 4 r14) 3 0 3).toNatClampNeg ((mI (sI M13 3 0 4 r14) 44 i15 (mI (sI M13 3 0 4 r14) 3 0 3).toNatClampNeg) + (1 : Int32))) ∧ ∃ i19, (mR M18 3 0 1) = some (5, i19) ∧ vp_in (mI M18 3 0 4) (mL M18 59 i19) ∧ ∃ i21, (mR (sI M18 59 i19 (mI M18 3 0 4).toNatClampNeg (kC A κ)) 3 0 1) = some (5, i21) ∧ vp_in (mI (sI M18 59 i19 (mI M18 3 0 4).toNatClampNeg (kC A κ)) 3 0 4) (mL (sI M18 59 i19 (mI M18 3 0 4).toNatClampNeg (kC A κ)) 58 i21) ∧ ∃ M23, M23 = (sI (sI M18 59 i19 (mI M18 3 0 4).toNatClampNeg (kC A κ)) 58 i21 (mI (sI M18 59 i19 (mI M18 3 0 4).toNatClampNeg (kC A κ)) 3 0 4).toNatClampNeg (mI (sI M18 59 i19 (mI M18 3 0 4).toNatClampNeg (kC A κ)) 3 0 18)) ∧ ∃ n62 : Nat, w_Reader_aMethod_L134 0 Q X n62 bits (0 : Int32) M23) M := by
  obtain ⟨C, Ms, ⟨ct1, ct2, ct3, ct4, ct5, ct6⟩, Rm, Rd, -⟩ := hCW
  obtain ⟨hcl, hfl, g1, g2, g4⟩ := id C
  have hW := hcl.1.1.2.2.1
  have e52 := hcl.1.1.1
  obtain ⟨⟨⟨a1, a2⟩, a3, a4⟩, d, -⟩ := id Ms
  obtain ⟨m21, m369, m381⟩ := Ms.many h22 hW
  have hnm : (allM W).length < 381 := by omega
  obtain ⟨⟨d1, d2⟩, -⟩ := d (W.length - 1) (by omega)
  rw [if_pos (by omega)] at d2
  have d2 : mI M 44 w (W.length - 1) = Int32.ofNat (gc W (W.length - 1)).2.2.2.2.2.length := d2
  have ct1 : mI M 5 w 26 = Int32.ofNat (allM W).length := ct1
  generalize hm : (allM W).length = m at *
  have tm : (Int32.ofNat m).toNatClampNeg = m := oN_tnc (by omega)
  have tc : (Int32.ofNat (W.length - 1)).toNatClampNeg = W.length - 1 := oN_tnc (by omega)
  have vm : ∀ f, 55 ≤ f → f ≤ 65 → vp_in (Int32.ofNat m) (mL M f w) := fun f x y => by rw [a3 f x y]; exact (vp_oN (by omega)).mpr hnm
  have ec : Int32.ofNat W.length - (1 : Int32) = Int32.ofNat (W.length - 1) := by rw [lit32 1, oN_sub (by omega)]
  refine ⟨w, g1, ?_⟩
  unfold w_World_addMethod
  simp only [mI_sI, Nat.reduceEqDiff, false_and, and_false, if_false, ct1, tm, mL_sI, e52, ec]
  refine ⟨vm 55 (by omega) (by omega), _, rfl, ?_⟩
  simp only [mI_sI, Nat.reduceEqDiff, false_and, and_false, if_false, mL_sI]
  refine ⟨vm 56 (by omega) (by omega), vm 57 (by omega) (by omega), _, rfl, ?_⟩
  simp only [mI_sI, Nat.reduceEqDiff, false_and, and_false, if_false, mL_sI]
  refine ⟨vm 58 (by omega) (by omega), vm 60 (by omega) (by omega), _, rfl, ?_⟩
  simp only [mI_sI, Nat.reduceEqDiff, false_and, and_false, if_false, mL_sI, ct2]
  refine ⟨vm 61 (by omega) (by omega), vm 62 (by omega) (by omega), _, rfl, ?_⟩
  simp only [mI_sI, Nat.reduceEqDiff, false_and, and_false, if_false, mL_sI, ct5]
  refine ⟨vm 63 (by omega) (by omega), vm 64 (by omega) (by omega), _, rfl, ?_⟩
  simp only [mI_sI, Nat.reduceEqDiff, false_and, and_false, if_false, mL_sI]
  refine ⟨vm 65 (by omega) (by omega), w, g1, ?_⟩
  simp only [mI_sI, Nat.reduceEqDiff, false_and, and_false, if_false, mL_sI, g2, tc, d2]
  have v44 : vp_in (Int32.ofNat (W.length - 1)) (mL M 44 w) := by rw [a2]; exact (vp_oN (by omega)).mpr (by omega)
  refine ⟨v44, v44, _, rfl, w, g1, ?_⟩
  simp only [mI_sI, Nat.reduceEqDiff, false_and, and_false, if_false, mL_sI, and_self, if_true, tm]
  refine ⟨vm 59 (by omega) (by omega), w, g1, ?_⟩
  refine ⟨vm 58 (by omega) (by omega), _, rfl, 7, ?_⟩
  simp only [hL.1]
  rw [show Int32.ofNat m + (1 : Int32) = Int32.ofNat (m + 1) by rw [lit32 1, oN_add], show Int32.ofNat (gc W (W.length - 1)).2.2.2.2.2.length + (1 : Int32) = Int32.ofNat ((gc W (W.length - 1)).2.2.2.2.2.length + 1) by rw [lit32 1, oN_add]]
  have le55 : ∀ f, 55 ≤ f ∧ f ≤ 65 → bH (W.length - 1) m f ≤ m := fun f q => by unfold bH; rw [if_neg (by omega), if_pos q]; exact Nat.le_refl _
  have le44 : bH (W.length - 1) m 44 ≤ W.length - 1 := Nat.le_refl _
  have ez1 := ((((((((((((((Ez.rf w (bH (W.length - 1) m) M).w5 (k := 26) (v := Int32.ofNat (m + 1))).w (f := 55) (k := m) (v := Int32.ofNat (W.length - 1)) (le55 55 (by omega))).w (f := 56) (k := m) (v := nc A own) (le55 56 (by omega))).w (f := 57) (k := m) (v := bits) (le55 57 (by omega))).w (f := 58) (k := m) (v := 0) (le55 58 (by omega))).w (f := 60) (k := m) (v := 0) (le55 60 (by omega))).w (f := 61) (k := m) (v := 0) (le55 61 (by omega))).w (f := 62) (k := m) (v := Int32.ofNat nq) (le55 62 (by omega))).w (f := 63) (k := m) (v := 0) (le55 63 (by omega))).w (f := 64) (k := m) (v := Int32.ofNat nh) (le55 64 (by omega))).w (f := 65) (k := m) (v := 0) (le55 65 (by omega))).w3 (k := 4) (v := Int32.ofNat m)).w (f := 44) (k := W.length - 1) (v := Int32.ofNat ((gc W (W.length - 1)).2.2.2.2.2.length + 1)) le44).w (f := 59) (k := m) (v := kC A κ) (le55 59 (by omega)) |>.w (f := 58) (k := m) (v := Int32.ofNat ks.length) (le55 58 (by omega))
  have lo1 := ez1.1
  have C1 : C4 A W w (W.length - 1) br (sI (sI (sI (sI (sI (sI (sI (sI (sI (sI (sI (sI (sI (sI (sI M 5 w 26 (Int32.ofNat (m + 1))) 55 w m (Int32.ofNat (W.length - 1))) 56 w m (nc A own)) 57 w m bits) 58 w m 0) 60 w m 0) 61 w m 0) 62 w m (Int32.ofNat nq)) 63 w m 0) 64 w m (Int32.ofNat nh)) 65 w m 0) 3 0 4 (Int32.ofNat m)) 44 w (W.length - 1) (Int32.ofNat ((gc W (W.length - 1)).2.2.2.2.2.length + 1))) 59 w m (kC A κ)) 58 w m (Int32.ofNat ks.length)) := C.w5.wo.wo.wo.wo.wo.wo.wo.wo.wo.wo.w3.wo.wo.wo
  have R1 : RS B r n p to A t (sI (sI (sI (sI (sI (sI (sI (sI (sI (sI (sI (sI (sI (sI (sI M 5 w 26 (Int32.ofNat (m + 1))) 55 w m (Int32.ofNat (W.length - 1))) 56 w m (nc A own)) 57 w m bits) 58 w m 0) 60 w m 0) 61 w m 0) 62 w m (Int32.ofNat nq)) 63 w m 0) 64 w m (Int32.ofNat nh)) 65 w m 0) 3 0 4 (Int32.ofNat m)) 44 w (W.length - 1) (Int32.ofNat ((gc W (W.length - 1)).2.2.2.2.2.length + 1))) 59 w m (kC A κ)) 58 w m (Int32.ofNat ks.length)) := hR.w.w.w.w.w.w.w.w.w.w.w.w.w.w.w
  have bMb : bM m nq nk np nh nr (bH (W.length - 1) m) := by
    refine ⟨fun f a c => ?_, Nat.le_refl _, fun f a c => ?_, ?_, ?_, ?_, ?_, ?_⟩
    · unfold bH; rw [if_neg (by omega), if_pos ⟨a, c⟩]; exact Nat.le_refl _
    · unfold bH; rw [if_neg (by omega), if_neg (by omega), if_neg (by omega)]; omega
    · show nk ≤ 10000000; omega
    · show np ≤ 10000000; omega
    · show 4 * nh ≤ 10000000; omega
    · show 4 * nr ≤ 10000000; omega
    · show 6 * nr ≤ 10000000; omega
  have hm' := hm
  have ms1 := cMs.opn Ms lo1 (by show W.length ≤ 10000000; omega) (Nat.le_refl _) (by simp only [mI_sI, Nat.reduceEqDiff, false_and, if_false, and_self, if_true]) (by rw [hm]; exact bMb)
  have main : ∀ d i M1, ks.length - i < d → i ≤ ks.length → RS B r n p to A t M1 → HD A W w br nq nk np nh nr (own, ks, κ, bits, 0, 0, [], []) i M1 → Ez w (bH (W.length - 1) m) M M1 → w_Reader_aMethod_L134 0 Q X d bits (Int32.ofNat i) M1 := by
    intro d
    induction d with
    | zero => intro i M1 h; omega
    | succ d ih =>
      intro i M1 hd hi R2 H2 z2
      obtain ⟨q1, q2, ⟨q3, q4, q5, ⟨q6, q7, q8⟩, q9⟩, q10, q11, q12, q13, q14, q15, q16⟩ := id H2
      by_cases ei : i = ks.length
      · rw [ei]
        exact hQ d M1 R2 ⟨q1, q2, ⟨q3, q4, q5, ⟨q6, q7, fun j a _ => q8 j a (by rw [ei]; exact a)⟩, q9⟩, q10, q11, q12, q13, q14, q15, q16⟩ z2
      · have q15' : LT A ks M1 := q15
        unfold w_Reader_aMethod_L134
        rw [q15'.1]
        refine itn (nle_oN (by omega) (by omega)) ⟨w, q1.2.2.1, by rw [q15'.2.1]; exact (vp_oN (by omega)).mpr (by omega), ?_⟩
        rw [hm] at q14
        have e6 : (6 : Int32) * Int32.ofNat m + Int32.ofNat i = Int32.ofNat (6 * m + i) := by rw [lit32 6, oN_mul, oN_add]
        rw [q14, e6, oN_tnc (by omega), oN_tnc (by omega), q15'.2.2.2 i (by omega), lit32 1, oN_add]
        refine ⟨by rw [q2.1.2.2]; exact (vp_oN (by omega)).mpr (by omega), _, rfl, ?_⟩
        have lo2 : Lo w (fun f => if f = 211 then 6 * m else 10000000) M1 (sI M1 211 (2 * w + 1) (6 * m + i) (kC A (gk ks i))) := (Lo.rf w _ M1).w211 (Or.inr (Or.inl ⟨rfl, by show 6 * m ≤ _; omega⟩))
        refine ih (i + 1) _ (by omega) (by omega) R2.w ⟨q1.wo, q2.lo lo2 (by show W.length ≤ 10000000; omega) (by show W.length ≤ 10000000; omega) ⟨fun f a c => by (try dsimp only); rw [if_neg (by omega)]; omega, by rw [hm]; exact Nat.le_refl _, fun f a c => by (try dsimp only); rw [if_neg (by omega)]; omega, by show nk ≤ 10000000; omega, by show np ≤ 10000000; omega, by show 4 * nh ≤ 10000000; omega, by show 4 * nr ≤ 10000000; omega, by show 6 * nr ≤ 10000000; omega⟩, ⟨q3, q4, q5, ⟨q6, q7, fun j a c => ?_⟩, q9⟩, q10, q11, q12.lo lo2, q13, by rw [hm]; exact q14, ⟨q15'.1, q15'.2.1, q15'.2.2.1, fun j hj => ?_⟩, q16⟩ (z2.w211 (Or.inr (Or.inl ⟨rfl, by show 6 * m ≤ _; omega⟩)))
        · rw [hm, mI_sI]
          by_cases cj : j = i
          · rw [if_pos ⟨rfl, rfl, by omega⟩, cj]
          · rw [if_neg (fun z => by omega)]
            have := q8 j a (by omega)
            rw [hm] at this; exact this
        · rw [mI_sI, if_neg (fun z => by omega)]; exact q15'.2.2.2 j hj
  refine main 7 0 _ (by omega) (by omega) R1 ⟨C1, ms1, ⟨?_, ⟨?_, ho⟩, ?_, ⟨?_, hk6, fun j _ c => absurd c (Nat.not_lt_zero j)⟩, ⟨?_, hκ, hκ2⟩, ?_, ?_⟩, ⟨?_, ?_, ?_, ?_⟩, ⟨?_, ?_, ?_, ?_, ?_, ?_⟩, Rm.lo lo1, Rd.ez ez1, ?_, ⟨hL.1, hL.2.1, hL.2.2.1, hL.2.2.2⟩, hkd⟩ ez1
  all_goals (try rw [hm])
  all_goals (simp only [mI_sI, Nat.reduceEqDiff, false_and, and_false, if_false, and_self, if_true])
  all_goals (first | exact ct2 | exact ct3 | exact ct4 | exact ct5 | exact ct6)
