/-! B: a method's head in the works: what is asked -/
theorem list_gk {a b : List Kd} (hl : a.length = b.length) (h : ∀ j, j < a.length → gk a j = gk b j) : a = b := by
  refine List.ext_getElem hl (fun i h1 h2 => ?_)
  have := h i h1
  have e1 : gk a i = a[i] := by show a.getD i _ = _; rw [List.getD_eq_getElem?_getD, List.getElem?_eq_getElem h1]; rfl
  have e2 : gk b i = b[i] := by show b.getD i _ = _; rw [List.getD_eq_getElem?_getD, List.getElem?_eq_getElem h2]; rfl
  rw [e1, e2] at this; exact this
theorem c_sameArgs {A : List Nm} {w c m : Nat} {x : Mth} {ks : List Kd} {Q : Int32 → Mem → Prop} {M : Mem} (hH : cHd A w c m x M) (hL : LT A ks M) (hk6 : ks.length ≤ 6) (hkd : ∀ κ ∈ ks, kdOk κ) (hA : A.length < 1000000) (hm : m < 381) (h58 : mL M 58 w = 381) (h211 : mL M 211 (2 * w + 1) = 2286) (hQ : Q (b2 (decide (x.2.1 = ks))) M) : w_World_sameArguments w (Int32.ofNat m) 0 0 (Int32.ofNat ks.length) Q M := by
  obtain ⟨-, -, -, ⟨h4, h5, h6⟩, -⟩ := hH
  unfold w_World_sameArguments
  refine ⟨by rw [h58]; exact (vp_oN (by omega)).mpr hm, ?_⟩
  rw [oN_tnc (by omega), h4]
  by_cases cl : x.2.1.length = ks.length
  · refine itp (by rw [cl]) ?_
    unfold w_World_sameArguments_j16
    have main : ∀ d i (t : Bool), ks.length - i < d → i ≤ ks.length → (t = true ↔ ∀ j, j < i → gk x.2.1 j = gk ks j) → w_World_sameArguments_L21 w Q d (Int32.ofNat m) 0 0 (Int32.ofNat ks.length) (b2 t) (Int32.ofNat i) M := by
      intro d
      induction d with
      | zero => intro i t h; omega
      | succ d ih =>
        intro i t hd hi ht
        have b01 : ∀ t : Bool, b2 t = 0 ∨ b2 t = 1 := fun t => by cases t; exact Or.inl rfl; exact Or.inr rfl
        have fls : t = false → x.2.1 ≠ ks := fun q z => by
          have : t = true := ht.mpr (fun j _ => by rw [z])
          rw [q] at this; cases this
        unfold w_World_sameArguments_L21
        by_cases ei : i = ks.length
        · refine itp (le_oN (by omega) (by omega)) ⟨b01 t, ?_⟩
          have : t = decide (x.2.1 = ks) := by
            cases t with
            | true => exact (decide_eq_true (list_gk cl (fun j hj => ht.mp rfl j (by omega)))).symm
            | false => exact (decide_eq_false (fls rfl)).symm
          rw [this]; exact hQ
        refine itn (nle_oN (by omega) (by omega)) ?_
        cases t with
        | false =>
          refine itp rfl ⟨Or.inl rfl, ?_⟩
          rw [decide_eq_false (fls rfl)] at hQ; exact hQ
        | true =>
          refine itn (by decide) ?_
          have e1 : (6 : Int32) * Int32.ofNat m + Int32.ofNat i = Int32.ofNat (6 * m + i) := by rw [lit32 6, oN_mul, oN_add]
          have e2 : (0 : Int32) + Int32.ofNat i = Int32.ofNat i := by rw [lit32 0, oN_add, Nat.zero_add]
          rw [e1, e2]
          refine ⟨by rw [h211]; exact (vp_oN (by omega)).mpr (by omega), by rw [hL.2.1]; exact (vp_oN (by omega)).mpr (by omega), ?_⟩
          obtain ⟨g1, g2, g3⟩ := h6 i (by omega)
          rw [oN_tnc (by omega), oN_tnc (by omega), g1, hL.2.2.2 i (by omega)]
          have hin := gk_mem (ks := ks) (i := i) (by omega)
          have hiff := kC_inj g3 (hkd _ hin) g2 (hL.2.2.1 _ hin) hA
          by_cases ce : gk x.2.1 i = gk ks i
          · refine itp (hiff.mpr ce) ?_
            unfold w_World_sameArguments_j59
            rw [lit32 1, oN_add]
            refine ih (i + 1) true (by omega) (by omega) ⟨fun _ j hj => ?_, fun _ => rfl⟩
            by_cases ej : j = i
            · rw [ej]; exact ce
            · exact ht.mp rfl j (by omega)
          · refine itn (fun q => ce (hiff.mp q)) ?_
            unfold w_World_sameArguments_j59
            rw [lit32 1, oN_add]
            exact ih (i + 1) false (by omega) (by omega) ⟨fun q => Bool.noConfusion q, fun q => absurd (q i (by omega)) ce⟩
    exact ⟨_, main (ks.length + 1) 0 true (by omega) (by omega) ⟨fun _ j hj => absurd hj (Nat.not_lt_zero j), fun _ => rfl⟩⟩
  · refine itn (fun q => cl ((oN_inj (by omega) (by omega)).mp q)) ?_
    rw [decide_eq_false (fun q => cl (by rw [q]))] at hQ
    unfold w_World_sameArguments_j16
    refine ⟨1, ?_⟩
    unfold w_World_sameArguments_L21
    by_cases c0 : ks.length = 0
    · exact itp (le_oN (b := 0) (by omega) (by omega)) ⟨Or.inl rfl, hQ⟩
    · exact itn (nle_oN (b := 0) (by omega) (by omega)) (itp rfl ⟨Or.inl rfl, hQ⟩)
theorem c_askMethod {B A : List Nm} {W : List Cls} {w c nq nk np nh nr line : Nat} {br bits : Int32} {own : Nm} {ks : List Kd} {κ : Kd} {b : Nat → Nat} {Q X : Mem → Prop} {M : Mem} (hN : NC B A M) (hC : C4 A W w c br M) (hMs : cMs A W w 0 nq nk np nh nr M) (hL : LT A ks M) (hlk : ks.length < 4000) (hkd : ∀ κ ∈ ks, kdOk κ) (hl : mI M 3 0 2 = Int32.ofNat line) (hc : c + 1 = W.length) (ho : own ∈ A) (hκ : kok A κ) (hκ2 : kdOk κ)
    (hX : ∀ M', rulM br (gc W c) bits own ks κ ≠ 99 → Thr B A (rulM br (gc W c) bits own ks κ, line) M' → Ex w b M M' → X M') (hQ : rulM br (gc W c) bits own ks κ = 99 → Q M) : w_Reader_askMethod 0 bits (nc A own) (kC A κ) Q X M := by
  obtain ⟨hcl, -, g1, g2, g4⟩ := id hC
  have hA := hN.len
  have hW := hcl.1.1.2.2.1
  obtain ⟨⟨⟨a1, a2⟩, a3, a4⟩, d, e⟩ := id hMs
  obtain ⟨⟨d1, d2⟩, d3, d4⟩ := d c (by omega)
  rw [if_pos hc] at d2
  have d2 : mI M 44 w c = Int32.ofNat (gc W c).2.2.2.2.2.length := d2
  have hmo := moff_le (W := W) (fun j hj => (d j hj).2) c (by omega)
  have hmo2 : moff W c ≤ 21 + 12 * 29 := by omega
  have tc : (Int32.ofNat c).toNatClampNeg = c := oN_tnc (by omega)
  have ref : ∀ rule M1, M1 = M → rulM br (gc W c) bits own ks κ = rule → rule ≠ 99 → w_Works_refuse 0 (Int32.ofNat rule) (mI M1 3 0 2) (fun i M' => i = 0 ∧ X M') M1 := fun rule M1 e1 e2 e3 => by
    subst e1
    refine k_refuse (Ex.pw (w := w) (b := b) (M := M1)) hN (Ex.rf w b M1) hl (fun M' t q => ?_)
    rw [← e2] at t e3
    exact hX M' e3 t q
  have l18 := hL.1
  have i79 := nc_lit hN (i := 79) (x := nMake) (nm := own) rfl ho
  have i80 := nc_lit hN (i := 80) (x := nStart) (nm := own) rfl ho
  have i4 : kC A κ = -4 ↔ κ = (-4, []) := kC_inj hκ2 (Or.inr (Or.inr (Or.inl rfl))) hκ (fun q => absurd q (by decide)) (by omega)
  -- the rules, one behind the other
  generalize h3 : (gc W c).2.2.2.2.2.any (fun m => decide (m.1 = own ∧ m.2.1 = ks ∧ m.2.2.1 = κ)) = r3
  generalize h4 : ((decide (¬ bits &&& 8 = 0) && decide (¬ bits = 8)) && brk br 0) = r4
  generalize h5 : ((decide (¬ (gc W c).2.2.2.1 &&& 4 = 0) && brk br 1) && (decide (¬ bits &&& 6 = 0) || decide (own = nMake))) = r5
  generalize h6 : ((decide (¬ bits &&& 8 = 0) && decide ((gc W c).2.2.2.1 &&& 6 = 0)) && brk br 2) = r6
  generalize h7 : ((decide (own = nMake) && (decide (¬ bits &&& 11 = 0) || decide (κ ≠ (-4, [])))) || (decide (own = nStart) && (decide (¬ bits = 1) || decide (ks ≠ [] ∨ κ ≠ (-4, []))))) = r7
  generalize h12 : (decide ((gc W c).2.2.2.2.2.length = 12) || decide (6 < ks.length)) = r12
  have hr : rulM br (gc W c) bits own ks κ = if r3 then 3 else if r4 then 4 else if r5 then 5 else if r6 then 6 else if r7 then 7 else if r12 then 12 else 99 := by
    unfold rulM; rw [h3, h4, h5, h6, h7, h12]
  have j334 : r3 = false → r4 = false → r5 = false → r6 = false → r7 = false → w_Reader_askMethod_j334 0 Q X M := fun q3 q4 q5 q6 q7 => by
    rw [q3, q4, q5, q6, q7] at hr
    unfold w_Reader_askMethod_j334
    rw [l18]
    have j360 : r12 = true → w_Reader_askMethod_j360 0 Q X M := fun q => by
      unfold w_Reader_askMethod_j360
      exact ref 12 M rfl (by rw [hr, q]; rfl) (by decide)
    by_cases c6 : 6 < ks.length
    · exact itp (lt_oN (a := 6) c6 (by omega)) (j360 (by rw [← h12, decide_eq_true c6, Bool.or_true]))
    · refine itn (nlt_oN (a := 6) (by omega) (by omega)) ⟨w, g1, by rw [g2, a2]; exact (vp_oN (by omega)).mpr (by omega), ?_⟩
      rw [g2, tc, d2]
      by_cases c12 : (gc W c).2.2.2.2.2.length = 12
      · exact itp (by rw [c12]; rfl) (j360 (by rw [← h12, decide_eq_true c12]; rfl))
      · refine itn (ne_oN (b := 12) c12 (by omega) (by omega)) (hQ ?_)
        have : r12 = false := by rw [← h12, decide_eq_false c12, decide_eq_false c6]; rfl
        rw [hr, this]; rfl
  have j320 : r3 = false → r4 = false → r5 = false → r6 = false → r7 = true → w_Works_refuse 0 (7 : Int32) (mI M 3 0 2) (fun i M' => i = 0 ∧ X M') M := fun q3 q4 q5 q6 q7 =>
    ref 7 M rfl (by rw [hr, q3, q4, q5, q6, q7]; rfl) (by decide)
  have j296 : r3 = false → r4 = false → r5 = false → r6 = false → (decide (own = nMake) && (decide (¬ bits &&& 11 = 0) || decide (κ ≠ (-4, [])))) = false → w_Reader_askMethod_j296 0 Q X bits (nc A own) (kC A κ) M := fun q3 q4 q5 q6 q7 => by
    rw [q7, Bool.false_or] at h7
    unfold w_Reader_askMethod_j296 w_Reader_askMethod_j320
    rw [l18]
    by_cases cs : own = nStart
    · rw [decide_eq_true cs, Bool.true_and] at h7
      refine itp (i80.mpr cs) ?_
      by_cases c1 : bits = 1
      · rw [decide_eq_false (fun z => z c1), Bool.false_or] at h7
        refine itp c1 ?_
        by_cases c0 : ks = []
        · refine itn (nlt_oN (a := 0) (by rw [c0]; simp) (by omega)) ?_
          by_cases ck : κ = (-4, [])
          · exact itp (i4.mpr ck) (j334 q3 q4 q5 q6 (by rw [← h7]; exact decide_eq_false (fun z => z.elim (fun z => z c0) (fun z => z ck))))
          · exact itn (fun z => ck (i4.mp z)) (j320 q3 q4 q5 q6 (by rw [← h7]; exact decide_eq_true (Or.inr ck)))
        · refine itp (lt_oN (a := 0) (List.length_pos_iff.mpr c0) (by omega)) (j320 q3 q4 q5 q6 (by rw [← h7]; exact decide_eq_true (Or.inl c0)))
      · rw [decide_eq_true c1] at h7
        exact itn c1 (j320 q3 q4 q5 q6 (by rw [← h7]; rfl))
    · rw [decide_eq_false cs, Bool.false_and] at h7
      exact itn (fun z => cs (i80.mp z)) (j334 q3 q4 q5 q6 h7.symm)
  have j263 : r3 = false → r4 = false → r5 = false → r6 = false → w_Reader_askMethod_j263 0 Q X bits (nc A own) (kC A κ) M := fun q3 q4 q5 q6 => by
    unfold w_Reader_askMethod_j263 w_Reader_askMethod_j282
    have h296 := j296 q3 q4 q5 q6
    have bad := fun (z : (decide (own = nMake) && (decide (¬ bits &&& 11 = 0) || decide (κ ≠ (-4, [])))) = true) => j320 q3 q4 q5 q6 (by rw [← h7, z]; rfl)
    by_cases cm : own = nMake
    · refine itp (i79.mpr cm) ?_
      rw [decide_eq_true cm, Bool.true_and] at h296 bad
      by_cases c11 : bits &&& 11 = 0
      · refine itp c11 ?_
        rw [decide_eq_false (fun z => z c11), Bool.false_or] at h296 bad
        by_cases ck : κ = (-4, [])
        · exact itp (i4.mpr ck) (h296 (decide_eq_false (fun z => z ck)))
        · exact itn (fun z => ck (i4.mp z)) (bad (decide_eq_true ck))
      · exact itn c11 (bad (by rw [decide_eq_true c11]; rfl))
    · exact itn (fun z => cm (i79.mp z)) (h296 (by rw [decide_eq_false cm]; rfl))
  have j214 : ∀ s0 : Int32, (s0 = 0 ∧ bits &&& 8 = 0 ∨ s0 = 1 ∧ ¬ bits &&& 8 = 0) → r3 = false → r4 = false → r5 = false → w_Reader_askMethod_j214 0 Q X bits (nc A own) (kC A κ) s0 M := fun s0 hs q3 q4 q5 => by
    unfold w_Reader_askMethod_j214
    rcases hs with ⟨s1, s2⟩ | ⟨s1, s2⟩
    · rw [s1]
      exact itp rfl (j263 q3 q4 q5 (by rw [← h6, decide_eq_false (fun z => z s2)]; rfl))
    · rw [s1]
      refine itn (by decide) ⟨w, g1, by rw [g2, hcl.2.1.2.2.2]; exact (vp_oN (by omega)).mpr (by omega), ?_⟩
      rw [g2, tc, (hcl.2.2 c (by omega)).2.2]
      rw [decide_eq_true s2, Bool.true_and] at h6
      by_cases c6 : (gc W c).2.2.2.1 &&& 6 = 0
      · rw [decide_eq_true c6, Bool.true_and] at h6
        refine itp c6 ⟨w, g1, c_asks (rule := 6) (bit := 2) (by simp) ?_⟩
        rw [g4]
        cases cb : brk br 2 with
        | false => exact itp rfl (j263 q3 q4 q5 (by rw [← h6, cb]))
        | true => exact itn (by decide) (ref 6 M rfl (by rw [hr, q3, q4, q5, ← h6, cb]; rfl) (by decide))
      · rw [decide_eq_false c6, Bool.false_and] at h6
        exact itn c6 (j263 q3 q4 q5 h6.symm)
  have j170 : ∀ s0 : Int32, (s0 = 0 ∧ bits &&& 8 = 0 ∨ s0 = 1 ∧ ¬ bits &&& 8 = 0) → r3 = false → r4 = false → w_Reader_askMethod_j170 0 Q X bits (nc A own) (kC A κ) s0 M := fun s0 hs q3 q4 => by
    have h214 := j214 s0 hs q3 q4
    unfold w_Reader_askMethod_j170
    unfold w_Reader_isFace
    refine ⟨w, g1, ?_⟩
    rw [g2]
    refine c_isFace hcl (by omega) ?_
    unfold isFc
    by_cases cf : (gc W c).2.2.2.1 &&& 4 = 0
    · rw [decide_eq_false (fun x => x cf)]
      exact ⟨Or.inl rfl, itp rfl (h214 (by rw [← h5, decide_eq_false (fun x => x cf)]; rfl))⟩
    · rw [decide_eq_true cf]
      rw [decide_eq_true cf, Bool.true_and] at h5
      refine ⟨Or.inr rfl, itn (by decide) ?_⟩
      have j190 : (decide (¬ bits &&& 6 = 0) || decide (own = nMake)) = true → w_Reader_askMethod_j190 0 Q X bits (nc A own) (kC A κ) s0 M := fun z => by
        unfold w_Reader_askMethod_j190
        refine ⟨w, g1, c_asks (rule := 5) (bit := 1) (by simp) ?_⟩
        rw [g4]
        rw [z, Bool.and_true] at h5
        cases cb : brk br 1 with
        | false => exact itp rfl (h214 (by rw [← h5, cb]))
        | true => exact itn (by decide) (ref 5 M rfl (by rw [hr, q3, q4, ← h5, cb]; rfl) (by decide))
      by_cases c6 : bits &&& 6 = 0
      · refine itp c6 ?_
        by_cases cm : own = nMake
        · exact itp (i79.mpr cm) (j190 (by rw [decide_eq_true cm, Bool.or_true]))
        · exact itn (fun z => cm (i79.mp z)) (h214 (by rw [← h5, decide_eq_false (fun z => z c6), decide_eq_false cm]; simp))
      · exact itn c6 (j190 (by rw [decide_eq_true c6]; rfl))
  have j133 : ∀ s0 : Int32, (s0 = 0 ∧ bits &&& 8 = 0 ∨ s0 = 1 ∧ ¬ bits &&& 8 = 0) → r3 = false → w_Reader_askMethod_j133 0 Q X bits (nc A own) (kC A κ) s0 M := fun s0 hs q3 => by
    have h170 := j170 s0 hs q3
    unfold w_Reader_askMethod_j133
    rcases hs with ⟨s1, s2⟩ | ⟨s1, s2⟩
    · exact itp s1 (h170 (by rw [← h4, decide_eq_false (fun z => z s2)]; rfl))
    · refine itn (by rw [s1]; decide) ?_
      rw [decide_eq_true s2, Bool.true_and] at h4
      by_cases c8 : bits = 8
      · exact itp c8 (h170 (by rw [← h4, decide_eq_false (fun z => z c8)]; rfl))
      · rw [decide_eq_true c8, Bool.true_and] at h4
        refine itn c8 ⟨w, g1, c_asks (rule := 4) (bit := 0) (by simp) ?_⟩
        rw [g4]
        cases cb : brk br 0 with
        | false => exact itp rfl (h170 (by rw [← h4, cb]))
        | true => exact itn (by decide) (ref 4 M rfl (by rw [hr, q3, ← h4, cb]; rfl) (by decide))
  have loop : ∀ d k, (gc W c).2.2.2.2.2.length - k < d → k ≤ (gc W c).2.2.2.2.2.length → ((gc W c).2.2.2.2.2.take k).any (fun m => decide (m.1 = own ∧ m.2.1 = ks ∧ m.2.2.1 = κ)) = false → w_Reader_askMethod_L14 0 Q X d bits (nc A own) (kC A κ) (Int32.ofNat (moff W c + k)) M := by
    intro d
    induction d with
    | zero => intro k h; omega
    | succ d ih =>
      intro k hd' hk' hno
      unfold w_Reader_askMethod_L14
      refine ⟨w, g1, by rw [g2, a1]; exact (vp_oN (by omega)).mpr (by omega), w, g1, by rw [g2, a2]; exact (vp_oN (by omega)).mpr (by omega), ?_⟩
      rw [g2, tc, d1, d2, oN_add]
      by_cases ek : k = (gc W c).2.2.2.2.2.length
      · refine itp (le_oN (by omega) (by omega)) ?_
        rw [ek, List.take_length, h3] at hno
        by_cases c8 : bits &&& 8 = 0
        · exact itp c8 (j133 0 (Or.inl ⟨rfl, c8⟩) hno)
        · exact itn c8 (j133 1 (Or.inr ⟨rfl, c8⟩) hno)
      · obtain ⟨hH, -⟩ := e c (by omega) k (by omega)
        obtain ⟨-, ⟨p1, p2⟩, -, ⟨p3, p4, -⟩, ⟨p5, p6, p7⟩, -⟩ := id hH
        have hmk : moff W c + k < 381 := by omega
        have tk : (Int32.ofNat (moff W c + k)).toNatClampNeg = moff W c + k := oN_tnc (by omega)
        have vm : ∀ f, 55 ≤ f → f ≤ 65 → vp_in (Int32.ofNat (moff W c + k)) (mL M f w) := fun f x y => by rw [a3 f x y]; exact (vp_oN (by omega)).mpr hmk
        have htk : (gc W c).2.2.2.2.2.take (k + 1) = (gc W c).2.2.2.2.2.take k ++ [gmt (gc W c) k] := by
          rw [List.take_add_one, List.getElem?_eq_getElem (show k < (gc W c).2.2.2.2.2.length by omega)]
          show _ ++ [_] = _ ++ [(gc W c).2.2.2.2.2.getD k _]
          rw [List.getD_eq_getElem?_getD, List.getElem?_eq_getElem (show k < (gc W c).2.2.2.2.2.length by omega)]; rfl
        have go : ¬ ((gmt (gc W c) k).1 = own ∧ (gmt (gc W c) k).2.1 = ks ∧ (gmt (gc W c) k).2.2.1 = κ) → w_Reader_askMethod_j115 0 Q X (w_Reader_askMethod_L14 0 Q X d) bits (nc A own) (kC A κ) (Int32.ofNat (moff W c + k)) M := fun z => by
          unfold w_Reader_askMethod_j115
          rw [lit32 1, oN_add]
          refine ih (k + 1) (by omega) (by omega) ?_
          rw [htk, List.any_append, hno, Bool.false_or]
          show (decide ((gmt (gc W c) k).1 = own ∧ (gmt (gc W c) k).2.1 = ks ∧ (gmt (gc W c) k).2.2.1 = κ) || false) = false
          rw [decide_eq_false z]; rfl
        refine itn (nle_oN (by omega) (by omega)) ⟨w, g1, vm 56 (by omega) (by omega), ?_⟩
        rw [tk, p1]
        by_cases cn : (gmt (gc W c) k).1 = own
        · refine itp (by rw [cn]) ⟨w, g1, vm 59 (by omega) (by omega), ?_⟩
          rw [p5]
          by_cases cr : (gmt (gc W c) k).2.2.1 = κ
          · refine itp (by rw [cr]) ?_
            rw [l18]
            by_cases c6 : 6 < ks.length
            · exact itp (lt_oN (a := 6) c6 (by omega)) (go (fun z => by rw [z.2.1] at p4; omega))
            · refine itn (nlt_oN (a := 6) (by omega) (by omega)) ⟨w, g1, c_sameArgs hH hL (by omega) hkd (by omega) hmk (a3 58 (by omega) (by omega)) a4 ?_⟩
              by_cases ca : (gmt (gc W c) k).2.1 = ks
              · rw [decide_eq_true ca]
                refine itn (by decide) (ref 3 M rfl ?_ (by decide))
                have : r3 = true := by
                  rw [← h3, List.any_eq_true]
                  refine ⟨gmt (gc W c) k, ?_, decide_eq_true ⟨cn, ca, cr⟩⟩
                  show (gc W c).2.2.2.2.2.getD k _ ∈ _
                  rw [List.getD_eq_getElem?_getD, List.getElem?_eq_getElem (show k < (gc W c).2.2.2.2.2.length by omega)]
                  exact List.getElem_mem _
                rw [hr, this]; rfl
              · rw [decide_eq_false ca]
                exact itp (by decide) (go (fun z => ca z.2.1))
          · exact itn (fun z => cr ((kC_inj p7 hκ2 p6 hκ (by omega)).mp z)) (go (fun z => cr z.2.2))
        · exact itn (fun z => cn ((nc_inj (by omega) p2 ho).mp z)) (go (fun z => cn z.1))
  unfold w_Reader_askMethod
  refine ⟨w, g1, by rw [g2, a1]; exact (vp_oN (by omega)).mpr (by omega), ?_⟩
  rw [g2, tc, d1]
  exact ⟨_, loop ((gc W c).2.2.2.2.2.length + 1) 0 (by omega) (by omega) (by simp)⟩
