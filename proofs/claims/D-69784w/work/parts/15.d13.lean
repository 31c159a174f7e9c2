/-! B: the works' checker: where it goes -/
theorem oN_div {a b : Nat} (ha : a < 2147483648) (hb : b < 2147483648) : Int32.ofNat a / Int32.ofNat b = Int32.ofNat (a / b) := by
  have hd : a / b ≤ a := Nat.div_le_self a b
  apply Int32.toInt_inj.mp
  rw [Int32.toInt_div, oN_toInt ha, oN_toInt hb, oN_toInt (by omega), ← Int.ofNat_tdiv]
  have key : ∀ d : Nat, d ≤ a → ((d : Int)).bmod (2 ^ 32) = (d : Int) := fun d hd => Int.bmod_eq_of_le (by omega) (by omega)
  exact key _ hd
theorem oN_mod {a b : Nat} (ha : a < 2147483648) (hb : b < 2147483648) : Int32.ofNat a - Int32.ofNat a / Int32.ofNat b * Int32.ofNat b = Int32.ofNat (a % b) := by
  have h1 : a / b * b ≤ a := Nat.div_mul_le_self a b
  rw [oN_div ha hb, oN_mul, oN_sub h1]
  congr 1
  have := Nat.div_add_mod a b
  rw [Nat.mul_comm] at this
  omega
def endS (W : List Cls) (x : Mth) (i : Ins) (lo st : List Kd) : Nat := if isJ i.1 then goesS W x lo st (gtn (iT i) 0) else if i.1 = 40 then pickS W x lo st (iT i) (iT i).length 1 else 0
def aftS (W : List Cls) (x : Mth) (i : Ins) (a : Nat) (lo st : List Kd) : Nat ⊕ KSt := if endS W x i lo st ≠ 0 then .inl (endS W x i lo st) else if goesOn i.1 ∧ a + 1 = (co x).length then .inl 35 else if goesOn i.1 then .inr (lo, st, true) else .inr ([], [], false)
theorem stepS_eq {W : List Cls} {c : Nat} {x : Mth} {a : Nat} {lo st : List Kd} : stepS W c x a lo st = if handS W x lo a (hs x) ≠ 0 then .inl (handS W x lo a (hs x)) else match actS W c x (gin (co x) a) a lo st with
    | .inl r => .inl r
    | .inr s => aftS W x (gin (co x) a) a s.1 s.2 := by
  unfold stepS
  generalize gin (co x) a = i
  by_cases c1 : handS W x lo a (hs x) ≠ 0
  · rw [if_pos c1, if_pos c1]
  rw [if_neg c1, if_neg c1]
  unfold actS
  by_cases c2 : takenS W c x i lo st ≠ 0
  · rw [if_pos c2, if_pos c2]
  rw [if_neg c2, if_neg c2]
  by_cases c3 : ownS W c x i lo st ≠ 0
  · rw [if_pos c3, if_pos c3]
  rw [if_neg c3, if_neg c3]
  by_cases c4 : sr x < (stS W c x i a lo st).length
  · rw [if_pos c4, if_pos c4]
  rw [if_neg c4, if_neg c4]
  unfold thenS aftS endS
  by_cases c5 : i.1 = 5 ∨ i.1 = 6 ∨ isMk i
  · rw [if_pos c5]
    have nJ : ¬ isJ i.1 := by
      rcases c5 with q | q | q
      · omega
      · omega
      · have := q.1; omega
    have n40 : ¬ i.1 = 40 := by
      rcases c5 with q | q | q
      · omega
      · omega
      · have := q.1; omega
    by_cases c6 : handS W x (loS W c i lo st) a (hs x) ≠ 0
    · rw [if_pos c6, if_pos ⟨c5, c6⟩]
    · rw [if_neg c6, if_neg (c := (i.1 = 5 ∨ i.1 = 6 ∨ isMk i) ∧ handS W x (loS W c i lo st) a (hs x) ≠ 0) (fun q => c6 q.2)]
      simp only [if_neg nJ, if_neg n40, ne_eq, not_true_eq_false, if_false]
  · rw [if_neg c5, if_neg (c := (i.1 = 5 ∨ i.1 = 6 ∨ isMk i) ∧ handS W x (loS W c i lo st) a (hs x) ≠ 0) (fun q => c5 q.1)]
/-- between instructions of a method -/
def KN (A : List Nm) (W : List Cls) (w c k : Nat) (br : Int32) (nq nk np nh nr this a : Nat) (s : KSt) (M : Mem) : Prop :=
  KE A W w c k br nq nk np nh nr this M ∧ KU A (gmt (gc W c) k) this s.1 s.2.1 s.2.2 M ∧ mI M 4 this 10 = 0 ∧ mI M 4 this 7 = Int32.ofNat a
def KPn (A : List Nm) (W : List Cls) (w c k : Nat) (br : Int32) (nq nk np nh nr this a : Nat) (res : Nat ⊕ KSt) (Q : Int32 → Mem → Prop) : Prop := match res with
  | .inl r => ∀ M', KZ A W w c k br nq nk np nh nr this a r M' → Q 0 M'
  | .inr s => ∀ M', KN A W w c k br nq nk np nh nr this a s M' → Q 1 M'
section
variable {A : List Nm} {W : List Cls} {w c k this : Nat} {br : Int32} {nq nk np nh nr a : Nat} {lo st : List Kd} {M M' : Mem} {Q : Int32 → Mem → Prop}
theorem goS_true {W : List Cls} {x : Mth} {lo st : List Kd} {t : Nat} : goS W x lo st true t = goesS W x lo st t := by
  unfold goS rightS goesS
  cases frOf x t with
  | none => rfl
  | some f =>
    obtain ⟨fl, fs⟩ := f
    show (if (if wrongF x fl fs = true then 38 else 0) ≠ 0 then (if wrongF x fl fs = true then 38 else 0) else _) = _
    by_cases c1 : wrongF x fl fs = true
    · simp [c1]
    · simp [c1]
theorem KA.goes {t : Nat} (h : KA A W w c k br nq nk np nh nr this a lo st true M) (ht : t < (co (gmt (gc W c) k)).length) (h0 : goesS W (gmt (gc W c) k) lo st t = 0 → Q 1 M) (h1 : goesS W (gmt (gc W c) k) lo st t ≠ 0 → ∀ M', KZ A W w c k br nq nk np nh nr this a (goesS W (gmt (gc W c) k) lo st t) M' → Q 0 M') : w_Checker_goes this (Int32.ofNat t) Q M := by
  refine c_goes h.1 h.2.1.u ht (fun z => h0 (by rw [← goS_true]; exact z)) (fun z => ?_)
  rw [goS_true] at z ⊢
  exact h1 z _ h.z
theorem c_ends {q : Nat} (h : KA A W w c k br nq nk np nh nr this a lo st true M) (hq0 : ∃ q0, mI M 62 w (moff W c + k) = Int32.ofNat q0 ∧ q0 ≤ 30000 ∧ q = q0 + a) (hP : KPn A W w c k br nq nk np nh nr this a (aftS W (gmt (gc W c) k) (gin (co (gmt (gc W c) k)) a) a lo st) Q) : w_Checker_ends this (Int32.ofNat q) Q M := by
  obtain ⟨q0, hq, h3, eq⟩ := hq0
  have hL := L_le w
  have hb := h.1.kb
  unfold KB at hb
  have hr := h.1.rm
  obtain ⟨hi, hlt, -⟩ := h.1.ins hq h3 h.2.2.2.2
  rw [← eq] at hi hlt
  have hwf := h.1.wf.2.2.1.2 (gin (co (gmt (gc W c) k)) a) (by
    show (co (gmt (gc W c) k)).getD a _ ∈ _
    rw [List.getD_eq_getElem?_getD, List.getElem?_eq_getElem h.2.2.2.2]; exact List.getElem_mem h.2.2.2.2)
  have hm := h.1.mlt
  have h80 := h.1.wf.2.2.1.1
  have halt := h.2.2.2.2
  generalize gin (co (gmt (gc W c) k)) a = i at hi hwf hP
  obtain ⟨o62, hop, htg, -, -⟩ := hwf
  unfold aftS at hP
  -- the end
  have fin : endS W (gmt (gc W c) k) i lo st = 0 → w_Checker_ends_j104 this Q (Int32.ofNat i.1) M := fun e0 => by
    rw [if_neg (by omega)] at hP
    have j139 : ∀ g : Bool, g = decide (goesOn i.1) → w_Checker_ends_j139 this Q (b2 g) M := fun g hg => by
      unfold w_Checker_ends_j139
      have hA2 : KE A W w c k br nq nk np nh nr this (sI M 4 this 3 (b2 g)) := h.1.fr (S := (571586788613841666883220836184197269311258491587912197357546535911484746298583029329307855601409760300747826776847499381492015935155358310368707377103728210100188785202981759809103290579875568916906279235071821145409548462543176216184507360998816271917014454116073103439318297642987304928618033941227386219089813017272961345788989281119720935756579294733327700663909734926341200602357242020202058745308528342595964074462982623785717895075051973515654339473200635760893294494091009288544445312098701587650328316415546394274036564639618598699008)) (Fr.wI rfl (Fr.rf _ _))
      obtain ⟨h1, ⟨⟨s1, s2⟩, ⟨s3, s4⟩, ⟨s5, s6, s7⟩, s8, s9⟩, h10, h7, hal⟩ := h
      have r3 : mI (sI M 4 this 3 (b2 g)) 4 this 3 = b2 g := by simp only [mI_sI, mI_sR, mI_sJ, mR_sI, mL_sI, mL_sR, mR_sR, Nat.reduceEqDiff, and_false, false_and, if_false, and_self, true_and, and_true, if_true]
      have r8 : mI (sI M 4 this 3 (b2 g)) 4 this 8 = 0 := by simp only [mI_sI, mI_sR, mI_sJ, mR_sI, mL_sI, mL_sR, mR_sR, Nat.reduceEqDiff, and_false, false_and, if_false, and_self, true_and, and_true, if_true]; exact s9
      have r10 : mI (sI M 4 this 3 (b2 g)) 4 this 10 = 0 := by simp only [mI_sI, mI_sR, mI_sJ, mR_sI, mL_sI, mL_sR, mR_sR, Nat.reduceEqDiff, and_false, false_and, if_false, and_self, true_and, and_true, if_true]; exact h10
      have r7 : mI (sI M 4 this 3 (b2 g)) 4 this 7 = Int32.ofNat a := by simp only [mI_sI, mI_sR, mI_sJ, mR_sI, mL_sI, mL_sR, mR_sR, Nat.reduceEqDiff, and_false, false_and, if_false, and_self, true_and, and_true, if_true]; exact h7
      have r2 : mI (sI M 4 this 3 (b2 g)) 4 this 2 = Int32.ofNat st.length := by simp only [mI_sI, mI_sR, mI_sJ, mR_sI, mL_sI, mL_sR, mR_sR, Nat.reduceEqDiff, and_false, false_and, if_false, and_self, true_and, and_true, if_true]; exact s6
      have rr : ∀ f j, f ≠ 4 → mI (sI M 4 this 3 (b2 g)) f this j = mI M f this j := fun f j hf => by rw [mI_sI, if_neg (fun q => hf q.1)]
      have l1 : mL (sI M 4 this 3 (b2 g)) 31 this = 20 := s1
      have l2 : mL (sI M 4 this 3 (b2 g)) 32 this = 24 := s2
      have k1 : KL A (co (gmt (gc W c) k)) 31 lo this (sI M 4 this 3 (b2 g)) := fun j hj => by rw [rr 31 j (by omega)]; exact s3 j hj
      have k2 : KL A (co (gmt (gc W c) k)) 32 st this (sI M 4 this 3 (b2 g)) := fun j hj => by rw [rr 32 j (by omega)]; exact s5 j hj
      refine ⟨by cases g <;> simp [b2], ?_⟩
      generalize sI M 4 this 3 (b2 g) = M1 at *
      rw [r3]
      by_cases c1 : goesOn i.1
      · rw [decide_eq_true c1] at hg
        subst hg
        refine itn (by decide) ⟨w, hA2.r, ?_⟩
        obtain ⟨q1, h1', ⟨a1, a2, a3, a4, a5, a6, a7, a8⟩, -, -⟩ := hA2.mc
        have e63 : mI M1 63 w (moff W c + k) = Int32.ofNat (co (gmt (gc W c) k)).length := a2
        rw [hA2.m6, oN_tnc (by omega), e63, r7, hA2.ml (by omega) (by omega)]
        refine ⟨(vp_oN (by omega)).mpr hm, ?_⟩
        rw [show Int32.ofNat (co (gmt (gc W c) k)).length - (1 : Int32) = Int32.ofNat ((co (gmt (gc W c) k)).length - 1) from oN_sub (b := 1) (by omega)]
        by_cases c2 : a + 1 = (co (gmt (gc W c) k)).length
        · rw [if_pos ⟨c1, c2⟩] at hP
          refine itn (nlt_oN (by omega) (by omega)) (k_breaks (r := 35) r8 (itp rfl (hP _ ⟨hA2.w8, ⟨l1, l2⟩, ?_, ?_, ?_⟩)))
          · simp only [mI_sI, mI_sR, mI_sJ, mR_sI, mL_sI, mL_sR, mR_sR, Nat.reduceEqDiff, and_false, false_and, if_false, and_self, true_and, and_true, if_true]; exact r10
          · simp only [mI_sI, mI_sR, mI_sJ, mR_sI, mL_sI, mL_sR, mR_sR, Nat.reduceEqDiff, and_false, false_and, if_false, and_self, true_and, and_true, if_true]; exact r7
          · simp only [mI_sI, mI_sR, mI_sJ, mR_sI, mL_sI, mL_sR, mR_sR, Nat.reduceEqDiff, and_false, false_and, if_false, and_self, true_and, and_true, if_true]
        · rw [if_neg (fun q => c2 q.2), if_pos c1] at hP
          exact itp (lt_oN (by omega) (by omega)) (hP M1 ⟨hA2, ⟨⟨l1, l2⟩, fun _ => ⟨⟨l1, l2⟩, ⟨k1, s4⟩, ⟨k2, r2, s7⟩, r3, r8⟩, r3, r8⟩, r10, r7⟩)
      · rw [decide_eq_false c1] at hg
        subst hg
        rw [if_neg (fun q => c1 q.1), if_neg c1] at hP
        exact itp rfl (hP M1 ⟨hA2, ⟨⟨l1, l2⟩, (fun q => by cases q), r3, r8⟩, r10, r7⟩)
    unfold w_Checker_ends_j104 w_Checker_ends_j138
    by_cases c1 : i.1 = 23
    · exact itp (by rw [c1]; rfl) (j139 false (by rw [decide_eq_false (fun q => q.1 c1)]))
    refine itn (ne_oN (b := 23) c1 (by omega) (by omega)) ?_
    by_cases c2 : i.1 = 40
    · exact itp (by rw [c2]; rfl) (j139 false (by rw [decide_eq_false (fun q => q.2.1 c2)]))
    refine itn (ne_oN (b := 40) c2 (by omega) (by omega)) ?_
    by_cases c3 : i.1 = 56
    · exact itp (by rw [c3]; rfl) (j139 false (by rw [decide_eq_false (fun q => q.2.2.1 c3)]))
    refine itn (ne_oN (b := 56) c3 (by omega) (by omega)) (c_isInN (o := i.1) (lo := 57) (hi := 59) (by omega) (by omega) (by omega) ?_)
    by_cases c4 : 57 ≤ i.1 ∧ i.1 ≤ 59
    · rw [decide_eq_true c4]
      exact itn (by decide) (j139 false (by rw [decide_eq_false (fun q => q.2.2.2 c4)]))
    · rw [decide_eq_false c4]
      exact itp (by decide) (j139 true (by rw [decide_eq_true ⟨c1, c2, c3, c4⟩]))
  have bad : endS W (gmt (gc W c) k) i lo st ≠ 0 → ∀ M', KZ A W w c k br nq nk np nh nr this a (endS W (gmt (gc W c) k) i lo st) M' → Q 0 M' := fun e0 => by
    rw [if_pos e0] at hP; exact hP
  unfold endS at fin bad
  unfold w_Checker_ends
  refine ⟨w, h.1.r, ?_⟩
  rw [oN_tnc (by omega), hi.1.1]
  refine ⟨by rw [hr.1 66 (by omega) (by omega)]; exact (vp_oN (by omega)).mpr hlt, c_isInN (o := i.1) (lo := 23) (hi := 39) (by omega) (by omega) (by omega) ?_⟩
  by_cases cJ : isJ i.1
  · rw [decide_eq_true cJ]
    rw [if_pos cJ] at fin bad
    refine itn (by decide) ⟨w, h.1.r, ?_⟩
    have hlen := hop.2.2.1 cJ
    rw [hi.2.2.1 cJ, hr.1 67 (by omega) (by omega)]
    refine ⟨(vp_oN (by omega)).mpr hlt, h.goes (htg _ ?_) (fun z => ?_) (fun z M' y => itp rfl (bad z M' y))⟩
    · show (iT i).getD 0 0 ∈ iT i
      rw [List.getD_eq_getElem?_getD, List.getElem?_eq_getElem (by omega)]; exact List.getElem_mem _
    · refine itn (by decide) ?_
      unfold w_Checker_ends_j39
      refine ⟨1, ?_⟩
      unfold w_Checker_ends_L41
      exact itn (ne_oN (b := 40) (by omega) (by omega) (by omega)) (fin z)
  · rw [decide_eq_false cJ]
    rw [if_neg cJ] at fin bad
    refine itp (by decide) ?_
    unfold w_Checker_ends_j39
    by_cases c40 : i.1 = 40
    · rw [if_pos c40] at fin bad
      obtain ⟨pf, hop2, hpk⟩ := hi.2.1
      obtain ⟨hp1, hp2⟩ := hpk c40
      have hop2 := hop2.1
      unfold cOp0 at hop2
      rw [if_neg (by omega), if_neg (by omega), if_pos c40] at hop2
      have hln : (insO i).2.2.1.length = (iT i).length := by show (List.map _ _).length = _; rw [List.length_map]
      rw [hln] at hop2
      have hne := hop.2.1 c40
      have hp1' : pf + (iT i).length ≤ np := hp1
      have loop : ∀ n j, (iT i).length + 1 - j < n → 1 ≤ j → j ≤ (iT i).length + 1 → pickS W (gmt (gc W c) k) lo st (iT i) (iT i).length 1 = pickS W (gmt (gc W c) k) lo st (iT i) ((iT i).length + 1 - j) j → w_Checker_ends_L41 this Q n (Int32.ofNat q) (Int32.ofNat i.1) (Int32.ofNat j) M := by
        intro n
        induction n with
        | zero => intro j hn; exact absurd hn (by omega)
        | succ n ih =>
          intro j hn hj1 hj he
          unfold w_Checker_ends_L41
          refine itp (by rw [c40]; rfl) ⟨w, h.1.r, ?_⟩
          rw [oN_tnc (k := q) (by omega), hop2.2.2, hr.1 69 (by omega) (by omega)]
          refine ⟨(vp_oN (by omega)).mpr hlt, ?_⟩
          by_cases cj : (iT i).length < j
          · refine itp (lt_oN cj (by omega)) (fin ?_)
            rw [he, show (iT i).length + 1 - j = 0 by omega]; rfl
          refine itn (nlt_oN (by omega) (by omega)) ⟨w, h.1.r, w, h.1.r, by rw [hr.1 68 (by omega) (by omega)]; exact (vp_oN (by omega)).mpr hlt, w, h.1.r, by rw [hr.1 69 (by omega) (by omega)]; exact (vp_oN (by omega)).mpr hlt, by rw [hop2.2.2]; exact ne_oN (b := 0) hne (by omega) (by omega), ?_⟩
          have hmod : j % (iT i).length < (iT i).length := Nat.mod_lt _ (by omega)
          rw [hop2.2.2, hop2.2.1, oN_mod (by omega) (by omega), oN_add, oN_tnc (by omega), hp2 _ hmod, hr.2.2.1]
          refine ⟨(vp_oN (by omega)).mpr (by omega), ?_⟩
          rw [show (iT i).length + 1 - j = ((iT i).length - j) + 1 by omega] at he
          have he2 : pickS W (gmt (gc W c) k) lo st (iT i) ((iT i).length - j + 1) j = if goesS W (gmt (gc W c) k) lo st (gtn (iT i) (j % (iT i).length)) = 0 then pickS W (gmt (gc W c) k) lo st (iT i) ((iT i).length - j) (j + 1) else goesS W (gmt (gc W c) k) lo st (gtn (iT i) (j % (iT i).length)) := rfl
          rw [he2] at he
          refine h.goes (htg _ ?_) (fun z => ?_) (fun z M' y => ?_)
          · show (iT i).getD _ 0 ∈ iT i
            rw [List.getD_eq_getElem?_getD, List.getElem?_eq_getElem hmod]; exact List.getElem_mem _
          · rw [if_pos z] at he
            rw [show Int32.ofNat j + (1 : Int32) = Int32.ofNat (j + 1) from oN_add j 1]
            refine itn (by decide) (ih (j + 1) (by omega) (by omega) (by omega) ?_)
            rw [he, show (iT i).length + 1 - (j + 1) = (iT i).length - j by omega]
          · rw [if_neg z] at he
            rw [he] at bad
            exact itp rfl (bad z M' y)
      refine ⟨(iT i).length + 2, ?_⟩
      exact loop _ 1 (by omega) (by omega) (by omega) (by rw [show (iT i).length + 1 - 1 = (iT i).length by omega])
    · rw [if_neg c40] at fin bad
      refine ⟨1, ?_⟩
      unfold w_Checker_ends_L41
      exact itn (ne_oN (b := 40) c40 (by omega) (by omega)) (fin rfl)
end
