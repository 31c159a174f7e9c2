/-! B: numbers and memory -/
theorem oN_toInt {k : Nat} (h : k < 2147483648) : (Int32.ofNat k).toInt = (k : Int) := by
  rw [Int32.toInt_ofNat_of_lt (by simpa using h)]
theorem oN_tnc {k : Nat} (h : k < 2147483648) : (Int32.ofNat k).toNatClampNeg = k := by
  rw [Int32.toNatClampNeg_ofNat_of_lt (by simpa using h)]
theorem oN_lt {a b : Nat} (ha : a < 2147483648) (hb : b < 2147483648) : Int32.ofNat a < Int32.ofNat b ↔ a < b := by
  rw [Int32.lt_iff_toInt_lt, oN_toInt ha, oN_toInt hb]; omega
theorem oN_le {a b : Nat} (ha : a < 2147483648) (hb : b < 2147483648) : Int32.ofNat a ≤ Int32.ofNat b ↔ a ≤ b := by
  rw [Int32.le_iff_toInt_le, oN_toInt ha, oN_toInt hb]; omega
theorem oN_inj {a b : Nat} (ha : a < 2147483648) (hb : b < 2147483648) : Int32.ofNat a = Int32.ofNat b ↔ a = b := by
  constructor
  · intro h
    have := congrArg Int32.toInt h
    rw [oN_toInt ha, oN_toInt hb] at this; omega
  · exact fun h => h ▸ rfl
theorem oN_add (a b : Nat) : Int32.ofNat a + Int32.ofNat b = Int32.ofNat (a + b) := (Int32.ofNat_add a b).symm
theorem oN_mul (a b : Nat) : Int32.ofNat a * Int32.ofNat b = Int32.ofNat (a * b) := (Int32.ofNat_mul a b).symm
theorem oN_sub {a b : Nat} (h : b ≤ a) : Int32.ofNat a - Int32.ofNat b = Int32.ofNat (a - b) := by
  have : Int32.ofNat (a - b) + Int32.ofNat b = Int32.ofNat a := by rw [oN_add]; congr 1; omega
  rw [← this, Int32.add_sub_cancel]
theorem vp_oN {a n : Nat} (ha : a < 2147483648) : vp_in (Int32.ofNat a) n ↔ a < n := by
  unfold vp_in
  have h0 : ¬ Int32.ofNat a < 0 := by
    rw [Int32.lt_iff_toInt_lt, oN_toInt ha]; simp
  rw [oN_tnc ha]
  simp only [h0, false_or, Nat.not_le]
theorem vp_of {x : Int32} {k n : Nat} (e : x = Int32.ofNat k) (hk : k < n) (hn : n < 2147483648) : vp_in x n := by
  rw [e]; exact (vp_oN (by omega)).mpr hk
theorem oN_nonneg {a : Nat} (ha : a < 2147483648) : ¬ Int32.ofNat a < 0 := by
  rw [Int32.lt_iff_toInt_lt, oN_toInt ha]; simp
theorem oN_zero_le {a : Nat} (ha : a < 2147483648) : (0 : Int32) ≤ Int32.ofNat a := by
  rw [Int32.le_iff_toInt_le, oN_toInt ha]; simp
theorem lit32 (n : Nat) : (OfNat.ofNat n : Int32) = Int32.ofNat n := rfl
/-- a number that is not below 0 is one of Nat -/
theorem ofNat_tnc {x : Int32} (h : ¬ x < 0) : Int32.ofNat x.toNatClampNeg = x := by
  rw [← Int32.toInt_inj, Int32.lt_iff_toInt_lt] at *
  have hx : x.toNatClampNeg < 2147483648 := by
    have := Int32.toInt_lt x; unfold Int32.toNatClampNeg; omega
  rw [oN_toInt hx]
  simp at h
  unfold Int32.toNatClampNeg
  omega
theorem tnc_lt (x : Int32) : x.toNatClampNeg < 2147483648 := by
  have := Int32.toInt_lt x; unfold Int32.toNatClampNeg; omega
-- memory
section mem
variable {M M' : Mem} {f i k f' i' k' : Nat}
theorem mI_sI {v : Int32} : mI (sI M f i k v) f' i' k' = if f' = f ∧ i' = i ∧ k' = k then v else mI M f' i' k' := rfl
theorem mI_sJ {v : Int64} : mI (sJ M f i k v) f' i' k' = mI M f' i' k' := rfl
theorem mI_sR {v : Option (Nat × Nat)} : mI (sR M f i k v) f' i' k' = mI M f' i' k' := rfl
theorem mI_mk {n : Nat} : mI (mk M f i n) f' i' k' = if f' = f ∧ i' = i then 0 else mI M f' i' k' := rfl
theorem mI_cpI {sp g j dp n : Nat} : mI (cpI M f i sp g j dp n) f' i' k' = if f' = g ∧ i' = j then (if dp ≤ k' ∧ k' < dp + n then mI M f i (sp + (k' - dp)) else mI M g j k') else mI M f' i' k' := rfl
theorem mJ_sI {v : Int32} : mJ (sI M f i k v) f' i' k' = mJ M f' i' k' := rfl
theorem mJ_sJ {v : Int64} : mJ (sJ M f i k v) f' i' k' = if f' = f ∧ i' = i ∧ k' = k then v else mJ M f' i' k' := rfl
theorem mJ_sR {v : Option (Nat × Nat)} : mJ (sR M f i k v) f' i' k' = mJ M f' i' k' := rfl
theorem mJ_cpI {sp g j dp n : Nat} : mJ (cpI M f i sp g j dp n) f' i' k' = mJ M f' i' k' := rfl
theorem mR_sI {v : Int32} : mR (sI M f i k v) f' i' k' = mR M f' i' k' := rfl
theorem mR_sJ {v : Int64} : mR (sJ M f i k v) f' i' k' = mR M f' i' k' := rfl
theorem mR_sR {v : Option (Nat × Nat)} : mR (sR M f i k v) f' i' k' = if f' = f ∧ i' = i ∧ k' = k then v else mR M f' i' k' := rfl
theorem mR_mk {n : Nat} : mR (mk M f i n) f' i' k' = if f' = f ∧ i' = i then none else mR M f' i' k' := rfl
theorem mR_cpI {sp g j dp n : Nat} : mR (cpI M f i sp g j dp n) f' i' k' = mR M f' i' k' := rfl
theorem mL_sI {v : Int32} : mL (sI M f i k v) f' i' = mL M f' i' := rfl
theorem mL_sJ {v : Int64} : mL (sJ M f i k v) f' i' = mL M f' i' := rfl
theorem mL_sR {v : Option (Nat × Nat)} : mL (sR M f i k v) f' i' = mL M f' i' := rfl
theorem mLk {n : Nat} : mL (mk M f i n) f' i' = if f' = f ∧ i' = i then n else mL M f' i' := rfl
theorem mL_cpI {sp g j dp n : Nat} : mL (cpI M f i sp g j dp n) f' i' = mL M f' i' := rfl
theorem Fr.I {S : Nat} (h : Fr S M M') {f k : Nat} (hf : S.testBit (cd f k) = false) (i : Nat) : mI M' f i k = mI M f i k := (h.1 f k hf i).1
theorem Fr.J {S : Nat} (h : Fr S M M') {f k : Nat} (hf : S.testBit (cd f k) = false) (i : Nat) : mJ M' f i k = mJ M f i k := (h.1 f k hf i).2.1
theorem Fr.R {S : Nat} (h : Fr S M M') {f k : Nat} (hf : S.testBit (cd f k) = false) (i : Nat) : mR M' f i k = mR M f i k := (h.1 f k hf i).2.2
theorem Fr.Ia {S : Nat} (h : Fr S M M') {f : Nat} (h20 : Nat.ble 20 f = true) (hf : S.testBit f = false) (i k : Nat) : mI M' f i k = mI M f i k := (h.1 f k (by rw [cd_a h20]; exact hf) i).1
theorem Fr.Ja {S : Nat} (h : Fr S M M') {f : Nat} (h20 : Nat.ble 20 f = true) (hf : S.testBit f = false) (i k : Nat) : mJ M' f i k = mJ M f i k := (h.1 f k (by rw [cd_a h20]; exact hf) i).2.1
theorem Fr.Ra {S : Nat} (h : Fr S M M') {f : Nat} (h20 : Nat.ble 20 f = true) (hf : S.testBit f = false) (i k : Nat) : mR M' f i k = mR M f i k := (h.1 f k (by rw [cd_a h20]; exact hf) i).2.2
theorem Fr.L {S : Nat} (h : Fr S M M') {f : Nat} (hf : S.testBit (5000 + f) = false) (i : Nat) : mL M' f i = mL M f i := h.2.1 f hf i
theorem Fr.Lo {S : Nat} (h : Fr S M M') {q : Nat × Nat} (hq : q ∈ mN M) : mL M' q.1 q.2 = mL M q.1 q.2 := (h.2.2.2 q hq).2
theorem Fr.N {S : Nat} (h : Fr S M M') {q : Nat × Nat} (hq : q ∈ mN M) : q ∈ mN M' := (h.2.2.2 q hq).1
end mem
/-- the greatest place below n that is so, or -1 -/
def last (p : Nat → Bool) : Nat → Int32
  | 0 => -1
  | n + 1 => if p n then Int32.ofNat n else last p n
theorem last_cases (p : Nat → Bool) : ∀ n, (last p n = -1 ∧ ∀ j, j < n → p j = false) ∨ ∃ k, k < n ∧ last p n = Int32.ofNat k ∧ p k = true ∧ ∀ j, k < j → j < n → p j = false
  | 0 => Or.inl ⟨rfl, fun j h => absurd h (by omega)⟩
  | n + 1 => by
    unfold last
    by_cases h : p n = true
    · rw [if_pos h]; exact Or.inr ⟨n, by omega, rfl, h, fun j a b => by omega⟩
    · rw [if_neg h]
      have h' : p n = false := by simpa using h
      rcases last_cases p n with ⟨e, q⟩ | ⟨k, hk, e, q1, q2⟩
      · exact Or.inl ⟨e, fun j hj => by rcases Nat.lt_succ_iff_lt_or_eq.mp hj with g | g; exact q j g; exact g ▸ h'⟩
      · exact Or.inr ⟨k, by omega, e, q1, fun j a hj => by rcases Nat.lt_succ_iff_lt_or_eq.mp hj with g | g; exact q2 j a g; exact g ▸ h'⟩
theorem last_congr {p q : Nat → Bool} : ∀ n, (∀ j, j < n → p j = q j) → last p n = last q n
  | 0, _ => rfl
  | n + 1, h => by unfold last; rw [h n (by omega), last_congr n (fun j hj => h j (by omega))]
theorem le_oN {a b : Nat} (h : a ≤ b) (hb : b < 2147483648) : Int32.ofNat a ≤ Int32.ofNat b := (oN_le (by omega) hb).mpr h
theorem nle_oN {a b : Nat} (h : b < a) (ha : a < 2147483648) : ¬ Int32.ofNat a ≤ Int32.ofNat b := fun q => absurd ((oN_le ha (by omega)).mp q) (by omega)
theorem lt_oN {a b : Nat} (h : a < b) (hb : b < 2147483648) : Int32.ofNat a < Int32.ofNat b := (oN_lt (by omega) hb).mpr h
theorem nlt_oN {a b : Nat} (h : b ≤ a) (ha : a < 2147483648) : ¬ Int32.ofNat a < Int32.ofNat b := fun q => absurd ((oN_lt ha (by omega)).mp q) (by omega)
theorem ne_oN {a b : Nat} (h : a ≠ b) (ha : a < 2147483648) (hb : b < 2147483648) : ¬ Int32.ofNat a = Int32.ofNat b := fun q => h ((oN_inj ha hb).mp q)
theorem itp {c A B : Prop} {_ : Decidable c} (h : c) (ha : A) : if c then A else B := by rw [if_pos h]; exact ha
theorem itn {c A B : Prop} {_ : Decidable c} (h : ¬ c) (hb : B) : if c then A else B := by rw [if_neg h]; exact hb

/-! B: names of the works -/
/-- which list a pair goes to -/
def hsh (x : Int64 × Int32) : Int32 := ((((x.1 * (-7046029254386353131 : Int64)).toUInt64 >>> ((51 : Int32).toInt64.toUInt64 &&& Int64.toUInt64 63)).toInt64).toInt32 ^^^ ((x.2 * (31 : Int32)) &&& (8191 : Int32)))
theorem hsh_lt (x : Int64 × Int32) : ∃ h : Nat, h < 8192 ∧ hsh x = Int32.ofNat h := by
  have key : (hsh x).toBitVec.toNat < 8192 := by
    unfold hsh
    rw [Int32.toBitVec_xor, BitVec.toNat_xor]
    apply Nat.xor_lt_two_pow (n := 13)
    · generalize (x.1 * (-7046029254386353131 : Int64)).toUInt64 = u
      have e : ((51 : Int32).toInt64.toUInt64 &&& Int64.toUInt64 63) = 51 := by decide
      rw [e]
      have hu : (u >>> 51).toNat < 8192 := by
        rw [UInt64.toNat_shiftRight]
        have := u.toNat_lt
        have e2 : (51 : UInt64).toNat % 64 = 51 := by decide
        rw [e2, Nat.shiftRight_eq_div_pow]
        omega
      have : ((u >>> 51).toInt64.toInt32).toBitVec.toNat = (u >>> 51).toNat % 2 ^ 32 := by
        rw [Int64.toBitVec_toInt32, BitVec.signExtend_eq_setWidth_of_le _ (by decide), BitVec.toNat_setWidth]
        rfl
      rw [this]; omega
    · rw [Int32.toBitVec_and, BitVec.toNat_and]
      have : (8191 : Int32).toBitVec.toNat = 8191 := by decide
      rw [this]
      exact Nat.lt_of_le_of_lt Nat.and_le_right (by decide)
  refine ⟨(hsh x).toBitVec.toNat, key, ?_⟩
  apply Int32.toBitVec_inj.mp
  apply BitVec.eq_of_toNat_eq
  show _ = (BitVec.ofNat 32 _).toNat
  rw [BitVec.toNat_ofNat]
  omega
def hN (x : Int64 × Int32) : Nat := (hsh x).toNatClampNeg
theorem hN_lt (x : Int64 × Int32) : hN x < 8192 := by
  obtain ⟨h, a, b⟩ := hsh_lt x
  unfold hN; rw [b, oN_tnc (by omega)]; exact a
theorem hN_eq (x : Int64 × Int32) : hsh x = Int32.ofNat (hN x) := by
  obtain ⟨h, a, b⟩ := hsh_lt x
  unfold hN; rw [b, oN_tnc (by omega)]
abbrev Pr : Type := Int64 × Int32
abbrev gp (L : List Pr) (j : Nat) : Pr := L.getD j (0, 0)
/-- the table of names -/
def CN (hN : Pr → Nat) (L : List Pr) (M : Mem) : Prop :=
  mI M 1 0 4 = Int32.ofNat L.length ∧ L.length ≤ 41200 ∧ (mL M 600 0 = 41200 ∧ mL M 20 0 = 41200 ∧ mL M 21 0 = 41200 ∧ mL M 22 0 = 8192) ∧ L.Nodup ∧
  (∀ k, k < L.length → mJ M 600 0 k = (gp L k).1 ∧ mI M 20 0 k = (gp L k).2 ∧ mI M 21 0 k = last (fun j => hN (gp L j) == hN (gp L k)) k) ∧
  ∀ h, h < 8192 → mI M 22 0 h = last (fun j => hN (gp L j) == h) L.length
theorem lg_cmp0 {x y : Int64} : lg_cmp x y = 0 ↔ x = y := by
  unfold lg_cmp
  by_cases h1 : x > y
  · rw [if_pos h1]; simp; intro e; subst e; simp at h1
  · rw [if_neg h1]
    by_cases h2 : x = y
    · simp [h2]
    · simp [h2]
def ins {α : Type} [DecidableEq α] (L : List α) (x : α) : List α := if x ∈ L then L else L ++ [x]
theorem gp_app {L : List Pr} {x : Pr} {j : Nat} (h : j < L.length) : gp (L ++ [x]) j = gp L j := by
  simp [gp, List.getD_eq_getElem?_getD, List.getElem?_append_left h]
theorem gp_end {L : List Pr} {x : Pr} : gp (L ++ [x]) L.length = x := by
  simp [gp, List.getD_eq_getElem?_getD]
theorem gp_mem {L : List Pr} {j : Nat} (h : j < L.length) : gp L j ∈ L := by
  simp [gp, List.getD_eq_getElem?_getD, List.getElem?_eq_getElem h]
theorem idx_gp {L : List Pr} (hn : L.Nodup) {j : Nat} (h : j < L.length) : L.idxOf (gp L j) = j := by
  have e : gp L j = L[j] := by simp [gp, List.getD_eq_getElem?_getD, List.getElem?_eq_getElem h]
  rw [e]; exact hn.idxOf_getElem j h
theorem mem_gp {L : List Pr} {x : Pr} (h : x ∈ L) : ∃ j, j < L.length ∧ gp L j = x := by
  obtain ⟨j, hj, e⟩ := List.getElem_of_mem h
  exact ⟨j, hj, by simp [gp, List.getD_eq_getElem?_getD, List.getElem?_eq_getElem hj, e]⟩
/-- one more comes in -/
theorem CN.add {hN : Pr → Nat} {L : List Pr} {M : Mem} {x : Pr} (hC : CN hN L M) (hN_lt : ∀ x, hN x < 8192) (hc : L.length < 41200) (hx : x ∉ L) :
    CN hN (L ++ [x]) (sI (sI (sI (sI (sJ M 600 0 L.length x.1) 20 0 L.length x.2) 21 0 L.length (mI M 22 0 (hN x))) 22 0 (hN x) (Int32.ofNat L.length)) 1 0 4 (Int32.ofNat (L.length + 1))) := by
  obtain ⟨h1, h2, h3, h4, h5, h6⟩ := hC
  refine ⟨?_, by rw [List.length_append, List.length_singleton]; omega, h3, ?_, ?_, ?_⟩
  · simp [mI_sI]
  · rw [List.nodup_append]
    exact ⟨h4, by simp, fun a ha b hb => by simp at hb; subst hb; exact fun e => hx (e ▸ ha)⟩
  · intro k hk
    simp only [List.length_append, List.length_singleton] at hk
    by_cases e : k = L.length
    · subst e
      rw [gp_end]
      refine ⟨by simp [mJ_sI, mJ_sJ], by simp [mI_sI], ?_⟩
      simp only [mI_sI]
      simp only [Nat.reduceEqDiff, false_and, and_self, if_true, if_false]
      rw [h6 _ (hN_lt x)]
      exact last_congr _ (fun j hj => by rw [gp_app hj])
    · have hk' : k < L.length := by omega
      obtain ⟨q1, q2, q3⟩ := h5 k hk'
      rw [gp_app hk']
      refine ⟨by simp [mJ_sI, mJ_sJ, e, q1], by simp [mI_sI, mI_sJ, e, q2], ?_⟩
      have : mI (sI (sI (sI (sI (sJ M 600 0 L.length x.1) 20 0 L.length x.2) 21 0 L.length (mI M 22 0 (hN x))) 22 0 (hN x) (Int32.ofNat L.length)) 1 0 4 (Int32.ofNat (L.length + 1))) 21 0 k = mI M 21 0 k := by simp [mI_sI, mI_sJ, e]
      rw [this, q3]
      exact last_congr _ (fun j hj => by rw [gp_app (by omega)])
  · intro h hh
    rw [List.length_append, List.length_singleton]
    unfold last
    rw [gp_end]
    by_cases e : hN x = h
    · subst e
      simp [mI_sI]
    · have e' : ¬ h = hN x := fun q => e q.symm
      have : mI (sI (sI (sI (sI (sJ M 600 0 L.length x.1) 20 0 L.length x.2) 21 0 L.length (mI M 22 0 (hN x))) 22 0 (hN x) (Int32.ofNat L.length)) 1 0 4 (Int32.ofNat (L.length + 1))) 22 0 h = mI M 22 0 h := by simp [mI_sI, mI_sJ, e']
      rw [this, h6 h hh]
      simp only [beq_iff_eq, e, if_false]
      exact last_congr _ (fun j hj => by rw [gp_app hj])

theorem c_numberOf_L {hN : Pr → Nat} (hlt : ∀ x, hN x < 8192) {L : List Pr} {M : Mem} {x : Pr} {Q : Int32 → Mem → Prop} (hC : CN hN L M) (hc : L.length < 41200)
    (hQ : ∀ M', CN hN (ins L x) M' → Q (Int32.ofNat (L.idxOf x)) M') :
    ∀ n m, m < n → m ≤ L.length → (∀ j, m ≤ j → j < L.length → gp L j ≠ x) →
      w_Names_numberOf_L29 0 Q n x.1 x.2 (Int32.ofNat (hN x)) (last (fun j => hN (gp L j) == hN x) m) M := by
  intro n
  induction n with
  | zero => intro m hm; omega
  | succ n ih =>
    intro m hm hml hno
    unfold w_Names_numberOf_L29
    obtain ⟨h1, h2, ⟨h3, h3b, h3c, h3d⟩, h4, h5, h6⟩ := id hC
    have hx := hlt x
    have eL : (Int32.ofNat L.length).toNatClampNeg = L.length := oN_tnc (by omega)
    have eh : (Int32.ofNat (hN x)).toNatClampNeg = hN x := oN_tnc (by omega)
    rcases last_cases (fun j => hN (gp L j) == hN x) m with ⟨e, q⟩ | ⟨k, hk, e, q1, q2⟩
    · rw [e, if_pos (by decide)]
      have hnot : x ∉ L := by
        intro hx
        obtain ⟨j, hj, ej⟩ := mem_gp hx
        by_cases hjm : j < m
        · have := q j hjm; rw [ej] at this; simp at this
        · exact hno j (by omega) hj ej
      have hv : vp_in (Int32.ofNat L.length) 41200 := (vp_oN (by omega)).mpr hc
      have hv2 : vp_in (Int32.ofNat (hN x)) 8192 := (vp_oN (by omega)).mpr hx
      have hidx : L.idxOf x = L.length := List.idxOf_eq_length hnot
      have hfin := hQ _ (by unfold ins; rw [if_neg hnot]; exact hC.add hlt hc hnot)
      rw [hidx] at hfin
      simp only [mI_sJ, mI_sI, mL_sJ, mL_sI, h1, h3, h3b, h3c, h3d, eL, eh, Nat.reduceEqDiff, false_and, and_false, if_false, and_self, if_true, exists_eq_left, hv, hv2, true_and, lit32, oN_add, oN_sub (Nat.le_add_left 1 _), Nat.add_sub_cancel]
      exact hfin
    · rw [e, if_neg (oN_nonneg (by omega))]
      have hkL : k < L.length := by omega
      obtain ⟨a1, a2, a3⟩ := h5 k hkL
      have ek : (Int32.ofNat k).toNatClampNeg = k := oN_tnc (by omega)
      have vk : vp_in (Int32.ofNat k) 41200 := (vp_oN (by omega)).mpr (by omega)
      have next : w_Names_numberOf_j60 0 Q (w_Names_numberOf_L29 0 Q n) x.1 x.2 (Int32.ofNat (hN x)) (Int32.ofNat k) M ∨ gp L k = x := by
        by_cases ex : gp L k = x
        · exact Or.inr ex
        · refine Or.inl ?_
          unfold w_Names_numberOf_j60
          rw [h3c, ek, a3]
          refine ⟨vk, ?_⟩
          have hh : hN (gp L k) = hN x := by simpa using q1
          rw [hh]
          refine ih k (by omega) (by omega) (fun j hj hjL => ?_)
          by_cases hjk : j = k
          · subst hjk; exact ex
          · by_cases hjm : j < m
            · intro ej
              have := q2 j (by omega) hjm
              rw [ej] at this; simp at this
            · exact hno j (by omega) hjL
      rw [h3, h3b, ek, a1, a2]
      refine ⟨vk, ?_⟩
      by_cases c1 : (gp L k).1 = x.1
      · rw [if_pos (lg_cmp0.mpr c1)]
        refine ⟨vk, ?_⟩
        by_cases c2 : (gp L k).2 = x.2
        · rw [if_pos c2]
          have ex : gp L k = x := Prod.ext c1 c2
          have := hQ M (by unfold ins; rw [if_pos (ex ▸ gp_mem hkL)]; exact hC)
          rw [← ex, idx_gp h4 hkL] at this
          exact this
        · rw [if_neg c2]
          rcases next with h | h
          · exact h
          · exact absurd (congrArg Prod.snd h) c2
      · rw [if_neg (fun h => c1 (lg_cmp0.mp h))]
        rcases next with h | h
        · exact h
        · exact absurd (congrArg Prod.fst h) c1
theorem c_numberOf {L : List Pr} {M : Mem} {x : Pr} {Q : Int32 → Mem → Prop} (hC : CN hN L M) (hc : L.length < 41200)
    (hQ : ∀ M', CN hN (ins L x) M' → Q (Int32.ofNat (L.idxOf x)) M') : w_Names_numberOf 0 x.1 x.2 Q M := by
  unfold w_Names_numberOf
  refine ⟨_, rfl, ?_⟩
  have e := hN_eq x
  have hl := hN_lt x
  unfold hsh at e
  rw [e]
  obtain ⟨h1, h2, ⟨h3, h3b, h3c, h3d⟩, h4, h5, h6⟩ := id hC
  refine ⟨by rw [h3d]; exact (vp_oN (by omega)).mpr hl, L.length + 1, ?_⟩
  rw [oN_tnc (by omega), h6 _ hl]
  exact c_numberOf_L hN_lt hC hc hQ _ _ (by omega) (Nat.le_refl _) (fun j a b => by omega)

/-! B: a name's two numbers, its bytes -/
abbrev Nm : Type := List Int32
def pka (g : Nat → Int32) : Nat → Int64
  | 0 => 0
  | k + 1 => (pka g k <<< ((8 : Int32).toInt64 &&& 63)) ||| (g k).toInt64
def pkb (g : Nat → Int32) : Nat → Int32
  | 0 => 0
  | k + 1 => (pkb g k <<< ((8 : Int32) &&& 31)) ||| g (8 + k)
abbrev gb0 (nm : Nm) (k : Nat) : Int32 := nm.getD k 0
def pk (nm : Nm) : Pr := (pka (gb0 nm) 8, pkb (gb0 nm) 4)
/-- bytes that names have -/
def okb (b : Int32) : Prop := ∃ n : Nat, 0 < n ∧ n < 128 ∧ b = Int32.ofNat n
def okn (nm : Nm) : Prop := nm.length ≤ 12 ∧ ∀ b ∈ nm, okb b
def bn (g : Nat → Int32) (k : Nat) : Nat := (g k).toNatClampNeg
def vN (g : Nat → Nat) : Nat → Nat
  | 0 => 0
  | k + 1 => vN g k * 256 + g k
theorem vN_succ (g : Nat → Nat) (k : Nat) : vN g (k + 1) = vN g k * 256 + g k := rfl
theorem vN_lt {g : Nat → Nat} (h : ∀ k, g k < 256) : ∀ n, vN g n < 256 ^ n
  | 0 => by simp [vN]
  | n + 1 => by
    have := vN_lt h n; have := h n
    rw [vN_succ, Nat.pow_succ]; omega
theorem vN_get {g : Nat → Nat} (h : ∀ k, g k < 256) : ∀ n i, i < n → vN g n / 256 ^ (n - 1 - i) % 256 = g i
  | 0, i, hi => by omega
  | n + 1, i, hi => by
    by_cases e : i = n
    · subst e
      have := h i
      simp only [Nat.add_sub_cancel, Nat.sub_self, Nat.pow_zero, Nat.div_one]
      rw [vN_succ]; omega
    · have ih := vN_get h n i (by omega)
      have e1 : n + 1 - 1 - i = (n - 1 - i) + 1 := by omega
      have := h n
      rw [e1, Nat.pow_succ, Nat.mul_comm, ← Nat.div_div_eq_div_mul]
      have e2 : vN g (n + 1) / 256 = vN g n := by rw [vN_succ]; omega
      rw [e2, ih]
theorem pka_nat {g : Nat → Int32} (h : ∀ k, ∃ n : Nat, n < 256 ∧ g k = Int32.ofNat n) : ∀ n, n ≤ 8 → (pka g n).toBitVec.toNat = vN (bn g) n
  | 0, _ => by simp [pka, vN]
  | n + 1, hn => by
    have ih := pka_nat h n (by omega)
    obtain ⟨c, hc, e⟩ := h n
    have hb : ∀ k, bn g k < 256 := fun k => by obtain ⟨c, hc, e⟩ := h k; unfold bn; rw [e, oN_tnc (by omega)]; exact hc
    have e8 : ((8 : Int32).toInt64 &&& 63) = 8 := by decide
    have hv := vN_lt hb n
    unfold pka
    rw [e8, Int64.toBitVec_or, BitVec.toNat_or, Int64.toBitVec_shiftLeft]
    have e8' : ((8 : Int64).toBitVec.smod 64) = 8#64 := by decide
    rw [e8']
    have ec : (g n).toInt64.toBitVec.toNat = c := by
      rw [e]
      have : Int32.toInt64 (Int32.ofNat c) = Int64.ofNat c := by
        apply Int64.toInt_inj.mp
        rw [Int32.toInt_toInt64, oN_toInt (by omega), Int64.toInt_ofNat_of_lt (by simp; omega)]
      rw [this]
      show (BitVec.ofNat 64 c).toNat = c
      rw [BitVec.toNat_ofNat]; omega
    rw [ec]
    have es : ((pka g n).toBitVec <<< 8#64).toNat = vN (bn g) n * 256 := by
      rw [BitVec.shiftLeft_eq', BitVec.toNat_shiftLeft, ih]
      have : (8#64).toNat = 8 := by decide
      rw [this, Nat.shiftLeft_eq]
      have : 256 ^ n ≤ 256 ^ 7 := Nat.pow_le_pow_right (by decide) (by omega)
      omega
    rw [es]
    have : vN (bn g) n * 256 = vN (bn g) n <<< 8 := by rw [Nat.shiftLeft_eq]
    rw [this, ← Nat.shiftLeft_add_eq_or_of_lt (by omega), Nat.shiftLeft_eq]
    have : bn g n = c := by unfold bn; rw [e, oN_tnc (by omega)]
    rw [vN_succ, this]
theorem pkb_nat {g : Nat → Int32} (h : ∀ k, ∃ n : Nat, n < 256 ∧ g k = Int32.ofNat n) : ∀ n, n ≤ 4 → (pkb g n).toBitVec.toNat = vN (fun k => bn g (8 + k)) n
  | 0, _ => by simp [pkb, vN]
  | n + 1, hn => by
    have ih := pkb_nat h n (by omega)
    obtain ⟨c, hc, e⟩ := h (8 + n)
    have hb : ∀ k, bn g (8 + k) < 256 := fun k => by obtain ⟨c, hc, e⟩ := h (8 + k); unfold bn; rw [e, oN_tnc (by omega)]; exact hc
    have e8 : ((8 : Int32) &&& 31) = 8 := by decide
    have hv := vN_lt (g := fun k => bn g (8 + k)) hb n
    unfold pkb
    rw [e8, Int32.toBitVec_or, BitVec.toNat_or, Int32.toBitVec_shiftLeft]
    have e8' : ((8 : Int32).toBitVec.smod 32) = 8#32 := by decide
    rw [e8']
    have ec : (g (8 + n)).toBitVec.toNat = c := by
      rw [e]
      show (BitVec.ofNat 32 c).toNat = c
      rw [BitVec.toNat_ofNat]; omega
    rw [ec]
    have es : ((pkb g n).toBitVec <<< 8#32).toNat = vN (fun k => bn g (8 + k)) n * 256 := by
      rw [BitVec.shiftLeft_eq', BitVec.toNat_shiftLeft, ih]
      have : (8#32).toNat = 8 := by decide
      rw [this, Nat.shiftLeft_eq]
      have : 256 ^ n ≤ 256 ^ 3 := Nat.pow_le_pow_right (by decide) (by omega)
      omega
    rw [es]
    have : vN (fun k => bn g (8 + k)) n * 256 = vN (fun k => bn g (8 + k)) n <<< 8 := by rw [Nat.shiftLeft_eq]
    rw [this, ← Nat.shiftLeft_add_eq_or_of_lt (by omega), Nat.shiftLeft_eq]
    have : bn g (8 + n) = c := by unfold bn; rw [e, oN_tnc (by omega)]
    rw [vN_succ, this]
/-- byte i of the pair -/
def atP (x : Pr) (i : Nat) : Int32 :=
  if i < 8 then (((x.1.toUInt64 >>> (((56 : Int32) - ((8 : Int32) * Int32.ofNat i)).toInt64.toUInt64 &&& Int64.toUInt64 63)).toInt64 &&& (255 : Int64)).toInt32)
  else if i < 12 then ((x.2.toUInt32 >>> (((24 : Int32) - ((8 : Int32) * (Int32.ofNat i - (8 : Int32)))).toUInt32 &&& Int32.toUInt32 31)).toInt32 &&& (255 : Int32)) else 0
theorem gb0_ok {nm : Nm} (h : okn nm) (k : Nat) : ∃ n : Nat, n < 256 ∧ gb0 nm k = Int32.ofNat n := by
  by_cases hk : k < nm.length
  · obtain ⟨n, h1, h2, h3⟩ := h.2 (nm[k]) (List.getElem_mem hk)
    exact ⟨n, by omega, by simp [gb0, List.getD_eq_getElem?_getD, List.getElem?_eq_getElem hk, h3]⟩
  · exact ⟨0, by decide, by simp [gb0, List.getD_eq_getElem?_getD, List.getElem?_eq_none (Nat.le_of_not_lt hk)]⟩
theorem atP_pk {nm : Nm} (h : okn nm) (i : Nat) : atP (pk nm) i = gb0 nm i := by
  have hg := gb0_ok h
  have hb : ∀ k, bn (gb0 nm) k < 256 := fun k => by obtain ⟨c, hc, e⟩ := hg k; unfold bn; rw [e, oN_tnc (by omega)]; exact hc
  have back : ∀ k, Int32.ofNat (bn (gb0 nm) k) = gb0 nm k := fun k => by obtain ⟨c, hc, e⟩ := hg k; unfold bn; rw [e, oN_tnc (by omega)]
  unfold atP pk
  by_cases h8 : i < 8
  · rw [if_pos h8]
    have hs : ∃ s : UInt64, (((56 : Int32) - ((8 : Int32) * Int32.ofNat i)).toInt64.toUInt64 &&& Int64.toUInt64 63) = s ∧ s.toNat = 56 - 8 * i := by
      refine ⟨_, rfl, ?_⟩
      have : i = 0 ∨ i = 1 ∨ i = 2 ∨ i = 3 ∨ i = 4 ∨ i = 5 ∨ i = 6 ∨ i = 7 := by omega
      rcases this with rfl | rfl | rfl | rfl | rfl | rfl | rfl | rfl <;> decide
    obtain ⟨s, es, hs⟩ := hs
    rw [es]
    have hp := pka_nat hg 8 (Nat.le_refl _)
    have hv := vN_get hb 8 i h8
    simp only []
    generalize pka (gb0 nm) 8 = A at hp
    rw [← back i]
    have key : ((A.toUInt64 >>> s).toInt64 &&& (255 : Int64)).toBitVec.toNat = bn (gb0 nm) i := by
      rw [Int64.toBitVec_and, BitVec.toNat_and]
      have e1 : (A.toUInt64 >>> s).toInt64.toBitVec.toNat = A.toBitVec.toNat >>> (56 - 8 * i) := by
        show (A.toUInt64 >>> s).toNat = _
        rw [UInt64.toNat_shiftRight, hs]
        have : (56 - 8 * i) % 64 = 56 - 8 * i := by omega
        rw [this]; rfl
      have e2 : (255 : Int64).toBitVec.toNat = 2 ^ 8 - 1 := by decide
      rw [e1, e2, Nat.and_two_pow_sub_one_eq_mod, hp, Nat.shiftRight_eq_div_pow, ← hv]
      have : 8 - 1 - i = 7 - i := by omega
      rw [this]
      have e3 : 56 - 8 * i = 8 * (7 - i) := by omega
      rw [e3, Nat.pow_mul]
    generalize ((A.toUInt64 >>> s).toInt64 &&& (255 : Int64)) = Z at key
    apply Int32.toBitVec_inj.mp
    rw [Int64.toBitVec_toInt32, BitVec.signExtend_eq_setWidth_of_le _ (by decide)]
    apply BitVec.eq_of_toNat_eq
    rw [BitVec.toNat_setWidth, key]
    show _ = (BitVec.ofNat 32 _).toNat
    rw [BitVec.toNat_ofNat]
  · rw [if_neg h8]
    by_cases h12 : i < 12
    · rw [if_pos h12]
      have hs : ∃ s : UInt32, (((24 : Int32) - ((8 : Int32) * (Int32.ofNat i - (8 : Int32)))).toUInt32 &&& Int32.toUInt32 31) = s ∧ s.toNat = 24 - 8 * (i - 8) := by
        refine ⟨_, rfl, ?_⟩
        have : i = 8 ∨ i = 9 ∨ i = 10 ∨ i = 11 := by omega
        rcases this with rfl | rfl | rfl | rfl <;> decide
      obtain ⟨s, es, hs⟩ := hs
      rw [es]
      have hp := pkb_nat hg 4 (Nat.le_refl _)
      have hv := vN_get (g := fun k => bn (gb0 nm) (8 + k)) (fun k => hb (8 + k)) 4 (i - 8) (by omega)
      have e8 : 8 + (i - 8) = i := by omega
      simp only [e8] at hv
      simp only []
      generalize pkb (gb0 nm) 4 = A at hp
      rw [← back i]
      have key : ((A.toUInt32 >>> s).toInt32 &&& (255 : Int32)).toBitVec.toNat = bn (gb0 nm) i := by
        rw [Int32.toBitVec_and, BitVec.toNat_and]
        have e1 : (A.toUInt32 >>> s).toInt32.toBitVec.toNat = A.toBitVec.toNat >>> (24 - 8 * (i - 8)) := by
          show (A.toUInt32 >>> s).toNat = _
          rw [UInt32.toNat_shiftRight, hs]
          have : (24 - 8 * (i - 8)) % 32 = 24 - 8 * (i - 8) := by omega
          rw [this]; rfl
        have e2 : (255 : Int32).toBitVec.toNat = 2 ^ 8 - 1 := by decide
        rw [e1, e2, Nat.and_two_pow_sub_one_eq_mod, hp, Nat.shiftRight_eq_div_pow, ← hv]
        have : 4 - 1 - (i - 8) = 3 - (i - 8) := by omega
        rw [this]
        have e3 : 24 - 8 * (i - 8) = 8 * (3 - (i - 8)) := by omega
        rw [e3, Nat.pow_mul]
      generalize ((A.toUInt32 >>> s).toInt32 &&& (255 : Int32)) = Z at key
      apply Int32.toBitVec_inj.mp
      apply BitVec.eq_of_toNat_eq
      rw [key]
      show _ = (BitVec.ofNat 32 _).toNat
      rw [BitVec.toNat_ofNat]
      have := hb i
      omega
    · rw [if_neg h12]
      have := h.1
      simp [gb0, List.getD_eq_getElem?_getD, List.getElem?_eq_none (show nm.length ≤ i by omega)]
theorem okb_ne {b : Int32} (h : okb b) : b ≠ 0 := by
  obtain ⟨n, a, c, e⟩ := h
  rw [e]; intro q
  have := (oN_inj (a := n) (b := 0) (by omega) (by decide)).mp q
  omega
theorem gb0_lt {nm : Nm} (h : okn nm) (k : Nat) : gb0 nm k = 0 ↔ nm.length ≤ k := by
  constructor
  · intro e
    refine Nat.le_of_not_lt (fun hk => ?_)
    have := okb_ne (h.2 _ (List.getElem_mem hk))
    simp [gb0, List.getD_eq_getElem?_getD, List.getElem?_eq_getElem hk] at e
    exact this e
  · intro hk
    simp [gb0, List.getD_eq_getElem?_getD, List.getElem?_eq_none hk]
theorem pk_inj {a b : Nm} (ha : okn a) (hb : okn b) (e : pk a = pk b) : a = b := by
  have hk : ∀ k, gb0 a k = gb0 b k := fun k => by rw [← atP_pk ha, ← atP_pk hb, e]
  have hl : a.length = b.length := by
    have h1 := (gb0_lt ha b.length).mp (by rw [hk, gb0_lt hb]; exact Nat.le_refl _)
    have h2 := (gb0_lt hb a.length).mp (by rw [← hk, gb0_lt ha]; exact Nat.le_refl _)
    omega
  refine List.ext_getElem hl (fun i h1 h2 => ?_)
  have := hk i
  simpa [gb0, List.getD_eq_getElem?_getD, List.getElem?_eq_getElem h1, List.getElem?_eq_getElem h2] using this

/-! B: names of the works, by their bytes -/
def CNm (A : List Nm) (M : Mem) : Prop := CN hN (A.map pk) M ∧ (∀ a ∈ A, okn a) ∧ A.Nodup
theorem idxOf_map {A : List Nm} (hA : ∀ a ∈ A, okn a) {nm : Nm} (hn : okn nm) : (A.map pk).idxOf (pk nm) = A.idxOf nm := by
  induction A with
  | nil => rfl
  | cons a A ih =>
    rw [List.map_cons, List.idxOf_cons, List.idxOf_cons, ih (fun x hx => hA x (List.mem_cons_of_mem _ hx))]
    by_cases e : a = nm
    · simp [e]
    · have : ¬ pk a = pk nm := fun q => e (pk_inj (hA a List.mem_cons_self) hn q)
      simp [beq_eq_false_iff_ne.mpr e, beq_eq_false_iff_ne.mpr this]
theorem mem_map_pk {A : List Nm} (hA : ∀ a ∈ A, okn a) {nm : Nm} (hn : okn nm) : pk nm ∈ A.map pk ↔ nm ∈ A := by
  constructor
  · intro h
    obtain ⟨a, ha, e⟩ := List.mem_map.mp h
    exact pk_inj (hA a ha) hn e ▸ ha
  · exact fun h => List.mem_map_of_mem h
theorem ins_map {A : List Nm} (hA : ∀ a ∈ A, okn a) {nm : Nm} (hn : okn nm) : ins (A.map pk) (pk nm) = (ins A nm).map pk := by
  unfold ins
  by_cases h : nm ∈ A
  · rw [if_pos h, if_pos ((mem_map_pk hA hn).mpr h)]
  · rw [if_neg h, if_neg (fun q => h ((mem_map_pk hA hn).mp q)), List.map_append]; rfl
theorem ins_ok {A : List Nm} (hA : ∀ a ∈ A, okn a) {nm : Nm} (hn : okn nm) : ∀ a ∈ ins A nm, okn a := by
  unfold ins
  split
  · exact hA
  · intro a ha
    rcases List.mem_append.mp ha with h | h
    · exact hA a h
    · simp at h; exact h ▸ hn
theorem ins_nodup {α : Type} [DecidableEq α] {A : List α} (hA : A.Nodup) (nm : α) : (ins A nm).Nodup := by
  unfold ins
  split
  · exact hA
  · rename_i h
    rw [List.nodup_append]
    exact ⟨hA, by simp, fun a ha b hb => by simp at hb; subst hb; exact fun e => h (e ▸ ha)⟩
theorem ins_mem {α : Type} [DecidableEq α] (A : List α) (nm : α) : nm ∈ ins A nm := by
  unfold ins; split
  · assumption
  · simp
theorem ins_pre {α : Type} [DecidableEq α] (A : List α) (nm : α) : A <+: ins A nm := by
  unfold ins; split
  · exact List.prefix_refl A
  · exact List.prefix_append A [nm]
theorem ins_idx {α : Type} [DecidableEq α] [BEq α] [LawfulBEq α] (A : List α) (nm : α) : (ins A nm).idxOf nm = A.idxOf nm := by
  unfold ins; split
  · rfl
  · rename_i h
    rw [List.idxOf_append, if_neg h, List.idxOf_eq_length h]; simp
theorem ins_len {α : Type} [DecidableEq α] (A : List α) (nm : α) : (ins A nm).length ≤ A.length + 1 := by
  unfold ins; split
  · omega
  · simp
theorem c_numberOfN {A : List Nm} {M : Mem} {nm : Nm} {Q : Int32 → Mem → Prop} (hC : CNm A M) (hc : A.length < 41200) (hn : okn nm)
    (hQ : ∀ M', CNm (ins A nm) M' → Q (Int32.ofNat (A.idxOf nm)) M') : w_Names_numberOf 0 (pk nm).1 (pk nm).2 Q M := by
  refine c_numberOf hC.1 (by simpa using hc) (fun M' h => ?_)
  rw [idxOf_map hC.2.1 hn]
  rw [ins_map hC.2.1 hn] at h
  exact hQ M' ⟨h, ins_ok hC.2.1 hn, ins_nodup hC.2.2 nm⟩
theorem c_of {A : List Nm} {M : Mem} {nm : Nm} {Q : Int32 → Mem → Prop} {r f : Nat} (hC : CNm A M) (hc : A.length < 41200) (hn : okn nm)
    (hb : ∀ k, k < nm.length → mI M 400 r (f + k) = gb0 nm k) (hr : f + nm.length ≤ mL M 400 r) (hr2 : f < 1000000)
    (hQ : ∀ M', CNm (ins A nm) M' → Q (Int32.ofNat (A.idxOf nm)) M') : w_Names_of 0 r (Int32.ofNat f) (Int32.ofNat (f + nm.length)) Q M := by
  have hl := hn.1
  have main : ∀ j k, k + j = 12 → w_Names_of_L9 0 Q (j + 1) r (Int32.ofNat f) (Int32.ofNat (f + nm.length)) (pka (gb0 nm) (min k 8)) (pkb (gb0 nm) (k - 8)) (Int32.ofNat k) M := by
    intro j
    induction j with
    | zero =>
      intro k hk
      have : k = 12 := by omega
      subst this
      unfold w_Names_of_L9
      rw [if_pos (by decide)]
      exact c_numberOfN hC hc hn hQ
    | succ j ih =>
      intro k hk
      unfold w_Names_of_L9
      rw [if_neg (by rw [lit32 12]; exact nle_oN (by omega) (by omega)), oN_add]
      have step : ∀ c, c = gb0 nm k → w_Names_of_j34 0 Q (w_Names_of_L9 0 Q (j + 1)) r (Int32.ofNat f) (Int32.ofNat (f + nm.length)) (pka (gb0 nm) (min k 8)) (pkb (gb0 nm) (k - 8)) (Int32.ofNat k) c M := by
        intro c ec
        subst ec
        have ih' := ih (k + 1) (by omega)
        unfold w_Names_of_j34 w_Names_of_j67
        rw [lit32 1, oN_add]
        by_cases h8 : 8 ≤ k
        · rw [if_pos (by rw [lit32 8]; exact le_oN h8 (by omega))]
          have e1 : min (k + 1) 8 = min k 8 := by omega
          have e2 : k + 1 - 8 = (k - 8) + 1 := by omega
          have e3 : 8 + (k - 8) = k := by omega
          rw [e1, e2] at ih'
          unfold pkb at ih'
          rw [e3] at ih'
          exact ih'
        · rw [if_neg (by rw [lit32 8]; exact nle_oN (by omega) (by omega))]
          have e1 : min (k + 1) 8 = min k 8 + 1 := by omega
          have e2 : k + 1 - 8 = k - 8 := by omega
          have e3 : min k 8 = k := by omega
          rw [e1, e2] at ih'
          unfold pka at ih'
          rw [e3] at ih' ⊢
          exact ih'
      by_cases hk2 : f + nm.length ≤ f + k
      · rw [if_pos (le_oN hk2 (by omega))]
        exact step _ ((gb0_lt hn k).mpr (by omega)).symm
      · rw [if_neg (nle_oN (by omega) (by omega)), oN_tnc (by omega)]
        exact ⟨(vp_oN (by omega)).mpr (by omega), step _ (hb k (by omega))⟩
  unfold w_Names_of
  exact ⟨13, main 12 0 (by omega)⟩
theorem CNm.get {A : List Nm} {M : Mem} (hC : CNm A M) {k : Nat} {nm : Nm} (h : A[k]? = some nm) : k < A.length ∧ okn nm ∧ A.idxOf nm = k ∧ (mJ M 600 0 k, mI M 20 0 k) = pk nm := by
  obtain ⟨hk, e⟩ := List.getElem?_eq_some_iff.mp h
  have hk' : k < (A.map pk).length := by simpa using hk
  obtain ⟨h1, h2, h3, h4, h5, h6⟩ := hC.1
  obtain ⟨q1, q2, q3⟩ := h5 k hk'
  refine ⟨hk, hC.2.1 nm (e ▸ List.getElem_mem hk), by rw [← e]; exact hC.2.2.idxOf_getElem k hk, ?_⟩
  have : gp (A.map pk) k = pk nm := by simp [gp, List.getD_eq_getElem?_getD, h]
  rw [q1, q2, this]
theorem c_at {A : List Nm} {M : Mem} {nm : Nm} {Q : Int32 → Mem → Prop} {k i : Nat} (hC : CNm A M) (h : A[k]? = some nm) (hi : i < 1000000)
    (hQ : Q (gb0 nm i) M) : w_Names_at 0 (Int32.ofNat k) (Int32.ofNat i) Q M := by
  obtain ⟨hk, hn, -, hp⟩ := hC.get h
  obtain ⟨h1, h2, ⟨h3, h3b, h3c, h3d⟩, h4, h5, h6⟩ := hC.1
  have hA : A.length ≤ 41200 := by simpa using h2
  have ha := atP_pk hn i
  rw [← hp] at ha
  rw [← ha] at hQ
  unfold atP at hQ
  unfold w_Names_at
  rw [h3, h3b, oN_tnc (k := k) (by omega)]
  by_cases h8 : i < 8
  · rw [if_neg (by rw [lit32 8]; exact nle_oN (by omega) (by omega))]
    rw [if_pos h8] at hQ
    exact ⟨(vp_oN (by omega)).mpr (by omega), hQ⟩
  · rw [if_pos (by rw [lit32 8]; exact le_oN (by omega) (by omega))]
    rw [if_neg h8] at hQ
    by_cases h12 : i < 12
    · rw [if_neg (by rw [lit32 12]; exact nle_oN (by omega) (by omega))]
      rw [if_pos h12] at hQ
      exact ⟨(vp_oN (by omega)).mpr (by omega), hQ⟩
    · rw [if_pos (by rw [lit32 12]; exact le_oN (by omega) (by omega))]
      rw [if_neg h12] at hQ
      exact hQ
/-- what a table of names takes no notice of -/
theorem CNm.of {A : List Nm} {M M' : Mem} (hC : CNm A M) (e1 : mI M' 1 0 4 = mI M 1 0 4) (e2 : ∀ k, mI M' 20 0 k = mI M 20 0 k) (e3 : ∀ k, mI M' 21 0 k = mI M 21 0 k) (e4 : ∀ k, mI M' 22 0 k = mI M 22 0 k) (e5 : ∀ k, mJ M' 600 0 k = mJ M 600 0 k)
    (l2 : mL M' 20 0 = mL M 20 0) (l3 : mL M' 21 0 = mL M 21 0) (l4 : mL M' 22 0 = mL M 22 0) (l5 : mL M' 600 0 = mL M 600 0) : CNm A M' := by
  obtain ⟨⟨q1, q2, ⟨q3, q3b, q3c, q3d⟩, q4, q5, q6⟩, r⟩ := hC
  refine ⟨⟨by rw [e1]; exact q1, q2, ⟨by rw [l5]; exact q3, by rw [l2]; exact q3b, by rw [l3]; exact q3c, by rw [l4]; exact q3d⟩, q4, fun k hk => ?_, fun k hk => ?_⟩, r⟩
  · rw [e5, e2, e3]; exact q5 k hk
  · rw [e4]; exact q6 k hk
theorem CNm.fr {A : List Nm} {M M' : Mem} (hC : CNm A M) {S : Nat} (h : Fr S M M') (h1 : S.testBit (cd 1 4) = false := by rfl) (h2 : S.testBit 20 = false := by rfl) (h3 : S.testBit 21 = false := by rfl) (h4 : S.testBit 22 = false := by rfl) (h5 : S.testBit 600 = false := by rfl)
    (l2 : S.testBit (5000 + 20) = false := by rfl) (l3 : S.testBit (5000 + 21) = false := by rfl) (l4 : S.testBit (5000 + 22) = false := by rfl) (l5 : S.testBit (5000 + 600) = false := by rfl) : CNm A M' :=
  hC.of (h.I h1 0) (h.Ia rfl h2 0) (h.Ia rfl h3 0) (h.Ia rfl h4 0) (h.Ja rfl h5 0) (h.L l2 0) (h.L l3 0) (h.L l4 0) (h.L l5 0)
/-- fields of the words are none of it -/
theorem CNm.w {A : List Nm} {M : Mem} (hC : CNm A M) {k : Nat} {v : Int32} : CNm A (sI M 2 0 k v) := hC.of rfl (fun _ => rfl) (fun _ => rfl) (fun _ => rfl) (fun _ => rfl) rfl rfl rfl rfl
theorem CNm.wR {A : List Nm} {M : Mem} (hC : CNm A M) {f i k : Nat} {v : Option (Nat × Nat)} : CNm A (sR M f i k v) := hC.of rfl (fun _ => rfl) (fun _ => rfl) (fun _ => rfl) (fun _ => rfl) rfl rfl rfl rfl

/-! B: words, by a text's bytes -/
def isLt (b : Int32) : Bool := decide ((97 ≤ b ∧ b ≤ 122) ∨ (65 ≤ b ∧ b ≤ 90) ∨ b = 95)
def isD (b : Int32) : Bool := decide (48 ≤ b ∧ b ≤ 57)
def isW (b : Int32) : Bool := isLt b || isD b
def scnF (q : Int32 → Bool) (p : Nat → Int32) : Nat → Nat → Nat
  | 0, k => k
  | n + 1, k => if q (p k) then scnF q p n (k + 1) else k
/-- the first place from k on where it is not so -/
def scn (q : Int32 → Bool) (p : Nat → Int32) (n k : Nat) : Nat := scnF q p (n - k) k
/-- a text's end: 10 behind it -/
def tend (p : Nat → Int32) (n : Nat) : Prop := ∀ k, n ≤ k → p k = 10
theorem scn_t {q : Int32 → Bool} {p : Nat → Int32} {n k : Nat} (hp : tend p n) (hq : q 10 = false) (h : q (p k) = true) : k < n ∧ scn q p n k = scn q p n (k + 1) := by
  have hk : k < n := Nat.lt_of_not_le (fun hk => by rw [hp k hk, hq] at h; cases h)
  refine ⟨hk, ?_⟩
  unfold scn
  obtain ⟨m, hm⟩ : ∃ m, n - k = m + 1 := ⟨n - k - 1, by omega⟩
  have : n - (k + 1) = m := by omega
  rw [hm, this]
  show (if q (p k) then _ else _) = _
  rw [if_pos h]
theorem scn_f {q : Int32 → Bool} {p : Nat → Int32} {n k : Nat} (h : q (p k) = false) : scn q p n k = k := by
  unfold scn
  cases n - k with
  | zero => rfl
  | succ m => show (if q (p k) then _ else _) = _; rw [h]; rfl
theorem scn_all {q : Int32 → Bool} {p : Nat → Int32} {n : Nat} (hp : tend p n) (hq : q 10 = false) : ∀ d k, n + 1 - k ≤ d → k ≤ scn q p n k ∧ scn q p n k ≤ max n k ∧ (∀ i, k ≤ i → i < scn q p n k → q (p i) = true) ∧ q (p (scn q p n k)) = false := by
  intro d
  induction d with
  | zero =>
    intro k hk
    have h : q (p k) = false := by rw [hp k (by omega), hq]
    rw [scn_f h]
    exact ⟨Nat.le_refl _, by omega, fun i a b => by omega, h⟩
  | succ d ih =>
    intro k hk
    by_cases h : q (p k) = true
    · obtain ⟨hlt, e⟩ := scn_t hp hq h
      rw [e]
      obtain ⟨a, b, c, f⟩ := ih (k + 1) (by omega)
      refine ⟨by omega, by omega, fun i h1 h2 => ?_, f⟩
      by_cases e1 : i = k
      · rw [e1]; exact h
      · exact c i (by omega) h2
    · have h : q (p k) = false := by simpa using h
      rw [scn_f h]
      exact ⟨Nat.le_refl _, by omega, fun i a b => by omega, h⟩
theorem scn_spec {q : Int32 → Bool} {p : Nat → Int32} {n : Nat} (hp : tend p n) (hq : q 10 = false) (k : Nat) : k ≤ scn q p n k ∧ scn q p n k ≤ max n k ∧ (∀ i, k ≤ i → i < scn q p n k → q (p i) = true) ∧ q (p (scn q p n k)) = false := scn_all hp hq _ k (Nat.le_refl _)
/-- one place alone is so -/
theorem scn_uniq {q : Int32 → Bool} {p : Nat → Int32} {n k j : Nat} (hp : tend p n) (hq : q 10 = false) (h1 : k ≤ j) (h2 : ∀ i, k ≤ i → i < j → q (p i) = true) (h3 : q (p j) = false) : scn q p n k = j := by
  obtain ⟨a, b, c, d⟩ := scn_spec hp hq k
  rcases Nat.lt_trichotomy (scn q p n k) j with h | h | h
  · rw [h2 _ a h] at d; cases d
  · exact h
  · rw [c _ h1 h] at h3; cases h3
def bytes (p : Nat → Int32) (k to : Nat) : Nm := (List.range (to - k)).map (fun i => p (k + i))
theorem bytes_len (p : Nat → Int32) (k to : Nat) : (bytes p k to).length = to - k := by simp [bytes]
theorem bytes_get {p : Nat → Int32} {k to i : Nat} (h : i < to - k) : gb0 (bytes p k to) i = p (k + i) := by
  simp [gb0, bytes, List.getD_eq_getElem?_getD, h]
theorem okb_of {b : Int32} (h1 : 1 ≤ b) (h2 : b ≤ 127) : okb b := by
  refine ⟨b.toNatClampNeg, ?_, ?_, ?_⟩
  · rw [Int32.le_iff_toInt_le] at h1; have : (1 : Int32).toInt = 1 := by decide
    unfold Int32.toNatClampNeg; omega
  · rw [Int32.le_iff_toInt_le] at h2; have : (127 : Int32).toInt = 127 := by decide
    unfold Int32.toNatClampNeg; omega
  · refine (ofNat_tnc ?_).symm
    rw [Int32.le_iff_toInt_le] at h1; rw [Int32.lt_iff_toInt_lt]
    have : (1 : Int32).toInt = 1 := by decide
    have : (0 : Int32).toInt = 0 := by decide
    omega
theorem okb_isW {b : Int32} (h : isW b = true) : okb b := by
  unfold isW isLt isD at h
  simp only [Bool.or_eq_true, decide_eq_true_eq] at h
  have tr : ∀ {x y z : Int32}, x ≤ y → y ≤ z → x ≤ z := fun h1 h2 => by rw [Int32.le_iff_toInt_le] at *; omega
  rcases h with (⟨a, c⟩ | ⟨a, c⟩ | e) | ⟨a, c⟩
  · exact okb_of (tr (by decide) a) (tr c (by decide))
  · exact okb_of (tr (by decide) a) (tr c (by decide))
  · subst e; exact okb_of (by decide) (by decide)
  · exact okb_of (tr (by decide) a) (tr c (by decide))
theorem okn_bytes {p : Nat → Int32} {k to : Nat} (hl : to - k ≤ 12) (h : ∀ i, k ≤ i → i < to → isW (p i) = true) : okn (bytes p k to) := by
  refine ⟨by rw [bytes_len]; exact hl, fun b hb => ?_⟩
  simp only [bytes, List.mem_map, List.mem_range] at hb
  obtain ⟨i, hi, rfl⟩ := hb
  exact okb_isW (h _ (by omega) (by omega))
/-- digits as a number -/
def nvl (p : Nat → Int32) (f : Nat) : Nat → Int64
  | 0 => 0
  | c + 1 => ((10 : Int64) * nvl p f c + (p (f + c)).toInt64) - (48 : Int64)
abbrev nMake : Nm := [60, 109, 97, 107, 101, 62]
abbrev nStart : Nm := [60, 115, 116, 97, 114, 116, 62]
def isSg (b : Int32) : Bool := b == 44 || b == 59 || b == 40 || b == 41 || b == 58 || b == 46 || b == 61
/-- kind (0 end, 1 wrong, 2 name, 3 make or start, 4 number, else the sign), name, number, place -/
abbrev Tok : Type := Nat × Nm × Int32 × Nat
def pref (p : Nat → Int32) (k : Nat) (nm : Nm) : Bool := (List.range nm.length).all (fun i => p (k + i) == gb0 nm i)
def lexN (p : Nat → Int32) (n k : Nat) (less : Bool) : Tok × Nat :=
  let f := if less then k + 1 else k
  let to := scn isD p n f
  if 1 ≤ to - f ∧ to - f ≤ 10 then
    let v := if less then - nvl p f (to - f) else nvl p f (to - f)
    if v < -2147483648 ∨ 2147483647 < v then ((1, [], 0, k), k) else ((4, [], v.toInt32, k), to)
  else ((1, [], 0, k), k)
def lex1 (p : Nat → Int32) (n k : Nat) : Tok × Nat :=
  if p k = 35 ∨ p k = 10 then ((0, [], 0, scn (fun b => b != 10) p n k), k)
  else if isLt (p k) then (if scn isW p n k - k ≤ 12 then ((2, bytes p k (scn isW p n k), 0, k), scn isW p n k) else ((1, [], 0, k), k))
  else if isD (p k) || p k == 45 then lexN p n k (p k == 45)
  else if p k = 60 then (if pref p k nMake then ((3, nMake, 0, k), k + 6) else if pref p k nStart then ((3, nStart, 0, k), k + 7) else ((1, [], 0, k), k))
  else if isSg (p k) then (((p k).toNatClampNeg, [], 0, k), k + 1)
  else ((1, [], 0, k), k)
/-- the word from place a on, and where it ends -/
def lex (p : Nat → Int32) (n a : Nat) : Tok × Nat := lex1 p n (scn (fun b => b == 32) p n a)
-- the works' words
def TX (r n : Nat) (p : Nat → Int32) (M : Mem) : Prop := (mR M 2 0 0 = some (400, r) ∧ mI M 2 0 1 = Int32.ofNat n) ∧ n ≤ mL M 400 r ∧ n ≤ 100000 ∧ (∀ k, k < n → mI M 400 r k = p k) ∧ tend p n
theorem TX.of {r n : Nat} {p : Nat → Int32} {M M' : Mem} (h : TX r n p M) (e0 : mR M' 2 0 0 = mR M 2 0 0) (e1 : mI M' 2 0 1 = mI M 2 0 1) (e2 : mL M' 400 r = mL M 400 r) (e3 : ∀ k, mI M' 400 r k = mI M 400 r k) : TX r n p M' := by
  obtain ⟨⟨a, b⟩, c, d, e, f⟩ := h
  exact ⟨⟨e0 ▸ a, e1 ▸ b⟩, by rw [e2]; exact c, d, fun k hk => by rw [e3]; exact e k hk, f⟩
theorem c_isIn {a b c : Int32} {Q : Int32 → Mem → Prop} {M : Mem} (h : Q (if b ≤ a ∧ a ≤ c then 1 else 0) M) : w_Works_isIn a b c Q M := by
  unfold w_Works_isIn
  by_cases h1 : a < b
  · rw [if_pos h1]; rw [if_neg (fun q => absurd q.1 (by rw [Int32.le_iff_toInt_le]; rw [Int32.lt_iff_toInt_lt] at h1; omega))] at h; exact h
  · rw [if_neg h1]
    by_cases h2 : c < a
    · rw [if_pos h2]; rw [if_neg (fun q => absurd q.2 (by rw [Int32.le_iff_toInt_le]; rw [Int32.lt_iff_toInt_lt] at h2; omega))] at h; exact h
    · rw [if_neg h2]; rw [if_pos ⟨by rw [Int32.le_iff_toInt_le]; rw [Int32.lt_iff_toInt_lt] at h1; omega, by rw [Int32.le_iff_toInt_le]; rw [Int32.lt_iff_toInt_lt] at h2; omega⟩] at h; exact h
abbrev b2 (b : Bool) : Int32 := if b then 1 else 0
theorem c_isLetter {b : Int32} {Q : Int32 → Mem → Prop} {M : Mem} (h : Q (b2 (isLt b)) M) : w_Words_isLetter 0 b Q M := by
  unfold w_Words_isLetter
  refine c_isIn ?_
  unfold b2 isLt at h
  by_cases h1 : 97 ≤ b ∧ b ≤ 122
  · rw [if_pos h1, if_neg (by decide)]; simpa [h1] using h
  · rw [if_neg h1, if_pos rfl]
    refine c_isIn ?_
    by_cases h2 : 65 ≤ b ∧ b ≤ 90
    · rw [if_pos h2, if_neg (by decide)]; simpa [h2] using h
    · rw [if_neg h2, if_pos rfl]
      by_cases h3 : b = 95
      · rw [if_pos h3]; simpa [h3] using h
      · rw [if_neg h3]; simpa [h1, h2, h3] using h
theorem c_isDigit {b : Int32} {Q : Int32 → Mem → Prop} {M : Mem} (h : Q (b2 (isD b)) M) : w_Words_isDigit 0 b Q M := by
  unfold w_Words_isDigit
  refine c_isIn ?_
  unfold b2 isD at h
  by_cases h1 : 48 ≤ b ∧ b ≤ 57
  · rw [if_pos h1]; exact ⟨Or.inr rfl, by simpa [h1] using h⟩
  · rw [if_neg h1]; exact ⟨Or.inl rfl, by simpa [h1] using h⟩
theorem c_peek {r n k : Nat} {p : Nat → Int32} {Q : Int32 → Mem → Prop} {M : Mem} (hT : TX r n p M) (hk : k < 1000000000) (h : Q (p k) M) : w_Words_peek 0 (Int32.ofNat k) Q M := by
  obtain ⟨⟨a, b⟩, c, d, e, f⟩ := hT
  unfold w_Words_peek
  rw [b]
  by_cases hn : n ≤ k
  · rw [if_pos (le_oN hn (by omega)), ← f k hn]; exact h
  · rw [if_neg (nle_oN (by omega) (by omega)), oN_tnc (by omega)]
    exact ⟨r, a, (vp_oN (by omega)).mpr (by omega), by rw [e k (by omega)]; exact h⟩

theorem isL10 : isLt 10 = false := by decide
theorem isD10 : isD 10 = false := by decide
theorem isW10 : isW 10 = false := by decide
/-- the word at hand -/
def TokC (A : List Nm) (t : Tok) (M : Mem) : Prop :=
  mI M 2 0 4 = Int32.ofNat t.2.2.2 ∧
  (if t.1 = 0 then mR M 2 0 3 = some (0, 103) else if t.1 = 1 then mR M 2 0 3 = some (0, 104)
   else if t.1 = 2 ∨ t.1 = 3 then mR M 2 0 3 = some (0, 100) ∧ mI M 2 0 5 = Int32.ofNat (A.idxOf t.2.1) ∧ t.2.1 ∈ A
   else if t.1 = 4 then mR M 2 0 3 = some (0, 101) ∧ mI M 2 0 5 = t.2.2.1
   else mR M 2 0 3 = some (0, 102) ∧ mI M 2 0 5 = Int32.ofNat t.1)
theorem c_name {A : List Nm} {r n k : Nat} {p : Nat → Int32} {Q : Mem → Prop} {M : Mem} (hC : CNm A M) (hc : A.length < 41200) (hT : TX r n p M) (hat : mI M 2 0 2 = Int32.ofNat k) (hkn : k ≤ n)
    (hbad : ¬ scn isW p n k - k ≤ 12 → Q M)
    (hok : scn isW p n k - k ≤ 12 → ∀ M', CNm (ins A (bytes p k (scn isW p n k))) M' → TX r n p M' → mI M' 2 0 2 = Int32.ofNat (scn isW p n k) → mR M' 2 0 3 = some (0, 100) → mI M' 2 0 5 = Int32.ofNat (A.idxOf (bytes p k (scn isW p n k))) → mI M' 2 0 4 = mI M 2 0 4 → Q M') : w_Words_name 0 Q M := by
  obtain ⟨⟨t1, t2⟩, t3, t4, t5, t6⟩ := id hT
  obtain ⟨s1, s2, s3, s4⟩ := scn_spec t6 isW10 k
  have main : ∀ d j, n + 1 - j < d → k ≤ j → j ≤ n → scn isW p n j = scn isW p n k → w_Words_name_L5 0 Q d (Int32.ofNat j) M := by
    intro d
    induction d with
    | zero => intro j h; omega
    | succ d ih =>
      intro j hd hkj hjn hs
      unfold w_Words_name_L5
      refine c_peek hT (by omega) (c_isLetter ?_)
      have go : isW (p j) = true → w_Words_name_j29 0 Q (w_Words_name_L5 0 Q d) (Int32.ofNat j) M := by
        intro hw
        unfold w_Words_name_j29
        rw [lit32 1, oN_add]
        obtain ⟨a, b⟩ := scn_t t6 isW10 hw
        exact ih (j + 1) (by omega) (by omega) (by omega) (by rw [← b]; exact hs)
      by_cases hL : isLt (p j) = true
      · rw [hL, if_neg (by decide)]
        exact go (by unfold isW; rw [hL]; rfl)
      · have hL : isLt (p j) = false := by simpa using hL
        rw [hL, if_pos (by decide)]
        refine c_peek hT (by omega) (c_isDigit ?_)
        by_cases hD : isD (p j) = true
        · rw [hD, if_neg (by decide)]
          exact go (by unfold isW; rw [hL, hD]; rfl)
        · have hD : isD (p j) = false := by simpa using hD
          rw [hD, if_pos (by decide), hat]
          have hj : scn isW p n k = j := by rw [← hs]; exact scn_f (by unfold isW; rw [hL, hD]; rfl)
          rw [oN_sub hkj]
          by_cases h12 : j - k ≤ 12
          · refine itp (le_oN (b := 12) h12 (by omega)) ?_
            rw [hj] at hok s3
            have hn := okn_bytes h12 s3
            have hbl := bytes_len p k j
            refine ⟨r, t1, ?_⟩
            have hCs : CNm A (sR M 2 0 3 (some (0, 100 + 0))) := hC.wR
            have := c_of (Q := fun v M' => CNm (ins A (bytes p k j)) M' ∧ v = Int32.ofNat (A.idxOf (bytes p k j))) (r := r) (f := k) hCs hc hn (fun i hi => by rw [bytes_get (by omega)]; exact t5 _ (by omega)) (by rw [hbl]; show _ ≤ mL M 400 r; omega) (by omega) (fun M' h => ⟨h, rfl⟩)
            rw [hbl, show k + (j - k) = j by omega] at this
            rw [show mI (sR M 2 0 3 (some (0, 100 + 0))) 2 0 2 = Int32.ofNat k from hat]
            refine mf_w_Names_of (fun v M' hf hp => ?_) this
            obtain ⟨h1, h2⟩ := hp
            subst h2
            refine hok h12 _ (h1.w.w) ?_ rfl ?_ rfl ?_
            · refine hT.of ?_ ?_ ?_ ?_
              · exact hf.R (f := 2) (k := 0) rfl 0
              · exact hf.I (f := 2) (k := 1) rfl 0
              · exact hf.L (f := 400) rfl r
              · exact fun k => hf.Ia (f := 400) rfl rfl r k
            · exact hf.R (f := 2) (k := 3) rfl 0
            · exact hf.I (f := 2) (k := 4) rfl 0
          · refine itn (nle_oN (b := 12) (by omega) (by omega)) ?_
            exact hbad (by rw [hj]; exact h12)
  unfold w_Words_name
  rw [hat]
  exact ⟨n + 2 - k, main _ k (by omega) (Nat.le_refl _) hkn rfl⟩
theorem nvl_bound {p : Nat → Int32} {f : Nat} : ∀ c, c ≤ 10 → (∀ i, i < c → isD (p (f + i)) = true) → 0 ≤ (nvl p f c).toInt ∧ (nvl p f c).toInt < 10 ^ c
  | 0, _, _ => by simp [nvl]
  | c + 1, hc, h => by
    obtain ⟨a, b⟩ := nvl_bound c (by omega) (fun i hi => h i (by omega))
    have hd := h c (by omega)
    unfold isD at hd
    simp only [decide_eq_true_eq, Int32.le_iff_toInt_le] at hd
    have e1 : (48 : Int32).toInt = 48 := by decide
    have e2 : (57 : Int32).toInt = 57 := by decide
    have e3 : (10 : Int64).toInt = 10 := by decide
    have e4 : (48 : Int64).toInt = 48 := by decide
    have hp : (10 : Int) ^ c ≤ 10 ^ 9 := by
      have := Nat.pow_le_pow_right (n := 10) (by decide) (show c ≤ 9 by omega)
      exact_mod_cast this
    have key : (nvl p f (c + 1)).toInt = 10 * (nvl p f c).toInt + (p (f + c)).toInt - 48 := by
      show (((10 : Int64) * nvl p f c + (p (f + c)).toInt64) - (48 : Int64)).toInt = _
      rw [Int64.toInt_sub, Int64.toInt_add, Int64.toInt_mul, Int32.toInt_toInt64, e3, e4]
      simp only [Int.bmod_sub_bmod, Int.bmod_add_bmod, Int.add_bmod_bmod]
      rw [Int.bmod_eq_of_le (by omega) (by omega)]
    rw [key, Int.pow_succ]
    omega
theorem c_number {A : List Nm} {r n k : Nat} {p : Nat → Int32} {Q : Mem → Prop} {M : Mem} (less : Bool) (hT : TX r n p M) (hat : mI M 2 0 2 = Int32.ofNat k) (hkn : k ≤ n)
    (hbad : lexN p n k less = ((1, [], 0, k), k) → Q M)
    (hok : ∀ v to, lexN p n k less = ((4, [], v, k), to) → Q (sI (sI (sR M 2 0 3 (some (0, 101))) 2 0 5 v) 2 0 2 (Int32.ofNat to))) : w_Words_number 0 (b2 less) Q M := by
  obtain ⟨⟨t1, t2⟩, t3, t4, t5, t6⟩ := id hT
  have ef : w_Words_number_j17 0 Q (b2 less) (Int32.ofNat (if less then k + 1 else k)) M → w_Words_number 0 (b2 less) Q M := by
    unfold w_Words_number
    rw [hat]
    cases less with
    | true => intro h; rw [if_neg (by decide), lit32 1, oN_add]; exact h
    | false => intro h; rw [if_pos (by decide)]; exact h
  apply ef
  unfold lexN at hbad hok
  simp only [] at hbad hok
  generalize hf : (if less then k + 1 else k) = f at hbad hok ⊢
  have hfn : f ≤ n + 1 := by rw [← hf]; split <;> omega
  obtain ⟨s1, s2, s3, s4⟩ := scn_spec t6 isD10 f
  generalize hto : scn isD p n f = to at hbad hok s1 s2 s3 s4
  have fin : ∀ w : Int64, w = (if less then - nvl p f (to - f) else nvl p f (to - f)) → 1 ≤ to - f ∧ to - f ≤ 10 → w_Words_number_j98 0 Q (Int32.ofNat to) w M := by
    intro w hw h10
    rw [if_pos h10] at hbad hok
    rw [← hw] at hbad hok
    unfold w_Words_number_j98
    have c1 : lg_cmp w (-2147483648 : Int64) < 0 ↔ w < -2147483648 := by
      unfold lg_cmp
      by_cases h1 : w > -2147483648
      · rw [if_pos h1]; constructor
        · intro h; exact absurd h (by decide)
        · intro h; exact absurd h (by rw [gt_iff_lt, Int64.lt_iff_toInt_lt] at h1; rw [Int64.lt_iff_toInt_lt]; omega)
      · rw [if_neg h1]
        by_cases h2 : w = -2147483648
        · rw [if_pos h2, h2]; decide
        · rw [if_neg h2]; constructor
          · intro _; rw [gt_iff_lt, Int64.lt_iff_toInt_lt] at h1; rw [Int64.lt_iff_toInt_lt]
            have : w.toInt ≠ (-2147483648 : Int64).toInt := fun q => h2 (Int64.toInt_inj.mp q)
            omega
          · intro _; decide
    have c2 : lg_cmp w (2147483647 : Int64) ≤ 0 ↔ ¬ 2147483647 < w := by
      unfold lg_cmp
      by_cases h1 : w > 2147483647
      · rw [if_pos h1]; constructor
        · intro h; exact absurd h (by decide)
        · intro h; exact absurd h1 h
      · rw [if_neg h1]; constructor
        · intro _; exact h1
        · intro _; split <;> decide
    by_cases h1 : w < -2147483648
    · rw [if_pos (c1.mpr h1)]
      exact hbad (by rw [if_pos (Or.inl h1)])
    · rw [if_neg (fun q => h1 (c1.mp q))]
      by_cases h2 : 2147483647 < w
      · rw [if_neg (fun q => c2.mp q h2)]
        exact hbad (by rw [if_pos (Or.inr h2)])
      · rw [if_pos (c2.mpr h2)]
        exact ⟨_, rfl, hok _ _ (by rw [if_neg (by rintro (q | q); exact h1 q; exact h2 q)])⟩
  have l57 : ∀ d c, to - f - c < d → c ≤ to - f → (1 ≤ to - f ∧ to - f ≤ 10) → w_Words_number_L57 0 Q d (b2 less) (Int32.ofNat to) (nvl p f c) (Int32.ofNat (f + c)) M := by
    intro d
    induction d with
    | zero => intro c h; omega
    | succ d ih =>
      intro c hd hc h10
      unfold w_Words_number_L57
      by_cases e : f + c = to
      · rw [if_pos (le_oN (by omega) (by omega))]
        have ec : c = to - f := by omega
        cases less with
        | true => rw [if_neg (by decide)]; exact fin _ (by rw [ec]; rfl) h10
        | false => rw [if_pos (by decide)]; exact fin _ (by rw [ec]; rfl) h10
      · rw [if_neg (nle_oN (by omega) (by omega))]
        refine c_peek hT (by omega) ?_
        rw [lit32 1, oN_add]
        exact ih (c + 1) (by omega) (by omega) h10
  have l20 : ∀ d j, n + 2 - j < d → f ≤ j → j ≤ to → w_Words_number_L20 0 Q d (b2 less) (Int32.ofNat f) (Int32.ofNat j) M := by
    intro d
    induction d with
    | zero => intro c h; omega
    | succ d ih =>
      intro j hd hj1 hj2
      unfold w_Words_number_L20
      refine c_peek hT (by omega) (c_isDigit ?_)
      by_cases e : j = to
      · subst e
        rw [s4, if_pos (by decide)]
        refine c_isIn ?_
        rw [oN_sub hj1]
        by_cases h10 : 1 ≤ j - f ∧ j - f ≤ 10
        · have e : (if (1 : Int32) ≤ Int32.ofNat (j - f) ∧ Int32.ofNat (j - f) ≤ 10 then (1 : Int32) else 0) = 1 := if_pos ⟨le_oN (a := 1) h10.1 (by omega), le_oN (b := 10) h10.2 (by omega)⟩
          rw [e, if_neg (by decide)]
          exact ⟨j - f + 1, l57 _ 0 (by omega) (by omega) h10⟩
        · have e : (if (1 : Int32) ≤ Int32.ofNat (j - f) ∧ Int32.ofNat (j - f) ≤ 10 then (1 : Int32) else 0) = 0 := if_neg (fun q => h10 ⟨(oN_le (a := 1) (by omega) (by omega)).mp q.1, (oN_le (b := 10) (by omega) (by omega)).mp q.2⟩)
          rw [e, if_pos rfl]
          exact hbad (by rw [if_neg h10])
      · rw [s3 j hj1 (by omega), if_neg (by decide), lit32 1, oN_add]
        exact ih (j + 1) (by omega) (by omega) (by omega)
  unfold w_Words_number_j17
  exact ⟨n + 3, l20 _ f (by omega) (Nat.le_refl _) s1⟩

theorem gb0_pos {nm : Nm} (h : okn nm) (i : Nat) : gb0 nm i ≤ 0 ↔ nm.length ≤ i := by
  constructor
  · intro e
    refine Nat.le_of_not_lt (fun hi => ?_)
    obtain ⟨c, h1, h2, h3⟩ := h.2 (nm[i]) (List.getElem_mem hi)
    have : gb0 nm i = Int32.ofNat c := by simp [gb0, List.getD_eq_getElem?_getD, List.getElem?_eq_getElem hi, h3]
    rw [this] at e
    exact nle_oN (b := 0) h1 (by omega) e
  · intro hi
    rw [(gb0_lt h i).mpr hi]; decide
theorem pref_iff {p : Nat → Int32} {k : Nat} {nm : Nm} : pref p k nm = true ↔ ∀ i, i < nm.length → p (k + i) = gb0 nm i := by
  unfold pref
  simp only [List.all_eq_true, List.mem_range, beq_iff_eq]
theorem c_spL {A : List Nm} {r n k v : Nat} {p : Nat → Int32} {Q : Mem → Prop} {k3 : Int32 → Mem → Prop} {M : Mem} {nm : Nm} (hC : CNm A M) (hT : TX r n p M) (hat : mI M 2 0 2 = Int32.ofNat k) (hk : k ≤ n + 1) (hv : A[v]? = some nm)
    (hs : pref p k nm = true → Q (sI (sI (sR M 2 0 3 (some (0, 100))) 2 0 5 (Int32.ofNat v)) 2 0 2 (Int32.ofNat (k + nm.length))))
    (hf : pref p k nm = false → k3 (Int32.ofNat (v + 1)) M) : ∀ d i, nm.length - i < d → i ≤ nm.length → (∀ j, j < i → p (k + j) = gb0 nm j) → w_Words_special_L11 0 Q k3 d (Int32.ofNat v) (Int32.ofNat i) M := by
  obtain ⟨⟨t1, t2⟩, t3, t4, t5, t6⟩ := id hT
  obtain ⟨hvA, hn, -, -⟩ := hC.get hv
  have hl := hn.1
  intro d
  induction d with
  | zero => intro i h; omega
  | succ d ih =>
    intro i hd hi hp
    unfold w_Words_special_L11
    refine c_at hC hv (by omega) ?_
    have fin : (i < nm.length → p (k + i) ≠ gb0 nm i) → w_Words_special_j57 0 Q k3 (Int32.ofNat v) (Int32.ofNat i) M := by
      intro hne
      unfold w_Words_special_j57
      refine c_at hC hv (by omega) ?_
      by_cases e : nm.length ≤ i
      · refine itp ((gb0_pos hn i).mpr e) ⟨_, rfl, ?_⟩
        have e' : i = nm.length := by omega
        have := hs (pref_iff.mpr (fun j hj => hp j (by omega)))
        rw [← e', ← oN_add, ← hat] at this
        exact this
      · refine itn (fun q => e ((gb0_pos hn i).mp q)) ?_
        rw [lit32 1, oN_add]
        refine hf ?_
        cases hpr : pref p k nm with
        | false => rfl
        | true => exact absurd (pref_iff.mp hpr i (by omega)) (hne (by omega))
    by_cases e : nm.length ≤ i
    · exact itp ((gb0_pos hn i).mpr e) (fin (fun q => by omega))
    · refine itn (fun q => e ((gb0_pos hn i).mp q)) ?_
      rw [hat, oN_add]
      refine c_peek hT (by omega) (c_at hC hv (by omega) ?_)
      by_cases c : p (k + i) = gb0 nm i
      · refine itp c ?_
        rw [lit32 1, oN_add]
        refine ih (i + 1) (by omega) (by omega) (fun j hj => ?_)
        by_cases ej : j = i
        · rw [ej]; exact c
        · exact hp j (by omega)
      · exact itn c (fin (fun _ => c))
theorem c_special {A : List Nm} {r n k : Nat} {p : Nat → Int32} {Q : Mem → Prop} {M : Mem} (hC : CNm A M) (hA : A[79]? = some nMake ∧ A[80]? = some nStart) (hT : TX r n p M) (hat : mI M 2 0 2 = Int32.ofNat k) (hk : k ≤ n + 1)
    (h1 : pref p k nMake = true → Q (sI (sI (sR M 2 0 3 (some (0, 100))) 2 0 5 79) 2 0 2 (Int32.ofNat (k + 6))))
    (h2 : pref p k nMake = false → pref p k nStart = true → Q (sI (sI (sR M 2 0 3 (some (0, 100))) 2 0 5 80) 2 0 2 (Int32.ofNat (k + 7))))
    (h3 : pref p k nMake = false → pref p k nStart = false → Q M) : w_Words_special 0 Q M := by
  unfold w_Words_special
  refine ⟨3, ?_⟩
  unfold w_Words_special_L3
  refine itn (by decide) ⟨7, ?_⟩
  refine c_spL (v := 79) hC hT hat hk hA.1 h1 (fun q1 => ?_) 7 0 (by decide) (by decide) (fun j hj => by omega)
  unfold w_Words_special_L3
  refine itn (by decide) ⟨8, ?_⟩
  refine c_spL (v := 80) hC hT hat hk hA.2 (h2 q1) (fun q2 => ?_) 8 0 (by decide) (by decide) (fun j hj => by omega)
  unfold w_Words_special_L3
  exact itp (by decide) (h3 q1 q2)
def insT (A : List Nm) (t : Tok) : List Nm := if t.1 = 2 then ins A t.2.1 else A
theorem insT_pre (A : List Nm) (t : Tok) : A <+: insT A t := by
  unfold insT; split
  · exact ins_pre _ _
  · exact List.prefix_refl _
theorem isSg_cases {b : Int32} (h : isSg b = true) : b = 44 ∨ b = 59 ∨ b = 40 ∨ b = 41 ∨ b = 58 ∨ b = 46 ∨ b = 61 := by
  unfold isSg at h
  simp only [Bool.or_eq_true, beq_iff_eq] at h
  rcases h with (((((h | h) | h) | h) | h) | h) | h <;> simp [h]
theorem c_next {A : List Nm} {r n a : Nat} {p : Nat → Int32} {Q : Mem → Prop} {M : Mem} (hC : CNm A M) (hc : A.length < 41200) (hA : A[79]? = some nMake ∧ A[80]? = some nStart) (hT : TX r n p M) (hat : mI M 2 0 2 = Int32.ofNat a) (han : a ≤ n + 1)
    (hQ : ∀ M', CNm (insT A (lex p n a).1) M' → TX r n p M' → mI M' 2 0 2 = Int32.ofNat (lex p n a).2 → TokC (insT A (lex p n a).1) (lex p n a).1 M' → Q M') : w_Words_next 0 Q M := by
  obtain ⟨⟨t1, t2⟩, t3, t4, t5, t6⟩ := id hT
  have sp10 : (fun b : Int32 => b == 32) 10 = false := by decide
  obtain ⟨s1, s2, s3, s4⟩ := scn_spec (q := fun b => b == 32) t6 sp10 a
  have main : ∀ d j M, CNm A M → TX r n p M → mI M 2 0 2 = Int32.ofNat j → n + 2 - j < d → j ≤ n + 1 → scn (fun b => b == 32) p n j = scn (fun b => b == 32) p n a → w_Words_next_L0 0 Q d M := by
    intro d
    induction d with
    | zero => intro j M _ _ _ h; omega
    | succ d ih =>
      intro j M hC hT hat hd hjn hs
      unfold w_Words_next_L0
      rw [hat]
      refine c_peek hT (by omega) ?_
      by_cases h32 : p j = 32
      · refine itp h32 ?_
        obtain ⟨x1, x2⟩ := scn_t (q := fun b => b == 32) t6 sp10 (k := j) (by simp [h32])
        rw [hat, lit32 1, oN_add]
        exact ih (j + 1) _ (hC.w) (hT.of rfl rfl rfl (fun _ => rfl)) rfl (by omega) (by omega) (by rw [← x2]; exact hs)
      · refine itn h32 ?_
        have hj : scn (fun b => b == 32) p n a = j := by rw [← hs]; exact scn_f (by simp [h32])
        unfold lex at hQ
        rw [hj] at hQ
        have e0 : mI (sI M 2 0 4 (Int32.ofNat j)) 2 0 2 = Int32.ofNat j := hat
        have hTb : TX r n p (sI M 2 0 4 (Int32.ofNat j)) := hT.of rfl rfl rfl (fun _ => rfl)
        rw [hat, e0]
        refine c_peek hTb (by omega) ?_
        have hCc : CNm A (sR (sI M 2 0 4 (Int32.ofNat j)) 2 0 3 (some (0, 100 + 4))) := hC.w.wR
        have hTc : TX r n p (sR (sI M 2 0 4 (Int32.ofNat j)) 2 0 3 (some (0, 100 + 4))) := hT.of rfl rfl rfl (fun _ => rfl)
        have hac : mI (sR (sI M 2 0 4 (Int32.ofNat j)) 2 0 3 (some (0, 100 + 4))) 2 0 2 = Int32.ofNat j := hat
        have hpc : mI (sR (sI M 2 0 4 (Int32.ofNat j)) 2 0 3 (some (0, 100 + 4))) 2 0 4 = Int32.ofNat j := rfl
        have hkc : mR (sR (sI M 2 0 4 (Int32.ofNat j)) 2 0 3 (some (0, 100 + 4))) 2 0 3 = some (0, 104) := rfl
        generalize sR (sI M 2 0 4 (Int32.ofNat j)) 2 0 3 (some (0, 100 + 4)) = Mc at hCc hTc hac hpc hkc ⊢
        have bad : lex1 p n j = ((1, [], 0, j), j) → Q Mc := fun e => by
          rw [e] at hQ
          exact hQ Mc hCc hTc hac ⟨hpc, hkc⟩
        have dend : (p j = 35 ∨ p j = 10) → w_Words_next_j62 0 Q Mc := fun e => by
          have el : lex1 p n j = ((0, [], 0, scn (fun b => b != 10) p n j), j) := if_pos e
          rw [el] at hQ
          have q10 : (fun b : Int32 => b != 10) 10 = false := by decide
          unfold w_Words_next_j62
          refine ⟨n + 3, ?_⟩
          have lp : ∀ d i M', CNm A M' → TX r n p M' → mI M' 2 0 2 = Int32.ofNat j → mI M' 2 0 4 = Int32.ofNat i → mR M' 2 0 3 = some (0, 103) → n + 2 - i < d → i ≤ n + 1 → scn (fun b => b != 10) p n i = scn (fun b => b != 10) p n j → w_Words_next_L69 0 Q d M' := by
            intro d
            induction d with
            | zero => intro i M' _ _ _ _ _ h; omega
            | succ d ih =>
              intro i M' hC' hT' ha' hp' hk' hd hi hs'
              unfold w_Words_next_L69
              rw [hp']
              refine c_peek hT' (by omega) ?_
              by_cases e10 : p i = 10
              · refine itp e10 (hQ M' hC' hT' ha' ⟨?_, hk'⟩)
                rw [hp', ← hs', scn_f (by simp [e10])]
              · obtain ⟨x1, x2⟩ := scn_t (q := fun b => b != 10) t6 q10 (k := i) (by simp [e10])
                refine itn e10 ?_
                rw [hp', lit32 1, oN_add]
                exact ih (i + 1) _ (hC'.w) (hT'.of rfl rfl rfl (fun _ => rfl)) ha' rfl hk' (by omega) (by omega) (by rw [← x2]; exact hs')
          exact lp _ j _ (hCc.wR) (hTc.of rfl rfl rfl (fun _ => rfl)) hac hpc rfl (by omega) (by omega) rfl
        by_cases c35 : p j = 35
        · exact itp c35 (dend (Or.inl c35))
        refine itn c35 ?_
        by_cases c10 : p j = 10
        · exact itp c10 (dend (Or.inr c10))
        refine itn c10 ?_
        have hjn' : j < n := Nat.lt_of_not_le (fun q => c10 (t6 j q))
        have no1 : ¬ (p j = 35 ∨ p j = 10) := by rintro (q | q); exact c35 q; exact c10 q
        refine c_isLetter ?_
        by_cases cL : isLt (p j) = true
        · rw [cL]
          refine itn (by decide) ?_
          have el : lex1 p n j = if scn isW p n j - j ≤ 12 then ((2, bytes p j (scn isW p n j), 0, j), scn isW p n j) else ((1, [], 0, j), j) := by
            unfold lex1; rw [if_neg no1, if_pos cL]
          refine c_name hCc hc hTc hac (by omega) (fun h => bad (by rw [el, if_neg h])) (fun h M' g1 g2 g3 g4 g5 g6 => ?_)
          rw [if_pos h] at el
          rw [el] at hQ
          refine hQ M' g1 g2 g3 ⟨by rw [g6, hpc], g4, ?_, ins_mem _ _⟩
          show _ = Int32.ofNat ((ins A (bytes p j (scn isW p n j))).idxOf (bytes p j (scn isW p n j)))
          rw [ins_idx]; exact g5
        have cL : isLt (p j) = false := by simpa using cL
        rw [cL]
        refine itp (by decide) (c_isDigit ?_)
        have num : (isD (p j) || p j == 45) = true → w_Words_next_j136 0 Q (b2 (p j == 45)) Mc := fun h => by
          have el : lex1 p n j = lexN p n j (p j == 45) := by unfold lex1; rw [if_neg no1, cL, if_neg (by decide), if_pos h]
          unfold w_Words_next_j136
          refine c_number (A := A) _ hTc hac (by omega) (fun e => bad (by rw [el, e])) (fun v to e => ?_)
          rw [el, e] at hQ
          exact hQ _ (hCc.wR.w.w) (hTc.of rfl rfl rfl (fun _ => rfl)) rfl ⟨hpc, rfl, rfl⟩
        by_cases cD : isD (p j) = true
        · have : (p j == 45) = false := by
            cases h : p j == 45 with
            | false => rfl
            | true => rw [beq_iff_eq.mp h] at cD; exact absurd cD (by decide)
          have n1 := num (by rw [cD]; rfl)
          rw [this] at n1
          rw [cD]
          refine itn (by decide) ?_
          unfold w_Words_next_j124
          exact itn (by simpa using this) n1
        have cD : isD (p j) = false := by simpa using cD
        rw [cD]
        refine itp (by decide) ?_
        by_cases c45 : p j = 45
        · have n1 := num (by rw [c45]; rfl)
          refine itp c45 ?_
          unfold w_Words_next_j124
          refine itp c45 ?_
          rw [show (p j == 45) = true by simp [c45]] at n1
          exact n1
        refine itn c45 ?_
        have no2 : ¬ (isD (p j) || p j == 45) = true := by rw [cD]; simp [c45]
        by_cases c60 : p j = 60
        · refine itp c60 ?_
          have el : lex1 p n j = (if pref p j nMake then ((3, nMake, 0, j), j + 6) else if pref p j nStart then ((3, nStart, 0, j), j + 7) else ((1, [], 0, j), j)) := by
            unfold lex1; rw [if_neg no1, cL, if_neg (by decide), if_neg no2, if_pos c60]
          have i79 := (hCc.get hA.1).2.2.1
          have i80 := (hCc.get hA.2).2.2.1
          refine c_special hCc hA hTc hac (by omega) (fun h => ?_) (fun h1 h2 => ?_) (fun h1 h2 => ?_)
          · rw [if_pos h] at el
            rw [el] at hQ
            exact hQ _ (hCc.wR.w.w) (hTc.of rfl rfl rfl (fun _ => rfl)) rfl ⟨hpc, rfl, by show _ = Int32.ofNat (A.idxOf nMake); rw [i79]; rfl, List.mem_of_getElem? hA.1⟩
          · rw [if_neg (by rw [h1]; decide), if_pos h2] at el
            rw [el] at hQ
            exact hQ _ (hCc.wR.w.w) (hTc.of rfl rfl rfl (fun _ => rfl)) rfl ⟨hpc, rfl, by show _ = Int32.ofNat (A.idxOf nStart); rw [i80]; rfl, List.mem_of_getElem? hA.2⟩
          · exact bad (by rw [el, if_neg (by rw [h1]; decide), if_neg (by rw [h2]; decide)])
        refine itn c60 ?_
        have sg : isSg (p j) = true → w_Words_next_j197 0 Q (p j) Mc := fun h => by
          have el : lex1 p n j = (((p j).toNatClampNeg, [], 0, j), j + 1) := by
            unfold lex1; rw [if_neg no1, cL, if_neg (by decide), if_neg no2, if_neg c60, if_pos h]
          rw [el] at hQ
          unfold w_Words_next_j197
          refine ⟨_, rfl, ?_⟩
          have hC2 : CNm A (sI (sI (sR Mc 2 0 3 (some (0, 100 + 2))) 2 0 5 (p j)) 2 0 2 ((mI (sI (sR Mc 2 0 3 (some (0, 100 + 2))) 2 0 5 (p j)) 2 0 2) + (1 : Int32))) := hCc.wR.w.w
          have hT2 : TX r n p (sI (sI (sR Mc 2 0 3 (some (0, 100 + 2))) 2 0 5 (p j)) 2 0 2 ((mI (sI (sR Mc 2 0 3 (some (0, 100 + 2))) 2 0 5 (p j)) 2 0 2) + (1 : Int32))) := hTc.of rfl rfl rfl (fun _ => rfl)
          have ha2 : mI (sI (sI (sR Mc 2 0 3 (some (0, 100 + 2))) 2 0 5 (p j)) 2 0 2 ((mI (sI (sR Mc 2 0 3 (some (0, 100 + 2))) 2 0 5 (p j)) 2 0 2) + (1 : Int32))) 2 0 2 = Int32.ofNat (j + 1) := by
            show mI Mc 2 0 2 + 1 = _
            rw [hac, lit32 1, oN_add]
          rcases isSg_cases h with e | e | e | e | e | e | e <;>
            · rw [e] at hQ hC2 hT2 ha2 ⊢
              exact hQ _ hC2 hT2 ha2 ⟨hpc, rfl, rfl⟩
        by_cases cs : isSg (p j) = true
        · have cc := isSg_cases cs
          have s := sg cs
          by_cases d1 : p j = 44
          · exact itp d1 s
          refine itn d1 ?_
          by_cases d2 : p j = 59
          · exact itp d2 s
          refine itn d2 ?_
          by_cases d3 : p j = 40
          · exact itp d3 s
          refine itn d3 ?_
          by_cases d4 : p j = 41
          · exact itp d4 s
          refine itn d4 ?_
          by_cases d5 : p j = 58
          · exact itp d5 s
          refine itn d5 ?_
          by_cases d6 : p j = 46
          · exact itp d6 s
          refine itn d6 ?_
          by_cases d7 : p j = 61
          · exact itp d7 s
          · exact absurd cc (by simp [d1, d2, d3, d4, d5, d6, d7])
        · have cs' : isSg (p j) = false := by simpa using cs
          have el := bad (by unfold lex1; rw [if_neg no1, cL, if_neg (by decide), if_neg no2, if_neg c60, if_neg cs])
          unfold isSg at cs'
          simp only [Bool.or_eq_false_iff, beq_eq_false_iff_ne] at cs'
          obtain ⟨⟨⟨⟨⟨⟨d1, d2⟩, d3⟩, d4⟩, d5⟩, d6⟩, d7⟩ := cs'
          exact itn d1 (itn d2 (itn d3 (itn d4 (itn d5 (itn d6 (itn d7 el))))))
  unfold w_Words_next
  exact ⟨n + 3 , main _ a M hC hT hat (by omega) han rfl⟩

theorem c_line {A : List Nm} {r n a : Nat} {p : Nat → Int32} {Q : Int32 → Mem → Prop} {M : Mem} (hC : CNm A M) (hT : TX r n p M) (hat : mI M 2 0 2 = Int32.ofNat a) (han : a ≤ n + 1)
    (hQ : ∀ M', CNm A M' → TX r n p M' → mI M' 2 0 2 = Int32.ofNat (scn (fun b => b != 10) p n a + 1) → Q (b2 (decide (scn (fun b => b != 10) p n a + 1 < n))) M') : w_Words_line 0 Q M := by
  obtain ⟨-, -, t4, -, t6⟩ := id hT
  have q10 : (fun b : Int32 => b != 10) 10 = false := by decide
  obtain ⟨s1, s2, s3, s4⟩ := scn_spec (q := fun b => b != 10) t6 q10 a
  have main : ∀ d j M, CNm A M → TX r n p M → mI M 2 0 2 = Int32.ofNat j → n + 2 - j < d → j ≤ n + 1 → scn (fun b => b != 10) p n j = scn (fun b => b != 10) p n a → w_Words_line_L0 0 Q d M := by
    intro d
    induction d with
    | zero => intro j M _ _ _ h; omega
    | succ d ih =>
      intro j M hC hT hat hd hjn hs
      unfold w_Words_line_L0
      rw [hat]
      refine c_peek hT (by omega) ?_
      have hC2 : CNm A (sI M 2 0 2 (mI M 2 0 2 + 1)) := hC.w
      have hT2 : TX r n p (sI M 2 0 2 (mI M 2 0 2 + 1)) := hT.of rfl rfl rfl (fun _ => rfl)
      have ha2 : mI (sI M 2 0 2 (mI M 2 0 2 + 1)) 2 0 2 = Int32.ofNat (j + 1) := by show mI M 2 0 2 + 1 = _; rw [hat, lit32 1, oN_add]
      by_cases e10 : p j = 10
      · refine itp e10 ?_
        have hj : scn (fun b => b != 10) p n a = j := by rw [← hs]; exact scn_f (by simp [e10])
        rw [hj] at hQ
        have := hQ _ hC2 hT2 ha2
        rw [ha2, hT2.1.2]
        by_cases hlt : j + 1 < n
        · refine itn (nle_oN (by omega) (by omega)) ?_
          simpa [b2, hlt] using this
        · refine itp (le_oN (by omega) (by omega)) ?_
          simpa [b2, hlt] using this
      · refine itn e10 ?_
        obtain ⟨x1, x2⟩ := scn_t (q := fun b => b != 10) t6 q10 (k := j) (by simp [e10])
        exact ih (j + 1) _ hC2 hT2 ha2 (by omega) (by omega) (by rw [← x2]; exact hs)
  unfold w_Words_line
  exact ⟨n + 3, main _ a M hC hT hat (by omega) han rfl⟩
theorem c_isWord {A : List Nm} {t : Tok} {v : Nat} {nm : Nm} {Q : Int32 → Mem → Prop} {M : Mem} (hC : CNm A M) (ht : TokC A t M) (hv : A[v]? = some nm)
    (hQ : Q (b2 (decide ((t.1 = 2 ∨ t.1 = 3) ∧ t.2.1 = nm))) M) : w_Words_isWord 0 (Int32.ofNat v) Q M := by
  obtain ⟨hvA, hn, hi, -⟩ := hC.get hv
  have hlen : A.length ≤ 41200 := by have := hC.1.2.1; simpa using this
  obtain ⟨-, hk⟩ := ht
  unfold w_Words_isWord isK
  by_cases c0 : t.1 = 0
  · rw [if_pos c0] at hk
    rw [hk]
    exact ⟨⟨3, by decide, rfl⟩, itn (by decide) (by simpa [b2, c0] using hQ)⟩
  rw [if_neg c0] at hk
  by_cases c1 : t.1 = 1
  · rw [if_pos c1] at hk
    rw [hk]
    exact ⟨⟨4, by decide, rfl⟩, itn (by decide) (by simpa [b2, c1] using hQ)⟩
  rw [if_neg c1] at hk
  by_cases c2 : t.1 = 2 ∨ t.1 = 3
  · rw [if_pos c2] at hk
    obtain ⟨k1, k2, k3⟩ := hk
    rw [k1, k2]
    have hlt := List.idxOf_lt_length_iff.mpr k3
    refine ⟨⟨0, by decide, rfl⟩, itp rfl ?_⟩
    by_cases e : t.2.1 = nm
    · refine itp (by rw [e, hi]) ?_
      simpa [b2, c2, e] using hQ
    · refine itn (ne_oN ?_ (by omega) (by omega)) ?_
      · intro q
        have : A[A.idxOf t.2.1]? = some t.2.1 := by rw [List.getElem?_eq_getElem hlt, List.getElem_idxOf hlt]
        rw [q, hv] at this
        exact e (Option.some.inj this).symm
      · simpa [b2, c2, e] using hQ
  rw [if_neg c2] at hk
  have hQ0 : Q 0 M := by simpa [b2, c2] using hQ
  by_cases c4 : t.1 = 4
  · rw [if_pos c4] at hk
    rw [hk.1]
    exact ⟨⟨1, by decide, rfl⟩, itn (by decide) hQ0⟩
  · rw [if_neg c4] at hk
    rw [hk.1]
    exact ⟨⟨2, by decide, rfl⟩, itn (by decide) hQ0⟩
theorem c_isSign {A : List Nm} {t : Tok} {b : Nat} {Q : Int32 → Mem → Prop} {M : Mem} (ht : TokC A t M) (hb : 5 ≤ b) (hb2 : b < 1000) (ht2 : t.1 < 1000)
    (hQ : Q (b2 (decide (t.1 = b))) M) : w_Words_isSign 0 (Int32.ofNat b) Q M := by
  obtain ⟨-, hk⟩ := ht
  unfold w_Words_isSign isK
  by_cases c0 : t.1 = 0
  · rw [if_pos c0] at hk
    rw [hk]
    exact ⟨⟨3, by decide, rfl⟩, itn (by decide) (by simpa [b2, c0, show ¬ 0 = b by omega] using hQ)⟩
  rw [if_neg c0] at hk
  by_cases c1 : t.1 = 1
  · rw [if_pos c1] at hk
    rw [hk]
    exact ⟨⟨4, by decide, rfl⟩, itn (by decide) (by simpa [b2, c1, show ¬ 1 = b by omega] using hQ)⟩
  rw [if_neg c1] at hk
  by_cases c2 : t.1 = 2 ∨ t.1 = 3
  · rw [if_pos c2] at hk
    rw [hk.1]
    have : ¬ t.1 = b := by omega
    exact ⟨⟨0, by decide, rfl⟩, itn (by decide) (by simpa [b2, this] using hQ)⟩
  rw [if_neg c2] at hk
  by_cases c4 : t.1 = 4
  · rw [if_pos c4] at hk
    rw [hk.1]
    have : ¬ t.1 = b := by omega
    exact ⟨⟨1, by decide, rfl⟩, itn (by decide) (by simpa [b2, this] using hQ)⟩
  · rw [if_neg c4] at hk
    rw [hk.1, hk.2]
    refine ⟨⟨2, by decide, rfl⟩, itp rfl ?_⟩
    by_cases e : t.1 = b
    · exact itp (by rw [e]) (by simpa [b2, e] using hQ)
    · exact itn (ne_oN e (by omega) (by omega)) (by simpa [b2, e] using hQ)

/-! B: the twin's rows that grow. A slot: an object's family, instance, field; the family of its rows -/
abbrev Sl : Type := Nat × Nat × Nat × Nat
def rdI (M : Mem) (s : Sl) : Nat := ((mR M s.1 s.2.1 s.2.2.1).getD (0, 0)).2
def rd (M : Mem) (s : Sl) (k : Nat) : Int32 := mI M s.2.2.2 (rdI M s) k
def rl (M : Mem) (s : Sl) : Nat := mL M s.2.2.2 (rdI M s)
/-- slots are apart -/
def Gok (G : List Sl) : Prop := G.Nodup ∧ ∀ s ∈ G, ∀ s' ∈ G, s.1 = s'.1 → s.2.1 = s'.2.1 → s.2.2.1 = s'.2.2.1 → s = s'
/-- each slot has a row of its own -/
def TG (G : List Sl) (M : Mem) : Prop := ∀ s ∈ G, (mR M s.1 s.2.1 s.2.2.1 = some (s.2.2.2, rdI M s) ∧ (s.2.2.2, rdI M s) ∈ mN M) ∧ ∀ s' ∈ G, s' ≠ s → s'.2.2.2 = s.2.2.2 → rdI M s' ≠ rdI M s
/-- the rows of slots but those of X are as they were -/
def rs (G : List Sl) (M : Mem) : Nat := (G.map (rl M)).sum
def GF (G X : List Sl) (M M' : Mem) : Prop := TG G M' ∧ (∀ s ∈ G, s ∉ X → (∀ k, rd M' s k = rd M s k) ∧ rl M' s = rl M s ∧ rdI M' s = rdI M s) ∧ mS M' + 2 * rs G M ≤ mS M + 2 * rs G M'
theorem GF.rf {G X : List Sl} {M : Mem} (h : TG G M) : GF G X M M := ⟨h, fun _ _ _ => ⟨fun _ => rfl, rfl, rfl⟩, Nat.le_refl _⟩
theorem GF.trans {G X : List Sl} {M M1 M2 : Mem} (h : GF G X M M1) (h1 : GF G X M1 M2) : GF G X M M2 :=
  ⟨h1.1, fun s hs hx => ⟨fun k => ((h1.2.1 s hs hx).1 k).trans ((h.2.1 s hs hx).1 k), (h1.2.1 s hs hx).2.1.trans (h.2.1 s hs hx).2.1, (h1.2.1 s hs hx).2.2.trans (h.2.1 s hs hx).2.2⟩, by have := h.2.2; have := h1.2.2; omega⟩
theorem GF.sub {G X Y : List Sl} {M M1 : Mem} (h : GF G X M M1) (hs : ∀ s ∈ X, s ∈ Y) : GF G Y M M1 := ⟨h.1, fun s a b => h.2.1 s a (fun q => b (hs s q)), h.2.2⟩
theorem rs_same {G : List Sl} {M M' : Mem} (h : ∀ s ∈ G, rl M' s = rl M s) : rs G M' = rs G M := by
  unfold rs
  rw [List.map_congr_left h]
theorem rs_one {M M' : Mem} {s : Sl} : ∀ {G : List Sl}, G.Nodup → s ∈ G → (∀ s' ∈ G, s' ≠ s → rl M' s' = rl M s') → rs G M' + rl M s = rs G M + rl M' s
  | [], _, h, _ => by cases h
  | a :: G, hn, h, he => by
    obtain ⟨hn1, hn2⟩ := List.nodup_cons.mp hn
    have e1 : rs (a :: G) M' = rl M' a + rs G M' := by simp [rs]
    have e2 : rs (a :: G) M = rl M a + rs G M := by simp [rs]
    rw [e1, e2]
    by_cases e : a = s
    · subst e
      have : rs G M' = rs G M := rs_same (fun s' hs' => he s' (List.mem_cons_of_mem _ hs') (fun q => hn1 (q ▸ hs')))
      omega
    · have hs' : s ∈ G := by
        rcases List.mem_cons.mp h with q | q
        · exact absurd q.symm e
        · exact q
      have := rs_one hn2 hs' (fun s' h1 h2 => he s' (List.mem_cons_of_mem _ h1) h2)
      have := he a List.mem_cons_self e
      omega
/-- nothing of slots and rows is touched -/
theorem GF.of {G X : List Sl} {M M1 M2 : Mem} (h : GF G X M M1) (e1 : ∀ s ∈ G, mR M2 s.1 s.2.1 s.2.2.1 = mR M1 s.1 s.2.1 s.2.2.1) (e2 : ∀ s ∈ G, ∀ i k, mI M2 s.2.2.2 i k = mI M1 s.2.2.2 i k) (e3 : ∀ s ∈ G, ∀ i, mL M2 s.2.2.2 i = mL M1 s.2.2.2 i) (e4 : mN M2 = mN M1) (e5 : mS M2 = mS M1) : GF G X M M2 := by
  have eI : ∀ s ∈ G, rdI M2 s = rdI M1 s := fun s hs => by unfold rdI; rw [e1 s hs]
  refine ⟨fun s hs => ?_, fun s hs hx => ⟨fun k => ?_, ?_, (eI s hs).trans (h.2.1 s hs hx).2.2⟩, ?_⟩
  · obtain ⟨⟨a, b⟩, c⟩ := h.1 s hs
    rw [eI s hs, e1 s hs, e4]
    exact ⟨⟨a, b⟩, fun s' hs' n e => by rw [eI s' hs']; exact c s' hs' n e⟩
  · rw [← (h.2.1 s hs hx).1 k]; unfold rd; rw [eI s hs, e2 s hs]
  · rw [← (h.2.1 s hs hx).2.1]; unfold rl; rw [eI s hs, e3 s hs]
  · rw [e5, rs_same (M' := M2) (M := M1) (fun s hs => by unfold rl; rw [eI s hs, e3 s hs])]; exact h.2.2
/-- a place of a slot's row is written -/
theorem GF.wr {G X : List Sl} {M M1 : Mem} {s : Sl} {k i : Nat} {v : Int32} (h : GF G X M M1) (hs : s ∈ G) (hx : s ∈ X) (ei : i = rdI M1 s) : GF G X M (sI M1 s.2.2.2 i k v) := by
  subst ei
  have eI : ∀ s', rdI (sI M1 s.2.2.2 (rdI M1 s) k v) s' = rdI M1 s' := fun s' => rfl
  refine ⟨fun s' hs' => ?_, fun s' hs' hx' => ⟨fun k' => ?_, ?_, (h.2.1 s' hs' hx').2.2⟩, h.2.2⟩
  · exact h.1 s' hs'
  · rw [← (h.2.1 s' hs' hx').1 k']
    have hne : s' ≠ s := fun e => hx' (e ▸ hx)
    exact if_neg (fun q => (h.1 s hs).2 s' hs' hne q.1 q.2.1)
  · rw [← (h.2.1 s' hs' hx').2.1]; rfl
theorem rd_wr {M : Mem} {s : Sl} {k k' : Nat} {v : Int32} : rd (sI M s.2.2.2 (rdI M s) k v) s k' = if k' = k then v else rd M s k' := by
  show (if s.2.2.2 = s.2.2.2 ∧ rdI M s = rdI M s ∧ k' = k then v else rd M s k') = _
  simp
theorem exists_fresh (f : Nat) (L : List (Nat × Nat)) : ∃ i, (f, i) ∉ L := by
  have : ∃ b, ∀ q ∈ L, q.2 < b := by
    induction L with
    | nil => exact ⟨0, fun q h => by cases h⟩
    | cons a L ih =>
      obtain ⟨b, hb⟩ := ih
      refine ⟨max b (a.2 + 1), fun q h => ?_⟩
      rcases List.mem_cons.mp h with e | h
      · rw [e]; omega
      · have := hb q h; omega
  obtain ⟨b, hb⟩ := this
  exact ⟨b, fun h => Nat.lt_irrefl _ (hb _ h)⟩
/-- a slot's row grown to hold n: it has got another one, or not -/
def Gr1 (G X : List Sl) (s : Sl) (n : Nat) (M M' : Mem) : Prop :=
  GF G X M M' ∧ n ≤ rl M' s ∧ (∀ k, k < rl M s → rd M' s k = rd M s k) ∧ (n ≤ rl M s → rl M' s = rl M s ∧ mS M' = mS M) ∧ (rl M s < n → rl M' s = max n (2 * rl M s) ∧ mS M' = mS M + max n (2 * rl M s))
theorem grow {G X : List Sl} {s : Sl} {n i : Nat} {M M1 : Mem} (hG : Gok G) (hTG : TG G M) (hs : s ∈ G) (hx : s ∈ X) (hi : (s.2.2.2, i) ∉ mN M) (hlt : rl M s < n)
    (e : M1 = cpI (mk M s.2.2.2 i (max n (2 * rl M s))) s.2.2.2 (rdI M s) 0 s.2.2.2 i 0 (rl M s)) (h20 : 20 ≤ s.2.2.2) (hob : ∀ s ∈ G, s.1 < 20) :
    Gr1 G X s n M (sR M1 s.1 s.2.1 s.2.2.1 (some (s.2.2.2, i))) := by
  have hne : i ≠ rdI M s := fun q => hi (q ▸ (hTG s hs).1.2)
  have eIs : rdI (sR M1 s.1 s.2.1 s.2.2.1 (some (s.2.2.2, i))) s = i := by unfold rdI; rw [mR_sR, if_pos ⟨rfl, rfl, rfl⟩]; rfl
  have eR : ∀ s' ∈ G, s' ≠ s → mR (sR M1 s.1 s.2.1 s.2.2.1 (some (s.2.2.2, i))) s'.1 s'.2.1 s'.2.2.1 = mR M s'.1 s'.2.1 s'.2.2.1 := fun s' hs' n => by
    rw [mR_sR, if_neg (fun q => n (hG.2 s' hs' s hs q.1 q.2.1 q.2.2)), e, mR_cpI, mR_mk, if_neg (fun q => by have := hob s' hs'; omega)]
  have eI : ∀ s' ∈ G, s' ≠ s → rdI (sR M1 s.1 s.2.1 s.2.2.1 (some (s.2.2.2, i))) s' = rdI M s' := fun s' hs' n => by unfold rdI; rw [eR s' hs' n]
  have hN : mN (sR M1 s.1 s.2.1 s.2.2.1 (some (s.2.2.2, i))) = mN M ++ [(s.2.2.2, i)] := by rw [e]; rfl
  have hcell : ∀ f j k, (f, j) ∈ mN M → mI (sR M1 s.1 s.2.1 s.2.2.1 (some (s.2.2.2, i))) f j k = mI M f j k := fun f j k h => by
    have : ¬ (f = s.2.2.2 ∧ j = i) := fun q => hi (by rw [← q.1, ← q.2]; exact h)
    rw [mI_sR, e, mI_cpI, if_neg this, mI_mk, if_neg this]
  have hlen : ∀ f j, (f, j) ∈ mN M → mL (sR M1 s.1 s.2.1 s.2.2.1 (some (s.2.2.2, i))) f j = mL M f j := fun f j h => by
    have : ¬ (f = s.2.2.2 ∧ j = i) := fun q => hi (by rw [← q.1, ← q.2]; exact h)
    rw [mL_sR, e, mL_cpI, mLk, if_neg this]
  have hl : rl (sR M1 s.1 s.2.1 s.2.2.1 (some (s.2.2.2, i))) s = max n (2 * rl M s) := by
    unfold rl; rw [eIs, mL_sR, e, mL_cpI, mLk, if_pos ⟨rfl, rfl⟩]; rfl
  have hS : mS (sR M1 s.1 s.2.1 s.2.2.1 (some (s.2.2.2, i))) = mS M + max n (2 * rl M s) := by rw [e]; rfl
  have hrs := rs_one (M := M) (M' := sR M1 s.1 s.2.1 s.2.2.1 (some (s.2.2.2, i))) hG.1 hs (fun s' hs' n => by unfold rl; rw [eI s' hs' n]; exact hlen _ _ (hTG s' hs').1.2)
  refine ⟨⟨fun s' hs' => ?_, fun s' hs' hx' => ?_, by omega⟩, by omega, fun k hk => ?_, fun q => by omega, fun _ => ⟨hl, hS⟩⟩
  · by_cases e1 : s' = s
    · subst e1
      rw [eIs]
      refine ⟨⟨by rw [mR_sR, if_pos ⟨rfl, rfl, rfl⟩], by rw [hN]; simp⟩, fun s'' hs'' n1 e2 => ?_⟩
      rw [eI s'' hs'' n1]
      exact fun q => hi (by rw [← q, ← e2]; exact (hTG s'' hs'').1.2)
    · obtain ⟨⟨a, b⟩, c⟩ := hTG s' hs'
      rw [eI s' hs' e1, eR s' hs' e1]
      refine ⟨⟨a, by rw [hN]; exact List.mem_append_left _ b⟩, fun s'' hs'' n1 e2 => ?_⟩
      by_cases e3 : s'' = s
      · subst e3
        rw [eIs]
        exact fun q => hi (by rw [q, e2]; exact b)
      · rw [eI s'' hs'' e3]; exact c s'' hs'' n1 e2
  · have hne' : s' ≠ s := fun q => hx' (q ▸ hx)
    obtain ⟨⟨a, b⟩, c⟩ := hTG s' hs'
    refine ⟨fun k => ?_, ?_, eI s' hs' hne'⟩
    · unfold rd; rw [eI s' hs' hne']; exact hcell _ _ _ b
    · unfold rl; rw [eI s' hs' hne']; exact hlen _ _ b
  · unfold rd
    rw [eIs, mI_sR, e, mI_cpI, if_pos ⟨rfl, rfl⟩, if_pos (by omega), mI_mk, if_neg (fun q => hne q.2.symm)]
    simp
theorem Gr1.id {G X : List Sl} {s : Sl} {n : Nat} {M : Mem} (hTG : TG G M) (hs : s ∈ G) (h : n ≤ rl M s) : Gr1 G X s n M (sR M s.1 s.2.1 s.2.2.1 (some (s.2.2.2, rdI M s))) := by
  have e : sR M s.1 s.2.1 s.2.2.1 (some (s.2.2.2, rdI M s)) = M := by
    obtain ⟨⟨a, b⟩, c⟩ := hTG s hs
    rw [← a]
    unfold sR
    have : (fun f' i' k' => if f' = s.1 ∧ i' = s.2.1 ∧ k' = s.2.2.1 then mR M s.1 s.2.1 s.2.2.1 else M.2.2.1 f' i' k') = M.2.2.1 := by
      funext f' i' k'
      split
      · rename_i q; rw [q.1, q.2.1, q.2.2]; rfl
      · rfl
    rw [this]
  rw [e]
  exact ⟨GF.rf hTG, h, fun _ _ => rfl, fun _ => ⟨rfl, rfl⟩, fun q => by omega⟩
theorem c_max {a b : Int32} {Q : Int32 → Mem → Prop} {M : Mem} (h1 : a < b → Q b M) (h2 : ¬ a < b → Q a M) : w_JMath_max a b Q M := by
  unfold w_JMath_max
  by_cases h : a < b
  · exact itp h (h1 h)
  · exact itn h (h2 h)
theorem c_maxN {a b : Nat} {Q : Int32 → Mem → Prop} {M : Mem} (hb : a < 2147483648) (hb2 : b < 2147483648) (h : Q (Int32.ofNat (max a b)) M) : w_JMath_max (Int32.ofNat a) (Int32.ofNat b) Q M := by
  refine c_max (fun q => ?_) (fun q => ?_)
  · have := (oN_lt hb hb2).mp q
    rw [Nat.max_eq_right (by omega)] at h; exact h
  · have : ¬ a < b := fun x => q ((oN_lt hb hb2).mpr x)
    rw [Nat.max_eq_left (by omega)] at h; exact h
theorem c_room {G X : List Sl} {s : Sl} {n : Nat} {M : Mem} {Q : Nat → Mem → Prop} (hG : Gok G) (hob : ∀ s ∈ G, s.1 < 20) (hTG : TG G M) (hs : s ∈ G) (hx : s ∈ X) (haf : s.2.2.2 = 300) (hn : n ≤ 20000000) (hl : rl M s ≤ 20000000)
    (hQ : ∀ i M', Gr1 G X s n M (sR M' s.1 s.2.1 s.2.2.1 (some (300, i))) → Q i M') : w_Model_room (rdI M s) (Int32.ofNat n) Q M := by
  have el : mL M 300 (rdI M s) = rl M s := by unfold rl; rw [haf]
  unfold w_Model_room
  rw [el]
  by_cases h : rl M s < n
  · refine itp (lt_oN h (by omega)) ?_
    rw [lit32 2, oN_mul]
    refine c_maxN (by omega) (by omega) ⟨oN_nonneg (by omega), by rw [oN_tnc (by omega)]; omega, ?_⟩
    obtain ⟨i, hi⟩ := exists_fresh 300 (mN M)
    have hne : rdI M s ≠ i := fun q => hi (by rw [← q, ← haf]; exact (hTG s hs).1.2)
    refine ⟨i, hi, _, rfl, by decide, by decide, ?_⟩
    rw [oN_tnc (k := max n (2 * rl M s)) (by omega)]
    have e1 : mL (mk M 300 i (max n (2 * rl M s))) 300 (rdI M s) = rl M s := by rw [mLk, if_neg (fun q => hne q.2)]; exact el
    have e2 : mL (mk M 300 i (max n (2 * rl M s))) 300 i = max n (2 * rl M s) := by rw [mLk, if_pos ⟨rfl, rfl⟩]
    rw [e1, e2, oN_tnc (k := rl M s) (by omega), show (0 : Int32).toNatClampNeg = 0 by decide]
    refine ⟨oN_nonneg (by omega), by omega, by omega, _, rfl, ?_⟩
    refine hQ _ _ ?_
    have := grow (X := X) (i := i) (n := n) (M := M) hG hTG hs hx (by rw [haf]; exact hi) h rfl (by omega) hob
    rw [haf] at this
    exact this
  · refine itn (nlt_oN (by omega) (by omega)) (hQ _ _ ?_)
    rw [← haf]
    exact Gr1.id hTG hs (by omega)
theorem c_roomy {G X : List Sl} {s : Sl} {n : Nat} {M : Mem} {Q : Nat → Mem → Prop} (hG : Gok G) (hob : ∀ s ∈ G, s.1 < 20) (hTG : TG G M) (hs : s ∈ G) (hx : s ∈ X) (haf : s.2.2.2 = 401) (hn : n ≤ 20000000) (hl : rl M s ≤ 20000000)
    (hQ : ∀ i M', Gr1 G X s n M (sR M' s.1 s.2.1 s.2.2.1 (some (401, i))) → Q i M') : w_Model_roomy (rdI M s) (Int32.ofNat n) Q M := by
  have el : mL M 401 (rdI M s) = rl M s := by unfold rl; rw [haf]
  unfold w_Model_roomy
  rw [el]
  by_cases h : rl M s < n
  · refine itp (lt_oN h (by omega)) ?_
    rw [lit32 2, oN_mul]
    refine c_maxN (by omega) (by omega) ⟨oN_nonneg (by omega), by rw [oN_tnc (by omega)]; omega, ?_⟩
    obtain ⟨i, hi⟩ := exists_fresh 401 (mN M)
    have hne : rdI M s ≠ i := fun q => hi (by rw [← q, ← haf]; exact (hTG s hs).1.2)
    refine ⟨i, hi, _, rfl, by decide, by decide, ?_⟩
    rw [oN_tnc (k := max n (2 * rl M s)) (by omega)]
    have e1 : mL (mk M 401 i (max n (2 * rl M s))) 401 (rdI M s) = rl M s := by rw [mLk, if_neg (fun q => hne q.2)]; exact el
    have e2 : mL (mk M 401 i (max n (2 * rl M s))) 401 i = max n (2 * rl M s) := by rw [mLk, if_pos ⟨rfl, rfl⟩]
    rw [e1, e2, oN_tnc (k := rl M s) (by omega), show (0 : Int32).toNatClampNeg = 0 by decide]
    refine ⟨oN_nonneg (by omega), by omega, by omega, _, rfl, ?_⟩
    refine hQ _ _ ?_
    have := grow (X := X) (i := i) (n := n) (M := M) hG hTG hs hx (by rw [haf]; exact hi) h rfl (by omega) hob
    rw [haf] at this
    exact this
  · refine itn (nlt_oN (by omega) (by omega)) (hQ _ _ ?_)
    rw [← haf]
    exact Gr1.id hTG hs (by omega)

