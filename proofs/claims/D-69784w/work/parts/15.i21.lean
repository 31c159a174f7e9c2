/-! numbers written: long numbers that are not below 0 -/
abbrev jN (n : Nat) : Int64 := Int64.ofNat n
theorem jN_toInt {k : Nat} (h : k < 1000000000000000000) : (jN k).toInt = (k : Int) := by
  rw [Int64.toInt_ofNat_of_lt (by omega)]
theorem jN_mul (a b : Nat) : jN a * jN b = jN (a * b) := (Int64.ofNat_mul a b).symm
theorem jN_add (a b : Nat) : jN a + jN b = jN (a + b) := (Int64.ofNat_add a b).symm
theorem jN_sub {a b : Nat} (h : b ≤ a) : jN a - jN b = jN (a - b) := by
  have : jN (a - b) + jN b = jN a := by rw [jN_add]; congr 1; omega
  rw [← this, Int64.add_sub_cancel]
theorem jN_div {a b : Nat} (ha : a < 1000000000000000000) (hb : b < 1000000000000000000) : jN a / jN b = jN (a / b) := by
  have hd : a / b ≤ a := Nat.div_le_self a b
  apply Int64.toInt_inj.mp
  rw [Int64.toInt_div, jN_toInt ha, jN_toInt hb, jN_toInt (by omega), ← Int.ofNat_tdiv]
  have key : ∀ d : Nat, d ≤ a → ((d : Int)).bmod (2 ^ 64) = (d : Int) := fun d hd => Int.bmod_eq_of_le (by omega) (by omega)
  exact key _ hd
theorem jN_mod {a b : Nat} (ha : a < 1000000000000000000) (hb : b < 1000000000000000000) : jN a - jN a / jN b * jN b = jN (a % b) := by
  have h1 : a / b * b ≤ a := Nat.div_mul_le_self a b
  rw [jN_div ha hb, jN_mul, jN_sub h1]
  congr 1
  have := Nat.div_add_mod a b
  rw [Nat.mul_comm] at this
  omega
theorem jN_inj {a b : Nat} (ha : a < 1000000000000000000) (hb : b < 1000000000000000000) : jN a = jN b ↔ a = b := by
  constructor
  · intro h
    have := congrArg Int64.toInt h
    rw [jN_toInt ha, jN_toInt hb] at this; omega
  · exact fun h => h ▸ rfl
theorem jN_cmp {a b : Nat} (ha : a < 1000000000000000000) (hb : b < 1000000000000000000) : lg_cmp (jN a) (jN b) ≤ 0 ↔ a ≤ b := by
  unfold lg_cmp
  by_cases h1 : jN a > jN b
  · rw [if_pos h1]
    rw [gt_iff_lt, Int64.lt_iff_toInt_lt, jN_toInt ha, jN_toInt hb] at h1
    constructor
    · intro h; exact absurd h (by decide)
    · intro h; omega
  · rw [if_neg h1]
    rw [gt_iff_lt, Int64.lt_iff_toInt_lt, jN_toInt ha, jN_toInt hb] at h1
    constructor
    · intro _; omega
    · intro _; split <;> decide
theorem jN_32 {a : Nat} (ha : a < 1000) : (jN a).toInt32 = Int32.ofNat a := by
  apply Int32.toInt_inj.mp
  rw [Int64.toInt_toInt32, jN_toInt (by omega), oN_toInt (by omega)]
  exact Int.bmod_eq_of_le (by omega) (by omega)
theorem jN_of (v : Int32) (h : 0 ≤ v) : v.toInt64 = jN v.toInt.natAbs := by
  rw [Int32.le_iff_toInt_le] at h
  have h : (0 : Int) ≤ v.toInt := h
  have := Int32.toInt_lt v
  apply Int64.toInt_inj.mp
  rw [Int32.toInt_toInt64, jN_toInt (by omega)]
  omega
theorem jN_neg (v : Int32) (h : ¬ 0 ≤ v) : -v.toInt64 = jN v.toInt.natAbs := by
  rw [Int32.le_iff_toInt_le] at h
  have h : ¬ (0 : Int) ≤ v.toInt := h
  have := Int32.le_toInt v
  apply Int64.toInt_inj.mp
  rw [Int64.toInt_neg, Int32.toInt_toInt64, jN_toInt (by omega), Int.bmod_eq_of_le (by omega) (by omega)]
  omega
theorem abs_le (v : Int32) : v.toInt.natAbs ≤ 2147483648 := by
  have := Int32.le_toInt v
  have := Int32.toInt_lt v
  omega
/-- the unit of the first digit, and the digits -/
def unF : Nat → Nat → Nat → Nat
  | 0, _, u => u
  | f + 1, n, u => if 9 < n / u then unF f n (u * 10) else u
def dgF : Nat → Nat → Nat → List Int32
  | 0, _, _ => []
  | f + 1, n, u => if u = 0 then [] else Int32.ofNat (48 + n / u % 10) :: dgF f n (u / 10)
def dgs (n : Nat) : List Int32 := dgF 12 n (unF 12 n 1)
def dgi (v : Int32) : List Int32 := (if 0 ≤ v then [] else [45]) ++ dgs v.toInt.natAbs
theorem unF_le : ∀ f n u, 1 ≤ u → u * 10 ^ f ≤ 1000000000000 → 1 ≤ unF f n u ∧ unF f n u ≤ u * 10 ^ f
  | 0, n, u, h, _ => ⟨h, by unfold unF; omega⟩
  | f + 1, n, u, h, h2 => by
    have e : u * 10 ^ (f + 1) = u * 10 * 10 ^ f := by rw [Nat.pow_succ, Nat.mul_comm (10 ^ f) 10, Nat.mul_assoc]
    rw [e] at h2 ⊢
    unfold unF
    have hp : 1 ≤ 10 ^ f := Nat.le_trans Nat.one_le_two_pow (Nat.pow_le_pow_left (show 2 ≤ 10 by omega) f)
    have h3 : u * 1 ≤ u * 10 * 10 ^ f := Nat.le_trans (by omega) (Nat.le_mul_of_pos_right (u * 10) hp)
    split
    · have := unF_le f n (u * 10) (by omega) h2
      exact this
    · exact ⟨h, by omega⟩
theorem dgF_len : ∀ f n u, (dgF f n u).length ≤ f
  | 0, _, _ => Nat.le_refl _
  | f + 1, n, u => by
    unfold dgF
    split
    · exact Nat.zero_le _
    · exact Nat.succ_le_succ (dgF_len f n (u / 10))
theorem dgi_len {v : Int32} : (dgi v).length ≤ 13 := by
  unfold dgi dgs
  rw [List.length_append]
  have := dgF_len 12 v.toInt.natAbs (unF 12 v.toInt.natAbs 1)
  split <;> simp <;> omega
