abbrev Tb : Type := List FLe × List (Nat × Int32) × List (Nat × Int64)
def TBok (γ : Gm) (own : String) (tb : Tb) : Prop := FLok γ own tb.1 ∧ (∀ x ∈ tb.2.1, Cond.constant own x.1 x.2 ∈ tables_1) ∧ ∀ x ∈ tb.2.2, Cond.constantLong own x.1 x.2 ∈ tables_1
/-- the literals, so that they reckon -/
def i32 : Int → Int32
  | .ofNat k => Int32.ofNat k
  | .negSucc k => -(Int32.ofNat (k + 1))
theorem i32_eq : ∀ n, i32 n = Int32.ofInt n
  | .ofNat k => (Int32.ofInt_eq_ofNat (n := k)).symm
  | .negSucc k => by
    rw [i32, ← Int32.ofInt_eq_ofNat, ← Int32.ofInt_neg]
    rfl
def iok (m : Nat) : Int → Bool
  | .ofNat k => Nat.ble k m
  | .negSucc k => Nat.ble k m
theorem iok_le {m : Nat} : ∀ {n : Int}, iok m n = true → -(m + 1 : Int) ≤ n ∧ n ≤ m
  | .ofNat k, h => by
    have := Nat.le_of_ble_eq_true h
    constructor
    · have : (0 : Int) ≤ Int.ofNat k := Int.natCast_nonneg k
      omega
    · exact Int.ofNat_le.mpr this
  | .negSucc k, h => by
    have := Nat.le_of_ble_eq_true h
    have e := Int.negSucc_eq k
    constructor <;> omega
theorem i32_b {n : Int} (h : iok 127 n = true) : i32 n = (Int8.ofInt n).toInt32 := by
  have q := iok_le h
  rw [i32_eq, Int8.toInt32_ofInt]
  · have : Int8.minValue.toInt = -128 := rfl
    omega
  · have : Int8.maxValue.toInt = 127 := rfl
    omega
theorem i32_s {n : Int} (h : iok 32767 n = true) : i32 n = (Int16.ofInt n).toInt32 := by
  have q := iok_le h
  rw [i32_eq, Int16.toInt32_ofInt]
  · have : Int16.minValue.toInt = -32768 := rfl
    omega
  · have : Int16.maxValue.toInt = 32767 := rfl
    omega
def lkF (n : Nat) : List FLe → Option FLe
  | [] => none
  | x :: l => if x.1 = n then some x else lkF n l
theorem lkF_mem {n : Nat} {x : FLe} : ∀ {l : List FLe}, lkF n l = some x → x ∈ l ∧ x.1 = n
  | [], h => by cases h
  | y :: l, h => by
    unfold lkF at h
    split at h
    · rename_i e
      cases h
      exact ⟨List.mem_cons_self, e⟩
    · exact ⟨List.mem_cons_of_mem _ (lkF_mem h).1, (lkF_mem h).2⟩
def lkC {α : Type} (n : Nat) : List (Nat × α) → Option α
  | [] => none
  | x :: l => if x.1 = n then some x.2 else lkC n l
theorem lkC_mem {α : Type} {n : Nat} {v : α} : ∀ {l : List (Nat × α)}, lkC n l = some v → (n, v) ∈ l
  | [], h => by cases h
  | y :: l, h => by
    unfold lkC at h
    split at h
    · rename_i e
      cases h
      rw [← e]; exact List.mem_cons_self
    · exact List.mem_cons_of_mem _ (lkC_mem h)
abbrev Rs : Type := Option (List (Option AV) × List AV × Mem × Option Prop)
def e_ld (t : Nat) (n : Nat) (lv : List (Option AV)) (st : List AV) (M : Mem) : Rs := match lv[n]? with
  | some (some (.inl x)) => if t = 0 then some (lv, vi x :: st, M, none) else none
  | some (some (.inr (.inl x))) => if t = 1 then some (lv, vl x :: st, M, none) else none
  | some (some (.inr (.inr x))) => if t = 2 then some (lv, vr x :: st, M, none) else none
  | _ => none
def e_st (nl t : Nat) (n : Nat) (lv : List (Option AV)) (st : List AV) (M : Mem) : Rs := match st with
  | .inl x :: r => if t = 0 ∧ n < nl then some (st1 lv n (vi x), r, M, none) else none
  | .inr (.inl x) :: r => if t = 1 ∧ n + 1 < nl then some (st2 lv n (vl x), r, M, none) else none
  | .inr (.inr x) :: r => if t = 2 ∧ n < nl then some (st1 lv n (vr x), r, M, none) else none
  | _ => none
def e_ald (t : Nat) (lv : List (Option AV)) (st : List AV) (M : Mem) : Rs := match st with
  | .inl j :: .inr (.inr (some (f, i))) :: r => if 20 ≤ f ∧ ((t = 0 ∧ ka f = 0) ∨ (t = 1 ∧ (ka f = 1 ∨ ka f = 2))) then some (lv, vi (mI M f i j.toNatClampNeg) :: r, M, some (vp_in j (mL M f i))) else if 20 ≤ f ∧ t = 3 ∧ ka f = 3 then some (lv, vl (mJ M f i j.toNatClampNeg) :: r, M, some (vp_in j (mL M f i))) else if 20 ≤ f ∧ t = 4 ∧ 4 ≤ ka f ∧ ka f ≤ 8 then some (lv, vr (mR M f i j.toNatClampNeg) :: r, M, some (vp_in j (mL M f i))) else none
  | _ => none
def e_ast (t : Nat) (lv : List (Option AV)) (st : List AV) (M : Mem) : Rs := match st with
  | .inl x :: .inl j :: .inr (.inr (some (f, i))) :: r => if 20 ≤ f ∧ t = 0 ∧ ka f = 0 then some (lv, r, sI M f i j.toNatClampNeg x, some (vp_in j (mL M f i))) else if 20 ≤ f ∧ t = 1 ∧ ka f = 1 then some (lv, r, sI M f i j.toNatClampNeg x.toInt8.toInt32, some (vp_in j (mL M f i))) else if 20 ≤ f ∧ t = 1 ∧ ka f = 2 then some (lv, r, sI M f i j.toNatClampNeg (x &&& 1), some (vp_in j (mL M f i))) else none
  | .inr (.inl x) :: .inl j :: .inr (.inr (some (f, i))) :: r => if 20 ≤ f ∧ t = 3 ∧ ka f = 3 then some (lv, r, sJ M f i j.toNatClampNeg x, some (vp_in j (mL M f i))) else none
  | _ => none
def e_get (tb : Tb) (n : Nat) (lv : List (Option AV)) (st : List AV) (M : Mem) : Rs := match st with
  | .inr (.inr (some (f, i))) :: r => match lkF n tb.1 with
    | some (_, f0, k, t, _) => if f = f0 then (match t with
      | some (g, a, c) => some (lv, vr (some (g, inst a c i)) :: r, M, none)
      | none => if kd f0 k = 0 then some (lv, vi (mI M f0 i k) :: r, M, none) else if kd f0 k = 1 then some (lv, vl (mJ M f0 i k) :: r, M, none) else some (lv, vr (mR M f0 i k) :: r, M, none)) else none
    | none => none
  | _ => none
def e_put (tb : Tb) (n : Nat) (lv : List (Option AV)) (st : List AV) (M : Mem) : Rs := match lkF n tb.1 with
  | some (_, f0, k, _, w) => if w = true then (match st with
    | .inl x :: .inr (.inr (some (f, i))) :: r => if f = f0 ∧ kd f0 k = 0 then some (lv, r, sI M f0 i k x, if zb f0 k = true then some (x = 0 ∨ x = 1) else none) else none
    | .inr (.inl x) :: .inr (.inr (some (f, i))) :: r => if f = f0 ∧ kd f0 k = 1 then some (lv, r, sJ M f0 i k x, none) else none
    | .inr (.inr x) :: .inr (.inr (some (f, i))) :: r => if f = f0 ∧ kd f0 k = 2 then some (lv, r, sR M f0 i k x, none) else none
    | _ => none) else none
  | none => none
def ev1 (nl : Nat) (tb : Tb) (ins : Instr) (lv : List (Option AV)) (st : List AV) (M : Mem) : Rs := match ins with
  | .iconst n => some (lv, vi (i32 n) :: st, M, none)
  | .lconst n => some (lv, vl (Int64.ofNat (n : Nat)) :: st, M, none)
  | .aconst_null => some (lv, vr none :: st, M, none)
  | .iadd => (match st with | .inl y :: .inl x :: r => some (lv, vi (x + y) :: r, M, none) | _ => none)
  | .isub => (match st with | .inl y :: .inl x :: r => some (lv, vi (x - y) :: r, M, none) | _ => none)
  | .imul => (match st with | .inl y :: .inl x :: r => some (lv, vi (x * y) :: r, M, none) | _ => none)
  | .iand => (match st with | .inl y :: .inl x :: r => some (lv, vi (x &&& y) :: r, M, none) | _ => none)
  | .ior => (match st with | .inl y :: .inl x :: r => some (lv, vi (x ||| y) :: r, M, none) | _ => none)
  | .ixor => (match st with | .inl y :: .inl x :: r => some (lv, vi (x ^^^ y) :: r, M, none) | _ => none)
  | .ishl => (match st with | .inl y :: .inl x :: r => some (lv, vi (x <<< (y &&& 31)) :: r, M, none) | _ => none)
  | .ishr => (match st with | .inl y :: .inl x :: r => some (lv, vi (x >>> (y &&& 31)) :: r, M, none) | _ => none)
  | .iushr => (match st with | .inl y :: .inl x :: r => some (lv, vi ((x.toUInt32 >>> (y.toUInt32 &&& Int32.toUInt32 31)).toInt32) :: r, M, none) | _ => none)
  | .idiv => (match st with | .inl y :: .inl x :: r => some (lv, vi (x / y) :: r, M, some (¬ y = 0)) | _ => none)
  | .irem => (match st with | .inl y :: .inl x :: r => some (lv, vi (x - x / y * y) :: r, M, some (¬ y = 0)) | _ => none)
  | .ladd => (match st with | .inr (.inl y) :: .inr (.inl x) :: r => some (lv, vl (x + y) :: r, M, none) | _ => none)
  | .lsub => (match st with | .inr (.inl y) :: .inr (.inl x) :: r => some (lv, vl (x - y) :: r, M, none) | _ => none)
  | .lmul => (match st with | .inr (.inl y) :: .inr (.inl x) :: r => some (lv, vl (x * y) :: r, M, none) | _ => none)
  | .land => (match st with | .inr (.inl y) :: .inr (.inl x) :: r => some (lv, vl (x &&& y) :: r, M, none) | _ => none)
  | .lor => (match st with | .inr (.inl y) :: .inr (.inl x) :: r => some (lv, vl (x ||| y) :: r, M, none) | _ => none)
  | .lxor => (match st with | .inr (.inl y) :: .inr (.inl x) :: r => some (lv, vl (x ^^^ y) :: r, M, none) | _ => none)
  | .ldiv => (match st with | .inr (.inl y) :: .inr (.inl x) :: r => some (lv, vl (x / y) :: r, M, some (¬ y = 0)) | _ => none)
  | .lrem => (match st with | .inr (.inl y) :: .inr (.inl x) :: r => some (lv, vl (x - x / y * y) :: r, M, some (¬ y = 0)) | _ => none)
  | .lshl => (match st with | .inl y :: .inr (.inl x) :: r => some (lv, vl (x <<< (y.toInt64 &&& 63)) :: r, M, none) | _ => none)
  | .lshr => (match st with | .inl y :: .inr (.inl x) :: r => some (lv, vl (x >>> (y.toInt64 &&& 63)) :: r, M, none) | _ => none)
  | .lushr => (match st with | .inl y :: .inr (.inl x) :: r => some (lv, vl ((x.toUInt64 >>> (y.toInt64.toUInt64 &&& Int64.toUInt64 63)).toInt64) :: r, M, none) | _ => none)
  | .lcmp => (match st with | .inr (.inl y) :: .inr (.inl x) :: r => some (lv, vi (lg_cmp x y) :: r, M, none) | _ => none)
  | .ineg => (match st with | .inl x :: r => some (lv, vi (-x) :: r, M, none) | _ => none)
  | .lneg => (match st with | .inr (.inl x) :: r => some (lv, vl (-x) :: r, M, none) | _ => none)
  | .i2l => (match st with | .inl x :: r => some (lv, vl x.toInt64 :: r, M, none) | _ => none)
  | .l2i => (match st with | .inr (.inl x) :: r => some (lv, vi x.toInt32 :: r, M, none) | _ => none)
  | .i2b => (match st with | .inl x :: r => some (lv, vi x.toInt8.toInt32 :: r, M, none) | _ => none)
  | .i2c => (match st with | .inl x :: r => some (lv, vi (x.toUInt32 % 65536).toInt32 :: r, M, none) | _ => none)
  | .iload n => e_ld 0 n lv st M
  | .iload_n n => e_ld 0 n.val lv st M
  | .lload n => e_ld 1 n lv st M
  | .lload_n n => e_ld 1 n.val lv st M
  | .aload n => e_ld 2 n lv st M
  | .aload_n n => e_ld 2 n.val lv st M
  | .istore n => e_st nl 0 n lv st M
  | .istore_n n => e_st nl 0 n.val lv st M
  | .lstore n => e_st nl 1 n lv st M
  | .lstore_n n => e_st nl 1 n.val lv st M
  | .astore n => e_st nl 2 n lv st M
  | .astore_n n => e_st nl 2 n.val lv st M
  | .iinc n z => (match lv[n]? with | some (some (.inl x)) => if n < nl then some (st1 lv n (vi (x + i32 z)), st, M, none) else none | _ => none)
  | .bipush n => if iok 127 n = true then some (lv, vi (i32 n) :: st, M, none) else none
  | .sipush n => if iok 32767 n = true then some (lv, vi (i32 n) :: st, M, none) else none
  | .iaload => e_ald 0 lv st M
  | .baload => e_ald 1 lv st M
  | .laload => e_ald 3 lv st M
  | .aaload => e_ald 4 lv st M
  | .iastore => e_ast 0 lv st M
  | .bastore => e_ast 1 lv st M
  | .lastore => e_ast 3 lv st M
  | .arraylength => (match st with | .inr (.inr (some (f, i))) :: r => if 20 ≤ f ∧ ka f ≤ 8 then some (lv, vi (Int32.ofNat (mL M f i)) :: r, M, none) else none | _ => none)
  | .getfield n => e_get tb n lv st M
  | .putfield n => e_put tb n lv st M
  | .dup => (match st with | v :: r => if isL (some (some v)) = false then some (lv, v :: v :: r, M, none) else none | _ => none)
  | .pop => (match st with | v :: r => if isL (some (some v)) = false then some (lv, r, M, none) else none | _ => none)
  | .dup2 => (match st with | v :: w :: r => if isL (some (some v)) = false ∧ isL (some (some w)) = false then some (lv, v :: w :: v :: w :: r, M, none) else none | _ => none)
  | .ldc n => (match lkC n tb.2.1 with | some x => some (lv, vi x :: st, M, none) | none => none)
  | .ldc_w n => (match lkC n tb.2.1 with | some x => some (lv, vi x :: st, M, none) | none => none)
  | .ldc2_w n => (match lkC n tb.2.2 with | some x => some (lv, vl x :: st, M, none) | none => none)
  | _ => none
def ilen : Instr → Nat
  | .bipush _ => 2
  | .iload _ => 2
  | .lload _ => 2
  | .aload _ => 2
  | .istore _ => 2
  | .lstore _ => 2
  | .astore _ => 2
  | .ldc _ => 2
  | .sipush _ => 3
  | .iinc _ _ => 3
  | .getfield _ => 3
  | .putfield _ => 3
  | .ldc_w _ => 3
  | .ldc2_w _ => 3
  | _ => 1
section Rows
variable {γ : Gm} {κ : Kp} {d pc : Nat} {lv lv' : List (Option AV)} {st st' : List AV} {M M1 M' : Mem} {out : Out} {cn : Option Prop}
theorem e_ld_ok {t n : Nat} {ins : Instr} {len : Nat} (hins : (t = 0 ∧ ((ins = .iload n ∧ len = 2) ∨ ∃ k : Fin 4, k.val = n ∧ ins = .iload_n k ∧ len = 1)) ∨ (t = 1 ∧ ((ins = .lload n ∧ len = 2) ∨ ∃ k : Fin 4, k.val = n ∧ ins = .lload_n k ∧ len = 1)) ∨ (t = 2 ∧ ((ins = .aload n ∧ len = 2) ∨ ∃ k : Fin 4, k.val = n ∧ ins = .aload_n k ∧ len = 1)))
    (he : e_ld t n lv st M = some (lv', st', M1, cn)) (hdg : decode (kc κ) pc = .ok (ins, len)) (h : J γ κ d (pc + len) lv' st' M1 out M') : J γ κ d pc lv st M out M' := by
  unfold e_ld at he
  split at he
  · rename_i x e
    split at he
    · rename_i ht
      simp only [Option.some.injEq, Prod.mk.injEq] at he
      obtain ⟨rfl, rfl, rfl, -⟩ := he
      refine J_load e (Or.inl ⟨x, rfl, ?_⟩) hdg h
      rcases hins with ⟨a, q⟩ | ⟨a, q⟩ | ⟨a, q⟩
      · exact q
      · omega
      · omega
    · cases he
  · rename_i x e
    split at he
    · rename_i ht
      simp only [Option.some.injEq, Prod.mk.injEq] at he
      obtain ⟨rfl, rfl, rfl, -⟩ := he
      refine J_load e (Or.inr (Or.inl ⟨x, rfl, ?_⟩)) hdg h
      rcases hins with ⟨a, q⟩ | ⟨a, q⟩ | ⟨a, q⟩
      · omega
      · exact q
      · omega
    · cases he
  · rename_i x e
    split at he
    · rename_i ht
      simp only [Option.some.injEq, Prod.mk.injEq] at he
      obtain ⟨rfl, rfl, rfl, -⟩ := he
      refine J_load e (Or.inr (Or.inr ⟨x, rfl, ?_⟩)) hdg h
      rcases hins with ⟨a, q⟩ | ⟨a, q⟩ | ⟨a, q⟩
      · omega
      · omega
      · exact q
    · cases he
  · cases he
theorem e_st_ok {t n : Nat} {ins : Instr} {len : Nat} (hins : (t = 0 ∧ ((ins = .istore n ∧ len = 2) ∨ ∃ k : Fin 4, k.val = n ∧ ins = .istore_n k ∧ len = 1)) ∨ (t = 1 ∧ ((ins = .lstore n ∧ len = 2) ∨ ∃ k : Fin 4, k.val = n ∧ ins = .lstore_n k ∧ len = 1)) ∨ (t = 2 ∧ ((ins = .astore n ∧ len = 2) ∨ ∃ k : Fin 4, k.val = n ∧ ins = .astore_n k ∧ len = 1)))
    (he : e_st (kl κ) t n lv st M = some (lv', st', M1, cn)) (hdg : decode (kc κ) pc = .ok (ins, len)) (h : J γ κ d (pc + len) lv' st' M1 out M') : J γ κ d pc lv st M out M' := by
  unfold e_st at he
  split at he
  · rename_i x r
    split at he
    · rename_i ht
      simp only [Option.some.injEq, Prod.mk.injEq] at he
      obtain ⟨rfl, rfl, rfl, -⟩ := he
      refine J_store1 ht.2 (Or.inl ⟨x, rfl, ?_⟩) hdg h
      rcases hins with ⟨a, q⟩ | ⟨a, q⟩ | ⟨a, q⟩
      · exact q
      · omega
      · omega
    · cases he
  · rename_i x r
    split at he
    · rename_i ht
      simp only [Option.some.injEq, Prod.mk.injEq] at he
      obtain ⟨rfl, rfl, rfl, -⟩ := he
      refine J_store2 ht.2 ?_ hdg h
      rcases hins with ⟨a, q⟩ | ⟨a, q⟩ | ⟨a, q⟩
      · omega
      · exact q
      · omega
    · cases he
  · rename_i x r
    split at he
    · rename_i ht
      simp only [Option.some.injEq, Prod.mk.injEq] at he
      obtain ⟨rfl, rfl, rfl, -⟩ := he
      refine J_store1 ht.2 (Or.inr ⟨x, rfl, ?_⟩) hdg h
      rcases hins with ⟨a, q⟩ | ⟨a, q⟩ | ⟨a, q⟩
      · omega
      · omega
      · exact q
    · cases he
  · cases he
theorem xav_i {f i k : Nat} (h : ka f < 3) : xav M f i k = vi (mI M f i k) := if_pos h
theorem xav_l {f i k : Nat} (h : ka f = 3) : xav M f i k = vl (mJ M f i k) := by unfold xav; rw [if_neg (by omega), if_pos h]
theorem xav_r {f i k : Nat} (h : 3 < ka f) : xav M f i k = vr (mR M f i k) := by unfold xav; rw [if_neg (by omega), if_neg (by omega)]
theorem e_ald_ok {t : Nat} {ins : Instr} (hins : (t = 0 ∧ ins = .iaload) ∨ (t = 1 ∧ ins = .baload) ∨ (t = 3 ∧ ins = .laload) ∨ (t = 4 ∧ ins = .aaload))
    (he : e_ald t lv st M = some (lv', st', M1, cn)) (hc : ∀ C, cn = some C → C) (hdg : decode (kc κ) pc = .ok (ins, 1)) (h : J γ κ d (pc + 1) lv' st' M1 out M') : J γ κ d pc lv st M out M' := by
  unfold e_ald at he
  split at he
  · rename_i j f i r
    split at he
    · rename_i ht
      simp only [Option.some.injEq, Prod.mk.injEq] at he
      obtain ⟨rfl, rfl, rfl, rfl⟩ := he
      have h3 : ka f < 3 := by rcases ht.2 with q | ⟨-, q | q⟩ <;> omega
      rw [← xav_i h3] at h
      refine J_ald ht.1 (hc _ rfl) hdg ?_ h
      rcases hins with ⟨a, q⟩ | ⟨a, q⟩ | ⟨a, q⟩ | ⟨a, q⟩
      · exact Or.inl ⟨by omega, q⟩
      · rcases ht.2 with z | ⟨-, z | z⟩
        · omega
        · exact Or.inr (Or.inl ⟨z, q⟩)
        · exact Or.inr (Or.inr (Or.inl ⟨z, q⟩))
      · omega
      · omega
    · split at he
      · rename_i ht
        simp only [Option.some.injEq, Prod.mk.injEq] at he
        obtain ⟨rfl, rfl, rfl, rfl⟩ := he
        rw [← xav_l ht.2.2] at h
        refine J_ald ht.1 (hc _ rfl) hdg ?_ h
        rcases hins with ⟨a, q⟩ | ⟨a, q⟩ | ⟨a, q⟩ | ⟨a, q⟩
        · omega
        · omega
        · exact Or.inr (Or.inr (Or.inr (Or.inl ⟨ht.2.2, q⟩)))
        · omega
      · split at he
        · rename_i ht
          simp only [Option.some.injEq, Prod.mk.injEq] at he
          obtain ⟨rfl, rfl, rfl, rfl⟩ := he
          rw [← xav_r (by omega)] at h
          refine J_ald ht.1 (hc _ rfl) hdg ?_ h
          rcases hins with ⟨a, q⟩ | ⟨a, q⟩ | ⟨a, q⟩ | ⟨a, q⟩
          · omega
          · omega
          · omega
          · exact Or.inr (Or.inr (Or.inr (Or.inr ⟨ht.2.2.1, ht.2.2.2, q⟩)))
        · cases he
  · cases he
theorem e_ast_ok {t : Nat} {ins : Instr} (hins : (t = 0 ∧ ins = .iastore) ∨ (t = 1 ∧ ins = .bastore) ∨ (t = 3 ∧ ins = .lastore))
    (he : e_ast t lv st M = some (lv', st', M1, cn)) (hc : ∀ C, cn = some C → C) (hdg : decode (kc κ) pc = .ok (ins, 1)) (h : J γ κ d (pc + 1) lv' st' M1 out M') : J γ κ d pc lv st M out M' := by
  unfold e_ast at he
  split at he
  · rename_i x j f i r
    split at he
    · rename_i ht
      simp only [Option.some.injEq, Prod.mk.injEq] at he
      obtain ⟨rfl, rfl, rfl, rfl⟩ := he
      refine J_astI ht.1 (hc _ rfl) hdg (Or.inl ⟨ht.2.2, ?_⟩) (by unfold nrw; rw [if_pos ht.2.2]; exact h)
      rcases hins with ⟨a, q⟩ | ⟨a, q⟩ | ⟨a, q⟩
      · exact q
      · omega
      · omega
    · split at he
      · rename_i ht
        simp only [Option.some.injEq, Prod.mk.injEq] at he
        obtain ⟨rfl, rfl, rfl, rfl⟩ := he
        refine J_astI ht.1 (hc _ rfl) hdg (Or.inr (Or.inl ⟨ht.2.2, ?_⟩)) (by unfold nrw; rw [if_neg (by omega), if_pos ht.2.2]; exact h)
        rcases hins with ⟨a, q⟩ | ⟨a, q⟩ | ⟨a, q⟩
        · omega
        · exact q
        · omega
      · split at he
        · rename_i ht
          simp only [Option.some.injEq, Prod.mk.injEq] at he
          obtain ⟨rfl, rfl, rfl, rfl⟩ := he
          refine J_astI ht.1 (hc _ rfl) hdg (Or.inr (Or.inr ⟨ht.2.2, ?_⟩)) (by unfold nrw; rw [if_neg (by omega), if_neg (by omega)]; exact h)
          rcases hins with ⟨a, q⟩ | ⟨a, q⟩ | ⟨a, q⟩
          · omega
          · exact q
          · omega
        · cases he
  · rename_i x j f i r
    split at he
    · rename_i ht
      simp only [Option.some.injEq, Prod.mk.injEq] at he
      obtain ⟨rfl, rfl, rfl, rfl⟩ := he
      rcases hins with ⟨a, q⟩ | ⟨a, q⟩ | ⟨a, q⟩
      · omega
      · omega
      · subst q
        exact J_astJ ht.1 (hc _ rfl) hdg ht.2.2 h
    · cases he
  · cases he
theorem e_get_ok {tb : Tb} {n : Nat} (htb : TBok γ (ky κ).cls tb) (he : e_get tb n lv st M = some (lv', st', M1, cn)) (hdg : decode (kc κ) pc = .ok (.getfield n, 3)) (h : J γ κ d (pc + 3) lv' st' M1 out M') : J γ κ d pc lv st M out M' := by
  unfold e_get at he
  split at he
  · rename_i f i r
    split at he
    · rename_i n0 f0 k t w e
      obtain ⟨hm, e1⟩ := lkF_mem e
      dsimp only at e1
      subst e1
      split at he
      · rename_i ef
        subst ef
        refine J_get htb.1 hm hdg ?_
        split at he
        · rename_i g a c
          simp only [Option.some.injEq, Prod.mk.injEq] at he
          obtain ⟨rfl, rfl, rfl, -⟩ := he
          exact h
        · unfold gv
          dsimp only
          split at he
          · rename_i q
            simp only [Option.some.injEq, Prod.mk.injEq] at he
            obtain ⟨rfl, rfl, rfl, -⟩ := he
            rw [if_pos q]; exact h
          · rename_i q
            rw [if_neg q]
            split at he
            · rename_i q
              simp only [Option.some.injEq, Prod.mk.injEq] at he
              obtain ⟨rfl, rfl, rfl, -⟩ := he
              rw [if_pos q]; exact h
            · rename_i q
              simp only [Option.some.injEq, Prod.mk.injEq] at he
              obtain ⟨rfl, rfl, rfl, -⟩ := he
              rw [if_neg q]; exact h
      · cases he
    · cases he
  · cases he
theorem e_put_ok {tb : Tb} {n : Nat} (htb : TBok γ (ky κ).cls tb) (he : e_put tb n lv st M = some (lv', st', M1, cn)) (hc : ∀ C, cn = some C → C) (hdg : decode (kc κ) pc = .ok (.putfield n, 3)) (h : J γ κ d (pc + 3) lv' st' M1 out M') : J γ κ d pc lv st M out M' := by
  unfold e_put at he
  split at he
  · rename_i n0 f0 k t w e
    obtain ⟨hm, e1⟩ := lkF_mem e
    dsimp only at e1
    subst e1
    split at he
    · rename_i hw
      subst hw
      split at he
      · rename_i x f i r
        split at he
        · rename_i q
          obtain ⟨rfl, q⟩ := q
          simp only [Option.some.injEq, Prod.mk.injEq] at he
          obtain ⟨rfl, rfl, rfl, rfl⟩ := he
          exact J_putI htb.1 hm q (fun hz => hc _ (by rw [if_pos hz])) hdg h
        · cases he
      · rename_i x f i r
        split at he
        · rename_i q
          obtain ⟨rfl, q⟩ := q
          simp only [Option.some.injEq, Prod.mk.injEq] at he
          obtain ⟨rfl, rfl, rfl, -⟩ := he
          exact J_putJ htb.1 hm q hdg h
        · cases he
      · rename_i x f i r
        split at he
        · rename_i q
          obtain ⟨rfl, q⟩ := q
          simp only [Option.some.injEq, Prod.mk.injEq] at he
          obtain ⟨rfl, rfl, rfl, -⟩ := he
          exact J_putR htb.1 hm q hdg h
        · cases he
      · cases he
    · cases he
  · cases he
theorem ev1_ok {tb : Tb} {ins : Instr} (htb : TBok γ (ky κ).cls tb) (he : ev1 (kl κ) tb ins lv st M = some (lv', st', M1, cn)) (hc : ∀ C, cn = some C → C) (hdg : decode (kc κ) pc = .ok (ins, ilen ins)) (h : J γ κ d (pc + ilen ins) lv' st' M1 out M') : J γ κ d pc lv st M out M' := by
  cases ins with
  | iconst n =>
    simp only [ev1] at he
    simp only [Option.some.injEq, Prod.mk.injEq] at he
    obtain ⟨rfl, rfl, rfl, rfl⟩ := he
    exact J_iconst hdg (by rw [← i32_eq]; exact h)
  | lconst n =>
    simp only [ev1] at he
    simp only [Option.some.injEq, Prod.mk.injEq] at he
    obtain ⟨rfl, rfl, rfl, rfl⟩ := he
    exact J_lconst hdg h
  | aconst_null =>
    simp only [ev1] at he
    simp only [Option.some.injEq, Prod.mk.injEq] at he
    obtain ⟨rfl, rfl, rfl, rfl⟩ := he
    exact J_null hdg h
  | iadd =>
    simp only [ev1] at he
    split at he
    · simp only [Option.some.injEq, Prod.mk.injEq] at he
      obtain ⟨rfl, rfl, rfl, rfl⟩ := he
      exact J_iadd hdg h
    · cases he
  | isub =>
    simp only [ev1] at he
    split at he
    · simp only [Option.some.injEq, Prod.mk.injEq] at he
      obtain ⟨rfl, rfl, rfl, rfl⟩ := he
      exact J_isub hdg h
    · cases he
  | imul =>
    simp only [ev1] at he
    split at he
    · simp only [Option.some.injEq, Prod.mk.injEq] at he
      obtain ⟨rfl, rfl, rfl, rfl⟩ := he
      exact J_imul hdg h
    · cases he
  | iand =>
    simp only [ev1] at he
    split at he
    · simp only [Option.some.injEq, Prod.mk.injEq] at he
      obtain ⟨rfl, rfl, rfl, rfl⟩ := he
      exact J_iand hdg h
    · cases he
  | ior =>
    simp only [ev1] at he
    split at he
    · simp only [Option.some.injEq, Prod.mk.injEq] at he
      obtain ⟨rfl, rfl, rfl, rfl⟩ := he
      exact J_ior hdg h
    · cases he
  | ixor =>
    simp only [ev1] at he
    split at he
    · simp only [Option.some.injEq, Prod.mk.injEq] at he
      obtain ⟨rfl, rfl, rfl, rfl⟩ := he
      exact J_ixor hdg h
    · cases he
  | ishl =>
    simp only [ev1] at he
    split at he
    · simp only [Option.some.injEq, Prod.mk.injEq] at he
      obtain ⟨rfl, rfl, rfl, rfl⟩ := he
      exact J_ishl hdg h
    · cases he
  | ishr =>
    simp only [ev1] at he
    split at he
    · simp only [Option.some.injEq, Prod.mk.injEq] at he
      obtain ⟨rfl, rfl, rfl, rfl⟩ := he
      exact J_ishr hdg h
    · cases he
  | iushr =>
    simp only [ev1] at he
    split at he
    · simp only [Option.some.injEq, Prod.mk.injEq] at he
      obtain ⟨rfl, rfl, rfl, rfl⟩ := he
      exact J_iushr hdg h
    · cases he
  | idiv =>
    simp only [ev1] at he
    split at he
    · simp only [Option.some.injEq, Prod.mk.injEq] at he
      obtain ⟨rfl, rfl, rfl, rfl⟩ := he
      exact J_idiv hdg (hc _ rfl) h
    · cases he
  | irem =>
    simp only [ev1] at he
    split at he
    · simp only [Option.some.injEq, Prod.mk.injEq] at he
      obtain ⟨rfl, rfl, rfl, rfl⟩ := he
      exact J_irem hdg (hc _ rfl) h
    · cases he
  | ladd =>
    simp only [ev1] at he
    split at he
    · simp only [Option.some.injEq, Prod.mk.injEq] at he
      obtain ⟨rfl, rfl, rfl, rfl⟩ := he
      exact J_ladd hdg h
    · cases he
  | lsub =>
    simp only [ev1] at he
    split at he
    · simp only [Option.some.injEq, Prod.mk.injEq] at he
      obtain ⟨rfl, rfl, rfl, rfl⟩ := he
      exact J_lsub hdg h
    · cases he
  | lmul =>
    simp only [ev1] at he
    split at he
    · simp only [Option.some.injEq, Prod.mk.injEq] at he
      obtain ⟨rfl, rfl, rfl, rfl⟩ := he
      exact J_lmul hdg h
    · cases he
  | land =>
    simp only [ev1] at he
    split at he
    · simp only [Option.some.injEq, Prod.mk.injEq] at he
      obtain ⟨rfl, rfl, rfl, rfl⟩ := he
      exact J_land hdg h
    · cases he
  | lor =>
    simp only [ev1] at he
    split at he
    · simp only [Option.some.injEq, Prod.mk.injEq] at he
      obtain ⟨rfl, rfl, rfl, rfl⟩ := he
      exact J_lor hdg h
    · cases he
  | lxor =>
    simp only [ev1] at he
    split at he
    · simp only [Option.some.injEq, Prod.mk.injEq] at he
      obtain ⟨rfl, rfl, rfl, rfl⟩ := he
      exact J_lxor hdg h
    · cases he
  | ldiv =>
    simp only [ev1] at he
    split at he
    · simp only [Option.some.injEq, Prod.mk.injEq] at he
      obtain ⟨rfl, rfl, rfl, rfl⟩ := he
      exact J_ldiv hdg (hc _ rfl) h
    · cases he
  | lrem =>
    simp only [ev1] at he
    split at he
    · simp only [Option.some.injEq, Prod.mk.injEq] at he
      obtain ⟨rfl, rfl, rfl, rfl⟩ := he
      exact J_lrem hdg (hc _ rfl) h
    · cases he
  | lshl =>
    simp only [ev1] at he
    split at he
    · simp only [Option.some.injEq, Prod.mk.injEq] at he
      obtain ⟨rfl, rfl, rfl, rfl⟩ := he
      exact J_lshl hdg h
    · cases he
  | lshr =>
    simp only [ev1] at he
    split at he
    · simp only [Option.some.injEq, Prod.mk.injEq] at he
      obtain ⟨rfl, rfl, rfl, rfl⟩ := he
      exact J_lshr hdg h
    · cases he
  | lushr =>
    simp only [ev1] at he
    split at he
    · simp only [Option.some.injEq, Prod.mk.injEq] at he
      obtain ⟨rfl, rfl, rfl, rfl⟩ := he
      exact J_lushr hdg h
    · cases he
  | lcmp =>
    simp only [ev1] at he
    split at he
    · simp only [Option.some.injEq, Prod.mk.injEq] at he
      obtain ⟨rfl, rfl, rfl, rfl⟩ := he
      exact J_lcmp hdg h
    · cases he
  | ineg =>
    simp only [ev1] at he
    split at he
    · simp only [Option.some.injEq, Prod.mk.injEq] at he
      obtain ⟨rfl, rfl, rfl, rfl⟩ := he
      exact J_ineg hdg h
    · cases he
  | lneg =>
    simp only [ev1] at he
    split at he
    · simp only [Option.some.injEq, Prod.mk.injEq] at he
      obtain ⟨rfl, rfl, rfl, rfl⟩ := he
      exact J_lneg hdg h
    · cases he
  | i2l =>
    simp only [ev1] at he
    split at he
    · simp only [Option.some.injEq, Prod.mk.injEq] at he
      obtain ⟨rfl, rfl, rfl, rfl⟩ := he
      exact J_i2l hdg h
    · cases he
  | l2i =>
    simp only [ev1] at he
    split at he
    · simp only [Option.some.injEq, Prod.mk.injEq] at he
      obtain ⟨rfl, rfl, rfl, rfl⟩ := he
      exact J_l2i hdg h
    · cases he
  | i2b =>
    simp only [ev1] at he
    split at he
    · simp only [Option.some.injEq, Prod.mk.injEq] at he
      obtain ⟨rfl, rfl, rfl, rfl⟩ := he
      exact J_i2b hdg h
    · cases he
  | i2c =>
    simp only [ev1] at he
    split at he
    · simp only [Option.some.injEq, Prod.mk.injEq] at he
      obtain ⟨rfl, rfl, rfl, rfl⟩ := he
      exact J_i2c hdg h
    · cases he
  | iload n => simp only [ev1] at he; exact e_ld_ok ((Or.inl) ⟨rfl, Or.inl ⟨rfl, rfl⟩⟩) he hdg h
  | iload_n n => simp only [ev1] at he; exact e_ld_ok ((Or.inl) ⟨rfl, Or.inr ⟨n, rfl, rfl, rfl⟩⟩) he hdg h
  | istore n => simp only [ev1] at he; exact e_st_ok ((Or.inl) ⟨rfl, Or.inl ⟨rfl, rfl⟩⟩) he hdg h
  | istore_n n => simp only [ev1] at he; exact e_st_ok ((Or.inl) ⟨rfl, Or.inr ⟨n, rfl, rfl, rfl⟩⟩) he hdg h
  | lload n => simp only [ev1] at he; exact e_ld_ok ((fun x => Or.inr (Or.inl x)) ⟨rfl, Or.inl ⟨rfl, rfl⟩⟩) he hdg h
  | lload_n n => simp only [ev1] at he; exact e_ld_ok ((fun x => Or.inr (Or.inl x)) ⟨rfl, Or.inr ⟨n, rfl, rfl, rfl⟩⟩) he hdg h
  | lstore n => simp only [ev1] at he; exact e_st_ok ((fun x => Or.inr (Or.inl x)) ⟨rfl, Or.inl ⟨rfl, rfl⟩⟩) he hdg h
  | lstore_n n => simp only [ev1] at he; exact e_st_ok ((fun x => Or.inr (Or.inl x)) ⟨rfl, Or.inr ⟨n, rfl, rfl, rfl⟩⟩) he hdg h
  | aload n => simp only [ev1] at he; exact e_ld_ok ((fun x => Or.inr (Or.inr x)) ⟨rfl, Or.inl ⟨rfl, rfl⟩⟩) he hdg h
  | aload_n n => simp only [ev1] at he; exact e_ld_ok ((fun x => Or.inr (Or.inr x)) ⟨rfl, Or.inr ⟨n, rfl, rfl, rfl⟩⟩) he hdg h
  | astore n => simp only [ev1] at he; exact e_st_ok ((fun x => Or.inr (Or.inr x)) ⟨rfl, Or.inl ⟨rfl, rfl⟩⟩) he hdg h
  | astore_n n => simp only [ev1] at he; exact e_st_ok ((fun x => Or.inr (Or.inr x)) ⟨rfl, Or.inr ⟨n, rfl, rfl, rfl⟩⟩) he hdg h
  | iinc n z =>
    simp only [ev1] at he
    split at he
    · rename_i x e
      split at he
      · rename_i q
        simp only [Option.some.injEq, Prod.mk.injEq] at he
        obtain ⟨rfl, rfl, rfl, -⟩ := he
        exact J_iinc q e hdg (by rw [← i32_eq]; exact h)
      · cases he
    · cases he
  | bipush n =>
    simp only [ev1] at he
    split at he
    · rename_i q
      simp only [Option.some.injEq, Prod.mk.injEq] at he
      obtain ⟨rfl, rfl, rfl, -⟩ := he
      exact J_bipush hdg (by rw [← i32_b q]; exact h)
    · cases he
  | sipush n =>
    simp only [ev1] at he
    split at he
    · rename_i q
      simp only [Option.some.injEq, Prod.mk.injEq] at he
      obtain ⟨rfl, rfl, rfl, -⟩ := he
      exact J_sipush hdg (by rw [← i32_s q]; exact h)
    · cases he
  | iaload => exact e_ald_ok (Or.inl ⟨rfl, rfl⟩) he hc hdg h
  | baload => exact e_ald_ok (Or.inr (Or.inl ⟨rfl, rfl⟩)) he hc hdg h
  | laload => exact e_ald_ok (Or.inr (Or.inr (Or.inl ⟨rfl, rfl⟩))) he hc hdg h
  | aaload => exact e_ald_ok (Or.inr (Or.inr (Or.inr ⟨rfl, rfl⟩))) he hc hdg h
  | iastore => exact e_ast_ok (Or.inl ⟨rfl, rfl⟩) he hc hdg h
  | bastore => exact e_ast_ok (Or.inr (Or.inl ⟨rfl, rfl⟩)) he hc hdg h
  | lastore => exact e_ast_ok (Or.inr (Or.inr ⟨rfl, rfl⟩)) he hc hdg h
  | arraylength =>
    simp only [ev1] at he
    split at he
    · split at he
      · rename_i q
        simp only [Option.some.injEq, Prod.mk.injEq] at he
        obtain ⟨rfl, rfl, rfl, -⟩ := he
        exact J_alen q.1 q.2 hdg h
      · cases he
    · cases he
  | getfield n => exact e_get_ok htb he hdg h
  | putfield n => exact e_put_ok htb he hc hdg h
  | dup =>
    simp only [ev1] at he
    split at he
    · split at he
      · rename_i q
        simp only [Option.some.injEq, Prod.mk.injEq] at he
        obtain ⟨rfl, rfl, rfl, -⟩ := he
        exact J_dup q hdg h
      · cases he
    · cases he
  | pop =>
    simp only [ev1] at he
    split at he
    · split at he
      · rename_i q
        simp only [Option.some.injEq, Prod.mk.injEq] at he
        obtain ⟨rfl, rfl, rfl, -⟩ := he
        exact J_pop q hdg h
      · cases he
    · cases he
  | dup2 =>
    simp only [ev1] at he
    split at he
    · split at he
      · rename_i q
        simp only [Option.some.injEq, Prod.mk.injEq] at he
        obtain ⟨rfl, rfl, rfl, -⟩ := he
        exact J_dup2 q.1 q.2 hdg h
      · cases he
    · cases he
  | ldc n =>
    simp only [ev1] at he
    split at he
    · rename_i e
      simp only [Option.some.injEq, Prod.mk.injEq] at he
      obtain ⟨rfl, rfl, rfl, -⟩ := he
      exact J_ldc hdg (htb.2.1 _ (lkC_mem e)) h
    · cases he
  | ldc_w n =>
    simp only [ev1] at he
    split at he
    · rename_i e
      simp only [Option.some.injEq, Prod.mk.injEq] at he
      obtain ⟨rfl, rfl, rfl, -⟩ := he
      exact J_ldcw hdg (htb.2.1 _ (lkC_mem e)) h
    · cases he
  | ldc2_w n =>
    simp only [ev1] at he
    split at he
    · rename_i e
      simp only [Option.some.injEq, Prod.mk.injEq] at he
      obtain ⟨rfl, rfl, rfl, -⟩ := he
      exact J_ldc2 hdg (htb.2.2 _ (lkC_mem e)) h
    · cases he
  | _ => cases he
def andO (c : Option Prop) (C : Prop) : Prop := match c with
  | none => C
  | some D => D ∧ C
def evs (nl : Nat) (tb : Tb) : List Instr → List (Option AV) → List AV → Mem → Option (List (Option AV) × List AV × Mem × Prop)
  | [], lv, st, M => some (lv, st, M, True)
  | i :: l, lv, st, M => match ev1 nl tb i lv st M with
    | none => none
    | some (lv1, st1, M1, c) => match evs nl tb l lv1 st1 M1 with
      | none => none
      | some (a, b, m, C) => some (a, b, m, andO c C)
def blen : List Instr → Nat
  | [] => 0
  | i :: l => ilen i + blen l
def decs (cc : ByteArray) : Nat → List Instr → Bool
  | _, [] => true
  | pc, i :: l => decide (decode cc pc = .ok (i, ilen i)) && decs cc (pc + ilen i) l
theorem J_blk {tb : Tb} (htb : TBok γ (ky κ).cls tb) : ∀ (l : List Instr) {pc pc' : Nat} {lv lv' : List (Option AV)} {st st' : List AV} {M M1 : Mem} {C : Prop}, decs (kc κ) pc l = true → evs (kl κ) tb l lv st M = some (lv', st', M1, C) → pc' = pc + blen l → C → J γ κ d pc' lv' st' M1 out M' → J γ κ d pc lv st M out M'
  | [], pc, pc', lv, lv', st, st', M, M1, C, _, he, hp, _, h => by
    simp only [evs, Option.some.injEq, Prod.mk.injEq] at he
    obtain ⟨rfl, rfl, rfl, -⟩ := he
    rw [hp] at h; exact h
  | i :: l, pc, pc', lv, lv', st, st', M, M1, C, hd, he, hp, hC, h => by
    simp only [decs, Bool.and_eq_true, decide_eq_true_eq] at hd
    simp only [evs] at he
    split at he
    · cases he
    · rename_i lv1 st1 M2 c e1
      split at he
      · cases he
      · rename_i a b m C2 e2
        simp only [Option.some.injEq, Prod.mk.injEq] at he
        obtain ⟨rfl, rfl, rfl, rfl⟩ := he
        have hC2 : C2 := by cases c with | none => exact hC | some D => exact hC.2
        refine ev1_ok htb e1 (fun D hD => ?_) hd.1 (J_blk htb l hd.2 e2 (by rw [hp, blen, Nat.add_assoc]) hC2 h)
        subst hD; exact hC.1
end Rows
