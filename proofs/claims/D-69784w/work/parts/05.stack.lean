section Rows
variable {γ : Gm} {κ : Kp} {d pc : Nat} {lv : List (Option AV)} {st : List AV} {M M' : Mem} {out : Out}
theorem vpush {M : Mem} {st : List AV} {r : AV} (n : Nat) (st0 : List AV) (h : ∀ v ∈ st0, vok M v) (hd : st0.drop n = st) (hr : vok M r) : ∀ v ∈ r :: st, vok M v := by
  intro v hv
  rcases List.mem_cons.mp hv with rfl | hv
  · exact hr
  · exact h v (List.mem_of_mem_drop (by rw [hd]; exact hv))
theorem vdrop {M : Mem} {st : List AV} (n : Nat) (st0 : List AV) (h : ∀ v ∈ st0, vok M v) (hd : st0.drop n = st) : ∀ v ∈ st, vok M v := fun v hv => h v (List.mem_of_mem_drop (by rw [hd]; exact hv))
theorem J_iconst {n : Int} (hdg : decode (kc κ) pc = .ok (.iconst n, 1)) (h : J γ κ d (pc + 1) lv (vi (Int32.ofInt n) :: st) M out M') : J γ κ d pc lv (st) M out M' :=
  J.pure (fun _ _ hv => vpush (r := vi (Int32.ofInt n)) 0 _ hv.1 rfl trivial) (fun p e R s m args' below meth c H locs cells slots ls Q a1 a2 a3 a4 a5 => lv_iconst a1.1 a1.2.1 hdg rfl a5) h
theorem J_bipush {n : Int} (hdg : decode (kc κ) pc = .ok (.bipush n, 2)) (h : J γ κ d (pc + 2) lv (vi (Int8.ofInt n).toInt32 :: st) M out M') : J γ κ d pc lv (st) M out M' :=
  J.pure (fun _ _ hv => vpush (r := vi (Int8.ofInt n).toInt32) 0 _ hv.1 rfl trivial) (fun p e R s m args' below meth c H locs cells slots ls Q a1 a2 a3 a4 a5 => lv_bipush a1.1 a1.2.1 hdg rfl a5) h
theorem J_sipush {n : Int} (hdg : decode (kc κ) pc = .ok (.sipush n, 3)) (h : J γ κ d (pc + 3) lv (vi (Int16.ofInt n).toInt32 :: st) M out M') : J γ κ d pc lv (st) M out M' :=
  J.pure (fun _ _ hv => vpush (r := vi (Int16.ofInt n).toInt32) 0 _ hv.1 rfl trivial) (fun p e R s m args' below meth c H locs cells slots ls Q a1 a2 a3 a4 a5 => lv_sipush a1.1 a1.2.1 hdg rfl a5) h
theorem J_lconst {n : Fin 2} (hdg : decode (kc κ) pc = .ok (.lconst n, 1)) (h : J γ κ d (pc + 1) lv (vl (Int64.ofNat (n : Nat)) :: st) M out M') : J γ κ d pc lv (st) M out M' :=
  J.pure (fun _ _ hv => vpush (r := vl (Int64.ofNat (n : Nat))) 0 _ hv.1 rfl trivial) (fun p e R s m args' below meth c H locs cells slots ls Q a1 a2 a3 a4 a5 => lv_lconst a1.1 a1.2.1 hdg rfl a5) h
theorem J_null (hdg : decode (kc κ) pc = .ok (.aconst_null, 1)) (h : J γ κ d (pc + 1) lv (vr none :: st) M out M') : J γ κ d pc lv (st) M out M' :=
  J.pure (fun _ _ hv => vpush (r := vr none) 0 _ hv.1 rfl trivial) (fun p e R s m args' below meth c H locs cells slots ls Q a1 a2 a3 a4 a5 => lv_null a1.1 a1.2.1 hdg a5) h
theorem J_iadd {x y : Int32} (hdg : decode (kc κ) pc = .ok (.iadd, 1)) (h : J γ κ d (pc + 1) lv (vi (x + y) :: st) M out M') : J γ κ d pc lv (vi y :: vi x :: st) M out M' :=
  J.pure (fun _ _ hv => vpush (r := vi (x + y)) 2 _ hv.1 rfl trivial) (fun p e R s m args' below meth c H locs cells slots ls Q a1 a2 a3 a4 a5 => lv_iadd a1.1 a1.2.1 hdg a5) h
theorem J_isub {x y : Int32} (hdg : decode (kc κ) pc = .ok (.isub, 1)) (h : J γ κ d (pc + 1) lv (vi (x - y) :: st) M out M') : J γ κ d pc lv (vi y :: vi x :: st) M out M' :=
  J.pure (fun _ _ hv => vpush (r := vi (x - y)) 2 _ hv.1 rfl trivial) (fun p e R s m args' below meth c H locs cells slots ls Q a1 a2 a3 a4 a5 => lv_isub a1.1 a1.2.1 hdg a5) h
theorem J_imul {x y : Int32} (hdg : decode (kc κ) pc = .ok (.imul, 1)) (h : J γ κ d (pc + 1) lv (vi (x * y) :: st) M out M') : J γ κ d pc lv (vi y :: vi x :: st) M out M' :=
  J.pure (fun _ _ hv => vpush (r := vi (x * y)) 2 _ hv.1 rfl trivial) (fun p e R s m args' below meth c H locs cells slots ls Q a1 a2 a3 a4 a5 => lv_imul a1.1 a1.2.1 hdg a5) h
theorem J_iand {x y : Int32} (hdg : decode (kc κ) pc = .ok (.iand, 1)) (h : J γ κ d (pc + 1) lv (vi (x &&& y) :: st) M out M') : J γ κ d pc lv (vi y :: vi x :: st) M out M' :=
  J.pure (fun _ _ hv => vpush (r := vi (x &&& y)) 2 _ hv.1 rfl trivial) (fun p e R s m args' below meth c H locs cells slots ls Q a1 a2 a3 a4 a5 => lv_iand a1.1 a1.2.1 hdg a5) h
theorem J_ior {x y : Int32} (hdg : decode (kc κ) pc = .ok (.ior, 1)) (h : J γ κ d (pc + 1) lv (vi (x ||| y) :: st) M out M') : J γ κ d pc lv (vi y :: vi x :: st) M out M' :=
  J.pure (fun _ _ hv => vpush (r := vi (x ||| y)) 2 _ hv.1 rfl trivial) (fun p e R s m args' below meth c H locs cells slots ls Q a1 a2 a3 a4 a5 => lv_ior a1.1 a1.2.1 hdg a5) h
theorem J_ixor {x y : Int32} (hdg : decode (kc κ) pc = .ok (.ixor, 1)) (h : J γ κ d (pc + 1) lv (vi (x ^^^ y) :: st) M out M') : J γ κ d pc lv (vi y :: vi x :: st) M out M' :=
  J.pure (fun _ _ hv => vpush (r := vi (x ^^^ y)) 2 _ hv.1 rfl trivial) (fun p e R s m args' below meth c H locs cells slots ls Q a1 a2 a3 a4 a5 => lv_ixor a1.1 a1.2.1 hdg a5) h
theorem J_idiv {x y : Int32} (hdg : decode (kc κ) pc = .ok (.idiv, 1)) (hy : ¬ y = 0) (h : J γ κ d (pc + 1) lv (vi (x / y) :: st) M out M') : J γ κ d pc lv (vi y :: vi x :: st) M out M' :=
  J.pure (fun _ _ hv => vpush (r := vi (x / y)) 2 _ hv.1 rfl trivial) (fun p e R s m args' below meth c H locs cells slots ls Q a1 a2 a3 a4 a5 => lv_idiv a1.1 a1.2.1 hdg hy a5) h
theorem J_irem {x y : Int32} (hdg : decode (kc κ) pc = .ok (.irem, 1)) (hy : ¬ y = 0) (h : J γ κ d (pc + 1) lv (vi (x - x / y * y) :: st) M out M') : J γ κ d pc lv (vi y :: vi x :: st) M out M' :=
  J.pure (fun _ _ hv => vpush (r := vi (x - x / y * y)) 2 _ hv.1 rfl trivial) (fun p e R s m args' below meth c H locs cells slots ls Q a1 a2 a3 a4 a5 => lv_irem a1.1 a1.2.1 hdg hy a5) h
theorem J_ineg {x : Int32} (hdg : decode (kc κ) pc = .ok (.ineg, 1)) (h : J γ κ d (pc + 1) lv (vi (-x) :: st) M out M') : J γ κ d pc lv (vi x :: st) M out M' :=
  J.pure (fun _ _ hv => vpush (r := vi (-x)) 1 _ hv.1 rfl trivial) (fun p e R s m args' below meth c H locs cells slots ls Q a1 a2 a3 a4 a5 => lv_ineg a1.1 a1.2.1 hdg a5) h
theorem J_ishl {x y : Int32} (hdg : decode (kc κ) pc = .ok (.ishl, 1)) (h : J γ κ d (pc + 1) lv (vi (x <<< (y &&& 31)) :: st) M out M') : J γ κ d pc lv (vi y :: vi x :: st) M out M' :=
  J.pure (fun _ _ hv => vpush (r := vi (x <<< (y &&& 31))) 2 _ hv.1 rfl trivial) (fun p e R s m args' below meth c H locs cells slots ls Q a1 a2 a3 a4 a5 => lv_ishl a1.1 a1.2.1 hdg a5) h
theorem J_ishr {x y : Int32} (hdg : decode (kc κ) pc = .ok (.ishr, 1)) (h : J γ κ d (pc + 1) lv (vi (x >>> (y &&& 31)) :: st) M out M') : J γ κ d pc lv (vi y :: vi x :: st) M out M' :=
  J.pure (fun _ _ hv => vpush (r := vi (x >>> (y &&& 31))) 2 _ hv.1 rfl trivial) (fun p e R s m args' below meth c H locs cells slots ls Q a1 a2 a3 a4 a5 => lv_ishr a1.1 a1.2.1 hdg a5) h
theorem J_iushr {x y : Int32} (hdg : decode (kc κ) pc = .ok (.iushr, 1)) (h : J γ κ d (pc + 1) lv (vi ((x.toUInt32 >>> (y.toUInt32 &&& Int32.toUInt32 31)).toInt32) :: st) M out M') : J γ κ d pc lv (vi y :: vi x :: st) M out M' :=
  J.pure (fun _ _ hv => vpush (r := vi ((x.toUInt32 >>> (y.toUInt32 &&& Int32.toUInt32 31)).toInt32)) 2 _ hv.1 rfl trivial) (fun p e R s m args' below meth c H locs cells slots ls Q a1 a2 a3 a4 a5 => lv_iushr a1.1 a1.2.1 hdg rfl a5) h
theorem J_ladd {x y : Int64} (hdg : decode (kc κ) pc = .ok (.ladd, 1)) (h : J γ κ d (pc + 1) lv (vl (x + y) :: st) M out M') : J γ κ d pc lv (vl y :: vl x :: st) M out M' :=
  J.pure (fun _ _ hv => vpush (r := vl (x + y)) 2 _ hv.1 rfl trivial) (fun p e R s m args' below meth c H locs cells slots ls Q a1 a2 a3 a4 a5 => lv_ladd a1.1 a1.2.1 hdg a5) h
theorem J_lsub {x y : Int64} (hdg : decode (kc κ) pc = .ok (.lsub, 1)) (h : J γ κ d (pc + 1) lv (vl (x - y) :: st) M out M') : J γ κ d pc lv (vl y :: vl x :: st) M out M' :=
  J.pure (fun _ _ hv => vpush (r := vl (x - y)) 2 _ hv.1 rfl trivial) (fun p e R s m args' below meth c H locs cells slots ls Q a1 a2 a3 a4 a5 => lv_lsub a1.1 a1.2.1 hdg a5) h
theorem J_lmul {x y : Int64} (hdg : decode (kc κ) pc = .ok (.lmul, 1)) (h : J γ κ d (pc + 1) lv (vl (x * y) :: st) M out M') : J γ κ d pc lv (vl y :: vl x :: st) M out M' :=
  J.pure (fun _ _ hv => vpush (r := vl (x * y)) 2 _ hv.1 rfl trivial) (fun p e R s m args' below meth c H locs cells slots ls Q a1 a2 a3 a4 a5 => lv_lmul a1.1 a1.2.1 hdg a5) h
theorem J_land {x y : Int64} (hdg : decode (kc κ) pc = .ok (.land, 1)) (h : J γ κ d (pc + 1) lv (vl (x &&& y) :: st) M out M') : J γ κ d pc lv (vl y :: vl x :: st) M out M' :=
  J.pure (fun _ _ hv => vpush (r := vl (x &&& y)) 2 _ hv.1 rfl trivial) (fun p e R s m args' below meth c H locs cells slots ls Q a1 a2 a3 a4 a5 => lv_land a1.1 a1.2.1 hdg a5) h
theorem J_lor {x y : Int64} (hdg : decode (kc κ) pc = .ok (.lor, 1)) (h : J γ κ d (pc + 1) lv (vl (x ||| y) :: st) M out M') : J γ κ d pc lv (vl y :: vl x :: st) M out M' :=
  J.pure (fun _ _ hv => vpush (r := vl (x ||| y)) 2 _ hv.1 rfl trivial) (fun p e R s m args' below meth c H locs cells slots ls Q a1 a2 a3 a4 a5 => lv_lor a1.1 a1.2.1 hdg a5) h
theorem J_lxor {x y : Int64} (hdg : decode (kc κ) pc = .ok (.lxor, 1)) (h : J γ κ d (pc + 1) lv (vl (x ^^^ y) :: st) M out M') : J γ κ d pc lv (vl y :: vl x :: st) M out M' :=
  J.pure (fun _ _ hv => vpush (r := vl (x ^^^ y)) 2 _ hv.1 rfl trivial) (fun p e R s m args' below meth c H locs cells slots ls Q a1 a2 a3 a4 a5 => lv_lxor a1.1 a1.2.1 hdg a5) h
theorem J_ldiv {x y : Int64} (hdg : decode (kc κ) pc = .ok (.ldiv, 1)) (hy : ¬ y = 0) (h : J γ κ d (pc + 1) lv (vl (x / y) :: st) M out M') : J γ κ d pc lv (vl y :: vl x :: st) M out M' :=
  J.pure (fun _ _ hv => vpush (r := vl (x / y)) 2 _ hv.1 rfl trivial) (fun p e R s m args' below meth c H locs cells slots ls Q a1 a2 a3 a4 a5 => lv_ldiv a1.1 a1.2.1 hdg hy a5) h
theorem J_lrem {x y : Int64} (hdg : decode (kc κ) pc = .ok (.lrem, 1)) (hy : ¬ y = 0) (h : J γ κ d (pc + 1) lv (vl (x - x / y * y) :: st) M out M') : J γ κ d pc lv (vl y :: vl x :: st) M out M' :=
  J.pure (fun _ _ hv => vpush (r := vl (x - x / y * y)) 2 _ hv.1 rfl trivial) (fun p e R s m args' below meth c H locs cells slots ls Q a1 a2 a3 a4 a5 => lv_lrem a1.1 a1.2.1 hdg hy a5) h
theorem J_lneg {x : Int64} (hdg : decode (kc κ) pc = .ok (.lneg, 1)) (h : J γ κ d (pc + 1) lv (vl (-x) :: st) M out M') : J γ κ d pc lv (vl x :: st) M out M' :=
  J.pure (fun _ _ hv => vpush (r := vl (-x)) 1 _ hv.1 rfl trivial) (fun p e R s m args' below meth c H locs cells slots ls Q a1 a2 a3 a4 a5 => lv_lneg a1.1 a1.2.1 hdg a5) h
theorem J_lshl {x : Int64} {y : Int32} (hdg : decode (kc κ) pc = .ok (.lshl, 1)) (h : J γ κ d (pc + 1) lv (vl (x <<< (y.toInt64 &&& 63)) :: st) M out M') : J γ κ d pc lv (vi y :: vl x :: st) M out M' :=
  J.pure (fun _ _ hv => vpush (r := vl (x <<< (y.toInt64 &&& 63))) 2 _ hv.1 rfl trivial) (fun p e R s m args' below meth c H locs cells slots ls Q a1 a2 a3 a4 a5 => lv_lshl a1.1 a1.2.1 hdg rfl a5) h
theorem J_lshr {x : Int64} {y : Int32} (hdg : decode (kc κ) pc = .ok (.lshr, 1)) (h : J γ κ d (pc + 1) lv (vl (x >>> (y.toInt64 &&& 63)) :: st) M out M') : J γ κ d pc lv (vi y :: vl x :: st) M out M' :=
  J.pure (fun _ _ hv => vpush (r := vl (x >>> (y.toInt64 &&& 63))) 2 _ hv.1 rfl trivial) (fun p e R s m args' below meth c H locs cells slots ls Q a1 a2 a3 a4 a5 => lv_lshr a1.1 a1.2.1 hdg rfl a5) h
theorem J_lushr {x : Int64} {y : Int32} (hdg : decode (kc κ) pc = .ok (.lushr, 1)) (h : J γ κ d (pc + 1) lv (vl ((x.toUInt64 >>> (y.toInt64.toUInt64 &&& Int64.toUInt64 63)).toInt64) :: st) M out M') : J γ κ d pc lv (vi y :: vl x :: st) M out M' :=
  J.pure (fun _ _ hv => vpush (r := vl ((x.toUInt64 >>> (y.toInt64.toUInt64 &&& Int64.toUInt64 63)).toInt64)) 2 _ hv.1 rfl trivial) (fun p e R s m args' below meth c H locs cells slots ls Q a1 a2 a3 a4 a5 => lv_lushr a1.1 a1.2.1 hdg rfl a5) h
theorem J_lcmp {x y : Int64} (hdg : decode (kc κ) pc = .ok (.lcmp, 1)) (h : J γ κ d (pc + 1) lv (vi (lg_cmp x y) :: st) M out M') : J γ κ d pc lv (vl y :: vl x :: st) M out M' :=
  J.pure (fun _ _ hv => vpush (r := vi (lg_cmp x y)) 2 _ hv.1 rfl trivial) (fun p e R s m args' below meth c H locs cells slots ls Q a1 a2 a3 a4 a5 => W.lcmp a1.1 a1.2.1 hdg a5) h
theorem J_i2l {x : Int32} (hdg : decode (kc κ) pc = .ok (.i2l, 1)) (h : J γ κ d (pc + 1) lv (vl x.toInt64 :: st) M out M') : J γ κ d pc lv (vi x :: st) M out M' :=
  J.pure (fun _ _ hv => vpush (r := vl x.toInt64) 1 _ hv.1 rfl trivial) (fun p e R s m args' below meth c H locs cells slots ls Q a1 a2 a3 a4 a5 => lv_i2l a1.1 a1.2.1 hdg rfl a5) h
theorem J_l2i {x : Int64} (hdg : decode (kc κ) pc = .ok (.l2i, 1)) (h : J γ κ d (pc + 1) lv (vi x.toInt32 :: st) M out M') : J γ κ d pc lv (vl x :: st) M out M' :=
  J.pure (fun _ _ hv => vpush (r := vi x.toInt32) 1 _ hv.1 rfl trivial) (fun p e R s m args' below meth c H locs cells slots ls Q a1 a2 a3 a4 a5 => lv_l2i a1.1 a1.2.1 hdg rfl a5) h
theorem J_i2b {x : Int32} (hdg : decode (kc κ) pc = .ok (.i2b, 1)) (h : J γ κ d (pc + 1) lv (vi x.toInt8.toInt32 :: st) M out M') : J γ κ d pc lv (vi x :: st) M out M' :=
  J.pure (fun _ _ hv => vpush (r := vi x.toInt8.toInt32) 1 _ hv.1 rfl trivial) (fun p e R s m args' below meth c H locs cells slots ls Q a1 a2 a3 a4 a5 => lv_i2b a1.1 a1.2.1 hdg rfl a5) h
theorem J_i2c {x : Int32} (hdg : decode (kc κ) pc = .ok (.i2c, 1)) (h : J γ κ d (pc + 1) lv (vi (x.toUInt32 % 65536).toInt32 :: st) M out M') : J γ κ d pc lv (vi x :: st) M out M' :=
  J.pure (fun _ _ hv => vpush (r := vi (x.toUInt32 % 65536).toInt32) 1 _ hv.1 rfl trivial) (fun p e R s m args' below meth c H locs cells slots ls Q a1 a2 a3 a4 a5 => lv_i2c a1.1 a1.2.1 hdg rfl a5) h
theorem J_ldc {n : Nat} {x : Int32} (hdg : decode (kc κ) pc = .ok (.ldc n, 2)) (hw : Cond.constant (ky κ).cls n x ∈ tables_1) (h : J γ κ d (pc + 2) lv (vi x :: st) M out M') : J γ κ d pc lv (st) M out M' :=
  J.pure (fun _ _ hv => vpush (r := vi x) 0 _ hv.1 rfl trivial) (fun p e R s m args' below meth c H locs cells slots ls Q a1 a2 a3 a4 a5 => lv_ldc a1.1 a1.2.1 a1.2.2.2.1 (a1.2.2.2.2.1 _ hw rfl) hdg a5) h
theorem J_ldcw {n : Nat} {x : Int32} (hdg : decode (kc κ) pc = .ok (.ldc_w n, 3)) (hw : Cond.constant (ky κ).cls n x ∈ tables_1) (h : J γ κ d (pc + 3) lv (vi x :: st) M out M') : J γ κ d pc lv (st) M out M' :=
  J.pure (fun _ _ hv => vpush (r := vi x) 0 _ hv.1 rfl trivial) (fun p e R s m args' below meth c H locs cells slots ls Q a1 a2 a3 a4 a5 => lv_ldcw a1.1 a1.2.1 a1.2.2.2.1 (a1.2.2.2.2.1 _ hw rfl) hdg a5) h
theorem J_ldc2 {n : Nat} {x : Int64} (hdg : decode (kc κ) pc = .ok (.ldc2_w n, 3)) (hw : Cond.constantLong (ky κ).cls n x ∈ tables_1) (h : J γ κ d (pc + 3) lv (vl x :: st) M out M') : J γ κ d pc lv (st) M out M' :=
  J.pure (fun _ _ hv => vpush (r := vl x) 0 _ hv.1 rfl trivial) (fun p e R s m args' below meth c H locs cells slots ls Q a1 a2 a3 a4 a5 => lv_ldc2 a1.1 a1.2.1 a1.2.2.2.1 (a1.2.2.2.2.1 _ hw rfl) hdg a5) h
theorem ls_at {ls : Array Slot} {n : Nat} {v : AV} (h : lv_has ls (kl κ) (lvl γ lv)) (e : lv[n]? = some (some v)) : ls[n]? = some (.val (rv γ v)) := h.2.2 (n, rv γ v) (mem_lvl.mpr ⟨v, e, rfl⟩)
theorem J_load {n : Nat} {v : AV} {ins : Instr} {len : Nat} (e : lv[n]? = some (some v)) (hk : (∃ x, v = vi x ∧ ((ins = .iload n ∧ len = 2) ∨ ∃ k : Fin 4, k.val = n ∧ ins = .iload_n k ∧ len = 1)) ∨ (∃ x, v = vl x ∧ ((ins = .lload n ∧ len = 2) ∨ ∃ k : Fin 4, k.val = n ∧ ins = .lload_n k ∧ len = 1)) ∨ (∃ x, v = vr x ∧ ((ins = .aload n ∧ len = 2) ∨ ∃ k : Fin 4, k.val = n ∧ ins = .aload_n k ∧ len = 1)))
    (hdg : decode (kc κ) pc = .ok (ins, len)) (h : J γ κ d (pc + len) lv (v :: st) M out M') : J γ κ d pc lv st M out M' := by
  refine J.pure (fun _ _ hv => vpush 0 _ hv.1 rfl (vls_loc hv e)) (fun p e' R s m args' below meth c H locs cells slots ls Q a1 a2 a3 a4 a5 => ?_) h
  have hl := ls_at a3 e
  rcases hk with ⟨x, rfl, ⟨rfl, rfl⟩ | ⟨k, rfl, rfl, rfl⟩⟩ | ⟨x, rfl, ⟨rfl, rfl⟩ | ⟨k, rfl, rfl, rfl⟩⟩ | ⟨x, rfl, ⟨rfl, rfl⟩ | ⟨k, rfl, rfl, rfl⟩⟩
  · exact lv_iload a1.1 a1.2.1 hdg hl a5
  · exact lv_iload_n a1.1 a1.2.1 hdg rfl hl a5
  · exact lv_lload a1.1 a1.2.1 hdg hl a5
  · exact lv_lload_n a1.1 a1.2.1 hdg rfl hl a5
  · cases x with
    | none => exact lv_aloadN a1.1 a1.2.1 hdg hl a5
    | some q => exact lv_aload a1.1 a1.2.1 hdg hl a5
  · cases x with
    | none => exact lv_aload_nN a1.1 a1.2.1 hdg rfl hl a5
    | some q => exact lv_aload_n a1.1 a1.2.1 hdg rfl hl a5
theorem J_store1 {n : Nat} {v : AV} {ins : Instr} {len : Nat} (hn : n < kl κ) (hk : (∃ x, v = vi x ∧ ((ins = .istore n ∧ len = 2) ∨ ∃ k : Fin 4, k.val = n ∧ ins = .istore_n k ∧ len = 1)) ∨ (∃ x, v = vr x ∧ ((ins = .astore n ∧ len = 2) ∨ ∃ k : Fin 4, k.val = n ∧ ins = .astore_n k ∧ len = 1)))
    (hdg : decode (kc κ) pc = .ok (ins, len)) (h : J γ κ d (pc + len) (st1 lv n v) st M out M') : J γ κ d pc lv (v :: st) M out M' := by
  refine J.loc (fun _ _ hv => ⟨vdrop 1 _ hv.1 rfl, fun w hw => ?_⟩) (fun p e' R s m args' below meth c H locs cells slots ls Q a1 a2 a3 a4 a5 => ?_) h
  · rcases st1_some hw with rfl | hw
    · exact hv.1 _ List.mem_cons_self
    · exact hv.2 w hw
  rcases hk with ⟨x, rfl, ⟨rfl, rfl⟩ | ⟨k, rfl, rfl, rfl⟩⟩ | ⟨x, rfl, ⟨rfl, rfl⟩ | ⟨k, rfl, rfl, rfl⟩⟩
  · exact lv_istore a1.1 a1.2.1 hdg a3 hn rfl (fun ls' hl => a5 ls' (lv_more hl st1_lvl))
  · exact lv_istore_n a1.1 a1.2.1 hdg rfl a3 hn rfl (fun ls' hl => a5 ls' (lv_more hl st1_lvl))
  · cases x with
    | none => exact lv_astoreN a1.1 a1.2.1 hdg a3 hn rfl (fun ls' hl => a5 ls' (lv_more hl st1_lvl))
    | some q => exact lv_astore a1.1 a1.2.1 hdg a3 hn rfl (fun ls' hl => a5 ls' (lv_more hl st1_lvl))
  · cases x with
    | none => exact lv_astore_nN a1.1 a1.2.1 hdg rfl a3 hn rfl (fun ls' hl => a5 ls' (lv_more hl st1_lvl))
    | some q => exact lv_astore_n a1.1 a1.2.1 hdg rfl a3 hn rfl (fun ls' hl => a5 ls' (lv_more hl st1_lvl))
theorem J_store2 {n : Nat} {x : Int64} {ins : Instr} {len : Nat} (hn : n + 1 < kl κ) (hk : (ins = .lstore n ∧ len = 2) ∨ ∃ k : Fin 4, k.val = n ∧ ins = .lstore_n k ∧ len = 1)
    (hdg : decode (kc κ) pc = .ok (ins, len)) (h : J γ κ d (pc + len) (st2 lv n (vl x)) st M out M') : J γ κ d pc lv (vl x :: st) M out M' := by
  refine J.loc (fun _ _ hv => ⟨vdrop 1 _ hv.1 rfl, fun w hw => ?_⟩) (fun p e' R s m args' below meth c H locs cells slots ls Q a1 a2 a3 a4 a5 => ?_) h
  · rcases st2_some hw with rfl | hw
    · exact hv.1 _ List.mem_cons_self
    · exact hv.2 w hw
  rcases hk with ⟨rfl, rfl⟩ | ⟨k, rfl, rfl, rfl⟩
  · exact lv_lstore a1.1 a1.2.1 hdg a3 hn rfl (fun ls' hl => a5 ls' (lv_more hl st2_lvl))
  · exact lv_lstore_n a1.1 a1.2.1 hdg rfl a3 hn rfl (fun ls' hl => a5 ls' (lv_more hl st2_lvl))
theorem J_iinc {n : Nat} {x : Int32} {z : Int} (hn : n < kl κ) (e : lv[n]? = some (some (vi x))) (hdg : decode (kc κ) pc = .ok (.iinc n z, 3)) (h : J γ κ d (pc + 3) (st1 lv n (vi (x + Int32.ofInt z))) st M out M') : J γ κ d pc lv st M out M' := by
  refine J.loc (fun _ _ hv => ⟨hv.1, fun w hw => ?_⟩) (fun p e' R s m args' below meth c H locs cells slots ls Q a1 a2 a3 a4 a5 => ?_) h
  · rcases st1_some hw with rfl | hw
    · trivial
    · exact hv.2 w hw
  obtain ⟨k, hk⟩ := List.getElem?_of_mem (mem_lvl (γ := γ).mpr ⟨vi x, e, rfl⟩)
  exact lv_iinc a1.1 a1.2.1 hdg a3 hk rfl hn rfl (fun ls' hl => a5 ls' (lv_more hl st1_lvl))
theorem cat1 {v : AV} (h : isL (some (some v)) = false) : (rv γ v).category = 1 := cat_isL h
theorem J_dup {v : AV} (hv1 : isL (some (some v)) = false) (hdg : decode (kc κ) pc = .ok (.dup, 1)) (h : J γ κ d (pc + 1) lv (v :: v :: st) M out M') : J γ κ d pc lv (v :: st) M out M' :=
  J.pure (fun _ _ hv => vpush 0 _ hv.1 rfl (hv.1 v List.mem_cons_self)) (fun p e R s m args' below meth c H locs cells slots ls Q a1 a2 a3 a4 a5 => lv_dup a1.1 a1.2.1 hdg (cat1 hv1) a5) h
theorem J_pop {v : AV} (hv1 : isL (some (some v)) = false) (hdg : decode (kc κ) pc = .ok (.pop, 1)) (h : J γ κ d (pc + 1) lv st M out M') : J γ κ d pc lv (v :: st) M out M' :=
  J.pure (fun _ _ hv => vdrop 1 _ hv.1 rfl) (fun p e R s m args' below meth c H locs cells slots ls Q a1 a2 a3 a4 a5 => lv_pop a1.1 a1.2.1 hdg (cat1 hv1) a5) h
theorem J_dup2 {v w : AV} (hv1 : isL (some (some v)) = false) (hw1 : isL (some (some w)) = false) (hdg : decode (kc κ) pc = .ok (.dup2, 1)) (h : J γ κ d (pc + 1) lv (v :: w :: v :: w :: st) M out M') : J γ κ d pc lv (v :: w :: st) M out M' :=
  J.pure (fun _ _ hv => vpush 0 (w :: v :: w :: st) (vpush 0 _ hv.1 rfl (hv.1 w (List.mem_cons_of_mem _ List.mem_cons_self))) rfl (hv.1 v List.mem_cons_self)) (fun p e R s m args' below meth c H locs cells slots ls Q a1 a2 a3 a4 a5 => lv_dup2_11 a1.1 a1.2.1 hdg (cat1 hv1) (cat1 hw1) a5) h
end Rows
