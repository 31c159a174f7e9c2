def nStr : Nat := 42
def strL : List (String × Nat × String) := [("ClassWorks$Names", 32, "nop num null nload rload nstore rstore inc add sub mul div rem neg and or xor shl shr pop dup dupx swap jump if0 ifn0 ifl ifge ifg ifle eq ne lt ge gt le isnull notnull same other pick new newrow get put size fget fput sget sput call special static facecall cast is throw done ndone rdone enter leave class field method room frame handler end final abstract face private row none unset unmade any run <make> <start> Thing Fault NullFault ZeroFault PlaceFault SizeFault CastFault LockFault DeepFault RoomFault LinkFault ClassFault FieldFault MethodFault AccessFault KindFault RingFault CheckFault BodyFault MakeFault StartFault "), ("ClassWorksModel", 140, "<make>"), ("ClassWorksModel", 146, "<start>"), ("ClassWorksModel", 148, "Thing Fault NullFault ZeroFault PlaceFault SizeFault CastFault LockFault DeepFault RoomFault LinkFault ClassFault FieldFault MethodFault AccessFault KindFault RingFault CheckFault BodyFault MakeFault StartFault "), ("ClassWorksModel", 156, "class"), ("ClassWorksModel", 161, "final"), ("ClassWorksModel", 166, "abstract"), ("ClassWorksModel", 171, "face"), ("ClassWorksModel", 176, "field"), ("ClassWorksModel", 181, "method"), ("ClassWorksModel", 186, "private"), ("ClassWorksModel", 191, "room"), ("ClassWorksModel", 195, "frame"), ("ClassWorksModel", 200, "handler"), ("ClassWorksModel", 205, "end"), ("ClassWorksModel", 210, "row"), ("ClassWorksModel", 215, "none"), ("ClassWorksModel", 220, "unset"), ("ClassWorksModel", 225, "unmade"), ("ClassWorksModel", 230, "any"), ("ClassWorksModel", 235, "run"), ("ClassWorksModel", 240, "nop num null nload rload nstore rstore inc add sub mul div rem neg and or xor shl shr pop dup dupx swap jump if0 ifn0 ifl ifge ifg ifle eq ne lt ge gt le isnull notnull same other pick new newrow get put size fget fput sget sput call special static facecall cast is throw done ndone rdone enter leave "), ("ClassWorksModel", 269, "stop"), ("ClassWorksModel", 1199, "final "), ("ClassWorksModel", 1205, "abstract "), ("ClassWorksModel", 1207, "face "), ("ClassWorksModel", 1209, "class "), ("ClassWorksModel", 1211, ": "), ("ClassWorksModel", 1190, ", "), ("ClassWorksModel", 1213, " field "), ("ClassWorksModel", 1226, "static "), ("ClassWorksModel", 1228, "private "), ("ClassWorksModel", 1185, "num"), ("ClassWorksModel", 1218, " = "), ("ClassWorksModel", 1230, " method "), ("ClassWorksModel", 1192, ""), ("ClassWorksModel", 1197, ") "), ("ClassWorksModel", 1235, "  room "), ("ClassWorksModel", 1249, "  frame"), ("ClassWorksModel", 1247, " "), ("ClassWorksModel", 1240, "  "), ("ClassWorksModel", 1245, "  handler ")]
def stN : List Nat := [627, 6, 7, 211, 5, 5, 8, 4, 5, 6, 7, 4, 5, 7, 3, 3, 4, 5, 6, 3, 3, 301, 4, 6, 9, 5, 6, 2, 2, 7, 7, 8, 3, 3, 8, 0, 2, 7, 7, 1, 2, 10]
def stB : List (List Int32) := [[110, 111, 112, 32, 110, 117, 109, 32, 110, 117, 108, 108, 32, 110, 108, 111, 97, 100, 32, 114, 108, 111, 97, 100, 32, 110, 115, 116, 111, 114, 101, 32, 114, 115, 116, 111, 114, 101, 32, 105, 110, 99, 32, 97, 100, 100, 32, 115, 117, 98, 32, 109, 117, 108, 32, 100, 105, 118, 32, 114, 101, 109, 32, 110, 101, 103, 32, 97, 110, 100, 32, 111, 114, 32, 120, 111, 114, 32, 115, 104, 108, 32, 115, 104, 114, 32, 112, 111, 112, 32, 100, 117, 112, 32, 100, 117, 112, 120, 32, 115, 119, 97, 112, 32, 106, 117, 109, 112, 32, 105, 102, 48, 32, 105, 102, 110, 48, 32, 105, 102, 108, 32, 105, 102, 103, 101, 32, 105, 102, 103, 32, 105, 102, 108, 101, 32, 101, 113, 32, 110, 101, 32, 108, 116, 32, 103, 101, 32, 103, 116, 32, 108, 101, 32, 105, 115, 110, 117, 108, 108, 32, 110, 111, 116, 110, 117, 108, 108, 32, 115, 97, 109, 101, 32, 111, 116, 104, 101, 114, 32, 112, 105, 99, 107, 32, 110, 101, 119, 32, 110, 101, 119, 114, 111, 119, 32, 103, 101, 116, 32, 112, 117, 116, 32, 115, 105, 122, 101, 32, 102, 103, 101, 116, 32, 102, 112, 117, 116, 32, 115, 103, 101, 116, 32, 115, 112, 117, 116, 32, 99, 97, 108, 108, 32, 115, 112, 101, 99, 105, 97, 108, 32, 115, 116, 97, 116, 105, 99, 32, 102, 97, 99, 101, 99, 97, 108, 108, 32, 99, 97, 115, 116, 32, 105, 115, 32, 116, 104, 114, 111, 119, 32, 100, 111, 110, 101, 32, 110, 100, 111, 110, 101, 32, 114, 100, 111, 110, 101, 32, 101, 110, 116, 101, 114, 32, 108, 101, 97, 118, 101, 32, 99, 108, 97, 115, 115, 32, 102, 105, 101, 108, 100, 32, 109, 101, 116, 104, 111, 100, 32, 114, 111, 111, 109, 32, 102, 114, 97, 109, 101, 32, 104, 97, 110, 100, 108, 101, 114, 32, 101, 110, 100, 32, 102, 105, 110, 97, 108, 32, 97, 98, 115, 116, 114, 97, 99, 116, 32, 102, 97, 99, 101, 32, 112, 114, 105, 118, 97, 116, 101, 32, 114, 111, 119, 32, 110, 111, 110, 101, 32, 117, 110, 115, 101, 116, 32, 117, 110, 109, 97, 100, 101, 32, 97, 110, 121, 32, 114, 117, 110, 32, 60, 109, 97, 107, 101, 62, 32, 60, 115, 116, 97, 114, 116, 62, 32, 84, 104, 105, 110, 103, 32, 70, 97, 117, 108, 116, 32, 78, 117, 108, 108, 70, 97, 117, 108, 116, 32, 90, 101, 114, 111, 70, 97, 117, 108, 116, 32, 80, 108, 97, 99, 101, 70, 97, 117, 108, 116, 32, 83, 105, 122, 101, 70, 97, 117, 108, 116, 32, 67, 97, 115, 116, 70, 97, 117, 108, 116, 32, 76, 111, 99, 107, 70, 97, 117, 108, 116, 32, 68, 101, 101, 112, 70, 97, 117, 108, 116, 32, 82, 111, 111, 109, 70, 97, 117, 108, 116, 32, 76, 105, 110, 107, 70, 97, 117, 108, 116, 32, 67, 108, 97, 115, 115, 70, 97, 117, 108, 116, 32, 70, 105, 101, 108, 100, 70, 97, 117, 108, 116, 32, 77, 101, 116, 104, 111, 100, 70, 97, 117, 108, 116, 32, 65, 99, 99, 101, 115, 115, 70, 97, 117, 108, 116, 32, 75, 105, 110, 100, 70, 97, 117, 108, 116, 32, 82, 105, 110, 103, 70, 97, 117, 108, 116, 32, 67, 104, 101, 99, 107, 70, 97, 117, 108, 116, 32, 66, 111, 100, 121, 70, 97, 117, 108, 116, 32, 77, 97, 107, 101, 70, 97, 117, 108, 116, 32, 83, 116, 97, 114, 116, 70, 97, 117, 108, 116, 32], [60, 109, 97, 107, 101, 62], [60, 115, 116, 97, 114, 116, 62], [84, 104, 105, 110, 103, 32, 70, 97, 117, 108, 116, 32, 78, 117, 108, 108, 70, 97, 117, 108, 116, 32, 90, 101, 114, 111, 70, 97, 117, 108, 116, 32, 80, 108, 97, 99, 101, 70, 97, 117, 108, 116, 32, 83, 105, 122, 101, 70, 97, 117, 108, 116, 32, 67, 97, 115, 116, 70, 97, 117, 108, 116, 32, 76, 111, 99, 107, 70, 97, 117, 108, 116, 32, 68, 101, 101, 112, 70, 97, 117, 108, 116, 32, 82, 111, 111, 109, 70, 97, 117, 108, 116, 32, 76, 105, 110, 107, 70, 97, 117, 108, 116, 32, 67, 108, 97, 115, 115, 70, 97, 117, 108, 116, 32, 70, 105, 101, 108, 100, 70, 97, 117, 108, 116, 32, 77, 101, 116, 104, 111, 100, 70, 97, 117, 108, 116, 32, 65, 99, 99, 101, 115, 115, 70, 97, 117, 108, 116, 32, 75, 105, 110, 100, 70, 97, 117, 108, 116, 32, 82, 105, 110, 103, 70, 97, 117, 108, 116, 32, 67, 104, 101, 99, 107, 70, 97, 117, 108, 116, 32, 66, 111, 100, 121, 70, 97, 117, 108, 116, 32, 77, 97, 107, 101, 70, 97, 117, 108, 116, 32, 83, 116, 97, 114, 116, 70, 97, 117, 108, 116, 32], [99, 108, 97, 115, 115], [102, 105, 110, 97, 108], [97, 98, 115, 116, 114, 97, 99, 116], [102, 97, 99, 101], [102, 105, 101, 108, 100], [109, 101, 116, 104, 111, 100], [112, 114, 105, 118, 97, 116, 101], [114, 111, 111, 109], [102, 114, 97, 109, 101], [104, 97, 110, 100, 108, 101, 114], [101, 110, 100], [114, 111, 119], [110, 111, 110, 101], [117, 110, 115, 101, 116], [117, 110, 109, 97, 100, 101], [97, 110, 121], [114, 117, 110], [110, 111, 112, 32, 110, 117, 109, 32, 110, 117, 108, 108, 32, 110, 108, 111, 97, 100, 32, 114, 108, 111, 97, 100, 32, 110, 115, 116, 111, 114, 101, 32, 114, 115, 116, 111, 114, 101, 32, 105, 110, 99, 32, 97, 100, 100, 32, 115, 117, 98, 32, 109, 117, 108, 32, 100, 105, 118, 32, 114, 101, 109, 32, 110, 101, 103, 32, 97, 110, 100, 32, 111, 114, 32, 120, 111, 114, 32, 115, 104, 108, 32, 115, 104, 114, 32, 112, 111, 112, 32, 100, 117, 112, 32, 100, 117, 112, 120, 32, 115, 119, 97, 112, 32, 106, 117, 109, 112, 32, 105, 102, 48, 32, 105, 102, 110, 48, 32, 105, 102, 108, 32, 105, 102, 103, 101, 32, 105, 102, 103, 32, 105, 102, 108, 101, 32, 101, 113, 32, 110, 101, 32, 108, 116, 32, 103, 101, 32, 103, 116, 32, 108, 101, 32, 105, 115, 110, 117, 108, 108, 32, 110, 111, 116, 110, 117, 108, 108, 32, 115, 97, 109, 101, 32, 111, 116, 104, 101, 114, 32, 112, 105, 99, 107, 32, 110, 101, 119, 32, 110, 101, 119, 114, 111, 119, 32, 103, 101, 116, 32, 112, 117, 116, 32, 115, 105, 122, 101, 32, 102, 103, 101, 116, 32, 102, 112, 117, 116, 32, 115, 103, 101, 116, 32, 115, 112, 117, 116, 32, 99, 97, 108, 108, 32, 115, 112, 101, 99, 105, 97, 108, 32, 115, 116, 97, 116, 105, 99, 32, 102, 97, 99, 101, 99, 97, 108, 108, 32, 99, 97, 115, 116, 32, 105, 115, 32, 116, 104, 114, 111, 119, 32, 100, 111, 110, 101, 32, 110, 100, 111, 110, 101, 32, 114, 100, 111, 110, 101, 32, 101, 110, 116, 101, 114, 32, 108, 101, 97, 118, 101, 32], [115, 116, 111, 112], [102, 105, 110, 97, 108, 32], [97, 98, 115, 116, 114, 97, 99, 116, 32], [102, 97, 99, 101, 32], [99, 108, 97, 115, 115, 32], [58, 32], [44, 32], [32, 102, 105, 101, 108, 100, 32], [115, 116, 97, 116, 105, 99, 32], [112, 114, 105, 118, 97, 116, 101, 32], [110, 117, 109], [32, 61, 32], [32, 109, 101, 116, 104, 111, 100, 32], [], [41, 32], [32, 32, 114, 111, 111, 109, 32], [32, 32, 102, 114, 97, 109, 101], [32], [32, 32], [32, 32, 104, 97, 110, 100, 108, 101, 114, 32]]
/-! strings: the literals, and what the JDK's own methods read of them -/
section Strs
variable {γ : Gm} {κ κ' : Kp} {d d' pc : Nat} {lv : List (Option AV)} {st stk : List AV} {M M1 M' : Mem} {out : Out} {Q : Out → Mem → Prop}
/-- the literals are there -/
def Xs (γ : Gm) : Prop := vk_S nStr stN stB (gX γ) (fun k => gX γ (200 + k)) (Aq γ) (gs γ) (gs γ).heap ∧ (∀ (k : Nat) (x : String × Nat × String), strL[k]? = some x → vk_R x.1 x.2.1 x.2.2 (gX γ k) (gs γ)) ∧
  va_Z "java/lang/String" "COMPACT_STRINGS" "Z" (.int 1) (Aq γ) (gs γ) (gs γ).heap ∧ (va_Z "jdk/internal/util/Preconditions" "SIOOBE_FORMATTER" "Ljava/util/function/BiFunction;" .null (Aq γ) (gs γ) (gs γ).heap ∨ va_Z "jdk/internal/util/Preconditions" "SIOOBE_FORMATTER" "Ljava/util/function/BiFunction;" (.ref (gX γ 301)) (Aq γ) (gs γ) (gs γ).heap)
theorem va_ldcwS {p : Program} {l : Launch} {e : Env} {R : Room} {s : State} {m : MethodId} {args : Array Value} {below : List Frame} {meth : Method} {c : Code} {H : Heap} {locs : List Loc} {cells slots : Nat} {Q : State → Prop} {cc : ByteArray} {ls : Array Slot} {rest : List Value} (hexec : p.tables.exec = Jvm.exec) (hb : c.code = cc) {own tx : String} {index q : Nat} (hown : s.vm.findClass own = some m.cls) (hZ : vk_R own index tx q s) (hdg : decode cc pc = .ok (.ldc_w index, 3))
    (k : W p l e R s m args below meth c H locs cells slots Q (F0 m (pc + 3) ls (.ref q :: rest))) : W p l e R s m args below meth c H locs cells slots Q (F0 m pc ls rest) := by
  intro T hT X
  obtain ⟨t, a1, b1⟩ := k T hT X
  refine ⟨t, ?_, b1⟩
  obtain ⟨k, cf, i, a', hk, hcf, hcp, -, hr, hev'⟩ := Cond.stringRef_spec (args := #[]) hown hZ.1
  cases hZ.2.symm.trans hev'
  obtain ⟨k', hk', he⟩ := X.warmed.alike.2.2 _ _ hk
  have hr' : k'.resolved[index]? = some (some (.string q)) := by
    rcases X.warmed.entry hk hk' index with h | ⟨h, -⟩
    · rw [h]; exact hr
    · rw [hr] at h; cases h
  subst hb
  jvm_step X.here [hexec, hdg, ldc_w.wp_string (e := e) (s := T) (f := F0 m pc ls rest) X.here.top hk' (by rw [he]; exact hcf) hcp hr']
  exact a1
theorem J_ldcS {k : Nat} {x : String × Nat × String} (hX : Xs γ) (hk : strL[k]? = some x) (ho : x.1 = (ky κ).cls) (hdg : decode (kc κ) pc = .ok (.ldc x.2.1, 2)) (h : J γ κ d (pc + 2) lv (vr (some (0, k)) :: st) M out M') : J γ κ d pc lv st M out M' := by
  refine J.pure (fun _ _ hv => vpush (r := vr (some (0, k))) 0 _ hv.1 rfl (Or.inl rfl)) (fun p e R s m args' below meth c H locs cells slots ls Q a1 a2 a3 a4 a5 => ?_) h
  exact va_ldcS a1.1 a1.2.1 a1.2.2.2.1 (by rw [← ho]; exact (hX.2.1 k x hk).warm a1.2.2.2.2.2.2.2.2.2) hdg a5
theorem J_ldcwS {k : Nat} {x : String × Nat × String} (hX : Xs γ) (hk : strL[k]? = some x) (ho : x.1 = (ky κ).cls) (hdg : decode (kc κ) pc = .ok (.ldc_w x.2.1, 3)) (h : J γ κ d (pc + 3) lv (vr (some (0, k)) :: st) M out M') : J γ κ d pc lv st M out M' := by
  refine J.pure (fun _ _ hv => vpush (r := vr (some (0, k))) 0 _ hv.1 rfl (Or.inl rfl)) (fun p e R s m args' below meth c H locs cells slots ls Q a1 a2 a3 a4 a5 => ?_) h
  exact va_ldcwS a1.1 a1.2.1 a1.2.2.2.1 (by rw [← ho]; exact (hX.2.1 k x hk).warm a1.2.2.2.2.2.2.2.2.2) hdg a5
theorem low_at {H : Heap} (h : Rl γ M H) {a : Nat} {cell : Cell} (hc : (gs γ).heap[a]? = some cell) : H[a]? = some cell := by
  rw [h.2.2 a (Array.getElem?_eq_some_iff.mp hc).1]; exact hc
theorem J_getV {k idx : Nat} (hX : Xs γ) (hk : k < nStr) (hl : Cond.fieldLink (ky κ).cls idx "java/lang/String" "value" "[B" ∈ tables_1) (hdg : decode (kc κ) pc = .ok (.getfield idx, 3)) (h : J γ κ d (pc + 3) lv (vr (some (0, 200 + k)) :: st) M out M') : J γ κ d pc lv (vr (some (0, k)) :: st) M out M' := by
  refine J.pure (fun _ _ hv => vpush (r := vr (some (0, 200 + k))) 1 _ hv.1 rfl (Or.inl rfl)) (fun p e R s m args' below meth c H locs cells slots ls Q a1 a2 a3 a4 a5 => ?_) h
  obtain ⟨b1, b2, b3, b4, b5, b6, b7, b8, b9, b10⟩ := a1
  obtain ⟨cf, kk, fi, f, cell, h1, h2, h3, h4, h5, h6⟩ := va_OF.moved b10.alike (hX.1.1 k hk).2.2.1
  exact W.getf b1 b2 b4 (b5 _ hl rfl) h1 h2 (low_at a2.1 h3) h4 (v := .ref (gX γ (200 + k))) h5 rfl rfl hdg a5
theorem J_getC {k idx : Nat} (hX : Xs γ) (hk : k < nStr) (hl : Cond.fieldLink (ky κ).cls idx "java/lang/String" "coder" "B" ∈ tables_1) (hdg : decode (kc κ) pc = .ok (.getfield idx, 3)) (h : J γ κ d (pc + 3) lv (vi 0 :: st) M out M') : J γ κ d pc lv (vr (some (0, k)) :: st) M out M' := by
  refine J.pure (fun _ _ hv => vpush (r := vi 0) 1 _ hv.1 rfl trivial) (fun p e R s m args' below meth c H locs cells slots ls Q a1 a2 a3 a4 a5 => ?_) h
  obtain ⟨b1, b2, b3, b4, b5, b6, b7, b8, b9, b10⟩ := a1
  obtain ⟨cf, kk, fi, f, cell, h1, h2, h3, h4, h5, h6⟩ := va_OF.moved b10.alike (hX.1.1 k hk).2.1
  exact W.getf b1 b2 b4 (b5 _ hl rfl) h1 h2 (low_at a2.1 h3) h4 (v := .int 0) h5 rfl rfl hdg a5
theorem J_lenS {k : Nat} (hX : Xs γ) (hk : k < nStr) (hdg : decode (kc κ) pc = .ok (.arraylength, 1)) (h : J γ κ d (pc + 1) lv (vi (Int32.ofNat (stN.getD k 0)) :: st) M out M') : J γ κ d pc lv (vr (some (0, 200 + k)) :: st) M out M' := by
  refine J.pure (fun _ _ hv => vpush (r := vi (Int32.ofNat (stN.getD k 0))) 1 _ hv.1 rfl trivial) (fun p e R s m args' below meth c H locs cells slots ls Q a1 a2 a3 a4 a5 => ?_) h
  obtain ⟨b1, b2, b3, b4, b5, b6, b7, b8, b9, b10⟩ := a1
  obtain ⟨cell, h1, h2, h3, h4, h5, h6, h7⟩ := va_T.moved b10.alike (hX.1.1 k hk).2.2.2
  exact W.alen b1 b2 (low_at a2.1 h1) h2 h5 rfl rfl hdg a5
theorem J_ldS {k : Nat} {j : Int32} (hX : Xs γ) (hk : k < nStr) (hin : vp_in j (stN.getD k 0)) (hdg : decode (kc κ) pc = .ok (.baload, 1)) (h : J γ κ d (pc + 1) lv (vi ((stB.getD k []).getD j.toNatClampNeg 0) :: st) M out M') : J γ κ d pc lv (vi j :: vr (some (0, 200 + k)) :: st) M out M' := by
  refine J.pure (fun _ _ hv => vpush (r := vi ((stB.getD k []).getD j.toNatClampNeg 0)) 2 _ hv.1 rfl trivial) (fun p e R s m args' below meth c H locs cells slots ls Q a1 a2 a3 a4 a5 => ?_) h
  obtain ⟨b1, b2, b3, b4, b5, b6, b7, b8, b9, b10⟩ := a1
  obtain ⟨cell, h1, h2, h3, h4, h5, h6, h7⟩ := va_T.moved b10.alike (hX.1.1 k hk).2.2.2
  have hl : j.toNatClampNeg < stN.getD k 0 := Nat.not_le.mp fun q => hin (Or.inr q)
  exact W.bald b1 b2 (low_at a2.1 h1) h2 h3 (fun q => hin (q.imp id (fun z => by omega))) (h6 _ hl) rfl rfl hdg a5
theorem J_getZ {idx : Nat} (hX : Xs γ) (hl : Cond.fieldLink (ky κ).cls idx "java/lang/String" "COMPACT_STRINGS" "Z" ∈ tables_1) (hdg : decode (kc κ) pc = .ok (.getstatic idx, 3)) (h : J γ κ d (pc + 3) lv (vi 1 :: st) M out M') : J γ κ d pc lv st M out M' := by
  refine J.pure (fun _ _ hv => vpush (r := vi 1) 0 _ hv.1 rfl trivial) (fun p e R s m args' below meth c H locs cells slots ls Q a1 a2 a3 a4 a5 => ?_) h
  obtain ⟨b1, b2, b3, b4, b5, b6, b7, b8, b9, b10⟩ := a1
  obtain ⟨cf, kf, fi, f, a, cell, h1, h2, h3, h4, g5, h6, h7, h8⟩ := va_Z.moved b10.alike hX.2.2.1
  exact W.gets b1 b2 b4 (b5 _ hl rfl) h1 h2 h3 h4 (low_at a2.1 g5) (fun e => by rw [e] at h6; cases h6) h7 rfl hdg a5
end Strs
section Strs2
variable {γ : Gm} {κ κ' : Kp} {d d' pc : Nat} {lv : List (Option AV)} {st stk : List AV} {M M1 M' : Mem} {out : Out} {Q : Out → Mem → Prop}
/-- a method of String -/
def MVs (κ : Kp) (n : Nat) : Prop := (ky κ).cls = "java/lang/String" ∧ Cond.instanceMethod (ky κ) ∈ tables_1 ∧ Cond.selects (ky κ).cls (ky κ) (ky κ) ∈ tables_1 ∧ codeIn κ ∧
  ((ky κ).cls ≠ "java/lang/invoke/MethodHandle" ∧ (ky κ).cls ≠ "java/lang/invoke/VarHandle") ∧ plainFor (ky κ) = true ∧ (parseMethodDescriptor (ky κ).desc).map (fun d => d.parameters.length) = some n ∧ kl κ ≤ 40
theorem front_X {i n idx : Nat} {As : List AV} (hX : Xs γ) (hk : i < nStr) (hm : MVs κ' n) (hl : Cond.methodLink (ky κ).cls idx (ky κ') ∈ tables_1) (hn : As.length = n) (hdg : decode (kc κ) pc = .ok (.invokevirtual idx, 3)) : Front γ κ κ' pc lv (As.reverse ++ vr (some (0, i)) :: st) st (vr (some (0, i)) :: As) M := by
  intro p e R s m args below meth c locs cells slots ls T a1 a2 a3 a4 X
  obtain ⟨h1, h4, h5, h6, hy, h7, h8, h9⟩ := hm
  obtain ⟨b1, b2, b3, b4, b5, b6, b7, b8, b9, b10⟩ := id a1
  obtain ⟨c1, c2, c3, c4, c5, c6⟩ := a2
  have hin := b5 _ h4 rfl
  obtain ⟨cell, q1, q2, q3, -⟩ := va_O.moved b10.alike (hX.1.1 i hk).1
  have hfc : s.vm.findClass (ky κ').cls = some cell.cls := by rw [h1]; exact q3
  have hsel := b5 _ h5 rfl
  obtain ⟨mk, methM, hnamed, hmethM, hstM, habM⟩ := Cond.instanceMethod_spec hin
  obtain ⟨m9, methM', cM, hn9, hmethM', -, -, -, -, -, -, hsigM⟩ := Cond.codeWith_spec (code_at b5 h6)
  cases hnamed.symm.trans hn9
  cases hmethM.symm.trans hmethM'
  obtain ⟨c2', r2, m2, z1, z2, z3, z4, kP, hkP, hkPi⟩ := Cond.selects_spec hsel
  cases hfc.symm.trans z1
  cases (State.methodFound?_of_named hnamed hy).symm.trans z2
  cases hnamed.symm.trans z3
  have hselP : selectMethod e.platform s.vm cell.cls mk = .method mk := by rw [Launch.admits_selectMethod X.admits]; exact z4
  have hlen : (As.map (rv γ)).length = methM.sig.parameters.length := by
    rw [hsigM] at h8
    simp only [Option.map_some, Option.some.injEq] at h8
    rw [List.length_map, hn, h8]
  have hstack : (F0 m pc ls ((As.reverse ++ vr (some (0, i)) :: st).map (rv γ))).stack = (As.map (rv γ)).reverse ++ .ref (gX γ i) :: st.map (rv γ) := by
    show (As.reverse ++ vr (some (0, i)) :: st).map (rv γ) = _
    simp [rv, ra]
  have hobj : ∀ z, cell.vm ≠ .statics z := fun z h => by rw [h] at q2; cases q2
  obtain ⟨vm₁, X₁, hstep₁⟩ := X.invokevirtual b1 b4 (b5 _ hl rfl) hnamed hmethM hstM hkP hkPi hy (a := gX γ i) (cell := cell) (low_at c1 q1) hobj hselP hmethM habM hkP hkPi (g := F0 m pc ls ((As.reverse ++ vr (some (0, i)) :: st).map (rv γ))) rfl hlen hstack (by rw [b2]; exact hdg)
  exact ⟨vm₁, mk, X₁, hnamed, hstep₁⟩
theorem J_callN {i n idx : Nat} {As : List AV} {v : Option AV} (hX : Xs γ) (hk : i < nStr) (hm : MVs κ' n) (hl : Cond.methodLink (ky κ).cls idx (ky κ') ∈ tables_1) (hn : As.length = n) (hdg : decode (kc κ) pc = .ok (.invokevirtual idx, 3)) (hlen : (entL (vr (some (0, i)) :: As)).length ≤ kl κ') (hst : st.length ≤ 15) (hs : stk = As.reverse ++ vr (some (0, i)) :: st)
    (hJ : J γ κ' d 0 (ent (kl κ') (vr (some (0, i)) :: As)) [] M (.inl v) M1) (h : J γ κ (d + 1) (pc + 3) lv (v.toList ++ st) M1 out M') : J γ κ (d + 1) pc lv stk M out M' := by
  subst hs
  refine J_call (front_X hX hk hm hl hn hdg) hdg hm.2.2.2.1 hm.2.2.2.2.2.1 (fun w hw => ?_) (fun w hw => List.mem_append_right _ (List.mem_cons_of_mem _ hw)) hlen hm.2.2.2.2.2.2.2 hst hJ h
  rcases List.mem_cons.mp hw with rfl | hw
  · exact List.mem_append_right _ List.mem_cons_self
  · exact List.mem_append_left _ (List.mem_reverse.mpr hw)
theorem E_callN {i n idx : Nat} {As : List AV} {P : Out → Mem → Prop} (hX : Xs γ) (hk : i < nStr) (hm : MVs κ' n) (hl : Cond.methodLink (ky κ).cls idx (ky κ') ∈ tables_1) (hn : As.length = n) (hdg : decode (kc κ) pc = .ok (.invokevirtual idx, 3)) (hlen : (entL (vr (some (0, i)) :: As)).length ≤ kl κ') (hst : st.length ≤ 15) (hs : stk = As.reverse ++ vr (some (0, i)) :: st) (hd : d' ≤ d)
    (hE : E γ κ' d' 0 (ent (kl κ') (vr (some (0, i)) :: As)) [] M P) (hP : ∀ o M1, P o M1 → ∃ v, o = .inl v) (h : ∀ v M1, P (.inl v) M1 → E γ κ (d + 1) (pc + 3) lv (v.toList ++ st) M1 Q) : E γ κ (d + 1) pc lv stk M Q := by
  obtain ⟨o, M1, hp, hJ⟩ := hE
  obtain ⟨v, rfl⟩ := hP o M1 hp
  exact E.up (fun _ _ hJ2 => J_callN hX hk hm hl hn hdg hlen hst hs (hJ.mono hd) hJ2) (h v M1 hp)
/-- the formatter: a reference or null -/
theorem E_getP {idx : Nat} (hX : Xs γ) (hl : Cond.fieldLink (ky κ).cls idx "jdk/internal/util/Preconditions" "SIOOBE_FORMATTER" "Ljava/util/function/BiFunction;" ∈ tables_1) (hdg : decode (kc κ) pc = .ok (.getstatic idx, 3)) (h : ∀ r : Option (Nat × Nat), E γ κ d (pc + 3) lv (vr r :: st) M Q) : E γ κ d pc lv st M Q := by
  have key : ∃ r : Option (Nat × Nat), (r = none ∨ r = some (0, 301)) ∧ va_Z "jdk/internal/util/Preconditions" "SIOOBE_FORMATTER" "Ljava/util/function/BiFunction;" (rv γ (vr r)) (Aq γ) (gs γ) (gs γ).heap := by
    rcases hX.2.2.2 with hz | hz
    · exact ⟨none, Or.inl rfl, hz⟩
    · exact ⟨some (0, 301), Or.inr rfl, hz⟩
  obtain ⟨r, hr, hz⟩ := key
  refine E.up (fun out M' hJ => ?_) (h r)
  refine J.pure (fun _ _ hv => vpush (r := vr r) 0 _ hv.1 rfl ?_) (fun p e R s m args' below meth c H locs cells slots ls Q a1 a2 a3 a4 a5 => ?_) hJ
  · rcases hr with rfl | rfl
    · trivial
    · exact Or.inl rfl
  obtain ⟨b1, b2, b3, b4, b5, b6, b7, b8, b9, b10⟩ := a1
  obtain ⟨cf, kf, fi, f, a, cell, h1, h2, h3, h4, g5, h6, h7, h8⟩ := va_Z.moved b10.alike hz
  exact W.gets b1 b2 b4 (b5 _ hl rfl) h1 h2 h3 h4 (low_at a2.1 g5) (fun e => by rw [e] at h6; cases h6) h7 rfl hdg a5
theorem E_getZ {idx : Nat} (hX : Xs γ) (hl : Cond.fieldLink (ky κ).cls idx "java/lang/String" "COMPACT_STRINGS" "Z" ∈ tables_1) (hdg : decode (kc κ) pc = .ok (.getstatic idx, 3)) (h : E γ κ d (pc + 3) lv (vi 1 :: st) M Q) : E γ κ d pc lv st M Q := E.up (fun _ _ hJ => J_getZ hX hl hdg hJ) h
theorem E_getV {k idx : Nat} (hX : Xs γ) (hk : k < nStr) (hl : Cond.fieldLink (ky κ).cls idx "java/lang/String" "value" "[B" ∈ tables_1) (hdg : decode (kc κ) pc = .ok (.getfield idx, 3)) (h : E γ κ d (pc + 3) lv (vr (some (0, 200 + k)) :: st) M Q) : E γ κ d pc lv (vr (some (0, k)) :: st) M Q := E.up (fun _ _ hJ => J_getV hX hk hl hdg hJ) h
theorem E_getC {k idx : Nat} (hX : Xs γ) (hk : k < nStr) (hl : Cond.fieldLink (ky κ).cls idx "java/lang/String" "coder" "B" ∈ tables_1) (hdg : decode (kc κ) pc = .ok (.getfield idx, 3)) (h : E γ κ d (pc + 3) lv (vi 0 :: st) M Q) : E γ κ d pc lv (vr (some (0, k)) :: st) M Q := E.up (fun _ _ hJ => J_getC hX hk hl hdg hJ) h
theorem E_lenS {x : Nat} (hX : Xs γ) (h1 : 200 ≤ x) (hk : x - 200 < nStr) (hdg : decode (kc κ) pc = .ok (.arraylength, 1)) (h : E γ κ d (pc + 1) lv (vi (Int32.ofNat (stN.getD (x - 200) 0)) :: st) M Q) : E γ κ d pc lv (vr (some (0, x)) :: st) M Q := by
  obtain ⟨k, rfl⟩ : ∃ k, x = 200 + k := ⟨x - 200, by omega⟩
  rw [Nat.add_sub_cancel_left] at hk h
  exact E.up (fun _ _ hJ => J_lenS hX hk hdg hJ) h
theorem E_ldS {x : Nat} {j : Int32} (hX : Xs γ) (h1 : 200 ≤ x) (hk : x - 200 < nStr) (hin : vp_in j (stN.getD (x - 200) 0)) (hdg : decode (kc κ) pc = .ok (.baload, 1)) (h : E γ κ d (pc + 1) lv (vi ((stB.getD (x - 200) []).getD j.toNatClampNeg 0) :: st) M Q) : E γ κ d pc lv (vi j :: vr (some (0, x)) :: st) M Q := by
  obtain ⟨k, rfl⟩ : ∃ k, x = 200 + k := ⟨x - 200, by omega⟩
  rw [Nat.add_sub_cancel_left] at hk h hin
  exact E.up (fun _ _ hJ => J_ldS hX hk hin hdg hJ) h
theorem E_ldcS {k : Nat} {x : String × Nat × String} (hX : Xs γ) (hk : strL[k]? = some x) (ho : x.1 = (ky κ).cls) (hdg : decode (kc κ) pc = .ok (.ldc x.2.1, 2)) (h : E γ κ d (pc + 2) lv (vr (some (0, k)) :: st) M Q) : E γ κ d pc lv st M Q := E.up (fun _ _ hJ => J_ldcS hX hk ho hdg hJ) h
theorem E_ldcwS {k : Nat} {x : String × Nat × String} (hX : Xs γ) (hk : strL[k]? = some x) (ho : x.1 = (ky κ).cls) (hdg : decode (kc κ) pc = .ok (.ldc_w x.2.1, 3)) (h : E γ κ d (pc + 3) lv (vr (some (0, k)) :: st) M Q) : E γ κ d pc lv st M Q := E.up (fun _ _ hJ => J_ldcwS hX hk ho hdg hJ) h
theorem E_cret {x : Int32} {Q : Int32 → Mem → Prop} (hr : kr κ = some .char) (hx : narrow .char (.int x) = .int x) (hdg : decode (kc κ) pc = .ok (.ireturn, 1)) (h : Q x M) : E γ κ d pc lv [vi x] M (Qi Q) := ⟨_, _, ⟨x, rfl, h⟩, J_cret hr hx hdg⟩
theorem E_bret {x : Int32} {Q : Int32 → Mem → Prop} (hr : kr κ = some .byte) (hx : narrow .byte (.int x) = .int x) (hdg : decode (kc κ) pc = .ok (.ireturn, 1)) (h : Q x M) : E γ κ d pc lv [vi x] M (Qi Q) := ⟨_, _, ⟨x, rfl, h⟩, J_bret hr hx hdg⟩
end Strs2
