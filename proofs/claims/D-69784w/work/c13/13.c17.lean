def k_Model_putMethod : Kp := (⟨"ClassWorksModel", "putMethod", "(I)V"⟩, prog_13_method_165_code, 8, none, [])
theorem mv_Model_putMethod : MV k_Model_putMethod 11 1 := ⟨⟨_, rfl, rfl⟩, by decide, (tbk_mem (j := 17) (k := 75) rfl), Or.inr ⟨(tbk_mem (j := 17) (k := 74) rfl), 131, (tbk_mem (j := 11) (k := 41) rfl)⟩, Or.inl ⟨rfl, (tbk_mem (j := 17) (k := 76) rfl)⟩, ⟨by decide, by decide⟩, by decide +kernel, by decide +kernel, by decide⟩
def k_Model_print : Kp := (⟨"ClassWorksModel", "print", "(II)I"⟩, prog_13_method_162_code, 4, some (.int), [])
theorem mv_Model_print : MV k_Model_print 11 2 := ⟨⟨_, rfl, rfl⟩, by decide, (tbk_mem (j := 17) (k := 31) rfl), Or.inl (tbk_mem (j := 17) (k := 32) rfl), Or.inl ⟨rfl, (tbk_mem (j := 17) (k := 33) rfl)⟩, ⟨by decide, by decide⟩, by decide +kernel, by decide +kernel, by decide⟩
def k_Model_written : Kp := (⟨"ClassWorksModel", "written", "(I)I"⟩, prog_13_method_168_code, 2, some (.int), [])
theorem mv_Model_written : MV k_Model_written 11 1 := ⟨⟨_, rfl, rfl⟩, by decide, (tbk_mem (j := 17) (k := 102) rfl), Or.inl (tbk_mem (j := 17) (k := 103) rfl), Or.inl ⟨rfl, (tbk_mem (j := 17) (k := 104) rfl)⟩, ⟨by decide, by decide⟩, by decide +kernel, by decide +kernel, by decide⟩
def k_Model_isUp : Kp := (⟨"ClassWorksModel", "isUp", "(II)Z"⟩, prog_13_method_178_code, 5, some (.boolean), [])
theorem mv_Model_isUp : MV k_Model_isUp 11 2 := ⟨⟨_, rfl, rfl⟩, by decide, (tbk_mem (j := 17) (k := 131) rfl), Or.inr ⟨(tbk_mem (j := 17) (k := 130) rfl), 131, (tbk_mem (j := 11) (k := 41) rfl)⟩, Or.inl ⟨rfl, (tbk_mem (j := 17) (k := 132) rfl)⟩, ⟨by decide, by decide⟩, by decide +kernel, by decide +kernel, by decide⟩
def k_Model_joined : Kp := (⟨"ClassWorksModel", "joined", "(II)I"⟩, prog_13_method_177_code, 6, some (.int), [])
theorem mv_Model_joined : MV k_Model_joined 11 2 := ⟨⟨_, rfl, rfl⟩, by decide, (tbk_mem (j := 17) (k := 127) rfl), Or.inr ⟨(tbk_mem (j := 17) (k := 126) rfl), 131, (tbk_mem (j := 11) (k := 41) rfl)⟩, Or.inl ⟨rfl, (tbk_mem (j := 17) (k := 128) rfl)⟩, ⟨by decide, by decide⟩, by decide +kernel, by decide +kernel, by decide⟩
def k_Model_join : Kp := (⟨"ClassWorksModel", "join", "(I[II)I"⟩, prog_13_method_176_code, 6, some (.int), [])
theorem mv_Model_join : MV k_Model_join 11 3 := ⟨⟨_, rfl, rfl⟩, by decide, (tbk_mem (j := 17) (k := 123) rfl), Or.inr ⟨(tbk_mem (j := 17) (k := 122) rfl), 131, (tbk_mem (j := 11) (k := 41) rfl)⟩, Or.inl ⟨rfl, (tbk_mem (j := 17) (k := 124) rfl)⟩, ⟨by decide, by decide⟩, by decide +kernel, by decide +kernel, by decide⟩
def k_Model_inferHandlers : Kp := (⟨"ClassWorksModel", "inferHandlers", "(I)I"⟩, prog_13_method_175_code, 4, some (.int), [])
theorem mv_Model_inferHandlers : MV k_Model_inferHandlers 11 1 := ⟨⟨_, rfl, rfl⟩, by decide, (tbk_mem (j := 17) (k := 119) rfl), Or.inr ⟨(tbk_mem (j := 17) (k := 118) rfl), 131, (tbk_mem (j := 11) (k := 41) rfl)⟩, Or.inl ⟨rfl, (tbk_mem (j := 17) (k := 120) rfl)⟩, ⟨by decide, by decide⟩, by decide +kernel, by decide +kernel, by decide⟩
def k_Model_inferOne : Kp := (⟨"ClassWorksModel", "inferOne", "(I)I"⟩, prog_13_method_174_code, 6, some (.int), [])
theorem mv_Model_inferOne : MV k_Model_inferOne 11 1 := ⟨⟨_, rfl, rfl⟩, by decide, (tbk_mem (j := 17) (k := 115) rfl), Or.inr ⟨(tbk_mem (j := 17) (k := 114) rfl), 131, (tbk_mem (j := 11) (k := 41) rfl)⟩, Or.inl ⟨rfl, (tbk_mem (j := 17) (k := 116) rfl)⟩, ⟨by decide, by decide⟩, by decide +kernel, by decide +kernel, by decide⟩
def k_Model_infer : Kp := (⟨"ClassWorksModel", "infer", "(II)I"⟩, prog_13_method_173_code, 6, some (.int), [])
theorem mv_Model_infer : MV k_Model_infer 11 2 := ⟨⟨_, rfl, rfl⟩, by decide, (tbk_mem (j := 17) (k := 111) rfl), Or.inr ⟨(tbk_mem (j := 17) (k := 110) rfl), 131, (tbk_mem (j := 11) (k := 41) rfl)⟩, Or.inl ⟨rfl, (tbk_mem (j := 17) (k := 112) rfl)⟩, ⟨by decide, by decide⟩, by decide +kernel, by decide +kernel, by decide⟩
def k_Model_toldKind : Kp := (⟨"ClassWorksModel", "toldKind", "(I)I"⟩, prog_13_method_171_code, 3, some (.int), [])
theorem mv_Model_toldKind : MV k_Model_toldKind 11 1 := ⟨⟨_, rfl, rfl⟩, by decide, (tbk_mem (j := 17) (k := 135) rfl), Or.inr ⟨(tbk_mem (j := 17) (k := 134) rfl), 131, (tbk_mem (j := 11) (k := 41) rfl)⟩, Or.inl ⟨rfl, (tbk_mem (j := 17) (k := 136) rfl)⟩, ⟨by decide, by decide⟩, by decide +kernel, by decide +kernel, by decide⟩
def k_Model_kinds : Kp := (⟨"ClassWorksModel", "kinds", "(IIIZ)I"⟩, prog_13_method_170_code, 9, some (.int), [])
theorem mv_Model_kinds : MV k_Model_kinds 11 4 := ⟨⟨_, rfl, rfl⟩, by decide, (tbk_mem (j := 17) (k := 106) rfl), Or.inl (tbk_mem (j := 17) (k := 107) rfl), Or.inl ⟨rfl, (tbk_mem (j := 17) (k := 108) rfl)⟩, ⟨by decide, by decide⟩, by decide +kernel, by decide +kernel, by decide⟩
def k_Model_kind : Kp := (⟨"ClassWorksModel", "kind", "(II)I"⟩, prog_13_method_172_code, 3, some (.int), [])
theorem mv_Model_kind : MV k_Model_kind 11 2 := ⟨⟨_, rfl, rfl⟩, by decide, (tbk_mem (j := 17) (k := 138) rfl), Or.inl (tbk_mem (j := 17) (k := 139) rfl), Or.inl ⟨rfl, (tbk_mem (j := 17) (k := 140) rfl)⟩, ⟨by decide, by decide⟩, by decide +kernel, by decide +kernel, by decide⟩
def k_Model_foretold : Kp := (⟨"ClassWorksModel", "foretold", "(II)I"⟩, prog_13_method_179_code, 5, some (.int), [])
theorem mv_Model_foretold : MV k_Model_foretold 11 2 := ⟨⟨_, rfl, rfl⟩, by decide, (tbk_mem (j := 17) (k := 147) rfl), Or.inr ⟨(tbk_mem (j := 17) (k := 146) rfl), 131, (tbk_mem (j := 11) (k := 41) rfl)⟩, Or.inl ⟨rfl, (tbk_mem (j := 17) (k := 148) rfl)⟩, ⟨by decide, by decide⟩, by decide +kernel, by decide +kernel, by decide⟩
def k_Model_foretell : Kp := (⟨"ClassWorksModel", "foretell", "(IIII)I"⟩, prog_13_method_180_code, 10, some (.int), [])
theorem mv_Model_foretell : MV k_Model_foretell 11 4 := ⟨⟨_, rfl, rfl⟩, by decide, (tbk_mem (j := 17) (k := 142) rfl), Or.inl (tbk_mem (j := 17) (k := 143) rfl), Or.inl ⟨rfl, (tbk_mem (j := 17) (k := 144) rfl)⟩, ⟨by decide, by decide⟩, by decide +kernel, by decide +kernel, by decide⟩
def k_Model_asked : Kp := (⟨"ClassWorksModel", "asked", "(II)I"⟩, prog_13_method_181_code, 4, some (.int), [])
theorem mv_Model_asked : MV k_Model_asked 11 2 := ⟨⟨_, rfl, rfl⟩, by decide, (tbk_mem (j := 17) (k := 150) rfl), Or.inl (tbk_mem (j := 17) (k := 151) rfl), Or.inl ⟨rfl, (tbk_mem (j := 17) (k := 152) rfl)⟩, ⟨by decide, by decide⟩, by decide +kernel, by decide +kernel, by decide⟩
def k_Model_addReached : Kp := (⟨"ClassWorksModel", "addReached", "(I)V"⟩, prog_13_method_182_code, 2, none, [])
theorem mv_Model_addReached : MV k_Model_addReached 11 1 := ⟨⟨_, rfl, rfl⟩, by decide, (tbk_mem (j := 17) (k := 167) rfl), Or.inr ⟨(tbk_mem (j := 17) (k := 166) rfl), 131, (tbk_mem (j := 11) (k := 41) rfl)⟩, Or.inl ⟨rfl, (tbk_mem (j := 17) (k := 168) rfl)⟩, ⟨by decide, by decide⟩, by decide +kernel, by decide +kernel, by decide⟩
def k_Model_addStarts : Kp := (⟨"ClassWorksModel", "addStarts", "(I)V"⟩, prog_13_method_183_code, 4, none, [])
theorem mv_Model_addStarts : MV k_Model_addStarts 11 1 := ⟨⟨_, rfl, rfl⟩, by decide, (tbk_mem (j := 17) (k := 163) rfl), Or.inr ⟨(tbk_mem (j := 17) (k := 162) rfl), 131, (tbk_mem (j := 11) (k := 41) rfl)⟩, Or.inl ⟨rfl, (tbk_mem (j := 17) (k := 164) rfl)⟩, ⟨by decide, by decide⟩, by decide +kernel, by decide +kernel, by decide⟩
def k_Model_reachFrom : Kp := (⟨"ClassWorksModel", "reachFrom", "(II)V"⟩, prog_13_method_184_code, 8, none, [])
theorem mv_Model_reachFrom : MV k_Model_reachFrom 11 2 := ⟨⟨_, rfl, rfl⟩, by decide, (tbk_mem (j := 17) (k := 159) rfl), Or.inr ⟨(tbk_mem (j := 17) (k := 158) rfl), 131, (tbk_mem (j := 11) (k := 41) rfl)⟩, Or.inl ⟨rfl, (tbk_mem (j := 17) (k := 160) rfl)⟩, ⟨by decide, by decide⟩, by decide +kernel, by decide +kernel, by decide⟩
def k_Model_reach : Kp := (⟨"ClassWorksModel", "reach", "(III)I"⟩, prog_13_method_185_code, 7, some (.int), [])
theorem mv_Model_reach : MV k_Model_reach 11 3 := ⟨⟨_, rfl, rfl⟩, by decide, (tbk_mem (j := 17) (k := 154) rfl), Or.inl (tbk_mem (j := 17) (k := 155) rfl), Or.inl ⟨rfl, (tbk_mem (j := 17) (k := 156) rfl)⟩, ⟨by decide, by decide⟩, by decide +kernel, by decide +kernel, by decide⟩
def k_Model_reached : Kp := (⟨"ClassWorksModel", "reached", "(I)I"⟩, prog_13_method_186_code, 2, some (.int), [])
theorem mv_Model_reached : MV k_Model_reached 11 1 := ⟨⟨_, rfl, rfl⟩, by decide, (tbk_mem (j := 17) (k := 170) rfl), Or.inl (tbk_mem (j := 17) (k := 171) rfl), Or.inl ⟨rfl, (tbk_mem (j := 17) (k := 172) rfl)⟩, ⟨by decide, by decide⟩, by decide +kernel, by decide +kernel, by decide⟩
def k_Model_mark : Kp := (⟨"ClassWorksModel", "mark", "(I)V"⟩, prog_13_method_187_code, 2, none, [])
theorem mv_Model_mark : MV k_Model_mark 11 1 := ⟨⟨_, rfl, rfl⟩, by decide, (tbk_mem (j := 17) (k := 179) rfl), Or.inr ⟨(tbk_mem (j := 17) (k := 178) rfl), 131, (tbk_mem (j := 11) (k := 41) rfl)⟩, Or.inl ⟨rfl, (tbk_mem (j := 17) (k := 180) rfl)⟩, ⟨by decide, by decide⟩, by decide +kernel, by decide +kernel, by decide⟩
def w_Model_putMethod_j525 (this : Nat) (Q : Mem → Prop) (k420 : Int32 → Int32 → Mem → Prop) (v4 : Int32) (v5 : Int32) (s0 : Int32) (M : Mem) : Prop :=
  w_Model_putName this s0 (fun M55 => w_Model_put this (10 : Int32) (fun M56 => k420 v4 (v5 + (1 : Int32)) M56) M55) M
def w_Model_putMethod_L420 (this : Nat) (Q : Mem → Prop) : Nat → Int32 → Int32 → Mem → Prop
  | 0, _, _, _ => False
  | n + 1, v4, v5, M => if v4 ≤ v5 then (Q M) else (w_Model_putWord this 41 (fun M37 => ∃ i38, (mR M37 11 this 45) = some (12, i38) ∧ vp_in v5 (mL M37 152 i38) ∧ w_Model_putLabel this (mI M37 152 i38 v5.toNatClampNeg) (fun M40 => w_Model_put this (32 : Int32) (fun M41 => ∃ i42, (mR M41 11 this 45) = some (12, i42) ∧ vp_in v5 (mL M41 153 i42) ∧ w_Model_putLabel this (mI M41 153 i42 v5.toNatClampNeg) (fun M44 => w_Model_put this (32 : Int32) (fun M45 => ∃ i46, (mR M45 11 this 45) = some (12, i46) ∧ vp_in v5 (mL M45 154 i46) ∧ w_Model_putLabel this (mI M45 154 i46 v5.toNatClampNeg) (fun M48 => w_Model_put this (32 : Int32) (fun M49 => ∃ i50, (mR M49 11 this 45) = some (12, i50) ∧ vp_in v5 (mL M49 155 i50) ∧ if 0 ≤ (mI M49 155 i50 v5.toNatClampNeg) then (∃ i53, (mR M49 11 this 45) = some (12, i53) ∧ vp_in v5 (mL M49 155 i53) ∧ w_Model_putMethod_j525 this Q (w_Model_putMethod_L420 this Q n) v4 v5 (mI M49 155 i53 v5.toNatClampNeg) M49) else (w_Model_putMethod_j525 this Q (w_Model_putMethod_L420 this Q n) v4 v5 (mI M49 11 this 24) M49)) M48) M45) M44) M41) M40) M37) M)
def w_Model_putMethod_j414 (this : Nat) (Q : Mem → Prop) (v1 : Int32) (v4 : Int32) (M : Mem) : Prop :=
  ∃ n57 : Nat, w_Model_putMethod_L420 this Q n57 v4 ((8 : Int32) * v1) M
def w_Model_putMethod_L359 (this : Nat) (Q : Mem → Prop) : Nat → Int32 → Int32 → Int32 → Int32 → Int32 → Mem → Prop
  | 0, _, _, _, _, _, _ => False
  | n + 1, v1, v2, v3, v4, v5, M => if v3 ≤ v5 then (vp_in v3 (mL M 518 this) ∧ if (mI M 518 this v3.toNatClampNeg) = 0 then (w_Model_putMethod_j414 this Q v1 v4 M) else (w_Model_putWord this 40 (fun M58 => w_Model_putLabel this v3 (fun M59 => w_Model_put this (58 : Int32) (fun M60 => w_Model_put this (10 : Int32) (fun M61 => w_Model_putMethod_j414 this Q v1 v4 M61) M60) M59) M58) M)) else (w_Model_putInstruction this (v2 + v5) v5 (fun M62 => (w_Model_putMethod_L359 this Q n) v1 v2 v3 v4 (v5 + (1 : Int32)) M62) M)
def w_Model_putMethod_L295 (this : Nat) (Q : Mem → Prop) : Nat → Int32 → Int32 → Int32 → Int32 → Int32 → Mem → Prop
  | 0, _, _, _, _, _, _ => False
  | n + 1, v1, v2, v3, v4, v5, M => if v4 ≤ v5 then (∃ n63 : Nat, w_Model_putMethod_L359 this Q n63 v1 v2 v3 v4 (0 : Int32) M) else (∃ i64, (mR M 11 this 45) = some (12, i64) ∧ vp_in v5 (mL M 152 i64) ∧ vp_in (mI M 152 i64 v5.toNatClampNeg) (mL M 518 this) ∧ ∃ M67, M67 = (sI M 518 this (mI M 152 i64 v5.toNatClampNeg).toNatClampNeg ((1 : Int32) &&& 1)) ∧ ∃ i68, (mR M67 11 this 45) = some (12, i68) ∧ vp_in v5 (mL M67 153 i68) ∧ vp_in (mI M67 153 i68 v5.toNatClampNeg) (mL M67 518 this) ∧ ∃ M71, M71 = (sI M67 518 this (mI M67 153 i68 v5.toNatClampNeg).toNatClampNeg ((1 : Int32) &&& 1)) ∧ ∃ i72, (mR M71 11 this 45) = some (12, i72) ∧ vp_in v5 (mL M71 154 i72) ∧ vp_in (mI M71 154 i72 v5.toNatClampNeg) (mL M71 518 this) ∧ ∃ M75, M75 = (sI M71 518 this (mI M71 154 i72 v5.toNatClampNeg).toNatClampNeg ((1 : Int32) &&& 1)) ∧ (w_Model_putMethod_L295 this Q n) v1 v2 v3 v4 (v5 + (1 : Int32)) M75)
def w_Model_putMethod_j283 (this : Nat) (Q : Mem → Prop) (k175 : Int32 → Int32 → Int32 → Int32 → Int32 → Mem → Prop) (v1 : Int32) (v2 : Int32) (v3 : Int32) (v4 : Int32) (v5 : Int32) (M : Mem) : Prop :=
  k175 v1 v2 v3 v4 (v5 + (1 : Int32)) M
def w_Model_putMethod_L228 (this : Nat) (Q : Mem → Prop) (k175 : Int32 → Int32 → Int32 → Int32 → Int32 → Mem → Prop) : Nat → Int32 → Int32 → Int32 → Int32 → Int32 → Int32 → Int32 → Mem → Prop
  | 0, _, _, _, _, _, _, _, _ => False
  | n + 1, v1, v2, v3, v4, v5, v6, v7, M => if v6 = (40 : Int32) then (∃ i82, (mR M 11 this 45) = some (12, i82) ∧ ∃ i83, (mR M 12 i82 33) = some (300, i83) ∧ vp_in v5 (mL M 300 i83) ∧ if (mI M 300 i83 v5.toNatClampNeg) ≤ v7 then (w_Model_putMethod_j283 this Q k175 v1 v2 v3 v4 v5 M) else (∃ i86, (mR M 11 this 45) = some (12, i86) ∧ ∃ i87, (mR M 12 i86 36) = some (300, i87) ∧ ∃ i88, (mR M 11 this 45) = some (12, i88) ∧ ∃ i89, (mR M 12 i88 32) = some (300, i89) ∧ vp_in v5 (mL M 300 i89) ∧ vp_in ((mI M 300 i89 v5.toNatClampNeg) + v7) (mL M 300 i87) ∧ vp_in (mI M 300 i87 ((mI M 300 i89 v5.toNatClampNeg) + v7).toNatClampNeg) (mL M 518 this) ∧ ∃ M93, M93 = (sI M 518 this (mI M 300 i87 ((mI M 300 i89 v5.toNatClampNeg) + v7).toNatClampNeg).toNatClampNeg ((1 : Int32) &&& 1)) ∧ (w_Model_putMethod_L228 this Q k175 n) v1 v2 v3 v4 v5 v6 (v7 + (1 : Int32)) M93)) else (w_Model_putMethod_j283 this Q k175 v1 v2 v3 v4 v5 M)
def w_Model_putMethod_j225 (this : Nat) (Q : Mem → Prop) (k175 : Int32 → Int32 → Int32 → Int32 → Int32 → Mem → Prop) (v1 : Int32) (v2 : Int32) (v3 : Int32) (v4 : Int32) (v5 : Int32) (v6 : Int32) (M : Mem) : Prop :=
  ∃ n94 : Nat, w_Model_putMethod_L228 this Q k175 n94 v1 v2 v3 v4 v5 v6 (0 : Int32) M
def w_Model_putMethod_L175 (this : Nat) (Q : Mem → Prop) : Nat → Int32 → Int32 → Int32 → Int32 → Int32 → Mem → Prop
  | 0, _, _, _, _, _, _ => False
  | n + 1, v1, v2, v3, v4, v5, M => if (v2 + v3) ≤ v5 then (∃ n76 : Nat, w_Model_putMethod_L295 this Q n76 v1 v2 v3 v4 ((8 : Int32) * v1) M) else (∃ i77, (mR M 11 this 45) = some (12, i77) ∧ ∃ i78, (mR M 12 i77 30) = some (401, i78) ∧ vp_in v5 (mL M 401 i78) ∧ if (mI M 401 i78 v5.toNatClampNeg) < (23 : Int32) then (w_Model_putMethod_j225 this Q (w_Model_putMethod_L175 this Q n) v1 v2 v3 v4 v5 (mI M 401 i78 v5.toNatClampNeg) M) else (if (39 : Int32) < (mI M 401 i78 v5.toNatClampNeg) then (w_Model_putMethod_j225 this Q (w_Model_putMethod_L175 this Q n) v1 v2 v3 v4 v5 (mI M 401 i78 v5.toNatClampNeg) M) else (∃ i96, (mR M 11 this 45) = some (12, i96) ∧ ∃ i97, (mR M 12 i96 31) = some (300, i97) ∧ vp_in v5 (mL M 300 i97) ∧ vp_in (mI M 300 i97 v5.toNatClampNeg) (mL M 518 this) ∧ ∃ M100, M100 = (sI M 518 this (mI M 300 i97 v5.toNatClampNeg).toNatClampNeg ((1 : Int32) &&& 1)) ∧ w_Model_putMethod_j225 this Q (w_Model_putMethod_L175 this Q n) v1 v2 v3 v4 v5 (mI M 401 i78 v5.toNatClampNeg) M100)))
def w_Model_putMethod_L152 (this : Nat) (Q : Mem → Prop) : Nat → Int32 → Int32 → Int32 → Int32 → Int32 → Mem → Prop
  | 0, _, _, _, _, _, _ => False
  | n + 1, v1, v2, v3, v4, v5, M => if v3 < v5 then (∃ n101 : Nat, w_Model_putMethod_L175 this Q n101 v1 v2 v3 v4 v2 M) else (vp_in v5 (mL M 518 this) ∧ (w_Model_putMethod_L152 this Q n) v1 v2 v3 v4 (v5 + (1 : Int32)) (sI M 518 this v5.toNatClampNeg ((0 : Int32) &&& 1)))
def w_Model_putMethod (this : Nat) (a1 : Int32) (Q : Mem → Prop) (M : Mem) : Prop :=
  w_Model_putWord this 34 (fun M1 => ∃ i2, (mR M1 11 this 45) = some (12, i2) ∧ vp_in a1 (mL M1 146 i2) ∧ w_Model_putFlags this (mI M1 146 i2 a1.toNatClampNeg) (fun M4 => ∃ i5, (mR M4 11 this 45) = some (12, i5) ∧ vp_in a1 (mL M4 144 i5) ∧ w_Model_putName this (mI M4 144 i5 a1.toNatClampNeg) (fun M7 => ∃ i8, (mR M7 11 this 45) = some (12, i8) ∧ vp_in a1 (mL M7 145 i8) ∧ w_Model_putSignature this (mI M7 145 i8 a1.toNatClampNeg) (fun M10 => w_Model_put this (10 : Int32) (fun M11 => ∃ i12, (mR M11 11 this 45) = some (12, i12) ∧ vp_in a1 (mL M11 146 i12) ∧ if ((mI M11 146 i12 a1.toNatClampNeg) &&& (8 : Int32)) = 0 then (w_Model_putWord this 37 (fun M15 => ∃ i16, (mR M15 11 this 45) = some (12, i16) ∧ vp_in a1 (mL M15 147 i16) ∧ w_Model_putNumber this (mI M15 147 i16 a1.toNatClampNeg) (fun M18 => w_Model_put this (32 : Int32) (fun M19 => ∃ i20, (mR M19 11 this 45) = some (12, i20) ∧ vp_in a1 (mL M19 148 i20) ∧ w_Model_putNumber this (mI M19 148 i20 a1.toNatClampNeg) (fun M22 => w_Model_put this (10 : Int32) (fun M23 => ∃ i24, (mR M23 11 this 45) = some (12, i24) ∧ vp_in a1 (mL M23 149 i24) ∧ ∃ i26, (mR M23 11 this 45) = some (12, i26) ∧ vp_in a1 (mL M23 150 i26) ∧ ∃ i28, (mR M23 11 this 45) = some (12, i28) ∧ vp_in a1 (mL M23 151 i28) ∧ ∃ n103 : Nat, w_Model_putMethod_L152 this Q n103 a1 (mI M23 149 i24 a1.toNatClampNeg) (mI M23 150 i26 a1.toNatClampNeg) (((8 : Int32) * a1) + (mI M23 151 i28 a1.toNatClampNeg)) (0 : Int32) M23) M22) M19) M18) M15) M11) else (Q M11)) M10) M7) M4) M1) M
set_option maxRecDepth 4096 in
theorem lk_Model_putMethod_j525 {γ : Gm} (hγ : Gk γ) (this : Nat) (Q : Mem → Prop) (k420 : Int32 → Int32 → Mem → Prop) (hk420 : ∀ (v4 : Int32) (v5 : Int32) (M : Mem), k420 v4 v5 M → E γ k_Model_putMethod 8 420 [some (vr (some (11, this))), none, none, none, some (vi v4), some (vi v5), none, none] [] M (Qv Q)) (v4 : Int32) (v5 : Int32) (s0 : Int32) (M : Mem) (h : w_Model_putMethod_j525 this Q k420 v4 v5 s0 M) : E γ k_Model_putMethod 8 525 [some (vr (some (11, this))), none, none, none, some (vi v4), some (vi v5), none, none] [vi s0, vr (some (11, this))] M (Qv Q) := by
  unfold w_Model_putMethod_j525 at h
  refine E_callV (κ' := k_Model_putName) (As := [vi s0]) (st := []) mv_Model_putName (Or.inl (tbk_mem (j := 17) (k := 50) rfl)) rfl (by decide +kernel) (Nat.le_of_ble_eq_true rfl) (Nat.le_of_ble_eq_true rfl) rfl (by decide) (lk_Model_putName hγ this s0 _ M h) (fun _ _ => Qv_r) (fun v M55 hp => Qv_k (R := fun st => E γ k_Model_putMethod 8 528 [some (vr (some (11, this))), none, none, none, some (vi v4), some (vi v5), none, none] st M55 (Qv Q)) hp (fun h => ?_))
  refine E_blk (lv' := [some (vr (some (11, this))), none, none, none, some (vi v4), some (vi v5), none, none]) (st' := [vi (10 : Int32), vr (some (11, this))]) (M1 := M55) (pc' := 531) (tb_Model hγ) [.aload_n 0, .bipush 10] (by decide +kernel) rfl rfl trivial ?_
  refine E_callV (κ' := k_Model_put) (As := [vi (10 : Int32)]) (st := []) mv_Model_put (Or.inl (tbk_mem (j := 17) (k := 43) rfl)) rfl (by decide +kernel) (Nat.le_of_ble_eq_true rfl) (Nat.le_of_ble_eq_true rfl) rfl (by decide) (lk_Model_put hγ this (10 : Int32) _ M55 h) (fun _ _ => Qv_r) (fun v M56 hp => Qv_k (R := fun st => E γ k_Model_putMethod 8 534 [some (vr (some (11, this))), none, none, none, some (vi v4), some (vi v5), none, none] st M56 (Qv Q)) hp (fun h => ?_))
  refine E_blk (lv' := [some (vr (some (11, this))), none, none, none, some (vi v4), some (vi (v5 + (1 : Int32))), none, none]) (st' := []) (M1 := M56) (pc' := 537) (tb_Model hγ) [.iinc 5 1] (by decide +kernel) rfl rfl trivial ?_
  refine E_goto (off := -117) (tgt := 420) (by decide +kernel) (by decide) ?_
  refine E_mask [true, false, false, false, true, true, false, false] rfl ?_
  exact hk420 v4 (v5 + (1 : Int32)) M56 h
set_option maxRecDepth 4096 in
theorem lk_Model_putMethod_L420 {γ : Gm} (hγ : Gk γ) (this : Nat) (Q : Mem → Prop) : ∀ (n : Nat) (v4 : Int32) (v5 : Int32) (M : Mem), w_Model_putMethod_L420 this Q n v4 v5 M → E γ k_Model_putMethod 8 420 [some (vr (some (11, this))), none, none, none, some (vi v4), some (vi v5), none, none] [] M (Qv Q) := by
  intro n
  induction n with
  | zero => intro v4 v5 M h; exact h.elim
  | succ n ih =>
    intro v4 v5 M h
    unfold w_Model_putMethod_L420 at h
    refine E_blk (lv' := [some (vr (some (11, this))), none, none, none, some (vi v4), some (vi v5), none, none]) (st' := [vi v4, vi v5]) (M1 := M) (pc' := 424) (tb_Model hγ) [.iload 5, .iload 4] (by decide +kernel) rfl rfl trivial ?_
    refine E_icmp_ge (off := 116) (tgt := 540) (by decide +kernel) (by decide) (fun b36 => ?_) (fun b36 => ?_)
    · rw [if_pos b36] at h
      exact E_vret rfl (by decide +kernel) h
    · rw [if_neg b36] at h
      refine E_blk (lv' := [some (vr (some (11, this))), none, none, none, some (vi v4), some (vi v5), none, none]) (st' := [vr (some (11, this))]) (M1 := M) (pc' := 428) (tb_Model hγ) [.aload_n 0] (by decide +kernel) rfl rfl trivial ?_
      refine E_ldcwS (κ := k_Model_putMethod) (pc := 428) (k := 41) hγ.2.2.2 rfl rfl (by decide +kernel) ?_
      refine E_callV (κ' := k_Model_putWord) (As := [vr (some (0, 41))]) (st := []) mv_Model_putWord (Or.inl (tbk_mem (j := 17) (k := 39) rfl)) rfl (by decide +kernel) (Nat.le_of_ble_eq_true rfl) (Nat.le_of_ble_eq_true rfl) rfl (by decide) (lk_Model_putWord hγ this 41 _ M h) (fun _ _ => Qv_r) (fun v M37 hp => Qv_k (R := fun st => E γ k_Model_putMethod 8 434 [some (vr (some (11, this))), none, none, none, some (vi v4), some (vi v5), none, none] st M37 (Qv Q)) hp (fun h => ?_))
      refine E_blk (lv' := [some (vr (some (11, this))), none, none, none, some (vi v4), some (vi v5), none, none]) (st' := [vr (mR M37 11 this 45), vr (some (11, this))]) (M1 := M37) (pc' := 439) (tb_Model hγ) [.aload_n 0, .aload_n 0, .getfield 522] (by decide +kernel) rfl rfl trivial ?_
      obtain ⟨i38, ei38, h⟩ := h
      rw [ei38]
      obtain ⟨c39, h⟩ := h
      refine E_blk (lv' := [some (vr (some (11, this))), none, none, none, some (vi v4), some (vi v5), none, none]) (st' := [vi (mI M37 152 i38 v5.toNatClampNeg), vr (some (11, this))]) (M1 := M37) (pc' := 445) (tb_Model hγ) [.getfield 713, .iload 5, .iaload] (by decide +kernel) rfl rfl ⟨c39, trivial⟩ ?_
      refine E_callV (κ' := k_Model_putLabel) (As := [vi (mI M37 152 i38 v5.toNatClampNeg)]) (st := []) mv_Model_putLabel (Or.inl (tbk_mem (j := 17) (k := 96) rfl)) rfl (by decide +kernel) (Nat.le_of_ble_eq_true rfl) (Nat.le_of_ble_eq_true rfl) rfl (by decide) (lk_Model_putLabel hγ this (mI M37 152 i38 v5.toNatClampNeg) _ M37 h) (fun _ _ => Qv_r) (fun v M40 hp => Qv_k (R := fun st => E γ k_Model_putMethod 8 448 [some (vr (some (11, this))), none, none, none, some (vi v4), some (vi v5), none, none] st M40 (Qv Q)) hp (fun h => ?_))
      refine E_blk (lv' := [some (vr (some (11, this))), none, none, none, some (vi v4), some (vi v5), none, none]) (st' := [vi (32 : Int32), vr (some (11, this))]) (M1 := M40) (pc' := 451) (tb_Model hγ) [.aload_n 0, .bipush 32] (by decide +kernel) rfl rfl trivial ?_
      refine E_callV (κ' := k_Model_put) (As := [vi (32 : Int32)]) (st := []) mv_Model_put (Or.inl (tbk_mem (j := 17) (k := 43) rfl)) rfl (by decide +kernel) (Nat.le_of_ble_eq_true rfl) (Nat.le_of_ble_eq_true rfl) rfl (by decide) (lk_Model_put hγ this (32 : Int32) _ M40 h) (fun _ _ => Qv_r) (fun v M41 hp => Qv_k (R := fun st => E γ k_Model_putMethod 8 454 [some (vr (some (11, this))), none, none, none, some (vi v4), some (vi v5), none, none] st M41 (Qv Q)) hp (fun h => ?_))
      refine E_blk (lv' := [some (vr (some (11, this))), none, none, none, some (vi v4), some (vi v5), none, none]) (st' := [vr (mR M41 11 this 45), vr (some (11, this))]) (M1 := M41) (pc' := 459) (tb_Model hγ) [.aload_n 0, .aload_n 0, .getfield 522] (by decide +kernel) rfl rfl trivial ?_
      obtain ⟨i42, ei42, h⟩ := h
      rw [ei42]
      obtain ⟨c43, h⟩ := h
      refine E_blk (lv' := [some (vr (some (11, this))), none, none, none, some (vi v4), some (vi v5), none, none]) (st' := [vi (mI M41 153 i42 v5.toNatClampNeg), vr (some (11, this))]) (M1 := M41) (pc' := 465) (tb_Model hγ) [.getfield 716, .iload 5, .iaload] (by decide +kernel) rfl rfl ⟨c43, trivial⟩ ?_
      refine E_callV (κ' := k_Model_putLabel) (As := [vi (mI M41 153 i42 v5.toNatClampNeg)]) (st := []) mv_Model_putLabel (Or.inl (tbk_mem (j := 17) (k := 96) rfl)) rfl (by decide +kernel) (Nat.le_of_ble_eq_true rfl) (Nat.le_of_ble_eq_true rfl) rfl (by decide) (lk_Model_putLabel hγ this (mI M41 153 i42 v5.toNatClampNeg) _ M41 h) (fun _ _ => Qv_r) (fun v M44 hp => Qv_k (R := fun st => E γ k_Model_putMethod 8 468 [some (vr (some (11, this))), none, none, none, some (vi v4), some (vi v5), none, none] st M44 (Qv Q)) hp (fun h => ?_))
      refine E_blk (lv' := [some (vr (some (11, this))), none, none, none, some (vi v4), some (vi v5), none, none]) (st' := [vi (32 : Int32), vr (some (11, this))]) (M1 := M44) (pc' := 471) (tb_Model hγ) [.aload_n 0, .bipush 32] (by decide +kernel) rfl rfl trivial ?_
      refine E_callV (κ' := k_Model_put) (As := [vi (32 : Int32)]) (st := []) mv_Model_put (Or.inl (tbk_mem (j := 17) (k := 43) rfl)) rfl (by decide +kernel) (Nat.le_of_ble_eq_true rfl) (Nat.le_of_ble_eq_true rfl) rfl (by decide) (lk_Model_put hγ this (32 : Int32) _ M44 h) (fun _ _ => Qv_r) (fun v M45 hp => Qv_k (R := fun st => E γ k_Model_putMethod 8 474 [some (vr (some (11, this))), none, none, none, some (vi v4), some (vi v5), none, none] st M45 (Qv Q)) hp (fun h => ?_))
      refine E_blk (lv' := [some (vr (some (11, this))), none, none, none, some (vi v4), some (vi v5), none, none]) (st' := [vr (mR M45 11 this 45), vr (some (11, this))]) (M1 := M45) (pc' := 479) (tb_Model hγ) [.aload_n 0, .aload_n 0, .getfield 522] (by decide +kernel) rfl rfl trivial ?_
      obtain ⟨i46, ei46, h⟩ := h
      rw [ei46]
      obtain ⟨c47, h⟩ := h
      refine E_blk (lv' := [some (vr (some (11, this))), none, none, none, some (vi v4), some (vi v5), none, none]) (st' := [vi (mI M45 154 i46 v5.toNatClampNeg), vr (some (11, this))]) (M1 := M45) (pc' := 485) (tb_Model hγ) [.getfield 719, .iload 5, .iaload] (by decide +kernel) rfl rfl ⟨c47, trivial⟩ ?_
      refine E_callV (κ' := k_Model_putLabel) (As := [vi (mI M45 154 i46 v5.toNatClampNeg)]) (st := []) mv_Model_putLabel (Or.inl (tbk_mem (j := 17) (k := 96) rfl)) rfl (by decide +kernel) (Nat.le_of_ble_eq_true rfl) (Nat.le_of_ble_eq_true rfl) rfl (by decide) (lk_Model_putLabel hγ this (mI M45 154 i46 v5.toNatClampNeg) _ M45 h) (fun _ _ => Qv_r) (fun v M48 hp => Qv_k (R := fun st => E γ k_Model_putMethod 8 488 [some (vr (some (11, this))), none, none, none, some (vi v4), some (vi v5), none, none] st M48 (Qv Q)) hp (fun h => ?_))
      refine E_blk (lv' := [some (vr (some (11, this))), none, none, none, some (vi v4), some (vi v5), none, none]) (st' := [vi (32 : Int32), vr (some (11, this))]) (M1 := M48) (pc' := 491) (tb_Model hγ) [.aload_n 0, .bipush 32] (by decide +kernel) rfl rfl trivial ?_
      refine E_callV (κ' := k_Model_put) (As := [vi (32 : Int32)]) (st := []) mv_Model_put (Or.inl (tbk_mem (j := 17) (k := 43) rfl)) rfl (by decide +kernel) (Nat.le_of_ble_eq_true rfl) (Nat.le_of_ble_eq_true rfl) rfl (by decide) (lk_Model_put hγ this (32 : Int32) _ M48 h) (fun _ _ => Qv_r) (fun v M49 hp => Qv_k (R := fun st => E γ k_Model_putMethod 8 494 [some (vr (some (11, this))), none, none, none, some (vi v4), some (vi v5), none, none] st M49 (Qv Q)) hp (fun h => ?_))
      refine E_blk (lv' := [some (vr (some (11, this))), none, none, none, some (vi v4), some (vi v5), none, none]) (st' := [vr (mR M49 11 this 45), vr (some (11, this))]) (M1 := M49) (pc' := 499) (tb_Model hγ) [.aload_n 0, .aload_n 0, .getfield 522] (by decide +kernel) rfl rfl trivial ?_
      obtain ⟨i50, ei50, h⟩ := h
      rw [ei50]
      obtain ⟨c51, h⟩ := h
      refine E_blk (lv' := [some (vr (some (11, this))), none, none, none, some (vi v4), some (vi v5), none, none]) (st' := [vi (mI M49 155 i50 v5.toNatClampNeg), vr (some (11, this))]) (M1 := M49) (pc' := 505) (tb_Model hγ) [.getfield 722, .iload 5, .iaload] (by decide +kernel) rfl rfl ⟨c51, trivial⟩ ?_
      refine E_if_ge (off := 10) (tgt := 515) (by decide +kernel) (by decide) (fun b52 => ?_) (fun b52 => ?_)
      · rw [if_pos b52] at h
        refine E_blk (lv' := [some (vr (some (11, this))), none, none, none, some (vi v4), some (vi v5), none, none]) (st' := [vr (mR M49 11 this 45), vr (some (11, this))]) (M1 := M49) (pc' := 519) (tb_Model hγ) [.aload_n 0, .getfield 522] (by decide +kernel) rfl rfl trivial ?_
        obtain ⟨i53, ei53, h⟩ := h
        rw [ei53]
        obtain ⟨c54, h⟩ := h
        refine E_blk (lv' := [some (vr (some (11, this))), none, none, none, some (vi v4), some (vi v5), none, none]) (st' := [vi (mI M49 155 i53 v5.toNatClampNeg), vr (some (11, this))]) (M1 := M49) (pc' := 525) (tb_Model hγ) [.getfield 722, .iload 5, .iaload] (by decide +kernel) rfl rfl ⟨c54, trivial⟩ ?_
        refine E_mask [true, false, false, false, true, true, false, false] rfl ?_
        exact lk_Model_putMethod_j525 hγ this Q (w_Model_putMethod_L420 this Q n) ih v4 v5 (mI M49 155 i53 v5.toNatClampNeg) M49 h
      · rw [if_neg b52] at h
        refine E_blk (lv' := [some (vr (some (11, this))), none, none, none, some (vi v4), some (vi v5), none, none]) (st' := [vi (mI M49 11 this 24), vr (some (11, this))]) (M1 := M49) (pc' := 512) (tb_Model hγ) [.aload_n 0, .getfield 232] (by decide +kernel) rfl rfl trivial ?_
        refine E_goto (off := 13) (tgt := 525) (by decide +kernel) (by decide) ?_
        refine E_mask [true, false, false, false, true, true, false, false] rfl ?_
        exact lk_Model_putMethod_j525 hγ this Q (w_Model_putMethod_L420 this Q n) ih v4 v5 (mI M49 11 this 24) M49 h
set_option maxRecDepth 4096 in
theorem lk_Model_putMethod_j414 {γ : Gm} (hγ : Gk γ) (this : Nat) (Q : Mem → Prop) (v1 : Int32) (v4 : Int32) (M : Mem) (h : w_Model_putMethod_j414 this Q v1 v4 M) : E γ k_Model_putMethod 8 414 [some (vr (some (11, this))), some (vi v1), none, none, some (vi v4), none, none, none] [] M (Qv Q) := by
  unfold w_Model_putMethod_j414 at h
  refine E_blk (lv' := [some (vr (some (11, this))), some (vi v1), none, none, some (vi v4), some (vi ((8 : Int32) * v1)), none, none]) (st' := []) (M1 := M) (pc' := 420) (tb_Model hγ) [.bipush 8, .iload_n 1, .imul, .istore 5] (by decide +kernel) rfl rfl trivial ?_
  obtain ⟨n57, h⟩ := h
  refine E_mask [true, false, false, false, true, true, false, false] rfl ?_
  exact lk_Model_putMethod_L420 hγ this Q n57 v4 ((8 : Int32) * v1) M h
set_option maxRecDepth 4096 in
theorem lk_Model_putMethod_L359 {γ : Gm} (hγ : Gk γ) (this : Nat) (Q : Mem → Prop) : ∀ (n : Nat) (v1 : Int32) (v2 : Int32) (v3 : Int32) (v4 : Int32) (v5 : Int32) (M : Mem), w_Model_putMethod_L359 this Q n v1 v2 v3 v4 v5 M → E γ k_Model_putMethod 8 359 [some (vr (some (11, this))), some (vi v1), some (vi v2), some (vi v3), some (vi v4), some (vi v5), none, none] [] M (Qv Q) := by
  intro n
  induction n with
  | zero => intro v1 v2 v3 v4 v5 M h; exact h.elim
  | succ n ih =>
    intro v1 v2 v3 v4 v5 M h
    unfold w_Model_putMethod_L359 at h
    refine E_blk (lv' := [some (vr (some (11, this))), some (vi v1), some (vi v2), some (vi v3), some (vi v4), some (vi v5), none, none]) (st' := [vi v3, vi v5]) (M1 := M) (pc' := 362) (tb_Model hγ) [.iload 5, .iload_n 3] (by decide +kernel) rfl rfl trivial ?_
    refine E_icmp_ge (off := 19) (tgt := 381) (by decide +kernel) (by decide) (fun b33 => ?_) (fun b33 => ?_)
    · rw [if_pos b33] at h
      obtain ⟨c34, h⟩ := h
      refine E_blk (lv' := [some (vr (some (11, this))), some (vi v1), some (vi v2), some (vi v3), some (vi v4), some (vi v5), none, none]) (st' := [vi (mI M 518 this v3.toNatClampNeg)]) (M1 := M) (pc' := 387) (tb_Model hγ) [.aload_n 0, .getfield 326, .iload_n 3, .baload] (by decide +kernel) rfl rfl ⟨c34, trivial⟩ ?_
      refine E_if_eq (off := 27) (tgt := 414) (by decide +kernel) (by decide) (fun b35 => ?_) (fun b35 => ?_)
      · rw [if_pos b35] at h
        refine E_mask [true, true, false, false, true, false, false, false] rfl ?_
        exact lk_Model_putMethod_j414 hγ this Q v1 v4 M h
      · rw [if_neg b35] at h
        refine E_blk (lv' := [some (vr (some (11, this))), some (vi v1), some (vi v2), some (vi v3), some (vi v4), some (vi v5), none, none]) (st' := [vr (some (11, this))]) (M1 := M) (pc' := 391) (tb_Model hγ) [.aload_n 0] (by decide +kernel) rfl rfl trivial ?_
        refine E_ldcwS (κ := k_Model_putMethod) (pc := 391) (k := 40) hγ.2.2.2 rfl rfl (by decide +kernel) ?_
        refine E_callV (κ' := k_Model_putWord) (As := [vr (some (0, 40))]) (st := []) mv_Model_putWord (Or.inl (tbk_mem (j := 17) (k := 39) rfl)) rfl (by decide +kernel) (Nat.le_of_ble_eq_true rfl) (Nat.le_of_ble_eq_true rfl) rfl (by decide) (lk_Model_putWord hγ this 40 _ M h) (fun _ _ => Qv_r) (fun v M58 hp => Qv_k (R := fun st => E γ k_Model_putMethod 8 397 [some (vr (some (11, this))), some (vi v1), some (vi v2), some (vi v3), some (vi v4), some (vi v5), none, none] st M58 (Qv Q)) hp (fun h => ?_))
        refine E_blk (lv' := [some (vr (some (11, this))), some (vi v1), some (vi v2), some (vi v3), some (vi v4), some (vi v5), none, none]) (st' := [vi v3, vr (some (11, this))]) (M1 := M58) (pc' := 399) (tb_Model hγ) [.aload_n 0, .iload_n 3] (by decide +kernel) rfl rfl trivial ?_
        refine E_callV (κ' := k_Model_putLabel) (As := [vi v3]) (st := []) mv_Model_putLabel (Or.inl (tbk_mem (j := 17) (k := 96) rfl)) rfl (by decide +kernel) (Nat.le_of_ble_eq_true rfl) (Nat.le_of_ble_eq_true rfl) rfl (by decide) (lk_Model_putLabel hγ this v3 _ M58 h) (fun _ _ => Qv_r) (fun v M59 hp => Qv_k (R := fun st => E γ k_Model_putMethod 8 402 [some (vr (some (11, this))), some (vi v1), some (vi v2), some (vi v3), some (vi v4), some (vi v5), none, none] st M59 (Qv Q)) hp (fun h => ?_))
        refine E_blk (lv' := [some (vr (some (11, this))), some (vi v1), some (vi v2), some (vi v3), some (vi v4), some (vi v5), none, none]) (st' := [vi (58 : Int32), vr (some (11, this))]) (M1 := M59) (pc' := 405) (tb_Model hγ) [.aload_n 0, .bipush 58] (by decide +kernel) rfl rfl trivial ?_
        refine E_callV (κ' := k_Model_put) (As := [vi (58 : Int32)]) (st := []) mv_Model_put (Or.inl (tbk_mem (j := 17) (k := 43) rfl)) rfl (by decide +kernel) (Nat.le_of_ble_eq_true rfl) (Nat.le_of_ble_eq_true rfl) rfl (by decide) (lk_Model_put hγ this (58 : Int32) _ M59 h) (fun _ _ => Qv_r) (fun v M60 hp => Qv_k (R := fun st => E γ k_Model_putMethod 8 408 [some (vr (some (11, this))), some (vi v1), some (vi v2), some (vi v3), some (vi v4), some (vi v5), none, none] st M60 (Qv Q)) hp (fun h => ?_))
        refine E_blk (lv' := [some (vr (some (11, this))), some (vi v1), some (vi v2), some (vi v3), some (vi v4), some (vi v5), none, none]) (st' := [vi (10 : Int32), vr (some (11, this))]) (M1 := M60) (pc' := 411) (tb_Model hγ) [.aload_n 0, .bipush 10] (by decide +kernel) rfl rfl trivial ?_
        refine E_callV (κ' := k_Model_put) (As := [vi (10 : Int32)]) (st := []) mv_Model_put (Or.inl (tbk_mem (j := 17) (k := 43) rfl)) rfl (by decide +kernel) (Nat.le_of_ble_eq_true rfl) (Nat.le_of_ble_eq_true rfl) rfl (by decide) (lk_Model_put hγ this (10 : Int32) _ M60 h) (fun _ _ => Qv_r) (fun v M61 hp => Qv_k (R := fun st => E γ k_Model_putMethod 8 414 [some (vr (some (11, this))), some (vi v1), some (vi v2), some (vi v3), some (vi v4), some (vi v5), none, none] st M61 (Qv Q)) hp (fun h => ?_))
        refine E_mask [true, true, false, false, true, false, false, false] rfl ?_
        exact lk_Model_putMethod_j414 hγ this Q v1 v4 M61 h
    · rw [if_neg b33] at h
      refine E_blk (lv' := [some (vr (some (11, this))), some (vi v1), some (vi v2), some (vi v3), some (vi v4), some (vi v5), none, none]) (st' := [vi v5, vi (v2 + v5), vr (some (11, this))]) (M1 := M) (pc' := 372) (tb_Model hγ) [.aload_n 0, .iload_n 2, .iload 5, .iadd, .iload 5] (by decide +kernel) rfl rfl trivial ?_
      refine E_callV (κ' := k_Model_putInstruction) (As := [vi (v2 + v5), vi v5]) (st := []) mv_Model_putInstruction (Or.inl (tbk_mem (j := 17) (k := 85) rfl)) rfl (by decide +kernel) (Nat.le_of_ble_eq_true rfl) (Nat.le_of_ble_eq_true rfl) rfl (by decide) (lk_Model_putInstruction hγ this (v2 + v5) v5 _ M h) (fun _ _ => Qv_r) (fun v M62 hp => Qv_k (R := fun st => E γ k_Model_putMethod 8 375 [some (vr (some (11, this))), some (vi v1), some (vi v2), some (vi v3), some (vi v4), some (vi v5), none, none] st M62 (Qv Q)) hp (fun h => ?_))
      refine E_blk (lv' := [some (vr (some (11, this))), some (vi v1), some (vi v2), some (vi v3), some (vi v4), some (vi (v5 + (1 : Int32))), none, none]) (st' := []) (M1 := M62) (pc' := 378) (tb_Model hγ) [.iinc 5 1] (by decide +kernel) rfl rfl trivial ?_
      refine E_goto (off := -19) (tgt := 359) (by decide +kernel) (by decide) ?_
      refine E_mask [true, true, true, true, true, true, false, false] rfl ?_
      exact ih v1 v2 v3 v4 (v5 + (1 : Int32)) M62 h
set_option maxRecDepth 4096 in
theorem lk_Model_putMethod_L295 {γ : Gm} (hγ : Gk γ) (this : Nat) (Q : Mem → Prop) : ∀ (n : Nat) (v1 : Int32) (v2 : Int32) (v3 : Int32) (v4 : Int32) (v5 : Int32) (M : Mem), w_Model_putMethod_L295 this Q n v1 v2 v3 v4 v5 M → E γ k_Model_putMethod 8 295 [some (vr (some (11, this))), some (vi v1), some (vi v2), some (vi v3), some (vi v4), some (vi v5), none, none] [] M (Qv Q) := by
  intro n
  induction n with
  | zero => intro v1 v2 v3 v4 v5 M h; exact h.elim
  | succ n ih =>
    intro v1 v2 v3 v4 v5 M h
    unfold w_Model_putMethod_L295 at h
    refine E_blk (lv' := [some (vr (some (11, this))), some (vi v1), some (vi v2), some (vi v3), some (vi v4), some (vi v5), none, none]) (st' := [vi v4, vi v5]) (M1 := M) (pc' := 299) (tb_Model hγ) [.iload 5, .iload 4] (by decide +kernel) rfl rfl trivial ?_
    refine E_icmp_ge (off := 57) (tgt := 356) (by decide +kernel) (by decide) (fun b32 => ?_) (fun b32 => ?_)
    · rw [if_pos b32] at h
      refine E_blk (lv' := [some (vr (some (11, this))), some (vi v1), some (vi v2), some (vi v3), some (vi v4), some (vi (0 : Int32)), none, none]) (st' := []) (M1 := M) (pc' := 359) (tb_Model hγ) [.iconst 0, .istore 5] (by decide +kernel) rfl rfl trivial ?_
      obtain ⟨n63, h⟩ := h
      refine E_mask [true, true, true, true, true, true, false, false] rfl ?_
      exact lk_Model_putMethod_L359 hγ this Q n63 v1 v2 v3 v4 (0 : Int32) M h
    · rw [if_neg b32] at h
      refine E_blk (lv' := [some (vr (some (11, this))), some (vi v1), some (vi v2), some (vi v3), some (vi v4), some (vi v5), none, none]) (st' := [vr (mR M 11 this 45), vr (some (518, this))]) (M1 := M) (pc' := 310) (tb_Model hγ) [.aload_n 0, .getfield 326, .aload_n 0, .getfield 522] (by decide +kernel) rfl rfl trivial ?_
      obtain ⟨i64, ei64, h⟩ := h
      rw [ei64]
      obtain ⟨c65, c66, h⟩ := h
      refine E_blk (lv' := [some (vr (some (11, this))), some (vi v1), some (vi v2), some (vi v3), some (vi v4), some (vi v5), none, none]) (st' := []) (M1 := (sI M 518 this (mI M 152 i64 v5.toNatClampNeg).toNatClampNeg ((1 : Int32) &&& 1))) (pc' := 318) (tb_Model hγ) [.getfield 713, .iload 5, .iaload, .iconst 1, .bastore] (by decide +kernel) rfl rfl ⟨c65, c66, trivial⟩ ?_
      obtain ⟨M67, eM67, h⟩ := h
      rw [← eM67]
      refine E_blk (lv' := [some (vr (some (11, this))), some (vi v1), some (vi v2), some (vi v3), some (vi v4), some (vi v5), none, none]) (st' := [vr (mR M67 11 this 45), vr (some (518, this))]) (M1 := M67) (pc' := 326) (tb_Model hγ) [.aload_n 0, .getfield 326, .aload_n 0, .getfield 522] (by decide +kernel) rfl rfl trivial ?_
      obtain ⟨i68, ei68, h⟩ := h
      rw [ei68]
      obtain ⟨c69, c70, h⟩ := h
      refine E_blk (lv' := [some (vr (some (11, this))), some (vi v1), some (vi v2), some (vi v3), some (vi v4), some (vi v5), none, none]) (st' := []) (M1 := (sI M67 518 this (mI M67 153 i68 v5.toNatClampNeg).toNatClampNeg ((1 : Int32) &&& 1))) (pc' := 334) (tb_Model hγ) [.getfield 716, .iload 5, .iaload, .iconst 1, .bastore] (by decide +kernel) rfl rfl ⟨c69, c70, trivial⟩ ?_
      obtain ⟨M71, eM71, h⟩ := h
      rw [← eM71]
      refine E_blk (lv' := [some (vr (some (11, this))), some (vi v1), some (vi v2), some (vi v3), some (vi v4), some (vi v5), none, none]) (st' := [vr (mR M71 11 this 45), vr (some (518, this))]) (M1 := M71) (pc' := 342) (tb_Model hγ) [.aload_n 0, .getfield 326, .aload_n 0, .getfield 522] (by decide +kernel) rfl rfl trivial ?_
      obtain ⟨i72, ei72, h⟩ := h
      rw [ei72]
      obtain ⟨c73, c74, h⟩ := h
      refine E_blk (lv' := [some (vr (some (11, this))), some (vi v1), some (vi v2), some (vi v3), some (vi v4), some (vi v5), none, none]) (st' := []) (M1 := (sI M71 518 this (mI M71 154 i72 v5.toNatClampNeg).toNatClampNeg ((1 : Int32) &&& 1))) (pc' := 350) (tb_Model hγ) [.getfield 719, .iload 5, .iaload, .iconst 1, .bastore] (by decide +kernel) rfl rfl ⟨c73, c74, trivial⟩ ?_
      obtain ⟨M75, eM75, h⟩ := h
      rw [← eM75]
      refine E_blk (lv' := [some (vr (some (11, this))), some (vi v1), some (vi v2), some (vi v3), some (vi v4), some (vi (v5 + (1 : Int32))), none, none]) (st' := []) (M1 := M75) (pc' := 353) (tb_Model hγ) [.iinc 5 1] (by decide +kernel) rfl rfl trivial ?_
      refine E_goto (off := -58) (tgt := 295) (by decide +kernel) (by decide) ?_
      refine E_mask [true, true, true, true, true, true, false, false] rfl ?_
      exact ih v1 v2 v3 v4 (v5 + (1 : Int32)) M75 h
set_option maxRecDepth 4096 in
theorem lk_Model_putMethod_j283 {γ : Gm} (hγ : Gk γ) (this : Nat) (Q : Mem → Prop) (k175 : Int32 → Int32 → Int32 → Int32 → Int32 → Mem → Prop) (hk175 : ∀ (v1 : Int32) (v2 : Int32) (v3 : Int32) (v4 : Int32) (v5 : Int32) (M : Mem), k175 v1 v2 v3 v4 v5 M → E γ k_Model_putMethod 8 175 [some (vr (some (11, this))), some (vi v1), some (vi v2), some (vi v3), some (vi v4), some (vi v5), none, none] [] M (Qv Q)) (v1 : Int32) (v2 : Int32) (v3 : Int32) (v4 : Int32) (v5 : Int32) (M : Mem) (h : w_Model_putMethod_j283 this Q k175 v1 v2 v3 v4 v5 M) : E γ k_Model_putMethod 8 283 [some (vr (some (11, this))), some (vi v1), some (vi v2), some (vi v3), some (vi v4), some (vi v5), none, none] [] M (Qv Q) := by
  unfold w_Model_putMethod_j283 at h
  refine E_blk (lv' := [some (vr (some (11, this))), some (vi v1), some (vi v2), some (vi v3), some (vi v4), some (vi (v5 + (1 : Int32))), none, none]) (st' := []) (M1 := M) (pc' := 286) (tb_Model hγ) [.iinc 5 1] (by decide +kernel) rfl rfl trivial ?_
  refine E_goto (off := -111) (tgt := 175) (by decide +kernel) (by decide) ?_
  refine E_mask [true, true, true, true, true, true, false, false] rfl ?_
  exact hk175 v1 v2 v3 v4 (v5 + (1 : Int32)) M h
set_option maxRecDepth 4096 in
theorem lk_Model_putMethod_L228 {γ : Gm} (hγ : Gk γ) (this : Nat) (Q : Mem → Prop) (k175 : Int32 → Int32 → Int32 → Int32 → Int32 → Mem → Prop) (hk175 : ∀ (v1 : Int32) (v2 : Int32) (v3 : Int32) (v4 : Int32) (v5 : Int32) (M : Mem), k175 v1 v2 v3 v4 v5 M → E γ k_Model_putMethod 8 175 [some (vr (some (11, this))), some (vi v1), some (vi v2), some (vi v3), some (vi v4), some (vi v5), none, none] [] M (Qv Q)) : ∀ (n : Nat) (v1 : Int32) (v2 : Int32) (v3 : Int32) (v4 : Int32) (v5 : Int32) (v6 : Int32) (v7 : Int32) (M : Mem), w_Model_putMethod_L228 this Q k175 n v1 v2 v3 v4 v5 v6 v7 M → E γ k_Model_putMethod 8 228 [some (vr (some (11, this))), some (vi v1), some (vi v2), some (vi v3), some (vi v4), some (vi v5), some (vi v6), some (vi v7)] [] M (Qv Q) := by
  intro n
  induction n with
  | zero => intro v1 v2 v3 v4 v5 v6 v7 M h; exact h.elim
  | succ n ih =>
    intro v1 v2 v3 v4 v5 v6 v7 M h
    unfold w_Model_putMethod_L228 at h
    refine E_blk (lv' := [some (vr (some (11, this))), some (vi v1), some (vi v2), some (vi v3), some (vi v4), some (vi v5), some (vi v6), some (vi v7)]) (st' := [vi (40 : Int32), vi v6]) (M1 := M) (pc' := 232) (tb_Model hγ) [.iload 6, .bipush 40] (by decide +kernel) rfl rfl trivial ?_
    refine E_icmp_ne (off := 51) (tgt := 283) (by decide +kernel) (by decide) (fun b81 => ?_) (fun b81 => ?_)
    · rw [if_pos b81] at h
      refine E_blk (lv' := [some (vr (some (11, this))), some (vi v1), some (vi v2), some (vi v3), some (vi v4), some (vi v5), some (vi v6), some (vi v7)]) (st' := [vr (mR M 11 this 45), vi v7]) (M1 := M) (pc' := 241) (tb_Model hγ) [.iload 7, .aload_n 0, .getfield 522] (by decide +kernel) rfl rfl trivial ?_
      obtain ⟨i82, ei82, h⟩ := h
      rw [ei82]
      refine E_blk (lv' := [some (vr (some (11, this))), some (vi v1), some (vi v2), some (vi v3), some (vi v4), some (vi v5), some (vi v6), some (vi v7)]) (st' := [vr (mR M 12 i82 33), vi v7]) (M1 := M) (pc' := 244) (tb_Model hγ) [.getfield 683] (by decide +kernel) rfl rfl trivial ?_
      obtain ⟨i83, ei83, h⟩ := h
      rw [ei83]
      obtain ⟨c84, h⟩ := h
      refine E_blk (lv' := [some (vr (some (11, this))), some (vi v1), some (vi v2), some (vi v3), some (vi v4), some (vi v5), some (vi v6), some (vi v7)]) (st' := [vi (mI M 300 i83 v5.toNatClampNeg), vi v7]) (M1 := M) (pc' := 247) (tb_Model hγ) [.iload 5, .iaload] (by decide +kernel) rfl rfl ⟨c84, trivial⟩ ?_
      refine E_icmp_ge (off := 36) (tgt := 283) (by decide +kernel) (by decide) (fun b85 => ?_) (fun b85 => ?_)
      · rw [if_pos b85] at h
        refine E_mask [true, true, true, true, true, true, false, false] rfl ?_
        exact lk_Model_putMethod_j283 hγ this Q k175 hk175 v1 v2 v3 v4 v5 M h
      · rw [if_neg b85] at h
        refine E_blk (lv' := [some (vr (some (11, this))), some (vi v1), some (vi v2), some (vi v3), some (vi v4), some (vi v5), some (vi v6), some (vi v7)]) (st' := [vr (mR M 11 this 45), vr (some (518, this))]) (M1 := M) (pc' := 258) (tb_Model hγ) [.aload_n 0, .getfield 326, .aload_n 0, .getfield 522] (by decide +kernel) rfl rfl trivial ?_
        obtain ⟨i86, ei86, h⟩ := h
        rw [ei86]
        refine E_blk (lv' := [some (vr (some (11, this))), some (vi v1), some (vi v2), some (vi v3), some (vi v4), some (vi v5), some (vi v6), some (vi v7)]) (st' := [vr (mR M 12 i86 36), vr (some (518, this))]) (M1 := M) (pc' := 261) (tb_Model hγ) [.getfield 689] (by decide +kernel) rfl rfl trivial ?_
        obtain ⟨i87, ei87, h⟩ := h
        rw [ei87]
        refine E_blk (lv' := [some (vr (some (11, this))), some (vi v1), some (vi v2), some (vi v3), some (vi v4), some (vi v5), some (vi v6), some (vi v7)]) (st' := [vr (mR M 11 this 45), vr (some (300, i87)), vr (some (518, this))]) (M1 := M) (pc' := 265) (tb_Model hγ) [.aload_n 0, .getfield 522] (by decide +kernel) rfl rfl trivial ?_
        obtain ⟨i88, ei88, h⟩ := h
        rw [ei88]
        refine E_blk (lv' := [some (vr (some (11, this))), some (vi v1), some (vi v2), some (vi v3), some (vi v4), some (vi v5), some (vi v6), some (vi v7)]) (st' := [vr (mR M 12 i88 32), vr (some (300, i87)), vr (some (518, this))]) (M1 := M) (pc' := 268) (tb_Model hγ) [.getfield 680] (by decide +kernel) rfl rfl trivial ?_
        obtain ⟨i89, ei89, h⟩ := h
        rw [ei89]
        obtain ⟨c90, c91, c92, h⟩ := h
        refine E_blk (lv' := [some (vr (some (11, this))), some (vi v1), some (vi v2), some (vi v3), some (vi v4), some (vi v5), some (vi v6), some (vi v7)]) (st' := []) (M1 := (sI M 518 this (mI M 300 i87 ((mI M 300 i89 v5.toNatClampNeg) + v7).toNatClampNeg).toNatClampNeg ((1 : Int32) &&& 1))) (pc' := 277) (tb_Model hγ) [.iload 5, .iaload, .iload 7, .iadd, .iaload, .iconst 1, .bastore] (by decide +kernel) rfl rfl ⟨c90, c91, c92, trivial⟩ ?_
        obtain ⟨M93, eM93, h⟩ := h
        rw [← eM93]
        refine E_blk (lv' := [some (vr (some (11, this))), some (vi v1), some (vi v2), some (vi v3), some (vi v4), some (vi v5), some (vi v6), some (vi (v7 + (1 : Int32)))]) (st' := []) (M1 := M93) (pc' := 280) (tb_Model hγ) [.iinc 7 1] (by decide +kernel) rfl rfl trivial ?_
        refine E_goto (off := -52) (tgt := 228) (by decide +kernel) (by decide) ?_
        refine E_mask [true, true, true, true, true, true, true, true] rfl ?_
        exact ih v1 v2 v3 v4 v5 v6 (v7 + (1 : Int32)) M93 h
    · rw [if_neg b81] at h
      refine E_mask [true, true, true, true, true, true, false, false] rfl ?_
      exact lk_Model_putMethod_j283 hγ this Q k175 hk175 v1 v2 v3 v4 v5 M h
set_option maxRecDepth 4096 in
theorem lk_Model_putMethod_j225 {γ : Gm} (hγ : Gk γ) (this : Nat) (Q : Mem → Prop) (k175 : Int32 → Int32 → Int32 → Int32 → Int32 → Mem → Prop) (hk175 : ∀ (v1 : Int32) (v2 : Int32) (v3 : Int32) (v4 : Int32) (v5 : Int32) (M : Mem), k175 v1 v2 v3 v4 v5 M → E γ k_Model_putMethod 8 175 [some (vr (some (11, this))), some (vi v1), some (vi v2), some (vi v3), some (vi v4), some (vi v5), none, none] [] M (Qv Q)) (v1 : Int32) (v2 : Int32) (v3 : Int32) (v4 : Int32) (v5 : Int32) (v6 : Int32) (M : Mem) (h : w_Model_putMethod_j225 this Q k175 v1 v2 v3 v4 v5 v6 M) : E γ k_Model_putMethod 8 225 [some (vr (some (11, this))), some (vi v1), some (vi v2), some (vi v3), some (vi v4), some (vi v5), some (vi v6), none] [] M (Qv Q) := by
  unfold w_Model_putMethod_j225 at h
  refine E_blk (lv' := [some (vr (some (11, this))), some (vi v1), some (vi v2), some (vi v3), some (vi v4), some (vi v5), some (vi v6), some (vi (0 : Int32))]) (st' := []) (M1 := M) (pc' := 228) (tb_Model hγ) [.iconst 0, .istore 7] (by decide +kernel) rfl rfl trivial ?_
  obtain ⟨n94, h⟩ := h
  refine E_mask [true, true, true, true, true, true, true, true] rfl ?_
  exact lk_Model_putMethod_L228 hγ this Q k175 hk175 n94 v1 v2 v3 v4 v5 v6 (0 : Int32) M h
set_option maxRecDepth 4096 in
theorem lk_Model_putMethod_L175 {γ : Gm} (hγ : Gk γ) (this : Nat) (Q : Mem → Prop) : ∀ (n : Nat) (v1 : Int32) (v2 : Int32) (v3 : Int32) (v4 : Int32) (v5 : Int32) (M : Mem), w_Model_putMethod_L175 this Q n v1 v2 v3 v4 v5 M → E γ k_Model_putMethod 8 175 [some (vr (some (11, this))), some (vi v1), some (vi v2), some (vi v3), some (vi v4), some (vi v5), none, none] [] M (Qv Q) := by
  intro n
  induction n with
  | zero => intro v1 v2 v3 v4 v5 M h; exact h.elim
  | succ n ih =>
    intro v1 v2 v3 v4 v5 M h
    unfold w_Model_putMethod_L175 at h
    refine E_blk (lv' := [some (vr (some (11, this))), some (vi v1), some (vi v2), some (vi v3), some (vi v4), some (vi v5), none, none]) (st' := [vi (v2 + v3), vi v5]) (M1 := M) (pc' := 180) (tb_Model hγ) [.iload 5, .iload_n 2, .iload_n 3, .iadd] (by decide +kernel) rfl rfl trivial ?_
    refine E_icmp_ge (off := 109) (tgt := 289) (by decide +kernel) (by decide) (fun b31 => ?_) (fun b31 => ?_)
    · rw [if_pos b31] at h
      refine E_blk (lv' := [some (vr (some (11, this))), some (vi v1), some (vi v2), some (vi v3), some (vi v4), some (vi ((8 : Int32) * v1)), none, none]) (st' := []) (M1 := M) (pc' := 295) (tb_Model hγ) [.bipush 8, .iload_n 1, .imul, .istore 5] (by decide +kernel) rfl rfl trivial ?_
      obtain ⟨n76, h⟩ := h
      refine E_mask [true, true, true, true, true, true, false, false] rfl ?_
      exact lk_Model_putMethod_L295 hγ this Q n76 v1 v2 v3 v4 ((8 : Int32) * v1) M h
    · rw [if_neg b31] at h
      refine E_blk (lv' := [some (vr (some (11, this))), some (vi v1), some (vi v2), some (vi v3), some (vi v4), some (vi v5), none, none]) (st' := [vr (mR M 11 this 45)]) (M1 := M) (pc' := 187) (tb_Model hγ) [.aload_n 0, .getfield 522] (by decide +kernel) rfl rfl trivial ?_
      obtain ⟨i77, ei77, h⟩ := h
      rw [ei77]
      refine E_blk (lv' := [some (vr (some (11, this))), some (vi v1), some (vi v2), some (vi v3), some (vi v4), some (vi v5), none, none]) (st' := [vr (mR M 12 i77 30)]) (M1 := M) (pc' := 190) (tb_Model hγ) [.getfield 674] (by decide +kernel) rfl rfl trivial ?_
      obtain ⟨i78, ei78, h⟩ := h
      rw [ei78]
      obtain ⟨c79, h⟩ := h
      refine E_blk (lv' := [some (vr (some (11, this))), some (vi v1), some (vi v2), some (vi v3), some (vi v4), some (vi v5), some (vi (mI M 401 i78 v5.toNatClampNeg)), none]) (st' := [vi (23 : Int32), vi (mI M 401 i78 v5.toNatClampNeg)]) (M1 := M) (pc' := 199) (tb_Model hγ) [.iload 5, .baload, .istore 6, .iload 6, .bipush 23] (by decide +kernel) rfl rfl ⟨c79, trivial⟩ ?_
      refine E_icmp_lt (off := 26) (tgt := 225) (by decide +kernel) (by decide) (fun b80 => ?_) (fun b80 => ?_)
      · rw [if_pos b80] at h
        refine E_mask [true, true, true, true, true, true, true, false] rfl ?_
        exact lk_Model_putMethod_j225 hγ this Q (w_Model_putMethod_L175 this Q n) ih v1 v2 v3 v4 v5 (mI M 401 i78 v5.toNatClampNeg) M h
      · rw [if_neg b80] at h
        refine E_blk (lv' := [some (vr (some (11, this))), some (vi v1), some (vi v2), some (vi v3), some (vi v4), some (vi v5), some (vi (mI M 401 i78 v5.toNatClampNeg)), none]) (st' := [vi (39 : Int32), vi (mI M 401 i78 v5.toNatClampNeg)]) (M1 := M) (pc' := 206) (tb_Model hγ) [.iload 6, .bipush 39] (by decide +kernel) rfl rfl trivial ?_
        refine E_icmp_gt (off := 19) (tgt := 225) (by decide +kernel) (by decide) (fun b95 => ?_) (fun b95 => ?_)
        · rw [if_pos b95] at h
          refine E_mask [true, true, true, true, true, true, true, false] rfl ?_
          exact lk_Model_putMethod_j225 hγ this Q (w_Model_putMethod_L175 this Q n) ih v1 v2 v3 v4 v5 (mI M 401 i78 v5.toNatClampNeg) M h
        · rw [if_neg b95] at h
          refine E_blk (lv' := [some (vr (some (11, this))), some (vi v1), some (vi v2), some (vi v3), some (vi v4), some (vi v5), some (vi (mI M 401 i78 v5.toNatClampNeg)), none]) (st' := [vr (mR M 11 this 45), vr (some (518, this))]) (M1 := M) (pc' := 217) (tb_Model hγ) [.aload_n 0, .getfield 326, .aload_n 0, .getfield 522] (by decide +kernel) rfl rfl trivial ?_
          obtain ⟨i96, ei96, h⟩ := h
          rw [ei96]
          refine E_blk (lv' := [some (vr (some (11, this))), some (vi v1), some (vi v2), some (vi v3), some (vi v4), some (vi v5), some (vi (mI M 401 i78 v5.toNatClampNeg)), none]) (st' := [vr (mR M 12 i96 31), vr (some (518, this))]) (M1 := M) (pc' := 220) (tb_Model hγ) [.getfield 677] (by decide +kernel) rfl rfl trivial ?_
          obtain ⟨i97, ei97, h⟩ := h
          rw [ei97]
          obtain ⟨c98, c99, h⟩ := h
          refine E_blk (lv' := [some (vr (some (11, this))), some (vi v1), some (vi v2), some (vi v3), some (vi v4), some (vi v5), some (vi (mI M 401 i78 v5.toNatClampNeg)), none]) (st' := []) (M1 := (sI M 518 this (mI M 300 i97 v5.toNatClampNeg).toNatClampNeg ((1 : Int32) &&& 1))) (pc' := 225) (tb_Model hγ) [.iload 5, .iaload, .iconst 1, .bastore] (by decide +kernel) rfl rfl ⟨c98, c99, trivial⟩ ?_
          obtain ⟨M100, eM100, h⟩ := h
          rw [← eM100]
          refine E_mask [true, true, true, true, true, true, true, false] rfl ?_
          exact lk_Model_putMethod_j225 hγ this Q (w_Model_putMethod_L175 this Q n) ih v1 v2 v3 v4 v5 (mI M 401 i78 v5.toNatClampNeg) M100 h
set_option maxRecDepth 4096 in
theorem lk_Model_putMethod_L152 {γ : Gm} (hγ : Gk γ) (this : Nat) (Q : Mem → Prop) : ∀ (n : Nat) (v1 : Int32) (v2 : Int32) (v3 : Int32) (v4 : Int32) (v5 : Int32) (M : Mem), w_Model_putMethod_L152 this Q n v1 v2 v3 v4 v5 M → E γ k_Model_putMethod 8 152 [some (vr (some (11, this))), some (vi v1), some (vi v2), some (vi v3), some (vi v4), some (vi v5), none, none] [] M (Qv Q) := by
  intro n
  induction n with
  | zero => intro v1 v2 v3 v4 v5 M h; exact h.elim
  | succ n ih =>
    intro v1 v2 v3 v4 v5 M h
    unfold w_Model_putMethod_L152 at h
    refine E_blk (lv' := [some (vr (some (11, this))), some (vi v1), some (vi v2), some (vi v3), some (vi v4), some (vi v5), none, none]) (st' := [vi v3, vi v5]) (M1 := M) (pc' := 155) (tb_Model hγ) [.iload 5, .iload_n 3] (by decide +kernel) rfl rfl trivial ?_
    refine E_icmp_gt (off := 17) (tgt := 172) (by decide +kernel) (by decide) (fun b30 => ?_) (fun b30 => ?_)
    · rw [if_pos b30] at h
      refine E_blk (lv' := [some (vr (some (11, this))), some (vi v1), some (vi v2), some (vi v3), some (vi v4), some (vi v2), none, none]) (st' := []) (M1 := M) (pc' := 175) (tb_Model hγ) [.iload_n 2, .istore 5] (by decide +kernel) rfl rfl trivial ?_
      obtain ⟨n101, h⟩ := h
      refine E_mask [true, true, true, true, true, true, false, false] rfl ?_
      exact lk_Model_putMethod_L175 hγ this Q n101 v1 v2 v3 v4 v2 M h
    · rw [if_neg b30] at h
      obtain ⟨c102, h⟩ := h
      refine E_blk (lv' := [some (vr (some (11, this))), some (vi v1), some (vi v2), some (vi v3), some (vi v4), some (vi (v5 + (1 : Int32))), none, none]) (st' := []) (M1 := (sI M 518 this v5.toNatClampNeg ((0 : Int32) &&& 1))) (pc' := 169) (tb_Model hγ) [.aload_n 0, .getfield 326, .iload 5, .iconst 0, .bastore, .iinc 5 1] (by decide +kernel) rfl rfl ⟨c102, trivial⟩ ?_
      refine E_goto (off := -17) (tgt := 152) (by decide +kernel) (by decide) ?_
      refine E_mask [true, true, true, true, true, true, false, false] rfl ?_
      exact ih v1 v2 v3 v4 (v5 + (1 : Int32)) (sI M 518 this v5.toNatClampNeg ((0 : Int32) &&& 1)) h
set_option maxRecDepth 4096 in
theorem lk_Model_putMethod {γ : Gm} (hγ : Gk γ) (this : Nat) (a1 : Int32) (Q : Mem → Prop) (M : Mem) (h : w_Model_putMethod this a1 Q M) : E γ k_Model_putMethod 8 0 [some (vr (some (11, this))), some (vi a1), none, none, none, none, none, none] [] M (Qv Q) := by
  unfold w_Model_putMethod at h
  refine E_blk (lv' := [some (vr (some (11, this))), some (vi a1), none, none, none, none, none, none]) (st' := [vr (some (11, this))]) (M1 := M) (pc' := 1) (tb_Model hγ) [.aload_n 0] (by decide +kernel) rfl rfl trivial ?_
  refine E_ldcwS (κ := k_Model_putMethod) (pc := 1) (k := 34) hγ.2.2.2 rfl rfl (by decide +kernel) ?_
  refine E_callV (κ' := k_Model_putWord) (As := [vr (some (0, 34))]) (st := []) mv_Model_putWord (Or.inl (tbk_mem (j := 17) (k := 39) rfl)) rfl (by decide +kernel) (Nat.le_of_ble_eq_true rfl) (Nat.le_of_ble_eq_true rfl) rfl (by decide) (lk_Model_putWord hγ this 34 _ M h) (fun _ _ => Qv_r) (fun v M1 hp => Qv_k (R := fun st => E γ k_Model_putMethod 8 7 [some (vr (some (11, this))), some (vi a1), none, none, none, none, none, none] st M1 (Qv Q)) hp (fun h => ?_))
  refine E_blk (lv' := [some (vr (some (11, this))), some (vi a1), none, none, none, none, none, none]) (st' := [vr (mR M1 11 this 45), vr (some (11, this))]) (M1 := M1) (pc' := 12) (tb_Model hγ) [.aload_n 0, .aload_n 0, .getfield 522] (by decide +kernel) rfl rfl trivial ?_
  obtain ⟨i2, ei2, h⟩ := h
  rw [ei2]
  obtain ⟨c3, h⟩ := h
  refine E_blk (lv' := [some (vr (some (11, this))), some (vi a1), none, none, none, none, none, none]) (st' := [vi (mI M1 146 i2 a1.toNatClampNeg), vr (some (11, this))]) (M1 := M1) (pc' := 17) (tb_Model hγ) [.getfield 453, .iload_n 1, .iaload] (by decide +kernel) rfl rfl ⟨c3, trivial⟩ ?_
  refine E_callV (κ' := k_Model_putFlags) (As := [vi (mI M1 146 i2 a1.toNatClampNeg)]) (st := []) mv_Model_putFlags (Or.inl (tbk_mem (j := 17) (k := 57) rfl)) rfl (by decide +kernel) (Nat.le_of_ble_eq_true rfl) (Nat.le_of_ble_eq_true rfl) rfl (by decide) (lk_Model_putFlags hγ this (mI M1 146 i2 a1.toNatClampNeg) _ M1 h) (fun _ _ => Qv_r) (fun v M4 hp => Qv_k (R := fun st => E γ k_Model_putMethod 8 20 [some (vr (some (11, this))), some (vi a1), none, none, none, none, none, none] st M4 (Qv Q)) hp (fun h => ?_))
  refine E_blk (lv' := [some (vr (some (11, this))), some (vi a1), none, none, none, none, none, none]) (st' := [vr (mR M4 11 this 45), vr (some (11, this))]) (M1 := M4) (pc' := 25) (tb_Model hγ) [.aload_n 0, .aload_n 0, .getfield 522] (by decide +kernel) rfl rfl trivial ?_
  obtain ⟨i5, ei5, h⟩ := h
  rw [ei5]
  obtain ⟨c6, h⟩ := h
  refine E_blk (lv' := [some (vr (some (11, this))), some (vi a1), none, none, none, none, none, none]) (st' := [vi (mI M4 144 i5 a1.toNatClampNeg), vr (some (11, this))]) (M1 := M4) (pc' := 30) (tb_Model hγ) [.getfield 447, .iload_n 1, .iaload] (by decide +kernel) rfl rfl ⟨c6, trivial⟩ ?_
  refine E_callV (κ' := k_Model_putName) (As := [vi (mI M4 144 i5 a1.toNatClampNeg)]) (st := []) mv_Model_putName (Or.inl (tbk_mem (j := 17) (k := 50) rfl)) rfl (by decide +kernel) (Nat.le_of_ble_eq_true rfl) (Nat.le_of_ble_eq_true rfl) rfl (by decide) (lk_Model_putName hγ this (mI M4 144 i5 a1.toNatClampNeg) _ M4 h) (fun _ _ => Qv_r) (fun v M7 hp => Qv_k (R := fun st => E γ k_Model_putMethod 8 33 [some (vr (some (11, this))), some (vi a1), none, none, none, none, none, none] st M7 (Qv Q)) hp (fun h => ?_))
  refine E_blk (lv' := [some (vr (some (11, this))), some (vi a1), none, none, none, none, none, none]) (st' := [vr (mR M7 11 this 45), vr (some (11, this))]) (M1 := M7) (pc' := 38) (tb_Model hγ) [.aload_n 0, .aload_n 0, .getfield 522] (by decide +kernel) rfl rfl trivial ?_
  obtain ⟨i8, ei8, h⟩ := h
  rw [ei8]
  obtain ⟨c9, h⟩ := h
  refine E_blk (lv' := [some (vr (some (11, this))), some (vi a1), none, none, none, none, none, none]) (st' := [vi (mI M7 145 i8 a1.toNatClampNeg), vr (some (11, this))]) (M1 := M7) (pc' := 43) (tb_Model hγ) [.getfield 450, .iload_n 1, .iaload] (by decide +kernel) rfl rfl ⟨c9, trivial⟩ ?_
  refine E_callV (κ' := k_Model_putSignature) (As := [vi (mI M7 145 i8 a1.toNatClampNeg)]) (st := []) mv_Model_putSignature (Or.inl (tbk_mem (j := 17) (k := 78) rfl)) rfl (by decide +kernel) (Nat.le_of_ble_eq_true rfl) (Nat.le_of_ble_eq_true rfl) rfl (by decide) (lk_Model_putSignature hγ this (mI M7 145 i8 a1.toNatClampNeg) _ M7 h) (fun _ _ => Qv_r) (fun v M10 hp => Qv_k (R := fun st => E γ k_Model_putMethod 8 46 [some (vr (some (11, this))), some (vi a1), none, none, none, none, none, none] st M10 (Qv Q)) hp (fun h => ?_))
  refine E_blk (lv' := [some (vr (some (11, this))), some (vi a1), none, none, none, none, none, none]) (st' := [vi (10 : Int32), vr (some (11, this))]) (M1 := M10) (pc' := 49) (tb_Model hγ) [.aload_n 0, .bipush 10] (by decide +kernel) rfl rfl trivial ?_
  refine E_callV (κ' := k_Model_put) (As := [vi (10 : Int32)]) (st := []) mv_Model_put (Or.inl (tbk_mem (j := 17) (k := 43) rfl)) rfl (by decide +kernel) (Nat.le_of_ble_eq_true rfl) (Nat.le_of_ble_eq_true rfl) rfl (by decide) (lk_Model_put hγ this (10 : Int32) _ M10 h) (fun _ _ => Qv_r) (fun v M11 hp => Qv_k (R := fun st => E γ k_Model_putMethod 8 52 [some (vr (some (11, this))), some (vi a1), none, none, none, none, none, none] st M11 (Qv Q)) hp (fun h => ?_))
  refine E_blk (lv' := [some (vr (some (11, this))), some (vi a1), none, none, none, none, none, none]) (st' := [vr (mR M11 11 this 45)]) (M1 := M11) (pc' := 56) (tb_Model hγ) [.aload_n 0, .getfield 522] (by decide +kernel) rfl rfl trivial ?_
  obtain ⟨i12, ei12, h⟩ := h
  rw [ei12]
  obtain ⟨c13, h⟩ := h
  refine E_blk (lv' := [some (vr (some (11, this))), some (vi a1), none, none, none, none, none, none]) (st' := [vi ((mI M11 146 i12 a1.toNatClampNeg) &&& (8 : Int32))]) (M1 := M11) (pc' := 64) (tb_Model hγ) [.getfield 453, .iload_n 1, .iaload, .bipush 8, .iand] (by decide +kernel) rfl rfl ⟨c13, trivial⟩ ?_
  refine E_if_eq (off := 4) (tgt := 68) (by decide +kernel) (by decide) (fun b14 => ?_) (fun b14 => ?_)
  · rw [if_pos b14] at h
    refine E_blk (lv' := [some (vr (some (11, this))), some (vi a1), none, none, none, none, none, none]) (st' := [vr (some (11, this))]) (M1 := M11) (pc' := 69) (tb_Model hγ) [.aload_n 0] (by decide +kernel) rfl rfl trivial ?_
    refine E_ldcwS (κ := k_Model_putMethod) (pc := 69) (k := 37) hγ.2.2.2 rfl rfl (by decide +kernel) ?_
    refine E_callV (κ' := k_Model_putWord) (As := [vr (some (0, 37))]) (st := []) mv_Model_putWord (Or.inl (tbk_mem (j := 17) (k := 39) rfl)) rfl (by decide +kernel) (Nat.le_of_ble_eq_true rfl) (Nat.le_of_ble_eq_true rfl) rfl (by decide) (lk_Model_putWord hγ this 37 _ M11 h) (fun _ _ => Qv_r) (fun v M15 hp => Qv_k (R := fun st => E γ k_Model_putMethod 8 75 [some (vr (some (11, this))), some (vi a1), none, none, none, none, none, none] st M15 (Qv Q)) hp (fun h => ?_))
    refine E_blk (lv' := [some (vr (some (11, this))), some (vi a1), none, none, none, none, none, none]) (st' := [vr (mR M15 11 this 45), vr (some (11, this))]) (M1 := M15) (pc' := 80) (tb_Model hγ) [.aload_n 0, .aload_n 0, .getfield 522] (by decide +kernel) rfl rfl trivial ?_
    obtain ⟨i16, ei16, h⟩ := h
    rw [ei16]
    obtain ⟨c17, h⟩ := h
    refine E_blk (lv' := [some (vr (some (11, this))), some (vi a1), none, none, none, none, none, none]) (st' := [vi (mI M15 147 i16 a1.toNatClampNeg), vr (some (11, this))]) (M1 := M15) (pc' := 85) (tb_Model hγ) [.getfield 456, .iload_n 1, .iaload] (by decide +kernel) rfl rfl ⟨c17, trivial⟩ ?_
    refine E_callV (κ' := k_Model_putNumber) (As := [vi (mI M15 147 i16 a1.toNatClampNeg)]) (st := []) mv_Model_putNumber (Or.inl (tbk_mem (j := 17) (k := 69) rfl)) rfl (by decide +kernel) (Nat.le_of_ble_eq_true rfl) (Nat.le_of_ble_eq_true rfl) rfl (by decide) (lk_Model_putNumber hγ this (mI M15 147 i16 a1.toNatClampNeg) _ M15 h) (fun _ _ => Qv_r) (fun v M18 hp => Qv_k (R := fun st => E γ k_Model_putMethod 8 88 [some (vr (some (11, this))), some (vi a1), none, none, none, none, none, none] st M18 (Qv Q)) hp (fun h => ?_))
    refine E_blk (lv' := [some (vr (some (11, this))), some (vi a1), none, none, none, none, none, none]) (st' := [vi (32 : Int32), vr (some (11, this))]) (M1 := M18) (pc' := 91) (tb_Model hγ) [.aload_n 0, .bipush 32] (by decide +kernel) rfl rfl trivial ?_
    refine E_callV (κ' := k_Model_put) (As := [vi (32 : Int32)]) (st := []) mv_Model_put (Or.inl (tbk_mem (j := 17) (k := 43) rfl)) rfl (by decide +kernel) (Nat.le_of_ble_eq_true rfl) (Nat.le_of_ble_eq_true rfl) rfl (by decide) (lk_Model_put hγ this (32 : Int32) _ M18 h) (fun _ _ => Qv_r) (fun v M19 hp => Qv_k (R := fun st => E γ k_Model_putMethod 8 94 [some (vr (some (11, this))), some (vi a1), none, none, none, none, none, none] st M19 (Qv Q)) hp (fun h => ?_))
    refine E_blk (lv' := [some (vr (some (11, this))), some (vi a1), none, none, none, none, none, none]) (st' := [vr (mR M19 11 this 45), vr (some (11, this))]) (M1 := M19) (pc' := 99) (tb_Model hγ) [.aload_n 0, .aload_n 0, .getfield 522] (by decide +kernel) rfl rfl trivial ?_
    obtain ⟨i20, ei20, h⟩ := h
    rw [ei20]
    obtain ⟨c21, h⟩ := h
    refine E_blk (lv' := [some (vr (some (11, this))), some (vi a1), none, none, none, none, none, none]) (st' := [vi (mI M19 148 i20 a1.toNatClampNeg), vr (some (11, this))]) (M1 := M19) (pc' := 104) (tb_Model hγ) [.getfield 459, .iload_n 1, .iaload] (by decide +kernel) rfl rfl ⟨c21, trivial⟩ ?_
    refine E_callV (κ' := k_Model_putNumber) (As := [vi (mI M19 148 i20 a1.toNatClampNeg)]) (st := []) mv_Model_putNumber (Or.inl (tbk_mem (j := 17) (k := 69) rfl)) rfl (by decide +kernel) (Nat.le_of_ble_eq_true rfl) (Nat.le_of_ble_eq_true rfl) rfl (by decide) (lk_Model_putNumber hγ this (mI M19 148 i20 a1.toNatClampNeg) _ M19 h) (fun _ _ => Qv_r) (fun v M22 hp => Qv_k (R := fun st => E γ k_Model_putMethod 8 107 [some (vr (some (11, this))), some (vi a1), none, none, none, none, none, none] st M22 (Qv Q)) hp (fun h => ?_))
    refine E_blk (lv' := [some (vr (some (11, this))), some (vi a1), none, none, none, none, none, none]) (st' := [vi (10 : Int32), vr (some (11, this))]) (M1 := M22) (pc' := 110) (tb_Model hγ) [.aload_n 0, .bipush 10] (by decide +kernel) rfl rfl trivial ?_
    refine E_callV (κ' := k_Model_put) (As := [vi (10 : Int32)]) (st := []) mv_Model_put (Or.inl (tbk_mem (j := 17) (k := 43) rfl)) rfl (by decide +kernel) (Nat.le_of_ble_eq_true rfl) (Nat.le_of_ble_eq_true rfl) rfl (by decide) (lk_Model_put hγ this (10 : Int32) _ M22 h) (fun _ _ => Qv_r) (fun v M23 hp => Qv_k (R := fun st => E γ k_Model_putMethod 8 113 [some (vr (some (11, this))), some (vi a1), none, none, none, none, none, none] st M23 (Qv Q)) hp (fun h => ?_))
    refine E_blk (lv' := [some (vr (some (11, this))), some (vi a1), none, none, none, none, none, none]) (st' := [vr (mR M23 11 this 45)]) (M1 := M23) (pc' := 117) (tb_Model hγ) [.aload_n 0, .getfield 522] (by decide +kernel) rfl rfl trivial ?_
    obtain ⟨i24, ei24, h⟩ := h
    rw [ei24]
    obtain ⟨c25, h⟩ := h
    refine E_blk (lv' := [some (vr (some (11, this))), some (vi a1), some (vi (mI M23 149 i24 a1.toNatClampNeg)), none, none, none, none, none]) (st' := [vr (mR M23 11 this 45)]) (M1 := M23) (pc' := 127) (tb_Model hγ) [.getfield 462, .iload_n 1, .iaload, .istore_n 2, .aload_n 0, .getfield 522] (by decide +kernel) rfl rfl ⟨c25, trivial⟩ ?_
    obtain ⟨i26, ei26, h⟩ := h
    rw [ei26]
    obtain ⟨c27, h⟩ := h
    refine E_blk (lv' := [some (vr (some (11, this))), some (vi a1), some (vi (mI M23 149 i24 a1.toNatClampNeg)), some (vi (mI M23 150 i26 a1.toNatClampNeg)), none, none, none, none]) (st' := [vr (mR M23 11 this 45), vi ((8 : Int32) * a1)]) (M1 := M23) (pc' := 141) (tb_Model hγ) [.getfield 465, .iload_n 1, .iaload, .istore_n 3, .bipush 8, .iload_n 1, .imul, .aload_n 0, .getfield 522] (by decide +kernel) rfl rfl ⟨c27, trivial⟩ ?_
    obtain ⟨i28, ei28, h⟩ := h
    rw [ei28]
    obtain ⟨c29, h⟩ := h
    refine E_blk (lv' := [some (vr (some (11, this))), some (vi a1), some (vi (mI M23 149 i24 a1.toNatClampNeg)), some (vi (mI M23 150 i26 a1.toNatClampNeg)), some (vi (((8 : Int32) * a1) + (mI M23 151 i28 a1.toNatClampNeg))), some (vi (0 : Int32)), none, none]) (st' := []) (M1 := M23) (pc' := 152) (tb_Model hγ) [.getfield 468, .iload_n 1, .iaload, .iadd, .istore 4, .iconst 0, .istore 5] (by decide +kernel) rfl rfl ⟨c29, trivial⟩ ?_
    obtain ⟨n103, h⟩ := h
    refine E_mask [true, true, true, true, true, true, false, false] rfl ?_
    exact lk_Model_putMethod_L152 hγ this Q n103 a1 (mI M23 149 i24 a1.toNatClampNeg) (mI M23 150 i26 a1.toNatClampNeg) (((8 : Int32) * a1) + (mI M23 151 i28 a1.toNatClampNeg)) (0 : Int32) M23 h
  · rw [if_neg b14] at h
    exact E_vret rfl (by decide +kernel) h
def w_Model_print_L325 (this : Nat) (Q : Int32 → Mem → Prop) : Nat → Int32 → Int32 → Mem → Prop
  | 0, _, _, _ => False
  | n + 1, v2, v3, M => ∃ i34, (mR M 11 this 45) = some (12, i34) ∧ vp_in v2 (mL M 136 i34) ∧ if (((12 : Int32) * v2) + (mI M 136 i34 v2.toNatClampNeg)) ≤ v3 then (w_Model_putWord this 14 (fun M37 => w_Model_put this (10 : Int32) (fun M38 => Q (mI M38 11 this 95) M38) M37) M) else (w_Model_putMethod this v3 (fun M39 => (w_Model_print_L325 this Q n) v2 (v3 + (1 : Int32)) M39) M)
def w_Model_print_j308 (this : Nat) (Q : Int32 → Mem → Prop) (k206 : Int32 → Int32 → Mem → Prop) (v2 : Int32) (v3 : Int32) (M : Mem) : Prop :=
  w_Model_put this (10 : Int32) (fun M55 => k206 v2 (v3 + (1 : Int32)) M55) M
def w_Model_print_L206 (this : Nat) (Q : Int32 → Mem → Prop) : Nat → Int32 → Int32 → Mem → Prop
  | 0, _, _, _ => False
  | n + 1, v2, v3, M => ∃ i31, (mR M 11 this 45) = some (12, i31) ∧ vp_in v2 (mL M 135 i31) ∧ if (((8 : Int32) * v2) + (mI M 135 i31 v2.toNatClampNeg)) ≤ v3 then (∃ n40 : Nat, w_Model_print_L325 this Q n40 v2 ((12 : Int32) * v2) M) else (w_Model_putWord this 29 (fun M41 => ∃ i42, (mR M41 11 this 45) = some (12, i42) ∧ vp_in v3 (mL M41 141 i42) ∧ w_Model_putFlags this (mI M41 141 i42 v3.toNatClampNeg) (fun M44 => ∃ i45, (mR M44 11 this 45) = some (12, i45) ∧ vp_in v3 (mL M44 139 i45) ∧ w_Model_putName this (mI M44 139 i45 v3.toNatClampNeg) (fun M47 => w_Model_put this (32 : Int32) (fun M48 => ∃ i49, (mR M48 11 this 45) = some (12, i49) ∧ vp_in v3 (mL M48 140 i49) ∧ w_Model_putType this (mI M48 140 i49 v3.toNatClampNeg) (fun M51 => ∃ i52, (mR M51 11 this 45) = some (12, i52) ∧ vp_in v3 (mL M51 523 i52) ∧ if (mI M51 523 i52 v3.toNatClampNeg) = 0 then (w_Model_print_j308 this Q (w_Model_print_L206 this Q n) v2 v3 M51) else (w_Model_putWord this 33 (fun M56 => ∃ i57, (mR M56 11 this 45) = some (12, i57) ∧ vp_in v3 (mL M56 142 i57) ∧ w_Model_putNumber this (mI M56 142 i57 v3.toNatClampNeg) (fun M59 => w_Model_print_j308 this Q (w_Model_print_L206 this Q n) v2 v3 M59) M56) M51)) M48) M47) M44) M41) M)
def w_Model_print_L152 (this : Nat) (Q : Int32 → Mem → Prop) : Nat → Int32 → Int32 → Mem → Prop
  | 0, _, _, _ => False
  | n + 1, v2, v3, M => ∃ i27, (mR M 11 this 45) = some (12, i27) ∧ vp_in v2 (mL M 134 i27) ∧ if (mI M 134 i27 v2.toNatClampNeg) ≤ v3 then (w_Model_put this (10 : Int32) (fun M30 => ∃ n60 : Nat, w_Model_print_L206 this Q n60 v2 ((8 : Int32) * v2) M30) M) else (w_Model_putWord this 28 (fun M61 => ∃ i62, (mR M61 11 this 45) = some (12, i62) ∧ vp_in (((4 : Int32) * v2) + v3) (mL M61 133 i62) ∧ w_Model_putName this (mI M61 133 i62 (((4 : Int32) * v2) + v3).toNatClampNeg) (fun M64 => (w_Model_print_L152 this Q n) v2 (v3 + (1 : Int32)) M64) M61) M)
def w_Model_print_j104 (this : Nat) (Q : Int32 → Mem → Prop) (v2 : Int32) (s0 : Int32) (M : Mem) : Prop :=
  w_Model_putFlag this s0 25 (fun M18 => w_Model_putWord this 26 (fun M19 => ∃ i20, (mR M19 11 this 45) = some (12, i20) ∧ vp_in v2 (mL M19 130 i20) ∧ w_Model_putName this (mI M19 130 i20 v2.toNatClampNeg) (fun M22 => w_Model_putWord this 27 (fun M23 => ∃ i24, (mR M23 11 this 45) = some (12, i24) ∧ vp_in v2 (mL M23 131 i24) ∧ w_Model_putName this (mI M23 131 i24 v2.toNatClampNeg) (fun M26 => ∃ n65 : Nat, w_Model_print_L152 this Q n65 v2 (0 : Int32) M26) M23) M22) M19) M18) M
def w_Model_print_j78 (this : Nat) (Q : Int32 → Mem → Prop) (v2 : Int32) (s0 : Int32) (M : Mem) : Prop :=
  w_Model_putFlag this s0 24 (fun M14 => ∃ i15, (mR M14 11 this 45) = some (12, i15) ∧ vp_in v2 (mL M14 132 i15) ∧ if ((mI M14 132 i15 v2.toNatClampNeg) &&& (4 : Int32)) = 0 then (w_Model_print_j104 this Q v2 (0 : Int32) M14) else (w_Model_print_j104 this Q v2 (1 : Int32) M14)) M
def w_Model_print_j52 (this : Nat) (Q : Int32 → Mem → Prop) (v2 : Int32) (s0 : Int32) (M : Mem) : Prop :=
  w_Model_putFlag this s0 23 (fun M10 => ∃ i11, (mR M10 11 this 45) = some (12, i11) ∧ vp_in v2 (mL M10 132 i11) ∧ if ((mI M10 132 i11 v2.toNatClampNeg) &&& (2 : Int32)) = 0 then (w_Model_print_j78 this Q v2 (0 : Int32) M10) else (w_Model_print_j78 this Q v2 (1 : Int32) M10)) M
def w_Model_print (this : Nat) (a1 : Int32) (a2 : Int32) (Q : Int32 → Mem → Prop) (M : Mem) : Prop :=
  w_Model_isClass this a1 a2 (fun r2 M1 => if r2 = 0 then (Q (-1 : Int32) M1) else (if (21 : Int32) ≤ a2 then (vp_in a1 (mL M1 703 0) ∧ ∃ i6, (mR M1 703 0 a1.toNatClampNeg) = some (12, i6) ∧ ∃ i7, (mR (sI (sR M1 11 this 45 (some (12, i6))) 11 this 95 (0 : Int32)) 11 this 45) = some (12, i7) ∧ vp_in a2 (mL (sI (sR M1 11 this 45 (some (12, i6))) 11 this 95 (0 : Int32)) 132 i7) ∧ if ((mI (sI (sR M1 11 this 45 (some (12, i6))) 11 this 95 (0 : Int32)) 132 i7 a2.toNatClampNeg) &&& (1 : Int32)) = 0 then (w_Model_print_j52 this Q a2 (0 : Int32) (sI (sR M1 11 this 45 (some (12, i6))) 11 this 95 (0 : Int32))) else (w_Model_print_j52 this Q a2 (1 : Int32) (sI (sR M1 11 this 45 (some (12, i6))) 11 this 95 (0 : Int32)))) else (Q (-1 : Int32) M1))) M
set_option maxRecDepth 4096 in
theorem lk_Model_print_L325 {γ : Gm} (hγ : Gk γ) (this : Nat) (Q : Int32 → Mem → Prop) : ∀ (n : Nat) (v2 : Int32) (v3 : Int32) (M : Mem), w_Model_print_L325 this Q n v2 v3 M → E γ k_Model_print 9 325 [some (vr (some (11, this))), none, some (vi v2), some (vi v3)] [] M (Qi Q) := by
  intro n
  induction n with
  | zero => intro v2 v3 M h; exact h.elim
  | succ n ih =>
    intro v2 v3 M h
    unfold w_Model_print_L325 at h
    refine E_blk (lv' := [some (vr (some (11, this))), none, some (vi v2), some (vi v3)]) (st' := [vr (mR M 11 this 45), vi ((12 : Int32) * v2), vi v3]) (M1 := M) (pc' := 334) (tb_Model hγ) [.iload_n 3, .bipush 12, .iload_n 2, .imul, .aload_n 0, .getfield 522] (by decide +kernel) rfl rfl trivial ?_
    obtain ⟨i34, ei34, h⟩ := h
    rw [ei34]
    obtain ⟨c35, h⟩ := h
    refine E_blk (lv' := [some (vr (some (11, this))), none, some (vi v2), some (vi v3)]) (st' := [vi (((12 : Int32) * v2) + (mI M 136 i34 v2.toNatClampNeg)), vi v3]) (M1 := M) (pc' := 340) (tb_Model hγ) [.getfield 438, .iload_n 2, .iaload, .iadd] (by decide +kernel) rfl rfl ⟨c35, trivial⟩ ?_
    refine E_icmp_ge (off := 14) (tgt := 354) (by decide +kernel) (by decide) (fun b36 => ?_) (fun b36 => ?_)
    · rw [if_pos b36] at h
      refine E_blk (lv' := [some (vr (some (11, this))), none, some (vi v2), some (vi v3)]) (st' := [vr (some (11, this))]) (M1 := M) (pc' := 355) (tb_Model hγ) [.aload_n 0] (by decide +kernel) rfl rfl trivial ?_
      refine E_ldcS (κ := k_Model_print) (pc := 355) (k := 14) hγ.2.2.2 rfl rfl (by decide +kernel) ?_
      refine E_callV (κ' := k_Model_putWord) (As := [vr (some (0, 14))]) (st := []) mv_Model_putWord (Or.inl (tbk_mem (j := 17) (k := 39) rfl)) rfl (by decide +kernel) (Nat.le_of_ble_eq_true rfl) (Nat.le_of_ble_eq_true rfl) rfl (by decide) (lk_Model_putWord hγ this 14 _ M h) (fun _ _ => Qv_r) (fun v M37 hp => Qv_k (R := fun st => E γ k_Model_print 9 360 [some (vr (some (11, this))), none, some (vi v2), some (vi v3)] st M37 (Qi Q)) hp (fun h => ?_))
      refine E_blk (lv' := [some (vr (some (11, this))), none, some (vi v2), some (vi v3)]) (st' := [vi (10 : Int32), vr (some (11, this))]) (M1 := M37) (pc' := 363) (tb_Model hγ) [.aload_n 0, .bipush 10] (by decide +kernel) rfl rfl trivial ?_
      refine E_callV (κ' := k_Model_put) (As := [vi (10 : Int32)]) (st := []) mv_Model_put (Or.inl (tbk_mem (j := 17) (k := 43) rfl)) rfl (by decide +kernel) (Nat.le_of_ble_eq_true rfl) (Nat.le_of_ble_eq_true rfl) rfl (by decide) (lk_Model_put hγ this (10 : Int32) _ M37 h) (fun _ _ => Qv_r) (fun v M38 hp => Qv_k (R := fun st => E γ k_Model_print 9 366 [some (vr (some (11, this))), none, some (vi v2), some (vi v3)] st M38 (Qi Q)) hp (fun h => ?_))
      refine E_blk (lv' := [some (vr (some (11, this))), none, some (vi v2), some (vi v3)]) (st' := [vi (mI M38 11 this 95)]) (M1 := M38) (pc' := 370) (tb_Model hγ) [.aload_n 0, .getfield 1176] (by decide +kernel) rfl rfl trivial ?_
      exact E_iret rfl (by decide +kernel) h
    · rw [if_neg b36] at h
      refine E_blk (lv' := [some (vr (some (11, this))), none, some (vi v2), some (vi v3)]) (st' := [vi v3, vr (some (11, this))]) (M1 := M) (pc' := 345) (tb_Model hγ) [.aload_n 0, .iload_n 3] (by decide +kernel) rfl rfl trivial ?_
      refine E_callV (κ' := k_Model_putMethod) (As := [vi v3]) (st := []) mv_Model_putMethod (Or.inl (tbk_mem (j := 17) (k := 73) rfl)) rfl (by decide +kernel) (Nat.le_of_ble_eq_true rfl) (Nat.le_of_ble_eq_true rfl) rfl (by decide) (lk_Model_putMethod hγ this v3 _ M h) (fun _ _ => Qv_r) (fun v M39 hp => Qv_k (R := fun st => E γ k_Model_print 9 348 [some (vr (some (11, this))), none, some (vi v2), some (vi v3)] st M39 (Qi Q)) hp (fun h => ?_))
      refine E_blk (lv' := [some (vr (some (11, this))), none, some (vi v2), some (vi (v3 + (1 : Int32)))]) (st' := []) (M1 := M39) (pc' := 351) (tb_Model hγ) [.iinc 3 1] (by decide +kernel) rfl rfl trivial ?_
      refine E_goto (off := -26) (tgt := 325) (by decide +kernel) (by decide) ?_
      refine E_mask [true, false, true, true] rfl ?_
      exact ih v2 (v3 + (1 : Int32)) M39 h
set_option maxRecDepth 4096 in
theorem lk_Model_print_j308 {γ : Gm} (hγ : Gk γ) (this : Nat) (Q : Int32 → Mem → Prop) (k206 : Int32 → Int32 → Mem → Prop) (hk206 : ∀ (v2 : Int32) (v3 : Int32) (M : Mem), k206 v2 v3 M → E γ k_Model_print 9 206 [some (vr (some (11, this))), none, some (vi v2), some (vi v3)] [] M (Qi Q)) (v2 : Int32) (v3 : Int32) (M : Mem) (h : w_Model_print_j308 this Q k206 v2 v3 M) : E γ k_Model_print 9 308 [some (vr (some (11, this))), none, some (vi v2), some (vi v3)] [] M (Qi Q) := by
  unfold w_Model_print_j308 at h
  refine E_blk (lv' := [some (vr (some (11, this))), none, some (vi v2), some (vi v3)]) (st' := [vi (10 : Int32), vr (some (11, this))]) (M1 := M) (pc' := 311) (tb_Model hγ) [.aload_n 0, .bipush 10] (by decide +kernel) rfl rfl trivial ?_
  refine E_callV (κ' := k_Model_put) (As := [vi (10 : Int32)]) (st := []) mv_Model_put (Or.inl (tbk_mem (j := 17) (k := 43) rfl)) rfl (by decide +kernel) (Nat.le_of_ble_eq_true rfl) (Nat.le_of_ble_eq_true rfl) rfl (by decide) (lk_Model_put hγ this (10 : Int32) _ M h) (fun _ _ => Qv_r) (fun v M55 hp => Qv_k (R := fun st => E γ k_Model_print 9 314 [some (vr (some (11, this))), none, some (vi v2), some (vi v3)] st M55 (Qi Q)) hp (fun h => ?_))
  refine E_blk (lv' := [some (vr (some (11, this))), none, some (vi v2), some (vi (v3 + (1 : Int32)))]) (st' := []) (M1 := M55) (pc' := 317) (tb_Model hγ) [.iinc 3 1] (by decide +kernel) rfl rfl trivial ?_
  refine E_goto (off := -111) (tgt := 206) (by decide +kernel) (by decide) ?_
  refine E_mask [true, false, true, true] rfl ?_
  exact hk206 v2 (v3 + (1 : Int32)) M55 h
set_option maxRecDepth 4096 in
theorem lk_Model_print_L206 {γ : Gm} (hγ : Gk γ) (this : Nat) (Q : Int32 → Mem → Prop) : ∀ (n : Nat) (v2 : Int32) (v3 : Int32) (M : Mem), w_Model_print_L206 this Q n v2 v3 M → E γ k_Model_print 9 206 [some (vr (some (11, this))), none, some (vi v2), some (vi v3)] [] M (Qi Q) := by
  intro n
  induction n with
  | zero => intro v2 v3 M h; exact h.elim
  | succ n ih =>
    intro v2 v3 M h
    unfold w_Model_print_L206 at h
    refine E_blk (lv' := [some (vr (some (11, this))), none, some (vi v2), some (vi v3)]) (st' := [vr (mR M 11 this 45), vi ((8 : Int32) * v2), vi v3]) (M1 := M) (pc' := 215) (tb_Model hγ) [.iload_n 3, .bipush 8, .iload_n 2, .imul, .aload_n 0, .getfield 522] (by decide +kernel) rfl rfl trivial ?_
    obtain ⟨i31, ei31, h⟩ := h
    rw [ei31]
    obtain ⟨c32, h⟩ := h
    refine E_blk (lv' := [some (vr (some (11, this))), none, some (vi v2), some (vi v3)]) (st' := [vi (((8 : Int32) * v2) + (mI M 135 i31 v2.toNatClampNeg)), vi v3]) (M1 := M) (pc' := 221) (tb_Model hγ) [.getfield 435, .iload_n 2, .iaload, .iadd] (by decide +kernel) rfl rfl ⟨c32, trivial⟩ ?_
    refine E_icmp_ge (off := 99) (tgt := 320) (by decide +kernel) (by decide) (fun b33 => ?_) (fun b33 => ?_)
    · rw [if_pos b33] at h
      refine E_blk (lv' := [some (vr (some (11, this))), none, some (vi v2), some (vi ((12 : Int32) * v2))]) (st' := []) (M1 := M) (pc' := 325) (tb_Model hγ) [.bipush 12, .iload_n 2, .imul, .istore_n 3] (by decide +kernel) rfl rfl trivial ?_
      obtain ⟨n40, h⟩ := h
      refine E_mask [true, false, true, true] rfl ?_
      exact lk_Model_print_L325 hγ this Q n40 v2 ((12 : Int32) * v2) M h
    · rw [if_neg b33] at h
      refine E_blk (lv' := [some (vr (some (11, this))), none, some (vi v2), some (vi v3)]) (st' := [vr (some (11, this))]) (M1 := M) (pc' := 225) (tb_Model hγ) [.aload_n 0] (by decide +kernel) rfl rfl trivial ?_
      refine E_ldcwS (κ := k_Model_print) (pc := 225) (k := 29) hγ.2.2.2 rfl rfl (by decide +kernel) ?_
      refine E_callV (κ' := k_Model_putWord) (As := [vr (some (0, 29))]) (st := []) mv_Model_putWord (Or.inl (tbk_mem (j := 17) (k := 39) rfl)) rfl (by decide +kernel) (Nat.le_of_ble_eq_true rfl) (Nat.le_of_ble_eq_true rfl) rfl (by decide) (lk_Model_putWord hγ this 29 _ M h) (fun _ _ => Qv_r) (fun v M41 hp => Qv_k (R := fun st => E γ k_Model_print 9 231 [some (vr (some (11, this))), none, some (vi v2), some (vi v3)] st M41 (Qi Q)) hp (fun h => ?_))
      refine E_blk (lv' := [some (vr (some (11, this))), none, some (vi v2), some (vi v3)]) (st' := [vr (mR M41 11 this 45), vr (some (11, this))]) (M1 := M41) (pc' := 236) (tb_Model hγ) [.aload_n 0, .aload_n 0, .getfield 522] (by decide +kernel) rfl rfl trivial ?_
      obtain ⟨i42, ei42, h⟩ := h
      rw [ei42]
      obtain ⟨c43, h⟩ := h
      refine E_blk (lv' := [some (vr (some (11, this))), none, some (vi v2), some (vi v3)]) (st' := [vi (mI M41 141 i42 v3.toNatClampNeg), vr (some (11, this))]) (M1 := M41) (pc' := 241) (tb_Model hγ) [.getfield 627, .iload_n 3, .iaload] (by decide +kernel) rfl rfl ⟨c43, trivial⟩ ?_
      refine E_callV (κ' := k_Model_putFlags) (As := [vi (mI M41 141 i42 v3.toNatClampNeg)]) (st := []) mv_Model_putFlags (Or.inl (tbk_mem (j := 17) (k := 57) rfl)) rfl (by decide +kernel) (Nat.le_of_ble_eq_true rfl) (Nat.le_of_ble_eq_true rfl) rfl (by decide) (lk_Model_putFlags hγ this (mI M41 141 i42 v3.toNatClampNeg) _ M41 h) (fun _ _ => Qv_r) (fun v M44 hp => Qv_k (R := fun st => E γ k_Model_print 9 244 [some (vr (some (11, this))), none, some (vi v2), some (vi v3)] st M44 (Qi Q)) hp (fun h => ?_))
      refine E_blk (lv' := [some (vr (some (11, this))), none, some (vi v2), some (vi v3)]) (st' := [vr (mR M44 11 this 45), vr (some (11, this))]) (M1 := M44) (pc' := 249) (tb_Model hγ) [.aload_n 0, .aload_n 0, .getfield 522] (by decide +kernel) rfl rfl trivial ?_
      obtain ⟨i45, ei45, h⟩ := h
      rw [ei45]
      obtain ⟨c46, h⟩ := h
      refine E_blk (lv' := [some (vr (some (11, this))), none, some (vi v2), some (vi v3)]) (st' := [vi (mI M44 139 i45 v3.toNatClampNeg), vr (some (11, this))]) (M1 := M44) (pc' := 254) (tb_Model hγ) [.getfield 621, .iload_n 3, .iaload] (by decide +kernel) rfl rfl ⟨c46, trivial⟩ ?_
      refine E_callV (κ' := k_Model_putName) (As := [vi (mI M44 139 i45 v3.toNatClampNeg)]) (st := []) mv_Model_putName (Or.inl (tbk_mem (j := 17) (k := 50) rfl)) rfl (by decide +kernel) (Nat.le_of_ble_eq_true rfl) (Nat.le_of_ble_eq_true rfl) rfl (by decide) (lk_Model_putName hγ this (mI M44 139 i45 v3.toNatClampNeg) _ M44 h) (fun _ _ => Qv_r) (fun v M47 hp => Qv_k (R := fun st => E γ k_Model_print 9 257 [some (vr (some (11, this))), none, some (vi v2), some (vi v3)] st M47 (Qi Q)) hp (fun h => ?_))
      refine E_blk (lv' := [some (vr (some (11, this))), none, some (vi v2), some (vi v3)]) (st' := [vi (32 : Int32), vr (some (11, this))]) (M1 := M47) (pc' := 260) (tb_Model hγ) [.aload_n 0, .bipush 32] (by decide +kernel) rfl rfl trivial ?_
      refine E_callV (κ' := k_Model_put) (As := [vi (32 : Int32)]) (st := []) mv_Model_put (Or.inl (tbk_mem (j := 17) (k := 43) rfl)) rfl (by decide +kernel) (Nat.le_of_ble_eq_true rfl) (Nat.le_of_ble_eq_true rfl) rfl (by decide) (lk_Model_put hγ this (32 : Int32) _ M47 h) (fun _ _ => Qv_r) (fun v M48 hp => Qv_k (R := fun st => E γ k_Model_print 9 263 [some (vr (some (11, this))), none, some (vi v2), some (vi v3)] st M48 (Qi Q)) hp (fun h => ?_))
      refine E_blk (lv' := [some (vr (some (11, this))), none, some (vi v2), some (vi v3)]) (st' := [vr (mR M48 11 this 45), vr (some (11, this))]) (M1 := M48) (pc' := 268) (tb_Model hγ) [.aload_n 0, .aload_n 0, .getfield 522] (by decide +kernel) rfl rfl trivial ?_
      obtain ⟨i49, ei49, h⟩ := h
      rw [ei49]
      obtain ⟨c50, h⟩ := h
      refine E_blk (lv' := [some (vr (some (11, this))), none, some (vi v2), some (vi v3)]) (st' := [vi (mI M48 140 i49 v3.toNatClampNeg), vr (some (11, this))]) (M1 := M48) (pc' := 273) (tb_Model hγ) [.getfield 624, .iload_n 3, .iaload] (by decide +kernel) rfl rfl ⟨c50, trivial⟩ ?_
      refine E_callV (κ' := k_Model_putType) (As := [vi (mI M48 140 i49 v3.toNatClampNeg)]) (st := []) mv_Model_putType (Or.inl (tbk_mem (j := 17) (k := 63) rfl)) rfl (by decide +kernel) (Nat.le_of_ble_eq_true rfl) (Nat.le_of_ble_eq_true rfl) rfl (by decide) (lk_Model_putType hγ this (mI M48 140 i49 v3.toNatClampNeg) _ M48 h) (fun _ _ => Qv_r) (fun v M51 hp => Qv_k (R := fun st => E γ k_Model_print 9 276 [some (vr (some (11, this))), none, some (vi v2), some (vi v3)] st M51 (Qi Q)) hp (fun h => ?_))
      refine E_blk (lv' := [some (vr (some (11, this))), none, some (vi v2), some (vi v3)]) (st' := [vr (mR M51 11 this 45)]) (M1 := M51) (pc' := 280) (tb_Model hγ) [.aload_n 0, .getfield 522] (by decide +kernel) rfl rfl trivial ?_
      obtain ⟨i52, ei52, h⟩ := h
      rw [ei52]
      obtain ⟨c53, h⟩ := h
      refine E_blk (lv' := [some (vr (some (11, this))), none, some (vi v2), some (vi v3)]) (st' := [vi (mI M51 523 i52 v3.toNatClampNeg)]) (M1 := M51) (pc' := 285) (tb_Model hγ) [.getfield 633, .iload_n 3, .baload] (by decide +kernel) rfl rfl ⟨c53, trivial⟩ ?_
      refine E_if_eq (off := 23) (tgt := 308) (by decide +kernel) (by decide) (fun b54 => ?_) (fun b54 => ?_)
      · rw [if_pos b54] at h
        refine E_mask [true, false, true, true] rfl ?_
        exact lk_Model_print_j308 hγ this Q (w_Model_print_L206 this Q n) ih v2 v3 M51 h
      · rw [if_neg b54] at h
        refine E_blk (lv' := [some (vr (some (11, this))), none, some (vi v2), some (vi v3)]) (st' := [vr (some (11, this))]) (M1 := M51) (pc' := 289) (tb_Model hγ) [.aload_n 0] (by decide +kernel) rfl rfl trivial ?_
        refine E_ldcwS (κ := k_Model_print) (pc := 289) (k := 33) hγ.2.2.2 rfl rfl (by decide +kernel) ?_
        refine E_callV (κ' := k_Model_putWord) (As := [vr (some (0, 33))]) (st := []) mv_Model_putWord (Or.inl (tbk_mem (j := 17) (k := 39) rfl)) rfl (by decide +kernel) (Nat.le_of_ble_eq_true rfl) (Nat.le_of_ble_eq_true rfl) rfl (by decide) (lk_Model_putWord hγ this 33 _ M51 h) (fun _ _ => Qv_r) (fun v M56 hp => Qv_k (R := fun st => E γ k_Model_print 9 295 [some (vr (some (11, this))), none, some (vi v2), some (vi v3)] st M56 (Qi Q)) hp (fun h => ?_))
        refine E_blk (lv' := [some (vr (some (11, this))), none, some (vi v2), some (vi v3)]) (st' := [vr (mR M56 11 this 45), vr (some (11, this))]) (M1 := M56) (pc' := 300) (tb_Model hγ) [.aload_n 0, .aload_n 0, .getfield 522] (by decide +kernel) rfl rfl trivial ?_
        obtain ⟨i57, ei57, h⟩ := h
        rw [ei57]
        obtain ⟨c58, h⟩ := h
        refine E_blk (lv' := [some (vr (some (11, this))), none, some (vi v2), some (vi v3)]) (st' := [vi (mI M56 142 i57 v3.toNatClampNeg), vr (some (11, this))]) (M1 := M56) (pc' := 305) (tb_Model hγ) [.getfield 630, .iload_n 3, .iaload] (by decide +kernel) rfl rfl ⟨c58, trivial⟩ ?_
        refine E_callV (κ' := k_Model_putNumber) (As := [vi (mI M56 142 i57 v3.toNatClampNeg)]) (st := []) mv_Model_putNumber (Or.inl (tbk_mem (j := 17) (k := 69) rfl)) rfl (by decide +kernel) (Nat.le_of_ble_eq_true rfl) (Nat.le_of_ble_eq_true rfl) rfl (by decide) (lk_Model_putNumber hγ this (mI M56 142 i57 v3.toNatClampNeg) _ M56 h) (fun _ _ => Qv_r) (fun v M59 hp => Qv_k (R := fun st => E γ k_Model_print 9 308 [some (vr (some (11, this))), none, some (vi v2), some (vi v3)] st M59 (Qi Q)) hp (fun h => ?_))
        refine E_mask [true, false, true, true] rfl ?_
        exact lk_Model_print_j308 hγ this Q (w_Model_print_L206 this Q n) ih v2 v3 M59 h
set_option maxRecDepth 4096 in
theorem lk_Model_print_L152 {γ : Gm} (hγ : Gk γ) (this : Nat) (Q : Int32 → Mem → Prop) : ∀ (n : Nat) (v2 : Int32) (v3 : Int32) (M : Mem), w_Model_print_L152 this Q n v2 v3 M → E γ k_Model_print 9 152 [some (vr (some (11, this))), none, some (vi v2), some (vi v3)] [] M (Qi Q) := by
  intro n
  induction n with
  | zero => intro v2 v3 M h; exact h.elim
  | succ n ih =>
    intro v2 v3 M h
    unfold w_Model_print_L152 at h
    refine E_blk (lv' := [some (vr (some (11, this))), none, some (vi v2), some (vi v3)]) (st' := [vr (mR M 11 this 45), vi v3]) (M1 := M) (pc' := 157) (tb_Model hγ) [.iload_n 3, .aload_n 0, .getfield 522] (by decide +kernel) rfl rfl trivial ?_
    obtain ⟨i27, ei27, h⟩ := h
    rw [ei27]
    obtain ⟨c28, h⟩ := h
    refine E_blk (lv' := [some (vr (some (11, this))), none, some (vi v2), some (vi v3)]) (st' := [vi (mI M 134 i27 v2.toNatClampNeg), vi v3]) (M1 := M) (pc' := 162) (tb_Model hγ) [.getfield 432, .iload_n 2, .iaload] (by decide +kernel) rfl rfl ⟨c28, trivial⟩ ?_
    refine E_icmp_ge (off := 33) (tgt := 195) (by decide +kernel) (by decide) (fun b29 => ?_) (fun b29 => ?_)
    · rw [if_pos b29] at h
      refine E_blk (lv' := [some (vr (some (11, this))), none, some (vi v2), some (vi v3)]) (st' := [vi (10 : Int32), vr (some (11, this))]) (M1 := M) (pc' := 198) (tb_Model hγ) [.aload_n 0, .bipush 10] (by decide +kernel) rfl rfl trivial ?_
      refine E_callV (κ' := k_Model_put) (As := [vi (10 : Int32)]) (st := []) mv_Model_put (Or.inl (tbk_mem (j := 17) (k := 43) rfl)) rfl (by decide +kernel) (Nat.le_of_ble_eq_true rfl) (Nat.le_of_ble_eq_true rfl) rfl (by decide) (lk_Model_put hγ this (10 : Int32) _ M h) (fun _ _ => Qv_r) (fun v M30 hp => Qv_k (R := fun st => E γ k_Model_print 9 201 [some (vr (some (11, this))), none, some (vi v2), some (vi v3)] st M30 (Qi Q)) hp (fun h => ?_))
      refine E_blk (lv' := [some (vr (some (11, this))), none, some (vi v2), some (vi ((8 : Int32) * v2))]) (st' := []) (M1 := M30) (pc' := 206) (tb_Model hγ) [.bipush 8, .iload_n 2, .imul, .istore_n 3] (by decide +kernel) rfl rfl trivial ?_
      obtain ⟨n60, h⟩ := h
      refine E_mask [true, false, true, true] rfl ?_
      exact lk_Model_print_L206 hγ this Q n60 v2 ((8 : Int32) * v2) M30 h
    · rw [if_neg b29] at h
      refine E_blk (lv' := [some (vr (some (11, this))), none, some (vi v2), some (vi v3)]) (st' := [vr (some (11, this))]) (M1 := M) (pc' := 166) (tb_Model hγ) [.aload_n 0] (by decide +kernel) rfl rfl trivial ?_
      refine E_ldcwS (κ := k_Model_print) (pc := 166) (k := 28) hγ.2.2.2 rfl rfl (by decide +kernel) ?_
      refine E_callV (κ' := k_Model_putWord) (As := [vr (some (0, 28))]) (st := []) mv_Model_putWord (Or.inl (tbk_mem (j := 17) (k := 39) rfl)) rfl (by decide +kernel) (Nat.le_of_ble_eq_true rfl) (Nat.le_of_ble_eq_true rfl) rfl (by decide) (lk_Model_putWord hγ this 28 _ M h) (fun _ _ => Qv_r) (fun v M61 hp => Qv_k (R := fun st => E γ k_Model_print 9 172 [some (vr (some (11, this))), none, some (vi v2), some (vi v3)] st M61 (Qi Q)) hp (fun h => ?_))
      refine E_blk (lv' := [some (vr (some (11, this))), none, some (vi v2), some (vi v3)]) (st' := [vr (mR M61 11 this 45), vr (some (11, this))]) (M1 := M61) (pc' := 177) (tb_Model hγ) [.aload_n 0, .aload_n 0, .getfield 522] (by decide +kernel) rfl rfl trivial ?_
      obtain ⟨i62, ei62, h⟩ := h
      rw [ei62]
      obtain ⟨c63, h⟩ := h
      refine E_blk (lv' := [some (vr (some (11, this))), none, some (vi v2), some (vi v3)]) (st' := [vi (mI M61 133 i62 (((4 : Int32) * v2) + v3).toNatClampNeg), vr (some (11, this))]) (M1 := M61) (pc' := 186) (tb_Model hγ) [.getfield 612, .iconst 4, .iload_n 2, .imul, .iload_n 3, .iadd, .iaload] (by decide +kernel) rfl rfl ⟨c63, trivial⟩ ?_
      refine E_callV (κ' := k_Model_putName) (As := [vi (mI M61 133 i62 (((4 : Int32) * v2) + v3).toNatClampNeg)]) (st := []) mv_Model_putName (Or.inl (tbk_mem (j := 17) (k := 50) rfl)) rfl (by decide +kernel) (Nat.le_of_ble_eq_true rfl) (Nat.le_of_ble_eq_true rfl) rfl (by decide) (lk_Model_putName hγ this (mI M61 133 i62 (((4 : Int32) * v2) + v3).toNatClampNeg) _ M61 h) (fun _ _ => Qv_r) (fun v M64 hp => Qv_k (R := fun st => E γ k_Model_print 9 189 [some (vr (some (11, this))), none, some (vi v2), some (vi v3)] st M64 (Qi Q)) hp (fun h => ?_))
      refine E_blk (lv' := [some (vr (some (11, this))), none, some (vi v2), some (vi (v3 + (1 : Int32)))]) (st' := []) (M1 := M64) (pc' := 192) (tb_Model hγ) [.iinc 3 1] (by decide +kernel) rfl rfl trivial ?_
      refine E_goto (off := -40) (tgt := 152) (by decide +kernel) (by decide) ?_
      refine E_mask [true, false, true, true] rfl ?_
      exact ih v2 (v3 + (1 : Int32)) M64 h
set_option maxRecDepth 4096 in
theorem lk_Model_print_j104 {γ : Gm} (hγ : Gk γ) (this : Nat) (Q : Int32 → Mem → Prop) (v2 : Int32) (s0 : Int32) (M : Mem) (h : w_Model_print_j104 this Q v2 s0 M) : E γ k_Model_print 9 104 [some (vr (some (11, this))), none, some (vi v2), none] [vi s0, vr (some (11, this))] M (Qi Q) := by
  unfold w_Model_print_j104 at h
  refine E_ldcwS (κ := k_Model_print) (pc := 104) (k := 25) hγ.2.2.2 rfl rfl (by decide +kernel) ?_
  refine E_callV (κ' := k_Model_putFlag) (As := [vi s0, vr (some (0, 25))]) (st := []) mv_Model_putFlag (Or.inl (tbk_mem (j := 17) (k := 35) rfl)) rfl (by decide +kernel) (Nat.le_of_ble_eq_true rfl) (Nat.le_of_ble_eq_true rfl) rfl (by decide) (lk_Model_putFlag hγ this s0 25 _ M h) (fun _ _ => Qv_r) (fun v M18 hp => Qv_k (R := fun st => E γ k_Model_print 9 110 [some (vr (some (11, this))), none, some (vi v2), none] st M18 (Qi Q)) hp (fun h => ?_))
  refine E_blk (lv' := [some (vr (some (11, this))), none, some (vi v2), none]) (st' := [vr (some (11, this))]) (M1 := M18) (pc' := 111) (tb_Model hγ) [.aload_n 0] (by decide +kernel) rfl rfl trivial ?_
  refine E_ldcwS (κ := k_Model_print) (pc := 111) (k := 26) hγ.2.2.2 rfl rfl (by decide +kernel) ?_
  refine E_callV (κ' := k_Model_putWord) (As := [vr (some (0, 26))]) (st := []) mv_Model_putWord (Or.inl (tbk_mem (j := 17) (k := 39) rfl)) rfl (by decide +kernel) (Nat.le_of_ble_eq_true rfl) (Nat.le_of_ble_eq_true rfl) rfl (by decide) (lk_Model_putWord hγ this 26 _ M18 h) (fun _ _ => Qv_r) (fun v M19 hp => Qv_k (R := fun st => E γ k_Model_print 9 117 [some (vr (some (11, this))), none, some (vi v2), none] st M19 (Qi Q)) hp (fun h => ?_))
  refine E_blk (lv' := [some (vr (some (11, this))), none, some (vi v2), none]) (st' := [vr (mR M19 11 this 45), vr (some (11, this))]) (M1 := M19) (pc' := 122) (tb_Model hγ) [.aload_n 0, .aload_n 0, .getfield 522] (by decide +kernel) rfl rfl trivial ?_
  obtain ⟨i20, ei20, h⟩ := h
  rw [ei20]
  obtain ⟨c21, h⟩ := h
  refine E_blk (lv' := [some (vr (some (11, this))), none, some (vi v2), none]) (st' := [vi (mI M19 130 i20 v2.toNatClampNeg), vr (some (11, this))]) (M1 := M19) (pc' := 127) (tb_Model hγ) [.getfield 423, .iload_n 2, .iaload] (by decide +kernel) rfl rfl ⟨c21, trivial⟩ ?_
  refine E_callV (κ' := k_Model_putName) (As := [vi (mI M19 130 i20 v2.toNatClampNeg)]) (st := []) mv_Model_putName (Or.inl (tbk_mem (j := 17) (k := 50) rfl)) rfl (by decide +kernel) (Nat.le_of_ble_eq_true rfl) (Nat.le_of_ble_eq_true rfl) rfl (by decide) (lk_Model_putName hγ this (mI M19 130 i20 v2.toNatClampNeg) _ M19 h) (fun _ _ => Qv_r) (fun v M22 hp => Qv_k (R := fun st => E γ k_Model_print 9 130 [some (vr (some (11, this))), none, some (vi v2), none] st M22 (Qi Q)) hp (fun h => ?_))
  refine E_blk (lv' := [some (vr (some (11, this))), none, some (vi v2), none]) (st' := [vr (some (11, this))]) (M1 := M22) (pc' := 131) (tb_Model hγ) [.aload_n 0] (by decide +kernel) rfl rfl trivial ?_
  refine E_ldcwS (κ := k_Model_print) (pc := 131) (k := 27) hγ.2.2.2 rfl rfl (by decide +kernel) ?_
  refine E_callV (κ' := k_Model_putWord) (As := [vr (some (0, 27))]) (st := []) mv_Model_putWord (Or.inl (tbk_mem (j := 17) (k := 39) rfl)) rfl (by decide +kernel) (Nat.le_of_ble_eq_true rfl) (Nat.le_of_ble_eq_true rfl) rfl (by decide) (lk_Model_putWord hγ this 27 _ M22 h) (fun _ _ => Qv_r) (fun v M23 hp => Qv_k (R := fun st => E γ k_Model_print 9 137 [some (vr (some (11, this))), none, some (vi v2), none] st M23 (Qi Q)) hp (fun h => ?_))
  refine E_blk (lv' := [some (vr (some (11, this))), none, some (vi v2), none]) (st' := [vr (mR M23 11 this 45), vr (some (11, this))]) (M1 := M23) (pc' := 142) (tb_Model hγ) [.aload_n 0, .aload_n 0, .getfield 522] (by decide +kernel) rfl rfl trivial ?_
  obtain ⟨i24, ei24, h⟩ := h
  rw [ei24]
  obtain ⟨c25, h⟩ := h
  refine E_blk (lv' := [some (vr (some (11, this))), none, some (vi v2), none]) (st' := [vi (mI M23 131 i24 v2.toNatClampNeg), vr (some (11, this))]) (M1 := M23) (pc' := 147) (tb_Model hγ) [.getfield 426, .iload_n 2, .iaload] (by decide +kernel) rfl rfl ⟨c25, trivial⟩ ?_
  refine E_callV (κ' := k_Model_putName) (As := [vi (mI M23 131 i24 v2.toNatClampNeg)]) (st := []) mv_Model_putName (Or.inl (tbk_mem (j := 17) (k := 50) rfl)) rfl (by decide +kernel) (Nat.le_of_ble_eq_true rfl) (Nat.le_of_ble_eq_true rfl) rfl (by decide) (lk_Model_putName hγ this (mI M23 131 i24 v2.toNatClampNeg) _ M23 h) (fun _ _ => Qv_r) (fun v M26 hp => Qv_k (R := fun st => E γ k_Model_print 9 150 [some (vr (some (11, this))), none, some (vi v2), none] st M26 (Qi Q)) hp (fun h => ?_))
  refine E_blk (lv' := [some (vr (some (11, this))), none, some (vi v2), some (vi (0 : Int32))]) (st' := []) (M1 := M26) (pc' := 152) (tb_Model hγ) [.iconst 0, .istore_n 3] (by decide +kernel) rfl rfl trivial ?_
  obtain ⟨n65, h⟩ := h
  refine E_mask [true, false, true, true] rfl ?_
  exact lk_Model_print_L152 hγ this Q n65 v2 (0 : Int32) M26 h
set_option maxRecDepth 4096 in
theorem lk_Model_print_j78 {γ : Gm} (hγ : Gk γ) (this : Nat) (Q : Int32 → Mem → Prop) (v2 : Int32) (s0 : Int32) (M : Mem) (h : w_Model_print_j78 this Q v2 s0 M) : E γ k_Model_print 9 78 [some (vr (some (11, this))), none, some (vi v2), none] [vi s0, vr (some (11, this))] M (Qi Q) := by
  unfold w_Model_print_j78 at h
  refine E_ldcwS (κ := k_Model_print) (pc := 78) (k := 24) hγ.2.2.2 rfl rfl (by decide +kernel) ?_
  refine E_callV (κ' := k_Model_putFlag) (As := [vi s0, vr (some (0, 24))]) (st := []) mv_Model_putFlag (Or.inl (tbk_mem (j := 17) (k := 35) rfl)) rfl (by decide +kernel) (Nat.le_of_ble_eq_true rfl) (Nat.le_of_ble_eq_true rfl) rfl (by decide) (lk_Model_putFlag hγ this s0 24 _ M h) (fun _ _ => Qv_r) (fun v M14 hp => Qv_k (R := fun st => E γ k_Model_print 9 84 [some (vr (some (11, this))), none, some (vi v2), none] st M14 (Qi Q)) hp (fun h => ?_))
  refine E_blk (lv' := [some (vr (some (11, this))), none, some (vi v2), none]) (st' := [vr (mR M14 11 this 45), vr (some (11, this))]) (M1 := M14) (pc' := 89) (tb_Model hγ) [.aload_n 0, .aload_n 0, .getfield 522] (by decide +kernel) rfl rfl trivial ?_
  obtain ⟨i15, ei15, h⟩ := h
  rw [ei15]
  obtain ⟨c16, h⟩ := h
  refine E_blk (lv' := [some (vr (some (11, this))), none, some (vi v2), none]) (st' := [vi ((mI M14 132 i15 v2.toNatClampNeg) &&& (4 : Int32)), vr (some (11, this))]) (M1 := M14) (pc' := 96) (tb_Model hγ) [.getfield 429, .iload_n 2, .iaload, .iconst 4, .iand] (by decide +kernel) rfl rfl ⟨c16, trivial⟩ ?_
  refine E_if_eq (off := 7) (tgt := 103) (by decide +kernel) (by decide) (fun b17 => ?_) (fun b17 => ?_)
  · rw [if_pos b17] at h
    refine E_blk (lv' := [some (vr (some (11, this))), none, some (vi v2), none]) (st' := [vi (0 : Int32), vr (some (11, this))]) (M1 := M14) (pc' := 104) (tb_Model hγ) [.iconst 0] (by decide +kernel) rfl rfl trivial ?_
    refine E_mask [true, false, true, false] rfl ?_
    exact lk_Model_print_j104 hγ this Q v2 (0 : Int32) M14 h
  · rw [if_neg b17] at h
    refine E_blk (lv' := [some (vr (some (11, this))), none, some (vi v2), none]) (st' := [vi (1 : Int32), vr (some (11, this))]) (M1 := M14) (pc' := 100) (tb_Model hγ) [.iconst 1] (by decide +kernel) rfl rfl trivial ?_
    refine E_goto (off := 4) (tgt := 104) (by decide +kernel) (by decide) ?_
    refine E_mask [true, false, true, false] rfl ?_
    exact lk_Model_print_j104 hγ this Q v2 (1 : Int32) M14 h
set_option maxRecDepth 4096 in
theorem lk_Model_print_j52 {γ : Gm} (hγ : Gk γ) (this : Nat) (Q : Int32 → Mem → Prop) (v2 : Int32) (s0 : Int32) (M : Mem) (h : w_Model_print_j52 this Q v2 s0 M) : E γ k_Model_print 9 52 [some (vr (some (11, this))), none, some (vi v2), none] [vi s0, vr (some (11, this))] M (Qi Q) := by
  unfold w_Model_print_j52 at h
  refine E_ldcwS (κ := k_Model_print) (pc := 52) (k := 23) hγ.2.2.2 rfl rfl (by decide +kernel) ?_
  refine E_callV (κ' := k_Model_putFlag) (As := [vi s0, vr (some (0, 23))]) (st := []) mv_Model_putFlag (Or.inl (tbk_mem (j := 17) (k := 35) rfl)) rfl (by decide +kernel) (Nat.le_of_ble_eq_true rfl) (Nat.le_of_ble_eq_true rfl) rfl (by decide) (lk_Model_putFlag hγ this s0 23 _ M h) (fun _ _ => Qv_r) (fun v M10 hp => Qv_k (R := fun st => E γ k_Model_print 9 58 [some (vr (some (11, this))), none, some (vi v2), none] st M10 (Qi Q)) hp (fun h => ?_))
  refine E_blk (lv' := [some (vr (some (11, this))), none, some (vi v2), none]) (st' := [vr (mR M10 11 this 45), vr (some (11, this))]) (M1 := M10) (pc' := 63) (tb_Model hγ) [.aload_n 0, .aload_n 0, .getfield 522] (by decide +kernel) rfl rfl trivial ?_
  obtain ⟨i11, ei11, h⟩ := h
  rw [ei11]
  obtain ⟨c12, h⟩ := h
  refine E_blk (lv' := [some (vr (some (11, this))), none, some (vi v2), none]) (st' := [vi ((mI M10 132 i11 v2.toNatClampNeg) &&& (2 : Int32)), vr (some (11, this))]) (M1 := M10) (pc' := 70) (tb_Model hγ) [.getfield 429, .iload_n 2, .iaload, .iconst 2, .iand] (by decide +kernel) rfl rfl ⟨c12, trivial⟩ ?_
  refine E_if_eq (off := 7) (tgt := 77) (by decide +kernel) (by decide) (fun b13 => ?_) (fun b13 => ?_)
  · rw [if_pos b13] at h
    refine E_blk (lv' := [some (vr (some (11, this))), none, some (vi v2), none]) (st' := [vi (0 : Int32), vr (some (11, this))]) (M1 := M10) (pc' := 78) (tb_Model hγ) [.iconst 0] (by decide +kernel) rfl rfl trivial ?_
    refine E_mask [true, false, true, false] rfl ?_
    exact lk_Model_print_j78 hγ this Q v2 (0 : Int32) M10 h
  · rw [if_neg b13] at h
    refine E_blk (lv' := [some (vr (some (11, this))), none, some (vi v2), none]) (st' := [vi (1 : Int32), vr (some (11, this))]) (M1 := M10) (pc' := 74) (tb_Model hγ) [.iconst 1] (by decide +kernel) rfl rfl trivial ?_
    refine E_goto (off := 4) (tgt := 78) (by decide +kernel) (by decide) ?_
    refine E_mask [true, false, true, false] rfl ?_
    exact lk_Model_print_j78 hγ this Q v2 (1 : Int32) M10 h
set_option maxRecDepth 4096 in
theorem lk_Model_print {γ : Gm} (hγ : Gk γ) (this : Nat) (a1 : Int32) (a2 : Int32) (Q : Int32 → Mem → Prop) (M : Mem) (h : w_Model_print this a1 a2 Q M) : E γ k_Model_print 9 0 [some (vr (some (11, this))), some (vi a1), some (vi a2), none] [] M (Qi Q) := by
  unfold w_Model_print at h
  refine E_blk (lv' := [some (vr (some (11, this))), some (vi a1), some (vi a2), none]) (st' := [vi a2, vi a1, vr (some (11, this))]) (M1 := M) (pc' := 3) (tb_Model hγ) [.aload_n 0, .iload_n 1, .iload_n 2] (by decide +kernel) rfl rfl trivial ?_
  refine E_callV (κ' := k_Model_isClass) (As := [vi a1, vi a2]) (st := []) mv_Model_isClass (Or.inl (tbk_mem (j := 15) (k := 129) rfl)) rfl (by decide +kernel) (Nat.le_of_ble_eq_true rfl) (Nat.le_of_ble_eq_true rfl) rfl (by decide) (lk_Model_isClass hγ this a1 a2 _ M h) (fun _ _ => Qi_r) (fun v M1 hp => Qi_k (R := fun st => E γ k_Model_print 9 6 [some (vr (some (11, this))), some (vi a1), some (vi a2), none] st M1 (Qi Q)) hp (fun r2 h => ?_))
  refine E_if_eq (off := 9) (tgt := 15) (by decide +kernel) (by decide) (fun b3 => ?_) (fun b3 => ?_)
  · rw [if_pos b3] at h
    refine E_blk (lv' := [some (vr (some (11, this))), some (vi a1), some (vi a2), none]) (st' := [vi (-1 : Int32)]) (M1 := M1) (pc' := 16) (tb_Model hγ) [.iconst (.negSucc 0)] (by decide +kernel) rfl rfl trivial ?_
    exact E_iret rfl (by decide +kernel) h
  · rw [if_neg b3] at h
    refine E_blk (lv' := [some (vr (some (11, this))), some (vi a1), some (vi a2), none]) (st' := [vi (21 : Int32), vi a2]) (M1 := M1) (pc' := 12) (tb_Model hγ) [.iload_n 2, .bipush 21] (by decide +kernel) rfl rfl trivial ?_
    refine E_icmp_ge (off := 5) (tgt := 17) (by decide +kernel) (by decide) (fun b4 => ?_) (fun b4 => ?_)
    · rw [if_pos b4] at h
      obtain ⟨c5, h⟩ := h
      refine E_blk (lv' := [some (vr (some (11, this))), some (vi a1), some (vi a2), none]) (st' := [vr (mR M1 703 0 a1.toNatClampNeg), vr (some (11, this))]) (M1 := M1) (pc' := 24) (tb_Model hγ) [.aload_n 0, .aload_n 0, .getfield 263, .iload_n 1, .aaload] (by decide +kernel) rfl rfl ⟨c5, trivial⟩ ?_
      obtain ⟨i6, ei6, h⟩ := h
      rw [ei6]
      refine E_blk (lv' := [some (vr (some (11, this))), some (vi a1), some (vi a2), none]) (st' := [vr (mR (sI (sR M1 11 this 45 (some (12, i6))) 11 this 95 (0 : Int32)) 11 this 45), vr (some (11, this))]) (M1 := (sI (sR M1 11 this 45 (some (12, i6))) 11 this 95 (0 : Int32))) (pc' := 37) (tb_Model hγ) [.putfield 522, .aload_n 0, .iconst 0, .putfield 1176, .aload_n 0, .aload_n 0, .getfield 522] (by decide +kernel) rfl rfl trivial ?_
      obtain ⟨i7, ei7, h⟩ := h
      rw [ei7]
      obtain ⟨c8, h⟩ := h
      refine E_blk (lv' := [some (vr (some (11, this))), some (vi a1), some (vi a2), none]) (st' := [vi ((mI (sI (sR M1 11 this 45 (some (12, i6))) 11 this 95 (0 : Int32)) 132 i7 a2.toNatClampNeg) &&& (1 : Int32)), vr (some (11, this))]) (M1 := (sI (sR M1 11 this 45 (some (12, i6))) 11 this 95 (0 : Int32))) (pc' := 44) (tb_Model hγ) [.getfield 429, .iload_n 2, .iaload, .iconst 1, .iand] (by decide +kernel) rfl rfl ⟨c8, trivial⟩ ?_
      refine E_if_eq (off := 7) (tgt := 51) (by decide +kernel) (by decide) (fun b9 => ?_) (fun b9 => ?_)
      · rw [if_pos b9] at h
        refine E_blk (lv' := [some (vr (some (11, this))), some (vi a1), some (vi a2), none]) (st' := [vi (0 : Int32), vr (some (11, this))]) (M1 := (sI (sR M1 11 this 45 (some (12, i6))) 11 this 95 (0 : Int32))) (pc' := 52) (tb_Model hγ) [.iconst 0] (by decide +kernel) rfl rfl trivial ?_
        refine E_mask [true, false, true, false] rfl ?_
        exact lk_Model_print_j52 hγ this Q a2 (0 : Int32) (sI (sR M1 11 this 45 (some (12, i6))) 11 this 95 (0 : Int32)) h
      · rw [if_neg b9] at h
        refine E_blk (lv' := [some (vr (some (11, this))), some (vi a1), some (vi a2), none]) (st' := [vi (1 : Int32), vr (some (11, this))]) (M1 := (sI (sR M1 11 this 45 (some (12, i6))) 11 this 95 (0 : Int32))) (pc' := 48) (tb_Model hγ) [.iconst 1] (by decide +kernel) rfl rfl trivial ?_
        refine E_goto (off := 4) (tgt := 52) (by decide +kernel) (by decide) ?_
        refine E_mask [true, false, true, false] rfl ?_
        exact lk_Model_print_j52 hγ this Q a2 (1 : Int32) (sI (sR M1 11 this 45 (some (12, i6))) 11 this 95 (0 : Int32)) h
    · rw [if_neg b4] at h
      refine E_blk (lv' := [some (vr (some (11, this))), some (vi a1), some (vi a2), none]) (st' := [vi (-1 : Int32)]) (M1 := M1) (pc' := 16) (tb_Model hγ) [.iconst (.negSucc 0)] (by decide +kernel) rfl rfl trivial ?_
      exact E_iret rfl (by decide +kernel) h
def w_Model_written (this : Nat) (a1 : Int32) (Q : Int32 → Mem → Prop) (M : Mem) : Prop :=
  if a1 < 0 then (Q (-1 : Int32) M) else (if a1 < (mI M 11 this 95) then (∃ i3, (mR M 11 this 94) = some (401, i3) ∧ vp_in a1 (mL M 401 i3) ∧ Q (mI M 401 i3 a1.toNatClampNeg) M) else (Q (-1 : Int32) M))
set_option maxRecDepth 4096 in
theorem lk_Model_written {γ : Gm} (hγ : Gk γ) (this : Nat) (a1 : Int32) (Q : Int32 → Mem → Prop) (M : Mem) (h : w_Model_written this a1 Q M) : E γ k_Model_written 0 0 [some (vr (some (11, this))), some (vi a1)] [] M (Qi Q) := by
  unfold w_Model_written at h
  refine E_blk (lv' := [some (vr (some (11, this))), some (vi a1)]) (st' := [vi a1]) (M1 := M) (pc' := 1) (tb_Model hγ) [.iload_n 1] (by decide +kernel) rfl rfl trivial ?_
  refine E_if_lt (off := 11) (tgt := 12) (by decide +kernel) (by decide) (fun b1 => ?_) (fun b1 => ?_)
  · rw [if_pos b1] at h
    refine E_blk (lv' := [some (vr (some (11, this))), some (vi a1)]) (st' := [vi (-1 : Int32)]) (M1 := M) (pc' := 13) (tb_Model hγ) [.iconst (.negSucc 0)] (by decide +kernel) rfl rfl trivial ?_
    refine E_goto (off := 9) (tgt := 22) (by decide +kernel) (by decide) ?_
    exact E_iret rfl (by decide +kernel) h
  · rw [if_neg b1] at h
    refine E_blk (lv' := [some (vr (some (11, this))), some (vi a1)]) (st' := [vi (mI M 11 this 95), vi a1]) (M1 := M) (pc' := 9) (tb_Model hγ) [.iload_n 1, .aload_n 0, .getfield 1176] (by decide +kernel) rfl rfl trivial ?_
    refine E_icmp_lt (off := 7) (tgt := 16) (by decide +kernel) (by decide) (fun b2 => ?_) (fun b2 => ?_)
    · rw [if_pos b2] at h
      refine E_blk (lv' := [some (vr (some (11, this))), some (vi a1)]) (st' := [vr (mR M 11 this 94)]) (M1 := M) (pc' := 20) (tb_Model hγ) [.aload_n 0, .getfield 323] (by decide +kernel) rfl rfl trivial ?_
      obtain ⟨i3, ei3, h⟩ := h
      rw [ei3]
      obtain ⟨c4, h⟩ := h
      refine E_blk (lv' := [some (vr (some (11, this))), some (vi a1)]) (st' := [vi (mI M 401 i3 a1.toNatClampNeg)]) (M1 := M) (pc' := 22) (tb_Model hγ) [.iload_n 1, .baload] (by decide +kernel) rfl rfl ⟨c4, trivial⟩ ?_
      exact E_iret rfl (by decide +kernel) h
    · rw [if_neg b2] at h
      refine E_blk (lv' := [some (vr (some (11, this))), some (vi a1)]) (st' := [vi (-1 : Int32)]) (M1 := M) (pc' := 13) (tb_Model hγ) [.iconst (.negSucc 0)] (by decide +kernel) rfl rfl trivial ?_
      refine E_goto (off := 9) (tgt := 22) (by decide +kernel) (by decide) ?_
      exact E_iret rfl (by decide +kernel) h
def w_Model_isUp_L5 (this : Nat) (Q : Int32 → Mem → Prop) : Nat → Int32 → Int32 → Int32 → Mem → Prop
  | 0, _, _, _, _ => False
  | n + 1, v1, v3, v4, M => if v3 < 0 then (Q (0 : Int32) M) else (if (51 : Int32) ≤ v4 then (Q (0 : Int32) M) else (if v3 = v1 then (Q (1 : Int32) M) else (w_Model_parentOf this v3 (fun r5 M4 => (w_Model_isUp_L5 this Q n) v1 r5 (v4 + (1 : Int32)) M4) M)))
def w_Model_isUp (this : Nat) (a1 : Int32) (a2 : Int32) (Q : Int32 → Mem → Prop) (M : Mem) : Prop :=
  ∃ n6 : Nat, w_Model_isUp_L5 this Q n6 a1 a2 (0 : Int32) M
set_option maxRecDepth 4096 in
theorem lk_Model_isUp_L5 {γ : Gm} (hγ : Gk γ) (this : Nat) (Q : Int32 → Mem → Prop) : ∀ (n : Nat) (v1 : Int32) (v3 : Int32) (v4 : Int32) (M : Mem), w_Model_isUp_L5 this Q n v1 v3 v4 M → E γ k_Model_isUp 2 5 [some (vr (some (11, this))), some (vi v1), none, some (vi v3), some (vi v4)] [] M (Qi Q) := by
  intro n
  induction n with
  | zero => intro v1 v3 v4 M h; exact h.elim
  | succ n ih =>
    intro v1 v3 v4 M h
    unfold w_Model_isUp_L5 at h
    refine E_blk (lv' := [some (vr (some (11, this))), some (vi v1), none, some (vi v3), some (vi v4)]) (st' := [vi v3]) (M1 := M) (pc' := 6) (tb_Model hγ) [.iload_n 3] (by decide +kernel) rfl rfl trivial ?_
    refine E_if_lt (off := 29) (tgt := 35) (by decide +kernel) (by decide) (fun b1 => ?_) (fun b1 => ?_)
    · rw [if_pos b1] at h
      refine E_blk (lv' := [some (vr (some (11, this))), some (vi v1), none, some (vi v3), some (vi v4)]) (st' := [vi (0 : Int32)]) (M1 := M) (pc' := 36) (tb_Model hγ) [.iconst 0] (by decide +kernel) rfl rfl trivial ?_
      exact E_zret rfl (Or.inl rfl) (by decide +kernel) h
    · rw [if_neg b1] at h
      refine E_blk (lv' := [some (vr (some (11, this))), some (vi v1), none, some (vi v3), some (vi v4)]) (st' := [vi (51 : Int32), vi v4]) (M1 := M) (pc' := 13) (tb_Model hγ) [.iload 4, .bipush 51] (by decide +kernel) rfl rfl trivial ?_
      refine E_icmp_ge (off := 22) (tgt := 35) (by decide +kernel) (by decide) (fun b2 => ?_) (fun b2 => ?_)
      · rw [if_pos b2] at h
        refine E_blk (lv' := [some (vr (some (11, this))), some (vi v1), none, some (vi v3), some (vi v4)]) (st' := [vi (0 : Int32)]) (M1 := M) (pc' := 36) (tb_Model hγ) [.iconst 0] (by decide +kernel) rfl rfl trivial ?_
        exact E_zret rfl (Or.inl rfl) (by decide +kernel) h
      · rw [if_neg b2] at h
        refine E_blk (lv' := [some (vr (some (11, this))), some (vi v1), none, some (vi v3), some (vi v4)]) (st' := [vi v1, vi v3]) (M1 := M) (pc' := 18) (tb_Model hγ) [.iload_n 3, .iload_n 1] (by decide +kernel) rfl rfl trivial ?_
        refine E_icmp_ne (off := 5) (tgt := 23) (by decide +kernel) (by decide) (fun b3 => ?_) (fun b3 => ?_)
        · rw [if_pos b3] at h
          refine E_blk (lv' := [some (vr (some (11, this))), some (vi v1), none, some (vi v3), some (vi v4)]) (st' := [vi (1 : Int32)]) (M1 := M) (pc' := 22) (tb_Model hγ) [.iconst 1] (by decide +kernel) rfl rfl trivial ?_
          exact E_zret rfl (Or.inr rfl) (by decide +kernel) h
        · rw [if_neg b3] at h
          refine E_blk (lv' := [some (vr (some (11, this))), some (vi v1), none, some (vi v3), some (vi v4)]) (st' := [vi v3, vr (some (11, this))]) (M1 := M) (pc' := 25) (tb_Model hγ) [.aload_n 0, .iload_n 3] (by decide +kernel) rfl rfl trivial ?_
          refine E_callV (κ' := k_Model_parentOf) (As := [vi v3]) (st := []) mv_Model_parentOf (Or.inl (tbk_mem (j := 15) (k := 157) rfl)) rfl (by decide +kernel) (Nat.le_of_ble_eq_true rfl) (Nat.le_of_ble_eq_true rfl) rfl (by decide) (lk_Model_parentOf hγ this v3 _ M h) (fun _ _ => Qi_r) (fun v M4 hp => Qi_k (R := fun st => E γ k_Model_isUp 2 28 [some (vr (some (11, this))), some (vi v1), none, some (vi v3), some (vi v4)] st M4 (Qi Q)) hp (fun r5 h => ?_))
          refine E_blk (lv' := [some (vr (some (11, this))), some (vi v1), none, some (vi r5), some (vi (v4 + (1 : Int32)))]) (st' := []) (M1 := M4) (pc' := 32) (tb_Model hγ) [.istore_n 3, .iinc 4 1] (by decide +kernel) rfl rfl trivial ?_
          refine E_goto (off := -27) (tgt := 5) (by decide +kernel) (by decide) ?_
          refine E_mask [true, true, false, true, true] rfl ?_
          exact ih v1 r5 (v4 + (1 : Int32)) M4 h
set_option maxRecDepth 4096 in
theorem lk_Model_isUp {γ : Gm} (hγ : Gk γ) (this : Nat) (a1 : Int32) (a2 : Int32) (Q : Int32 → Mem → Prop) (M : Mem) (h : w_Model_isUp this a1 a2 Q M) : E γ k_Model_isUp 2 0 [some (vr (some (11, this))), some (vi a1), some (vi a2), none, none] [] M (Qi Q) := by
  unfold w_Model_isUp at h
  refine E_blk (lv' := [some (vr (some (11, this))), some (vi a1), some (vi a2), some (vi a2), some (vi (0 : Int32))]) (st' := []) (M1 := M) (pc' := 5) (tb_Model hγ) [.iload_n 2, .istore_n 3, .iconst 0, .istore 4] (by decide +kernel) rfl rfl trivial ?_
  obtain ⟨n6, h⟩ := h
  refine E_mask [true, true, false, true, true] rfl ?_
  exact lk_Model_isUp_L5 hγ this Q n6 a1 a2 (0 : Int32) M h
def w_Model_joined_j33 (this : Nat) (Q : Int32 → Mem → Prop) (v1 : Int32) (v2 : Int32) (M : Mem) : Prop :=
  if v1 = (3 : Int32) then (Q v2 M) else (Q v1 M)
def w_Model_joined_L84 (this : Nat) (Q : Int32 → Mem → Prop) : Nat → Int32 → Int32 → Int32 → Mem → Prop
  | 0, _, _, _, _ => False
  | n + 1, v3, v4, v5, M => if v3 < 0 then (Q ((16 : Int32) + (mI M 11 this 8)) M) else (if v4 < 0 then (Q ((16 : Int32) + (mI M 11 this 8)) M) else (if (51 : Int32) ≤ v5 then (Q ((16 : Int32) + (mI M 11 this 8)) M) else (w_Model_isUp this v3 v4 (fun r21 M20 => if r21 = 0 then (w_Model_parentOf this v3 (fun r24 M23 => (w_Model_joined_L84 this Q n) r24 v4 (v5 + (1 : Int32)) M23) M20) else (∃ i25, (mR M20 11 this 45) = some (12, i25) ∧ vp_in v3 (mL M20 130 i25) ∧ Q ((16 : Int32) + (mI M20 130 i25 v3.toNatClampNeg)) M20)) M)))
def w_Model_joined (this : Nat) (a1 : Int32) (a2 : Int32) (Q : Int32 → Mem → Prop) (M : Mem) : Prop :=
  if a1 = a2 then (Q a1 M) else (w_Model_isRef a1 (fun r3 M2 => if r3 = 0 then (Q (0 : Int32) M2) else (w_Model_isRef a2 (fun r6 M5 => if r6 = 0 then (Q (0 : Int32) M5) else (if a1 = (3 : Int32) then (w_Model_joined_j33 this Q a1 a2 M5) else (if a2 = (3 : Int32) then (w_Model_joined_j33 this Q a1 a2 M5) else (if a1 = (2 : Int32) then (Q ((16 : Int32) + (mI M5 11 this 8)) M5) else (if a2 = (2 : Int32) then (Q ((16 : Int32) + (mI M5 11 this 8)) M5) else (w_Model_classOf this (a1 - (16 : Int32)) (fun r14 M13 => w_Model_classOf this (a2 - (16 : Int32)) (fun r16 M15 => ∃ n27 : Nat, w_Model_joined_L84 this Q n27 r14 r16 (0 : Int32) M15) M13) M5)))))) M2)) M)
set_option maxRecDepth 4096 in
theorem lk_Model_joined_j33 {γ : Gm} (hγ : Gk γ) (this : Nat) (Q : Int32 → Mem → Prop) (v1 : Int32) (v2 : Int32) (M : Mem) (h : w_Model_joined_j33 this Q v1 v2 M) : E γ k_Model_joined 3 33 [none, some (vi v1), some (vi v2), none, none, none] [] M (Qi Q) := by
  unfold w_Model_joined_j33 at h
  refine E_blk (lv' := [none, some (vi v1), some (vi v2), none, none, none]) (st' := [vi (3 : Int32), vi v1]) (M1 := M) (pc' := 35) (tb_Model hγ) [.iload_n 1, .iconst 3] (by decide +kernel) rfl rfl trivial ?_
  refine E_icmp_ne (off := 7) (tgt := 42) (by decide +kernel) (by decide) (fun b9 => ?_) (fun b9 => ?_)
  · rw [if_pos b9] at h
    refine E_blk (lv' := [none, some (vi v1), some (vi v2), none, none, none]) (st' := [vi v2]) (M1 := M) (pc' := 39) (tb_Model hγ) [.iload_n 2] (by decide +kernel) rfl rfl trivial ?_
    refine E_goto (off := 4) (tgt := 43) (by decide +kernel) (by decide) ?_
    exact E_iret rfl (by decide +kernel) h
  · rw [if_neg b9] at h
    refine E_blk (lv' := [none, some (vi v1), some (vi v2), none, none, none]) (st' := [vi v1]) (M1 := M) (pc' := 43) (tb_Model hγ) [.iload_n 1] (by decide +kernel) rfl rfl trivial ?_
    exact E_iret rfl (by decide +kernel) h
set_option maxRecDepth 4096 in
theorem lk_Model_joined_L84 {γ : Gm} (hγ : Gk γ) (this : Nat) (Q : Int32 → Mem → Prop) : ∀ (n : Nat) (v3 : Int32) (v4 : Int32) (v5 : Int32) (M : Mem), w_Model_joined_L84 this Q n v3 v4 v5 M → E γ k_Model_joined 3 84 [some (vr (some (11, this))), none, none, some (vi v3), some (vi v4), some (vi v5)] [] M (Qi Q) := by
  intro n
  induction n with
  | zero => intro v3 v4 v5 M h; exact h.elim
  | succ n ih =>
    intro v3 v4 v5 M h
    unfold w_Model_joined_L84 at h
    refine E_blk (lv' := [some (vr (some (11, this))), none, none, some (vi v3), some (vi v4), some (vi v5)]) (st' := [vi v3]) (M1 := M) (pc' := 85) (tb_Model hγ) [.iload_n 3] (by decide +kernel) rfl rfl trivial ?_
    refine E_if_lt (off := 50) (tgt := 135) (by decide +kernel) (by decide) (fun b17 => ?_) (fun b17 => ?_)
    · rw [if_pos b17] at h
      refine E_blk (lv' := [some (vr (some (11, this))), none, none, some (vi v3), some (vi v4), some (vi v5)]) (st' := [vi ((16 : Int32) + (mI M 11 this 8))]) (M1 := M) (pc' := 142) (tb_Model hγ) [.bipush 16, .aload_n 0, .getfield 153, .iadd] (by decide +kernel) rfl rfl trivial ?_
      exact E_iret rfl (by decide +kernel) h
    · rw [if_neg b17] at h
      refine E_blk (lv' := [some (vr (some (11, this))), none, none, some (vi v3), some (vi v4), some (vi v5)]) (st' := [vi v4]) (M1 := M) (pc' := 90) (tb_Model hγ) [.iload 4] (by decide +kernel) rfl rfl trivial ?_
      refine E_if_lt (off := 45) (tgt := 135) (by decide +kernel) (by decide) (fun b18 => ?_) (fun b18 => ?_)
      · rw [if_pos b18] at h
        refine E_blk (lv' := [some (vr (some (11, this))), none, none, some (vi v3), some (vi v4), some (vi v5)]) (st' := [vi ((16 : Int32) + (mI M 11 this 8))]) (M1 := M) (pc' := 142) (tb_Model hγ) [.bipush 16, .aload_n 0, .getfield 153, .iadd] (by decide +kernel) rfl rfl trivial ?_
        exact E_iret rfl (by decide +kernel) h
      · rw [if_neg b18] at h
        refine E_blk (lv' := [some (vr (some (11, this))), none, none, some (vi v3), some (vi v4), some (vi v5)]) (st' := [vi (51 : Int32), vi v5]) (M1 := M) (pc' := 97) (tb_Model hγ) [.iload 5, .bipush 51] (by decide +kernel) rfl rfl trivial ?_
        refine E_icmp_ge (off := 38) (tgt := 135) (by decide +kernel) (by decide) (fun b19 => ?_) (fun b19 => ?_)
        · rw [if_pos b19] at h
          refine E_blk (lv' := [some (vr (some (11, this))), none, none, some (vi v3), some (vi v4), some (vi v5)]) (st' := [vi ((16 : Int32) + (mI M 11 this 8))]) (M1 := M) (pc' := 142) (tb_Model hγ) [.bipush 16, .aload_n 0, .getfield 153, .iadd] (by decide +kernel) rfl rfl trivial ?_
          exact E_iret rfl (by decide +kernel) h
        · rw [if_neg b19] at h
          refine E_blk (lv' := [some (vr (some (11, this))), none, none, some (vi v3), some (vi v4), some (vi v5)]) (st' := [vi v4, vi v3, vr (some (11, this))]) (M1 := M) (pc' := 104) (tb_Model hγ) [.aload_n 0, .iload_n 3, .iload 4] (by decide +kernel) rfl rfl trivial ?_
          refine E_callV (κ' := k_Model_isUp) (As := [vi v3, vi v4]) (st := []) mv_Model_isUp (Or.inl (tbk_mem (j := 17) (k := 129) rfl)) rfl (by decide +kernel) (Nat.le_of_ble_eq_true rfl) (Nat.le_of_ble_eq_true rfl) rfl (by decide) (lk_Model_isUp hγ this v3 v4 _ M h) (fun _ _ => Qi_r) (fun v M20 hp => Qi_k (R := fun st => E γ k_Model_joined 3 107 [some (vr (some (11, this))), none, none, some (vi v3), some (vi v4), some (vi v5)] st M20 (Qi Q)) hp (fun r21 h => ?_))
          refine E_if_eq (off := 16) (tgt := 123) (by decide +kernel) (by decide) (fun b22 => ?_) (fun b22 => ?_)
          · rw [if_pos b22] at h
            refine E_blk (lv' := [some (vr (some (11, this))), none, none, some (vi v3), some (vi v4), some (vi v5)]) (st' := [vi v3, vr (some (11, this))]) (M1 := M20) (pc' := 125) (tb_Model hγ) [.aload_n 0, .iload_n 3] (by decide +kernel) rfl rfl trivial ?_
            refine E_callV (κ' := k_Model_parentOf) (As := [vi v3]) (st := []) mv_Model_parentOf (Or.inl (tbk_mem (j := 15) (k := 157) rfl)) rfl (by decide +kernel) (Nat.le_of_ble_eq_true rfl) (Nat.le_of_ble_eq_true rfl) rfl (by decide) (lk_Model_parentOf hγ this v3 _ M20 h) (fun _ _ => Qi_r) (fun v M23 hp => Qi_k (R := fun st => E γ k_Model_joined 3 128 [some (vr (some (11, this))), none, none, some (vi v3), some (vi v4), some (vi v5)] st M23 (Qi Q)) hp (fun r24 h => ?_))
            refine E_blk (lv' := [some (vr (some (11, this))), none, none, some (vi r24), some (vi v4), some (vi (v5 + (1 : Int32)))]) (st' := []) (M1 := M23) (pc' := 132) (tb_Model hγ) [.istore_n 3, .iinc 5 1] (by decide +kernel) rfl rfl trivial ?_
            refine E_goto (off := -48) (tgt := 84) (by decide +kernel) (by decide) ?_
            refine E_mask [true, false, false, true, true, true] rfl ?_
            exact ih r24 v4 (v5 + (1 : Int32)) M23 h
          · rw [if_neg b22] at h
            refine E_blk (lv' := [some (vr (some (11, this))), none, none, some (vi v3), some (vi v4), some (vi v5)]) (st' := [vr (mR M20 11 this 45), vi (16 : Int32)]) (M1 := M20) (pc' := 116) (tb_Model hγ) [.bipush 16, .aload_n 0, .getfield 522] (by decide +kernel) rfl rfl trivial ?_
            obtain ⟨i25, ei25, h⟩ := h
            rw [ei25]
            obtain ⟨c26, h⟩ := h
            refine E_blk (lv' := [some (vr (some (11, this))), none, none, some (vi v3), some (vi v4), some (vi v5)]) (st' := [vi ((16 : Int32) + (mI M20 130 i25 v3.toNatClampNeg))]) (M1 := M20) (pc' := 122) (tb_Model hγ) [.getfield 423, .iload_n 3, .iaload, .iadd] (by decide +kernel) rfl rfl ⟨c26, trivial⟩ ?_
            exact E_iret rfl (by decide +kernel) h
set_option maxRecDepth 4096 in
theorem lk_Model_joined {γ : Gm} (hγ : Gk γ) (this : Nat) (a1 : Int32) (a2 : Int32) (Q : Int32 → Mem → Prop) (M : Mem) (h : w_Model_joined this a1 a2 Q M) : E γ k_Model_joined 3 0 [some (vr (some (11, this))), some (vi a1), some (vi a2), none, none, none] [] M (Qi Q) := by
  unfold w_Model_joined at h
  refine E_blk (lv' := [some (vr (some (11, this))), some (vi a1), some (vi a2), none, none, none]) (st' := [vi a2, vi a1]) (M1 := M) (pc' := 2) (tb_Model hγ) [.iload_n 1, .iload_n 2] (by decide +kernel) rfl rfl trivial ?_
  refine E_icmp_ne (off := 5) (tgt := 7) (by decide +kernel) (by decide) (fun b1 => ?_) (fun b1 => ?_)
  · rw [if_pos b1] at h
    refine E_blk (lv' := [some (vr (some (11, this))), some (vi a1), some (vi a2), none, none, none]) (st' := [vi a1]) (M1 := M) (pc' := 6) (tb_Model hγ) [.iload_n 1] (by decide +kernel) rfl rfl trivial ?_
    exact E_iret rfl (by decide +kernel) h
  · rw [if_neg b1] at h
    refine E_blk (lv' := [some (vr (some (11, this))), some (vi a1), some (vi a2), none, none, none]) (st' := [vi a1]) (M1 := M) (pc' := 8) (tb_Model hγ) [.iload_n 1] (by decide +kernel) rfl rfl trivial ?_
    refine E_callS (κ' := k_Model_isRef) (As := [vi a1]) (st := []) ms_Model_isRef (Or.inl (tbk_mem (j := 15) (k := 229) rfl)) rfl (by decide +kernel) (Nat.le_of_ble_eq_true rfl) (Nat.le_of_ble_eq_true rfl) rfl (by decide) (lk_Model_isRef hγ a1 _ M h) (fun _ _ => Qi_r) (fun v M2 hp => Qi_k (R := fun st => E γ k_Model_joined 3 11 [some (vr (some (11, this))), some (vi a1), some (vi a2), none, none, none] st M2 (Qi Q)) hp (fun r3 h => ?_))
    refine E_if_eq (off := 10) (tgt := 21) (by decide +kernel) (by decide) (fun b4 => ?_) (fun b4 => ?_)
    · rw [if_pos b4] at h
      refine E_blk (lv' := [some (vr (some (11, this))), some (vi a1), some (vi a2), none, none, none]) (st' := [vi (0 : Int32)]) (M1 := M2) (pc' := 22) (tb_Model hγ) [.iconst 0] (by decide +kernel) rfl rfl trivial ?_
      exact E_iret rfl (by decide +kernel) h
    · rw [if_neg b4] at h
      refine E_blk (lv' := [some (vr (some (11, this))), some (vi a1), some (vi a2), none, none, none]) (st' := [vi a2]) (M1 := M2) (pc' := 15) (tb_Model hγ) [.iload_n 2] (by decide +kernel) rfl rfl trivial ?_
      refine E_callS (κ' := k_Model_isRef) (As := [vi a2]) (st := []) ms_Model_isRef (Or.inl (tbk_mem (j := 15) (k := 229) rfl)) rfl (by decide +kernel) (Nat.le_of_ble_eq_true rfl) (Nat.le_of_ble_eq_true rfl) rfl (by decide) (lk_Model_isRef hγ a2 _ M2 h) (fun _ _ => Qi_r) (fun v M5 hp => Qi_k (R := fun st => E γ k_Model_joined 3 18 [some (vr (some (11, this))), some (vi a1), some (vi a2), none, none, none] st M5 (Qi Q)) hp (fun r6 h => ?_))
      refine E_if_ne (off := 5) (tgt := 23) (by decide +kernel) (by decide) (fun b7 => ?_) (fun b7 => ?_)
      · rw [if_pos b7] at h
        refine E_blk (lv' := [some (vr (some (11, this))), some (vi a1), some (vi a2), none, none, none]) (st' := [vi (0 : Int32)]) (M1 := M5) (pc' := 22) (tb_Model hγ) [.iconst 0] (by decide +kernel) rfl rfl trivial ?_
        exact E_iret rfl (by decide +kernel) h
      · rw [if_neg b7] at h
        refine E_blk (lv' := [some (vr (some (11, this))), some (vi a1), some (vi a2), none, none, none]) (st' := [vi (3 : Int32), vi a1]) (M1 := M5) (pc' := 25) (tb_Model hγ) [.iload_n 1, .iconst 3] (by decide +kernel) rfl rfl trivial ?_
        refine E_icmp_eq (off := 8) (tgt := 33) (by decide +kernel) (by decide) (fun b8 => ?_) (fun b8 => ?_)
        · rw [if_pos b8] at h
          refine E_mask [false, true, true, false, false, false] rfl ?_
          exact lk_Model_joined_j33 hγ this Q a1 a2 M5 h
        · rw [if_neg b8] at h
          refine E_blk (lv' := [some (vr (some (11, this))), some (vi a1), some (vi a2), none, none, none]) (st' := [vi (3 : Int32), vi a2]) (M1 := M5) (pc' := 30) (tb_Model hγ) [.iload_n 2, .iconst 3] (by decide +kernel) rfl rfl trivial ?_
          refine E_icmp_ne (off := 14) (tgt := 44) (by decide +kernel) (by decide) (fun b10 => ?_) (fun b10 => ?_)
          · rw [if_pos b10] at h
            refine E_mask [false, true, true, false, false, false] rfl ?_
            exact lk_Model_joined_j33 hγ this Q a1 a2 M5 h
          · rw [if_neg b10] at h
            refine E_blk (lv' := [some (vr (some (11, this))), some (vi a1), some (vi a2), none, none, none]) (st' := [vi (2 : Int32), vi a1]) (M1 := M5) (pc' := 46) (tb_Model hγ) [.iload_n 1, .iconst 2] (by decide +kernel) rfl rfl trivial ?_
            refine E_icmp_eq (off := 8) (tgt := 54) (by decide +kernel) (by decide) (fun b11 => ?_) (fun b11 => ?_)
            · rw [if_pos b11] at h
              refine E_blk (lv' := [some (vr (some (11, this))), some (vi a1), some (vi a2), none, none, none]) (st' := [vi ((16 : Int32) + (mI M5 11 this 8))]) (M1 := M5) (pc' := 61) (tb_Model hγ) [.bipush 16, .aload_n 0, .getfield 153, .iadd] (by decide +kernel) rfl rfl trivial ?_
              exact E_iret rfl (by decide +kernel) h
            · rw [if_neg b11] at h
              refine E_blk (lv' := [some (vr (some (11, this))), some (vi a1), some (vi a2), none, none, none]) (st' := [vi (2 : Int32), vi a2]) (M1 := M5) (pc' := 51) (tb_Model hγ) [.iload_n 2, .iconst 2] (by decide +kernel) rfl rfl trivial ?_
              refine E_icmp_ne (off := 11) (tgt := 62) (by decide +kernel) (by decide) (fun b12 => ?_) (fun b12 => ?_)
              · rw [if_pos b12] at h
                refine E_blk (lv' := [some (vr (some (11, this))), some (vi a1), some (vi a2), none, none, none]) (st' := [vi ((16 : Int32) + (mI M5 11 this 8))]) (M1 := M5) (pc' := 61) (tb_Model hγ) [.bipush 16, .aload_n 0, .getfield 153, .iadd] (by decide +kernel) rfl rfl trivial ?_
                exact E_iret rfl (by decide +kernel) h
              · rw [if_neg b12] at h
                refine E_blk (lv' := [some (vr (some (11, this))), some (vi a1), some (vi a2), none, none, none]) (st' := [vi (a1 - (16 : Int32)), vr (some (11, this))]) (M1 := M5) (pc' := 67) (tb_Model hγ) [.aload_n 0, .iload_n 1, .bipush 16, .isub] (by decide +kernel) rfl rfl trivial ?_
                refine E_callV (κ' := k_Model_classOf) (As := [vi (a1 - (16 : Int32))]) (st := []) mv_Model_classOf (Or.inl (tbk_mem (j := 15) (k := 39) rfl)) rfl (by decide +kernel) (Nat.le_of_ble_eq_true rfl) (Nat.le_of_ble_eq_true rfl) rfl (by decide) (lk_Model_classOf hγ this (a1 - (16 : Int32)) _ M5 h) (fun _ _ => Qi_r) (fun v M13 hp => Qi_k (R := fun st => E γ k_Model_joined 3 70 [some (vr (some (11, this))), some (vi a1), some (vi a2), none, none, none] st M13 (Qi Q)) hp (fun r14 h => ?_))
                refine E_blk (lv' := [some (vr (some (11, this))), some (vi a1), some (vi a2), some (vi r14), none, none]) (st' := [vi (a2 - (16 : Int32)), vr (some (11, this))]) (M1 := M13) (pc' := 76) (tb_Model hγ) [.istore_n 3, .aload_n 0, .iload_n 2, .bipush 16, .isub] (by decide +kernel) rfl rfl trivial ?_
                refine E_callV (κ' := k_Model_classOf) (As := [vi (a2 - (16 : Int32))]) (st := []) mv_Model_classOf (Or.inl (tbk_mem (j := 15) (k := 39) rfl)) rfl (by decide +kernel) (Nat.le_of_ble_eq_true rfl) (Nat.le_of_ble_eq_true rfl) rfl (by decide) (lk_Model_classOf hγ this (a2 - (16 : Int32)) _ M13 h) (fun _ _ => Qi_r) (fun v M15 hp => Qi_k (R := fun st => E γ k_Model_joined 3 79 [some (vr (some (11, this))), some (vi a1), some (vi a2), some (vi r14), none, none] st M15 (Qi Q)) hp (fun r16 h => ?_))
                refine E_blk (lv' := [some (vr (some (11, this))), some (vi a1), some (vi a2), some (vi r14), some (vi r16), some (vi (0 : Int32))]) (st' := []) (M1 := M15) (pc' := 84) (tb_Model hγ) [.istore 4, .iconst 0, .istore 5] (by decide +kernel) rfl rfl trivial ?_
                obtain ⟨n27, h⟩ := h
                refine E_mask [true, false, false, true, true, true] rfl ?_
                exact lk_Model_joined_L84 hγ this Q n27 r14 r16 (0 : Int32) M15 h
def w_Model_join_j307 (this : Nat) (Q : Int32 → Mem → Prop) (k269 : Int32 → Int32 → Int32 → Mem → Prop) (v1 : Int32) (v3 : Int32) (v4 : Int32) (s0 : Int32) (s1 : Int32) (M : Mem) : Prop :=
  ((s1 ||| s0) = 0 ∨ (s1 ||| s0) = 1) ∧ vp_in v4 (mL (sI M 11 this 103 (s1 ||| s0)) 118 this) ∧ vp_in (((28 : Int32) * v1) + v4) (mL (sI M 11 this 103 (s1 ||| s0)) 116 this) ∧ ∃ M31, M31 = (sI (sI M 11 this 103 (s1 ||| s0)) 116 this (((28 : Int32) * v1) + v4).toNatClampNeg (mI (sI M 11 this 103 (s1 ||| s0)) 118 this v4.toNatClampNeg)) ∧ k269 v1 v3 (v4 + (1 : Int32)) M31
def w_Model_join_L269 (this : Nat) (Q : Int32 → Mem → Prop) : Nat → Int32 → Int32 → Int32 → Mem → Prop
  | 0, _, _, _, _ => False
  | n + 1, v1, v3, v4, M => if v3 ≤ v4 then (Q (0 : Int32) M) else (vp_in (((28 : Int32) * v1) + v4) (mL M 116 this) ∧ vp_in v4 (mL M 118 this) ∧ if (mI M 116 this (((28 : Int32) * v1) + v4).toNatClampNeg) = (mI M 118 this v4.toNatClampNeg) then (w_Model_join_j307 this Q (w_Model_join_L269 this Q n) v1 v3 v4 (0 : Int32) (mI M 11 this 103) M) else (w_Model_join_j307 this Q (w_Model_join_L269 this Q n) v1 v3 v4 (1 : Int32) (mI M 11 this 103) M))
def w_Model_join_j237 (this : Nat) (Q : Int32 → Mem → Prop) (k196 : Int32 → Int32 → Int32 → Mem → Prop) (v1 : Int32) (v3 : Int32) (v4 : Int32) (s0 : Int32) (s1 : Int32) (M : Mem) : Prop :=
  ((s1 ||| s0) = 0 ∨ (s1 ||| s0) = 1) ∧ vp_in v4 (mL (sI M 11 this 103 (s1 ||| s0)) 117 this) ∧ vp_in (((20 : Int32) * v1) + v4) (mL (sI M 11 this 103 (s1 ||| s0)) 115 this) ∧ ∃ M39, M39 = (sI (sI M 11 this 103 (s1 ||| s0)) 115 this (((20 : Int32) * v1) + v4).toNatClampNeg (mI (sI M 11 this 103 (s1 ||| s0)) 117 this v4.toNatClampNeg)) ∧ k196 v1 v3 (v4 + (1 : Int32)) M39
def w_Model_join_L196 (this : Nat) (Q : Int32 → Mem → Prop) : Nat → Int32 → Int32 → Int32 → Mem → Prop
  | 0, _, _, _, _ => False
  | n + 1, v1, v3, v4, M => if (mI M 11 this 102) ≤ v4 then (∃ n32 : Nat, w_Model_join_L269 this Q n32 v1 v3 (0 : Int32) M) else (vp_in (((20 : Int32) * v1) + v4) (mL M 115 this) ∧ vp_in v4 (mL M 117 this) ∧ if (mI M 115 this (((20 : Int32) * v1) + v4).toNatClampNeg) = (mI M 117 this v4.toNatClampNeg) then (w_Model_join_j237 this Q (w_Model_join_L196 this Q n) v1 v3 v4 (0 : Int32) (mI M 11 this 103) M) else (w_Model_join_j237 this Q (w_Model_join_L196 this Q n) v1 v3 v4 (1 : Int32) (mI M 11 this 103) M))
def w_Model_join_L141 (this : Nat) (Q : Int32 → Mem → Prop) : Nat → Int32 → Nat → Int32 → Int32 → Mem → Prop
  | 0, _, _, _, _, _ => False
  | n + 1, v1, v2, v3, v4, M => if v3 ≤ v4 then (∃ n40 : Nat, w_Model_join_L196 this Q n40 v1 v3 (0 : Int32) M) else (vp_in (((28 : Int32) * v1) + v4) (mL M 116 this) ∧ vp_in v4 (mL M 212 v2) ∧ w_Model_joined this (mI M 116 this (((28 : Int32) * v1) + v4).toNatClampNeg) (mI M 212 v2 v4.toNatClampNeg) (fun r44 M43 => vp_in v4 (mL M43 118 this) ∧ vp_in v4 (mL (sI M43 118 this v4.toNatClampNeg r44) 118 this) ∧ if (mI (sI M43 118 this v4.toNatClampNeg r44) 118 this v4.toNatClampNeg) = 0 then (Q (37 : Int32) (sI M43 118 this v4.toNatClampNeg r44)) else ((w_Model_join_L141 this Q n) v1 v2 v3 (v4 + (1 : Int32)) (sI M43 118 this v4.toNatClampNeg r44))) M)
def w_Model_join_j131 (this : Nat) (Q : Int32 → Mem → Prop) (k80 : Int32 → Nat → Int32 → Int32 → Mem → Prop) (v1 : Int32) (v2 : Nat) (v3 : Int32) (v4 : Int32) (s0 : Int32) (s1 : Int32) (M : Mem) : Prop :=
  vp_in s1 (mL M 117 this) ∧ k80 v1 v2 v3 (v4 + (1 : Int32)) (sI M 117 this s1.toNatClampNeg s0)
def w_Model_join_L80 (this : Nat) (Q : Int32 → Mem → Prop) : Nat → Int32 → Nat → Int32 → Int32 → Mem → Prop
  | 0, _, _, _, _, _ => False
  | n + 1, v1, v2, v3, v4, M => if (mI M 11 this 102) ≤ v4 then (∃ n48 : Nat, w_Model_join_L141 this Q n48 v1 v2 v3 (0 : Int32) M) else (vp_in (((20 : Int32) * v1) + v4) (mL M 115 this) ∧ vp_in v4 (mL M 111 this) ∧ w_Model_joined this (mI M 115 this (((20 : Int32) * v1) + v4).toNatClampNeg) (mI M 111 this v4.toNatClampNeg) (fun r52 M51 => if r52 = 0 then (w_Model_join_j131 this Q (w_Model_join_L80 this Q n) v1 v2 v3 v4 (4 : Int32) v4 M51) else (w_Model_join_j131 this Q (w_Model_join_L80 this Q n) v1 v2 v3 v4 r52 v4 M51)) M)
def w_Model_join (this : Nat) (a1 : Int32) (a2 : Nat) (a3 : Int32) (Q : Int32 → Mem → Prop) (M : Mem) : Prop :=
  vp_in a1 (mL M 519 this) ∧ if (mI M 519 this a1.toNatClampNeg) = 0 then (vp_in a1 (mL M 519 this) ∧ vp_in a1 (mL (sI M 519 this a1.toNatClampNeg ((1 : Int32) &&& 1)) 114 this) ∧ ∃ M5, M5 = (sI (sI M 519 this a1.toNatClampNeg ((1 : Int32) &&& 1)) 114 this a1.toNatClampNeg a3) ∧ ¬ (0 : Int32) < 0 ∧ ¬ ((20 : Int32) * a1) < 0 ∧ ¬ (mI M5 11 this 102) < 0 ∧ (0 : Int32).toNatClampNeg + (mI M5 11 this 102).toNatClampNeg ≤ mL M5 111 this ∧ ((20 : Int32) * a1).toNatClampNeg + (mI M5 11 this 102).toNatClampNeg ≤ mL M5 115 this ∧ ∃ M6, M6 = cpI M5 111 this (0 : Int32).toNatClampNeg 115 this ((20 : Int32) * a1).toNatClampNeg (mI M5 11 this 102).toNatClampNeg ∧ ¬ (0 : Int32) < 0 ∧ ¬ ((28 : Int32) * a1) < 0 ∧ ¬ a3 < 0 ∧ (0 : Int32).toNatClampNeg + a3.toNatClampNeg ≤ mL M6 212 a2 ∧ ((28 : Int32) * a1).toNatClampNeg + a3.toNatClampNeg ≤ mL M6 116 this ∧ ∃ M12, M12 = cpI M6 212 a2 (0 : Int32).toNatClampNeg 116 this ((28 : Int32) * a1).toNatClampNeg a3.toNatClampNeg ∧ ((1 : Int32) = 0 ∨ (1 : Int32) = 1) ∧ Q (0 : Int32) (sI M12 11 this 103 (1 : Int32))) else (vp_in a1 (mL M 114 this) ∧ if (mI M 114 this a1.toNatClampNeg) = a3 then (∃ n55 : Nat, w_Model_join_L80 this Q n55 a1 a2 a3 (0 : Int32) M) else (Q (37 : Int32) M))
set_option maxRecDepth 4096 in
theorem lk_Model_join_j307 {γ : Gm} (hγ : Gk γ) (this : Nat) (Q : Int32 → Mem → Prop) (k269 : Int32 → Int32 → Int32 → Mem → Prop) (hk269 : ∀ (v1 : Int32) (v3 : Int32) (v4 : Int32) (M : Mem), k269 v1 v3 v4 M → E γ k_Model_join 4 269 [some (vr (some (11, this))), some (vi v1), none, some (vi v3), some (vi v4), none] [] M (Qi Q)) (v1 : Int32) (v3 : Int32) (v4 : Int32) (s0 : Int32) (s1 : Int32) (M : Mem) (h : w_Model_join_j307 this Q k269 v1 v3 v4 s0 s1 M) : E γ k_Model_join 4 307 [some (vr (some (11, this))), some (vi v1), none, some (vi v3), some (vi v4), none] [vi s0, vi s1, vr (some (11, this))] M (Qi Q) := by
  unfold w_Model_join_j307 at h
  obtain ⟨c28, c29, c30, h⟩ := h
  refine E_blk (lv' := [some (vr (some (11, this))), some (vi v1), none, some (vi v3), some (vi v4), none]) (st' := []) (M1 := (sI (sI M 11 this 103 (s1 ||| s0)) 116 this (((28 : Int32) * v1) + v4).toNatClampNeg (mI (sI M 11 this 103 (s1 ||| s0)) 118 this v4.toNatClampNeg))) (pc' := 330) (tb_Model hγ) [.ior, .putfield 1266, .aload_n 0, .getfield 338, .bipush 28, .iload_n 1, .imul, .iload 4, .iadd, .aload_n 0, .getfield 347, .iload 4, .iaload, .iastore] (by decide +kernel) rfl rfl ⟨c28, c29, c30, trivial⟩ ?_
  obtain ⟨M31, eM31, h⟩ := h
  rw [← eM31]
  refine E_blk (lv' := [some (vr (some (11, this))), some (vi v1), none, some (vi v3), some (vi (v4 + (1 : Int32))), none]) (st' := []) (M1 := M31) (pc' := 333) (tb_Model hγ) [.iinc 4 1] (by decide +kernel) rfl rfl trivial ?_
  refine E_goto (off := -64) (tgt := 269) (by decide +kernel) (by decide) ?_
  refine E_mask [true, true, false, true, true, false] rfl ?_
  exact hk269 v1 v3 (v4 + (1 : Int32)) M31 h
set_option maxRecDepth 4096 in
theorem lk_Model_join_L269 {γ : Gm} (hγ : Gk γ) (this : Nat) (Q : Int32 → Mem → Prop) : ∀ (n : Nat) (v1 : Int32) (v3 : Int32) (v4 : Int32) (M : Mem), w_Model_join_L269 this Q n v1 v3 v4 M → E γ k_Model_join 4 269 [some (vr (some (11, this))), some (vi v1), none, some (vi v3), some (vi v4), none] [] M (Qi Q) := by
  intro n
  induction n with
  | zero => intro v1 v3 v4 M h; exact h.elim
  | succ n ih =>
    intro v1 v3 v4 M h
    unfold w_Model_join_L269 at h
    refine E_blk (lv' := [some (vr (some (11, this))), some (vi v1), none, some (vi v3), some (vi v4), none]) (st' := [vi v3, vi v4]) (M1 := M) (pc' := 272) (tb_Model hγ) [.iload 4, .iload_n 3] (by decide +kernel) rfl rfl trivial ?_
    refine E_icmp_ge (off := 64) (tgt := 336) (by decide +kernel) (by decide) (fun b24 => ?_) (fun b24 => ?_)
    · rw [if_pos b24] at h
      refine E_blk (lv' := [some (vr (some (11, this))), some (vi v1), none, some (vi v3), some (vi v4), none]) (st' := [vi (0 : Int32)]) (M1 := M) (pc' := 337) (tb_Model hγ) [.iconst 0] (by decide +kernel) rfl rfl trivial ?_
      exact E_iret rfl (by decide +kernel) h
    · rw [if_neg b24] at h
      obtain ⟨c25, c26, h⟩ := h
      refine E_blk (lv' := [some (vr (some (11, this))), some (vi v1), none, some (vi v3), some (vi v4), none]) (st' := [vi (mI M 118 this v4.toNatClampNeg), vi (mI M 116 this (((28 : Int32) * v1) + v4).toNatClampNeg), vi (mI M 11 this 103), vr (some (11, this))]) (M1 := M) (pc' := 299) (tb_Model hγ) [.aload_n 0, .dup, .getfield 1266, .aload_n 0, .getfield 338, .bipush 28, .iload_n 1, .imul, .iload 4, .iadd, .iaload, .aload_n 0, .getfield 347, .iload 4, .iaload] (by decide +kernel) rfl rfl ⟨c25, c26, trivial⟩ ?_
      refine E_icmp_eq (off := 7) (tgt := 306) (by decide +kernel) (by decide) (fun b27 => ?_) (fun b27 => ?_)
      · rw [if_pos b27] at h
        refine E_blk (lv' := [some (vr (some (11, this))), some (vi v1), none, some (vi v3), some (vi v4), none]) (st' := [vi (0 : Int32), vi (mI M 11 this 103), vr (some (11, this))]) (M1 := M) (pc' := 307) (tb_Model hγ) [.iconst 0] (by decide +kernel) rfl rfl trivial ?_
        refine E_mask [true, true, false, true, true, false] rfl ?_
        exact lk_Model_join_j307 hγ this Q (w_Model_join_L269 this Q n) ih v1 v3 v4 (0 : Int32) (mI M 11 this 103) M h
      · rw [if_neg b27] at h
        refine E_blk (lv' := [some (vr (some (11, this))), some (vi v1), none, some (vi v3), some (vi v4), none]) (st' := [vi (1 : Int32), vi (mI M 11 this 103), vr (some (11, this))]) (M1 := M) (pc' := 303) (tb_Model hγ) [.iconst 1] (by decide +kernel) rfl rfl trivial ?_
        refine E_goto (off := 4) (tgt := 307) (by decide +kernel) (by decide) ?_
        refine E_mask [true, true, false, true, true, false] rfl ?_
        exact lk_Model_join_j307 hγ this Q (w_Model_join_L269 this Q n) ih v1 v3 v4 (1 : Int32) (mI M 11 this 103) M h
set_option maxRecDepth 4096 in
theorem lk_Model_join_j237 {γ : Gm} (hγ : Gk γ) (this : Nat) (Q : Int32 → Mem → Prop) (k196 : Int32 → Int32 → Int32 → Mem → Prop) (hk196 : ∀ (v1 : Int32) (v3 : Int32) (v4 : Int32) (M : Mem), k196 v1 v3 v4 M → E γ k_Model_join 4 196 [some (vr (some (11, this))), some (vi v1), none, some (vi v3), some (vi v4), none] [] M (Qi Q)) (v1 : Int32) (v3 : Int32) (v4 : Int32) (s0 : Int32) (s1 : Int32) (M : Mem) (h : w_Model_join_j237 this Q k196 v1 v3 v4 s0 s1 M) : E γ k_Model_join 4 237 [some (vr (some (11, this))), some (vi v1), none, some (vi v3), some (vi v4), none] [vi s0, vi s1, vr (some (11, this))] M (Qi Q) := by
  unfold w_Model_join_j237 at h
  obtain ⟨c36, c37, c38, h⟩ := h
  refine E_blk (lv' := [some (vr (some (11, this))), some (vi v1), none, some (vi v3), some (vi v4), none]) (st' := []) (M1 := (sI (sI M 11 this 103 (s1 ||| s0)) 115 this (((20 : Int32) * v1) + v4).toNatClampNeg (mI (sI M 11 this 103 (s1 ||| s0)) 117 this v4.toNatClampNeg))) (pc' := 260) (tb_Model hγ) [.ior, .putfield 1266, .aload_n 0, .getfield 335, .bipush 20, .iload_n 1, .imul, .iload 4, .iadd, .aload_n 0, .getfield 344, .iload 4, .iaload, .iastore] (by decide +kernel) rfl rfl ⟨c36, c37, c38, trivial⟩ ?_
  obtain ⟨M39, eM39, h⟩ := h
  rw [← eM39]
  refine E_blk (lv' := [some (vr (some (11, this))), some (vi v1), none, some (vi v3), some (vi (v4 + (1 : Int32))), none]) (st' := []) (M1 := M39) (pc' := 263) (tb_Model hγ) [.iinc 4 1] (by decide +kernel) rfl rfl trivial ?_
  refine E_goto (off := -67) (tgt := 196) (by decide +kernel) (by decide) ?_
  refine E_mask [true, true, false, true, true, false] rfl ?_
  exact hk196 v1 v3 (v4 + (1 : Int32)) M39 h
set_option maxRecDepth 4096 in
theorem lk_Model_join_L196 {γ : Gm} (hγ : Gk γ) (this : Nat) (Q : Int32 → Mem → Prop) : ∀ (n : Nat) (v1 : Int32) (v3 : Int32) (v4 : Int32) (M : Mem), w_Model_join_L196 this Q n v1 v3 v4 M → E γ k_Model_join 4 196 [some (vr (some (11, this))), some (vi v1), none, some (vi v3), some (vi v4), none] [] M (Qi Q) := by
  intro n
  induction n with
  | zero => intro v1 v3 v4 M h; exact h.elim
  | succ n ih =>
    intro v1 v3 v4 M h
    unfold w_Model_join_L196 at h
    refine E_blk (lv' := [some (vr (some (11, this))), some (vi v1), none, some (vi v3), some (vi v4), none]) (st' := [vi (mI M 11 this 102), vi v4]) (M1 := M) (pc' := 202) (tb_Model hγ) [.iload 4, .aload_n 0, .getfield 1254] (by decide +kernel) rfl rfl trivial ?_
    refine E_icmp_ge (off := 64) (tgt := 266) (by decide +kernel) (by decide) (fun b23 => ?_) (fun b23 => ?_)
    · rw [if_pos b23] at h
      refine E_blk (lv' := [some (vr (some (11, this))), some (vi v1), none, some (vi v3), some (vi (0 : Int32)), none]) (st' := []) (M1 := M) (pc' := 269) (tb_Model hγ) [.iconst 0, .istore 4] (by decide +kernel) rfl rfl trivial ?_
      obtain ⟨n32, h⟩ := h
      refine E_mask [true, true, false, true, true, false] rfl ?_
      exact lk_Model_join_L269 hγ this Q n32 v1 v3 (0 : Int32) M h
    · rw [if_neg b23] at h
      obtain ⟨c33, c34, h⟩ := h
      refine E_blk (lv' := [some (vr (some (11, this))), some (vi v1), none, some (vi v3), some (vi v4), none]) (st' := [vi (mI M 117 this v4.toNatClampNeg), vi (mI M 115 this (((20 : Int32) * v1) + v4).toNatClampNeg), vi (mI M 11 this 103), vr (some (11, this))]) (M1 := M) (pc' := 229) (tb_Model hγ) [.aload_n 0, .dup, .getfield 1266, .aload_n 0, .getfield 335, .bipush 20, .iload_n 1, .imul, .iload 4, .iadd, .iaload, .aload_n 0, .getfield 344, .iload 4, .iaload] (by decide +kernel) rfl rfl ⟨c33, c34, trivial⟩ ?_
      refine E_icmp_eq (off := 7) (tgt := 236) (by decide +kernel) (by decide) (fun b35 => ?_) (fun b35 => ?_)
      · rw [if_pos b35] at h
        refine E_blk (lv' := [some (vr (some (11, this))), some (vi v1), none, some (vi v3), some (vi v4), none]) (st' := [vi (0 : Int32), vi (mI M 11 this 103), vr (some (11, this))]) (M1 := M) (pc' := 237) (tb_Model hγ) [.iconst 0] (by decide +kernel) rfl rfl trivial ?_
        refine E_mask [true, true, false, true, true, false] rfl ?_
        exact lk_Model_join_j237 hγ this Q (w_Model_join_L196 this Q n) ih v1 v3 v4 (0 : Int32) (mI M 11 this 103) M h
      · rw [if_neg b35] at h
        refine E_blk (lv' := [some (vr (some (11, this))), some (vi v1), none, some (vi v3), some (vi v4), none]) (st' := [vi (1 : Int32), vi (mI M 11 this 103), vr (some (11, this))]) (M1 := M) (pc' := 233) (tb_Model hγ) [.iconst 1] (by decide +kernel) rfl rfl trivial ?_
        refine E_goto (off := 4) (tgt := 237) (by decide +kernel) (by decide) ?_
        refine E_mask [true, true, false, true, true, false] rfl ?_
        exact lk_Model_join_j237 hγ this Q (w_Model_join_L196 this Q n) ih v1 v3 v4 (1 : Int32) (mI M 11 this 103) M h
set_option maxRecDepth 4096 in
theorem lk_Model_join_L141 {γ : Gm} (hγ : Gk γ) (this : Nat) (Q : Int32 → Mem → Prop) : ∀ (n : Nat) (v1 : Int32) (v2 : Nat) (v3 : Int32) (v4 : Int32) (M : Mem), w_Model_join_L141 this Q n v1 v2 v3 v4 M → E γ k_Model_join 4 141 [some (vr (some (11, this))), some (vi v1), some (vr (some (212, v2))), some (vi v3), some (vi v4), none] [] M (Qi Q) := by
  intro n
  induction n with
  | zero => intro v1 v2 v3 v4 M h; exact h.elim
  | succ n ih =>
    intro v1 v2 v3 v4 M h
    unfold w_Model_join_L141 at h
    refine E_blk (lv' := [some (vr (some (11, this))), some (vi v1), some (vr (some (212, v2))), some (vi v3), some (vi v4), none]) (st' := [vi v3, vi v4]) (M1 := M) (pc' := 144) (tb_Model hγ) [.iload 4, .iload_n 3] (by decide +kernel) rfl rfl trivial ?_
    refine E_icmp_ge (off := 49) (tgt := 193) (by decide +kernel) (by decide) (fun b22 => ?_) (fun b22 => ?_)
    · rw [if_pos b22] at h
      refine E_blk (lv' := [some (vr (some (11, this))), some (vi v1), some (vr (some (212, v2))), some (vi v3), some (vi (0 : Int32)), none]) (st' := []) (M1 := M) (pc' := 196) (tb_Model hγ) [.iconst 0, .istore 4] (by decide +kernel) rfl rfl trivial ?_
      obtain ⟨n40, h⟩ := h
      refine E_mask [true, true, false, true, true, false] rfl ?_
      exact lk_Model_join_L196 hγ this Q n40 v1 v3 (0 : Int32) M h
    · rw [if_neg b22] at h
      obtain ⟨c41, c42, h⟩ := h
      refine E_blk (lv' := [some (vr (some (11, this))), some (vi v1), some (vr (some (212, v2))), some (vi v3), some (vi v4), none]) (st' := [vi (mI M 212 v2 v4.toNatClampNeg), vi (mI M 116 this (((28 : Int32) * v1) + v4).toNatClampNeg), vr (some (11, this)), vi v4, vr (some (118, this))]) (M1 := M) (pc' := 170) (tb_Model hγ) [.aload_n 0, .getfield 347, .iload 4, .aload_n 0, .aload_n 0, .getfield 338, .bipush 28, .iload_n 1, .imul, .iload 4, .iadd, .iaload, .aload_n 2, .iload 4, .iaload] (by decide +kernel) rfl rfl ⟨c41, c42, trivial⟩ ?_
      refine E_callV (κ' := k_Model_joined) (As := [vi (mI M 116 this (((28 : Int32) * v1) + v4).toNatClampNeg), vi (mI M 212 v2 v4.toNatClampNeg)]) (st := [vi v4, vr (some (118, this))]) mv_Model_joined (Or.inl (tbk_mem (j := 17) (k := 125) rfl)) rfl (by decide +kernel) (Nat.le_of_ble_eq_true rfl) (Nat.le_of_ble_eq_true rfl) rfl (by decide) (lk_Model_joined hγ this (mI M 116 this (((28 : Int32) * v1) + v4).toNatClampNeg) (mI M 212 v2 v4.toNatClampNeg) _ M h) (fun _ _ => Qi_r) (fun v M43 hp => Qi_k (R := fun st => E γ k_Model_join 4 173 [some (vr (some (11, this))), some (vi v1), some (vr (some (212, v2))), some (vi v3), some (vi v4), none] st M43 (Qi Q)) hp (fun r44 h => ?_))
      obtain ⟨c45, c46, h⟩ := h
      refine E_blk (lv' := [some (vr (some (11, this))), some (vi v1), some (vr (some (212, v2))), some (vi v3), some (vi v4), none]) (st' := [vi (mI (sI M43 118 this v4.toNatClampNeg r44) 118 this v4.toNatClampNeg)]) (M1 := (sI M43 118 this v4.toNatClampNeg r44)) (pc' := 181) (tb_Model hγ) [.iastore, .aload_n 0, .getfield 347, .iload 4, .iaload] (by decide +kernel) rfl rfl ⟨c45, c46, trivial⟩ ?_
      refine E_if_ne (off := 6) (tgt := 187) (by decide +kernel) (by decide) (fun b47 => ?_) (fun b47 => ?_)
      · rw [if_pos b47] at h
        refine E_blk (lv' := [some (vr (some (11, this))), some (vi v1), some (vr (some (212, v2))), some (vi v3), some (vi v4), none]) (st' := [vi (37 : Int32)]) (M1 := (sI M43 118 this v4.toNatClampNeg r44)) (pc' := 186) (tb_Model hγ) [.bipush 37] (by decide +kernel) rfl rfl trivial ?_
        exact E_iret rfl (by decide +kernel) h
      · rw [if_neg b47] at h
        refine E_blk (lv' := [some (vr (some (11, this))), some (vi v1), some (vr (some (212, v2))), some (vi v3), some (vi (v4 + (1 : Int32))), none]) (st' := []) (M1 := (sI M43 118 this v4.toNatClampNeg r44)) (pc' := 190) (tb_Model hγ) [.iinc 4 1] (by decide +kernel) rfl rfl trivial ?_
        refine E_goto (off := -49) (tgt := 141) (by decide +kernel) (by decide) ?_
        refine E_mask [true, true, true, true, true, false] rfl ?_
        exact ih v1 v2 v3 (v4 + (1 : Int32)) (sI M43 118 this v4.toNatClampNeg r44) h
set_option maxRecDepth 4096 in
theorem lk_Model_join_j131 {γ : Gm} (hγ : Gk γ) (this : Nat) (Q : Int32 → Mem → Prop) (k80 : Int32 → Nat → Int32 → Int32 → Mem → Prop) (hk80 : ∀ (v1 : Int32) (v2 : Nat) (v3 : Int32) (v4 : Int32) (M : Mem), k80 v1 v2 v3 v4 M → E γ k_Model_join 4 80 [some (vr (some (11, this))), some (vi v1), some (vr (some (212, v2))), some (vi v3), some (vi v4), none] [] M (Qi Q)) (v1 : Int32) (v2 : Nat) (v3 : Int32) (v4 : Int32) (s0 : Int32) (s1 : Int32) (M : Mem) (h : w_Model_join_j131 this Q k80 v1 v2 v3 v4 s0 s1 M) : E γ k_Model_join 4 131 [some (vr (some (11, this))), some (vi v1), some (vr (some (212, v2))), some (vi v3), some (vi v4), none] [vi s0, vi s1, vr (some (117, this))] M (Qi Q) := by
  unfold w_Model_join_j131 at h
  obtain ⟨c54, h⟩ := h
  refine E_blk (lv' := [some (vr (some (11, this))), some (vi v1), some (vr (some (212, v2))), some (vi v3), some (vi (v4 + (1 : Int32))), none]) (st' := []) (M1 := (sI M 117 this s1.toNatClampNeg s0)) (pc' := 135) (tb_Model hγ) [.iastore, .iinc 4 1] (by decide +kernel) rfl rfl ⟨c54, trivial⟩ ?_
  refine E_goto (off := -55) (tgt := 80) (by decide +kernel) (by decide) ?_
  refine E_mask [true, true, true, true, true, false] rfl ?_
  exact hk80 v1 v2 v3 (v4 + (1 : Int32)) (sI M 117 this s1.toNatClampNeg s0) h
set_option maxRecDepth 4096 in
theorem lk_Model_join_L80 {γ : Gm} (hγ : Gk γ) (this : Nat) (Q : Int32 → Mem → Prop) : ∀ (n : Nat) (v1 : Int32) (v2 : Nat) (v3 : Int32) (v4 : Int32) (M : Mem), w_Model_join_L80 this Q n v1 v2 v3 v4 M → E γ k_Model_join 4 80 [some (vr (some (11, this))), some (vi v1), some (vr (some (212, v2))), some (vi v3), some (vi v4), none] [] M (Qi Q) := by
  intro n
  induction n with
  | zero => intro v1 v2 v3 v4 M h; exact h.elim
  | succ n ih =>
    intro v1 v2 v3 v4 M h
    unfold w_Model_join_L80 at h
    refine E_blk (lv' := [some (vr (some (11, this))), some (vi v1), some (vr (some (212, v2))), some (vi v3), some (vi v4), none]) (st' := [vi (mI M 11 this 102), vi v4]) (M1 := M) (pc' := 86) (tb_Model hγ) [.iload 4, .aload_n 0, .getfield 1254] (by decide +kernel) rfl rfl trivial ?_
    refine E_icmp_ge (off := 52) (tgt := 138) (by decide +kernel) (by decide) (fun b21 => ?_) (fun b21 => ?_)
    · rw [if_pos b21] at h
      refine E_blk (lv' := [some (vr (some (11, this))), some (vi v1), some (vr (some (212, v2))), some (vi v3), some (vi (0 : Int32)), none]) (st' := []) (M1 := M) (pc' := 141) (tb_Model hγ) [.iconst 0, .istore 4] (by decide +kernel) rfl rfl trivial ?_
      obtain ⟨n48, h⟩ := h
      refine E_mask [true, true, true, true, true, false] rfl ?_
      exact lk_Model_join_L141 hγ this Q n48 v1 v2 v3 (0 : Int32) M h
    · rw [if_neg b21] at h
      obtain ⟨c49, c50, h⟩ := h
      refine E_blk (lv' := [some (vr (some (11, this))), some (vi v1), some (vr (some (212, v2))), some (vi v3), some (vi v4), none]) (st' := [vi (mI M 111 this v4.toNatClampNeg), vi (mI M 115 this (((20 : Int32) * v1) + v4).toNatClampNeg), vr (some (11, this))]) (M1 := M) (pc' := 109) (tb_Model hγ) [.aload_n 0, .aload_n 0, .getfield 335, .bipush 20, .iload_n 1, .imul, .iload 4, .iadd, .iaload, .aload_n 0, .getfield 305, .iload 4, .iaload] (by decide +kernel) rfl rfl ⟨c49, c50, trivial⟩ ?_
      refine E_callV (κ' := k_Model_joined) (As := [vi (mI M 115 this (((20 : Int32) * v1) + v4).toNatClampNeg), vi (mI M 111 this v4.toNatClampNeg)]) (st := []) mv_Model_joined (Or.inl (tbk_mem (j := 17) (k := 125) rfl)) rfl (by decide +kernel) (Nat.le_of_ble_eq_true rfl) (Nat.le_of_ble_eq_true rfl) rfl (by decide) (lk_Model_joined hγ this (mI M 115 this (((20 : Int32) * v1) + v4).toNatClampNeg) (mI M 111 this v4.toNatClampNeg) _ M h) (fun _ _ => Qi_r) (fun v M51 hp => Qi_k (R := fun st => E γ k_Model_join 4 112 [some (vr (some (11, this))), some (vi v1), some (vr (some (212, v2))), some (vi v3), some (vi v4), none] st M51 (Qi Q)) hp (fun r52 h => ?_))
      refine E_blk (lv' := [some (vr (some (11, this))), some (vi v1), some (vr (some (212, v2))), some (vi v3), some (vi v4), some (vi r52)]) (st' := [vi r52, vi v4, vr (some (117, this))]) (M1 := M51) (pc' := 122) (tb_Model hγ) [.istore 5, .aload_n 0, .getfield 344, .iload 4, .iload 5] (by decide +kernel) rfl rfl trivial ?_
      refine E_if_ne (off := 7) (tgt := 129) (by decide +kernel) (by decide) (fun b53 => ?_) (fun b53 => ?_)
      · rw [if_pos b53] at h
        refine E_blk (lv' := [some (vr (some (11, this))), some (vi v1), some (vr (some (212, v2))), some (vi v3), some (vi v4), some (vi r52)]) (st' := [vi (4 : Int32), vi v4, vr (some (117, this))]) (M1 := M51) (pc' := 126) (tb_Model hγ) [.iconst 4] (by decide +kernel) rfl rfl trivial ?_
        refine E_goto (off := 5) (tgt := 131) (by decide +kernel) (by decide) ?_
        refine E_mask [true, true, true, true, true, false] rfl ?_
        exact lk_Model_join_j131 hγ this Q (w_Model_join_L80 this Q n) ih v1 v2 v3 v4 (4 : Int32) v4 M51 h
      · rw [if_neg b53] at h
        refine E_blk (lv' := [some (vr (some (11, this))), some (vi v1), some (vr (some (212, v2))), some (vi v3), some (vi v4), some (vi r52)]) (st' := [vi r52, vi v4, vr (some (117, this))]) (M1 := M51) (pc' := 131) (tb_Model hγ) [.iload 5] (by decide +kernel) rfl rfl trivial ?_
        refine E_mask [true, true, true, true, true, false] rfl ?_
        exact lk_Model_join_j131 hγ this Q (w_Model_join_L80 this Q n) ih v1 v2 v3 v4 r52 v4 M51 h
set_option maxRecDepth 4096 in
theorem lk_Model_join {γ : Gm} (hγ : Gk γ) (this : Nat) (a1 : Int32) (a2 : Nat) (a3 : Int32) (Q : Int32 → Mem → Prop) (M : Mem) (h : w_Model_join this a1 a2 a3 Q M) : E γ k_Model_join 4 0 [some (vr (some (11, this))), some (vi a1), some (vr (some (212, a2))), some (vi a3), none, none] [] M (Qi Q) := by
  unfold w_Model_join at h
  obtain ⟨c1, h⟩ := h
  refine E_blk (lv' := [some (vr (some (11, this))), some (vi a1), some (vr (some (212, a2))), some (vi a3), none, none]) (st' := [vi (mI M 519 this a1.toNatClampNeg)]) (M1 := M) (pc' := 6) (tb_Model hγ) [.aload_n 0, .getfield 329, .iload_n 1, .baload] (by decide +kernel) rfl rfl ⟨c1, trivial⟩ ?_
  refine E_if_ne (off := 58) (tgt := 64) (by decide +kernel) (by decide) (fun b2 => ?_) (fun b2 => ?_)
  · rw [if_pos b2] at h
    obtain ⟨c3, c4, h⟩ := h
    refine E_blk (lv' := [some (vr (some (11, this))), some (vi a1), some (vr (some (212, a2))), some (vi a3), none, none]) (st' := []) (M1 := (sI (sI M 519 this a1.toNatClampNeg ((1 : Int32) &&& 1)) 114 this a1.toNatClampNeg a3)) (pc' := 23) (tb_Model hγ) [.aload_n 0, .getfield 329, .iload_n 1, .iconst 1, .bastore, .aload_n 0, .getfield 332, .iload_n 1, .iload_n 3, .iastore] (by decide +kernel) rfl rfl ⟨c3, c4, trivial⟩ ?_
    obtain ⟨M5, eM5, h⟩ := h
    rw [← eM5]
    refine E_blk (lv' := [some (vr (some (11, this))), some (vi a1), some (vr (some (212, a2))), some (vi a3), none, none]) (st' := [vi (mI M5 11 this 102), vi ((20 : Int32) * a1), vr (some (115, this)), vi (0 : Int32), vr (some (111, this))]) (M1 := M5) (pc' := 40) (tb_Model hγ) [.aload_n 0, .getfield 305, .iconst 0, .aload_n 0, .getfield 335, .bipush 20, .iload_n 1, .imul, .aload_n 0, .getfield 1254] (by decide +kernel) rfl rfl trivial ?_
    obtain ⟨c7, c8, c9, c10, c11, M6, eM6, h⟩ := h
    refine E_copy (pc := 40) (κ := k_Model_join) (f := 111) (i := this) (g := 115) (j := this) (sp := (0 : Int32)) (dp := ((20 : Int32) * a1)) (n := (mI M5 11 this 102)) (idx := 11) (st := []) c7 c8 c9 c10 c11 (by decide) (by decide) rfl (by decide) (tbk_mem (j := 11) (k := 65) rfl) (by decide +kernel) (Nat.le_of_ble_eq_true rfl) ?_
    rw [← eM6]
    refine E_blk (lv' := [some (vr (some (11, this))), some (vi a1), some (vr (some (212, a2))), some (vi a3), none, none]) (st' := [vi a3, vi ((28 : Int32) * a1), vr (some (116, this)), vi (0 : Int32), vr (some (212, a2))]) (M1 := M6) (pc' := 54) (tb_Model hγ) [.aload_n 2, .iconst 0, .aload_n 0, .getfield 338, .bipush 28, .iload_n 1, .imul, .iload_n 3] (by decide +kernel) rfl rfl trivial ?_
    obtain ⟨c13, c14, c15, c16, c17, M12, eM12, h⟩ := h
    refine E_copy (pc := 54) (κ := k_Model_join) (f := 212) (i := a2) (g := 116) (j := this) (sp := (0 : Int32)) (dp := ((28 : Int32) * a1)) (n := a3) (idx := 11) (st := []) c13 c14 c15 c16 c17 (by decide) (by decide) rfl (by decide) (tbk_mem (j := 11) (k := 65) rfl) (by decide +kernel) (Nat.le_of_ble_eq_true rfl) ?_
    rw [← eM12]
    obtain ⟨c18, h⟩ := h
    refine E_blk (lv' := [some (vr (some (11, this))), some (vi a1), some (vr (some (212, a2))), some (vi a3), none, none]) (st' := [vi (0 : Int32)]) (M1 := (sI M12 11 this 103 (1 : Int32))) (pc' := 63) (tb_Model hγ) [.aload_n 0, .iconst 1, .putfield 1266, .iconst 0] (by decide +kernel) rfl rfl ⟨c18, trivial⟩ ?_
    exact E_iret rfl (by decide +kernel) h
  · rw [if_neg b2] at h
    obtain ⟨c19, h⟩ := h
    refine E_blk (lv' := [some (vr (some (11, this))), some (vi a1), some (vr (some (212, a2))), some (vi a3), none, none]) (st' := [vi a3, vi (mI M 114 this a1.toNatClampNeg)]) (M1 := M) (pc' := 71) (tb_Model hγ) [.aload_n 0, .getfield 332, .iload_n 1, .iaload, .iload_n 3] (by decide +kernel) rfl rfl ⟨c19, trivial⟩ ?_
    refine E_icmp_eq (off := 6) (tgt := 77) (by decide +kernel) (by decide) (fun b20 => ?_) (fun b20 => ?_)
    · rw [if_pos b20] at h
      refine E_blk (lv' := [some (vr (some (11, this))), some (vi a1), some (vr (some (212, a2))), some (vi a3), some (vi (0 : Int32)), none]) (st' := []) (M1 := M) (pc' := 80) (tb_Model hγ) [.iconst 0, .istore 4] (by decide +kernel) rfl rfl trivial ?_
      obtain ⟨n55, h⟩ := h
      refine E_mask [true, true, true, true, true, false] rfl ?_
      exact lk_Model_join_L80 hγ this Q n55 a1 a2 a3 (0 : Int32) M h
    · rw [if_neg b20] at h
      refine E_blk (lv' := [some (vr (some (11, this))), some (vi a1), some (vr (some (212, a2))), some (vi a3), none, none]) (st' := [vi (37 : Int32)]) (M1 := M) (pc' := 76) (tb_Model hγ) [.bipush 37] (by decide +kernel) rfl rfl trivial ?_
      exact E_iret rfl (by decide +kernel) h
def w_Model_inferHandlers_j142 (this : Nat) (Q : Int32 → Mem → Prop) (k10 : Int32 → Int32 → Int32 → Mem → Prop) (v1 : Int32) (v2 : Int32) (v3 : Int32) (M : Mem) : Prop :=
  k10 v1 v2 (v3 + (1 : Int32)) M
def w_Model_inferHandlers_j141 (this : Nat) (Q : Int32 → Mem → Prop) (k10 : Int32 → Int32 → Int32 → Mem → Prop) (v1 : Int32) (v3 : Int32) (s0 : Int32) (M : Mem) : Prop :=
  w_Model_inferHandlers_j142 this Q k10 v1 s0 v3 M
def w_Model_inferHandlers_j101 (this : Nat) (Q : Int32 → Mem → Prop) (k10 : Int32 → Int32 → Int32 → Mem → Prop) (v1 : Int32) (v3 : Int32) (s0 : Int32) (s1 : Int32) (s2 : Int32) (s3 : Nat) (M : Mem) : Prop :=
  vp_in s2 (mL M 212 s3) ∧ ∃ i17, (mR (sI M 212 s3 s2.toNatClampNeg (s1 + s0)) 11 this 45) = some (12, i17) ∧ vp_in (mI (sI M 212 s3 s2.toNatClampNeg (s1 + s0)) 11 this 75) (mL (sI M 212 s3 s2.toNatClampNeg (s1 + s0)) 147 i17) ∧ if (mI (sI M 212 s3 s2.toNatClampNeg (s1 + s0)) 147 i17 (mI (sI M 212 s3 s2.toNatClampNeg (s1 + s0)) 11 this 75).toNatClampNeg) = 0 then (w_Model_inferHandlers_j141 this Q k10 v1 v3 (30 : Int32) (sI M 212 s3 s2.toNatClampNeg (s1 + s0))) else (∃ i20, (mR (sI M 212 s3 s2.toNatClampNeg (s1 + s0)) 11 this 45) = some (12, i20) ∧ vp_in v3 (mL (sI M 212 s3 s2.toNatClampNeg (s1 + s0)) 154 i20) ∧ w_Model_join this (mI (sI M 212 s3 s2.toNatClampNeg (s1 + s0)) 154 i20 v3.toNatClampNeg) 1 (1 : Int32) (fun r23 M22 => w_Model_inferHandlers_j141 this Q k10 v1 v3 r23 M22) (sI M 212 s3 s2.toNatClampNeg (s1 + s0)))
def w_Model_inferHandlers_L10 (this : Nat) (Q : Int32 → Mem → Prop) : Nat → Int32 → Int32 → Int32 → Mem → Prop
  | 0, _, _, _, _ => False
  | n + 1, v1, v2, v3, M => ∃ i1, (mR M 11 this 45) = some (12, i1) ∧ vp_in (mI M 11 this 75) (mL M 151 i1) ∧ if (((8 : Int32) * (mI M 11 this 75)) + (mI M 151 i1 (mI M 11 this 75).toNatClampNeg)) ≤ v3 then (Q v2 M) else (if v2 = 0 then (∃ i5, (mR M 11 this 45) = some (12, i5) ∧ vp_in v3 (mL M 152 i5) ∧ if v1 < (mI M 152 i5 v3.toNatClampNeg) then (w_Model_inferHandlers_j142 this Q (w_Model_inferHandlers_L10 this Q n) v1 v2 v3 M) else (∃ i8, (mR M 11 this 45) = some (12, i8) ∧ vp_in v3 (mL M 153 i8) ∧ if (mI M 153 i8 v3.toNatClampNeg) ≤ v1 then (w_Model_inferHandlers_j142 this Q (w_Model_inferHandlers_L10 this Q n) v1 v2 v3 M) else (∃ i11, (mR M 11 this 45) = some (12, i11) ∧ vp_in v3 (mL M 155 i11) ∧ if 0 ≤ (mI M 155 i11 v3.toNatClampNeg) then (∃ i14, (mR M 11 this 45) = some (12, i14) ∧ vp_in v3 (mL M 155 i14) ∧ w_Model_inferHandlers_j101 this Q (w_Model_inferHandlers_L10 this Q n) v1 v3 (mI M 155 i14 v3.toNatClampNeg) (16 : Int32) (0 : Int32) 1 M) else (w_Model_inferHandlers_j101 this Q (w_Model_inferHandlers_L10 this Q n) v1 v3 ((mI M 11 this 8) + (1 : Int32)) (16 : Int32) (0 : Int32) 1 M)))) else (Q v2 M))
def w_Model_inferHandlers (this : Nat) (a1 : Int32) (Q : Int32 → Mem → Prop) (M : Mem) : Prop :=
  ∃ n24 : Nat, w_Model_inferHandlers_L10 this Q n24 a1 (0 : Int32) ((8 : Int32) * (mI M 11 this 75)) M
set_option maxRecDepth 4096 in
theorem lk_Model_inferHandlers_j142 {γ : Gm} (hγ : Gk γ) (this : Nat) (Q : Int32 → Mem → Prop) (k10 : Int32 → Int32 → Int32 → Mem → Prop) (hk10 : ∀ (v1 : Int32) (v2 : Int32) (v3 : Int32) (M : Mem), k10 v1 v2 v3 M → E γ k_Model_inferHandlers 5 10 [some (vr (some (11, this))), some (vi v1), some (vi v2), some (vi v3)] [] M (Qi Q)) (v1 : Int32) (v2 : Int32) (v3 : Int32) (M : Mem) (h : w_Model_inferHandlers_j142 this Q k10 v1 v2 v3 M) : E γ k_Model_inferHandlers 5 142 [some (vr (some (11, this))), some (vi v1), some (vi v2), some (vi v3)] [] M (Qi Q) := by
  unfold w_Model_inferHandlers_j142 at h
  refine E_blk (lv' := [some (vr (some (11, this))), some (vi v1), some (vi v2), some (vi (v3 + (1 : Int32)))]) (st' := []) (M1 := M) (pc' := 145) (tb_Model hγ) [.iinc 3 1] (by decide +kernel) rfl rfl trivial ?_
  refine E_goto (off := -135) (tgt := 10) (by decide +kernel) (by decide) ?_
  refine E_mask [true, true, true, true] rfl ?_
  exact hk10 v1 v2 (v3 + (1 : Int32)) M h
set_option maxRecDepth 4096 in
theorem lk_Model_inferHandlers_j141 {γ : Gm} (hγ : Gk γ) (this : Nat) (Q : Int32 → Mem → Prop) (k10 : Int32 → Int32 → Int32 → Mem → Prop) (hk10 : ∀ (v1 : Int32) (v2 : Int32) (v3 : Int32) (M : Mem), k10 v1 v2 v3 M → E γ k_Model_inferHandlers 5 10 [some (vr (some (11, this))), some (vi v1), some (vi v2), some (vi v3)] [] M (Qi Q)) (v1 : Int32) (v3 : Int32) (s0 : Int32) (M : Mem) (h : w_Model_inferHandlers_j141 this Q k10 v1 v3 s0 M) : E γ k_Model_inferHandlers 5 141 [some (vr (some (11, this))), some (vi v1), none, some (vi v3)] [vi s0] M (Qi Q) := by
  unfold w_Model_inferHandlers_j141 at h
  refine E_blk (lv' := [some (vr (some (11, this))), some (vi v1), some (vi s0), some (vi v3)]) (st' := []) (M1 := M) (pc' := 142) (tb_Model hγ) [.istore_n 2] (by decide +kernel) rfl rfl trivial ?_
  refine E_mask [true, true, true, true] rfl ?_
  exact lk_Model_inferHandlers_j142 hγ this Q k10 hk10 v1 s0 v3 M h
set_option maxRecDepth 4096 in
theorem lk_Model_inferHandlers_j101 {γ : Gm} (hγ : Gk γ) (this : Nat) (Q : Int32 → Mem → Prop) (k10 : Int32 → Int32 → Int32 → Mem → Prop) (hk10 : ∀ (v1 : Int32) (v2 : Int32) (v3 : Int32) (M : Mem), k10 v1 v2 v3 M → E γ k_Model_inferHandlers 5 10 [some (vr (some (11, this))), some (vi v1), some (vi v2), some (vi v3)] [] M (Qi Q)) (v1 : Int32) (v3 : Int32) (s0 : Int32) (s1 : Int32) (s2 : Int32) (s3 : Nat) (M : Mem) (h : w_Model_inferHandlers_j101 this Q k10 v1 v3 s0 s1 s2 s3 M) : E γ k_Model_inferHandlers 5 101 [some (vr (some (11, this))), some (vi v1), none, some (vi v3)] [vi s0, vi s1, vi s2, vr (some (212, s3))] M (Qi Q) := by
  unfold w_Model_inferHandlers_j101 at h
  obtain ⟨c16, h⟩ := h
  refine E_blk (lv' := [some (vr (some (11, this))), some (vi v1), none, some (vi v3)]) (st' := [vr (mR (sI M 212 s3 s2.toNatClampNeg (s1 + s0)) 11 this 45)]) (M1 := (sI M 212 s3 s2.toNatClampNeg (s1 + s0))) (pc' := 107) (tb_Model hγ) [.iadd, .iastore, .aload_n 0, .getfield 522] (by decide +kernel) rfl rfl ⟨c16, trivial⟩ ?_
  obtain ⟨i17, ei17, h⟩ := h
  rw [ei17]
  obtain ⟨c18, h⟩ := h
  refine E_blk (lv' := [some (vr (some (11, this))), some (vi v1), none, some (vi v3)]) (st' := [vi (mI (sI M 212 s3 s2.toNatClampNeg (s1 + s0)) 147 i17 (mI (sI M 212 s3 s2.toNatClampNeg (s1 + s0)) 11 this 75).toNatClampNeg)]) (M1 := (sI M 212 s3 s2.toNatClampNeg (s1 + s0))) (pc' := 115) (tb_Model hγ) [.getfield 456, .aload_n 0, .getfield 768, .iaload] (by decide +kernel) rfl rfl ⟨c18, trivial⟩ ?_
  refine E_if_ne (off := 8) (tgt := 123) (by decide +kernel) (by decide) (fun b19 => ?_) (fun b19 => ?_)
  · rw [if_pos b19] at h
    refine E_blk (lv' := [some (vr (some (11, this))), some (vi v1), none, some (vi v3)]) (st' := [vi (30 : Int32)]) (M1 := (sI M 212 s3 s2.toNatClampNeg (s1 + s0))) (pc' := 120) (tb_Model hγ) [.bipush 30] (by decide +kernel) rfl rfl trivial ?_
    refine E_goto (off := 21) (tgt := 141) (by decide +kernel) (by decide) ?_
    refine E_mask [true, true, false, true] rfl ?_
    exact lk_Model_inferHandlers_j141 hγ this Q k10 hk10 v1 v3 (30 : Int32) (sI M 212 s3 s2.toNatClampNeg (s1 + s0)) h
  · rw [if_neg b19] at h
    refine E_blk (lv' := [some (vr (some (11, this))), some (vi v1), none, some (vi v3)]) (st' := [vr (mR (sI M 212 s3 s2.toNatClampNeg (s1 + s0)) 11 this 45), vr (some (11, this))]) (M1 := (sI M 212 s3 s2.toNatClampNeg (s1 + s0))) (pc' := 128) (tb_Model hγ) [.aload_n 0, .aload_n 0, .getfield 522] (by decide +kernel) rfl rfl trivial ?_
    obtain ⟨i20, ei20, h⟩ := h
    rw [ei20]
    obtain ⟨c21, h⟩ := h
    refine E_blk (lv' := [some (vr (some (11, this))), some (vi v1), none, some (vi v3)]) (st' := [vi (1 : Int32), vr (some (212, 1)), vi (mI (sI M 212 s3 s2.toNatClampNeg (s1 + s0)) 154 i20 v3.toNatClampNeg), vr (some (11, this))]) (M1 := (sI M 212 s3 s2.toNatClampNeg (s1 + s0))) (pc' := 138) (tb_Model hγ) [.getfield 719, .iload_n 3, .iaload, .aload_n 0, .getfield 341, .iconst 1] (by decide +kernel) rfl rfl ⟨c21, trivial⟩ ?_
    refine E_callV (κ' := k_Model_join) (As := [vi (mI (sI M 212 s3 s2.toNatClampNeg (s1 + s0)) 154 i20 v3.toNatClampNeg), vr (some (212, 1)), vi (1 : Int32)]) (st := []) mv_Model_join (Or.inl (tbk_mem (j := 17) (k := 121) rfl)) rfl (by decide +kernel) (Nat.le_of_ble_eq_true rfl) (Nat.le_of_ble_eq_true rfl) rfl (by decide) (lk_Model_join hγ this (mI (sI M 212 s3 s2.toNatClampNeg (s1 + s0)) 154 i20 v3.toNatClampNeg) 1 (1 : Int32) _ (sI M 212 s3 s2.toNatClampNeg (s1 + s0)) h) (fun _ _ => Qi_r) (fun v M22 hp => Qi_k (R := fun st => E γ k_Model_inferHandlers 5 141 [some (vr (some (11, this))), some (vi v1), none, some (vi v3)] st M22 (Qi Q)) hp (fun r23 h => ?_))
    refine E_mask [true, true, false, true] rfl ?_
    exact lk_Model_inferHandlers_j141 hγ this Q k10 hk10 v1 v3 r23 M22 h
set_option maxRecDepth 4096 in
theorem lk_Model_inferHandlers_L10 {γ : Gm} (hγ : Gk γ) (this : Nat) (Q : Int32 → Mem → Prop) : ∀ (n : Nat) (v1 : Int32) (v2 : Int32) (v3 : Int32) (M : Mem), w_Model_inferHandlers_L10 this Q n v1 v2 v3 M → E γ k_Model_inferHandlers 5 10 [some (vr (some (11, this))), some (vi v1), some (vi v2), some (vi v3)] [] M (Qi Q) := by
  intro n
  induction n with
  | zero => intro v1 v2 v3 M h; exact h.elim
  | succ n ih =>
    intro v1 v2 v3 M h
    unfold w_Model_inferHandlers_L10 at h
    refine E_blk (lv' := [some (vr (some (11, this))), some (vi v1), some (vi v2), some (vi v3)]) (st' := [vr (mR M 11 this 45), vi ((8 : Int32) * (mI M 11 this 75)), vi v3]) (M1 := M) (pc' := 22) (tb_Model hγ) [.iload_n 3, .bipush 8, .aload_n 0, .getfield 768, .imul, .aload_n 0, .getfield 522] (by decide +kernel) rfl rfl trivial ?_
    obtain ⟨i1, ei1, h⟩ := h
    rw [ei1]
    obtain ⟨c2, h⟩ := h
    refine E_blk (lv' := [some (vr (some (11, this))), some (vi v1), some (vi v2), some (vi v3)]) (st' := [vi (((8 : Int32) * (mI M 11 this 75)) + (mI M 151 i1 (mI M 11 this 75).toNatClampNeg)), vi v3]) (M1 := M) (pc' := 31) (tb_Model hγ) [.getfield 468, .aload_n 0, .getfield 768, .iaload, .iadd] (by decide +kernel) rfl rfl ⟨c2, trivial⟩ ?_
    refine E_icmp_ge (off := 117) (tgt := 148) (by decide +kernel) (by decide) (fun b3 => ?_) (fun b3 => ?_)
    · rw [if_pos b3] at h
      refine E_blk (lv' := [some (vr (some (11, this))), some (vi v1), some (vi v2), some (vi v3)]) (st' := [vi v2]) (M1 := M) (pc' := 149) (tb_Model hγ) [.iload_n 2] (by decide +kernel) rfl rfl trivial ?_
      exact E_iret rfl (by decide +kernel) h
    · rw [if_neg b3] at h
      refine E_blk (lv' := [some (vr (some (11, this))), some (vi v1), some (vi v2), some (vi v3)]) (st' := [vi v2]) (M1 := M) (pc' := 35) (tb_Model hγ) [.iload_n 2] (by decide +kernel) rfl rfl trivial ?_
      refine E_if_ne (off := 113) (tgt := 148) (by decide +kernel) (by decide) (fun b4 => ?_) (fun b4 => ?_)
      · rw [if_pos b4] at h
        refine E_blk (lv' := [some (vr (some (11, this))), some (vi v1), some (vi v2), some (vi v3)]) (st' := [vr (mR M 11 this 45), vi v1]) (M1 := M) (pc' := 43) (tb_Model hγ) [.iload_n 1, .aload_n 0, .getfield 522] (by decide +kernel) rfl rfl trivial ?_
        obtain ⟨i5, ei5, h⟩ := h
        rw [ei5]
        obtain ⟨c6, h⟩ := h
        refine E_blk (lv' := [some (vr (some (11, this))), some (vi v1), some (vi v2), some (vi v3)]) (st' := [vi (mI M 152 i5 v3.toNatClampNeg), vi v1]) (M1 := M) (pc' := 48) (tb_Model hγ) [.getfield 713, .iload_n 3, .iaload] (by decide +kernel) rfl rfl ⟨c6, trivial⟩ ?_
        refine E_icmp_lt (off := 94) (tgt := 142) (by decide +kernel) (by decide) (fun b7 => ?_) (fun b7 => ?_)
        · rw [if_pos b7] at h
          refine E_mask [true, true, true, true] rfl ?_
          exact lk_Model_inferHandlers_j142 hγ this Q (w_Model_inferHandlers_L10 this Q n) ih v1 v2 v3 M h
        · rw [if_neg b7] at h
          refine E_blk (lv' := [some (vr (some (11, this))), some (vi v1), some (vi v2), some (vi v3)]) (st' := [vr (mR M 11 this 45), vi v1]) (M1 := M) (pc' := 56) (tb_Model hγ) [.iload_n 1, .aload_n 0, .getfield 522] (by decide +kernel) rfl rfl trivial ?_
          obtain ⟨i8, ei8, h⟩ := h
          rw [ei8]
          obtain ⟨c9, h⟩ := h
          refine E_blk (lv' := [some (vr (some (11, this))), some (vi v1), some (vi v2), some (vi v3)]) (st' := [vi (mI M 153 i8 v3.toNatClampNeg), vi v1]) (M1 := M) (pc' := 61) (tb_Model hγ) [.getfield 716, .iload_n 3, .iaload] (by decide +kernel) rfl rfl ⟨c9, trivial⟩ ?_
          refine E_icmp_ge (off := 81) (tgt := 142) (by decide +kernel) (by decide) (fun b10 => ?_) (fun b10 => ?_)
          · rw [if_pos b10] at h
            refine E_mask [true, true, true, true] rfl ?_
            exact lk_Model_inferHandlers_j142 hγ this Q (w_Model_inferHandlers_L10 this Q n) ih v1 v2 v3 M h
          · rw [if_neg b10] at h
            refine E_blk (lv' := [some (vr (some (11, this))), some (vi v1), some (vi v2), some (vi v3)]) (st' := [vr (mR M 11 this 45), vi (16 : Int32), vi (0 : Int32), vr (some (212, 1))]) (M1 := M) (pc' := 75) (tb_Model hγ) [.aload_n 0, .getfield 341, .iconst 0, .bipush 16, .aload_n 0, .getfield 522] (by decide +kernel) rfl rfl trivial ?_
            obtain ⟨i11, ei11, h⟩ := h
            rw [ei11]
            obtain ⟨c12, h⟩ := h
            refine E_blk (lv' := [some (vr (some (11, this))), some (vi v1), some (vi v2), some (vi v3)]) (st' := [vi (mI M 155 i11 v3.toNatClampNeg), vi (16 : Int32), vi (0 : Int32), vr (some (212, 1))]) (M1 := M) (pc' := 80) (tb_Model hγ) [.getfield 722, .iload_n 3, .iaload] (by decide +kernel) rfl rfl ⟨c12, trivial⟩ ?_
            refine E_if_ge (off := 12) (tgt := 92) (by decide +kernel) (by decide) (fun b13 => ?_) (fun b13 => ?_)
            · rw [if_pos b13] at h
              refine E_blk (lv' := [some (vr (some (11, this))), some (vi v1), some (vi v2), some (vi v3)]) (st' := [vr (mR M 11 this 45), vi (16 : Int32), vi (0 : Int32), vr (some (212, 1))]) (M1 := M) (pc' := 96) (tb_Model hγ) [.aload_n 0, .getfield 522] (by decide +kernel) rfl rfl trivial ?_
              obtain ⟨i14, ei14, h⟩ := h
              rw [ei14]
              obtain ⟨c15, h⟩ := h
              refine E_blk (lv' := [some (vr (some (11, this))), some (vi v1), some (vi v2), some (vi v3)]) (st' := [vi (mI M 155 i14 v3.toNatClampNeg), vi (16 : Int32), vi (0 : Int32), vr (some (212, 1))]) (M1 := M) (pc' := 101) (tb_Model hγ) [.getfield 722, .iload_n 3, .iaload] (by decide +kernel) rfl rfl ⟨c15, trivial⟩ ?_
              refine E_mask [true, true, false, true] rfl ?_
              exact lk_Model_inferHandlers_j101 hγ this Q (w_Model_inferHandlers_L10 this Q n) ih v1 v3 (mI M 155 i14 v3.toNatClampNeg) (16 : Int32) (0 : Int32) 1 M h
            · rw [if_neg b13] at h
              refine E_blk (lv' := [some (vr (some (11, this))), some (vi v1), some (vi v2), some (vi v3)]) (st' := [vi ((mI M 11 this 8) + (1 : Int32)), vi (16 : Int32), vi (0 : Int32), vr (some (212, 1))]) (M1 := M) (pc' := 89) (tb_Model hγ) [.aload_n 0, .getfield 153, .iconst 1, .iadd] (by decide +kernel) rfl rfl trivial ?_
              refine E_goto (off := 12) (tgt := 101) (by decide +kernel) (by decide) ?_
              refine E_mask [true, true, false, true] rfl ?_
              exact lk_Model_inferHandlers_j101 hγ this Q (w_Model_inferHandlers_L10 this Q n) ih v1 v3 ((mI M 11 this 8) + (1 : Int32)) (16 : Int32) (0 : Int32) 1 M h
      · rw [if_neg b4] at h
        refine E_blk (lv' := [some (vr (some (11, this))), some (vi v1), some (vi v2), some (vi v3)]) (st' := [vi v2]) (M1 := M) (pc' := 149) (tb_Model hγ) [.iload_n 2] (by decide +kernel) rfl rfl trivial ?_
        exact E_iret rfl (by decide +kernel) h
set_option maxRecDepth 4096 in
theorem lk_Model_inferHandlers {γ : Gm} (hγ : Gk γ) (this : Nat) (a1 : Int32) (Q : Int32 → Mem → Prop) (M : Mem) (h : w_Model_inferHandlers this a1 Q M) : E γ k_Model_inferHandlers 5 0 [some (vr (some (11, this))), some (vi a1), none, none] [] M (Qi Q) := by
  unfold w_Model_inferHandlers at h
  refine E_blk (lv' := [some (vr (some (11, this))), some (vi a1), some (vi (0 : Int32)), some (vi ((8 : Int32) * (mI M 11 this 75)))]) (st' := []) (M1 := M) (pc' := 10) (tb_Model hγ) [.iconst 0, .istore_n 2, .bipush 8, .aload_n 0, .getfield 768, .imul, .istore_n 3] (by decide +kernel) rfl rfl trivial ?_
  obtain ⟨n24, h⟩ := h
  refine E_mask [true, true, true, true] rfl ?_
  exact lk_Model_inferHandlers_L10 hγ this Q n24 a1 (0 : Int32) ((8 : Int32) * (mI M 11 this 75)) M h
def w_Model_inferOne_j304 (this : Nat) (Q : Int32 → Mem → Prop) (v1 : Int32) (v3 : Int32) (v4 : Int32) (M : Mem) : Prop :=
  if 0 < v4 then (Q v4 M) else (if v3 = (23 : Int32) then (Q v4 M) else (if v3 = (40 : Int32) then (Q v4 M) else (if v3 = (56 : Int32) then (Q v4 M) else (if v3 = (57 : Int32) then (Q v4 M) else (if v3 = (58 : Int32) then (Q v4 M) else (if v3 = (59 : Int32) then (Q v4 M) else (if (v1 + (1 : Int32)) = (mI M 11 this 101) then (Q (35 : Int32) M) else (w_Model_join this (v1 + (1 : Int32)) 0 (mI M 11 this 72) (fun r45 M44 => Q r45 M44) M))))))))
def w_Model_inferOne_j188 (this : Nat) (Q : Int32 → Mem → Prop) (v1 : Int32) (v3 : Int32) (M : Mem) : Prop :=
  w_Model_inferHandlers this v1 (fun r35 M34 => w_Model_inferOne_j304 this Q v1 v3 r35 M34) M
def w_Model_inferOne_L245 (this : Nat) (Q : Int32 → Mem → Prop) : Nat → Int32 → Int32 → Int32 → Int32 → Int32 → Mem → Prop
  | 0, _, _, _, _, _, _ => False
  | n + 1, v1, v2, v3, v4, v5, M => ∃ i54, (mR M 11 this 45) = some (12, i54) ∧ ∃ i55, (mR M 12 i54 33) = some (300, i55) ∧ vp_in v2 (mL M 300 i55) ∧ if (mI M 300 i55 v2.toNatClampNeg) ≤ v5 then (w_Model_inferOne_j304 this Q v1 v3 v4 M) else (if v4 = 0 then (∃ i59, (mR M 11 this 45) = some (12, i59) ∧ ∃ i60, (mR M 12 i59 36) = some (300, i60) ∧ ∃ i61, (mR M 11 this 45) = some (12, i61) ∧ ∃ i62, (mR M 12 i61 32) = some (300, i62) ∧ vp_in v2 (mL M 300 i62) ∧ vp_in ((mI M 300 i62 v2.toNatClampNeg) + v5) (mL M 300 i60) ∧ w_Model_join this (mI M 300 i60 ((mI M 300 i62 v2.toNatClampNeg) + v5).toNatClampNeg) 0 (mI M 11 this 72) (fun r66 M65 => (w_Model_inferOne_L245 this Q n) v1 v2 v3 r66 (v5 + (1 : Int32)) M65) M) else (w_Model_inferOne_j304 this Q v1 v3 v4 M))
def w_Model_inferOne_j236 (this : Nat) (Q : Int32 → Mem → Prop) (v1 : Int32) (v2 : Int32) (v3 : Int32) (v4 : Int32) (M : Mem) : Prop :=
  if v3 = (40 : Int32) then (∃ n67 : Nat, w_Model_inferOne_L245 this Q n67 v1 v2 v3 v4 (0 : Int32) M) else (w_Model_inferOne_j304 this Q v1 v3 v4 M)
def w_Model_inferOne_j198 (this : Nat) (Q : Int32 → Mem → Prop) (v1 : Int32) (v2 : Int32) (v3 : Int32) (v4 : Int32) (M : Mem) : Prop :=
  if v3 < (23 : Int32) then (w_Model_inferOne_j236 this Q v1 v2 v3 v4 M) else (if (39 : Int32) < v3 then (w_Model_inferOne_j236 this Q v1 v2 v3 v4 M) else (∃ i69, (mR M 11 this 45) = some (12, i69) ∧ ∃ i70, (mR M 12 i69 31) = some (300, i70) ∧ vp_in v2 (mL M 300 i70) ∧ w_Model_join this (mI M 300 i70 v2.toNatClampNeg) 0 (mI M 11 this 72) (fun r73 M72 => w_Model_inferOne_j304 this Q v1 v3 r73 M72) M))
def w_Model_inferOne_j116 (this : Nat) (Q : Int32 → Mem → Prop) (v1 : Int32) (v2 : Int32) (v3 : Int32) (s0 : Int32) (M : Mem) : Prop :=
  if s0 ≤ 0 then (w_Model_act this v3 v2 v1 (fun M29 => ∃ i30, (mR M29 11 this 45) = some (12, i30) ∧ vp_in (mI M29 11 this 75) (mL M29 147 i30) ∧ if (mI M29 11 this 72) ≤ (mI M29 147 i30 (mI M29 11 this 75).toNatClampNeg) then (if v3 = (5 : Int32) then (w_Model_inferOne_j188 this Q v1 v3 M29) else (if v3 = (6 : Int32) then (w_Model_inferOne_j188 this Q v1 v3 M29) else (if v3 = (51 : Int32) then (∃ i48, (mR M29 11 this 45) = some (12, i48) ∧ ∃ i49, (mR M29 12 i48 32) = some (300, i49) ∧ vp_in v2 (mL M29 300 i49) ∧ if (mI M29 300 i49 v2.toNatClampNeg) = (mI M29 11 this 6) then (w_Model_inferOne_j188 this Q v1 v3 M29) else (w_Model_inferOne_j198 this Q v1 v2 v3 s0 M29)) else (w_Model_inferOne_j198 this Q v1 v2 v3 s0 M29)))) else (Q (30 : Int32) M29)) M) else (Q s0 M)
def w_Model_inferOne_j98 (this : Nat) (Q : Int32 → Mem → Prop) (v1 : Int32) (v2 : Int32) (v3 : Int32) (s0 : Int32) (M : Mem) : Prop :=
  if s0 ≤ 0 then (w_Model_checkOwn this v3 v2 (fun r27 M26 => w_Model_inferOne_j116 this Q v1 v2 v3 r27 M26) M) else (w_Model_inferOne_j116 this Q v1 v2 v3 s0 M)
def w_Model_inferOne (this : Nat) (a1 : Int32) (Q : Int32 → Mem → Prop) (M : Mem) : Prop :=
  ∃ i1, (mR M 11 this 45) = some (12, i1) ∧ vp_in (mI M 11 this 75) (mL M 149 i1) ∧ vp_in a1 (mL M 114 this) ∧ ¬ ((20 : Int32) * a1) < 0 ∧ ¬ (0 : Int32) < 0 ∧ ¬ (mI (sI M 11 this 72 (mI M 114 this a1.toNatClampNeg)) 11 this 102) < 0 ∧ ((20 : Int32) * a1).toNatClampNeg + (mI (sI M 11 this 72 (mI M 114 this a1.toNatClampNeg)) 11 this 102).toNatClampNeg ≤ mL (sI M 11 this 72 (mI M 114 this a1.toNatClampNeg)) 115 this ∧ (0 : Int32).toNatClampNeg + (mI (sI M 11 this 72 (mI M 114 this a1.toNatClampNeg)) 11 this 102).toNatClampNeg ≤ mL (sI M 11 this 72 (mI M 114 this a1.toNatClampNeg)) 111 this ∧ ∃ M4, M4 = cpI (sI M 11 this 72 (mI M 114 this a1.toNatClampNeg)) 115 this ((20 : Int32) * a1).toNatClampNeg 111 this (0 : Int32).toNatClampNeg (mI (sI M 11 this 72 (mI M 114 this a1.toNatClampNeg)) 11 this 102).toNatClampNeg ∧ ¬ ((28 : Int32) * a1) < 0 ∧ ¬ (0 : Int32) < 0 ∧ ¬ (mI M4 11 this 72) < 0 ∧ ((28 : Int32) * a1).toNatClampNeg + (mI M4 11 this 72).toNatClampNeg ≤ mL M4 116 this ∧ (0 : Int32).toNatClampNeg + (mI M4 11 this 72).toNatClampNeg ≤ mL M4 212 0 ∧ ∃ M10, M10 = cpI M4 116 this ((28 : Int32) * a1).toNatClampNeg 212 0 (0 : Int32).toNatClampNeg (mI M4 11 this 72).toNatClampNeg ∧ ∃ i16, (mR M10 11 this 45) = some (12, i16) ∧ ∃ i17, (mR M10 12 i16 30) = some (401, i17) ∧ vp_in ((mI M 149 i1 (mI M 11 this 75).toNatClampNeg) + a1) (mL M10 401 i17) ∧ ∃ x19 : Int32, x19 = (mI M10 401 i17 ((mI M 149 i1 (mI M 11 this 75).toNatClampNeg) + a1).toNatClampNeg) ∧ w_Model_inferHandlers this a1 (fun r21 M20 => if r21 ≤ 0 then (w_Model_checkTaken this x19 ((mI M 149 i1 (mI M 11 this 75).toNatClampNeg) + a1) (fun r24 M23 => w_Model_inferOne_j98 this Q a1 ((mI M 149 i1 (mI M 11 this 75).toNatClampNeg) + a1) x19 r24 M23) M20) else (w_Model_inferOne_j98 this Q a1 ((mI M 149 i1 (mI M 11 this 75).toNatClampNeg) + a1) x19 r21 M20)) M10
set_option maxRecDepth 4096 in
theorem lk_Model_inferOne_j304 {γ : Gm} (hγ : Gk γ) (this : Nat) (Q : Int32 → Mem → Prop) (v1 : Int32) (v3 : Int32) (v4 : Int32) (M : Mem) (h : w_Model_inferOne_j304 this Q v1 v3 v4 M) : E γ k_Model_inferOne 6 304 [some (vr (some (11, this))), some (vi v1), none, some (vi v3), some (vi v4), none] [] M (Qi Q) := by
  unfold w_Model_inferOne_j304 at h
  refine E_blk (lv' := [some (vr (some (11, this))), some (vi v1), none, some (vi v3), some (vi v4), none]) (st' := [vi v4]) (M1 := M) (pc' := 306) (tb_Model hγ) [.iload 4] (by decide +kernel) rfl rfl trivial ?_
  refine E_if_gt (off := 39) (tgt := 345) (by decide +kernel) (by decide) (fun b36 => ?_) (fun b36 => ?_)
  · rw [if_pos b36] at h
    refine E_blk (lv' := [some (vr (some (11, this))), some (vi v1), none, some (vi v3), some (vi v4), none]) (st' := [vi v4]) (M1 := M) (pc' := 347) (tb_Model hγ) [.iload 4] (by decide +kernel) rfl rfl trivial ?_
    exact E_iret rfl (by decide +kernel) h
  · rw [if_neg b36] at h
    refine E_blk (lv' := [some (vr (some (11, this))), some (vi v1), none, some (vi v3), some (vi v4), none]) (st' := [vi (23 : Int32), vi v3]) (M1 := M) (pc' := 312) (tb_Model hγ) [.iload_n 3, .bipush 23] (by decide +kernel) rfl rfl trivial ?_
    refine E_icmp_eq (off := 33) (tgt := 345) (by decide +kernel) (by decide) (fun b37 => ?_) (fun b37 => ?_)
    · rw [if_pos b37] at h
      refine E_blk (lv' := [some (vr (some (11, this))), some (vi v1), none, some (vi v3), some (vi v4), none]) (st' := [vi v4]) (M1 := M) (pc' := 347) (tb_Model hγ) [.iload 4] (by decide +kernel) rfl rfl trivial ?_
      exact E_iret rfl (by decide +kernel) h
    · rw [if_neg b37] at h
      refine E_blk (lv' := [some (vr (some (11, this))), some (vi v1), none, some (vi v3), some (vi v4), none]) (st' := [vi (40 : Int32), vi v3]) (M1 := M) (pc' := 318) (tb_Model hγ) [.iload_n 3, .bipush 40] (by decide +kernel) rfl rfl trivial ?_
      refine E_icmp_eq (off := 27) (tgt := 345) (by decide +kernel) (by decide) (fun b38 => ?_) (fun b38 => ?_)
      · rw [if_pos b38] at h
        refine E_blk (lv' := [some (vr (some (11, this))), some (vi v1), none, some (vi v3), some (vi v4), none]) (st' := [vi v4]) (M1 := M) (pc' := 347) (tb_Model hγ) [.iload 4] (by decide +kernel) rfl rfl trivial ?_
        exact E_iret rfl (by decide +kernel) h
      · rw [if_neg b38] at h
        refine E_blk (lv' := [some (vr (some (11, this))), some (vi v1), none, some (vi v3), some (vi v4), none]) (st' := [vi (56 : Int32), vi v3]) (M1 := M) (pc' := 324) (tb_Model hγ) [.iload_n 3, .bipush 56] (by decide +kernel) rfl rfl trivial ?_
        refine E_icmp_eq (off := 21) (tgt := 345) (by decide +kernel) (by decide) (fun b39 => ?_) (fun b39 => ?_)
        · rw [if_pos b39] at h
          refine E_blk (lv' := [some (vr (some (11, this))), some (vi v1), none, some (vi v3), some (vi v4), none]) (st' := [vi v4]) (M1 := M) (pc' := 347) (tb_Model hγ) [.iload 4] (by decide +kernel) rfl rfl trivial ?_
          exact E_iret rfl (by decide +kernel) h
        · rw [if_neg b39] at h
          refine E_blk (lv' := [some (vr (some (11, this))), some (vi v1), none, some (vi v3), some (vi v4), none]) (st' := [vi (57 : Int32), vi v3]) (M1 := M) (pc' := 330) (tb_Model hγ) [.iload_n 3, .bipush 57] (by decide +kernel) rfl rfl trivial ?_
          refine E_icmp_eq (off := 15) (tgt := 345) (by decide +kernel) (by decide) (fun b40 => ?_) (fun b40 => ?_)
          · rw [if_pos b40] at h
            refine E_blk (lv' := [some (vr (some (11, this))), some (vi v1), none, some (vi v3), some (vi v4), none]) (st' := [vi v4]) (M1 := M) (pc' := 347) (tb_Model hγ) [.iload 4] (by decide +kernel) rfl rfl trivial ?_
            exact E_iret rfl (by decide +kernel) h
          · rw [if_neg b40] at h
            refine E_blk (lv' := [some (vr (some (11, this))), some (vi v1), none, some (vi v3), some (vi v4), none]) (st' := [vi (58 : Int32), vi v3]) (M1 := M) (pc' := 336) (tb_Model hγ) [.iload_n 3, .bipush 58] (by decide +kernel) rfl rfl trivial ?_
            refine E_icmp_eq (off := 9) (tgt := 345) (by decide +kernel) (by decide) (fun b41 => ?_) (fun b41 => ?_)
            · rw [if_pos b41] at h
              refine E_blk (lv' := [some (vr (some (11, this))), some (vi v1), none, some (vi v3), some (vi v4), none]) (st' := [vi v4]) (M1 := M) (pc' := 347) (tb_Model hγ) [.iload 4] (by decide +kernel) rfl rfl trivial ?_
              exact E_iret rfl (by decide +kernel) h
            · rw [if_neg b41] at h
              refine E_blk (lv' := [some (vr (some (11, this))), some (vi v1), none, some (vi v3), some (vi v4), none]) (st' := [vi (59 : Int32), vi v3]) (M1 := M) (pc' := 342) (tb_Model hγ) [.iload_n 3, .bipush 59] (by decide +kernel) rfl rfl trivial ?_
              refine E_icmp_ne (off := 6) (tgt := 348) (by decide +kernel) (by decide) (fun b42 => ?_) (fun b42 => ?_)
              · rw [if_pos b42] at h
                refine E_blk (lv' := [some (vr (some (11, this))), some (vi v1), none, some (vi v3), some (vi v4), none]) (st' := [vi v4]) (M1 := M) (pc' := 347) (tb_Model hγ) [.iload 4] (by decide +kernel) rfl rfl trivial ?_
                exact E_iret rfl (by decide +kernel) h
              · rw [if_neg b42] at h
                refine E_blk (lv' := [some (vr (some (11, this))), some (vi v1), none, some (vi v3), some (vi v4), none]) (st' := [vi (mI M 11 this 101), vi (v1 + (1 : Int32))]) (M1 := M) (pc' := 355) (tb_Model hγ) [.iload_n 1, .iconst 1, .iadd, .aload_n 0, .getfield 1257] (by decide +kernel) rfl rfl trivial ?_
                refine E_icmp_ne (off := 8) (tgt := 363) (by decide +kernel) (by decide) (fun b43 => ?_) (fun b43 => ?_)
                · rw [if_pos b43] at h
                  refine E_blk (lv' := [some (vr (some (11, this))), some (vi v1), none, some (vi v3), some (vi v4), none]) (st' := [vi (35 : Int32)]) (M1 := M) (pc' := 360) (tb_Model hγ) [.bipush 35] (by decide +kernel) rfl rfl trivial ?_
                  refine E_goto (off := 18) (tgt := 378) (by decide +kernel) (by decide) ?_
                  exact E_iret rfl (by decide +kernel) h
                · rw [if_neg b43] at h
                  refine E_blk (lv' := [some (vr (some (11, this))), some (vi v1), none, some (vi v3), some (vi v4), none]) (st' := [vi (mI M 11 this 72), vr (some (212, 0)), vi (v1 + (1 : Int32)), vr (some (11, this))]) (M1 := M) (pc' := 375) (tb_Model hγ) [.aload_n 0, .iload_n 1, .iconst 1, .iadd, .aload_n 0, .getfield 308, .aload_n 0, .getfield 780] (by decide +kernel) rfl rfl trivial ?_
                  refine E_callV (κ' := k_Model_join) (As := [vi (v1 + (1 : Int32)), vr (some (212, 0)), vi (mI M 11 this 72)]) (st := []) mv_Model_join (Or.inl (tbk_mem (j := 17) (k := 121) rfl)) rfl (by decide +kernel) (Nat.le_of_ble_eq_true rfl) (Nat.le_of_ble_eq_true rfl) rfl (by decide) (lk_Model_join hγ this (v1 + (1 : Int32)) 0 (mI M 11 this 72) _ M h) (fun _ _ => Qi_r) (fun v M44 hp => Qi_k (R := fun st => E γ k_Model_inferOne 6 378 [some (vr (some (11, this))), some (vi v1), none, some (vi v3), some (vi v4), none] st M44 (Qi Q)) hp (fun r45 h => ?_))
                  exact E_iret rfl (by decide +kernel) h
set_option maxRecDepth 4096 in
theorem lk_Model_inferOne_j188 {γ : Gm} (hγ : Gk γ) (this : Nat) (Q : Int32 → Mem → Prop) (v1 : Int32) (v3 : Int32) (M : Mem) (h : w_Model_inferOne_j188 this Q v1 v3 M) : E γ k_Model_inferOne 6 188 [some (vr (some (11, this))), some (vi v1), none, some (vi v3), none, none] [] M (Qi Q) := by
  unfold w_Model_inferOne_j188 at h
  refine E_blk (lv' := [some (vr (some (11, this))), some (vi v1), none, some (vi v3), none, none]) (st' := [vi v1, vr (some (11, this))]) (M1 := M) (pc' := 190) (tb_Model hγ) [.aload_n 0, .iload_n 1] (by decide +kernel) rfl rfl trivial ?_
  refine E_callV (κ' := k_Model_inferHandlers) (As := [vi v1]) (st := []) mv_Model_inferHandlers (Or.inl (tbk_mem (j := 17) (k := 117) rfl)) rfl (by decide +kernel) (Nat.le_of_ble_eq_true rfl) (Nat.le_of_ble_eq_true rfl) rfl (by decide) (lk_Model_inferHandlers hγ this v1 _ M h) (fun _ _ => Qi_r) (fun v M34 hp => Qi_k (R := fun st => E γ k_Model_inferOne 6 193 [some (vr (some (11, this))), some (vi v1), none, some (vi v3), none, none] st M34 (Qi Q)) hp (fun r35 h => ?_))
  refine E_blk (lv' := [some (vr (some (11, this))), some (vi v1), none, some (vi v3), some (vi r35), none]) (st' := []) (M1 := M34) (pc' := 195) (tb_Model hγ) [.istore 4] (by decide +kernel) rfl rfl trivial ?_
  refine E_goto (off := 109) (tgt := 304) (by decide +kernel) (by decide) ?_
  refine E_mask [true, true, false, true, true, false] rfl ?_
  exact lk_Model_inferOne_j304 hγ this Q v1 v3 r35 M34 h
set_option maxRecDepth 4096 in
theorem lk_Model_inferOne_L245 {γ : Gm} (hγ : Gk γ) (this : Nat) (Q : Int32 → Mem → Prop) : ∀ (n : Nat) (v1 : Int32) (v2 : Int32) (v3 : Int32) (v4 : Int32) (v5 : Int32) (M : Mem), w_Model_inferOne_L245 this Q n v1 v2 v3 v4 v5 M → E γ k_Model_inferOne 6 245 [some (vr (some (11, this))), some (vi v1), some (vi v2), some (vi v3), some (vi v4), some (vi v5)] [] M (Qi Q) := by
  intro n
  induction n with
  | zero => intro v1 v2 v3 v4 v5 M h; exact h.elim
  | succ n ih =>
    intro v1 v2 v3 v4 v5 M h
    unfold w_Model_inferOne_L245 at h
    refine E_blk (lv' := [some (vr (some (11, this))), some (vi v1), some (vi v2), some (vi v3), some (vi v4), some (vi v5)]) (st' := [vr (mR M 11 this 45), vi v5]) (M1 := M) (pc' := 251) (tb_Model hγ) [.iload 5, .aload_n 0, .getfield 522] (by decide +kernel) rfl rfl trivial ?_
    obtain ⟨i54, ei54, h⟩ := h
    rw [ei54]
    refine E_blk (lv' := [some (vr (some (11, this))), some (vi v1), some (vi v2), some (vi v3), some (vi v4), some (vi v5)]) (st' := [vr (mR M 12 i54 33), vi v5]) (M1 := M) (pc' := 254) (tb_Model hγ) [.getfield 683] (by decide +kernel) rfl rfl trivial ?_
    obtain ⟨i55, ei55, h⟩ := h
    rw [ei55]
    obtain ⟨c56, h⟩ := h
    refine E_blk (lv' := [some (vr (some (11, this))), some (vi v1), some (vi v2), some (vi v3), some (vi v4), some (vi v5)]) (st' := [vi (mI M 300 i55 v2.toNatClampNeg), vi v5]) (M1 := M) (pc' := 256) (tb_Model hγ) [.iload_n 2, .iaload] (by decide +kernel) rfl rfl ⟨c56, trivial⟩ ?_
    refine E_icmp_ge (off := 48) (tgt := 304) (by decide +kernel) (by decide) (fun b57 => ?_) (fun b57 => ?_)
    · rw [if_pos b57] at h
      refine E_mask [true, true, false, true, true, false] rfl ?_
      exact lk_Model_inferOne_j304 hγ this Q v1 v3 v4 M h
    · rw [if_neg b57] at h
      refine E_blk (lv' := [some (vr (some (11, this))), some (vi v1), some (vi v2), some (vi v3), some (vi v4), some (vi v5)]) (st' := [vi v4]) (M1 := M) (pc' := 261) (tb_Model hγ) [.iload 4] (by decide +kernel) rfl rfl trivial ?_
      refine E_if_ne (off := 43) (tgt := 304) (by decide +kernel) (by decide) (fun b58 => ?_) (fun b58 => ?_)
      · rw [if_pos b58] at h
        refine E_blk (lv' := [some (vr (some (11, this))), some (vi v1), some (vi v2), some (vi v3), some (vi v4), some (vi v5)]) (st' := [vr (mR M 11 this 45), vr (some (11, this))]) (M1 := M) (pc' := 269) (tb_Model hγ) [.aload_n 0, .aload_n 0, .getfield 522] (by decide +kernel) rfl rfl trivial ?_
        obtain ⟨i59, ei59, h⟩ := h
        rw [ei59]
        refine E_blk (lv' := [some (vr (some (11, this))), some (vi v1), some (vi v2), some (vi v3), some (vi v4), some (vi v5)]) (st' := [vr (mR M 12 i59 36), vr (some (11, this))]) (M1 := M) (pc' := 272) (tb_Model hγ) [.getfield 689] (by decide +kernel) rfl rfl trivial ?_
        obtain ⟨i60, ei60, h⟩ := h
        rw [ei60]
        refine E_blk (lv' := [some (vr (some (11, this))), some (vi v1), some (vi v2), some (vi v3), some (vi v4), some (vi v5)]) (st' := [vr (mR M 11 this 45), vr (some (300, i60)), vr (some (11, this))]) (M1 := M) (pc' := 276) (tb_Model hγ) [.aload_n 0, .getfield 522] (by decide +kernel) rfl rfl trivial ?_
        obtain ⟨i61, ei61, h⟩ := h
        rw [ei61]
        refine E_blk (lv' := [some (vr (some (11, this))), some (vi v1), some (vi v2), some (vi v3), some (vi v4), some (vi v5)]) (st' := [vr (mR M 12 i61 32), vr (some (300, i60)), vr (some (11, this))]) (M1 := M) (pc' := 279) (tb_Model hγ) [.getfield 680] (by decide +kernel) rfl rfl trivial ?_
        obtain ⟨i62, ei62, h⟩ := h
        rw [ei62]
        obtain ⟨c63, c64, h⟩ := h
        refine E_blk (lv' := [some (vr (some (11, this))), some (vi v1), some (vi v2), some (vi v3), some (vi v4), some (vi v5)]) (st' := [vi (mI M 11 this 72), vr (some (212, 0)), vi (mI M 300 i60 ((mI M 300 i62 v2.toNatClampNeg) + v5).toNatClampNeg), vr (some (11, this))]) (M1 := M) (pc' := 293) (tb_Model hγ) [.iload_n 2, .iaload, .iload 5, .iadd, .iaload, .aload_n 0, .getfield 308, .aload_n 0, .getfield 780] (by decide +kernel) rfl rfl ⟨c63, c64, trivial⟩ ?_
        refine E_callV (κ' := k_Model_join) (As := [vi (mI M 300 i60 ((mI M 300 i62 v2.toNatClampNeg) + v5).toNatClampNeg), vr (some (212, 0)), vi (mI M 11 this 72)]) (st := []) mv_Model_join (Or.inl (tbk_mem (j := 17) (k := 121) rfl)) rfl (by decide +kernel) (Nat.le_of_ble_eq_true rfl) (Nat.le_of_ble_eq_true rfl) rfl (by decide) (lk_Model_join hγ this (mI M 300 i60 ((mI M 300 i62 v2.toNatClampNeg) + v5).toNatClampNeg) 0 (mI M 11 this 72) _ M h) (fun _ _ => Qi_r) (fun v M65 hp => Qi_k (R := fun st => E γ k_Model_inferOne 6 296 [some (vr (some (11, this))), some (vi v1), some (vi v2), some (vi v3), some (vi v4), some (vi v5)] st M65 (Qi Q)) hp (fun r66 h => ?_))
        refine E_blk (lv' := [some (vr (some (11, this))), some (vi v1), some (vi v2), some (vi v3), some (vi r66), some (vi (v5 + (1 : Int32)))]) (st' := []) (M1 := M65) (pc' := 301) (tb_Model hγ) [.istore 4, .iinc 5 1] (by decide +kernel) rfl rfl trivial ?_
        refine E_goto (off := -56) (tgt := 245) (by decide +kernel) (by decide) ?_
        refine E_mask [true, true, true, true, true, true] rfl ?_
        exact ih v1 v2 v3 r66 (v5 + (1 : Int32)) M65 h
      · rw [if_neg b58] at h
        refine E_mask [true, true, false, true, true, false] rfl ?_
        exact lk_Model_inferOne_j304 hγ this Q v1 v3 v4 M h
set_option maxRecDepth 4096 in
theorem lk_Model_inferOne_j236 {γ : Gm} (hγ : Gk γ) (this : Nat) (Q : Int32 → Mem → Prop) (v1 : Int32) (v2 : Int32) (v3 : Int32) (v4 : Int32) (M : Mem) (h : w_Model_inferOne_j236 this Q v1 v2 v3 v4 M) : E γ k_Model_inferOne 6 236 [some (vr (some (11, this))), some (vi v1), some (vi v2), some (vi v3), some (vi v4), none] [] M (Qi Q) := by
  unfold w_Model_inferOne_j236 at h
  refine E_blk (lv' := [some (vr (some (11, this))), some (vi v1), some (vi v2), some (vi v3), some (vi v4), none]) (st' := [vi (40 : Int32), vi v3]) (M1 := M) (pc' := 239) (tb_Model hγ) [.iload_n 3, .bipush 40] (by decide +kernel) rfl rfl trivial ?_
  refine E_icmp_ne (off := 65) (tgt := 304) (by decide +kernel) (by decide) (fun b53 => ?_) (fun b53 => ?_)
  · rw [if_pos b53] at h
    refine E_blk (lv' := [some (vr (some (11, this))), some (vi v1), some (vi v2), some (vi v3), some (vi v4), some (vi (0 : Int32))]) (st' := []) (M1 := M) (pc' := 245) (tb_Model hγ) [.iconst 0, .istore 5] (by decide +kernel) rfl rfl trivial ?_
    obtain ⟨n67, h⟩ := h
    refine E_mask [true, true, true, true, true, true] rfl ?_
    exact lk_Model_inferOne_L245 hγ this Q n67 v1 v2 v3 v4 (0 : Int32) M h
  · rw [if_neg b53] at h
    refine E_mask [true, true, false, true, true, false] rfl ?_
    exact lk_Model_inferOne_j304 hγ this Q v1 v3 v4 M h
set_option maxRecDepth 4096 in
theorem lk_Model_inferOne_j198 {γ : Gm} (hγ : Gk γ) (this : Nat) (Q : Int32 → Mem → Prop) (v1 : Int32) (v2 : Int32) (v3 : Int32) (v4 : Int32) (M : Mem) (h : w_Model_inferOne_j198 this Q v1 v2 v3 v4 M) : E γ k_Model_inferOne 6 198 [some (vr (some (11, this))), some (vi v1), some (vi v2), some (vi v3), some (vi v4), none] [] M (Qi Q) := by
  unfold w_Model_inferOne_j198 at h
  refine E_blk (lv' := [some (vr (some (11, this))), some (vi v1), some (vi v2), some (vi v3), some (vi v4), none]) (st' := [vi (23 : Int32), vi v3]) (M1 := M) (pc' := 201) (tb_Model hγ) [.iload_n 3, .bipush 23] (by decide +kernel) rfl rfl trivial ?_
  refine E_icmp_lt (off := 35) (tgt := 236) (by decide +kernel) (by decide) (fun b52 => ?_) (fun b52 => ?_)
  · rw [if_pos b52] at h
    refine E_mask [true, true, true, true, true, false] rfl ?_
    exact lk_Model_inferOne_j236 hγ this Q v1 v2 v3 v4 M h
  · rw [if_neg b52] at h
    refine E_blk (lv' := [some (vr (some (11, this))), some (vi v1), some (vi v2), some (vi v3), some (vi v4), none]) (st' := [vi (39 : Int32), vi v3]) (M1 := M) (pc' := 207) (tb_Model hγ) [.iload_n 3, .bipush 39] (by decide +kernel) rfl rfl trivial ?_
    refine E_icmp_gt (off := 29) (tgt := 236) (by decide +kernel) (by decide) (fun b68 => ?_) (fun b68 => ?_)
    · rw [if_pos b68] at h
      refine E_mask [true, true, true, true, true, false] rfl ?_
      exact lk_Model_inferOne_j236 hγ this Q v1 v2 v3 v4 M h
    · rw [if_neg b68] at h
      refine E_blk (lv' := [some (vr (some (11, this))), some (vi v1), some (vi v2), some (vi v3), some (vi v4), none]) (st' := [vr (mR M 11 this 45), vr (some (11, this))]) (M1 := M) (pc' := 215) (tb_Model hγ) [.aload_n 0, .aload_n 0, .getfield 522] (by decide +kernel) rfl rfl trivial ?_
      obtain ⟨i69, ei69, h⟩ := h
      rw [ei69]
      refine E_blk (lv' := [some (vr (some (11, this))), some (vi v1), some (vi v2), some (vi v3), some (vi v4), none]) (st' := [vr (mR M 12 i69 31), vr (some (11, this))]) (M1 := M) (pc' := 218) (tb_Model hγ) [.getfield 677] (by decide +kernel) rfl rfl trivial ?_
      obtain ⟨i70, ei70, h⟩ := h
      rw [ei70]
      obtain ⟨c71, h⟩ := h
      refine E_blk (lv' := [some (vr (some (11, this))), some (vi v1), some (vi v2), some (vi v3), some (vi v4), none]) (st' := [vi (mI M 11 this 72), vr (some (212, 0)), vi (mI M 300 i70 v2.toNatClampNeg), vr (some (11, this))]) (M1 := M) (pc' := 228) (tb_Model hγ) [.iload_n 2, .iaload, .aload_n 0, .getfield 308, .aload_n 0, .getfield 780] (by decide +kernel) rfl rfl ⟨c71, trivial⟩ ?_
      refine E_callV (κ' := k_Model_join) (As := [vi (mI M 300 i70 v2.toNatClampNeg), vr (some (212, 0)), vi (mI M 11 this 72)]) (st := []) mv_Model_join (Or.inl (tbk_mem (j := 17) (k := 121) rfl)) rfl (by decide +kernel) (Nat.le_of_ble_eq_true rfl) (Nat.le_of_ble_eq_true rfl) rfl (by decide) (lk_Model_join hγ this (mI M 300 i70 v2.toNatClampNeg) 0 (mI M 11 this 72) _ M h) (fun _ _ => Qi_r) (fun v M72 hp => Qi_k (R := fun st => E γ k_Model_inferOne 6 231 [some (vr (some (11, this))), some (vi v1), some (vi v2), some (vi v3), some (vi v4), none] st M72 (Qi Q)) hp (fun r73 h => ?_))
      refine E_blk (lv' := [some (vr (some (11, this))), some (vi v1), some (vi v2), some (vi v3), some (vi r73), none]) (st' := []) (M1 := M72) (pc' := 233) (tb_Model hγ) [.istore 4] (by decide +kernel) rfl rfl trivial ?_
      refine E_goto (off := 71) (tgt := 304) (by decide +kernel) (by decide) ?_
      refine E_mask [true, true, false, true, true, false] rfl ?_
      exact lk_Model_inferOne_j304 hγ this Q v1 v3 r73 M72 h
set_option maxRecDepth 4096 in
theorem lk_Model_inferOne_j116 {γ : Gm} (hγ : Gk γ) (this : Nat) (Q : Int32 → Mem → Prop) (v1 : Int32) (v2 : Int32) (v3 : Int32) (s0 : Int32) (M : Mem) (h : w_Model_inferOne_j116 this Q v1 v2 v3 s0 M) : E γ k_Model_inferOne 6 116 [some (vr (some (11, this))), some (vi v1), some (vi v2), some (vi v3), none, none] [vi s0] M (Qi Q) := by
  unfold w_Model_inferOne_j116 at h
  refine E_blk (lv' := [some (vr (some (11, this))), some (vi v1), some (vi v2), some (vi v3), some (vi s0), none]) (st' := [vi s0]) (M1 := M) (pc' := 120) (tb_Model hγ) [.istore 4, .iload 4] (by decide +kernel) rfl rfl trivial ?_
  refine E_if_le (off := 6) (tgt := 126) (by decide +kernel) (by decide) (fun b28 => ?_) (fun b28 => ?_)
  · rw [if_pos b28] at h
    refine E_blk (lv' := [some (vr (some (11, this))), some (vi v1), some (vi v2), some (vi v3), some (vi s0), none]) (st' := [vi v1, vi v2, vi v3, vr (some (11, this))]) (M1 := M) (pc' := 130) (tb_Model hγ) [.aload_n 0, .iload_n 3, .iload_n 2, .iload_n 1] (by decide +kernel) rfl rfl trivial ?_
    refine E_callV (κ' := k_Model_act) (As := [vi v3, vi v2, vi v1]) (st := []) mv_Model_act (Or.inl (tbk_mem (j := 16) (k := 3) rfl)) rfl (by decide +kernel) (Nat.le_of_ble_eq_true rfl) (Nat.le_of_ble_eq_true rfl) rfl (by decide) (lk_Model_act hγ this v3 v2 v1 _ M h) (fun _ _ => Qv_r) (fun v M29 hp => Qv_k (R := fun st => E γ k_Model_inferOne 6 133 [some (vr (some (11, this))), some (vi v1), some (vi v2), some (vi v3), some (vi s0), none] st M29 (Qi Q)) hp (fun h => ?_))
    refine E_blk (lv' := [some (vr (some (11, this))), some (vi v1), some (vi v2), some (vi v3), some (vi s0), none]) (st' := [vr (mR M29 11 this 45), vi (mI M29 11 this 72)]) (M1 := M29) (pc' := 141) (tb_Model hγ) [.aload_n 0, .getfield 780, .aload_n 0, .getfield 522] (by decide +kernel) rfl rfl trivial ?_
    obtain ⟨i30, ei30, h⟩ := h
    rw [ei30]
    obtain ⟨c31, h⟩ := h
    refine E_blk (lv' := [some (vr (some (11, this))), some (vi v1), some (vi v2), some (vi v3), some (vi s0), none]) (st' := [vi (mI M29 147 i30 (mI M29 11 this 75).toNatClampNeg), vi (mI M29 11 this 72)]) (M1 := M29) (pc' := 149) (tb_Model hγ) [.getfield 456, .aload_n 0, .getfield 768, .iaload] (by decide +kernel) rfl rfl ⟨c31, trivial⟩ ?_
    refine E_icmp_le (off := 6) (tgt := 155) (by decide +kernel) (by decide) (fun b32 => ?_) (fun b32 => ?_)
    · rw [if_pos b32] at h
      refine E_blk (lv' := [some (vr (some (11, this))), some (vi v1), some (vi v2), some (vi v3), some (vi s0), none]) (st' := [vi (5 : Int32), vi v3]) (M1 := M29) (pc' := 157) (tb_Model hγ) [.iload_n 3, .iconst 5] (by decide +kernel) rfl rfl trivial ?_
      refine E_icmp_eq (off := 31) (tgt := 188) (by decide +kernel) (by decide) (fun b33 => ?_) (fun b33 => ?_)
      · rw [if_pos b33] at h
        refine E_mask [true, true, false, true, false, false] rfl ?_
        exact lk_Model_inferOne_j188 hγ this Q v1 v3 M29 h
      · rw [if_neg b33] at h
        refine E_blk (lv' := [some (vr (some (11, this))), some (vi v1), some (vi v2), some (vi v3), some (vi s0), none]) (st' := [vi (6 : Int32), vi v3]) (M1 := M29) (pc' := 163) (tb_Model hγ) [.iload_n 3, .bipush 6] (by decide +kernel) rfl rfl trivial ?_
        refine E_icmp_eq (off := 25) (tgt := 188) (by decide +kernel) (by decide) (fun b46 => ?_) (fun b46 => ?_)
        · rw [if_pos b46] at h
          refine E_mask [true, true, false, true, false, false] rfl ?_
          exact lk_Model_inferOne_j188 hγ this Q v1 v3 M29 h
        · rw [if_neg b46] at h
          refine E_blk (lv' := [some (vr (some (11, this))), some (vi v1), some (vi v2), some (vi v3), some (vi s0), none]) (st' := [vi (51 : Int32), vi v3]) (M1 := M29) (pc' := 169) (tb_Model hγ) [.iload_n 3, .bipush 51] (by decide +kernel) rfl rfl trivial ?_
          refine E_icmp_ne (off := 29) (tgt := 198) (by decide +kernel) (by decide) (fun b47 => ?_) (fun b47 => ?_)
          · rw [if_pos b47] at h
            refine E_blk (lv' := [some (vr (some (11, this))), some (vi v1), some (vi v2), some (vi v3), some (vi s0), none]) (st' := [vr (mR M29 11 this 45)]) (M1 := M29) (pc' := 176) (tb_Model hγ) [.aload_n 0, .getfield 522] (by decide +kernel) rfl rfl trivial ?_
            obtain ⟨i48, ei48, h⟩ := h
            rw [ei48]
            refine E_blk (lv' := [some (vr (some (11, this))), some (vi v1), some (vi v2), some (vi v3), some (vi s0), none]) (st' := [vr (mR M29 12 i48 32)]) (M1 := M29) (pc' := 179) (tb_Model hγ) [.getfield 680] (by decide +kernel) rfl rfl trivial ?_
            obtain ⟨i49, ei49, h⟩ := h
            rw [ei49]
            obtain ⟨c50, h⟩ := h
            refine E_blk (lv' := [some (vr (some (11, this))), some (vi v1), some (vi v2), some (vi v3), some (vi s0), none]) (st' := [vi (mI M29 11 this 6), vi (mI M29 300 i49 v2.toNatClampNeg)]) (M1 := M29) (pc' := 185) (tb_Model hγ) [.iload_n 2, .iaload, .aload_n 0, .getfield 121] (by decide +kernel) rfl rfl ⟨c50, trivial⟩ ?_
            refine E_icmp_ne (off := 13) (tgt := 198) (by decide +kernel) (by decide) (fun b51 => ?_) (fun b51 => ?_)
            · rw [if_pos b51] at h
              refine E_mask [true, true, false, true, false, false] rfl ?_
              exact lk_Model_inferOne_j188 hγ this Q v1 v3 M29 h
            · rw [if_neg b51] at h
              refine E_mask [true, true, true, true, true, false] rfl ?_
              exact lk_Model_inferOne_j198 hγ this Q v1 v2 v3 s0 M29 h
          · rw [if_neg b47] at h
            refine E_mask [true, true, true, true, true, false] rfl ?_
            exact lk_Model_inferOne_j198 hγ this Q v1 v2 v3 s0 M29 h
    · rw [if_neg b32] at h
      refine E_blk (lv' := [some (vr (some (11, this))), some (vi v1), some (vi v2), some (vi v3), some (vi s0), none]) (st' := [vi (30 : Int32)]) (M1 := M29) (pc' := 154) (tb_Model hγ) [.bipush 30] (by decide +kernel) rfl rfl trivial ?_
      exact E_iret rfl (by decide +kernel) h
  · rw [if_neg b28] at h
    refine E_blk (lv' := [some (vr (some (11, this))), some (vi v1), some (vi v2), some (vi v3), some (vi s0), none]) (st' := [vi s0]) (M1 := M) (pc' := 125) (tb_Model hγ) [.iload 4] (by decide +kernel) rfl rfl trivial ?_
    exact E_iret rfl (by decide +kernel) h
set_option maxRecDepth 4096 in
theorem lk_Model_inferOne_j98 {γ : Gm} (hγ : Gk γ) (this : Nat) (Q : Int32 → Mem → Prop) (v1 : Int32) (v2 : Int32) (v3 : Int32) (s0 : Int32) (M : Mem) (h : w_Model_inferOne_j98 this Q v1 v2 v3 s0 M) : E γ k_Model_inferOne 6 98 [some (vr (some (11, this))), some (vi v1), some (vi v2), some (vi v3), none, none] [vi s0] M (Qi Q) := by
  unfold w_Model_inferOne_j98 at h
  refine E_blk (lv' := [some (vr (some (11, this))), some (vi v1), some (vi v2), some (vi v3), some (vi s0), none]) (st' := [vi s0]) (M1 := M) (pc' := 102) (tb_Model hγ) [.istore 4, .iload 4] (by decide +kernel) rfl rfl trivial ?_
  refine E_if_le (off := 8) (tgt := 110) (by decide +kernel) (by decide) (fun b25 => ?_) (fun b25 => ?_)
  · rw [if_pos b25] at h
    refine E_blk (lv' := [some (vr (some (11, this))), some (vi v1), some (vi v2), some (vi v3), some (vi s0), none]) (st' := [vi v2, vi v3, vr (some (11, this))]) (M1 := M) (pc' := 113) (tb_Model hγ) [.aload_n 0, .iload_n 3, .iload_n 2] (by decide +kernel) rfl rfl trivial ?_
    refine E_callV (κ' := k_Model_checkOwn) (As := [vi v3, vi v2]) (st := []) mv_Model_checkOwn (Or.inl (tbk_mem (j := 15) (k := 235) rfl)) rfl (by decide +kernel) (Nat.le_of_ble_eq_true rfl) (Nat.le_of_ble_eq_true rfl) rfl (by decide) (lk_Model_checkOwn hγ this v3 v2 _ M h) (fun _ _ => Qi_r) (fun v M26 hp => Qi_k (R := fun st => E γ k_Model_inferOne 6 116 [some (vr (some (11, this))), some (vi v1), some (vi v2), some (vi v3), some (vi s0), none] st M26 (Qi Q)) hp (fun r27 h => ?_))
    refine E_mask [true, true, true, true, false, false] rfl ?_
    exact lk_Model_inferOne_j116 hγ this Q v1 v2 v3 r27 M26 h
  · rw [if_neg b25] at h
    refine E_blk (lv' := [some (vr (some (11, this))), some (vi v1), some (vi v2), some (vi v3), some (vi s0), none]) (st' := [vi s0]) (M1 := M) (pc' := 107) (tb_Model hγ) [.iload 4] (by decide +kernel) rfl rfl trivial ?_
    refine E_goto (off := 9) (tgt := 116) (by decide +kernel) (by decide) ?_
    refine E_mask [true, true, true, true, false, false] rfl ?_
    exact lk_Model_inferOne_j116 hγ this Q v1 v2 v3 s0 M h
set_option maxRecDepth 4096 in
theorem lk_Model_inferOne {γ : Gm} (hγ : Gk γ) (this : Nat) (a1 : Int32) (Q : Int32 → Mem → Prop) (M : Mem) (h : w_Model_inferOne this a1 Q M) : E γ k_Model_inferOne 6 0 [some (vr (some (11, this))), some (vi a1), none, none, none, none] [] M (Qi Q) := by
  unfold w_Model_inferOne at h
  refine E_blk (lv' := [some (vr (some (11, this))), some (vi a1), none, none, none, none]) (st' := [vr (mR M 11 this 45)]) (M1 := M) (pc' := 4) (tb_Model hγ) [.aload_n 0, .getfield 522] (by decide +kernel) rfl rfl trivial ?_
  obtain ⟨i1, ei1, h⟩ := h
  rw [ei1]
  obtain ⟨c2, c3, h⟩ := h
  refine E_blk (lv' := [some (vr (some (11, this))), some (vi a1), some (vi ((mI M 149 i1 (mI M 11 this 75).toNatClampNeg) + a1)), none, none, none]) (st' := [vi (mI (sI M 11 this 72 (mI M 114 this a1.toNatClampNeg)) 11 this 102), vi (0 : Int32), vr (some (111, this)), vi ((20 : Int32) * a1), vr (some (115, this))]) (M1 := (sI M 11 this 72 (mI M 114 this a1.toNatClampNeg))) (pc' := 42) (tb_Model hγ) [.getfield 462, .aload_n 0, .getfield 768, .iaload, .iload_n 1, .iadd, .istore_n 2, .aload_n 0, .aload_n 0, .getfield 332, .iload_n 1, .iaload, .putfield 780, .aload_n 0, .getfield 335, .bipush 20, .iload_n 1, .imul, .aload_n 0, .getfield 305, .iconst 0, .aload_n 0, .getfield 1254] (by decide +kernel) rfl rfl ⟨c2, c3, trivial⟩ ?_
  obtain ⟨c5, c6, c7, c8, c9, M4, eM4, h⟩ := h
  refine E_copy (pc := 42) (κ := k_Model_inferOne) (f := 115) (i := this) (g := 111) (j := this) (sp := ((20 : Int32) * a1)) (dp := (0 : Int32)) (n := (mI (sI M 11 this 72 (mI M 114 this a1.toNatClampNeg)) 11 this 102)) (idx := 11) (st := []) c5 c6 c7 c8 c9 (by decide) (by decide) rfl (by decide) (tbk_mem (j := 11) (k := 65) rfl) (by decide +kernel) (Nat.le_of_ble_eq_true rfl) ?_
  rw [← eM4]
  refine E_blk (lv' := [some (vr (some (11, this))), some (vi a1), some (vi ((mI M 149 i1 (mI M 11 this 75).toNatClampNeg) + a1)), none, none, none]) (st' := [vi (mI M4 11 this 72), vi (0 : Int32), vr (some (212, 0)), vi ((28 : Int32) * a1), vr (some (116, this))]) (M1 := M4) (pc' := 62) (tb_Model hγ) [.aload_n 0, .getfield 338, .bipush 28, .iload_n 1, .imul, .aload_n 0, .getfield 308, .iconst 0, .aload_n 0, .getfield 780] (by decide +kernel) rfl rfl trivial ?_
  obtain ⟨c11, c12, c13, c14, c15, M10, eM10, h⟩ := h
  refine E_copy (pc := 62) (κ := k_Model_inferOne) (f := 116) (i := this) (g := 212) (j := 0) (sp := ((28 : Int32) * a1)) (dp := (0 : Int32)) (n := (mI M4 11 this 72)) (idx := 11) (st := []) c11 c12 c13 c14 c15 (by decide) (by decide) rfl (by decide) (tbk_mem (j := 11) (k := 65) rfl) (by decide +kernel) (Nat.le_of_ble_eq_true rfl) ?_
  rw [← eM10]
  refine E_blk (lv' := [some (vr (some (11, this))), some (vi a1), some (vi ((mI M 149 i1 (mI M 11 this 75).toNatClampNeg) + a1)), none, none, none]) (st' := [vr (mR M10 11 this 45)]) (M1 := M10) (pc' := 69) (tb_Model hγ) [.aload_n 0, .getfield 522] (by decide +kernel) rfl rfl trivial ?_
  obtain ⟨i16, ei16, h⟩ := h
  rw [ei16]
  refine E_blk (lv' := [some (vr (some (11, this))), some (vi a1), some (vi ((mI M 149 i1 (mI M 11 this 75).toNatClampNeg) + a1)), none, none, none]) (st' := [vr (mR M10 12 i16 30)]) (M1 := M10) (pc' := 72) (tb_Model hγ) [.getfield 674] (by decide +kernel) rfl rfl trivial ?_
  obtain ⟨i17, ei17, h⟩ := h
  rw [ei17]
  obtain ⟨c18, h⟩ := h
  refine E_blk (lv' := [some (vr (some (11, this))), some (vi a1), some (vi ((mI M 149 i1 (mI M 11 this 75).toNatClampNeg) + a1)), some (vi (mI M10 401 i17 ((mI M 149 i1 (mI M 11 this 75).toNatClampNeg) + a1).toNatClampNeg)), none, none]) (st' := []) (M1 := M10) (pc' := 75) (tb_Model hγ) [.iload_n 2, .baload, .istore_n 3] (by decide +kernel) rfl rfl ⟨c18, trivial⟩ ?_
  obtain ⟨x19, ex19, h⟩ := h
  rw [← ex19]
  refine E_blk (lv' := [some (vr (some (11, this))), some (vi a1), some (vi ((mI M 149 i1 (mI M 11 this 75).toNatClampNeg) + a1)), some (vi x19), none, none]) (st' := [vi a1, vr (some (11, this))]) (M1 := M10) (pc' := 77) (tb_Model hγ) [.aload_n 0, .iload_n 1] (by decide +kernel) rfl rfl trivial ?_
  refine E_callV (κ' := k_Model_inferHandlers) (As := [vi a1]) (st := []) mv_Model_inferHandlers (Or.inl (tbk_mem (j := 17) (k := 117) rfl)) rfl (by decide +kernel) (Nat.le_of_ble_eq_true rfl) (Nat.le_of_ble_eq_true rfl) rfl (by decide) (lk_Model_inferHandlers hγ this a1 _ M10 h) (fun _ _ => Qi_r) (fun v M20 hp => Qi_k (R := fun st => E γ k_Model_inferOne 6 80 [some (vr (some (11, this))), some (vi a1), some (vi ((mI M 149 i1 (mI M 11 this 75).toNatClampNeg) + a1)), some (vi x19), none, none] st M20 (Qi Q)) hp (fun r21 h => ?_))
  refine E_blk (lv' := [some (vr (some (11, this))), some (vi a1), some (vi ((mI M 149 i1 (mI M 11 this 75).toNatClampNeg) + a1)), some (vi x19), some (vi r21), none]) (st' := [vi r21]) (M1 := M20) (pc' := 84) (tb_Model hγ) [.istore 4, .iload 4] (by decide +kernel) rfl rfl trivial ?_
  refine E_if_le (off := 8) (tgt := 92) (by decide +kernel) (by decide) (fun b22 => ?_) (fun b22 => ?_)
  · rw [if_pos b22] at h
    refine E_blk (lv' := [some (vr (some (11, this))), some (vi a1), some (vi ((mI M 149 i1 (mI M 11 this 75).toNatClampNeg) + a1)), some (vi x19), some (vi r21), none]) (st' := [vi ((mI M 149 i1 (mI M 11 this 75).toNatClampNeg) + a1), vi x19, vr (some (11, this))]) (M1 := M20) (pc' := 95) (tb_Model hγ) [.aload_n 0, .iload_n 3, .iload_n 2] (by decide +kernel) rfl rfl trivial ?_
    refine E_callV (κ' := k_Model_checkTaken) (As := [vi x19, vi ((mI M 149 i1 (mI M 11 this 75).toNatClampNeg) + a1)]) (st := []) mv_Model_checkTaken (Or.inl (tbk_mem (j := 15) (k := 217) rfl)) rfl (by decide +kernel) (Nat.le_of_ble_eq_true rfl) (Nat.le_of_ble_eq_true rfl) rfl (by decide) (lk_Model_checkTaken hγ this x19 ((mI M 149 i1 (mI M 11 this 75).toNatClampNeg) + a1) _ M20 h) (fun _ _ => Qi_r) (fun v M23 hp => Qi_k (R := fun st => E γ k_Model_inferOne 6 98 [some (vr (some (11, this))), some (vi a1), some (vi ((mI M 149 i1 (mI M 11 this 75).toNatClampNeg) + a1)), some (vi x19), some (vi r21), none] st M23 (Qi Q)) hp (fun r24 h => ?_))
    refine E_mask [true, true, true, true, false, false] rfl ?_
    exact lk_Model_inferOne_j98 hγ this Q a1 ((mI M 149 i1 (mI M 11 this 75).toNatClampNeg) + a1) x19 r24 M23 h
  · rw [if_neg b22] at h
    refine E_blk (lv' := [some (vr (some (11, this))), some (vi a1), some (vi ((mI M 149 i1 (mI M 11 this 75).toNatClampNeg) + a1)), some (vi x19), some (vi r21), none]) (st' := [vi r21]) (M1 := M20) (pc' := 89) (tb_Model hγ) [.iload 4] (by decide +kernel) rfl rfl trivial ?_
    refine E_goto (off := 9) (tgt := 98) (by decide +kernel) (by decide) ?_
    refine E_mask [true, true, true, true, false, false] rfl ?_
    exact lk_Model_inferOne_j98 hγ this Q a1 ((mI M 149 i1 (mI M 11 this 75).toNatClampNeg) + a1) x19 r21 M20 h
def w_Model_infer_j97 (this : Nat) (Q : Int32 → Mem → Prop) (k18 : Int32 → Mem → Prop) (s0 : Int32) (s1 : Int32) (M : Mem) : Prop :=
  if (s1 + s0) = (100 : Int32) then (Q (44 : Int32) (sI M 11 this 74 (0 : Int32))) else (k18 (s1 + s0) M)
def w_Model_infer_j62 (this : Nat) (Q : Int32 → Mem → Prop) (k18 : Int32 → Mem → Prop) (k33 : Int32 → Int32 → Mem → Prop) (v3 : Int32) (v4 : Int32) (s0 : Int32) (M : Mem) : Prop :=
  if s0 ≤ 0 then (k33 v3 (v4 + (1 : Int32)) M) else (Q s0 (sI M 11 this 74 v4))
def w_Model_infer_L33 (this : Nat) (Q : Int32 → Mem → Prop) (k18 : Int32 → Mem → Prop) : Nat → Int32 → Int32 → Mem → Prop
  | 0, _, _, _ => False
  | n + 1, v3, v4, M => if (mI M 11 this 101) ≤ v4 then (if (mI M 11 this 103) = 0 then (w_Model_infer_j97 this Q k18 (0 : Int32) v3 M) else (w_Model_infer_j97 this Q k18 (1 : Int32) v3 M)) else (vp_in v4 (mL M 519 this) ∧ if (mI M 519 this v4.toNatClampNeg) = 0 then (w_Model_infer_j62 this Q k18 (w_Model_infer_L33 this Q k18 n) v3 v4 (0 : Int32) M) else (w_Model_inferOne this v4 (fun r13 M12 => w_Model_infer_j62 this Q k18 (w_Model_infer_L33 this Q k18 n) v3 v4 r13 M12) M))
def w_Model_infer_L18 (this : Nat) (Q : Int32 → Mem → Prop) : Nat → Int32 → Mem → Prop
  | 0, _, _ => False
  | n + 1, v3, M => if (mI M 11 this 103) = 0 then (Q (0 : Int32) M) else (((0 : Int32) = 0 ∨ (0 : Int32) = 1) ∧ ∃ n14 : Nat, w_Model_infer_L33 this Q (w_Model_infer_L18 this Q n) n14 v3 (0 : Int32) (sI M 11 this 103 (0 : Int32)))
def w_Model_infer (this : Nat) (a1 : Int32) (a2 : Int32) (Q : Int32 → Mem → Prop) (M : Mem) : Prop :=
  w_Model_begin this a1 a2 (fun M1 => w_Model_record this (0 : Int32) (fun M2 => ((1 : Int32) = 0 ∨ (1 : Int32) = 1) ∧ ∃ n15 : Nat, w_Model_infer_L18 this Q n15 (0 : Int32) (sI M2 11 this 103 (1 : Int32))) M1) M
set_option maxRecDepth 4096 in
theorem lk_Model_infer_j97 {γ : Gm} (hγ : Gk γ) (this : Nat) (Q : Int32 → Mem → Prop) (k18 : Int32 → Mem → Prop) (hk18 : ∀ (v3 : Int32) (M : Mem), k18 v3 M → E γ k_Model_infer 7 18 [some (vr (some (11, this))), none, none, some (vi v3), none, none] [] M (Qi Q)) (s0 : Int32) (s1 : Int32) (M : Mem) (h : w_Model_infer_j97 this Q k18 s0 s1 M) : E γ k_Model_infer 7 97 [some (vr (some (11, this))), none, none, none, none, none] [vi s0, vi s1] M (Qi Q) := by
  unfold w_Model_infer_j97 at h
  refine E_blk (lv' := [some (vr (some (11, this))), none, none, some (vi (s1 + s0)), none, none]) (st' := [vi (100 : Int32), vi (s1 + s0)]) (M1 := M) (pc' := 102) (tb_Model hγ) [.iadd, .istore_n 3, .iload_n 3, .bipush 100] (by decide +kernel) rfl rfl trivial ?_
  refine E_icmp_ne (off := -84) (tgt := 18) (by decide +kernel) (by decide) (fun b8 => ?_) (fun b8 => ?_)
  · rw [if_pos b8] at h
    refine E_blk (lv' := [some (vr (some (11, this))), none, none, some (vi (s1 + s0)), none, none]) (st' := [vi (44 : Int32)]) (M1 := (sI M 11 this 74 (0 : Int32))) (pc' := 112) (tb_Model hγ) [.aload_n 0, .iconst 0, .putfield 759, .bipush 44] (by decide +kernel) rfl rfl trivial ?_
    exact E_iret rfl (by decide +kernel) h
  · rw [if_neg b8] at h
    refine E_mask [true, false, false, true, false, false] rfl ?_
    exact hk18 (s1 + s0) M h
set_option maxRecDepth 4096 in
theorem lk_Model_infer_j62 {γ : Gm} (hγ : Gk γ) (this : Nat) (Q : Int32 → Mem → Prop) (k18 : Int32 → Mem → Prop) (k33 : Int32 → Int32 → Mem → Prop) (hk18 : ∀ (v3 : Int32) (M : Mem), k18 v3 M → E γ k_Model_infer 7 18 [some (vr (some (11, this))), none, none, some (vi v3), none, none] [] M (Qi Q)) (hk33 : ∀ (v3 : Int32) (v4 : Int32) (M : Mem), k33 v3 v4 M → E γ k_Model_infer 7 33 [some (vr (some (11, this))), none, none, some (vi v3), some (vi v4), none] [] M (Qi Q)) (v3 : Int32) (v4 : Int32) (s0 : Int32) (M : Mem) (h : w_Model_infer_j62 this Q k18 k33 v3 v4 s0 M) : E γ k_Model_infer 7 62 [some (vr (some (11, this))), none, none, some (vi v3), some (vi v4), none] [vi s0] M (Qi Q) := by
  unfold w_Model_infer_j62 at h
  refine E_blk (lv' := [some (vr (some (11, this))), none, none, some (vi v3), some (vi v4), some (vi s0)]) (st' := [vi s0]) (M1 := M) (pc' := 66) (tb_Model hγ) [.istore 5, .iload 5] (by decide +kernel) rfl rfl trivial ?_
  refine E_if_le (off := 12) (tgt := 78) (by decide +kernel) (by decide) (fun b11 => ?_) (fun b11 => ?_)
  · rw [if_pos b11] at h
    refine E_blk (lv' := [some (vr (some (11, this))), none, none, some (vi v3), some (vi (v4 + (1 : Int32))), some (vi s0)]) (st' := []) (M1 := M) (pc' := 81) (tb_Model hγ) [.iinc 4 1] (by decide +kernel) rfl rfl trivial ?_
    refine E_goto (off := -48) (tgt := 33) (by decide +kernel) (by decide) ?_
    refine E_mask [true, false, false, true, true, false] rfl ?_
    exact hk33 v3 (v4 + (1 : Int32)) M h
  · rw [if_neg b11] at h
    refine E_blk (lv' := [some (vr (some (11, this))), none, none, some (vi v3), some (vi v4), some (vi s0)]) (st' := [vi s0]) (M1 := (sI M 11 this 74 v4)) (pc' := 77) (tb_Model hγ) [.aload_n 0, .iload 4, .putfield 759, .iload 5] (by decide +kernel) rfl rfl trivial ?_
    exact E_iret rfl (by decide +kernel) h
set_option maxRecDepth 4096 in
theorem lk_Model_infer_L33 {γ : Gm} (hγ : Gk γ) (this : Nat) (Q : Int32 → Mem → Prop) (k18 : Int32 → Mem → Prop) (hk18 : ∀ (v3 : Int32) (M : Mem), k18 v3 M → E γ k_Model_infer 7 18 [some (vr (some (11, this))), none, none, some (vi v3), none, none] [] M (Qi Q)) : ∀ (n : Nat) (v3 : Int32) (v4 : Int32) (M : Mem), w_Model_infer_L33 this Q k18 n v3 v4 M → E γ k_Model_infer 7 33 [some (vr (some (11, this))), none, none, some (vi v3), some (vi v4), none] [] M (Qi Q) := by
  intro n
  induction n with
  | zero => intro v3 v4 M h; exact h.elim
  | succ n ih =>
    intro v3 v4 M h
    unfold w_Model_infer_L33 at h
    refine E_blk (lv' := [some (vr (some (11, this))), none, none, some (vi v3), some (vi v4), none]) (st' := [vi (mI M 11 this 101), vi v4]) (M1 := M) (pc' := 39) (tb_Model hγ) [.iload 4, .aload_n 0, .getfield 1257] (by decide +kernel) rfl rfl trivial ?_
    refine E_icmp_ge (off := 45) (tgt := 84) (by decide +kernel) (by decide) (fun b6 => ?_) (fun b6 => ?_)
    · rw [if_pos b6] at h
      refine E_blk (lv' := [some (vr (some (11, this))), none, none, some (vi v3), some (vi v4), none]) (st' := [vi (mI M 11 this 103), vi v3]) (M1 := M) (pc' := 89) (tb_Model hγ) [.iload_n 3, .aload_n 0, .getfield 1266] (by decide +kernel) rfl rfl trivial ?_
      refine E_if_eq (off := 7) (tgt := 96) (by decide +kernel) (by decide) (fun b7 => ?_) (fun b7 => ?_)
      · rw [if_pos b7] at h
        refine E_blk (lv' := [some (vr (some (11, this))), none, none, some (vi v3), some (vi v4), none]) (st' := [vi (0 : Int32), vi v3]) (M1 := M) (pc' := 97) (tb_Model hγ) [.iconst 0] (by decide +kernel) rfl rfl trivial ?_
        refine E_mask [true, false, false, false, false, false] rfl ?_
        exact lk_Model_infer_j97 hγ this Q k18 hk18 (0 : Int32) v3 M h
      · rw [if_neg b7] at h
        refine E_blk (lv' := [some (vr (some (11, this))), none, none, some (vi v3), some (vi v4), none]) (st' := [vi (1 : Int32), vi v3]) (M1 := M) (pc' := 93) (tb_Model hγ) [.iconst 1] (by decide +kernel) rfl rfl trivial ?_
        refine E_goto (off := 4) (tgt := 97) (by decide +kernel) (by decide) ?_
        refine E_mask [true, false, false, false, false, false] rfl ?_
        exact lk_Model_infer_j97 hγ this Q k18 hk18 (1 : Int32) v3 M h
    · rw [if_neg b6] at h
      obtain ⟨c9, h⟩ := h
      refine E_blk (lv' := [some (vr (some (11, this))), none, none, some (vi v3), some (vi v4), none]) (st' := [vi (mI M 519 this v4.toNatClampNeg)]) (M1 := M) (pc' := 49) (tb_Model hγ) [.aload_n 0, .getfield 329, .iload 4, .baload] (by decide +kernel) rfl rfl ⟨c9, trivial⟩ ?_
      refine E_if_eq (off := 12) (tgt := 61) (by decide +kernel) (by decide) (fun b10 => ?_) (fun b10 => ?_)
      · rw [if_pos b10] at h
        refine E_blk (lv' := [some (vr (some (11, this))), none, none, some (vi v3), some (vi v4), none]) (st' := [vi (0 : Int32)]) (M1 := M) (pc' := 62) (tb_Model hγ) [.iconst 0] (by decide +kernel) rfl rfl trivial ?_
        refine E_mask [true, false, false, true, true, false] rfl ?_
        exact lk_Model_infer_j62 hγ this Q k18 (w_Model_infer_L33 this Q k18 n) hk18 ih v3 v4 (0 : Int32) M h
      · rw [if_neg b10] at h
        refine E_blk (lv' := [some (vr (some (11, this))), none, none, some (vi v3), some (vi v4), none]) (st' := [vi v4, vr (some (11, this))]) (M1 := M) (pc' := 55) (tb_Model hγ) [.aload_n 0, .iload 4] (by decide +kernel) rfl rfl trivial ?_
        refine E_callV (κ' := k_Model_inferOne) (As := [vi v4]) (st := []) mv_Model_inferOne (Or.inl (tbk_mem (j := 17) (k := 113) rfl)) rfl (by decide +kernel) (Nat.le_of_ble_eq_true rfl) (Nat.le_of_ble_eq_true rfl) rfl (by decide) (lk_Model_inferOne hγ this v4 _ M h) (fun _ _ => Qi_r) (fun v M12 hp => Qi_k (R := fun st => E γ k_Model_infer 7 58 [some (vr (some (11, this))), none, none, some (vi v3), some (vi v4), none] st M12 (Qi Q)) hp (fun r13 h => ?_))
        refine E_goto (off := 4) (tgt := 62) (by decide +kernel) (by decide) ?_
        refine E_mask [true, false, false, true, true, false] rfl ?_
        exact lk_Model_infer_j62 hγ this Q k18 (w_Model_infer_L33 this Q k18 n) hk18 ih v3 v4 r13 M12 h
set_option maxRecDepth 4096 in
theorem lk_Model_infer_L18 {γ : Gm} (hγ : Gk γ) (this : Nat) (Q : Int32 → Mem → Prop) : ∀ (n : Nat) (v3 : Int32) (M : Mem), w_Model_infer_L18 this Q n v3 M → E γ k_Model_infer 7 18 [some (vr (some (11, this))), none, none, some (vi v3), none, none] [] M (Qi Q) := by
  intro n
  induction n with
  | zero => intro v3 M h; exact h.elim
  | succ n ih =>
    intro v3 M h
    unfold w_Model_infer_L18 at h
    refine E_blk (lv' := [some (vr (some (11, this))), none, none, some (vi v3), none, none]) (st' := [vi (mI M 11 this 103)]) (M1 := M) (pc' := 22) (tb_Model hγ) [.aload_n 0, .getfield 1266] (by decide +kernel) rfl rfl trivial ?_
    refine E_if_eq (off := 91) (tgt := 113) (by decide +kernel) (by decide) (fun b4 => ?_) (fun b4 => ?_)
    · rw [if_pos b4] at h
      refine E_blk (lv' := [some (vr (some (11, this))), none, none, some (vi v3), none, none]) (st' := [vi (0 : Int32)]) (M1 := M) (pc' := 114) (tb_Model hγ) [.iconst 0] (by decide +kernel) rfl rfl trivial ?_
      exact E_iret rfl (by decide +kernel) h
    · rw [if_neg b4] at h
      obtain ⟨c5, h⟩ := h
      refine E_blk (lv' := [some (vr (some (11, this))), none, none, some (vi v3), some (vi (0 : Int32)), none]) (st' := []) (M1 := (sI M 11 this 103 (0 : Int32))) (pc' := 33) (tb_Model hγ) [.aload_n 0, .iconst 0, .putfield 1266, .iconst 0, .istore 4] (by decide +kernel) rfl rfl ⟨c5, trivial⟩ ?_
      obtain ⟨n14, h⟩ := h
      refine E_mask [true, false, false, true, true, false] rfl ?_
      exact lk_Model_infer_L33 hγ this Q (w_Model_infer_L18 this Q n) ih n14 v3 (0 : Int32) (sI M 11 this 103 (0 : Int32)) h
set_option maxRecDepth 4096 in
theorem lk_Model_infer {γ : Gm} (hγ : Gk γ) (this : Nat) (a1 : Int32) (a2 : Int32) (Q : Int32 → Mem → Prop) (M : Mem) (h : w_Model_infer this a1 a2 Q M) : E γ k_Model_infer 7 0 [some (vr (some (11, this))), some (vi a1), some (vi a2), none, none, none] [] M (Qi Q) := by
  unfold w_Model_infer at h
  refine E_blk (lv' := [some (vr (some (11, this))), some (vi a1), some (vi a2), none, none, none]) (st' := [vi a2, vi a1, vr (some (11, this))]) (M1 := M) (pc' := 3) (tb_Model hγ) [.aload_n 0, .iload_n 1, .iload_n 2] (by decide +kernel) rfl rfl trivial ?_
  refine E_callV (κ' := k_Model_begin) (As := [vi a1, vi a2]) (st := []) mv_Model_begin (Or.inl (tbk_mem (j := 15) (k := 173) rfl)) rfl (by decide +kernel) (Nat.le_of_ble_eq_true rfl) (Nat.le_of_ble_eq_true rfl) rfl (by decide) (lk_Model_begin hγ this a1 a2 _ M h) (fun _ _ => Qv_r) (fun v M1 hp => Qv_k (R := fun st => E γ k_Model_infer 7 6 [some (vr (some (11, this))), some (vi a1), some (vi a2), none, none, none] st M1 (Qi Q)) hp (fun h => ?_))
  refine E_blk (lv' := [some (vr (some (11, this))), some (vi a1), some (vi a2), none, none, none]) (st' := [vi (0 : Int32), vr (some (11, this))]) (M1 := M1) (pc' := 8) (tb_Model hγ) [.aload_n 0, .iconst 0] (by decide +kernel) rfl rfl trivial ?_
  refine E_callV (κ' := k_Model_record) (As := [vi (0 : Int32)]) (st := []) mv_Model_record (Or.inl (tbk_mem (j := 15) (k := 209) rfl)) rfl (by decide +kernel) (Nat.le_of_ble_eq_true rfl) (Nat.le_of_ble_eq_true rfl) rfl (by decide) (lk_Model_record hγ this (0 : Int32) _ M1 h) (fun _ _ => Qv_r) (fun v M2 hp => Qv_k (R := fun st => E γ k_Model_infer 7 11 [some (vr (some (11, this))), some (vi a1), some (vi a2), none, none, none] st M2 (Qi Q)) hp (fun h => ?_))
  obtain ⟨c3, h⟩ := h
  refine E_blk (lv' := [some (vr (some (11, this))), some (vi a1), some (vi a2), some (vi (0 : Int32)), none, none]) (st' := []) (M1 := (sI M2 11 this 103 (1 : Int32))) (pc' := 18) (tb_Model hγ) [.aload_n 0, .iconst 1, .putfield 1266, .iconst 0, .istore_n 3] (by decide +kernel) rfl rfl ⟨c3, trivial⟩ ?_
  obtain ⟨n15, h⟩ := h
  refine E_mask [true, false, false, true, false, false] rfl ?_
  exact lk_Model_infer_L18 hγ this Q n15 (0 : Int32) (sI M2 11 this 103 (1 : Int32)) h
def w_Model_toldKind (this : Nat) (a1 : Int32) (Q : Int32 → Mem → Prop) (M : Mem) : Prop :=
  if a1 < (16 : Int32) then (if 0 ≤ a1 then (Q (a1 - (1 : Int32)) M) else (Q (5 : Int32) M)) else (w_Model_classOf this (a1 - (16 : Int32)) (fun r4 M3 => if 0 ≤ r4 then (Q ((100 : Int32) + r4) M3) else (Q (99 : Int32) M3)) M)
set_option maxRecDepth 4096 in
theorem lk_Model_toldKind {γ : Gm} (hγ : Gk γ) (this : Nat) (a1 : Int32) (Q : Int32 → Mem → Prop) (M : Mem) (h : w_Model_toldKind this a1 Q M) : E γ k_Model_toldKind 1 0 [some (vr (some (11, this))), some (vi a1), none] [] M (Qi Q) := by
  unfold w_Model_toldKind at h
  refine E_blk (lv' := [some (vr (some (11, this))), some (vi a1), none]) (st' := [vi (16 : Int32), vi a1]) (M1 := M) (pc' := 3) (tb_Model hγ) [.iload_n 1, .bipush 16] (by decide +kernel) rfl rfl trivial ?_
  refine E_icmp_lt (off := 26) (tgt := 29) (by decide +kernel) (by decide) (fun b1 => ?_) (fun b1 => ?_)
  · rw [if_pos b1] at h
    refine E_blk (lv' := [some (vr (some (11, this))), some (vi a1), none]) (st' := [vi a1]) (M1 := M) (pc' := 30) (tb_Model hγ) [.iload_n 1] (by decide +kernel) rfl rfl trivial ?_
    refine E_if_ge (off := 7) (tgt := 37) (by decide +kernel) (by decide) (fun b2 => ?_) (fun b2 => ?_)
    · rw [if_pos b2] at h
      refine E_blk (lv' := [some (vr (some (11, this))), some (vi a1), none]) (st' := [vi (a1 - (1 : Int32))]) (M1 := M) (pc' := 40) (tb_Model hγ) [.iload_n 1, .iconst 1, .isub] (by decide +kernel) rfl rfl trivial ?_
      exact E_iret rfl (by decide +kernel) h
    · rw [if_neg b2] at h
      refine E_blk (lv' := [some (vr (some (11, this))), some (vi a1), none]) (st' := [vi (5 : Int32)]) (M1 := M) (pc' := 34) (tb_Model hγ) [.iconst 5] (by decide +kernel) rfl rfl trivial ?_
      refine E_goto (off := 6) (tgt := 40) (by decide +kernel) (by decide) ?_
      exact E_iret rfl (by decide +kernel) h
  · rw [if_neg b1] at h
    refine E_blk (lv' := [some (vr (some (11, this))), some (vi a1), none]) (st' := [vi (a1 - (16 : Int32)), vr (some (11, this))]) (M1 := M) (pc' := 11) (tb_Model hγ) [.aload_n 0, .iload_n 1, .bipush 16, .isub] (by decide +kernel) rfl rfl trivial ?_
    refine E_callV (κ' := k_Model_classOf) (As := [vi (a1 - (16 : Int32))]) (st := []) mv_Model_classOf (Or.inl (tbk_mem (j := 15) (k := 39) rfl)) rfl (by decide +kernel) (Nat.le_of_ble_eq_true rfl) (Nat.le_of_ble_eq_true rfl) rfl (by decide) (lk_Model_classOf hγ this (a1 - (16 : Int32)) _ M h) (fun _ _ => Qi_r) (fun v M3 hp => Qi_k (R := fun st => E γ k_Model_toldKind 1 14 [some (vr (some (11, this))), some (vi a1), none] st M3 (Qi Q)) hp (fun r4 h => ?_))
    refine E_blk (lv' := [some (vr (some (11, this))), some (vi a1), some (vi r4)]) (st' := [vi r4]) (M1 := M3) (pc' := 16) (tb_Model hγ) [.istore_n 2, .iload_n 2] (by decide +kernel) rfl rfl trivial ?_
    refine E_if_ge (off := 8) (tgt := 24) (by decide +kernel) (by decide) (fun b5 => ?_) (fun b5 => ?_)
    · rw [if_pos b5] at h
      refine E_blk (lv' := [some (vr (some (11, this))), some (vi a1), some (vi r4)]) (st' := [vi ((100 : Int32) + r4)]) (M1 := M3) (pc' := 28) (tb_Model hγ) [.bipush 100, .iload_n 2, .iadd] (by decide +kernel) rfl rfl trivial ?_
      exact E_iret rfl (by decide +kernel) h
    · rw [if_neg b5] at h
      refine E_blk (lv' := [some (vr (some (11, this))), some (vi a1), some (vi r4)]) (st' := [vi (99 : Int32)]) (M1 := M3) (pc' := 21) (tb_Model hγ) [.bipush 99] (by decide +kernel) rfl rfl trivial ?_
      refine E_goto (off := 7) (tgt := 28) (by decide +kernel) (by decide) ?_
      exact E_iret rfl (by decide +kernel) h
def w_Model_kinds_j288 (this : Nat) (Q : Int32 → Mem → Prop) (k160 : Int32 → Int32 → Mem → Prop) (v6 : Int32) (v7 : Int32) (M : Mem) : Prop :=
  k160 v6 (v7 + (1 : Int32)) M
def w_Model_kinds_L230 (this : Nat) (Q : Int32 → Mem → Prop) (k160 : Int32 → Int32 → Mem → Prop) : Nat → Int32 → Int32 → Int32 → Mem → Prop
  | 0, _, _, _, _ => False
  | n + 1, v6, v7, v8, M => vp_in v7 (mL M 519 this) ∧ if (mI M 519 this v7.toNatClampNeg) = 0 then (w_Model_kinds_j288 this Q k160 v6 v7 M) else (vp_in v7 (mL M 114 this) ∧ if (mI M 114 this v7.toNatClampNeg) ≤ v8 then (w_Model_kinds_j288 this Q k160 v6 v7 M) else (vp_in (((28 : Int32) * v7) + v8) (mL M 116 this) ∧ w_Model_toldKind this (mI M 116 this (((28 : Int32) * v7) + v8).toNatClampNeg) (fun r36 M35 => vp_in (((28 : Int32) * v7) + v8) (mL M35 116 this) ∧ (w_Model_kinds_L230 this Q k160 n) v6 v7 (v8 + (1 : Int32)) (sI M35 116 this (((28 : Int32) * v7) + v8).toNatClampNeg r36)) M))
def w_Model_kinds_j227 (this : Nat) (Q : Int32 → Mem → Prop) (k160 : Int32 → Int32 → Mem → Prop) (v6 : Int32) (v7 : Int32) (M : Mem) : Prop :=
  ∃ n38 : Nat, w_Model_kinds_L230 this Q k160 n38 v6 v7 (0 : Int32) M
def w_Model_kinds_L172 (this : Nat) (Q : Int32 → Mem → Prop) (k160 : Int32 → Int32 → Mem → Prop) : Nat → Int32 → Int32 → Int32 → Mem → Prop
  | 0, _, _, _, _ => False
  | n + 1, v6, v7, v8, M => if (mI M 11 this 102) ≤ v8 then (w_Model_kinds_j227 this Q k160 v6 v7 M) else (vp_in v7 (mL M 519 this) ∧ if (mI M 519 this v7.toNatClampNeg) = 0 then (w_Model_kinds_j227 this Q k160 v6 v7 M) else (vp_in (((20 : Int32) * v7) + v8) (mL M 115 this) ∧ w_Model_toldKind this (mI M 115 this (((20 : Int32) * v7) + v8).toNatClampNeg) (fun r43 M42 => vp_in (((20 : Int32) * v7) + v8) (mL M42 115 this) ∧ (w_Model_kinds_L172 this Q k160 n) v6 v7 (v8 + (1 : Int32)) (sI M42 115 this (((20 : Int32) * v7) + v8).toNatClampNeg r43)) M))
def w_Model_kinds_L160 (this : Nat) (Q : Int32 → Mem → Prop) : Nat → Int32 → Int32 → Mem → Prop
  | 0, _, _, _ => False
  | n + 1, v6, v7, M => if (mI M 11 this 101) ≤ v7 then (if v6 = 0 then (Q (0 : Int32) M) else (Q (((1000 : Int32) * v6) + (mI M 11 this 74)) M)) else (∃ n45 : Nat, w_Model_kinds_L172 this Q (w_Model_kinds_L160 this Q n) n45 v6 v7 (0 : Int32) M)
def w_Model_kinds_j157 (this : Nat) (Q : Int32 → Mem → Prop) (v6 : Int32) (M : Mem) : Prop :=
  ∃ n46 : Nat, w_Model_kinds_L160 this Q n46 v6 (0 : Int32) M
def w_Model_kinds_L98 (this : Nat) (Q : Int32 → Mem → Prop) : Nat → Int32 → Int32 → Int32 → Int32 → Mem → Prop
  | 0, _, _, _, _, _ => False
  | n + 1, v2, v4, v5, v6, M => if (mI M 11 this 101) ≤ v6 then (if v4 = 0 then (((1 : Int32) = 0 ∨ (1 : Int32) = 1) ∧ w_Model_check this v2 v5 (fun r25 M24 => ((0 : Int32) = 0 ∨ (0 : Int32) = 1) ∧ w_Model_kinds_j157 this Q r25 (sI M24 11 this 77 (0 : Int32))) (sI M 11 this 77 (1 : Int32))) else (w_Model_infer this v2 v5 (fun r48 M47 => w_Model_kinds_j157 this Q r48 M47) M)) else (vp_in v6 (mL M 519 this) ∧ (w_Model_kinds_L98 this Q n) v2 v4 v5 (v6 + (1 : Int32)) (sI M 519 this v6.toNatClampNeg ((0 : Int32) &&& 1)))
def w_Model_kinds (this : Nat) (a1 : Int32) (a2 : Int32) (a3 : Int32) (a4 : Int32) (Q : Int32 → Mem → Prop) (M : Mem) : Prop :=
  w_Model_isClass this a1 a2 (fun r2 M1 => if r2 = 0 then (Q (-1 : Int32) M1) else (if a3 < 0 then (Q (-1 : Int32) M1) else (vp_in a1 (mL M1 703 0) ∧ ∃ i6, (mR M1 703 0 a1.toNatClampNeg) = some (12, i6) ∧ vp_in a2 (mL M1 136 i6) ∧ if (mI M1 136 i6 a2.toNatClampNeg) ≤ a3 then (Q (-1 : Int32) M1) else (vp_in a1 (mL M1 703 0) ∧ ∃ i10, (mR M1 703 0 a1.toNatClampNeg) = some (12, i10) ∧ vp_in (((12 : Int32) * a2) + a3) (mL M1 150 i10) ∧ if (mI M1 150 i10 (((12 : Int32) * a2) + a3).toNatClampNeg) = 0 then (Q (-1 : Int32) M1) else (vp_in a1 (mL M1 703 0) ∧ ∃ i14, (mR M1 703 0 a1.toNatClampNeg) = some (12, i14) ∧ ∃ i15, (mR (sR M1 11 this 45 (some (12, i14))) 11 this 45) = some (12, i15) ∧ vp_in (((12 : Int32) * a2) + a3) (mL (sR M1 11 this 45 (some (12, i14))) 150 i15) ∧ ∃ M17, M17 = (sI (sR M1 11 this 45 (some (12, i14))) 11 this 101 (mI (sR M1 11 this 45 (some (12, i14))) 150 i15 (((12 : Int32) * a2) + a3).toNatClampNeg)) ∧ ∃ i18, (mR M17 11 this 45) = some (12, i18) ∧ vp_in (((12 : Int32) * a2) + a3) (mL M17 148 i18) ∧ ∃ M20, M20 = (sI M17 11 this 102 (mI M17 148 i18 (((12 : Int32) * a2) + a3).toNatClampNeg)) ∧ ∃ n50 : Nat, w_Model_kinds_L98 this Q n50 a2 a4 (((12 : Int32) * a2) + a3) (0 : Int32) M20))))) M
set_option maxRecDepth 4096 in
theorem lk_Model_kinds_j288 {γ : Gm} (hγ : Gk γ) (this : Nat) (Q : Int32 → Mem → Prop) (k160 : Int32 → Int32 → Mem → Prop) (hk160 : ∀ (v6 : Int32) (v7 : Int32) (M : Mem), k160 v6 v7 M → E γ k_Model_kinds 8 160 [some (vr (some (11, this))), none, none, none, none, none, some (vi v6), some (vi v7), none] [] M (Qi Q)) (v6 : Int32) (v7 : Int32) (M : Mem) (h : w_Model_kinds_j288 this Q k160 v6 v7 M) : E γ k_Model_kinds 8 288 [some (vr (some (11, this))), none, none, none, none, none, some (vi v6), some (vi v7), none] [] M (Qi Q) := by
  unfold w_Model_kinds_j288 at h
  refine E_blk (lv' := [some (vr (some (11, this))), none, none, none, none, none, some (vi v6), some (vi (v7 + (1 : Int32))), none]) (st' := []) (M1 := M) (pc' := 291) (tb_Model hγ) [.iinc 7 1] (by decide +kernel) rfl rfl trivial ?_
  refine E_goto (off := -131) (tgt := 160) (by decide +kernel) (by decide) ?_
  refine E_mask [true, false, false, false, false, false, true, true, false] rfl ?_
  exact hk160 v6 (v7 + (1 : Int32)) M h
set_option maxRecDepth 4096 in
theorem lk_Model_kinds_L230 {γ : Gm} (hγ : Gk γ) (this : Nat) (Q : Int32 → Mem → Prop) (k160 : Int32 → Int32 → Mem → Prop) (hk160 : ∀ (v6 : Int32) (v7 : Int32) (M : Mem), k160 v6 v7 M → E γ k_Model_kinds 8 160 [some (vr (some (11, this))), none, none, none, none, none, some (vi v6), some (vi v7), none] [] M (Qi Q)) : ∀ (n : Nat) (v6 : Int32) (v7 : Int32) (v8 : Int32) (M : Mem), w_Model_kinds_L230 this Q k160 n v6 v7 v8 M → E γ k_Model_kinds 8 230 [some (vr (some (11, this))), none, none, none, none, none, some (vi v6), some (vi v7), some (vi v8)] [] M (Qi Q) := by
  intro n
  induction n with
  | zero => intro v6 v7 v8 M h; exact h.elim
  | succ n ih =>
    intro v6 v7 v8 M h
    unfold w_Model_kinds_L230 at h
    obtain ⟨c30, h⟩ := h
    refine E_blk (lv' := [some (vr (some (11, this))), none, none, none, none, none, some (vi v6), some (vi v7), some (vi v8)]) (st' := [vi (mI M 519 this v7.toNatClampNeg)]) (M1 := M) (pc' := 237) (tb_Model hγ) [.aload_n 0, .getfield 329, .iload 7, .baload] (by decide +kernel) rfl rfl ⟨c30, trivial⟩ ?_
    refine E_if_eq (off := 51) (tgt := 288) (by decide +kernel) (by decide) (fun b31 => ?_) (fun b31 => ?_)
    · rw [if_pos b31] at h
      refine E_mask [true, false, false, false, false, false, true, true, false] rfl ?_
      exact lk_Model_kinds_j288 hγ this Q k160 hk160 v6 v7 M h
    · rw [if_neg b31] at h
      obtain ⟨c32, h⟩ := h
      refine E_blk (lv' := [some (vr (some (11, this))), none, none, none, none, none, some (vi v6), some (vi v7), some (vi v8)]) (st' := [vi (mI M 114 this v7.toNatClampNeg), vi v8]) (M1 := M) (pc' := 249) (tb_Model hγ) [.iload 8, .aload_n 0, .getfield 332, .iload 7, .iaload] (by decide +kernel) rfl rfl ⟨c32, trivial⟩ ?_
      refine E_icmp_ge (off := 39) (tgt := 288) (by decide +kernel) (by decide) (fun b33 => ?_) (fun b33 => ?_)
      · rw [if_pos b33] at h
        refine E_mask [true, false, false, false, false, false, true, true, false] rfl ?_
        exact lk_Model_kinds_j288 hγ this Q k160 hk160 v6 v7 M h
      · rw [if_neg b33] at h
        obtain ⟨c34, h⟩ := h
        refine E_blk (lv' := [some (vr (some (11, this))), none, none, none, none, none, some (vi v6), some (vi v7), some (vi v8)]) (st' := [vi (mI M 116 this (((28 : Int32) * v7) + v8).toNatClampNeg), vr (some (11, this)), vi (((28 : Int32) * v7) + v8), vr (some (116, this))]) (M1 := M) (pc' := 278) (tb_Model hγ) [.aload_n 0, .getfield 338, .bipush 28, .iload 7, .imul, .iload 8, .iadd, .aload_n 0, .aload_n 0, .getfield 338, .bipush 28, .iload 7, .imul, .iload 8, .iadd, .iaload] (by decide +kernel) rfl rfl ⟨c34, trivial⟩ ?_
        refine E_callV (κ' := k_Model_toldKind) (As := [vi (mI M 116 this (((28 : Int32) * v7) + v8).toNatClampNeg)]) (st := [vi (((28 : Int32) * v7) + v8), vr (some (116, this))]) mv_Model_toldKind (Or.inl (tbk_mem (j := 17) (k := 133) rfl)) rfl (by decide +kernel) (Nat.le_of_ble_eq_true rfl) (Nat.le_of_ble_eq_true rfl) rfl (by decide) (lk_Model_toldKind hγ this (mI M 116 this (((28 : Int32) * v7) + v8).toNatClampNeg) _ M h) (fun _ _ => Qi_r) (fun v M35 hp => Qi_k (R := fun st => E γ k_Model_kinds 8 281 [some (vr (some (11, this))), none, none, none, none, none, some (vi v6), some (vi v7), some (vi v8)] st M35 (Qi Q)) hp (fun r36 h => ?_))
        obtain ⟨c37, h⟩ := h
        refine E_blk (lv' := [some (vr (some (11, this))), none, none, none, none, none, some (vi v6), some (vi v7), some (vi (v8 + (1 : Int32)))]) (st' := []) (M1 := (sI M35 116 this (((28 : Int32) * v7) + v8).toNatClampNeg r36)) (pc' := 285) (tb_Model hγ) [.iastore, .iinc 8 1] (by decide +kernel) rfl rfl ⟨c37, trivial⟩ ?_
        refine E_goto (off := -55) (tgt := 230) (by decide +kernel) (by decide) ?_
        refine E_mask [true, false, false, false, false, false, true, true, true] rfl ?_
        exact ih v6 v7 (v8 + (1 : Int32)) (sI M35 116 this (((28 : Int32) * v7) + v8).toNatClampNeg r36) h
set_option maxRecDepth 4096 in
theorem lk_Model_kinds_j227 {γ : Gm} (hγ : Gk γ) (this : Nat) (Q : Int32 → Mem → Prop) (k160 : Int32 → Int32 → Mem → Prop) (hk160 : ∀ (v6 : Int32) (v7 : Int32) (M : Mem), k160 v6 v7 M → E γ k_Model_kinds 8 160 [some (vr (some (11, this))), none, none, none, none, none, some (vi v6), some (vi v7), none] [] M (Qi Q)) (v6 : Int32) (v7 : Int32) (M : Mem) (h : w_Model_kinds_j227 this Q k160 v6 v7 M) : E γ k_Model_kinds 8 227 [some (vr (some (11, this))), none, none, none, none, none, some (vi v6), some (vi v7), none] [] M (Qi Q) := by
  unfold w_Model_kinds_j227 at h
  refine E_blk (lv' := [some (vr (some (11, this))), none, none, none, none, none, some (vi v6), some (vi v7), some (vi (0 : Int32))]) (st' := []) (M1 := M) (pc' := 230) (tb_Model hγ) [.iconst 0, .istore 8] (by decide +kernel) rfl rfl trivial ?_
  obtain ⟨n38, h⟩ := h
  refine E_mask [true, false, false, false, false, false, true, true, true] rfl ?_
  exact lk_Model_kinds_L230 hγ this Q k160 hk160 n38 v6 v7 (0 : Int32) M h
set_option maxRecDepth 4096 in
theorem lk_Model_kinds_L172 {γ : Gm} (hγ : Gk γ) (this : Nat) (Q : Int32 → Mem → Prop) (k160 : Int32 → Int32 → Mem → Prop) (hk160 : ∀ (v6 : Int32) (v7 : Int32) (M : Mem), k160 v6 v7 M → E γ k_Model_kinds 8 160 [some (vr (some (11, this))), none, none, none, none, none, some (vi v6), some (vi v7), none] [] M (Qi Q)) : ∀ (n : Nat) (v6 : Int32) (v7 : Int32) (v8 : Int32) (M : Mem), w_Model_kinds_L172 this Q k160 n v6 v7 v8 M → E γ k_Model_kinds 8 172 [some (vr (some (11, this))), none, none, none, none, none, some (vi v6), some (vi v7), some (vi v8)] [] M (Qi Q) := by
  intro n
  induction n with
  | zero => intro v6 v7 v8 M h; exact h.elim
  | succ n ih =>
    intro v6 v7 v8 M h
    unfold w_Model_kinds_L172 at h
    refine E_blk (lv' := [some (vr (some (11, this))), none, none, none, none, none, some (vi v6), some (vi v7), some (vi v8)]) (st' := [vi (mI M 11 this 102), vi v8]) (M1 := M) (pc' := 178) (tb_Model hγ) [.iload 8, .aload_n 0, .getfield 1254] (by decide +kernel) rfl rfl trivial ?_
    refine E_icmp_ge (off := 49) (tgt := 227) (by decide +kernel) (by decide) (fun b29 => ?_) (fun b29 => ?_)
    · rw [if_pos b29] at h
      refine E_mask [true, false, false, false, false, false, true, true, false] rfl ?_
      exact lk_Model_kinds_j227 hγ this Q k160 hk160 v6 v7 M h
    · rw [if_neg b29] at h
      obtain ⟨c39, h⟩ := h
      refine E_blk (lv' := [some (vr (some (11, this))), none, none, none, none, none, some (vi v6), some (vi v7), some (vi v8)]) (st' := [vi (mI M 519 this v7.toNatClampNeg)]) (M1 := M) (pc' := 188) (tb_Model hγ) [.aload_n 0, .getfield 329, .iload 7, .baload] (by decide +kernel) rfl rfl ⟨c39, trivial⟩ ?_
      refine E_if_eq (off := 39) (tgt := 227) (by decide +kernel) (by decide) (fun b40 => ?_) (fun b40 => ?_)
      · rw [if_pos b40] at h
        refine E_mask [true, false, false, false, false, false, true, true, false] rfl ?_
        exact lk_Model_kinds_j227 hγ this Q k160 hk160 v6 v7 M h
      · rw [if_neg b40] at h
        obtain ⟨c41, h⟩ := h
        refine E_blk (lv' := [some (vr (some (11, this))), none, none, none, none, none, some (vi v6), some (vi v7), some (vi v8)]) (st' := [vi (mI M 115 this (((20 : Int32) * v7) + v8).toNatClampNeg), vr (some (11, this)), vi (((20 : Int32) * v7) + v8), vr (some (115, this))]) (M1 := M) (pc' := 217) (tb_Model hγ) [.aload_n 0, .getfield 335, .bipush 20, .iload 7, .imul, .iload 8, .iadd, .aload_n 0, .aload_n 0, .getfield 335, .bipush 20, .iload 7, .imul, .iload 8, .iadd, .iaload] (by decide +kernel) rfl rfl ⟨c41, trivial⟩ ?_
        refine E_callV (κ' := k_Model_toldKind) (As := [vi (mI M 115 this (((20 : Int32) * v7) + v8).toNatClampNeg)]) (st := [vi (((20 : Int32) * v7) + v8), vr (some (115, this))]) mv_Model_toldKind (Or.inl (tbk_mem (j := 17) (k := 133) rfl)) rfl (by decide +kernel) (Nat.le_of_ble_eq_true rfl) (Nat.le_of_ble_eq_true rfl) rfl (by decide) (lk_Model_toldKind hγ this (mI M 115 this (((20 : Int32) * v7) + v8).toNatClampNeg) _ M h) (fun _ _ => Qi_r) (fun v M42 hp => Qi_k (R := fun st => E γ k_Model_kinds 8 220 [some (vr (some (11, this))), none, none, none, none, none, some (vi v6), some (vi v7), some (vi v8)] st M42 (Qi Q)) hp (fun r43 h => ?_))
        obtain ⟨c44, h⟩ := h
        refine E_blk (lv' := [some (vr (some (11, this))), none, none, none, none, none, some (vi v6), some (vi v7), some (vi (v8 + (1 : Int32)))]) (st' := []) (M1 := (sI M42 115 this (((20 : Int32) * v7) + v8).toNatClampNeg r43)) (pc' := 224) (tb_Model hγ) [.iastore, .iinc 8 1] (by decide +kernel) rfl rfl ⟨c44, trivial⟩ ?_
        refine E_goto (off := -52) (tgt := 172) (by decide +kernel) (by decide) ?_
        refine E_mask [true, false, false, false, false, false, true, true, true] rfl ?_
        exact ih v6 v7 (v8 + (1 : Int32)) (sI M42 115 this (((20 : Int32) * v7) + v8).toNatClampNeg r43) h
set_option maxRecDepth 4096 in
theorem lk_Model_kinds_L160 {γ : Gm} (hγ : Gk γ) (this : Nat) (Q : Int32 → Mem → Prop) : ∀ (n : Nat) (v6 : Int32) (v7 : Int32) (M : Mem), w_Model_kinds_L160 this Q n v6 v7 M → E γ k_Model_kinds 8 160 [some (vr (some (11, this))), none, none, none, none, none, some (vi v6), some (vi v7), none] [] M (Qi Q) := by
  intro n
  induction n with
  | zero => intro v6 v7 M h; exact h.elim
  | succ n ih =>
    intro v6 v7 M h
    unfold w_Model_kinds_L160 at h
    refine E_blk (lv' := [some (vr (some (11, this))), none, none, none, none, none, some (vi v6), some (vi v7), none]) (st' := [vi (mI M 11 this 101), vi v7]) (M1 := M) (pc' := 166) (tb_Model hγ) [.iload 7, .aload_n 0, .getfield 1257] (by decide +kernel) rfl rfl trivial ?_
    refine E_icmp_ge (off := 128) (tgt := 294) (by decide +kernel) (by decide) (fun b27 => ?_) (fun b27 => ?_)
    · rw [if_pos b27] at h
      refine E_blk (lv' := [some (vr (some (11, this))), none, none, none, none, none, some (vi v6), some (vi v7), none]) (st' := [vi v6]) (M1 := M) (pc' := 296) (tb_Model hγ) [.iload 6] (by decide +kernel) rfl rfl trivial ?_
      refine E_if_ne (off := 7) (tgt := 303) (by decide +kernel) (by decide) (fun b28 => ?_) (fun b28 => ?_)
      · rw [if_pos b28] at h
        refine E_blk (lv' := [some (vr (some (11, this))), none, none, none, none, none, some (vi v6), some (vi v7), none]) (st' := [vi (0 : Int32)]) (M1 := M) (pc' := 300) (tb_Model hγ) [.iconst 0] (by decide +kernel) rfl rfl trivial ?_
        refine E_goto (off := 14) (tgt := 314) (by decide +kernel) (by decide) ?_
        exact E_iret rfl (by decide +kernel) h
      · rw [if_neg b28] at h
        refine E_blk (lv' := [some (vr (some (11, this))), none, none, none, none, none, some (vi v6), some (vi v7), none]) (st' := [vi (((1000 : Int32) * v6) + (mI M 11 this 74))]) (M1 := M) (pc' := 314) (tb_Model hγ) [.sipush 1000, .iload 6, .imul, .aload_n 0, .getfield 759, .iadd] (by decide +kernel) rfl rfl trivial ?_
        exact E_iret rfl (by decide +kernel) h
    · rw [if_neg b27] at h
      refine E_blk (lv' := [some (vr (some (11, this))), none, none, none, none, none, some (vi v6), some (vi v7), some (vi (0 : Int32))]) (st' := []) (M1 := M) (pc' := 172) (tb_Model hγ) [.iconst 0, .istore 8] (by decide +kernel) rfl rfl trivial ?_
      obtain ⟨n45, h⟩ := h
      refine E_mask [true, false, false, false, false, false, true, true, true] rfl ?_
      exact lk_Model_kinds_L172 hγ this Q (w_Model_kinds_L160 this Q n) ih n45 v6 v7 (0 : Int32) M h
set_option maxRecDepth 4096 in
theorem lk_Model_kinds_j157 {γ : Gm} (hγ : Gk γ) (this : Nat) (Q : Int32 → Mem → Prop) (v6 : Int32) (M : Mem) (h : w_Model_kinds_j157 this Q v6 M) : E γ k_Model_kinds 8 157 [some (vr (some (11, this))), none, none, none, none, none, some (vi v6), none, none] [] M (Qi Q) := by
  unfold w_Model_kinds_j157 at h
  refine E_blk (lv' := [some (vr (some (11, this))), none, none, none, none, none, some (vi v6), some (vi (0 : Int32)), none]) (st' := []) (M1 := M) (pc' := 160) (tb_Model hγ) [.iconst 0, .istore 7] (by decide +kernel) rfl rfl trivial ?_
  obtain ⟨n46, h⟩ := h
  refine E_mask [true, false, false, false, false, false, true, true, false] rfl ?_
  exact lk_Model_kinds_L160 hγ this Q n46 v6 (0 : Int32) M h
set_option maxRecDepth 4096 in
theorem lk_Model_kinds_L98 {γ : Gm} (hγ : Gk γ) (this : Nat) (Q : Int32 → Mem → Prop) : ∀ (n : Nat) (v2 : Int32) (v4 : Int32) (v5 : Int32) (v6 : Int32) (M : Mem), w_Model_kinds_L98 this Q n v2 v4 v5 v6 M → E γ k_Model_kinds 8 98 [some (vr (some (11, this))), none, some (vi v2), none, some (vi v4), some (vi v5), some (vi v6), none, none] [] M (Qi Q) := by
  intro n
  induction n with
  | zero => intro v2 v4 v5 v6 M h; exact h.elim
  | succ n ih =>
    intro v2 v4 v5 v6 M h
    unfold w_Model_kinds_L98 at h
    refine E_blk (lv' := [some (vr (some (11, this))), none, some (vi v2), none, some (vi v4), some (vi v5), some (vi v6), none, none]) (st' := [vi (mI M 11 this 101), vi v6]) (M1 := M) (pc' := 104) (tb_Model hγ) [.iload 6, .aload_n 0, .getfield 1257] (by decide +kernel) rfl rfl trivial ?_
    refine E_icmp_ge (off := 17) (tgt := 121) (by decide +kernel) (by decide) (fun b21 => ?_) (fun b21 => ?_)
    · rw [if_pos b21] at h
      refine E_blk (lv' := [some (vr (some (11, this))), none, some (vi v2), none, some (vi v4), some (vi v5), some (vi v6), none, none]) (st' := [vi v4]) (M1 := M) (pc' := 123) (tb_Model hγ) [.iload 4] (by decide +kernel) rfl rfl trivial ?_
      refine E_if_eq (off := 15) (tgt := 138) (by decide +kernel) (by decide) (fun b22 => ?_) (fun b22 => ?_)
      · rw [if_pos b22] at h
        obtain ⟨c23, h⟩ := h
        refine E_blk (lv' := [some (vr (some (11, this))), none, some (vi v2), none, some (vi v4), some (vi v5), some (vi v6), none, none]) (st' := [vi v5, vi v2, vr (some (11, this))]) (M1 := (sI M 11 this 77 (1 : Int32))) (pc' := 147) (tb_Model hγ) [.aload_n 0, .iconst 1, .putfield 802, .aload_n 0, .iload_n 2, .iload 5] (by decide +kernel) rfl rfl ⟨c23, trivial⟩ ?_
        refine E_callV (κ' := k_Model_check) (As := [vi v2, vi v5]) (st := []) mv_Model_check (Or.inl (tbk_mem (j := 15) (k := 169) rfl)) rfl (by decide +kernel) (Nat.le_of_ble_eq_true rfl) (Nat.le_of_ble_eq_true rfl) rfl (by decide) (lk_Model_check hγ this v2 v5 _ (sI M 11 this 77 (1 : Int32)) h) (fun _ _ => Qi_r) (fun v M24 hp => Qi_k (R := fun st => E γ k_Model_kinds 8 150 [some (vr (some (11, this))), none, some (vi v2), none, some (vi v4), some (vi v5), some (vi v6), none, none] st M24 (Qi Q)) hp (fun r25 h => ?_))
        obtain ⟨c26, h⟩ := h
        refine E_blk (lv' := [some (vr (some (11, this))), none, some (vi v2), none, some (vi v4), some (vi v5), some (vi r25), none, none]) (st' := []) (M1 := (sI M24 11 this 77 (0 : Int32))) (pc' := 157) (tb_Model hγ) [.istore 6, .aload_n 0, .iconst 0, .putfield 802] (by decide +kernel) rfl rfl ⟨c26, trivial⟩ ?_
        refine E_mask [true, false, false, false, false, false, true, false, false] rfl ?_
        exact lk_Model_kinds_j157 hγ this Q r25 (sI M24 11 this 77 (0 : Int32)) h
      · rw [if_neg b22] at h
        refine E_blk (lv' := [some (vr (some (11, this))), none, some (vi v2), none, some (vi v4), some (vi v5), some (vi v6), none, none]) (st' := [vi v5, vi v2, vr (some (11, this))]) (M1 := M) (pc' := 130) (tb_Model hγ) [.aload_n 0, .iload_n 2, .iload 5] (by decide +kernel) rfl rfl trivial ?_
        refine E_callV (κ' := k_Model_infer) (As := [vi v2, vi v5]) (st := []) mv_Model_infer (Or.inl (tbk_mem (j := 17) (k := 109) rfl)) rfl (by decide +kernel) (Nat.le_of_ble_eq_true rfl) (Nat.le_of_ble_eq_true rfl) rfl (by decide) (lk_Model_infer hγ this v2 v5 _ M h) (fun _ _ => Qi_r) (fun v M47 hp => Qi_k (R := fun st => E γ k_Model_kinds 8 133 [some (vr (some (11, this))), none, some (vi v2), none, some (vi v4), some (vi v5), some (vi v6), none, none] st M47 (Qi Q)) hp (fun r48 h => ?_))
        refine E_blk (lv' := [some (vr (some (11, this))), none, some (vi v2), none, some (vi v4), some (vi v5), some (vi r48), none, none]) (st' := []) (M1 := M47) (pc' := 135) (tb_Model hγ) [.istore 6] (by decide +kernel) rfl rfl trivial ?_
        refine E_goto (off := 22) (tgt := 157) (by decide +kernel) (by decide) ?_
        refine E_mask [true, false, false, false, false, false, true, false, false] rfl ?_
        exact lk_Model_kinds_j157 hγ this Q r48 M47 h
    · rw [if_neg b21] at h
      obtain ⟨c49, h⟩ := h
      refine E_blk (lv' := [some (vr (some (11, this))), none, some (vi v2), none, some (vi v4), some (vi v5), some (vi (v6 + (1 : Int32))), none, none]) (st' := []) (M1 := (sI M 519 this v6.toNatClampNeg ((0 : Int32) &&& 1))) (pc' := 118) (tb_Model hγ) [.aload_n 0, .getfield 329, .iload 6, .iconst 0, .bastore, .iinc 6 1] (by decide +kernel) rfl rfl ⟨c49, trivial⟩ ?_
      refine E_goto (off := -20) (tgt := 98) (by decide +kernel) (by decide) ?_
      refine E_mask [true, false, true, false, true, true, true, false, false] rfl ?_
      exact ih v2 v4 v5 (v6 + (1 : Int32)) (sI M 519 this v6.toNatClampNeg ((0 : Int32) &&& 1)) h
set_option maxRecDepth 4096 in
theorem lk_Model_kinds {γ : Gm} (hγ : Gk γ) (this : Nat) (a1 : Int32) (a2 : Int32) (a3 : Int32) (a4 : Int32) (Q : Int32 → Mem → Prop) (M : Mem) (h : w_Model_kinds this a1 a2 a3 a4 Q M) : E γ k_Model_kinds 8 0 [some (vr (some (11, this))), some (vi a1), some (vi a2), some (vi a3), some (vi a4), none, none, none, none] [] M (Qi Q) := by
  unfold w_Model_kinds at h
  refine E_blk (lv' := [some (vr (some (11, this))), some (vi a1), some (vi a2), some (vi a3), some (vi a4), none, none, none, none]) (st' := [vi a2, vi a1, vr (some (11, this))]) (M1 := M) (pc' := 3) (tb_Model hγ) [.aload_n 0, .iload_n 1, .iload_n 2] (by decide +kernel) rfl rfl trivial ?_
  refine E_callV (κ' := k_Model_isClass) (As := [vi a1, vi a2]) (st := []) mv_Model_isClass (Or.inl (tbk_mem (j := 15) (k := 129) rfl)) rfl (by decide +kernel) (Nat.le_of_ble_eq_true rfl) (Nat.le_of_ble_eq_true rfl) rfl (by decide) (lk_Model_isClass hγ this a1 a2 _ M h) (fun _ _ => Qi_r) (fun v M1 hp => Qi_k (R := fun st => E γ k_Model_kinds 8 6 [some (vr (some (11, this))), some (vi a1), some (vi a2), some (vi a3), some (vi a4), none, none, none, none] st M1 (Qi Q)) hp (fun r2 h => ?_))
  refine E_if_eq (off := 41) (tgt := 47) (by decide +kernel) (by decide) (fun b3 => ?_) (fun b3 => ?_)
  · rw [if_pos b3] at h
    refine E_blk (lv' := [some (vr (some (11, this))), some (vi a1), some (vi a2), some (vi a3), some (vi a4), none, none, none, none]) (st' := [vi (-1 : Int32)]) (M1 := M1) (pc' := 48) (tb_Model hγ) [.iconst (.negSucc 0)] (by decide +kernel) rfl rfl trivial ?_
    exact E_iret rfl (by decide +kernel) h
  · rw [if_neg b3] at h
    refine E_blk (lv' := [some (vr (some (11, this))), some (vi a1), some (vi a2), some (vi a3), some (vi a4), none, none, none, none]) (st' := [vi a3]) (M1 := M1) (pc' := 10) (tb_Model hγ) [.iload_n 3] (by decide +kernel) rfl rfl trivial ?_
    refine E_if_lt (off := 37) (tgt := 47) (by decide +kernel) (by decide) (fun b4 => ?_) (fun b4 => ?_)
    · rw [if_pos b4] at h
      refine E_blk (lv' := [some (vr (some (11, this))), some (vi a1), some (vi a2), some (vi a3), some (vi a4), none, none, none, none]) (st' := [vi (-1 : Int32)]) (M1 := M1) (pc' := 48) (tb_Model hγ) [.iconst (.negSucc 0)] (by decide +kernel) rfl rfl trivial ?_
      exact E_iret rfl (by decide +kernel) h
    · rw [if_neg b4] at h
      obtain ⟨c5, h⟩ := h
      refine E_blk (lv' := [some (vr (some (11, this))), some (vi a1), some (vi a2), some (vi a3), some (vi a4), none, none, none, none]) (st' := [vr (mR M1 703 0 a1.toNatClampNeg), vi a3]) (M1 := M1) (pc' := 20) (tb_Model hγ) [.iload_n 3, .aload_n 0, .getfield 263, .iload_n 1, .aaload] (by decide +kernel) rfl rfl ⟨c5, trivial⟩ ?_
      obtain ⟨i6, ei6, h⟩ := h
      rw [ei6]
      obtain ⟨c7, h⟩ := h
      refine E_blk (lv' := [some (vr (some (11, this))), some (vi a1), some (vi a2), some (vi a3), some (vi a4), none, none, none, none]) (st' := [vi (mI M1 136 i6 a2.toNatClampNeg), vi a3]) (M1 := M1) (pc' := 25) (tb_Model hγ) [.getfield 438, .iload_n 2, .iaload] (by decide +kernel) rfl rfl ⟨c7, trivial⟩ ?_
      refine E_icmp_ge (off := 22) (tgt := 47) (by decide +kernel) (by decide) (fun b8 => ?_) (fun b8 => ?_)
      · rw [if_pos b8] at h
        refine E_blk (lv' := [some (vr (some (11, this))), some (vi a1), some (vi a2), some (vi a3), some (vi a4), none, none, none, none]) (st' := [vi (-1 : Int32)]) (M1 := M1) (pc' := 48) (tb_Model hγ) [.iconst (.negSucc 0)] (by decide +kernel) rfl rfl trivial ?_
        exact E_iret rfl (by decide +kernel) h
      · rw [if_neg b8] at h
        obtain ⟨c9, h⟩ := h
        refine E_blk (lv' := [some (vr (some (11, this))), some (vi a1), some (vi a2), some (vi a3), some (vi a4), none, none, none, none]) (st' := [vr (mR M1 703 0 a1.toNatClampNeg)]) (M1 := M1) (pc' := 34) (tb_Model hγ) [.aload_n 0, .getfield 263, .iload_n 1, .aaload] (by decide +kernel) rfl rfl ⟨c9, trivial⟩ ?_
        obtain ⟨i10, ei10, h⟩ := h
        rw [ei10]
        obtain ⟨c11, h⟩ := h
        refine E_blk (lv' := [some (vr (some (11, this))), some (vi a1), some (vi a2), some (vi a3), some (vi a4), none, none, none, none]) (st' := [vi (mI M1 150 i10 (((12 : Int32) * a2) + a3).toNatClampNeg)]) (M1 := M1) (pc' := 44) (tb_Model hγ) [.getfield 465, .bipush 12, .iload_n 2, .imul, .iload_n 3, .iadd, .iaload] (by decide +kernel) rfl rfl ⟨c11, trivial⟩ ?_
        refine E_if_ne (off := 5) (tgt := 49) (by decide +kernel) (by decide) (fun b12 => ?_) (fun b12 => ?_)
        · rw [if_pos b12] at h
          refine E_blk (lv' := [some (vr (some (11, this))), some (vi a1), some (vi a2), some (vi a3), some (vi a4), none, none, none, none]) (st' := [vi (-1 : Int32)]) (M1 := M1) (pc' := 48) (tb_Model hγ) [.iconst (.negSucc 0)] (by decide +kernel) rfl rfl trivial ?_
          exact E_iret rfl (by decide +kernel) h
        · rw [if_neg b12] at h
          obtain ⟨c13, h⟩ := h
          refine E_blk (lv' := [some (vr (some (11, this))), some (vi a1), some (vi a2), some (vi a3), some (vi a4), none, none, none, none]) (st' := [vr (mR M1 703 0 a1.toNatClampNeg), vr (some (11, this))]) (M1 := M1) (pc' := 56) (tb_Model hγ) [.aload_n 0, .aload_n 0, .getfield 263, .iload_n 1, .aaload] (by decide +kernel) rfl rfl ⟨c13, trivial⟩ ?_
          obtain ⟨i14, ei14, h⟩ := h
          rw [ei14]
          refine E_blk (lv' := [some (vr (some (11, this))), some (vi a1), some (vi a2), some (vi a3), some (vi a4), some (vi (((12 : Int32) * a2) + a3)), none, none, none]) (st' := [vr (mR (sR M1 11 this 45 (some (12, i14))) 11 this 45), vr (some (11, this))]) (M1 := (sR M1 11 this 45 (some (12, i14)))) (pc' := 72) (tb_Model hγ) [.putfield 522, .bipush 12, .iload_n 2, .imul, .iload_n 3, .iadd, .istore 5, .aload_n 0, .aload_n 0, .getfield 522] (by decide +kernel) rfl rfl trivial ?_
          obtain ⟨i15, ei15, h⟩ := h
          rw [ei15]
          obtain ⟨c16, h⟩ := h
          refine E_blk (lv' := [some (vr (some (11, this))), some (vi a1), some (vi a2), some (vi a3), some (vi a4), some (vi (((12 : Int32) * a2) + a3)), none, none, none]) (st' := []) (M1 := (sI (sR M1 11 this 45 (some (12, i14))) 11 this 101 (mI (sR M1 11 this 45 (some (12, i14))) 150 i15 (((12 : Int32) * a2) + a3).toNatClampNeg))) (pc' := 81) (tb_Model hγ) [.getfield 465, .iload 5, .iaload, .putfield 1257] (by decide +kernel) rfl rfl ⟨c16, trivial⟩ ?_
          obtain ⟨M17, eM17, h⟩ := h
          rw [← eM17]
          refine E_blk (lv' := [some (vr (some (11, this))), some (vi a1), some (vi a2), some (vi a3), some (vi a4), some (vi (((12 : Int32) * a2) + a3)), none, none, none]) (st' := [vr (mR M17 11 this 45), vr (some (11, this))]) (M1 := M17) (pc' := 86) (tb_Model hγ) [.aload_n 0, .aload_n 0, .getfield 522] (by decide +kernel) rfl rfl trivial ?_
          obtain ⟨i18, ei18, h⟩ := h
          rw [ei18]
          obtain ⟨c19, h⟩ := h
          refine E_blk (lv' := [some (vr (some (11, this))), some (vi a1), some (vi a2), some (vi a3), some (vi a4), some (vi (((12 : Int32) * a2) + a3)), none, none, none]) (st' := []) (M1 := (sI M17 11 this 102 (mI M17 148 i18 (((12 : Int32) * a2) + a3).toNatClampNeg))) (pc' := 95) (tb_Model hγ) [.getfield 459, .iload 5, .iaload, .putfield 1254] (by decide +kernel) rfl rfl ⟨c19, trivial⟩ ?_
          obtain ⟨M20, eM20, h⟩ := h
          rw [← eM20]
          refine E_blk (lv' := [some (vr (some (11, this))), some (vi a1), some (vi a2), some (vi a3), some (vi a4), some (vi (((12 : Int32) * a2) + a3)), some (vi (0 : Int32)), none, none]) (st' := []) (M1 := M20) (pc' := 98) (tb_Model hγ) [.iconst 0, .istore 6] (by decide +kernel) rfl rfl trivial ?_
          obtain ⟨n50, h⟩ := h
          refine E_mask [true, false, true, false, true, true, true, false, false] rfl ?_
          exact lk_Model_kinds_L98 hγ this Q n50 a2 a4 (((12 : Int32) * a2) + a3) (0 : Int32) M20 h
def w_Model_kind (this : Nat) (a1 : Int32) (a2 : Int32) (Q : Int32 → Mem → Prop) (M : Mem) : Prop :=
  if a1 < 0 then (Q (-1 : Int32) M) else (if (mI M 11 this 101) ≤ a1 then (Q (-1 : Int32) M) else (vp_in a1 (mL M 519 this) ∧ if (mI M 519 this a1.toNatClampNeg) = 0 then (Q (-1 : Int32) M) else (if a2 < (-1 : Int32) then (Q (-1 : Int32) M) else (if a2 < (40 : Int32) then (if 0 ≤ a2 then (if (20 : Int32) ≤ a2 then (vp_in a1 (mL M 114 this) ∧ if (mI M 114 this a1.toNatClampNeg) ≤ (a2 - (20 : Int32)) then (Q (-1 : Int32) M) else (vp_in ((((28 : Int32) * a1) + a2) - (20 : Int32)) (mL M 116 this) ∧ Q (mI M 116 this ((((28 : Int32) * a1) + a2) - (20 : Int32)).toNatClampNeg) M)) else (if (mI M 11 this 102) ≤ a2 then (Q (-1 : Int32) M) else (vp_in (((20 : Int32) * a1) + a2) (mL M 115 this) ∧ Q (mI M 115 this (((20 : Int32) * a1) + a2).toNatClampNeg) M))) else (vp_in a1 (mL M 114 this) ∧ Q (mI M 114 this a1.toNatClampNeg) M)) else (Q (-1 : Int32) M)))))
set_option maxRecDepth 4096 in
theorem lk_Model_kind {γ : Gm} (hγ : Gk γ) (this : Nat) (a1 : Int32) (a2 : Int32) (Q : Int32 → Mem → Prop) (M : Mem) (h : w_Model_kind this a1 a2 Q M) : E γ k_Model_kind 0 0 [some (vr (some (11, this))), some (vi a1), some (vi a2)] [] M (Qi Q) := by
  unfold w_Model_kind at h
  refine E_blk (lv' := [some (vr (some (11, this))), some (vi a1), some (vi a2)]) (st' := [vi a1]) (M1 := M) (pc' := 1) (tb_Model hγ) [.iload_n 1] (by decide +kernel) rfl rfl trivial ?_
  refine E_if_lt (off := 31) (tgt := 32) (by decide +kernel) (by decide) (fun b1 => ?_) (fun b1 => ?_)
  · rw [if_pos b1] at h
    refine E_blk (lv' := [some (vr (some (11, this))), some (vi a1), some (vi a2)]) (st' := [vi (-1 : Int32)]) (M1 := M) (pc' := 33) (tb_Model hγ) [.iconst (.negSucc 0)] (by decide +kernel) rfl rfl trivial ?_
    exact E_iret rfl (by decide +kernel) h
  · rw [if_neg b1] at h
    refine E_blk (lv' := [some (vr (some (11, this))), some (vi a1), some (vi a2)]) (st' := [vi (mI M 11 this 101), vi a1]) (M1 := M) (pc' := 9) (tb_Model hγ) [.iload_n 1, .aload_n 0, .getfield 1257] (by decide +kernel) rfl rfl trivial ?_
    refine E_icmp_ge (off := 23) (tgt := 32) (by decide +kernel) (by decide) (fun b2 => ?_) (fun b2 => ?_)
    · rw [if_pos b2] at h
      refine E_blk (lv' := [some (vr (some (11, this))), some (vi a1), some (vi a2)]) (st' := [vi (-1 : Int32)]) (M1 := M) (pc' := 33) (tb_Model hγ) [.iconst (.negSucc 0)] (by decide +kernel) rfl rfl trivial ?_
      exact E_iret rfl (by decide +kernel) h
    · rw [if_neg b2] at h
      obtain ⟨c3, h⟩ := h
      refine E_blk (lv' := [some (vr (some (11, this))), some (vi a1), some (vi a2)]) (st' := [vi (mI M 519 this a1.toNatClampNeg)]) (M1 := M) (pc' := 18) (tb_Model hγ) [.aload_n 0, .getfield 329, .iload_n 1, .baload] (by decide +kernel) rfl rfl ⟨c3, trivial⟩ ?_
      refine E_if_eq (off := 14) (tgt := 32) (by decide +kernel) (by decide) (fun b4 => ?_) (fun b4 => ?_)
      · rw [if_pos b4] at h
        refine E_blk (lv' := [some (vr (some (11, this))), some (vi a1), some (vi a2)]) (st' := [vi (-1 : Int32)]) (M1 := M) (pc' := 33) (tb_Model hγ) [.iconst (.negSucc 0)] (by decide +kernel) rfl rfl trivial ?_
        exact E_iret rfl (by decide +kernel) h
      · rw [if_neg b4] at h
        refine E_blk (lv' := [some (vr (some (11, this))), some (vi a1), some (vi a2)]) (st' := [vi (-1 : Int32), vi a2]) (M1 := M) (pc' := 23) (tb_Model hγ) [.iload_n 2, .iconst (.negSucc 0)] (by decide +kernel) rfl rfl trivial ?_
        refine E_icmp_lt (off := 9) (tgt := 32) (by decide +kernel) (by decide) (fun b5 => ?_) (fun b5 => ?_)
        · rw [if_pos b5] at h
          refine E_blk (lv' := [some (vr (some (11, this))), some (vi a1), some (vi a2)]) (st' := [vi (-1 : Int32)]) (M1 := M) (pc' := 33) (tb_Model hγ) [.iconst (.negSucc 0)] (by decide +kernel) rfl rfl trivial ?_
          exact E_iret rfl (by decide +kernel) h
        · rw [if_neg b5] at h
          refine E_blk (lv' := [some (vr (some (11, this))), some (vi a1), some (vi a2)]) (st' := [vi (40 : Int32), vi a2]) (M1 := M) (pc' := 29) (tb_Model hγ) [.iload_n 2, .bipush 40] (by decide +kernel) rfl rfl trivial ?_
          refine E_icmp_lt (off := 5) (tgt := 34) (by decide +kernel) (by decide) (fun b6 => ?_) (fun b6 => ?_)
          · rw [if_pos b6] at h
            refine E_blk (lv' := [some (vr (some (11, this))), some (vi a1), some (vi a2)]) (st' := [vi a2]) (M1 := M) (pc' := 35) (tb_Model hγ) [.iload_n 2] (by decide +kernel) rfl rfl trivial ?_
            refine E_if_ge (off := 10) (tgt := 45) (by decide +kernel) (by decide) (fun b7 => ?_) (fun b7 => ?_)
            · rw [if_pos b7] at h
              refine E_blk (lv' := [some (vr (some (11, this))), some (vi a1), some (vi a2)]) (st' := [vi (20 : Int32), vi a2]) (M1 := M) (pc' := 48) (tb_Model hγ) [.iload_n 2, .bipush 20] (by decide +kernel) rfl rfl trivial ?_
              refine E_icmp_ge (off := 27) (tgt := 75) (by decide +kernel) (by decide) (fun b8 => ?_) (fun b8 => ?_)
              · rw [if_pos b8] at h
                obtain ⟨c9, h⟩ := h
                refine E_blk (lv' := [some (vr (some (11, this))), some (vi a1), some (vi a2)]) (st' := [vi (mI M 114 this a1.toNatClampNeg), vi (a2 - (20 : Int32))]) (M1 := M) (pc' := 85) (tb_Model hγ) [.iload_n 2, .bipush 20, .isub, .aload_n 0, .getfield 332, .iload_n 1, .iaload] (by decide +kernel) rfl rfl ⟨c9, trivial⟩ ?_
                refine E_icmp_ge (off := 20) (tgt := 105) (by decide +kernel) (by decide) (fun b10 => ?_) (fun b10 => ?_)
                · rw [if_pos b10] at h
                  refine E_blk (lv' := [some (vr (some (11, this))), some (vi a1), some (vi a2)]) (st' := [vi (-1 : Int32)]) (M1 := M) (pc' := 106) (tb_Model hγ) [.iconst (.negSucc 0)] (by decide +kernel) rfl rfl trivial ?_
                  exact E_iret rfl (by decide +kernel) h
                · rw [if_neg b10] at h
                  obtain ⟨c11, h⟩ := h
                  refine E_blk (lv' := [some (vr (some (11, this))), some (vi a1), some (vi a2)]) (st' := [vi (mI M 116 this ((((28 : Int32) * a1) + a2) - (20 : Int32)).toNatClampNeg)]) (M1 := M) (pc' := 102) (tb_Model hγ) [.aload_n 0, .getfield 338, .bipush 28, .iload_n 1, .imul, .iload_n 2, .iadd, .bipush 20, .isub, .iaload] (by decide +kernel) rfl rfl ⟨c11, trivial⟩ ?_
                  refine E_goto (off := 4) (tgt := 106) (by decide +kernel) (by decide) ?_
                  exact E_iret rfl (by decide +kernel) h
              · rw [if_neg b8] at h
                refine E_blk (lv' := [some (vr (some (11, this))), some (vi a1), some (vi a2)]) (st' := [vi (mI M 11 this 102), vi a2]) (M1 := M) (pc' := 56) (tb_Model hγ) [.iload_n 2, .aload_n 0, .getfield 1254] (by decide +kernel) rfl rfl trivial ?_
                refine E_icmp_ge (off := 17) (tgt := 73) (by decide +kernel) (by decide) (fun b12 => ?_) (fun b12 => ?_)
                · rw [if_pos b12] at h
                  refine E_blk (lv' := [some (vr (some (11, this))), some (vi a1), some (vi a2)]) (st' := [vi (-1 : Int32)]) (M1 := M) (pc' := 74) (tb_Model hγ) [.iconst (.negSucc 0)] (by decide +kernel) rfl rfl trivial ?_
                  exact E_iret rfl (by decide +kernel) h
                · rw [if_neg b12] at h
                  obtain ⟨c13, h⟩ := h
                  refine E_blk (lv' := [some (vr (some (11, this))), some (vi a1), some (vi a2)]) (st' := [vi (mI M 115 this (((20 : Int32) * a1) + a2).toNatClampNeg)]) (M1 := M) (pc' := 70) (tb_Model hγ) [.aload_n 0, .getfield 335, .bipush 20, .iload_n 1, .imul, .iload_n 2, .iadd, .iaload] (by decide +kernel) rfl rfl ⟨c13, trivial⟩ ?_
                  refine E_goto (off := 4) (tgt := 74) (by decide +kernel) (by decide) ?_
                  exact E_iret rfl (by decide +kernel) h
            · rw [if_neg b7] at h
              obtain ⟨c14, h⟩ := h
              refine E_blk (lv' := [some (vr (some (11, this))), some (vi a1), some (vi a2)]) (st' := [vi (mI M 114 this a1.toNatClampNeg)]) (M1 := M) (pc' := 44) (tb_Model hγ) [.aload_n 0, .getfield 332, .iload_n 1, .iaload] (by decide +kernel) rfl rfl ⟨c14, trivial⟩ ?_
              exact E_iret rfl (by decide +kernel) h
          · rw [if_neg b6] at h
            refine E_blk (lv' := [some (vr (some (11, this))), some (vi a1), some (vi a2)]) (st' := [vi (-1 : Int32)]) (M1 := M) (pc' := 33) (tb_Model hγ) [.iconst (.negSucc 0)] (by decide +kernel) rfl rfl trivial ?_
            exact E_iret rfl (by decide +kernel) h
def w_Model_foretold_j113 (this : Nat) (Q : Int32 → Mem → Prop) (v2 : Int32) (M : Mem) : Prop :=
  ∃ i7, (mR M 11 this 45) = some (12, i7) ∧ ∃ i8, (mR M 12 i7 31) = some (300, i8) ∧ vp_in v2 (mL M 300 i8) ∧ w_Model_classOf this (mI M 300 i8 v2.toNatClampNeg) (fun r11 M10 => if 0 ≤ r11 then (Q (0 : Int32) M10) else (Q (50 : Int32) M10)) M
def w_Model_foretold_j101 (this : Nat) (Q : Int32 → Mem → Prop) (v2 : Int32) (v3 : Int32) (M : Mem) : Prop :=
  if v3 = (54 : Int32) then (w_Model_foretold_j113 this Q v2 M) else (if v3 = (55 : Int32) then (w_Model_foretold_j113 this Q v2 M) else (if v3 = (41 : Int32) then (∃ i15, (mR M 11 this 45) = some (12, i15) ∧ ∃ i16, (mR M 12 i15 31) = some (300, i16) ∧ vp_in v2 (mL M 300 i16) ∧ w_Model_findLinked this (mI M 300 i16 v2.toNatClampNeg) (fun r19 M18 => if 0 ≤ r19 then (w_Model_isOff this (7 : Int32) (fun r22 M21 => if r22 = 0 then (∃ i24, (mR M21 11 this 45) = some (12, i24) ∧ vp_in r19 (mL M21 132 i24) ∧ if ((mI M21 132 i24 r19.toNatClampNeg) &&& (6 : Int32)) = 0 then (Q (0 : Int32) M21) else (Q (57 : Int32) M21)) else (Q (0 : Int32) M21)) M18) else (Q (mI M18 11 this 81) M18)) M) else (Q (0 : Int32) M)))
def w_Model_foretold_j41 (this : Nat) (Q : Int32 → Mem → Prop) (v1 : Int32) (v2 : Int32) (v3 : Int32) (M : Mem) : Prop :=
  if v3 < (50 : Int32) then (w_Model_foretold_j101 this Q v2 v3 M) else (if (53 : Int32) < v3 then (w_Model_foretold_j101 this Q v2 v3 M) else (∃ i28, (mR M 11 this 45) = some (12, i28) ∧ ∃ i29, (mR M 12 i28 31) = some (300, i29) ∧ vp_in v2 (mL M 300 i29) ∧ ∃ i31, (mR M 11 this 45) = some (12, i31) ∧ ∃ i32, (mR M 12 i31 32) = some (300, i32) ∧ vp_in v2 (mL M 300 i32) ∧ ∃ i34, (mR M 11 this 45) = some (12, i34) ∧ ∃ i35, (mR M 12 i34 33) = some (300, i35) ∧ vp_in v2 (mL M 300 i35) ∧ ¬ (12 : Int32) = 0 ∧ w_Model_findMethod this v3 (mI M 300 i29 v2.toNatClampNeg) (mI M 300 i32 v2.toNatClampNeg) (mI M 300 i35 v2.toNatClampNeg) (v1 / (12 : Int32)) (fun r39 M38 => if 0 ≤ r39 then (Q (0 : Int32) M38) else (Q (mI M38 11 this 81) M38)) M))
def w_Model_foretold (this : Nat) (a1 : Int32) (a2 : Int32) (Q : Int32 → Mem → Prop) (M : Mem) : Prop :=
  ∃ i1, (mR M 11 this 45) = some (12, i1) ∧ ∃ i2, (mR M 12 i1 30) = some (401, i2) ∧ vp_in a2 (mL M 401 i2) ∧ if (mI M 401 i2 a2.toNatClampNeg) < (46 : Int32) then (w_Model_foretold_j41 this Q a1 a2 (mI M 401 i2 a2.toNatClampNeg) M) else (if (49 : Int32) < (mI M 401 i2 a2.toNatClampNeg) then (w_Model_foretold_j41 this Q a1 a2 (mI M 401 i2 a2.toNatClampNeg) M) else (w_Model_findField this (mI M 401 i2 a2.toNatClampNeg) a2 a1 (fun r43 M42 => if 0 ≤ r43 then (Q (0 : Int32) M42) else (Q (mI M42 11 this 81) M42)) M))
set_option maxRecDepth 4096 in
theorem lk_Model_foretold_j113 {γ : Gm} (hγ : Gk γ) (this : Nat) (Q : Int32 → Mem → Prop) (v2 : Int32) (M : Mem) (h : w_Model_foretold_j113 this Q v2 M) : E γ k_Model_foretold 131 113 [some (vr (some (11, this))), none, some (vi v2), none, none] [] M (Qi Q) := by
  unfold w_Model_foretold_j113 at h
  refine E_blk (lv' := [some (vr (some (11, this))), none, some (vi v2), none, none]) (st' := [vr (mR M 11 this 45), vr (some (11, this))]) (M1 := M) (pc' := 118) (tb_Model hγ) [.aload_n 0, .aload_n 0, .getfield 522] (by decide +kernel) rfl rfl trivial ?_
  obtain ⟨i7, ei7, h⟩ := h
  rw [ei7]
  refine E_blk (lv' := [some (vr (some (11, this))), none, some (vi v2), none, none]) (st' := [vr (mR M 12 i7 31), vr (some (11, this))]) (M1 := M) (pc' := 121) (tb_Model hγ) [.getfield 677] (by decide +kernel) rfl rfl trivial ?_
  obtain ⟨i8, ei8, h⟩ := h
  rw [ei8]
  obtain ⟨c9, h⟩ := h
  refine E_blk (lv' := [some (vr (some (11, this))), none, some (vi v2), none, none]) (st' := [vi (mI M 300 i8 v2.toNatClampNeg), vr (some (11, this))]) (M1 := M) (pc' := 123) (tb_Model hγ) [.iload_n 2, .iaload] (by decide +kernel) rfl rfl ⟨c9, trivial⟩ ?_
  refine E_callV (κ' := k_Model_classOf) (As := [vi (mI M 300 i8 v2.toNatClampNeg)]) (st := []) mv_Model_classOf (Or.inl (tbk_mem (j := 15) (k := 39) rfl)) rfl (by decide +kernel) (Nat.le_of_ble_eq_true rfl) (Nat.le_of_ble_eq_true rfl) rfl (by decide) (lk_Model_classOf hγ this (mI M 300 i8 v2.toNatClampNeg) _ M h) (fun _ _ => Qi_r) (fun v M10 hp => Qi_k (R := fun st => E γ k_Model_foretold 131 126 [some (vr (some (11, this))), none, some (vi v2), none, none] st M10 (Qi Q)) hp (fun r11 h => ?_))
  refine E_if_ge (off := 8) (tgt := 134) (by decide +kernel) (by decide) (fun b12 => ?_) (fun b12 => ?_)
  · rw [if_pos b12] at h
    refine E_blk (lv' := [some (vr (some (11, this))), none, some (vi v2), none, none]) (st' := [vi (0 : Int32)]) (M1 := M10) (pc' := 135) (tb_Model hγ) [.iconst 0] (by decide +kernel) rfl rfl trivial ?_
    exact E_iret rfl (by decide +kernel) h
  · rw [if_neg b12] at h
    refine E_blk (lv' := [some (vr (some (11, this))), none, some (vi v2), none, none]) (st' := [vi (50 : Int32)]) (M1 := M10) (pc' := 131) (tb_Model hγ) [.bipush 50] (by decide +kernel) rfl rfl trivial ?_
    refine E_goto (off := 4) (tgt := 135) (by decide +kernel) (by decide) ?_
    exact E_iret rfl (by decide +kernel) h
set_option maxRecDepth 4096 in
theorem lk_Model_foretold_j101 {γ : Gm} (hγ : Gk γ) (this : Nat) (Q : Int32 → Mem → Prop) (v2 : Int32) (v3 : Int32) (M : Mem) (h : w_Model_foretold_j101 this Q v2 v3 M) : E γ k_Model_foretold 131 101 [some (vr (some (11, this))), none, some (vi v2), some (vi v3), none] [] M (Qi Q) := by
  unfold w_Model_foretold_j101 at h
  refine E_blk (lv' := [some (vr (some (11, this))), none, some (vi v2), some (vi v3), none]) (st' := [vi (54 : Int32), vi v3]) (M1 := M) (pc' := 104) (tb_Model hγ) [.iload_n 3, .bipush 54] (by decide +kernel) rfl rfl trivial ?_
  refine E_icmp_eq (off := 9) (tgt := 113) (by decide +kernel) (by decide) (fun b6 => ?_) (fun b6 => ?_)
  · rw [if_pos b6] at h
    refine E_mask [true, false, true, false, false] rfl ?_
    exact lk_Model_foretold_j113 hγ this Q v2 M h
  · rw [if_neg b6] at h
    refine E_blk (lv' := [some (vr (some (11, this))), none, some (vi v2), some (vi v3), none]) (st' := [vi (55 : Int32), vi v3]) (M1 := M) (pc' := 110) (tb_Model hγ) [.iload_n 3, .bipush 55] (by decide +kernel) rfl rfl trivial ?_
    refine E_icmp_ne (off := 26) (tgt := 136) (by decide +kernel) (by decide) (fun b13 => ?_) (fun b13 => ?_)
    · rw [if_pos b13] at h
      refine E_mask [true, false, true, false, false] rfl ?_
      exact lk_Model_foretold_j113 hγ this Q v2 M h
    · rw [if_neg b13] at h
      refine E_blk (lv' := [some (vr (some (11, this))), none, some (vi v2), some (vi v3), none]) (st' := [vi (41 : Int32), vi v3]) (M1 := M) (pc' := 139) (tb_Model hγ) [.iload_n 3, .bipush 41] (by decide +kernel) rfl rfl trivial ?_
      refine E_icmp_eq (off := 5) (tgt := 144) (by decide +kernel) (by decide) (fun b14 => ?_) (fun b14 => ?_)
      · rw [if_pos b14] at h
        refine E_blk (lv' := [some (vr (some (11, this))), none, some (vi v2), some (vi v3), none]) (st' := [vr (mR M 11 this 45), vr (some (11, this))]) (M1 := M) (pc' := 149) (tb_Model hγ) [.aload_n 0, .aload_n 0, .getfield 522] (by decide +kernel) rfl rfl trivial ?_
        obtain ⟨i15, ei15, h⟩ := h
        rw [ei15]
        refine E_blk (lv' := [some (vr (some (11, this))), none, some (vi v2), some (vi v3), none]) (st' := [vr (mR M 12 i15 31), vr (some (11, this))]) (M1 := M) (pc' := 152) (tb_Model hγ) [.getfield 677] (by decide +kernel) rfl rfl trivial ?_
        obtain ⟨i16, ei16, h⟩ := h
        rw [ei16]
        obtain ⟨c17, h⟩ := h
        refine E_blk (lv' := [some (vr (some (11, this))), none, some (vi v2), some (vi v3), none]) (st' := [vi (mI M 300 i16 v2.toNatClampNeg), vr (some (11, this))]) (M1 := M) (pc' := 154) (tb_Model hγ) [.iload_n 2, .iaload] (by decide +kernel) rfl rfl ⟨c17, trivial⟩ ?_
        refine E_callV (κ' := k_Model_findLinked) (As := [vi (mI M 300 i16 v2.toNatClampNeg)]) (st := []) mv_Model_findLinked (Or.inl (tbk_mem (j := 16) (k := 83) rfl)) rfl (by decide +kernel) (Nat.le_of_ble_eq_true rfl) (Nat.le_of_ble_eq_true rfl) rfl (by decide) (lk_Model_findLinked hγ this (mI M 300 i16 v2.toNatClampNeg) _ M h) (fun _ _ => Qi_r) (fun v M18 hp => Qi_k (R := fun st => E γ k_Model_foretold 131 157 [some (vr (some (11, this))), none, some (vi v2), some (vi v3), none] st M18 (Qi Q)) hp (fun r19 h => ?_))
        refine E_blk (lv' := [some (vr (some (11, this))), none, some (vi v2), some (vi v3), some (vi r19)]) (st' := [vi r19]) (M1 := M18) (pc' := 161) (tb_Model hγ) [.istore 4, .iload 4] (by decide +kernel) rfl rfl trivial ?_
        refine E_if_ge (off := 10) (tgt := 171) (by decide +kernel) (by decide) (fun b20 => ?_) (fun b20 => ?_)
        · rw [if_pos b20] at h
          refine E_blk (lv' := [some (vr (some (11, this))), none, some (vi v2), some (vi v3), some (vi r19)]) (st' := [vi (7 : Int32), vr (some (11, this))]) (M1 := M18) (pc' := 174) (tb_Model hγ) [.aload_n 0, .bipush 7] (by decide +kernel) rfl rfl trivial ?_
          refine E_callV (κ' := k_Model_isOff) (As := [vi (7 : Int32)]) (st := []) mv_Model_isOff (Or.inl (tbk_mem (j := 15) (k := 47) rfl)) rfl (by decide +kernel) (Nat.le_of_ble_eq_true rfl) (Nat.le_of_ble_eq_true rfl) rfl (by decide) (lk_Model_isOff hγ this (7 : Int32) _ M18 h) (fun _ _ => Qi_r) (fun v M21 hp => Qi_k (R := fun st => E γ k_Model_foretold 131 177 [some (vr (some (11, this))), none, some (vi v2), some (vi v3), some (vi r19)] st M21 (Qi Q)) hp (fun r22 h => ?_))
          refine E_if_ne (off := 24) (tgt := 201) (by decide +kernel) (by decide) (fun b23 => ?_) (fun b23 => ?_)
          · rw [if_pos b23] at h
            refine E_blk (lv' := [some (vr (some (11, this))), none, some (vi v2), some (vi v3), some (vi r19)]) (st' := [vr (mR M21 11 this 45)]) (M1 := M21) (pc' := 184) (tb_Model hγ) [.aload_n 0, .getfield 522] (by decide +kernel) rfl rfl trivial ?_
            obtain ⟨i24, ei24, h⟩ := h
            rw [ei24]
            obtain ⟨c25, h⟩ := h
            refine E_blk (lv' := [some (vr (some (11, this))), none, some (vi v2), some (vi v3), some (vi r19)]) (st' := [vi ((mI M21 132 i24 r19.toNatClampNeg) &&& (6 : Int32))]) (M1 := M21) (pc' := 193) (tb_Model hγ) [.getfield 429, .iload 4, .iaload, .bipush 6, .iand] (by decide +kernel) rfl rfl ⟨c25, trivial⟩ ?_
            refine E_if_eq (off := 8) (tgt := 201) (by decide +kernel) (by decide) (fun b26 => ?_) (fun b26 => ?_)
            · rw [if_pos b26] at h
              refine E_blk (lv' := [some (vr (some (11, this))), none, some (vi v2), some (vi v3), some (vi r19)]) (st' := [vi (0 : Int32)]) (M1 := M21) (pc' := 202) (tb_Model hγ) [.iconst 0] (by decide +kernel) rfl rfl trivial ?_
              exact E_iret rfl (by decide +kernel) h
            · rw [if_neg b26] at h
              refine E_blk (lv' := [some (vr (some (11, this))), none, some (vi v2), some (vi v3), some (vi r19)]) (st' := [vi (57 : Int32)]) (M1 := M21) (pc' := 198) (tb_Model hγ) [.bipush 57] (by decide +kernel) rfl rfl trivial ?_
              refine E_goto (off := 4) (tgt := 202) (by decide +kernel) (by decide) ?_
              exact E_iret rfl (by decide +kernel) h
          · rw [if_neg b23] at h
            refine E_blk (lv' := [some (vr (some (11, this))), none, some (vi v2), some (vi v3), some (vi r19)]) (st' := [vi (0 : Int32)]) (M1 := M21) (pc' := 202) (tb_Model hγ) [.iconst 0] (by decide +kernel) rfl rfl trivial ?_
            exact E_iret rfl (by decide +kernel) h
        · rw [if_neg b20] at h
          refine E_blk (lv' := [some (vr (some (11, this))), none, some (vi v2), some (vi v3), some (vi r19)]) (st' := [vi (mI M18 11 this 81)]) (M1 := M18) (pc' := 168) (tb_Model hγ) [.aload_n 0, .getfield 844] (by decide +kernel) rfl rfl trivial ?_
          refine E_goto (off := 34) (tgt := 202) (by decide +kernel) (by decide) ?_
          exact E_iret rfl (by decide +kernel) h
      · rw [if_neg b14] at h
        refine E_blk (lv' := [some (vr (some (11, this))), none, some (vi v2), some (vi v3), none]) (st' := [vi (0 : Int32)]) (M1 := M) (pc' := 143) (tb_Model hγ) [.iconst 0] (by decide +kernel) rfl rfl trivial ?_
        exact E_iret rfl (by decide +kernel) h
set_option maxRecDepth 4096 in
theorem lk_Model_foretold_j41 {γ : Gm} (hγ : Gk γ) (this : Nat) (Q : Int32 → Mem → Prop) (v1 : Int32) (v2 : Int32) (v3 : Int32) (M : Mem) (h : w_Model_foretold_j41 this Q v1 v2 v3 M) : E γ k_Model_foretold 131 41 [some (vr (some (11, this))), some (vi v1), some (vi v2), some (vi v3), none] [] M (Qi Q) := by
  unfold w_Model_foretold_j41 at h
  refine E_blk (lv' := [some (vr (some (11, this))), some (vi v1), some (vi v2), some (vi v3), none]) (st' := [vi (50 : Int32), vi v3]) (M1 := M) (pc' := 44) (tb_Model hγ) [.iload_n 3, .bipush 50] (by decide +kernel) rfl rfl trivial ?_
  refine E_icmp_lt (off := 57) (tgt := 101) (by decide +kernel) (by decide) (fun b5 => ?_) (fun b5 => ?_)
  · rw [if_pos b5] at h
    refine E_mask [true, false, true, true, false] rfl ?_
    exact lk_Model_foretold_j101 hγ this Q v2 v3 M h
  · rw [if_neg b5] at h
    refine E_blk (lv' := [some (vr (some (11, this))), some (vi v1), some (vi v2), some (vi v3), none]) (st' := [vi (53 : Int32), vi v3]) (M1 := M) (pc' := 50) (tb_Model hγ) [.iload_n 3, .bipush 53] (by decide +kernel) rfl rfl trivial ?_
    refine E_icmp_gt (off := 51) (tgt := 101) (by decide +kernel) (by decide) (fun b27 => ?_) (fun b27 => ?_)
    · rw [if_pos b27] at h
      refine E_mask [true, false, true, true, false] rfl ?_
      exact lk_Model_foretold_j101 hγ this Q v2 v3 M h
    · rw [if_neg b27] at h
      refine E_blk (lv' := [some (vr (some (11, this))), some (vi v1), some (vi v2), some (vi v3), none]) (st' := [vr (mR M 11 this 45), vi v3, vr (some (11, this))]) (M1 := M) (pc' := 59) (tb_Model hγ) [.aload_n 0, .iload_n 3, .aload_n 0, .getfield 522] (by decide +kernel) rfl rfl trivial ?_
      obtain ⟨i28, ei28, h⟩ := h
      rw [ei28]
      refine E_blk (lv' := [some (vr (some (11, this))), some (vi v1), some (vi v2), some (vi v3), none]) (st' := [vr (mR M 12 i28 31), vi v3, vr (some (11, this))]) (M1 := M) (pc' := 62) (tb_Model hγ) [.getfield 677] (by decide +kernel) rfl rfl trivial ?_
      obtain ⟨i29, ei29, h⟩ := h
      rw [ei29]
      obtain ⟨c30, h⟩ := h
      refine E_blk (lv' := [some (vr (some (11, this))), some (vi v1), some (vi v2), some (vi v3), none]) (st' := [vr (mR M 11 this 45), vi (mI M 300 i29 v2.toNatClampNeg), vi v3, vr (some (11, this))]) (M1 := M) (pc' := 68) (tb_Model hγ) [.iload_n 2, .iaload, .aload_n 0, .getfield 522] (by decide +kernel) rfl rfl ⟨c30, trivial⟩ ?_
      obtain ⟨i31, ei31, h⟩ := h
      rw [ei31]
      refine E_blk (lv' := [some (vr (some (11, this))), some (vi v1), some (vi v2), some (vi v3), none]) (st' := [vr (mR M 12 i31 32), vi (mI M 300 i29 v2.toNatClampNeg), vi v3, vr (some (11, this))]) (M1 := M) (pc' := 71) (tb_Model hγ) [.getfield 680] (by decide +kernel) rfl rfl trivial ?_
      obtain ⟨i32, ei32, h⟩ := h
      rw [ei32]
      obtain ⟨c33, h⟩ := h
      refine E_blk (lv' := [some (vr (some (11, this))), some (vi v1), some (vi v2), some (vi v3), none]) (st' := [vr (mR M 11 this 45), vi (mI M 300 i32 v2.toNatClampNeg), vi (mI M 300 i29 v2.toNatClampNeg), vi v3, vr (some (11, this))]) (M1 := M) (pc' := 77) (tb_Model hγ) [.iload_n 2, .iaload, .aload_n 0, .getfield 522] (by decide +kernel) rfl rfl ⟨c33, trivial⟩ ?_
      obtain ⟨i34, ei34, h⟩ := h
      rw [ei34]
      refine E_blk (lv' := [some (vr (some (11, this))), some (vi v1), some (vi v2), some (vi v3), none]) (st' := [vr (mR M 12 i34 33), vi (mI M 300 i32 v2.toNatClampNeg), vi (mI M 300 i29 v2.toNatClampNeg), vi v3, vr (some (11, this))]) (M1 := M) (pc' := 80) (tb_Model hγ) [.getfield 683] (by decide +kernel) rfl rfl trivial ?_
      obtain ⟨i35, ei35, h⟩ := h
      rw [ei35]
      obtain ⟨c36, c37, h⟩ := h
      refine E_blk (lv' := [some (vr (some (11, this))), some (vi v1), some (vi v2), some (vi v3), none]) (st' := [vi (v1 / (12 : Int32)), vi (mI M 300 i35 v2.toNatClampNeg), vi (mI M 300 i32 v2.toNatClampNeg), vi (mI M 300 i29 v2.toNatClampNeg), vi v3, vr (some (11, this))]) (M1 := M) (pc' := 86) (tb_Model hγ) [.iload_n 2, .iaload, .iload_n 1, .bipush 12, .idiv] (by decide +kernel) rfl rfl ⟨c36, c37, trivial⟩ ?_
      refine E_callV (κ' := k_Model_findMethod) (As := [vi v3, vi (mI M 300 i29 v2.toNatClampNeg), vi (mI M 300 i32 v2.toNatClampNeg), vi (mI M 300 i35 v2.toNatClampNeg), vi (v1 / (12 : Int32))]) (st := []) mv_Model_findMethod (Or.inl (tbk_mem (j := 16) (k := 79) rfl)) rfl (by decide +kernel) (Nat.le_of_ble_eq_true rfl) (Nat.le_of_ble_eq_true rfl) rfl (by decide) (lk_Model_findMethod hγ this v3 (mI M 300 i29 v2.toNatClampNeg) (mI M 300 i32 v2.toNatClampNeg) (mI M 300 i35 v2.toNatClampNeg) (v1 / (12 : Int32)) _ M h) (fun _ _ => Qi_r) (fun v M38 hp => Qi_k (R := fun st => E γ k_Model_foretold 131 89 [some (vr (some (11, this))), some (vi v1), some (vi v2), some (vi v3), none] st M38 (Qi Q)) hp (fun r39 h => ?_))
      refine E_if_ge (off := 10) (tgt := 99) (by decide +kernel) (by decide) (fun b40 => ?_) (fun b40 => ?_)
      · rw [if_pos b40] at h
        refine E_blk (lv' := [some (vr (some (11, this))), some (vi v1), some (vi v2), some (vi v3), none]) (st' := [vi (0 : Int32)]) (M1 := M38) (pc' := 100) (tb_Model hγ) [.iconst 0] (by decide +kernel) rfl rfl trivial ?_
        exact E_iret rfl (by decide +kernel) h
      · rw [if_neg b40] at h
        refine E_blk (lv' := [some (vr (some (11, this))), some (vi v1), some (vi v2), some (vi v3), none]) (st' := [vi (mI M38 11 this 81)]) (M1 := M38) (pc' := 96) (tb_Model hγ) [.aload_n 0, .getfield 844] (by decide +kernel) rfl rfl trivial ?_
        refine E_goto (off := 4) (tgt := 100) (by decide +kernel) (by decide) ?_
        exact E_iret rfl (by decide +kernel) h
set_option maxRecDepth 4096 in
theorem lk_Model_foretold {γ : Gm} (hγ : Gk γ) (this : Nat) (a1 : Int32) (a2 : Int32) (Q : Int32 → Mem → Prop) (M : Mem) (h : w_Model_foretold this a1 a2 Q M) : E γ k_Model_foretold 131 0 [some (vr (some (11, this))), some (vi a1), some (vi a2), none, none] [] M (Qi Q) := by
  unfold w_Model_foretold at h
  refine E_blk (lv' := [some (vr (some (11, this))), some (vi a1), some (vi a2), none, none]) (st' := [vr (mR M 11 this 45)]) (M1 := M) (pc' := 4) (tb_Model hγ) [.aload_n 0, .getfield 522] (by decide +kernel) rfl rfl trivial ?_
  obtain ⟨i1, ei1, h⟩ := h
  rw [ei1]
  refine E_blk (lv' := [some (vr (some (11, this))), some (vi a1), some (vi a2), none, none]) (st' := [vr (mR M 12 i1 30)]) (M1 := M) (pc' := 7) (tb_Model hγ) [.getfield 674] (by decide +kernel) rfl rfl trivial ?_
  obtain ⟨i2, ei2, h⟩ := h
  rw [ei2]
  obtain ⟨c3, h⟩ := h
  refine E_blk (lv' := [some (vr (some (11, this))), some (vi a1), some (vi a2), some (vi (mI M 401 i2 a2.toNatClampNeg)), none]) (st' := [vi (46 : Int32), vi (mI M 401 i2 a2.toNatClampNeg)]) (M1 := M) (pc' := 13) (tb_Model hγ) [.iload_n 2, .baload, .istore_n 3, .iload_n 3, .bipush 46] (by decide +kernel) rfl rfl ⟨c3, trivial⟩ ?_
  refine E_icmp_lt (off := 28) (tgt := 41) (by decide +kernel) (by decide) (fun b4 => ?_) (fun b4 => ?_)
  · rw [if_pos b4] at h
    refine E_mask [true, true, true, true, false] rfl ?_
    exact lk_Model_foretold_j41 hγ this Q a1 a2 (mI M 401 i2 a2.toNatClampNeg) M h
  · rw [if_neg b4] at h
    refine E_blk (lv' := [some (vr (some (11, this))), some (vi a1), some (vi a2), some (vi (mI M 401 i2 a2.toNatClampNeg)), none]) (st' := [vi (49 : Int32), vi (mI M 401 i2 a2.toNatClampNeg)]) (M1 := M) (pc' := 19) (tb_Model hγ) [.iload_n 3, .bipush 49] (by decide +kernel) rfl rfl trivial ?_
    refine E_icmp_gt (off := 22) (tgt := 41) (by decide +kernel) (by decide) (fun b41 => ?_) (fun b41 => ?_)
    · rw [if_pos b41] at h
      refine E_mask [true, true, true, true, false] rfl ?_
      exact lk_Model_foretold_j41 hγ this Q a1 a2 (mI M 401 i2 a2.toNatClampNeg) M h
    · rw [if_neg b41] at h
      refine E_blk (lv' := [some (vr (some (11, this))), some (vi a1), some (vi a2), some (vi (mI M 401 i2 a2.toNatClampNeg)), none]) (st' := [vi a1, vi a2, vi (mI M 401 i2 a2.toNatClampNeg), vr (some (11, this))]) (M1 := M) (pc' := 26) (tb_Model hγ) [.aload_n 0, .iload_n 3, .iload_n 2, .iload_n 1] (by decide +kernel) rfl rfl trivial ?_
      refine E_callV (κ' := k_Model_findField) (As := [vi (mI M 401 i2 a2.toNatClampNeg), vi a2, vi a1]) (st := []) mv_Model_findField (Or.inl (tbk_mem (j := 16) (k := 159) rfl)) rfl (by decide +kernel) (Nat.le_of_ble_eq_true rfl) (Nat.le_of_ble_eq_true rfl) rfl (by decide) (lk_Model_findField hγ this (mI M 401 i2 a2.toNatClampNeg) a2 a1 _ M h) (fun _ _ => Qi_r) (fun v M42 hp => Qi_k (R := fun st => E γ k_Model_foretold 131 29 [some (vr (some (11, this))), some (vi a1), some (vi a2), some (vi (mI M 401 i2 a2.toNatClampNeg)), none] st M42 (Qi Q)) hp (fun r43 h => ?_))
      refine E_if_ge (off := 10) (tgt := 39) (by decide +kernel) (by decide) (fun b44 => ?_) (fun b44 => ?_)
      · rw [if_pos b44] at h
        refine E_blk (lv' := [some (vr (some (11, this))), some (vi a1), some (vi a2), some (vi (mI M 401 i2 a2.toNatClampNeg)), none]) (st' := [vi (0 : Int32)]) (M1 := M42) (pc' := 40) (tb_Model hγ) [.iconst 0] (by decide +kernel) rfl rfl trivial ?_
        exact E_iret rfl (by decide +kernel) h
      · rw [if_neg b44] at h
        refine E_blk (lv' := [some (vr (some (11, this))), some (vi a1), some (vi a2), some (vi (mI M 401 i2 a2.toNatClampNeg)), none]) (st' := [vi (mI M42 11 this 81)]) (M1 := M42) (pc' := 36) (tb_Model hγ) [.aload_n 0, .getfield 844] (by decide +kernel) rfl rfl trivial ?_
        refine E_goto (off := 4) (tgt := 40) (by decide +kernel) (by decide) ?_
        exact E_iret rfl (by decide +kernel) h
def w_Model_foretell_j150 (this : Nat) (Q : Int32 → Mem → Prop) (k42 : Int32 → Int32 → Int32 → Int32 → Mem → Prop) (k68 : Int32 → Int32 → Int32 → Int32 → Int32 → Int32 → Mem → Prop) (v2 : Int32) (v4 : Int32) (v6 : Int32) (v7 : Int32) (v8 : Int32) (s0 : Int32) (s1 : Int32) (M : Mem) : Prop :=
  k68 v2 v4 (s1 - s0) v6 v7 (v8 + (1 : Int32)) M
def w_Model_foretell_j138 (this : Nat) (Q : Int32 → Mem → Prop) (k42 : Int32 → Int32 → Int32 → Int32 → Mem → Prop) (k68 : Int32 → Int32 → Int32 → Int32 → Int32 → Int32 → Mem → Prop) (v2 : Int32) (v4 : Int32) (v5 : Int32) (v6 : Int32) (v7 : Int32) (v8 : Int32) (v9 : Int32) (M : Mem) : Prop :=
  if v9 ≤ 0 then (w_Model_foretell_j150 this Q k42 k68 v2 v4 v6 v7 v8 (0 : Int32) v5 M) else (w_Model_foretell_j150 this Q k42 k68 v2 v4 v6 v7 v8 (1 : Int32) v5 M)
def w_Model_foretell_L68 (this : Nat) (Q : Int32 → Mem → Prop) (k42 : Int32 → Int32 → Int32 → Int32 → Mem → Prop) : Nat → Int32 → Int32 → Int32 → Int32 → Int32 → Int32 → Mem → Prop
  | 0, _, _, _, _, _, _, _ => False
  | n + 1, v2, v4, v5, v6, v7, v8, M => ∃ i12, (mR M 11 this 45) = some (12, i12) ∧ vp_in v7 (mL M 150 i12) ∧ if (mI M 150 i12 v7.toNatClampNeg) ≤ v8 then (k42 v2 v4 v5 (v6 + (1 : Int32)) M) else (∃ i15, (mR M 11 this 45) = some (12, i15) ∧ vp_in v7 (mL M 149 i15) ∧ w_Model_foretold this v7 ((mI M 149 i15 v7.toNatClampNeg) + v8) (fun r18 M17 => if r18 ≤ 0 then (w_Model_foretell_j138 this Q k42 (w_Model_foretell_L68 this Q k42 n) v2 v4 v5 v6 v7 v8 r18 M17) else (if v5 = 0 then (if v4 = 0 then (Q v6 M17) else (if v4 = (1 : Int32) then (Q v8 M17) else (Q r18 M17))) else (w_Model_foretell_j138 this Q k42 (w_Model_foretell_L68 this Q k42 n) v2 v4 v5 v6 v7 v8 r18 M17))) M)
def w_Model_foretell_L42 (this : Nat) (Q : Int32 → Mem → Prop) : Nat → Int32 → Int32 → Int32 → Int32 → Mem → Prop
  | 0, _, _, _, _, _ => False
  | n + 1, v2, v4, v5, v6, M => ∃ i9, (mR M 11 this 45) = some (12, i9) ∧ vp_in v2 (mL M 136 i9) ∧ if (mI M 136 i9 v2.toNatClampNeg) ≤ v6 then (Q (-2 : Int32) M) else (∃ n24 : Nat, w_Model_foretell_L68 this Q (w_Model_foretell_L42 this Q n) n24 v2 v4 v5 v6 (((12 : Int32) * v2) + v6) (0 : Int32) M)
def w_Model_foretell (this : Nat) (a1 : Int32) (a2 : Int32) (a3 : Int32) (a4 : Int32) (Q : Int32 → Mem → Prop) (M : Mem) : Prop :=
  w_Model_isClass this a1 a2 (fun r2 M1 => if r2 = 0 then (Q (-1 : Int32) M1) else (if a3 < 0 then (Q (-1 : Int32) M1) else (if a4 < 0 then (Q (-1 : Int32) M1) else (if a4 ≤ (2 : Int32) then (vp_in a1 (mL M1 703 0) ∧ ∃ i8, (mR M1 703 0 a1.toNatClampNeg) = some (12, i8) ∧ ∃ n25 : Nat, w_Model_foretell_L42 this Q n25 a2 a4 a3 (0 : Int32) (sR M1 11 this 45 (some (12, i8)))) else (Q (-1 : Int32) M1))))) M
set_option maxRecDepth 4096 in
theorem lk_Model_foretell_j150 {γ : Gm} (hγ : Gk γ) (this : Nat) (Q : Int32 → Mem → Prop) (k42 : Int32 → Int32 → Int32 → Int32 → Mem → Prop) (k68 : Int32 → Int32 → Int32 → Int32 → Int32 → Int32 → Mem → Prop) (hk42 : ∀ (v2 : Int32) (v4 : Int32) (v5 : Int32) (v6 : Int32) (M : Mem), k42 v2 v4 v5 v6 M → E γ k_Model_foretell 132 42 [some (vr (some (11, this))), none, some (vi v2), none, some (vi v4), some (vi v5), some (vi v6), none, none, none] [] M (Qi Q)) (hk68 : ∀ (v2 : Int32) (v4 : Int32) (v5 : Int32) (v6 : Int32) (v7 : Int32) (v8 : Int32) (M : Mem), k68 v2 v4 v5 v6 v7 v8 M → E γ k_Model_foretell 132 68 [some (vr (some (11, this))), none, some (vi v2), none, some (vi v4), some (vi v5), some (vi v6), some (vi v7), some (vi v8), none] [] M (Qi Q)) (v2 : Int32) (v4 : Int32) (v6 : Int32) (v7 : Int32) (v8 : Int32) (s0 : Int32) (s1 : Int32) (M : Mem) (h : w_Model_foretell_j150 this Q k42 k68 v2 v4 v6 v7 v8 s0 s1 M) : E γ k_Model_foretell 132 150 [some (vr (some (11, this))), none, some (vi v2), none, some (vi v4), none, some (vi v6), some (vi v7), some (vi v8), none] [vi s0, vi s1] M (Qi Q) := by
  unfold w_Model_foretell_j150 at h
  refine E_blk (lv' := [some (vr (some (11, this))), none, some (vi v2), none, some (vi v4), some (vi (s1 - s0)), some (vi v6), some (vi v7), some (vi (v8 + (1 : Int32))), none]) (st' := []) (M1 := M) (pc' := 156) (tb_Model hγ) [.isub, .istore 5, .iinc 8 1] (by decide +kernel) rfl rfl trivial ?_
  refine E_goto (off := -88) (tgt := 68) (by decide +kernel) (by decide) ?_
  refine E_mask [true, false, true, false, true, true, true, true, true, false] rfl ?_
  exact hk68 v2 v4 (s1 - s0) v6 v7 (v8 + (1 : Int32)) M h
set_option maxRecDepth 4096 in
theorem lk_Model_foretell_j138 {γ : Gm} (hγ : Gk γ) (this : Nat) (Q : Int32 → Mem → Prop) (k42 : Int32 → Int32 → Int32 → Int32 → Mem → Prop) (k68 : Int32 → Int32 → Int32 → Int32 → Int32 → Int32 → Mem → Prop) (hk42 : ∀ (v2 : Int32) (v4 : Int32) (v5 : Int32) (v6 : Int32) (M : Mem), k42 v2 v4 v5 v6 M → E γ k_Model_foretell 132 42 [some (vr (some (11, this))), none, some (vi v2), none, some (vi v4), some (vi v5), some (vi v6), none, none, none] [] M (Qi Q)) (hk68 : ∀ (v2 : Int32) (v4 : Int32) (v5 : Int32) (v6 : Int32) (v7 : Int32) (v8 : Int32) (M : Mem), k68 v2 v4 v5 v6 v7 v8 M → E γ k_Model_foretell 132 68 [some (vr (some (11, this))), none, some (vi v2), none, some (vi v4), some (vi v5), some (vi v6), some (vi v7), some (vi v8), none] [] M (Qi Q)) (v2 : Int32) (v4 : Int32) (v5 : Int32) (v6 : Int32) (v7 : Int32) (v8 : Int32) (v9 : Int32) (M : Mem) (h : w_Model_foretell_j138 this Q k42 k68 v2 v4 v5 v6 v7 v8 v9 M) : E γ k_Model_foretell 132 138 [some (vr (some (11, this))), none, some (vi v2), none, some (vi v4), some (vi v5), some (vi v6), some (vi v7), some (vi v8), some (vi v9)] [] M (Qi Q) := by
  unfold w_Model_foretell_j138 at h
  refine E_blk (lv' := [some (vr (some (11, this))), none, some (vi v2), none, some (vi v4), some (vi v5), some (vi v6), some (vi v7), some (vi v8), some (vi v9)]) (st' := [vi v9, vi v5]) (M1 := M) (pc' := 142) (tb_Model hγ) [.iload 5, .iload 9] (by decide +kernel) rfl rfl trivial ?_
  refine E_if_le (off := 7) (tgt := 149) (by decide +kernel) (by decide) (fun b20 => ?_) (fun b20 => ?_)
  · rw [if_pos b20] at h
    refine E_blk (lv' := [some (vr (some (11, this))), none, some (vi v2), none, some (vi v4), some (vi v5), some (vi v6), some (vi v7), some (vi v8), some (vi v9)]) (st' := [vi (0 : Int32), vi v5]) (M1 := M) (pc' := 150) (tb_Model hγ) [.iconst 0] (by decide +kernel) rfl rfl trivial ?_
    refine E_mask [true, false, true, false, true, false, true, true, true, false] rfl ?_
    exact lk_Model_foretell_j150 hγ this Q k42 k68 hk42 hk68 v2 v4 v6 v7 v8 (0 : Int32) v5 M h
  · rw [if_neg b20] at h
    refine E_blk (lv' := [some (vr (some (11, this))), none, some (vi v2), none, some (vi v4), some (vi v5), some (vi v6), some (vi v7), some (vi v8), some (vi v9)]) (st' := [vi (1 : Int32), vi v5]) (M1 := M) (pc' := 146) (tb_Model hγ) [.iconst 1] (by decide +kernel) rfl rfl trivial ?_
    refine E_goto (off := 4) (tgt := 150) (by decide +kernel) (by decide) ?_
    refine E_mask [true, false, true, false, true, false, true, true, true, false] rfl ?_
    exact lk_Model_foretell_j150 hγ this Q k42 k68 hk42 hk68 v2 v4 v6 v7 v8 (1 : Int32) v5 M h
set_option maxRecDepth 4096 in
theorem lk_Model_foretell_L68 {γ : Gm} (hγ : Gk γ) (this : Nat) (Q : Int32 → Mem → Prop) (k42 : Int32 → Int32 → Int32 → Int32 → Mem → Prop) (hk42 : ∀ (v2 : Int32) (v4 : Int32) (v5 : Int32) (v6 : Int32) (M : Mem), k42 v2 v4 v5 v6 M → E γ k_Model_foretell 132 42 [some (vr (some (11, this))), none, some (vi v2), none, some (vi v4), some (vi v5), some (vi v6), none, none, none] [] M (Qi Q)) : ∀ (n : Nat) (v2 : Int32) (v4 : Int32) (v5 : Int32) (v6 : Int32) (v7 : Int32) (v8 : Int32) (M : Mem), w_Model_foretell_L68 this Q k42 n v2 v4 v5 v6 v7 v8 M → E γ k_Model_foretell 132 68 [some (vr (some (11, this))), none, some (vi v2), none, some (vi v4), some (vi v5), some (vi v6), some (vi v7), some (vi v8), none] [] M (Qi Q) := by
  intro n
  induction n with
  | zero => intro v2 v4 v5 v6 v7 v8 M h; exact h.elim
  | succ n ih =>
    intro v2 v4 v5 v6 v7 v8 M h
    unfold w_Model_foretell_L68 at h
    refine E_blk (lv' := [some (vr (some (11, this))), none, some (vi v2), none, some (vi v4), some (vi v5), some (vi v6), some (vi v7), some (vi v8), none]) (st' := [vr (mR M 11 this 45), vi v8]) (M1 := M) (pc' := 74) (tb_Model hγ) [.iload 8, .aload_n 0, .getfield 522] (by decide +kernel) rfl rfl trivial ?_
    obtain ⟨i12, ei12, h⟩ := h
    rw [ei12]
    obtain ⟨c13, h⟩ := h
    refine E_blk (lv' := [some (vr (some (11, this))), none, some (vi v2), none, some (vi v4), some (vi v5), some (vi v6), some (vi v7), some (vi v8), none]) (st' := [vi (mI M 150 i12 v7.toNatClampNeg), vi v8]) (M1 := M) (pc' := 80) (tb_Model hγ) [.getfield 465, .iload 7, .iaload] (by decide +kernel) rfl rfl ⟨c13, trivial⟩ ?_
    refine E_icmp_ge (off := 79) (tgt := 159) (by decide +kernel) (by decide) (fun b14 => ?_) (fun b14 => ?_)
    · rw [if_pos b14] at h
      refine E_blk (lv' := [some (vr (some (11, this))), none, some (vi v2), none, some (vi v4), some (vi v5), some (vi (v6 + (1 : Int32))), some (vi v7), some (vi v8), none]) (st' := []) (M1 := M) (pc' := 162) (tb_Model hγ) [.iinc 6 1] (by decide +kernel) rfl rfl trivial ?_
      refine E_goto (off := -120) (tgt := 42) (by decide +kernel) (by decide) ?_
      refine E_mask [true, false, true, false, true, true, true, false, false, false] rfl ?_
      exact hk42 v2 v4 v5 (v6 + (1 : Int32)) M h
    · rw [if_neg b14] at h
      refine E_blk (lv' := [some (vr (some (11, this))), none, some (vi v2), none, some (vi v4), some (vi v5), some (vi v6), some (vi v7), some (vi v8), none]) (st' := [vr (mR M 11 this 45), vi v7, vr (some (11, this))]) (M1 := M) (pc' := 90) (tb_Model hγ) [.aload_n 0, .iload 7, .aload_n 0, .getfield 522] (by decide +kernel) rfl rfl trivial ?_
      obtain ⟨i15, ei15, h⟩ := h
      rw [ei15]
      obtain ⟨c16, h⟩ := h
      refine E_blk (lv' := [some (vr (some (11, this))), none, some (vi v2), none, some (vi v4), some (vi v5), some (vi v6), some (vi v7), some (vi v8), none]) (st' := [vi ((mI M 149 i15 v7.toNatClampNeg) + v8), vi v7, vr (some (11, this))]) (M1 := M) (pc' := 99) (tb_Model hγ) [.getfield 462, .iload 7, .iaload, .iload 8, .iadd] (by decide +kernel) rfl rfl ⟨c16, trivial⟩ ?_
      refine E_callV (κ' := k_Model_foretold) (As := [vi v7, vi ((mI M 149 i15 v7.toNatClampNeg) + v8)]) (st := []) mv_Model_foretold (Or.inl (tbk_mem (j := 17) (k := 145) rfl)) rfl (by decide +kernel) (Nat.le_of_ble_eq_true rfl) (Nat.le_of_ble_eq_true rfl) rfl (by decide) (lk_Model_foretold hγ this v7 ((mI M 149 i15 v7.toNatClampNeg) + v8) _ M h) (fun _ _ => Qi_r) (fun v M17 hp => Qi_k (R := fun st => E γ k_Model_foretell 132 102 [some (vr (some (11, this))), none, some (vi v2), none, some (vi v4), some (vi v5), some (vi v6), some (vi v7), some (vi v8), none] st M17 (Qi Q)) hp (fun r18 h => ?_))
      refine E_blk (lv' := [some (vr (some (11, this))), none, some (vi v2), none, some (vi v4), some (vi v5), some (vi v6), some (vi v7), some (vi v8), some (vi r18)]) (st' := [vi r18]) (M1 := M17) (pc' := 106) (tb_Model hγ) [.istore 9, .iload 9] (by decide +kernel) rfl rfl trivial ?_
      refine E_if_le (off := 32) (tgt := 138) (by decide +kernel) (by decide) (fun b19 => ?_) (fun b19 => ?_)
      · rw [if_pos b19] at h
        refine E_mask [true, false, true, false, true, true, true, true, true, true] rfl ?_
        exact lk_Model_foretell_j138 hγ this Q k42 (w_Model_foretell_L68 this Q k42 n) hk42 ih v2 v4 v5 v6 v7 v8 r18 M17 h
      · rw [if_neg b19] at h
        refine E_blk (lv' := [some (vr (some (11, this))), none, some (vi v2), none, some (vi v4), some (vi v5), some (vi v6), some (vi v7), some (vi v8), some (vi r18)]) (st' := [vi v5]) (M1 := M17) (pc' := 111) (tb_Model hγ) [.iload 5] (by decide +kernel) rfl rfl trivial ?_
        refine E_if_ne (off := 27) (tgt := 138) (by decide +kernel) (by decide) (fun b21 => ?_) (fun b21 => ?_)
        · rw [if_pos b21] at h
          refine E_blk (lv' := [some (vr (some (11, this))), none, some (vi v2), none, some (vi v4), some (vi v5), some (vi v6), some (vi v7), some (vi v8), some (vi r18)]) (st' := [vi v4]) (M1 := M17) (pc' := 116) (tb_Model hγ) [.iload 4] (by decide +kernel) rfl rfl trivial ?_
          refine E_if_ne (off := 8) (tgt := 124) (by decide +kernel) (by decide) (fun b22 => ?_) (fun b22 => ?_)
          · rw [if_pos b22] at h
            refine E_blk (lv' := [some (vr (some (11, this))), none, some (vi v2), none, some (vi v4), some (vi v5), some (vi v6), some (vi v7), some (vi v8), some (vi r18)]) (st' := [vi v6]) (M1 := M17) (pc' := 121) (tb_Model hγ) [.iload 6] (by decide +kernel) rfl rfl trivial ?_
            refine E_goto (off := 16) (tgt := 137) (by decide +kernel) (by decide) ?_
            exact E_iret rfl (by decide +kernel) h
          · rw [if_neg b22] at h
            refine E_blk (lv' := [some (vr (some (11, this))), none, some (vi v2), none, some (vi v4), some (vi v5), some (vi v6), some (vi v7), some (vi v8), some (vi r18)]) (st' := [vi (1 : Int32), vi v4]) (M1 := M17) (pc' := 127) (tb_Model hγ) [.iload 4, .iconst 1] (by decide +kernel) rfl rfl trivial ?_
            refine E_icmp_ne (off := 8) (tgt := 135) (by decide +kernel) (by decide) (fun b23 => ?_) (fun b23 => ?_)
            · rw [if_pos b23] at h
              refine E_blk (lv' := [some (vr (some (11, this))), none, some (vi v2), none, some (vi v4), some (vi v5), some (vi v6), some (vi v7), some (vi v8), some (vi r18)]) (st' := [vi v8]) (M1 := M17) (pc' := 132) (tb_Model hγ) [.iload 8] (by decide +kernel) rfl rfl trivial ?_
              refine E_goto (off := 5) (tgt := 137) (by decide +kernel) (by decide) ?_
              exact E_iret rfl (by decide +kernel) h
            · rw [if_neg b23] at h
              refine E_blk (lv' := [some (vr (some (11, this))), none, some (vi v2), none, some (vi v4), some (vi v5), some (vi v6), some (vi v7), some (vi v8), some (vi r18)]) (st' := [vi r18]) (M1 := M17) (pc' := 137) (tb_Model hγ) [.iload 9] (by decide +kernel) rfl rfl trivial ?_
              exact E_iret rfl (by decide +kernel) h
        · rw [if_neg b21] at h
          refine E_mask [true, false, true, false, true, true, true, true, true, true] rfl ?_
          exact lk_Model_foretell_j138 hγ this Q k42 (w_Model_foretell_L68 this Q k42 n) hk42 ih v2 v4 v5 v6 v7 v8 r18 M17 h
set_option maxRecDepth 4096 in
theorem lk_Model_foretell_L42 {γ : Gm} (hγ : Gk γ) (this : Nat) (Q : Int32 → Mem → Prop) : ∀ (n : Nat) (v2 : Int32) (v4 : Int32) (v5 : Int32) (v6 : Int32) (M : Mem), w_Model_foretell_L42 this Q n v2 v4 v5 v6 M → E γ k_Model_foretell 132 42 [some (vr (some (11, this))), none, some (vi v2), none, some (vi v4), some (vi v5), some (vi v6), none, none, none] [] M (Qi Q) := by
  intro n
  induction n with
  | zero => intro v2 v4 v5 v6 M h; exact h.elim
  | succ n ih =>
    intro v2 v4 v5 v6 M h
    unfold w_Model_foretell_L42 at h
    refine E_blk (lv' := [some (vr (some (11, this))), none, some (vi v2), none, some (vi v4), some (vi v5), some (vi v6), none, none, none]) (st' := [vr (mR M 11 this 45), vi v6]) (M1 := M) (pc' := 48) (tb_Model hγ) [.iload 6, .aload_n 0, .getfield 522] (by decide +kernel) rfl rfl trivial ?_
    obtain ⟨i9, ei9, h⟩ := h
    rw [ei9]
    obtain ⟨c10, h⟩ := h
    refine E_blk (lv' := [some (vr (some (11, this))), none, some (vi v2), none, some (vi v4), some (vi v5), some (vi v6), none, none, none]) (st' := [vi (mI M 136 i9 v2.toNatClampNeg), vi v6]) (M1 := M) (pc' := 53) (tb_Model hγ) [.getfield 438, .iload_n 2, .iaload] (by decide +kernel) rfl rfl ⟨c10, trivial⟩ ?_
    refine E_icmp_ge (off := 112) (tgt := 165) (by decide +kernel) (by decide) (fun b11 => ?_) (fun b11 => ?_)
    · rw [if_pos b11] at h
      refine E_blk (lv' := [some (vr (some (11, this))), none, some (vi v2), none, some (vi v4), some (vi v5), some (vi v6), none, none, none]) (st' := [vi (-2 : Int32)]) (M1 := M) (pc' := 167) (tb_Model hγ) [.bipush (.negSucc 1)] (by decide +kernel) rfl rfl trivial ?_
      exact E_iret rfl (by decide +kernel) h
    · rw [if_neg b11] at h
      refine E_blk (lv' := [some (vr (some (11, this))), none, some (vi v2), none, some (vi v4), some (vi v5), some (vi v6), some (vi (((12 : Int32) * v2) + v6)), some (vi (0 : Int32)), none]) (st' := []) (M1 := M) (pc' := 68) (tb_Model hγ) [.bipush 12, .iload_n 2, .imul, .iload 6, .iadd, .istore 7, .iconst 0, .istore 8] (by decide +kernel) rfl rfl trivial ?_
      obtain ⟨n24, h⟩ := h
      refine E_mask [true, false, true, false, true, true, true, true, true, false] rfl ?_
      exact lk_Model_foretell_L68 hγ this Q (w_Model_foretell_L42 this Q n) ih n24 v2 v4 v5 v6 (((12 : Int32) * v2) + v6) (0 : Int32) M h
set_option maxRecDepth 4096 in
theorem lk_Model_foretell {γ : Gm} (hγ : Gk γ) (this : Nat) (a1 : Int32) (a2 : Int32) (a3 : Int32) (a4 : Int32) (Q : Int32 → Mem → Prop) (M : Mem) (h : w_Model_foretell this a1 a2 a3 a4 Q M) : E γ k_Model_foretell 132 0 [some (vr (some (11, this))), some (vi a1), some (vi a2), some (vi a3), some (vi a4), none, none, none, none, none] [] M (Qi Q) := by
  unfold w_Model_foretell at h
  refine E_blk (lv' := [some (vr (some (11, this))), some (vi a1), some (vi a2), some (vi a3), some (vi a4), none, none, none, none, none]) (st' := [vi a2, vi a1, vr (some (11, this))]) (M1 := M) (pc' := 3) (tb_Model hγ) [.aload_n 0, .iload_n 1, .iload_n 2] (by decide +kernel) rfl rfl trivial ?_
  refine E_callV (κ' := k_Model_isClass) (As := [vi a1, vi a2]) (st := []) mv_Model_isClass (Or.inl (tbk_mem (j := 15) (k := 129) rfl)) rfl (by decide +kernel) (Nat.le_of_ble_eq_true rfl) (Nat.le_of_ble_eq_true rfl) rfl (by decide) (lk_Model_isClass hγ this a1 a2 _ M h) (fun _ _ => Qi_r) (fun v M1 hp => Qi_k (R := fun st => E γ k_Model_foretell 132 6 [some (vr (some (11, this))), some (vi a1), some (vi a2), some (vi a3), some (vi a4), none, none, none, none, none] st M1 (Qi Q)) hp (fun r2 h => ?_))
  refine E_if_eq (off := 18) (tgt := 24) (by decide +kernel) (by decide) (fun b3 => ?_) (fun b3 => ?_)
  · rw [if_pos b3] at h
    refine E_blk (lv' := [some (vr (some (11, this))), some (vi a1), some (vi a2), some (vi a3), some (vi a4), none, none, none, none, none]) (st' := [vi (-1 : Int32)]) (M1 := M1) (pc' := 25) (tb_Model hγ) [.iconst (.negSucc 0)] (by decide +kernel) rfl rfl trivial ?_
    exact E_iret rfl (by decide +kernel) h
  · rw [if_neg b3] at h
    refine E_blk (lv' := [some (vr (some (11, this))), some (vi a1), some (vi a2), some (vi a3), some (vi a4), none, none, none, none, none]) (st' := [vi a3]) (M1 := M1) (pc' := 10) (tb_Model hγ) [.iload_n 3] (by decide +kernel) rfl rfl trivial ?_
    refine E_if_lt (off := 14) (tgt := 24) (by decide +kernel) (by decide) (fun b4 => ?_) (fun b4 => ?_)
    · rw [if_pos b4] at h
      refine E_blk (lv' := [some (vr (some (11, this))), some (vi a1), some (vi a2), some (vi a3), some (vi a4), none, none, none, none, none]) (st' := [vi (-1 : Int32)]) (M1 := M1) (pc' := 25) (tb_Model hγ) [.iconst (.negSucc 0)] (by decide +kernel) rfl rfl trivial ?_
      exact E_iret rfl (by decide +kernel) h
    · rw [if_neg b4] at h
      refine E_blk (lv' := [some (vr (some (11, this))), some (vi a1), some (vi a2), some (vi a3), some (vi a4), none, none, none, none, none]) (st' := [vi a4]) (M1 := M1) (pc' := 15) (tb_Model hγ) [.iload 4] (by decide +kernel) rfl rfl trivial ?_
      refine E_if_lt (off := 9) (tgt := 24) (by decide +kernel) (by decide) (fun b5 => ?_) (fun b5 => ?_)
      · rw [if_pos b5] at h
        refine E_blk (lv' := [some (vr (some (11, this))), some (vi a1), some (vi a2), some (vi a3), some (vi a4), none, none, none, none, none]) (st' := [vi (-1 : Int32)]) (M1 := M1) (pc' := 25) (tb_Model hγ) [.iconst (.negSucc 0)] (by decide +kernel) rfl rfl trivial ?_
        exact E_iret rfl (by decide +kernel) h
      · rw [if_neg b5] at h
        refine E_blk (lv' := [some (vr (some (11, this))), some (vi a1), some (vi a2), some (vi a3), some (vi a4), none, none, none, none, none]) (st' := [vi (2 : Int32), vi a4]) (M1 := M1) (pc' := 21) (tb_Model hγ) [.iload 4, .iconst 2] (by decide +kernel) rfl rfl trivial ?_
        refine E_icmp_le (off := 5) (tgt := 26) (by decide +kernel) (by decide) (fun b6 => ?_) (fun b6 => ?_)
        · rw [if_pos b6] at h
          obtain ⟨c7, h⟩ := h
          refine E_blk (lv' := [some (vr (some (11, this))), some (vi a1), some (vi a2), some (vi a3), some (vi a4), none, none, none, none, none]) (st' := [vr (mR M1 703 0 a1.toNatClampNeg), vr (some (11, this))]) (M1 := M1) (pc' := 33) (tb_Model hγ) [.aload_n 0, .aload_n 0, .getfield 263, .iload_n 1, .aaload] (by decide +kernel) rfl rfl ⟨c7, trivial⟩ ?_
          obtain ⟨i8, ei8, h⟩ := h
          rw [ei8]
          refine E_blk (lv' := [some (vr (some (11, this))), some (vi a1), some (vi a2), some (vi a3), some (vi a4), some (vi a3), some (vi (0 : Int32)), none, none, none]) (st' := []) (M1 := (sR M1 11 this 45 (some (12, i8)))) (pc' := 42) (tb_Model hγ) [.putfield 522, .iload_n 3, .istore 5, .iconst 0, .istore 6] (by decide +kernel) rfl rfl trivial ?_
          obtain ⟨n25, h⟩ := h
          refine E_mask [true, false, true, false, true, true, true, false, false, false] rfl ?_
          exact lk_Model_foretell_L42 hγ this Q n25 a2 a4 a3 (0 : Int32) (sR M1 11 this 45 (some (12, i8))) h
        · rw [if_neg b6] at h
          refine E_blk (lv' := [some (vr (some (11, this))), some (vi a1), some (vi a2), some (vi a3), some (vi a4), none, none, none, none, none]) (st' := [vi (-1 : Int32)]) (M1 := M1) (pc' := 25) (tb_Model hγ) [.iconst (.negSucc 0)] (by decide +kernel) rfl rfl trivial ?_
          exact E_iret rfl (by decide +kernel) h
def w_Model_asked_j126 (this : Nat) (Q : Int32 → Mem → Prop) (v3 : Int32) (M : Mem) : Prop :=
  if 0 ≤ v3 then (¬ (12 : Int32) = 0 ∧ ¬ (12 : Int32) = 0 ∧ Q (((100 : Int32) * (v3 / (12 : Int32))) + (v3 - v3 / (12 : Int32) * (12 : Int32))) M) else (Q ((-100 : Int32) - (mI M 11 this 81)) M)
def w_Model_asked_j94 (this : Nat) (Q : Int32 → Mem → Prop) (v2 : Int32) (v3 : Int32) (M : Mem) : Prop :=
  if v3 < 0 then (w_Model_asked_j126 this Q v3 M) else (∃ i16, (mR M 11 this 45) = some (12, i16) ∧ vp_in v3 (mL M 146 i16) ∧ if ((mI M 146 i16 v3.toNatClampNeg) &&& (4 : Int32)) = 0 then (w_Model_dispatch this v2 (mI M 11 this 91) (mI M 11 this 92) (fun r20 M19 => w_Model_asked_j126 this Q r20 M19) M) else (w_Model_asked_j126 this Q v3 M))
def w_Model_asked (this : Nat) (a1 : Int32) (a2 : Int32) (Q : Int32 → Mem → Prop) (M : Mem) : Prop :=
  w_Model_isClass this a1 a2 (fun r2 M1 => if r2 = 0 then (Q (-1 : Int32) M1) else (w_Model_takesLine this (1 : Int32) (fun r5 M4 => if r5 = 0 then (Q (-11 : Int32) M4) else (vp_in a1 (mL M4 703 0) ∧ ∃ i8, (mR M4 703 0 a1.toNatClampNeg) = some (12, i8) ∧ w_Model_findMethod this (50 : Int32) (mI (sR M4 11 this 45 (some (12, i8))) 11 this 88) (mI (sR M4 11 this 45 (some (12, i8))) 11 this 91) (mI (sR M4 11 this 45 (some (12, i8))) 11 this 92) (-3 : Int32) (fun r10 M9 => if r10 < 0 then (w_Model_asked_j94 this Q a2 r10 M9) else (w_Model_isLinked this a2 (fun r22 M21 => if r22 = 0 then (∃ i24, (mR M21 11 this 45) = some (12, i24) ∧ vp_in a2 (mL M21 138 i24) ∧ ¬ (100 : Int32) = 0 ∧ ∃ i27, (mR M21 11 this 45) = some (12, i27) ∧ vp_in a2 (mL M21 138 i27) ∧ ¬ (100 : Int32) = 0 ∧ w_Model_fails this ((mI M21 138 i24 a2.toNatClampNeg) / (100 : Int32)) ((mI M21 138 i27 a2.toNatClampNeg) - (mI M21 138 i27 a2.toNatClampNeg) / (100 : Int32) * (100 : Int32)) (fun r31 M30 => w_Model_asked_j94 this Q a2 r31 M30) M21) else (w_Model_asked_j94 this Q a2 r10 M21)) M9)) (sR M4 11 this 45 (some (12, i8))))) M1)) M
set_option maxRecDepth 4096 in
theorem lk_Model_asked_j126 {γ : Gm} (hγ : Gk γ) (this : Nat) (Q : Int32 → Mem → Prop) (v3 : Int32) (M : Mem) (h : w_Model_asked_j126 this Q v3 M) : E γ k_Model_asked 131 126 [some (vr (some (11, this))), none, none, some (vi v3)] [] M (Qi Q) := by
  unfold w_Model_asked_j126 at h
  refine E_blk (lv' := [some (vr (some (11, this))), none, none, some (vi v3)]) (st' := [vi v3]) (M1 := M) (pc' := 127) (tb_Model hγ) [.iload_n 3] (by decide +kernel) rfl rfl trivial ?_
  refine E_if_ge (off := 13) (tgt := 140) (by decide +kernel) (by decide) (fun b13 => ?_) (fun b13 => ?_)
  · rw [if_pos b13] at h
    obtain ⟨c14, c15, h⟩ := h
    refine E_blk (lv' := [some (vr (some (11, this))), none, none, some (vi v3)]) (st' := [vi (((100 : Int32) * (v3 / (12 : Int32))) + (v3 - v3 / (12 : Int32) * (12 : Int32)))]) (M1 := M) (pc' := 152) (tb_Model hγ) [.bipush 100, .iload_n 3, .bipush 12, .idiv, .imul, .iload_n 3, .bipush 12, .irem, .iadd] (by decide +kernel) rfl rfl ⟨c14, c15, trivial⟩ ?_
    exact E_iret rfl (by decide +kernel) h
  · rw [if_neg b13] at h
    refine E_blk (lv' := [some (vr (some (11, this))), none, none, some (vi v3)]) (st' := [vi ((-100 : Int32) - (mI M 11 this 81))]) (M1 := M) (pc' := 137) (tb_Model hγ) [.bipush (.negSucc 99), .aload_n 0, .getfield 844, .isub] (by decide +kernel) rfl rfl trivial ?_
    refine E_goto (off := 15) (tgt := 152) (by decide +kernel) (by decide) ?_
    exact E_iret rfl (by decide +kernel) h
set_option maxRecDepth 4096 in
theorem lk_Model_asked_j94 {γ : Gm} (hγ : Gk γ) (this : Nat) (Q : Int32 → Mem → Prop) (v2 : Int32) (v3 : Int32) (M : Mem) (h : w_Model_asked_j94 this Q v2 v3 M) : E γ k_Model_asked 131 94 [some (vr (some (11, this))), none, some (vi v2), some (vi v3)] [] M (Qi Q) := by
  unfold w_Model_asked_j94 at h
  refine E_blk (lv' := [some (vr (some (11, this))), none, some (vi v2), some (vi v3)]) (st' := [vi v3]) (M1 := M) (pc' := 95) (tb_Model hγ) [.iload_n 3] (by decide +kernel) rfl rfl trivial ?_
  refine E_if_lt (off := 31) (tgt := 126) (by decide +kernel) (by decide) (fun b12 => ?_) (fun b12 => ?_)
  · rw [if_pos b12] at h
    refine E_mask [true, false, false, true] rfl ?_
    exact lk_Model_asked_j126 hγ this Q v3 M h
  · rw [if_neg b12] at h
    refine E_blk (lv' := [some (vr (some (11, this))), none, some (vi v2), some (vi v3)]) (st' := [vr (mR M 11 this 45)]) (M1 := M) (pc' := 102) (tb_Model hγ) [.aload_n 0, .getfield 522] (by decide +kernel) rfl rfl trivial ?_
    obtain ⟨i16, ei16, h⟩ := h
    rw [ei16]
    obtain ⟨c17, h⟩ := h
    refine E_blk (lv' := [some (vr (some (11, this))), none, some (vi v2), some (vi v3)]) (st' := [vi ((mI M 146 i16 v3.toNatClampNeg) &&& (4 : Int32))]) (M1 := M) (pc' := 109) (tb_Model hγ) [.getfield 453, .iload_n 3, .iaload, .iconst 4, .iand] (by decide +kernel) rfl rfl ⟨c17, trivial⟩ ?_
    refine E_if_ne (off := 17) (tgt := 126) (by decide +kernel) (by decide) (fun b18 => ?_) (fun b18 => ?_)
    · rw [if_pos b18] at h
      refine E_blk (lv' := [some (vr (some (11, this))), none, some (vi v2), some (vi v3)]) (st' := [vi (mI M 11 this 92), vi (mI M 11 this 91), vi v2, vr (some (11, this))]) (M1 := M) (pc' := 122) (tb_Model hγ) [.aload_n 0, .iload_n 2, .aload_n 0, .getfield 1147, .aload_n 0, .getfield 1150] (by decide +kernel) rfl rfl trivial ?_
      refine E_callV (κ' := k_Model_dispatch) (As := [vi v2, vi (mI M 11 this 91), vi (mI M 11 this 92)]) (st := []) mv_Model_dispatch (Or.inl (tbk_mem (j := 16) (k := 195) rfl)) rfl (by decide +kernel) (Nat.le_of_ble_eq_true rfl) (Nat.le_of_ble_eq_true rfl) rfl (by decide) (lk_Model_dispatch hγ this v2 (mI M 11 this 91) (mI M 11 this 92) _ M h) (fun _ _ => Qi_r) (fun v M19 hp => Qi_k (R := fun st => E γ k_Model_asked 131 125 [some (vr (some (11, this))), none, some (vi v2), some (vi v3)] st M19 (Qi Q)) hp (fun r20 h => ?_))
      refine E_blk (lv' := [some (vr (some (11, this))), none, some (vi v2), some (vi r20)]) (st' := []) (M1 := M19) (pc' := 126) (tb_Model hγ) [.istore_n 3] (by decide +kernel) rfl rfl trivial ?_
      refine E_mask [true, false, false, true] rfl ?_
      exact lk_Model_asked_j126 hγ this Q r20 M19 h
    · rw [if_neg b18] at h
      refine E_mask [true, false, false, true] rfl ?_
      exact lk_Model_asked_j126 hγ this Q v3 M h
set_option maxRecDepth 4096 in
theorem lk_Model_asked {γ : Gm} (hγ : Gk γ) (this : Nat) (a1 : Int32) (a2 : Int32) (Q : Int32 → Mem → Prop) (M : Mem) (h : w_Model_asked this a1 a2 Q M) : E γ k_Model_asked 131 0 [some (vr (some (11, this))), some (vi a1), some (vi a2), none] [] M (Qi Q) := by
  unfold w_Model_asked at h
  refine E_blk (lv' := [some (vr (some (11, this))), some (vi a1), some (vi a2), none]) (st' := [vi a2, vi a1, vr (some (11, this))]) (M1 := M) (pc' := 3) (tb_Model hγ) [.aload_n 0, .iload_n 1, .iload_n 2] (by decide +kernel) rfl rfl trivial ?_
  refine E_callV (κ' := k_Model_isClass) (As := [vi a1, vi a2]) (st := []) mv_Model_isClass (Or.inl (tbk_mem (j := 15) (k := 129) rfl)) rfl (by decide +kernel) (Nat.le_of_ble_eq_true rfl) (Nat.le_of_ble_eq_true rfl) rfl (by decide) (lk_Model_isClass hγ this a1 a2 _ M h) (fun _ _ => Qi_r) (fun v M1 hp => Qi_k (R := fun st => E γ k_Model_asked 131 6 [some (vr (some (11, this))), some (vi a1), some (vi a2), none] st M1 (Qi Q)) hp (fun r2 h => ?_))
  refine E_if_ne (off := 5) (tgt := 11) (by decide +kernel) (by decide) (fun b3 => ?_) (fun b3 => ?_)
  · rw [if_pos b3] at h
    refine E_blk (lv' := [some (vr (some (11, this))), some (vi a1), some (vi a2), none]) (st' := [vi (-1 : Int32)]) (M1 := M1) (pc' := 10) (tb_Model hγ) [.iconst (.negSucc 0)] (by decide +kernel) rfl rfl trivial ?_
    exact E_iret rfl (by decide +kernel) h
  · rw [if_neg b3] at h
    refine E_blk (lv' := [some (vr (some (11, this))), some (vi a1), some (vi a2), none]) (st' := [vi (1 : Int32), vr (some (11, this))]) (M1 := M1) (pc' := 13) (tb_Model hγ) [.aload_n 0, .iconst 1] (by decide +kernel) rfl rfl trivial ?_
    refine E_callV (κ' := k_Model_takesLine) (As := [vi (1 : Int32)]) (st := []) mv_Model_takesLine (Or.inl (tbk_mem (j := 16) (k := 26) rfl)) rfl (by decide +kernel) (Nat.le_of_ble_eq_true rfl) (Nat.le_of_ble_eq_true rfl) rfl (by decide) (lk_Model_takesLine hγ this (1 : Int32) _ M1 h) (fun _ _ => Qi_r) (fun v M4 hp => Qi_k (R := fun st => E γ k_Model_asked 131 16 [some (vr (some (11, this))), some (vi a1), some (vi a2), none] st M4 (Qi Q)) hp (fun r5 h => ?_))
    refine E_if_ne (off := 6) (tgt := 22) (by decide +kernel) (by decide) (fun b6 => ?_) (fun b6 => ?_)
    · rw [if_pos b6] at h
      refine E_blk (lv' := [some (vr (some (11, this))), some (vi a1), some (vi a2), none]) (st' := [vi (-11 : Int32)]) (M1 := M4) (pc' := 21) (tb_Model hγ) [.bipush (.negSucc 10)] (by decide +kernel) rfl rfl trivial ?_
      exact E_iret rfl (by decide +kernel) h
    · rw [if_neg b6] at h
      obtain ⟨c7, h⟩ := h
      refine E_blk (lv' := [some (vr (some (11, this))), some (vi a1), some (vi a2), none]) (st' := [vr (mR M4 703 0 a1.toNatClampNeg), vr (some (11, this))]) (M1 := M4) (pc' := 29) (tb_Model hγ) [.aload_n 0, .aload_n 0, .getfield 263, .iload_n 1, .aaload] (by decide +kernel) rfl rfl ⟨c7, trivial⟩ ?_
      obtain ⟨i8, ei8, h⟩ := h
      rw [ei8]
      refine E_blk (lv' := [some (vr (some (11, this))), some (vi a1), some (vi a2), none]) (st' := [vi (-3 : Int32), vi (mI (sR M4 11 this 45 (some (12, i8))) 11 this 92), vi (mI (sR M4 11 this 45 (some (12, i8))) 11 this 91), vi (mI (sR M4 11 this 45 (some (12, i8))) 11 this 88), vi (50 : Int32), vr (some (11, this))]) (M1 := (sR M4 11 this 45 (some (12, i8)))) (pc' := 49) (tb_Model hγ) [.putfield 522, .aload_n 0, .bipush 50, .aload_n 0, .getfield 1132, .aload_n 0, .getfield 1147, .aload_n 0, .getfield 1150, .bipush (.negSucc 2)] (by decide +kernel) rfl rfl trivial ?_
      refine E_callV (κ' := k_Model_findMethod) (As := [vi (50 : Int32), vi (mI (sR M4 11 this 45 (some (12, i8))) 11 this 88), vi (mI (sR M4 11 this 45 (some (12, i8))) 11 this 91), vi (mI (sR M4 11 this 45 (some (12, i8))) 11 this 92), vi (-3 : Int32)]) (st := []) mv_Model_findMethod (Or.inl (tbk_mem (j := 16) (k := 79) rfl)) rfl (by decide +kernel) (Nat.le_of_ble_eq_true rfl) (Nat.le_of_ble_eq_true rfl) rfl (by decide) (lk_Model_findMethod hγ this (50 : Int32) (mI (sR M4 11 this 45 (some (12, i8))) 11 this 88) (mI (sR M4 11 this 45 (some (12, i8))) 11 this 91) (mI (sR M4 11 this 45 (some (12, i8))) 11 this 92) (-3 : Int32) _ (sR M4 11 this 45 (some (12, i8))) h) (fun _ _ => Qi_r) (fun v M9 hp => Qi_k (R := fun st => E γ k_Model_asked 131 52 [some (vr (some (11, this))), some (vi a1), some (vi a2), none] st M9 (Qi Q)) hp (fun r10 h => ?_))
      refine E_blk (lv' := [some (vr (some (11, this))), some (vi a1), some (vi a2), some (vi r10)]) (st' := [vi r10]) (M1 := M9) (pc' := 54) (tb_Model hγ) [.istore_n 3, .iload_n 3] (by decide +kernel) rfl rfl trivial ?_
      refine E_if_lt (off := 40) (tgt := 94) (by decide +kernel) (by decide) (fun b11 => ?_) (fun b11 => ?_)
      · rw [if_pos b11] at h
        refine E_mask [true, false, true, true] rfl ?_
        exact lk_Model_asked_j94 hγ this Q a2 r10 M9 h
      · rw [if_neg b11] at h
        refine E_blk (lv' := [some (vr (some (11, this))), some (vi a1), some (vi a2), some (vi r10)]) (st' := [vi a2, vr (some (11, this))]) (M1 := M9) (pc' := 59) (tb_Model hγ) [.aload_n 0, .iload_n 2] (by decide +kernel) rfl rfl trivial ?_
        refine E_callV (κ' := k_Model_isLinked) (As := [vi a2]) (st := []) mv_Model_isLinked (Or.inl (tbk_mem (j := 15) (k := 145) rfl)) rfl (by decide +kernel) (Nat.le_of_ble_eq_true rfl) (Nat.le_of_ble_eq_true rfl) rfl (by decide) (lk_Model_isLinked hγ this a2 _ M9 h) (fun _ _ => Qi_r) (fun v M21 hp => Qi_k (R := fun st => E γ k_Model_asked 131 62 [some (vr (some (11, this))), some (vi a1), some (vi a2), some (vi r10)] st M21 (Qi Q)) hp (fun r22 h => ?_))
        refine E_if_ne (off := 32) (tgt := 94) (by decide +kernel) (by decide) (fun b23 => ?_) (fun b23 => ?_)
        · rw [if_pos b23] at h
          refine E_blk (lv' := [some (vr (some (11, this))), some (vi a1), some (vi a2), some (vi r10)]) (st' := [vr (mR M21 11 this 45), vr (some (11, this))]) (M1 := M21) (pc' := 70) (tb_Model hγ) [.aload_n 0, .aload_n 0, .getfield 522] (by decide +kernel) rfl rfl trivial ?_
          obtain ⟨i24, ei24, h⟩ := h
          rw [ei24]
          obtain ⟨c25, c26, h⟩ := h
          refine E_blk (lv' := [some (vr (some (11, this))), some (vi a1), some (vi a2), some (vi r10)]) (st' := [vr (mR M21 11 this 45), vi ((mI M21 138 i24 a2.toNatClampNeg) / (100 : Int32)), vr (some (11, this))]) (M1 := M21) (pc' := 82) (tb_Model hγ) [.getfield 444, .iload_n 2, .iaload, .bipush 100, .idiv, .aload_n 0, .getfield 522] (by decide +kernel) rfl rfl ⟨c25, c26, trivial⟩ ?_
          obtain ⟨i27, ei27, h⟩ := h
          rw [ei27]
          obtain ⟨c28, c29, h⟩ := h
          refine E_blk (lv' := [some (vr (some (11, this))), some (vi a1), some (vi a2), some (vi r10)]) (st' := [vi ((mI M21 138 i27 a2.toNatClampNeg) - (mI M21 138 i27 a2.toNatClampNeg) / (100 : Int32) * (100 : Int32)), vi ((mI M21 138 i24 a2.toNatClampNeg) / (100 : Int32)), vr (some (11, this))]) (M1 := M21) (pc' := 90) (tb_Model hγ) [.getfield 444, .iload_n 2, .iaload, .bipush 100, .irem] (by decide +kernel) rfl rfl ⟨c28, c29, trivial⟩ ?_
          refine E_callV (κ' := k_Model_fails) (As := [vi ((mI M21 138 i24 a2.toNatClampNeg) / (100 : Int32)), vi ((mI M21 138 i27 a2.toNatClampNeg) - (mI M21 138 i27 a2.toNatClampNeg) / (100 : Int32) * (100 : Int32))]) (st := []) mv_Model_fails (Or.inl (tbk_mem (j := 16) (k := 87) rfl)) rfl (by decide +kernel) (Nat.le_of_ble_eq_true rfl) (Nat.le_of_ble_eq_true rfl) rfl (by decide) (lk_Model_fails hγ this ((mI M21 138 i24 a2.toNatClampNeg) / (100 : Int32)) ((mI M21 138 i27 a2.toNatClampNeg) - (mI M21 138 i27 a2.toNatClampNeg) / (100 : Int32) * (100 : Int32)) _ M21 h) (fun _ _ => Qi_r) (fun v M30 hp => Qi_k (R := fun st => E γ k_Model_asked 131 93 [some (vr (some (11, this))), some (vi a1), some (vi a2), some (vi r10)] st M30 (Qi Q)) hp (fun r31 h => ?_))
          refine E_blk (lv' := [some (vr (some (11, this))), some (vi a1), some (vi a2), some (vi r31)]) (st' := []) (M1 := M30) (pc' := 94) (tb_Model hγ) [.istore_n 3] (by decide +kernel) rfl rfl trivial ?_
          refine E_mask [true, false, true, true] rfl ?_
          exact lk_Model_asked_j94 hγ this Q a2 r31 M30 h
        · rw [if_neg b23] at h
          refine E_mask [true, false, true, true] rfl ?_
          exact lk_Model_asked_j94 hγ this Q a2 r10 M21 h
def w_Model_addReached (this : Nat) (a1 : Int32) (Q : Mem → Prop) (M : Mem) : Prop :=
  ¬ (12 : Int32) = 0 ∧ if (a1 / (12 : Int32)) < (21 : Int32) then (Q M) else (vp_in a1 (mL M 520 this) ∧ if (mI M 520 this a1.toNatClampNeg) = 0 then (vp_in a1 (mL M 520 this) ∧ vp_in (mI (sI M 520 this a1.toNatClampNeg ((1 : Int32) &&& 1)) 11 this 109) (mL (sI M 520 this a1.toNatClampNeg ((1 : Int32) &&& 1)) 119 this) ∧ ∃ M7, M7 = (sI (sI M 520 this a1.toNatClampNeg ((1 : Int32) &&& 1)) 119 this (mI (sI M 520 this a1.toNatClampNeg ((1 : Int32) &&& 1)) 11 this 109).toNatClampNeg a1) ∧ Q (sI M7 11 this 109 ((mI M7 11 this 109) + (1 : Int32)))) else (Q M))
set_option maxRecDepth 4096 in
theorem lk_Model_addReached {γ : Gm} (hγ : Gk γ) (this : Nat) (a1 : Int32) (Q : Mem → Prop) (M : Mem) (h : w_Model_addReached this a1 Q M) : E γ k_Model_addReached 0 0 [some (vr (some (11, this))), some (vi a1)] [] M (Qv Q) := by
  unfold w_Model_addReached at h
  obtain ⟨c1, h⟩ := h
  refine E_blk (lv' := [some (vr (some (11, this))), some (vi a1)]) (st' := [vi (21 : Int32), vi (a1 / (12 : Int32))]) (M1 := M) (pc' := 6) (tb_Model hγ) [.iload_n 1, .bipush 12, .idiv, .bipush 21] (by decide +kernel) rfl rfl ⟨c1, trivial⟩ ?_
  refine E_icmp_lt (off := 39) (tgt := 45) (by decide +kernel) (by decide) (fun b2 => ?_) (fun b2 => ?_)
  · rw [if_pos b2] at h
    exact E_vret rfl (by decide +kernel) h
  · rw [if_neg b2] at h
    obtain ⟨c3, h⟩ := h
    refine E_blk (lv' := [some (vr (some (11, this))), some (vi a1)]) (st' := [vi (mI M 520 this a1.toNatClampNeg)]) (M1 := M) (pc' := 15) (tb_Model hγ) [.aload_n 0, .getfield 353, .iload_n 1, .baload] (by decide +kernel) rfl rfl ⟨c3, trivial⟩ ?_
    refine E_if_ne (off := 30) (tgt := 45) (by decide +kernel) (by decide) (fun b4 => ?_) (fun b4 => ?_)
    · rw [if_pos b4] at h
      obtain ⟨c5, c6, h⟩ := h
      refine E_blk (lv' := [some (vr (some (11, this))), some (vi a1)]) (st' := []) (M1 := (sI (sI M 520 this a1.toNatClampNeg ((1 : Int32) &&& 1)) 119 this (mI (sI M 520 this a1.toNatClampNeg ((1 : Int32) &&& 1)) 11 this 109).toNatClampNeg a1)) (pc' := 35) (tb_Model hγ) [.aload_n 0, .getfield 353, .iload_n 1, .iconst 1, .bastore, .aload_n 0, .getfield 350, .aload_n 0, .getfield 1288, .iload_n 1, .iastore] (by decide +kernel) rfl rfl ⟨c5, c6, trivial⟩ ?_
      obtain ⟨M7, eM7, h⟩ := h
      rw [← eM7]
      refine E_blk (lv' := [some (vr (some (11, this))), some (vi a1)]) (st' := []) (M1 := (sI M7 11 this 109 ((mI M7 11 this 109) + (1 : Int32)))) (pc' := 45) (tb_Model hγ) [.aload_n 0, .dup, .getfield 1288, .iconst 1, .iadd, .putfield 1288] (by decide +kernel) rfl rfl trivial ?_
      exact E_vret rfl (by decide +kernel) h
    · rw [if_neg b4] at h
      exact E_vret rfl (by decide +kernel) h
def w_Model_addStarts_j66 (this : Nat) (Q : Mem → Prop) (k2 : Int32 → Mem → Prop) (s0 : Int32) (M : Mem) : Prop :=
  k2 s0 M
def w_Model_addStarts_j42 (this : Nat) (Q : Mem → Prop) (k2 : Int32 → Mem → Prop) (v2 : Int32) (M : Mem) : Prop :=
  ∃ i8, (mR M 11 this 45) = some (12, i8) ∧ vp_in v2 (mL M 132 i8) ∧ if ((mI M 132 i8 v2.toNatClampNeg) &&& (4 : Int32)) = 0 then (w_Model_parentOf this v2 (fun r12 M11 => w_Model_addStarts_j66 this Q k2 r12 M11) M) else (w_Model_addStarts_j66 this Q k2 (-2 : Int32) M)
def w_Model_addStarts_L2 (this : Nat) (Q : Mem → Prop) : Nat → Int32 → Mem → Prop
  | 0, _, _ => False
  | n + 1, v2, M => if v2 < 0 then (Q M) else (∃ i2, (mR M 11 this 45) = some (12, i2) ∧ vp_in v2 (mL M 137 i2) ∧ if (mI M 137 i2 v2.toNatClampNeg) = (2 : Int32) then (Q M) else (w_Model_methodIn this v2 (mI M 11 this 7) (mI M 11 this 38) (fun r6 M5 => if r6 < 0 then (w_Model_addStarts_j42 this Q (w_Model_addStarts_L2 this Q n) v2 M5) else (w_Model_addReached this r6 (fun M13 => w_Model_addStarts_j42 this Q (w_Model_addStarts_L2 this Q n) v2 M13) M5)) M))
def w_Model_addStarts (this : Nat) (a1 : Int32) (Q : Mem → Prop) (M : Mem) : Prop :=
  ∃ n14 : Nat, w_Model_addStarts_L2 this Q n14 a1 M
set_option maxRecDepth 4096 in
theorem lk_Model_addStarts_j66 {γ : Gm} (hγ : Gk γ) (this : Nat) (Q : Mem → Prop) (k2 : Int32 → Mem → Prop) (hk2 : ∀ (v2 : Int32) (M : Mem), k2 v2 M → E γ k_Model_addStarts 2 2 [some (vr (some (11, this))), none, some (vi v2), none] [] M (Qv Q)) (s0 : Int32) (M : Mem) (h : w_Model_addStarts_j66 this Q k2 s0 M) : E γ k_Model_addStarts 2 66 [some (vr (some (11, this))), none, none, none] [vi s0] M (Qv Q) := by
  unfold w_Model_addStarts_j66 at h
  refine E_blk (lv' := [some (vr (some (11, this))), none, some (vi s0), none]) (st' := []) (M1 := M) (pc' := 67) (tb_Model hγ) [.istore_n 2] (by decide +kernel) rfl rfl trivial ?_
  refine E_goto (off := -65) (tgt := 2) (by decide +kernel) (by decide) ?_
  refine E_mask [true, false, true, false] rfl ?_
  exact hk2 s0 M h
set_option maxRecDepth 4096 in
theorem lk_Model_addStarts_j42 {γ : Gm} (hγ : Gk γ) (this : Nat) (Q : Mem → Prop) (k2 : Int32 → Mem → Prop) (hk2 : ∀ (v2 : Int32) (M : Mem), k2 v2 M → E γ k_Model_addStarts 2 2 [some (vr (some (11, this))), none, some (vi v2), none] [] M (Qv Q)) (v2 : Int32) (M : Mem) (h : w_Model_addStarts_j42 this Q k2 v2 M) : E γ k_Model_addStarts 2 42 [some (vr (some (11, this))), none, some (vi v2), none] [] M (Qv Q) := by
  unfold w_Model_addStarts_j42 at h
  refine E_blk (lv' := [some (vr (some (11, this))), none, some (vi v2), none]) (st' := [vr (mR M 11 this 45)]) (M1 := M) (pc' := 46) (tb_Model hγ) [.aload_n 0, .getfield 522] (by decide +kernel) rfl rfl trivial ?_
  obtain ⟨i8, ei8, h⟩ := h
  rw [ei8]
  obtain ⟨c9, h⟩ := h
  refine E_blk (lv' := [some (vr (some (11, this))), none, some (vi v2), none]) (st' := [vi ((mI M 132 i8 v2.toNatClampNeg) &&& (4 : Int32))]) (M1 := M) (pc' := 53) (tb_Model hγ) [.getfield 429, .iload_n 2, .iaload, .iconst 4, .iand] (by decide +kernel) rfl rfl ⟨c9, trivial⟩ ?_
  refine E_if_eq (off := 8) (tgt := 61) (by decide +kernel) (by decide) (fun b10 => ?_) (fun b10 => ?_)
  · rw [if_pos b10] at h
    refine E_blk (lv' := [some (vr (some (11, this))), none, some (vi v2), none]) (st' := [vi v2, vr (some (11, this))]) (M1 := M) (pc' := 63) (tb_Model hγ) [.aload_n 0, .iload_n 2] (by decide +kernel) rfl rfl trivial ?_
    refine E_callV (κ' := k_Model_parentOf) (As := [vi v2]) (st := []) mv_Model_parentOf (Or.inl (tbk_mem (j := 15) (k := 157) rfl)) rfl (by decide +kernel) (Nat.le_of_ble_eq_true rfl) (Nat.le_of_ble_eq_true rfl) rfl (by decide) (lk_Model_parentOf hγ this v2 _ M h) (fun _ _ => Qi_r) (fun v M11 hp => Qi_k (R := fun st => E γ k_Model_addStarts 2 66 [some (vr (some (11, this))), none, some (vi v2), none] st M11 (Qv Q)) hp (fun r12 h => ?_))
    refine E_mask [true, false, false, false] rfl ?_
    exact lk_Model_addStarts_j66 hγ this Q k2 hk2 r12 M11 h
  · rw [if_neg b10] at h
    refine E_blk (lv' := [some (vr (some (11, this))), none, some (vi v2), none]) (st' := [vi (-2 : Int32)]) (M1 := M) (pc' := 58) (tb_Model hγ) [.bipush (.negSucc 1)] (by decide +kernel) rfl rfl trivial ?_
    refine E_goto (off := 8) (tgt := 66) (by decide +kernel) (by decide) ?_
    refine E_mask [true, false, false, false] rfl ?_
    exact lk_Model_addStarts_j66 hγ this Q k2 hk2 (-2 : Int32) M h
set_option maxRecDepth 4096 in
theorem lk_Model_addStarts_L2 {γ : Gm} (hγ : Gk γ) (this : Nat) (Q : Mem → Prop) : ∀ (n : Nat) (v2 : Int32) (M : Mem), w_Model_addStarts_L2 this Q n v2 M → E γ k_Model_addStarts 2 2 [some (vr (some (11, this))), none, some (vi v2), none] [] M (Qv Q) := by
  intro n
  induction n with
  | zero => intro v2 M h; exact h.elim
  | succ n ih =>
    intro v2 M h
    unfold w_Model_addStarts_L2 at h
    refine E_blk (lv' := [some (vr (some (11, this))), none, some (vi v2), none]) (st' := [vi v2]) (M1 := M) (pc' := 3) (tb_Model hγ) [.iload_n 2] (by decide +kernel) rfl rfl trivial ?_
    refine E_if_lt (off := 67) (tgt := 70) (by decide +kernel) (by decide) (fun b1 => ?_) (fun b1 => ?_)
    · rw [if_pos b1] at h
      exact E_vret rfl (by decide +kernel) h
    · rw [if_neg b1] at h
      refine E_blk (lv' := [some (vr (some (11, this))), none, some (vi v2), none]) (st' := [vr (mR M 11 this 45)]) (M1 := M) (pc' := 10) (tb_Model hγ) [.aload_n 0, .getfield 522] (by decide +kernel) rfl rfl trivial ?_
      obtain ⟨i2, ei2, h⟩ := h
      rw [ei2]
      obtain ⟨c3, h⟩ := h
      refine E_blk (lv' := [some (vr (some (11, this))), none, some (vi v2), none]) (st' := [vi (2 : Int32), vi (mI M 137 i2 v2.toNatClampNeg)]) (M1 := M) (pc' := 16) (tb_Model hγ) [.getfield 441, .iload_n 2, .iaload, .iconst 2] (by decide +kernel) rfl rfl ⟨c3, trivial⟩ ?_
      refine E_icmp_eq (off := 54) (tgt := 70) (by decide +kernel) (by decide) (fun b4 => ?_) (fun b4 => ?_)
      · rw [if_pos b4] at h
        exact E_vret rfl (by decide +kernel) h
      · rw [if_neg b4] at h
        refine E_blk (lv' := [some (vr (some (11, this))), none, some (vi v2), none]) (st' := [vi (mI M 11 this 38), vi (mI M 11 this 7), vi v2, vr (some (11, this))]) (M1 := M) (pc' := 29) (tb_Model hγ) [.aload_n 0, .iload_n 2, .aload_n 0, .getfield 127, .aload_n 0, .getfield 258] (by decide +kernel) rfl rfl trivial ?_
        refine E_callV (κ' := k_Model_methodIn) (As := [vi v2, vi (mI M 11 this 7), vi (mI M 11 this 38)]) (st := []) mv_Model_methodIn (Or.inl (tbk_mem (j := 15) (k := 165) rfl)) rfl (by decide +kernel) (Nat.le_of_ble_eq_true rfl) (Nat.le_of_ble_eq_true rfl) rfl (by decide) (lk_Model_methodIn hγ this v2 (mI M 11 this 7) (mI M 11 this 38) _ M h) (fun _ _ => Qi_r) (fun v M5 hp => Qi_k (R := fun st => E γ k_Model_addStarts 2 32 [some (vr (some (11, this))), none, some (vi v2), none] st M5 (Qv Q)) hp (fun r6 h => ?_))
        refine E_blk (lv' := [some (vr (some (11, this))), none, some (vi v2), some (vi r6)]) (st' := [vi r6]) (M1 := M5) (pc' := 34) (tb_Model hγ) [.istore_n 3, .iload_n 3] (by decide +kernel) rfl rfl trivial ?_
        refine E_if_lt (off := 8) (tgt := 42) (by decide +kernel) (by decide) (fun b7 => ?_) (fun b7 => ?_)
        · rw [if_pos b7] at h
          refine E_mask [true, false, true, false] rfl ?_
          exact lk_Model_addStarts_j42 hγ this Q (w_Model_addStarts_L2 this Q n) ih v2 M5 h
        · rw [if_neg b7] at h
          refine E_blk (lv' := [some (vr (some (11, this))), none, some (vi v2), some (vi r6)]) (st' := [vi r6, vr (some (11, this))]) (M1 := M5) (pc' := 39) (tb_Model hγ) [.aload_n 0, .iload_n 3] (by decide +kernel) rfl rfl trivial ?_
          refine E_callV (κ' := k_Model_addReached) (As := [vi r6]) (st := []) mv_Model_addReached (Or.inl (tbk_mem (j := 17) (k := 165) rfl)) rfl (by decide +kernel) (Nat.le_of_ble_eq_true rfl) (Nat.le_of_ble_eq_true rfl) rfl (by decide) (lk_Model_addReached hγ this r6 _ M5 h) (fun _ _ => Qv_r) (fun v M13 hp => Qv_k (R := fun st => E γ k_Model_addStarts 2 42 [some (vr (some (11, this))), none, some (vi v2), some (vi r6)] st M13 (Qv Q)) hp (fun h => ?_))
          refine E_mask [true, false, true, false] rfl ?_
          exact lk_Model_addStarts_j42 hγ this Q (w_Model_addStarts_L2 this Q n) ih v2 M13 h
set_option maxRecDepth 4096 in
theorem lk_Model_addStarts {γ : Gm} (hγ : Gk γ) (this : Nat) (a1 : Int32) (Q : Mem → Prop) (M : Mem) (h : w_Model_addStarts this a1 Q M) : E γ k_Model_addStarts 2 0 [some (vr (some (11, this))), some (vi a1), none, none] [] M (Qv Q) := by
  unfold w_Model_addStarts at h
  refine E_blk (lv' := [some (vr (some (11, this))), some (vi a1), some (vi a1), none]) (st' := []) (M1 := M) (pc' := 2) (tb_Model hγ) [.iload_n 1, .istore_n 2] (by decide +kernel) rfl rfl trivial ?_
  obtain ⟨n14, h⟩ := h
  refine E_mask [true, false, true, false] rfl ?_
  exact lk_Model_addStarts_L2 hγ this Q n14 a1 M h
def w_Model_reachFrom_j55 (this : Nat) (Q : Mem → Prop) (v1 : Int32) (v2 : Int32) (v3 : Int32) (M : Mem) : Prop :=
  w_Model_findField this v3 v2 v1 (fun r16 M15 => if r16 < 0 then (Q M15) else (¬ (8 : Int32) = 0 ∧ w_Model_addStarts this (r16 / (8 : Int32)) (fun M19 => Q M19) M15)) M
def w_Model_reachFrom_j163 (this : Nat) (Q : Mem → Prop) (v3 : Int32) (v4 : Int32) (M : Mem) : Prop :=
  w_Model_addReached this v4 (fun M37 => if v3 = (52 : Int32) then (¬ (12 : Int32) = 0 ∧ w_Model_addStarts this (v4 / (12 : Int32)) (fun M40 => Q M40) M37) else (Q M37)) M
def w_Model_reachFrom_j288 (this : Nat) (Q : Mem → Prop) (k203 : Int32 → Int32 → Int32 → Mem → Prop) (v2 : Int32) (v5 : Int32) (v6 : Int32) (M : Mem) : Prop :=
  k203 v2 v5 (v6 + (1 : Int32)) M
def w_Model_reachFrom_L203 (this : Nat) (Q : Mem → Prop) : Nat → Int32 → Int32 → Int32 → Mem → Prop
  | 0, _, _, _, _ => False
  | n + 1, v2, v5, v6, M => ∃ i50, (mR M 11 this 45) = some (12, i50) ∧ if (mI M 12 i50 2) ≤ v6 then (Q M) else (∃ i52, (mR M 11 this 45) = some (12, i52) ∧ vp_in v6 (mL M 132 i52) ∧ if ((mI M 132 i52 v6.toNatClampNeg) &&& (6 : Int32)) = 0 then (w_Model_isBelow this v6 v5 (fun r56 M55 => if r56 = 0 then (w_Model_reachFrom_j288 this Q (w_Model_reachFrom_L203 this Q n) v2 v5 v6 M55) else (w_Model_isLinked this v6 (fun r59 M58 => if r59 = 0 then (w_Model_reachFrom_j288 this Q (w_Model_reachFrom_L203 this Q n) v2 v5 v6 M58) else (∃ i61, (mR M58 11 this 45) = some (12, i61) ∧ ∃ i62, (mR M58 12 i61 32) = some (300, i62) ∧ vp_in v2 (mL M58 300 i62) ∧ ∃ i64, (mR M58 11 this 45) = some (12, i64) ∧ ∃ i65, (mR M58 12 i64 33) = some (300, i65) ∧ vp_in v2 (mL M58 300 i65) ∧ w_Model_dispatch this v6 (mI M58 300 i62 v2.toNatClampNeg) (mI M58 300 i65 v2.toNatClampNeg) (fun r68 M67 => if r68 < 0 then (w_Model_reachFrom_j288 this Q (w_Model_reachFrom_L203 this Q n) v2 v5 v6 M67) else (w_Model_addReached this r68 (fun M70 => w_Model_reachFrom_j288 this Q (w_Model_reachFrom_L203 this Q n) v2 v5 v6 M70) M67)) M58)) M55)) M) else (w_Model_reachFrom_j288 this Q (w_Model_reachFrom_L203 this Q n) v2 v5 v6 M))
def w_Model_reachFrom (this : Nat) (a1 : Int32) (a2 : Int32) (Q : Mem → Prop) (M : Mem) : Prop :=
  ∃ i1, (mR M 11 this 45) = some (12, i1) ∧ ∃ i2, (mR M 12 i1 30) = some (401, i2) ∧ vp_in a2 (mL M 401 i2) ∧ if (mI M 401 i2 a2.toNatClampNeg) = (41 : Int32) then (w_Model_foretold this a1 a2 (fun r6 M5 => if r6 = 0 then (∃ i8, (mR M5 11 this 45) = some (12, i8) ∧ ∃ i9, (mR M5 12 i8 31) = some (300, i9) ∧ vp_in a2 (mL M5 300 i9) ∧ w_Model_classOf this (mI M5 300 i9 a2.toNatClampNeg) (fun r12 M11 => w_Model_addStarts this r12 (fun M13 => Q M13) M11) M5) else (Q M5)) M) else (if (mI M 401 i2 a2.toNatClampNeg) = (48 : Int32) then (w_Model_reachFrom_j55 this Q a1 a2 (mI M 401 i2 a2.toNatClampNeg) M) else (if (mI M 401 i2 a2.toNatClampNeg) = (49 : Int32) then (w_Model_reachFrom_j55 this Q a1 a2 (mI M 401 i2 a2.toNatClampNeg) M) else (if (mI M 401 i2 a2.toNatClampNeg) < (50 : Int32) then (Q M) else (if (mI M 401 i2 a2.toNatClampNeg) ≤ (53 : Int32) then (∃ i23, (mR M 11 this 45) = some (12, i23) ∧ ∃ i24, (mR M 12 i23 31) = some (300, i24) ∧ vp_in a2 (mL M 300 i24) ∧ ∃ i26, (mR M 11 this 45) = some (12, i26) ∧ ∃ i27, (mR M 12 i26 32) = some (300, i27) ∧ vp_in a2 (mL M 300 i27) ∧ ∃ i29, (mR M 11 this 45) = some (12, i29) ∧ ∃ i30, (mR M 12 i29 33) = some (300, i30) ∧ vp_in a2 (mL M 300 i30) ∧ ¬ (12 : Int32) = 0 ∧ w_Model_findMethod this (mI M 401 i2 a2.toNatClampNeg) (mI M 300 i24 a2.toNatClampNeg) (mI M 300 i27 a2.toNatClampNeg) (mI M 300 i30 a2.toNatClampNeg) (a1 / (12 : Int32)) (fun r34 M33 => if 0 ≤ r34 then (if (mI M 401 i2 a2.toNatClampNeg) = (52 : Int32) then (w_Model_reachFrom_j163 this Q (mI M 401 i2 a2.toNatClampNeg) r34 M33) else (if (mI M 401 i2 a2.toNatClampNeg) = (51 : Int32) then (w_Model_reachFrom_j163 this Q (mI M 401 i2 a2.toNatClampNeg) r34 M33) else (∃ i42, (mR M33 11 this 45) = some (12, i42) ∧ vp_in r34 (mL M33 146 i42) ∧ if ((mI M33 146 i42 r34.toNatClampNeg) &&& (4 : Int32)) = 0 then (∃ i45, (mR M33 11 this 45) = some (12, i45) ∧ ∃ i46, (mR M33 12 i45 31) = some (300, i46) ∧ vp_in a2 (mL M33 300 i46) ∧ w_Model_classOf this (mI M33 300 i46 a2.toNatClampNeg) (fun r49 M48 => ∃ n71 : Nat, w_Model_reachFrom_L203 this Q n71 a2 r49 (0 : Int32) M48) M33) else (w_Model_reachFrom_j163 this Q (mI M 401 i2 a2.toNatClampNeg) r34 M33)))) else (Q M33)) M) else (Q M)))))
set_option maxRecDepth 4096 in
theorem lk_Model_reachFrom_j55 {γ : Gm} (hγ : Gk γ) (this : Nat) (Q : Mem → Prop) (v1 : Int32) (v2 : Int32) (v3 : Int32) (M : Mem) (h : w_Model_reachFrom_j55 this Q v1 v2 v3 M) : E γ k_Model_reachFrom 132 55 [some (vr (some (11, this))), some (vi v1), some (vi v2), some (vi v3), none, none, none, none] [] M (Qv Q) := by
  unfold w_Model_reachFrom_j55 at h
  refine E_blk (lv' := [some (vr (some (11, this))), some (vi v1), some (vi v2), some (vi v3), none, none, none, none]) (st' := [vi v1, vi v2, vi v3, vr (some (11, this))]) (M1 := M) (pc' := 59) (tb_Model hγ) [.aload_n 0, .iload_n 3, .iload_n 2, .iload_n 1] (by decide +kernel) rfl rfl trivial ?_
  refine E_callV (κ' := k_Model_findField) (As := [vi v3, vi v2, vi v1]) (st := []) mv_Model_findField (Or.inl (tbk_mem (j := 16) (k := 159) rfl)) rfl (by decide +kernel) (Nat.le_of_ble_eq_true rfl) (Nat.le_of_ble_eq_true rfl) rfl (by decide) (lk_Model_findField hγ this v3 v2 v1 _ M h) (fun _ _ => Qi_r) (fun v M15 hp => Qi_k (R := fun st => E γ k_Model_reachFrom 132 62 [some (vr (some (11, this))), some (vi v1), some (vi v2), some (vi v3), none, none, none, none] st M15 (Qv Q)) hp (fun r16 h => ?_))
  refine E_blk (lv' := [some (vr (some (11, this))), some (vi v1), some (vi v2), some (vi v3), some (vi r16), none, none, none]) (st' := [vi r16]) (M1 := M15) (pc' := 66) (tb_Model hγ) [.istore 4, .iload 4] (by decide +kernel) rfl rfl trivial ?_
  refine E_if_lt (off := 12) (tgt := 78) (by decide +kernel) (by decide) (fun b17 => ?_) (fun b17 => ?_)
  · rw [if_pos b17] at h
    exact E_vret rfl (by decide +kernel) h
  · rw [if_neg b17] at h
    obtain ⟨c18, h⟩ := h
    refine E_blk (lv' := [some (vr (some (11, this))), some (vi v1), some (vi v2), some (vi v3), some (vi r16), none, none, none]) (st' := [vi (r16 / (8 : Int32)), vr (some (11, this))]) (M1 := M15) (pc' := 75) (tb_Model hγ) [.aload_n 0, .iload 4, .bipush 8, .idiv] (by decide +kernel) rfl rfl ⟨c18, trivial⟩ ?_
    refine E_callV (κ' := k_Model_addStarts) (As := [vi (r16 / (8 : Int32))]) (st := []) mv_Model_addStarts (Or.inl (tbk_mem (j := 17) (k := 161) rfl)) rfl (by decide +kernel) (Nat.le_of_ble_eq_true rfl) (Nat.le_of_ble_eq_true rfl) rfl (by decide) (lk_Model_addStarts hγ this (r16 / (8 : Int32)) _ M15 h) (fun _ _ => Qv_r) (fun v M19 hp => Qv_k (R := fun st => E γ k_Model_reachFrom 132 78 [some (vr (some (11, this))), some (vi v1), some (vi v2), some (vi v3), some (vi r16), none, none, none] st M19 (Qv Q)) hp (fun h => ?_))
    exact E_vret rfl (by decide +kernel) h
set_option maxRecDepth 4096 in
theorem lk_Model_reachFrom_j163 {γ : Gm} (hγ : Gk γ) (this : Nat) (Q : Mem → Prop) (v3 : Int32) (v4 : Int32) (M : Mem) (h : w_Model_reachFrom_j163 this Q v3 v4 M) : E γ k_Model_reachFrom 132 163 [some (vr (some (11, this))), none, none, some (vi v3), some (vi v4), none, none, none] [] M (Qv Q) := by
  unfold w_Model_reachFrom_j163 at h
  refine E_blk (lv' := [some (vr (some (11, this))), none, none, some (vi v3), some (vi v4), none, none, none]) (st' := [vi v4, vr (some (11, this))]) (M1 := M) (pc' := 166) (tb_Model hγ) [.aload_n 0, .iload 4] (by decide +kernel) rfl rfl trivial ?_
  refine E_callV (κ' := k_Model_addReached) (As := [vi v4]) (st := []) mv_Model_addReached (Or.inl (tbk_mem (j := 17) (k := 165) rfl)) rfl (by decide +kernel) (Nat.le_of_ble_eq_true rfl) (Nat.le_of_ble_eq_true rfl) rfl (by decide) (lk_Model_addReached hγ this v4 _ M h) (fun _ _ => Qv_r) (fun v M37 hp => Qv_k (R := fun st => E γ k_Model_reachFrom 132 169 [some (vr (some (11, this))), none, none, some (vi v3), some (vi v4), none, none, none] st M37 (Qv Q)) hp (fun h => ?_))
  refine E_blk (lv' := [some (vr (some (11, this))), none, none, some (vi v3), some (vi v4), none, none, none]) (st' := [vi (52 : Int32), vi v3]) (M1 := M37) (pc' := 172) (tb_Model hγ) [.iload_n 3, .bipush 52] (by decide +kernel) rfl rfl trivial ?_
  refine E_icmp_ne (off := 12) (tgt := 184) (by decide +kernel) (by decide) (fun b38 => ?_) (fun b38 => ?_)
  · rw [if_pos b38] at h
    obtain ⟨c39, h⟩ := h
    refine E_blk (lv' := [some (vr (some (11, this))), none, none, some (vi v3), some (vi v4), none, none, none]) (st' := [vi (v4 / (12 : Int32)), vr (some (11, this))]) (M1 := M37) (pc' := 181) (tb_Model hγ) [.aload_n 0, .iload 4, .bipush 12, .idiv] (by decide +kernel) rfl rfl ⟨c39, trivial⟩ ?_
    refine E_callV (κ' := k_Model_addStarts) (As := [vi (v4 / (12 : Int32))]) (st := []) mv_Model_addStarts (Or.inl (tbk_mem (j := 17) (k := 161) rfl)) rfl (by decide +kernel) (Nat.le_of_ble_eq_true rfl) (Nat.le_of_ble_eq_true rfl) rfl (by decide) (lk_Model_addStarts hγ this (v4 / (12 : Int32)) _ M37 h) (fun _ _ => Qv_r) (fun v M40 hp => Qv_k (R := fun st => E γ k_Model_reachFrom 132 184 [some (vr (some (11, this))), none, none, some (vi v3), some (vi v4), none, none, none] st M40 (Qv Q)) hp (fun h => ?_))
    exact E_vret rfl (by decide +kernel) h
  · rw [if_neg b38] at h
    exact E_vret rfl (by decide +kernel) h
set_option maxRecDepth 4096 in
theorem lk_Model_reachFrom_j288 {γ : Gm} (hγ : Gk γ) (this : Nat) (Q : Mem → Prop) (k203 : Int32 → Int32 → Int32 → Mem → Prop) (hk203 : ∀ (v2 : Int32) (v5 : Int32) (v6 : Int32) (M : Mem), k203 v2 v5 v6 M → E γ k_Model_reachFrom 132 203 [some (vr (some (11, this))), none, some (vi v2), none, none, some (vi v5), some (vi v6), none] [] M (Qv Q)) (v2 : Int32) (v5 : Int32) (v6 : Int32) (M : Mem) (h : w_Model_reachFrom_j288 this Q k203 v2 v5 v6 M) : E γ k_Model_reachFrom 132 288 [some (vr (some (11, this))), none, some (vi v2), none, none, some (vi v5), some (vi v6), none] [] M (Qv Q) := by
  unfold w_Model_reachFrom_j288 at h
  refine E_blk (lv' := [some (vr (some (11, this))), none, some (vi v2), none, none, some (vi v5), some (vi (v6 + (1 : Int32))), none]) (st' := []) (M1 := M) (pc' := 291) (tb_Model hγ) [.iinc 6 1] (by decide +kernel) rfl rfl trivial ?_
  refine E_goto (off := -88) (tgt := 203) (by decide +kernel) (by decide) ?_
  refine E_mask [true, false, true, false, false, true, true, false] rfl ?_
  exact hk203 v2 v5 (v6 + (1 : Int32)) M h
set_option maxRecDepth 4096 in
theorem lk_Model_reachFrom_L203 {γ : Gm} (hγ : Gk γ) (this : Nat) (Q : Mem → Prop) : ∀ (n : Nat) (v2 : Int32) (v5 : Int32) (v6 : Int32) (M : Mem), w_Model_reachFrom_L203 this Q n v2 v5 v6 M → E γ k_Model_reachFrom 132 203 [some (vr (some (11, this))), none, some (vi v2), none, none, some (vi v5), some (vi v6), none] [] M (Qv Q) := by
  intro n
  induction n with
  | zero => intro v2 v5 v6 M h; exact h.elim
  | succ n ih =>
    intro v2 v5 v6 M h
    unfold w_Model_reachFrom_L203 at h
    refine E_blk (lv' := [some (vr (some (11, this))), none, some (vi v2), none, none, some (vi v5), some (vi v6), none]) (st' := [vr (mR M 11 this 45), vi v6]) (M1 := M) (pc' := 209) (tb_Model hγ) [.iload 6, .aload_n 0, .getfield 522] (by decide +kernel) rfl rfl trivial ?_
    obtain ⟨i50, ei50, h⟩ := h
    rw [ei50]
    refine E_blk (lv' := [some (vr (some (11, this))), none, some (vi v2), none, none, some (vi v5), some (vi v6), none]) (st' := [vi (mI M 12 i50 2), vi v6]) (M1 := M) (pc' := 212) (tb_Model hγ) [.getfield 420] (by decide +kernel) rfl rfl trivial ?_
    refine E_icmp_ge (off := 82) (tgt := 294) (by decide +kernel) (by decide) (fun b51 => ?_) (fun b51 => ?_)
    · rw [if_pos b51] at h
      exact E_vret rfl (by decide +kernel) h
    · rw [if_neg b51] at h
      refine E_blk (lv' := [some (vr (some (11, this))), none, some (vi v2), none, none, some (vi v5), some (vi v6), none]) (st' := [vr (mR M 11 this 45)]) (M1 := M) (pc' := 219) (tb_Model hγ) [.aload_n 0, .getfield 522] (by decide +kernel) rfl rfl trivial ?_
      obtain ⟨i52, ei52, h⟩ := h
      rw [ei52]
      obtain ⟨c53, h⟩ := h
      refine E_blk (lv' := [some (vr (some (11, this))), none, some (vi v2), none, none, some (vi v5), some (vi v6), none]) (st' := [vi ((mI M 132 i52 v6.toNatClampNeg) &&& (6 : Int32))]) (M1 := M) (pc' := 228) (tb_Model hγ) [.getfield 429, .iload 6, .iaload, .bipush 6, .iand] (by decide +kernel) rfl rfl ⟨c53, trivial⟩ ?_
      refine E_if_ne (off := 60) (tgt := 288) (by decide +kernel) (by decide) (fun b54 => ?_) (fun b54 => ?_)
      · rw [if_pos b54] at h
        refine E_blk (lv' := [some (vr (some (11, this))), none, some (vi v2), none, none, some (vi v5), some (vi v6), none]) (st' := [vi v5, vi v6, vr (some (11, this))]) (M1 := M) (pc' := 236) (tb_Model hγ) [.aload_n 0, .iload 6, .iload 5] (by decide +kernel) rfl rfl trivial ?_
        refine E_callV (κ' := k_Model_isBelow) (As := [vi v6, vi v5]) (st := []) mv_Model_isBelow (Or.inl (tbk_mem (j := 16) (k := 131) rfl)) rfl (by decide +kernel) (Nat.le_of_ble_eq_true rfl) (Nat.le_of_ble_eq_true rfl) rfl (by decide) (lk_Model_isBelow hγ this v6 v5 _ M h) (fun _ _ => Qi_r) (fun v M55 hp => Qi_k (R := fun st => E γ k_Model_reachFrom 132 239 [some (vr (some (11, this))), none, some (vi v2), none, none, some (vi v5), some (vi v6), none] st M55 (Qv Q)) hp (fun r56 h => ?_))
        refine E_if_eq (off := 49) (tgt := 288) (by decide +kernel) (by decide) (fun b57 => ?_) (fun b57 => ?_)
        · rw [if_pos b57] at h
          refine E_mask [true, false, true, false, false, true, true, false] rfl ?_
          exact lk_Model_reachFrom_j288 hγ this Q (w_Model_reachFrom_L203 this Q n) ih v2 v5 v6 M55 h
        · rw [if_neg b57] at h
          refine E_blk (lv' := [some (vr (some (11, this))), none, some (vi v2), none, none, some (vi v5), some (vi v6), none]) (st' := [vi v6, vr (some (11, this))]) (M1 := M55) (pc' := 245) (tb_Model hγ) [.aload_n 0, .iload 6] (by decide +kernel) rfl rfl trivial ?_
          refine E_callV (κ' := k_Model_isLinked) (As := [vi v6]) (st := []) mv_Model_isLinked (Or.inl (tbk_mem (j := 15) (k := 145) rfl)) rfl (by decide +kernel) (Nat.le_of_ble_eq_true rfl) (Nat.le_of_ble_eq_true rfl) rfl (by decide) (lk_Model_isLinked hγ this v6 _ M55 h) (fun _ _ => Qi_r) (fun v M58 hp => Qi_k (R := fun st => E γ k_Model_reachFrom 132 248 [some (vr (some (11, this))), none, some (vi v2), none, none, some (vi v5), some (vi v6), none] st M58 (Qv Q)) hp (fun r59 h => ?_))
          refine E_if_eq (off := 40) (tgt := 288) (by decide +kernel) (by decide) (fun b60 => ?_) (fun b60 => ?_)
          · rw [if_pos b60] at h
            refine E_mask [true, false, true, false, false, true, true, false] rfl ?_
            exact lk_Model_reachFrom_j288 hγ this Q (w_Model_reachFrom_L203 this Q n) ih v2 v5 v6 M58 h
          · rw [if_neg b60] at h
            refine E_blk (lv' := [some (vr (some (11, this))), none, some (vi v2), none, none, some (vi v5), some (vi v6), none]) (st' := [vr (mR M58 11 this 45), vi v6, vr (some (11, this))]) (M1 := M58) (pc' := 258) (tb_Model hγ) [.aload_n 0, .iload 6, .aload_n 0, .getfield 522] (by decide +kernel) rfl rfl trivial ?_
            obtain ⟨i61, ei61, h⟩ := h
            rw [ei61]
            refine E_blk (lv' := [some (vr (some (11, this))), none, some (vi v2), none, none, some (vi v5), some (vi v6), none]) (st' := [vr (mR M58 12 i61 32), vi v6, vr (some (11, this))]) (M1 := M58) (pc' := 261) (tb_Model hγ) [.getfield 680] (by decide +kernel) rfl rfl trivial ?_
            obtain ⟨i62, ei62, h⟩ := h
            rw [ei62]
            obtain ⟨c63, h⟩ := h
            refine E_blk (lv' := [some (vr (some (11, this))), none, some (vi v2), none, none, some (vi v5), some (vi v6), none]) (st' := [vr (mR M58 11 this 45), vi (mI M58 300 i62 v2.toNatClampNeg), vi v6, vr (some (11, this))]) (M1 := M58) (pc' := 267) (tb_Model hγ) [.iload_n 2, .iaload, .aload_n 0, .getfield 522] (by decide +kernel) rfl rfl ⟨c63, trivial⟩ ?_
            obtain ⟨i64, ei64, h⟩ := h
            rw [ei64]
            refine E_blk (lv' := [some (vr (some (11, this))), none, some (vi v2), none, none, some (vi v5), some (vi v6), none]) (st' := [vr (mR M58 12 i64 33), vi (mI M58 300 i62 v2.toNatClampNeg), vi v6, vr (some (11, this))]) (M1 := M58) (pc' := 270) (tb_Model hγ) [.getfield 683] (by decide +kernel) rfl rfl trivial ?_
            obtain ⟨i65, ei65, h⟩ := h
            rw [ei65]
            obtain ⟨c66, h⟩ := h
            refine E_blk (lv' := [some (vr (some (11, this))), none, some (vi v2), none, none, some (vi v5), some (vi v6), none]) (st' := [vi (mI M58 300 i65 v2.toNatClampNeg), vi (mI M58 300 i62 v2.toNatClampNeg), vi v6, vr (some (11, this))]) (M1 := M58) (pc' := 272) (tb_Model hγ) [.iload_n 2, .iaload] (by decide +kernel) rfl rfl ⟨c66, trivial⟩ ?_
            refine E_callV (κ' := k_Model_dispatch) (As := [vi v6, vi (mI M58 300 i62 v2.toNatClampNeg), vi (mI M58 300 i65 v2.toNatClampNeg)]) (st := []) mv_Model_dispatch (Or.inl (tbk_mem (j := 16) (k := 195) rfl)) rfl (by decide +kernel) (Nat.le_of_ble_eq_true rfl) (Nat.le_of_ble_eq_true rfl) rfl (by decide) (lk_Model_dispatch hγ this v6 (mI M58 300 i62 v2.toNatClampNeg) (mI M58 300 i65 v2.toNatClampNeg) _ M58 h) (fun _ _ => Qi_r) (fun v M67 hp => Qi_k (R := fun st => E γ k_Model_reachFrom 132 275 [some (vr (some (11, this))), none, some (vi v2), none, none, some (vi v5), some (vi v6), none] st M67 (Qv Q)) hp (fun r68 h => ?_))
            refine E_blk (lv' := [some (vr (some (11, this))), none, some (vi v2), none, none, some (vi v5), some (vi v6), some (vi r68)]) (st' := [vi r68]) (M1 := M67) (pc' := 279) (tb_Model hγ) [.istore 7, .iload 7] (by decide +kernel) rfl rfl trivial ?_
            refine E_if_lt (off := 9) (tgt := 288) (by decide +kernel) (by decide) (fun b69 => ?_) (fun b69 => ?_)
            · rw [if_pos b69] at h
              refine E_mask [true, false, true, false, false, true, true, false] rfl ?_
              exact lk_Model_reachFrom_j288 hγ this Q (w_Model_reachFrom_L203 this Q n) ih v2 v5 v6 M67 h
            · rw [if_neg b69] at h
              refine E_blk (lv' := [some (vr (some (11, this))), none, some (vi v2), none, none, some (vi v5), some (vi v6), some (vi r68)]) (st' := [vi r68, vr (some (11, this))]) (M1 := M67) (pc' := 285) (tb_Model hγ) [.aload_n 0, .iload 7] (by decide +kernel) rfl rfl trivial ?_
              refine E_callV (κ' := k_Model_addReached) (As := [vi r68]) (st := []) mv_Model_addReached (Or.inl (tbk_mem (j := 17) (k := 165) rfl)) rfl (by decide +kernel) (Nat.le_of_ble_eq_true rfl) (Nat.le_of_ble_eq_true rfl) rfl (by decide) (lk_Model_addReached hγ this r68 _ M67 h) (fun _ _ => Qv_r) (fun v M70 hp => Qv_k (R := fun st => E γ k_Model_reachFrom 132 288 [some (vr (some (11, this))), none, some (vi v2), none, none, some (vi v5), some (vi v6), some (vi r68)] st M70 (Qv Q)) hp (fun h => ?_))
              refine E_mask [true, false, true, false, false, true, true, false] rfl ?_
              exact lk_Model_reachFrom_j288 hγ this Q (w_Model_reachFrom_L203 this Q n) ih v2 v5 v6 M70 h
      · rw [if_neg b54] at h
        refine E_mask [true, false, true, false, false, true, true, false] rfl ?_
        exact lk_Model_reachFrom_j288 hγ this Q (w_Model_reachFrom_L203 this Q n) ih v2 v5 v6 M h
set_option maxRecDepth 4096 in
theorem lk_Model_reachFrom {γ : Gm} (hγ : Gk γ) (this : Nat) (a1 : Int32) (a2 : Int32) (Q : Mem → Prop) (M : Mem) (h : w_Model_reachFrom this a1 a2 Q M) : E γ k_Model_reachFrom 132 0 [some (vr (some (11, this))), some (vi a1), some (vi a2), none, none, none, none, none] [] M (Qv Q) := by
  unfold w_Model_reachFrom at h
  refine E_blk (lv' := [some (vr (some (11, this))), some (vi a1), some (vi a2), none, none, none, none, none]) (st' := [vr (mR M 11 this 45)]) (M1 := M) (pc' := 4) (tb_Model hγ) [.aload_n 0, .getfield 522] (by decide +kernel) rfl rfl trivial ?_
  obtain ⟨i1, ei1, h⟩ := h
  rw [ei1]
  refine E_blk (lv' := [some (vr (some (11, this))), some (vi a1), some (vi a2), none, none, none, none, none]) (st' := [vr (mR M 12 i1 30)]) (M1 := M) (pc' := 7) (tb_Model hγ) [.getfield 674] (by decide +kernel) rfl rfl trivial ?_
  obtain ⟨i2, ei2, h⟩ := h
  rw [ei2]
  obtain ⟨c3, h⟩ := h
  refine E_blk (lv' := [some (vr (some (11, this))), some (vi a1), some (vi a2), some (vi (mI M 401 i2 a2.toNatClampNeg)), none, none, none, none]) (st' := [vi (41 : Int32), vi (mI M 401 i2 a2.toNatClampNeg)]) (M1 := M) (pc' := 13) (tb_Model hγ) [.iload_n 2, .baload, .istore_n 3, .iload_n 3, .bipush 41] (by decide +kernel) rfl rfl ⟨c3, trivial⟩ ?_
  refine E_icmp_ne (off := 30) (tgt := 43) (by decide +kernel) (by decide) (fun b4 => ?_) (fun b4 => ?_)
  · rw [if_pos b4] at h
    refine E_blk (lv' := [some (vr (some (11, this))), some (vi a1), some (vi a2), some (vi (mI M 401 i2 a2.toNatClampNeg)), none, none, none, none]) (st' := [vi a2, vi a1, vr (some (11, this))]) (M1 := M) (pc' := 19) (tb_Model hγ) [.aload_n 0, .iload_n 1, .iload_n 2] (by decide +kernel) rfl rfl trivial ?_
    refine E_callV (κ' := k_Model_foretold) (As := [vi a1, vi a2]) (st := []) mv_Model_foretold (Or.inl (tbk_mem (j := 17) (k := 145) rfl)) rfl (by decide +kernel) (Nat.le_of_ble_eq_true rfl) (Nat.le_of_ble_eq_true rfl) rfl (by decide) (lk_Model_foretold hγ this a1 a2 _ M h) (fun _ _ => Qi_r) (fun v M5 hp => Qi_k (R := fun st => E γ k_Model_reachFrom 132 22 [some (vr (some (11, this))), some (vi a1), some (vi a2), some (vi (mI M 401 i2 a2.toNatClampNeg)), none, none, none, none] st M5 (Qv Q)) hp (fun r6 h => ?_))
    refine E_if_ne (off := 20) (tgt := 42) (by decide +kernel) (by decide) (fun b7 => ?_) (fun b7 => ?_)
    · rw [if_pos b7] at h
      refine E_blk (lv' := [some (vr (some (11, this))), some (vi a1), some (vi a2), some (vi (mI M 401 i2 a2.toNatClampNeg)), none, none, none, none]) (st' := [vr (mR M5 11 this 45), vr (some (11, this)), vr (some (11, this))]) (M1 := M5) (pc' := 31) (tb_Model hγ) [.aload_n 0, .aload_n 0, .aload_n 0, .getfield 522] (by decide +kernel) rfl rfl trivial ?_
      obtain ⟨i8, ei8, h⟩ := h
      rw [ei8]
      refine E_blk (lv' := [some (vr (some (11, this))), some (vi a1), some (vi a2), some (vi (mI M 401 i2 a2.toNatClampNeg)), none, none, none, none]) (st' := [vr (mR M5 12 i8 31), vr (some (11, this)), vr (some (11, this))]) (M1 := M5) (pc' := 34) (tb_Model hγ) [.getfield 677] (by decide +kernel) rfl rfl trivial ?_
      obtain ⟨i9, ei9, h⟩ := h
      rw [ei9]
      obtain ⟨c10, h⟩ := h
      refine E_blk (lv' := [some (vr (some (11, this))), some (vi a1), some (vi a2), some (vi (mI M 401 i2 a2.toNatClampNeg)), none, none, none, none]) (st' := [vi (mI M5 300 i9 a2.toNatClampNeg), vr (some (11, this)), vr (some (11, this))]) (M1 := M5) (pc' := 36) (tb_Model hγ) [.iload_n 2, .iaload] (by decide +kernel) rfl rfl ⟨c10, trivial⟩ ?_
      refine E_callV (κ' := k_Model_classOf) (As := [vi (mI M5 300 i9 a2.toNatClampNeg)]) (st := [vr (some (11, this))]) mv_Model_classOf (Or.inl (tbk_mem (j := 15) (k := 39) rfl)) rfl (by decide +kernel) (Nat.le_of_ble_eq_true rfl) (Nat.le_of_ble_eq_true rfl) rfl (by decide) (lk_Model_classOf hγ this (mI M5 300 i9 a2.toNatClampNeg) _ M5 h) (fun _ _ => Qi_r) (fun v M11 hp => Qi_k (R := fun st => E γ k_Model_reachFrom 132 39 [some (vr (some (11, this))), some (vi a1), some (vi a2), some (vi (mI M 401 i2 a2.toNatClampNeg)), none, none, none, none] st M11 (Qv Q)) hp (fun r12 h => ?_))
      refine E_callV (κ' := k_Model_addStarts) (As := [vi r12]) (st := []) mv_Model_addStarts (Or.inl (tbk_mem (j := 17) (k := 161) rfl)) rfl (by decide +kernel) (Nat.le_of_ble_eq_true rfl) (Nat.le_of_ble_eq_true rfl) rfl (by decide) (lk_Model_addStarts hγ this r12 _ M11 h) (fun _ _ => Qv_r) (fun v M13 hp => Qv_k (R := fun st => E γ k_Model_reachFrom 132 42 [some (vr (some (11, this))), some (vi a1), some (vi a2), some (vi (mI M 401 i2 a2.toNatClampNeg)), none, none, none, none] st M13 (Qv Q)) hp (fun h => ?_))
      exact E_vret rfl (by decide +kernel) h
    · rw [if_neg b7] at h
      exact E_vret rfl (by decide +kernel) h
  · rw [if_neg b4] at h
    refine E_blk (lv' := [some (vr (some (11, this))), some (vi a1), some (vi a2), some (vi (mI M 401 i2 a2.toNatClampNeg)), none, none, none, none]) (st' := [vi (48 : Int32), vi (mI M 401 i2 a2.toNatClampNeg)]) (M1 := M) (pc' := 46) (tb_Model hγ) [.iload_n 3, .bipush 48] (by decide +kernel) rfl rfl trivial ?_
    refine E_icmp_eq (off := 9) (tgt := 55) (by decide +kernel) (by decide) (fun b14 => ?_) (fun b14 => ?_)
    · rw [if_pos b14] at h
      refine E_mask [true, true, true, true, false, false, false, false] rfl ?_
      exact lk_Model_reachFrom_j55 hγ this Q a1 a2 (mI M 401 i2 a2.toNatClampNeg) M h
    · rw [if_neg b14] at h
      refine E_blk (lv' := [some (vr (some (11, this))), some (vi a1), some (vi a2), some (vi (mI M 401 i2 a2.toNatClampNeg)), none, none, none, none]) (st' := [vi (49 : Int32), vi (mI M 401 i2 a2.toNatClampNeg)]) (M1 := M) (pc' := 52) (tb_Model hγ) [.iload_n 3, .bipush 49] (by decide +kernel) rfl rfl trivial ?_
      refine E_icmp_ne (off := 27) (tgt := 79) (by decide +kernel) (by decide) (fun b20 => ?_) (fun b20 => ?_)
      · rw [if_pos b20] at h
        refine E_mask [true, true, true, true, false, false, false, false] rfl ?_
        exact lk_Model_reachFrom_j55 hγ this Q a1 a2 (mI M 401 i2 a2.toNatClampNeg) M h
      · rw [if_neg b20] at h
        refine E_blk (lv' := [some (vr (some (11, this))), some (vi a1), some (vi a2), some (vi (mI M 401 i2 a2.toNatClampNeg)), none, none, none, none]) (st' := [vi (50 : Int32), vi (mI M 401 i2 a2.toNatClampNeg)]) (M1 := M) (pc' := 82) (tb_Model hγ) [.iload_n 3, .bipush 50] (by decide +kernel) rfl rfl trivial ?_
        refine E_icmp_lt (off := 9) (tgt := 91) (by decide +kernel) (by decide) (fun b21 => ?_) (fun b21 => ?_)
        · rw [if_pos b21] at h
          exact E_vret rfl (by decide +kernel) h
        · rw [if_neg b21] at h
          refine E_blk (lv' := [some (vr (some (11, this))), some (vi a1), some (vi a2), some (vi (mI M 401 i2 a2.toNatClampNeg)), none, none, none, none]) (st' := [vi (53 : Int32), vi (mI M 401 i2 a2.toNatClampNeg)]) (M1 := M) (pc' := 88) (tb_Model hγ) [.iload_n 3, .bipush 53] (by decide +kernel) rfl rfl trivial ?_
          refine E_icmp_le (off := 4) (tgt := 92) (by decide +kernel) (by decide) (fun b22 => ?_) (fun b22 => ?_)
          · rw [if_pos b22] at h
            refine E_blk (lv' := [some (vr (some (11, this))), some (vi a1), some (vi a2), some (vi (mI M 401 i2 a2.toNatClampNeg)), none, none, none, none]) (st' := [vr (mR M 11 this 45), vi (mI M 401 i2 a2.toNatClampNeg), vr (some (11, this))]) (M1 := M) (pc' := 98) (tb_Model hγ) [.aload_n 0, .iload_n 3, .aload_n 0, .getfield 522] (by decide +kernel) rfl rfl trivial ?_
            obtain ⟨i23, ei23, h⟩ := h
            rw [ei23]
            refine E_blk (lv' := [some (vr (some (11, this))), some (vi a1), some (vi a2), some (vi (mI M 401 i2 a2.toNatClampNeg)), none, none, none, none]) (st' := [vr (mR M 12 i23 31), vi (mI M 401 i2 a2.toNatClampNeg), vr (some (11, this))]) (M1 := M) (pc' := 101) (tb_Model hγ) [.getfield 677] (by decide +kernel) rfl rfl trivial ?_
            obtain ⟨i24, ei24, h⟩ := h
            rw [ei24]
            obtain ⟨c25, h⟩ := h
            refine E_blk (lv' := [some (vr (some (11, this))), some (vi a1), some (vi a2), some (vi (mI M 401 i2 a2.toNatClampNeg)), none, none, none, none]) (st' := [vr (mR M 11 this 45), vi (mI M 300 i24 a2.toNatClampNeg), vi (mI M 401 i2 a2.toNatClampNeg), vr (some (11, this))]) (M1 := M) (pc' := 107) (tb_Model hγ) [.iload_n 2, .iaload, .aload_n 0, .getfield 522] (by decide +kernel) rfl rfl ⟨c25, trivial⟩ ?_
            obtain ⟨i26, ei26, h⟩ := h
            rw [ei26]
            refine E_blk (lv' := [some (vr (some (11, this))), some (vi a1), some (vi a2), some (vi (mI M 401 i2 a2.toNatClampNeg)), none, none, none, none]) (st' := [vr (mR M 12 i26 32), vi (mI M 300 i24 a2.toNatClampNeg), vi (mI M 401 i2 a2.toNatClampNeg), vr (some (11, this))]) (M1 := M) (pc' := 110) (tb_Model hγ) [.getfield 680] (by decide +kernel) rfl rfl trivial ?_
            obtain ⟨i27, ei27, h⟩ := h
            rw [ei27]
            obtain ⟨c28, h⟩ := h
            refine E_blk (lv' := [some (vr (some (11, this))), some (vi a1), some (vi a2), some (vi (mI M 401 i2 a2.toNatClampNeg)), none, none, none, none]) (st' := [vr (mR M 11 this 45), vi (mI M 300 i27 a2.toNatClampNeg), vi (mI M 300 i24 a2.toNatClampNeg), vi (mI M 401 i2 a2.toNatClampNeg), vr (some (11, this))]) (M1 := M) (pc' := 116) (tb_Model hγ) [.iload_n 2, .iaload, .aload_n 0, .getfield 522] (by decide +kernel) rfl rfl ⟨c28, trivial⟩ ?_
            obtain ⟨i29, ei29, h⟩ := h
            rw [ei29]
            refine E_blk (lv' := [some (vr (some (11, this))), some (vi a1), some (vi a2), some (vi (mI M 401 i2 a2.toNatClampNeg)), none, none, none, none]) (st' := [vr (mR M 12 i29 33), vi (mI M 300 i27 a2.toNatClampNeg), vi (mI M 300 i24 a2.toNatClampNeg), vi (mI M 401 i2 a2.toNatClampNeg), vr (some (11, this))]) (M1 := M) (pc' := 119) (tb_Model hγ) [.getfield 683] (by decide +kernel) rfl rfl trivial ?_
            obtain ⟨i30, ei30, h⟩ := h
            rw [ei30]
            obtain ⟨c31, c32, h⟩ := h
            refine E_blk (lv' := [some (vr (some (11, this))), some (vi a1), some (vi a2), some (vi (mI M 401 i2 a2.toNatClampNeg)), none, none, none, none]) (st' := [vi (a1 / (12 : Int32)), vi (mI M 300 i30 a2.toNatClampNeg), vi (mI M 300 i27 a2.toNatClampNeg), vi (mI M 300 i24 a2.toNatClampNeg), vi (mI M 401 i2 a2.toNatClampNeg), vr (some (11, this))]) (M1 := M) (pc' := 125) (tb_Model hγ) [.iload_n 2, .iaload, .iload_n 1, .bipush 12, .idiv] (by decide +kernel) rfl rfl ⟨c31, c32, trivial⟩ ?_
            refine E_callV (κ' := k_Model_findMethod) (As := [vi (mI M 401 i2 a2.toNatClampNeg), vi (mI M 300 i24 a2.toNatClampNeg), vi (mI M 300 i27 a2.toNatClampNeg), vi (mI M 300 i30 a2.toNatClampNeg), vi (a1 / (12 : Int32))]) (st := []) mv_Model_findMethod (Or.inl (tbk_mem (j := 16) (k := 79) rfl)) rfl (by decide +kernel) (Nat.le_of_ble_eq_true rfl) (Nat.le_of_ble_eq_true rfl) rfl (by decide) (lk_Model_findMethod hγ this (mI M 401 i2 a2.toNatClampNeg) (mI M 300 i24 a2.toNatClampNeg) (mI M 300 i27 a2.toNatClampNeg) (mI M 300 i30 a2.toNatClampNeg) (a1 / (12 : Int32)) _ M h) (fun _ _ => Qi_r) (fun v M33 hp => Qi_k (R := fun st => E γ k_Model_reachFrom 132 128 [some (vr (some (11, this))), some (vi a1), some (vi a2), some (vi (mI M 401 i2 a2.toNatClampNeg)), none, none, none, none] st M33 (Qv Q)) hp (fun r34 h => ?_))
            refine E_blk (lv' := [some (vr (some (11, this))), some (vi a1), some (vi a2), some (vi (mI M 401 i2 a2.toNatClampNeg)), some (vi r34), none, none, none]) (st' := [vi r34]) (M1 := M33) (pc' := 132) (tb_Model hγ) [.istore 4, .iload 4] (by decide +kernel) rfl rfl trivial ?_
            refine E_if_ge (off := 4) (tgt := 136) (by decide +kernel) (by decide) (fun b35 => ?_) (fun b35 => ?_)
            · rw [if_pos b35] at h
              refine E_blk (lv' := [some (vr (some (11, this))), some (vi a1), some (vi a2), some (vi (mI M 401 i2 a2.toNatClampNeg)), some (vi r34), none, none, none]) (st' := [vi (52 : Int32), vi (mI M 401 i2 a2.toNatClampNeg)]) (M1 := M33) (pc' := 139) (tb_Model hγ) [.iload_n 3, .bipush 52] (by decide +kernel) rfl rfl trivial ?_
              refine E_icmp_eq (off := 24) (tgt := 163) (by decide +kernel) (by decide) (fun b36 => ?_) (fun b36 => ?_)
              · rw [if_pos b36] at h
                refine E_mask [true, false, false, true, true, false, false, false] rfl ?_
                exact lk_Model_reachFrom_j163 hγ this Q (mI M 401 i2 a2.toNatClampNeg) r34 M33 h
              · rw [if_neg b36] at h
                refine E_blk (lv' := [some (vr (some (11, this))), some (vi a1), some (vi a2), some (vi (mI M 401 i2 a2.toNatClampNeg)), some (vi r34), none, none, none]) (st' := [vi (51 : Int32), vi (mI M 401 i2 a2.toNatClampNeg)]) (M1 := M33) (pc' := 145) (tb_Model hγ) [.iload_n 3, .bipush 51] (by decide +kernel) rfl rfl trivial ?_
                refine E_icmp_eq (off := 18) (tgt := 163) (by decide +kernel) (by decide) (fun b41 => ?_) (fun b41 => ?_)
                · rw [if_pos b41] at h
                  refine E_mask [true, false, false, true, true, false, false, false] rfl ?_
                  exact lk_Model_reachFrom_j163 hγ this Q (mI M 401 i2 a2.toNatClampNeg) r34 M33 h
                · rw [if_neg b41] at h
                  refine E_blk (lv' := [some (vr (some (11, this))), some (vi a1), some (vi a2), some (vi (mI M 401 i2 a2.toNatClampNeg)), some (vi r34), none, none, none]) (st' := [vr (mR M33 11 this 45)]) (M1 := M33) (pc' := 152) (tb_Model hγ) [.aload_n 0, .getfield 522] (by decide +kernel) rfl rfl trivial ?_
                  obtain ⟨i42, ei42, h⟩ := h
                  rw [ei42]
                  obtain ⟨c43, h⟩ := h
                  refine E_blk (lv' := [some (vr (some (11, this))), some (vi a1), some (vi a2), some (vi (mI M 401 i2 a2.toNatClampNeg)), some (vi r34), none, none, none]) (st' := [vi ((mI M33 146 i42 r34.toNatClampNeg) &&& (4 : Int32))]) (M1 := M33) (pc' := 160) (tb_Model hγ) [.getfield 453, .iload 4, .iaload, .iconst 4, .iand] (by decide +kernel) rfl rfl ⟨c43, trivial⟩ ?_
                  refine E_if_eq (off := 25) (tgt := 185) (by decide +kernel) (by decide) (fun b44 => ?_) (fun b44 => ?_)
                  · rw [if_pos b44] at h
                    refine E_blk (lv' := [some (vr (some (11, this))), some (vi a1), some (vi a2), some (vi (mI M 401 i2 a2.toNatClampNeg)), some (vi r34), none, none, none]) (st' := [vr (mR M33 11 this 45), vr (some (11, this))]) (M1 := M33) (pc' := 190) (tb_Model hγ) [.aload_n 0, .aload_n 0, .getfield 522] (by decide +kernel) rfl rfl trivial ?_
                    obtain ⟨i45, ei45, h⟩ := h
                    rw [ei45]
                    refine E_blk (lv' := [some (vr (some (11, this))), some (vi a1), some (vi a2), some (vi (mI M 401 i2 a2.toNatClampNeg)), some (vi r34), none, none, none]) (st' := [vr (mR M33 12 i45 31), vr (some (11, this))]) (M1 := M33) (pc' := 193) (tb_Model hγ) [.getfield 677] (by decide +kernel) rfl rfl trivial ?_
                    obtain ⟨i46, ei46, h⟩ := h
                    rw [ei46]
                    obtain ⟨c47, h⟩ := h
                    refine E_blk (lv' := [some (vr (some (11, this))), some (vi a1), some (vi a2), some (vi (mI M 401 i2 a2.toNatClampNeg)), some (vi r34), none, none, none]) (st' := [vi (mI M33 300 i46 a2.toNatClampNeg), vr (some (11, this))]) (M1 := M33) (pc' := 195) (tb_Model hγ) [.iload_n 2, .iaload] (by decide +kernel) rfl rfl ⟨c47, trivial⟩ ?_
                    refine E_callV (κ' := k_Model_classOf) (As := [vi (mI M33 300 i46 a2.toNatClampNeg)]) (st := []) mv_Model_classOf (Or.inl (tbk_mem (j := 15) (k := 39) rfl)) rfl (by decide +kernel) (Nat.le_of_ble_eq_true rfl) (Nat.le_of_ble_eq_true rfl) rfl (by decide) (lk_Model_classOf hγ this (mI M33 300 i46 a2.toNatClampNeg) _ M33 h) (fun _ _ => Qi_r) (fun v M48 hp => Qi_k (R := fun st => E γ k_Model_reachFrom 132 198 [some (vr (some (11, this))), some (vi a1), some (vi a2), some (vi (mI M 401 i2 a2.toNatClampNeg)), some (vi r34), none, none, none] st M48 (Qv Q)) hp (fun r49 h => ?_))
                    refine E_blk (lv' := [some (vr (some (11, this))), some (vi a1), some (vi a2), some (vi (mI M 401 i2 a2.toNatClampNeg)), some (vi r34), some (vi r49), some (vi (0 : Int32)), none]) (st' := []) (M1 := M48) (pc' := 203) (tb_Model hγ) [.istore 5, .iconst 0, .istore 6] (by decide +kernel) rfl rfl trivial ?_
                    obtain ⟨n71, h⟩ := h
                    refine E_mask [true, false, true, false, false, true, true, false] rfl ?_
                    exact lk_Model_reachFrom_L203 hγ this Q n71 a2 r49 (0 : Int32) M48 h
                  · rw [if_neg b44] at h
                    refine E_mask [true, false, false, true, true, false, false, false] rfl ?_
                    exact lk_Model_reachFrom_j163 hγ this Q (mI M 401 i2 a2.toNatClampNeg) r34 M33 h
            · rw [if_neg b35] at h
              exact E_vret rfl (by decide +kernel) h
          · rw [if_neg b22] at h
            exact E_vret rfl (by decide +kernel) h
def w_Model_reach_L118 (this : Nat) (Q : Int32 → Mem → Prop) (k97 : Int32 → Mem → Prop) : Nat → Int32 → Int32 → Int32 → Mem → Prop
  | 0, _, _, _, _ => False
  | n + 1, v4, v5, v6, M => ∃ i17, (mR M 11 this 45) = some (12, i17) ∧ vp_in v5 (mL M 150 i17) ∧ if (mI M 150 i17 v5.toNatClampNeg) ≤ v6 then (k97 (v4 + (1 : Int32)) M) else (∃ i20, (mR M 11 this 45) = some (12, i20) ∧ vp_in v5 (mL M 149 i20) ∧ w_Model_reachFrom this v5 ((mI M 149 i20 v5.toNatClampNeg) + v6) (fun M22 => (w_Model_reach_L118 this Q k97 n) v4 v5 (v6 + (1 : Int32)) M22) M)
def w_Model_reach_L97 (this : Nat) (Q : Int32 → Mem → Prop) : Nat → Int32 → Mem → Prop
  | 0, _, _ => False
  | n + 1, v4, M => if (mI M 11 this 109) ≤ v4 then (Q (mI M 11 this 109) M) else (vp_in v4 (mL M 119 this) ∧ ∃ n23 : Nat, w_Model_reach_L118 this Q (w_Model_reach_L97 this Q n) n23 v4 (mI M 119 this v4.toNatClampNeg) (0 : Int32) M)
def w_Model_reach_L43 (this : Nat) (Q : Int32 → Mem → Prop) : Nat → Int32 → Int32 → Int32 → Mem → Prop
  | 0, _, _, _, _ => False
  | n + 1, v2, v3, v4, M => if (612 : Int32) ≤ v4 then (vp_in (0 : Int32) (mL M 119 this) ∧ vp_in (((12 : Int32) * v2) + v3) (mL (sI M 119 this (0 : Int32).toNatClampNeg (((12 : Int32) * v2) + v3)) 520 this) ∧ ∃ M14, M14 = (sI (sI M 119 this (0 : Int32).toNatClampNeg (((12 : Int32) * v2) + v3)) 520 this (((12 : Int32) * v2) + v3).toNatClampNeg ((1 : Int32) &&& 1)) ∧ ∃ n24 : Nat, w_Model_reach_L97 this Q n24 (0 : Int32) (sI M14 11 this 109 (1 : Int32))) else (vp_in v4 (mL M 520 this) ∧ (w_Model_reach_L43 this Q n) v2 v3 (v4 + (1 : Int32)) (sI M 520 this v4.toNatClampNeg ((0 : Int32) &&& 1)))
def w_Model_reach (this : Nat) (a1 : Int32) (a2 : Int32) (a3 : Int32) (Q : Int32 → Mem → Prop) (M : Mem) : Prop :=
  w_Model_isClass this a1 a2 (fun r2 M1 => if r2 = 0 then (Q (-1 : Int32) M1) else (if a3 < 0 then (Q (-1 : Int32) M1) else (vp_in a1 (mL M1 703 0) ∧ ∃ i6, (mR M1 703 0 a1.toNatClampNeg) = some (12, i6) ∧ vp_in a2 (mL M1 136 i6) ∧ if a3 < (mI M1 136 i6 a2.toNatClampNeg) then (vp_in a1 (mL M1 703 0) ∧ ∃ i10, (mR M1 703 0 a1.toNatClampNeg) = some (12, i10) ∧ ∃ n26 : Nat, w_Model_reach_L43 this Q n26 a2 a3 (0 : Int32) (sR M1 11 this 45 (some (12, i10)))) else (Q (-1 : Int32) M1)))) M
set_option maxRecDepth 4096 in
theorem lk_Model_reach_L118 {γ : Gm} (hγ : Gk γ) (this : Nat) (Q : Int32 → Mem → Prop) (k97 : Int32 → Mem → Prop) (hk97 : ∀ (v4 : Int32) (M : Mem), k97 v4 M → E γ k_Model_reach 133 97 [some (vr (some (11, this))), none, none, none, some (vi v4), none, none] [] M (Qi Q)) : ∀ (n : Nat) (v4 : Int32) (v5 : Int32) (v6 : Int32) (M : Mem), w_Model_reach_L118 this Q k97 n v4 v5 v6 M → E γ k_Model_reach 133 118 [some (vr (some (11, this))), none, none, none, some (vi v4), some (vi v5), some (vi v6)] [] M (Qi Q) := by
  intro n
  induction n with
  | zero => intro v4 v5 v6 M h; exact h.elim
  | succ n ih =>
    intro v4 v5 v6 M h
    unfold w_Model_reach_L118 at h
    refine E_blk (lv' := [some (vr (some (11, this))), none, none, none, some (vi v4), some (vi v5), some (vi v6)]) (st' := [vr (mR M 11 this 45), vi v6]) (M1 := M) (pc' := 124) (tb_Model hγ) [.iload 6, .aload_n 0, .getfield 522] (by decide +kernel) rfl rfl trivial ?_
    obtain ⟨i17, ei17, h⟩ := h
    rw [ei17]
    obtain ⟨c18, h⟩ := h
    refine E_blk (lv' := [some (vr (some (11, this))), none, none, none, some (vi v4), some (vi v5), some (vi v6)]) (st' := [vi (mI M 150 i17 v5.toNatClampNeg), vi v6]) (M1 := M) (pc' := 130) (tb_Model hγ) [.getfield 465, .iload 5, .iaload] (by decide +kernel) rfl rfl ⟨c18, trivial⟩ ?_
    refine E_icmp_ge (off := 28) (tgt := 158) (by decide +kernel) (by decide) (fun b19 => ?_) (fun b19 => ?_)
    · rw [if_pos b19] at h
      refine E_blk (lv' := [some (vr (some (11, this))), none, none, none, some (vi (v4 + (1 : Int32))), some (vi v5), some (vi v6)]) (st' := []) (M1 := M) (pc' := 161) (tb_Model hγ) [.iinc 4 1] (by decide +kernel) rfl rfl trivial ?_
      refine E_goto (off := -64) (tgt := 97) (by decide +kernel) (by decide) ?_
      refine E_mask [true, false, false, false, true, false, false] rfl ?_
      exact hk97 (v4 + (1 : Int32)) M h
    · rw [if_neg b19] at h
      refine E_blk (lv' := [some (vr (some (11, this))), none, none, none, some (vi v4), some (vi v5), some (vi v6)]) (st' := [vr (mR M 11 this 45), vi v5, vr (some (11, this))]) (M1 := M) (pc' := 140) (tb_Model hγ) [.aload_n 0, .iload 5, .aload_n 0, .getfield 522] (by decide +kernel) rfl rfl trivial ?_
      obtain ⟨i20, ei20, h⟩ := h
      rw [ei20]
      obtain ⟨c21, h⟩ := h
      refine E_blk (lv' := [some (vr (some (11, this))), none, none, none, some (vi v4), some (vi v5), some (vi v6)]) (st' := [vi ((mI M 149 i20 v5.toNatClampNeg) + v6), vi v5, vr (some (11, this))]) (M1 := M) (pc' := 149) (tb_Model hγ) [.getfield 462, .iload 5, .iaload, .iload 6, .iadd] (by decide +kernel) rfl rfl ⟨c21, trivial⟩ ?_
      refine E_callV (κ' := k_Model_reachFrom) (As := [vi v5, vi ((mI M 149 i20 v5.toNatClampNeg) + v6)]) (st := []) mv_Model_reachFrom (Or.inl (tbk_mem (j := 17) (k := 157) rfl)) rfl (by decide +kernel) (Nat.le_of_ble_eq_true rfl) (Nat.le_of_ble_eq_true rfl) rfl (by decide) (lk_Model_reachFrom hγ this v5 ((mI M 149 i20 v5.toNatClampNeg) + v6) _ M h) (fun _ _ => Qv_r) (fun v M22 hp => Qv_k (R := fun st => E γ k_Model_reach 133 152 [some (vr (some (11, this))), none, none, none, some (vi v4), some (vi v5), some (vi v6)] st M22 (Qi Q)) hp (fun h => ?_))
      refine E_blk (lv' := [some (vr (some (11, this))), none, none, none, some (vi v4), some (vi v5), some (vi (v6 + (1 : Int32)))]) (st' := []) (M1 := M22) (pc' := 155) (tb_Model hγ) [.iinc 6 1] (by decide +kernel) rfl rfl trivial ?_
      refine E_goto (off := -37) (tgt := 118) (by decide +kernel) (by decide) ?_
      refine E_mask [true, false, false, false, true, true, true] rfl ?_
      exact ih v4 v5 (v6 + (1 : Int32)) M22 h
set_option maxRecDepth 4096 in
theorem lk_Model_reach_L97 {γ : Gm} (hγ : Gk γ) (this : Nat) (Q : Int32 → Mem → Prop) : ∀ (n : Nat) (v4 : Int32) (M : Mem), w_Model_reach_L97 this Q n v4 M → E γ k_Model_reach 133 97 [some (vr (some (11, this))), none, none, none, some (vi v4), none, none] [] M (Qi Q) := by
  intro n
  induction n with
  | zero => intro v4 M h; exact h.elim
  | succ n ih =>
    intro v4 M h
    unfold w_Model_reach_L97 at h
    refine E_blk (lv' := [some (vr (some (11, this))), none, none, none, some (vi v4), none, none]) (st' := [vi (mI M 11 this 109), vi v4]) (M1 := M) (pc' := 103) (tb_Model hγ) [.iload 4, .aload_n 0, .getfield 1288] (by decide +kernel) rfl rfl trivial ?_
    refine E_icmp_ge (off := 61) (tgt := 164) (by decide +kernel) (by decide) (fun b15 => ?_) (fun b15 => ?_)
    · rw [if_pos b15] at h
      refine E_blk (lv' := [some (vr (some (11, this))), none, none, none, some (vi v4), none, none]) (st' := [vi (mI M 11 this 109)]) (M1 := M) (pc' := 168) (tb_Model hγ) [.aload_n 0, .getfield 1288] (by decide +kernel) rfl rfl trivial ?_
      exact E_iret rfl (by decide +kernel) h
    · rw [if_neg b15] at h
      obtain ⟨c16, h⟩ := h
      refine E_blk (lv' := [some (vr (some (11, this))), none, none, none, some (vi v4), some (vi (mI M 119 this v4.toNatClampNeg)), some (vi (0 : Int32))]) (st' := []) (M1 := M) (pc' := 118) (tb_Model hγ) [.aload_n 0, .getfield 350, .iload 4, .iaload, .istore 5, .iconst 0, .istore 6] (by decide +kernel) rfl rfl ⟨c16, trivial⟩ ?_
      obtain ⟨n23, h⟩ := h
      refine E_mask [true, false, false, false, true, true, true] rfl ?_
      exact lk_Model_reach_L118 hγ this Q (w_Model_reach_L97 this Q n) ih n23 v4 (mI M 119 this v4.toNatClampNeg) (0 : Int32) M h
set_option maxRecDepth 4096 in
theorem lk_Model_reach_L43 {γ : Gm} (hγ : Gk γ) (this : Nat) (Q : Int32 → Mem → Prop) : ∀ (n : Nat) (v2 : Int32) (v3 : Int32) (v4 : Int32) (M : Mem), w_Model_reach_L43 this Q n v2 v3 v4 M → E γ k_Model_reach 133 43 [some (vr (some (11, this))), none, some (vi v2), some (vi v3), some (vi v4), none, none] [] M (Qi Q) := by
  intro n
  induction n with
  | zero => intro v2 v3 v4 M h; exact h.elim
  | succ n ih =>
    intro v2 v3 v4 M h
    unfold w_Model_reach_L43 at h
    refine E_blk (lv' := [some (vr (some (11, this))), none, some (vi v2), some (vi v3), some (vi v4), none, none]) (st' := [vi (612 : Int32), vi v4]) (M1 := M) (pc' := 48) (tb_Model hγ) [.iload 4, .sipush 612] (by decide +kernel) rfl rfl trivial ?_
    refine E_icmp_ge (off := 17) (tgt := 65) (by decide +kernel) (by decide) (fun b11 => ?_) (fun b11 => ?_)
    · rw [if_pos b11] at h
      obtain ⟨c12, c13, h⟩ := h
      refine E_blk (lv' := [some (vr (some (11, this))), none, some (vi v2), some (vi v3), some (vi v4), none, none]) (st' := []) (M1 := (sI (sI M 119 this (0 : Int32).toNatClampNeg (((12 : Int32) * v2) + v3)) 520 this (((12 : Int32) * v2) + v3).toNatClampNeg ((1 : Int32) &&& 1))) (pc' := 89) (tb_Model hγ) [.aload_n 0, .getfield 350, .iconst 0, .bipush 12, .iload_n 2, .imul, .iload_n 3, .iadd, .iastore, .aload_n 0, .getfield 353, .bipush 12, .iload_n 2, .imul, .iload_n 3, .iadd, .iconst 1, .bastore] (by decide +kernel) rfl rfl ⟨c12, c13, trivial⟩ ?_
      obtain ⟨M14, eM14, h⟩ := h
      rw [← eM14]
      refine E_blk (lv' := [some (vr (some (11, this))), none, some (vi v2), some (vi v3), some (vi (0 : Int32)), none, none]) (st' := []) (M1 := (sI M14 11 this 109 (1 : Int32))) (pc' := 97) (tb_Model hγ) [.aload_n 0, .iconst 1, .putfield 1288, .iconst 0, .istore 4] (by decide +kernel) rfl rfl trivial ?_
      obtain ⟨n24, h⟩ := h
      refine E_mask [true, false, false, false, true, false, false] rfl ?_
      exact lk_Model_reach_L97 hγ this Q n24 (0 : Int32) (sI M14 11 this 109 (1 : Int32)) h
    · rw [if_neg b11] at h
      obtain ⟨c25, h⟩ := h
      refine E_blk (lv' := [some (vr (some (11, this))), none, some (vi v2), some (vi v3), some (vi (v4 + (1 : Int32))), none, none]) (st' := []) (M1 := (sI M 520 this v4.toNatClampNeg ((0 : Int32) &&& 1))) (pc' := 62) (tb_Model hγ) [.aload_n 0, .getfield 353, .iload 4, .iconst 0, .bastore, .iinc 4 1] (by decide +kernel) rfl rfl ⟨c25, trivial⟩ ?_
      refine E_goto (off := -19) (tgt := 43) (by decide +kernel) (by decide) ?_
      refine E_mask [true, false, true, true, true, false, false] rfl ?_
      exact ih v2 v3 (v4 + (1 : Int32)) (sI M 520 this v4.toNatClampNeg ((0 : Int32) &&& 1)) h
set_option maxRecDepth 4096 in
theorem lk_Model_reach {γ : Gm} (hγ : Gk γ) (this : Nat) (a1 : Int32) (a2 : Int32) (a3 : Int32) (Q : Int32 → Mem → Prop) (M : Mem) (h : w_Model_reach this a1 a2 a3 Q M) : E γ k_Model_reach 133 0 [some (vr (some (11, this))), some (vi a1), some (vi a2), some (vi a3), none, none, none] [] M (Qi Q) := by
  unfold w_Model_reach at h
  refine E_blk (lv' := [some (vr (some (11, this))), some (vi a1), some (vi a2), some (vi a3), none, none, none]) (st' := [vi a2, vi a1, vr (some (11, this))]) (M1 := M) (pc' := 3) (tb_Model hγ) [.aload_n 0, .iload_n 1, .iload_n 2] (by decide +kernel) rfl rfl trivial ?_
  refine E_callV (κ' := k_Model_isClass) (As := [vi a1, vi a2]) (st := []) mv_Model_isClass (Or.inl (tbk_mem (j := 15) (k := 129) rfl)) rfl (by decide +kernel) (Nat.le_of_ble_eq_true rfl) (Nat.le_of_ble_eq_true rfl) rfl (by decide) (lk_Model_isClass hγ this a1 a2 _ M h) (fun _ _ => Qi_r) (fun v M1 hp => Qi_k (R := fun st => E γ k_Model_reach 133 6 [some (vr (some (11, this))), some (vi a1), some (vi a2), some (vi a3), none, none, none] st M1 (Qi Q)) hp (fun r2 h => ?_))
  refine E_if_eq (off := 22) (tgt := 28) (by decide +kernel) (by decide) (fun b3 => ?_) (fun b3 => ?_)
  · rw [if_pos b3] at h
    refine E_blk (lv' := [some (vr (some (11, this))), some (vi a1), some (vi a2), some (vi a3), none, none, none]) (st' := [vi (-1 : Int32)]) (M1 := M1) (pc' := 29) (tb_Model hγ) [.iconst (.negSucc 0)] (by decide +kernel) rfl rfl trivial ?_
    exact E_iret rfl (by decide +kernel) h
  · rw [if_neg b3] at h
    refine E_blk (lv' := [some (vr (some (11, this))), some (vi a1), some (vi a2), some (vi a3), none, none, none]) (st' := [vi a3]) (M1 := M1) (pc' := 10) (tb_Model hγ) [.iload_n 3] (by decide +kernel) rfl rfl trivial ?_
    refine E_if_lt (off := 18) (tgt := 28) (by decide +kernel) (by decide) (fun b4 => ?_) (fun b4 => ?_)
    · rw [if_pos b4] at h
      refine E_blk (lv' := [some (vr (some (11, this))), some (vi a1), some (vi a2), some (vi a3), none, none, none]) (st' := [vi (-1 : Int32)]) (M1 := M1) (pc' := 29) (tb_Model hγ) [.iconst (.negSucc 0)] (by decide +kernel) rfl rfl trivial ?_
      exact E_iret rfl (by decide +kernel) h
    · rw [if_neg b4] at h
      obtain ⟨c5, h⟩ := h
      refine E_blk (lv' := [some (vr (some (11, this))), some (vi a1), some (vi a2), some (vi a3), none, none, none]) (st' := [vr (mR M1 703 0 a1.toNatClampNeg), vi a3]) (M1 := M1) (pc' := 20) (tb_Model hγ) [.iload_n 3, .aload_n 0, .getfield 263, .iload_n 1, .aaload] (by decide +kernel) rfl rfl ⟨c5, trivial⟩ ?_
      obtain ⟨i6, ei6, h⟩ := h
      rw [ei6]
      obtain ⟨c7, h⟩ := h
      refine E_blk (lv' := [some (vr (some (11, this))), some (vi a1), some (vi a2), some (vi a3), none, none, none]) (st' := [vi (mI M1 136 i6 a2.toNatClampNeg), vi a3]) (M1 := M1) (pc' := 25) (tb_Model hγ) [.getfield 438, .iload_n 2, .iaload] (by decide +kernel) rfl rfl ⟨c7, trivial⟩ ?_
      refine E_icmp_lt (off := 5) (tgt := 30) (by decide +kernel) (by decide) (fun b8 => ?_) (fun b8 => ?_)
      · rw [if_pos b8] at h
        obtain ⟨c9, h⟩ := h
        refine E_blk (lv' := [some (vr (some (11, this))), some (vi a1), some (vi a2), some (vi a3), none, none, none]) (st' := [vr (mR M1 703 0 a1.toNatClampNeg), vr (some (11, this))]) (M1 := M1) (pc' := 37) (tb_Model hγ) [.aload_n 0, .aload_n 0, .getfield 263, .iload_n 1, .aaload] (by decide +kernel) rfl rfl ⟨c9, trivial⟩ ?_
        obtain ⟨i10, ei10, h⟩ := h
        rw [ei10]
        refine E_blk (lv' := [some (vr (some (11, this))), some (vi a1), some (vi a2), some (vi a3), some (vi (0 : Int32)), none, none]) (st' := []) (M1 := (sR M1 11 this 45 (some (12, i10)))) (pc' := 43) (tb_Model hγ) [.putfield 522, .iconst 0, .istore 4] (by decide +kernel) rfl rfl trivial ?_
        obtain ⟨n26, h⟩ := h
        refine E_mask [true, false, true, true, true, false, false] rfl ?_
        exact lk_Model_reach_L43 hγ this Q n26 a2 a3 (0 : Int32) (sR M1 11 this 45 (some (12, i10))) h
      · rw [if_neg b8] at h
        refine E_blk (lv' := [some (vr (some (11, this))), some (vi a1), some (vi a2), some (vi a3), none, none, none]) (st' := [vi (-1 : Int32)]) (M1 := M1) (pc' := 29) (tb_Model hγ) [.iconst (.negSucc 0)] (by decide +kernel) rfl rfl trivial ?_
        exact E_iret rfl (by decide +kernel) h
def w_Model_reached (this : Nat) (a1 : Int32) (Q : Int32 → Mem → Prop) (M : Mem) : Prop :=
  if a1 < 0 then (Q (-2 : Int32) M) else (if a1 < (mI M 11 this 109) then (vp_in a1 (mL M 119 this) ∧ ¬ (12 : Int32) = 0 ∧ vp_in a1 (mL M 119 this) ∧ ¬ (12 : Int32) = 0 ∧ Q (((100 : Int32) * ((mI M 119 this a1.toNatClampNeg) / (12 : Int32))) + ((mI M 119 this a1.toNatClampNeg) - (mI M 119 this a1.toNatClampNeg) / (12 : Int32) * (12 : Int32))) M) else (Q (-2 : Int32) M))
set_option maxRecDepth 4096 in
theorem lk_Model_reached {γ : Gm} (hγ : Gk γ) (this : Nat) (a1 : Int32) (Q : Int32 → Mem → Prop) (M : Mem) (h : w_Model_reached this a1 Q M) : E γ k_Model_reached 0 0 [some (vr (some (11, this))), some (vi a1)] [] M (Qi Q) := by
  unfold w_Model_reached at h
  refine E_blk (lv' := [some (vr (some (11, this))), some (vi a1)]) (st' := [vi a1]) (M1 := M) (pc' := 1) (tb_Model hγ) [.iload_n 1] (by decide +kernel) rfl rfl trivial ?_
  refine E_if_lt (off := 11) (tgt := 12) (by decide +kernel) (by decide) (fun b1 => ?_) (fun b1 => ?_)
  · rw [if_pos b1] at h
    refine E_blk (lv' := [some (vr (some (11, this))), some (vi a1)]) (st' := [vi (-2 : Int32)]) (M1 := M) (pc' := 14) (tb_Model hγ) [.bipush (.negSucc 1)] (by decide +kernel) rfl rfl trivial ?_
    refine E_goto (off := 25) (tgt := 39) (by decide +kernel) (by decide) ?_
    exact E_iret rfl (by decide +kernel) h
  · rw [if_neg b1] at h
    refine E_blk (lv' := [some (vr (some (11, this))), some (vi a1)]) (st' := [vi (mI M 11 this 109), vi a1]) (M1 := M) (pc' := 9) (tb_Model hγ) [.iload_n 1, .aload_n 0, .getfield 1288] (by decide +kernel) rfl rfl trivial ?_
    refine E_icmp_lt (off := 8) (tgt := 17) (by decide +kernel) (by decide) (fun b2 => ?_) (fun b2 => ?_)
    · rw [if_pos b2] at h
      obtain ⟨c3, c4, c5, c6, h⟩ := h
      refine E_blk (lv' := [some (vr (some (11, this))), some (vi a1)]) (st' := [vi (((100 : Int32) * ((mI M 119 this a1.toNatClampNeg) / (12 : Int32))) + ((mI M 119 this a1.toNatClampNeg) - (mI M 119 this a1.toNatClampNeg) / (12 : Int32) * (12 : Int32)))]) (M1 := M) (pc' := 39) (tb_Model hγ) [.bipush 100, .aload_n 0, .getfield 350, .iload_n 1, .iaload, .bipush 12, .idiv, .imul, .aload_n 0, .getfield 350, .iload_n 1, .iaload, .bipush 12, .irem, .iadd] (by decide +kernel) rfl rfl ⟨c3, c4, c5, c6, trivial⟩ ?_
      exact E_iret rfl (by decide +kernel) h
    · rw [if_neg b2] at h
      refine E_blk (lv' := [some (vr (some (11, this))), some (vi a1)]) (st' := [vi (-2 : Int32)]) (M1 := M) (pc' := 14) (tb_Model hγ) [.bipush (.negSucc 1)] (by decide +kernel) rfl rfl trivial ?_
      refine E_goto (off := 25) (tgt := 39) (by decide +kernel) (by decide) ?_
      exact E_iret rfl (by decide +kernel) h
def w_Model_mark (this : Nat) (a1 : Int32) (Q : Mem → Prop) (M : Mem) : Prop :=
  if a1 ≤ 0 then (Q M) else (if (800 : Int32) < a1 then (Q M) else (vp_in a1 (mL M 521 this) ∧ if (mI M 521 this a1.toNatClampNeg) = 0 then (vp_in a1 (mL M 521 this) ∧ vp_in (mI (sI M 521 this a1.toNatClampNeg ((1 : Int32) &&& 1)) 11 this 112) (mL (sI M 521 this a1.toNatClampNeg ((1 : Int32) &&& 1)) 120 this) ∧ ∃ M7, M7 = (sI (sI M 521 this a1.toNatClampNeg ((1 : Int32) &&& 1)) 120 this (mI (sI M 521 this a1.toNatClampNeg ((1 : Int32) &&& 1)) 11 this 112).toNatClampNeg a1) ∧ Q (sI M7 11 this 112 ((mI M7 11 this 112) + (1 : Int32)))) else (Q M)))
set_option maxRecDepth 4096 in
theorem lk_Model_mark {γ : Gm} (hγ : Gk γ) (this : Nat) (a1 : Int32) (Q : Mem → Prop) (M : Mem) (h : w_Model_mark this a1 Q M) : E γ k_Model_mark 0 0 [some (vr (some (11, this))), some (vi a1)] [] M (Qv Q) := by
  unfold w_Model_mark at h
  refine E_blk (lv' := [some (vr (some (11, this))), some (vi a1)]) (st' := [vi a1]) (M1 := M) (pc' := 1) (tb_Model hγ) [.iload_n 1] (by decide +kernel) rfl rfl trivial ?_
  refine E_if_le (off := 46) (tgt := 47) (by decide +kernel) (by decide) (fun b1 => ?_) (fun b1 => ?_)
  · rw [if_pos b1] at h
    exact E_vret rfl (by decide +kernel) h
  · rw [if_neg b1] at h
    refine E_blk (lv' := [some (vr (some (11, this))), some (vi a1)]) (st' := [vi (800 : Int32), vi a1]) (M1 := M) (pc' := 8) (tb_Model hγ) [.iload_n 1, .sipush 800] (by decide +kernel) rfl rfl trivial ?_
    refine E_icmp_gt (off := 39) (tgt := 47) (by decide +kernel) (by decide) (fun b2 => ?_) (fun b2 => ?_)
    · rw [if_pos b2] at h
      exact E_vret rfl (by decide +kernel) h
    · rw [if_neg b2] at h
      obtain ⟨c3, h⟩ := h
      refine E_blk (lv' := [some (vr (some (11, this))), some (vi a1)]) (st' := [vi (mI M 521 this a1.toNatClampNeg)]) (M1 := M) (pc' := 17) (tb_Model hγ) [.aload_n 0, .getfield 356, .iload_n 1, .baload] (by decide +kernel) rfl rfl ⟨c3, trivial⟩ ?_
      refine E_if_ne (off := 30) (tgt := 47) (by decide +kernel) (by decide) (fun b4 => ?_) (fun b4 => ?_)
      · rw [if_pos b4] at h
        obtain ⟨c5, c6, h⟩ := h
        refine E_blk (lv' := [some (vr (some (11, this))), some (vi a1)]) (st' := []) (M1 := (sI (sI M 521 this a1.toNatClampNeg ((1 : Int32) &&& 1)) 120 this (mI (sI M 521 this a1.toNatClampNeg ((1 : Int32) &&& 1)) 11 this 112).toNatClampNeg a1)) (pc' := 37) (tb_Model hγ) [.aload_n 0, .getfield 356, .iload_n 1, .iconst 1, .bastore, .aload_n 0, .getfield 359, .aload_n 0, .getfield 1300, .iload_n 1, .iastore] (by decide +kernel) rfl rfl ⟨c5, c6, trivial⟩ ?_
        obtain ⟨M7, eM7, h⟩ := h
        rw [← eM7]
        refine E_blk (lv' := [some (vr (some (11, this))), some (vi a1)]) (st' := []) (M1 := (sI M7 11 this 112 ((mI M7 11 this 112) + (1 : Int32)))) (pc' := 47) (tb_Model hγ) [.aload_n 0, .dup, .getfield 1300, .iconst 1, .iadd, .putfield 1300] (by decide +kernel) rfl rfl trivial ?_
        exact E_vret rfl (by decide +kernel) h
      · rw [if_neg b4] at h
        exact E_vret rfl (by decide +kernel) h
