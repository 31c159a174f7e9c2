def k_Model_endMethod : Kp := (⟨"ClassWorksModel", "endMethod", "()V"⟩, prog_13_method_49_code, 6, none, [])
theorem mv_Model_endMethod : MV k_Model_endMethod 11 0 := ⟨⟨_, rfl, rfl⟩, by decide, (tbk_mem (j := 14) (k := 236) rfl), Or.inr ⟨(tbk_mem (j := 14) (k := 235) rfl), 131, (tbk_mem (j := 11) (k := 41) rfl)⟩, Or.inl ⟨rfl, (tbk_mem (j := 14) (k := 237) rfl)⟩, ⟨by decide, by decide⟩, by decide +kernel, by decide +kernel, by decide⟩
def k_Model_classLine : Kp := (⟨"ClassWorksModel", "classLine", "()V"⟩, prog_13_method_35_code, 8, none, [])
theorem mv_Model_classLine : MV k_Model_classLine 11 0 := ⟨⟨_, rfl, rfl⟩, by decide, (tbk_mem (j := 15) (k := 9) rfl), Or.inr ⟨(tbk_mem (j := 15) (k := 8) rfl), 131, (tbk_mem (j := 11) (k := 41) rfl)⟩, Or.inl ⟨rfl, (tbk_mem (j := 15) (k := 10) rfl)⟩, ⟨by decide, by decide⟩, by decide +kernel, by decide +kernel, by decide⟩
def k_Model_fieldLine : Kp := (⟨"ClassWorksModel", "fieldLine", "()V"⟩, prog_13_method_36_code, 10, none, [])
theorem mv_Model_fieldLine : MV k_Model_fieldLine 11 0 := ⟨⟨_, rfl, rfl⟩, by decide, (tbk_mem (j := 15) (k := 53) rfl), Or.inr ⟨(tbk_mem (j := 15) (k := 52) rfl), 131, (tbk_mem (j := 11) (k := 41) rfl)⟩, Or.inl ⟨rfl, (tbk_mem (j := 15) (k := 54) rfl)⟩, ⟨by decide, by decide⟩, by decide +kernel, by decide +kernel, by decide⟩
def k_Model_methodLine : Kp := (⟨"ClassWorksModel", "methodLine", "()V"⟩, prog_13_method_37_code, 9, none, [])
theorem mv_Model_methodLine : MV k_Model_methodLine 11 0 := ⟨⟨_, rfl, rfl⟩, by decide, (tbk_mem (j := 15) (k := 66) rfl), Or.inr ⟨(tbk_mem (j := 15) (k := 65) rfl), 131, (tbk_mem (j := 11) (k := 41) rfl)⟩, Or.inl ⟨rfl, (tbk_mem (j := 15) (k := 67) rfl)⟩, ⟨by decide, by decide⟩, by decide +kernel, by decide +kernel, by decide⟩
def k_Model_argumentsOf : Kp := (⟨"ClassWorksModel", "argumentsOf", "(I)I"⟩, prog_13_method_38_code, 2, some (.int), [])
theorem mv_Model_argumentsOf : MV k_Model_argumentsOf 11 1 := ⟨⟨_, rfl, rfl⟩, by decide, (tbk_mem (j := 15) (k := 82) rfl), Or.inr ⟨(tbk_mem (j := 15) (k := 81) rfl), 131, (tbk_mem (j := 11) (k := 41) rfl)⟩, Or.inl ⟨rfl, (tbk_mem (j := 15) (k := 83) rfl)⟩, ⟨by decide, by decide⟩, by decide +kernel, by decide +kernel, by decide⟩
def k_Model_roomLine : Kp := (⟨"ClassWorksModel", "roomLine", "()V"⟩, prog_13_method_39_code, 1, none, [])
theorem mv_Model_roomLine : MV k_Model_roomLine 11 0 := ⟨⟨_, rfl, rfl⟩, by decide, (tbk_mem (j := 15) (k := 78) rfl), Or.inr ⟨(tbk_mem (j := 15) (k := 77) rfl), 131, (tbk_mem (j := 11) (k := 41) rfl)⟩, Or.inl ⟨rfl, (tbk_mem (j := 15) (k := 79) rfl)⟩, ⟨by decide, by decide⟩, by decide +kernel, by decide +kernel, by decide⟩
def k_Model_kindWord : Kp := (⟨"ClassWorksModel", "kindWord", "()I"⟩, prog_13_method_45_code, 1, some (.int), [])
theorem mv_Model_kindWord : MV k_Model_kindWord 11 0 := ⟨⟨_, rfl, rfl⟩, by decide, (tbk_mem (j := 15) (k := 98) rfl), Or.inr ⟨(tbk_mem (j := 15) (k := 97) rfl), 131, (tbk_mem (j := 11) (k := 41) rfl)⟩, Or.inl ⟨rfl, (tbk_mem (j := 15) (k := 99) rfl)⟩, ⟨by decide, by decide⟩, by decide +kernel, by decide +kernel, by decide⟩
def k_Model_kindWords : Kp := (⟨"ClassWorksModel", "kindWords", "(I)I"⟩, prog_13_method_46_code, 4, some (.int), [])
theorem mv_Model_kindWords : MV k_Model_kindWords 11 1 := ⟨⟨_, rfl, rfl⟩, by decide, (tbk_mem (j := 15) (k := 94) rfl), Or.inr ⟨(tbk_mem (j := 15) (k := 93) rfl), 131, (tbk_mem (j := 11) (k := 41) rfl)⟩, Or.inl ⟨rfl, (tbk_mem (j := 15) (k := 95) rfl)⟩, ⟨by decide, by decide⟩, by decide +kernel, by decide +kernel, by decide⟩
def k_Model_addNine : Kp := (⟨"ClassWorksModel", "addNine", "(IZ)V"⟩, prog_13_method_41_code, 4, none, [])
theorem mv_Model_addNine : MV k_Model_addNine 11 2 := ⟨⟨_, rfl, rfl⟩, by decide, (tbk_mem (j := 15) (k := 102) rfl), Or.inr ⟨(tbk_mem (j := 15) (k := 101) rfl), 131, (tbk_mem (j := 11) (k := 41) rfl)⟩, Or.inl ⟨rfl, (tbk_mem (j := 15) (k := 103) rfl)⟩, ⟨by decide, by decide⟩, by decide +kernel, by decide +kernel, by decide⟩
def k_Model_frameLine : Kp := (⟨"ClassWorksModel", "frameLine", "()V"⟩, prog_13_method_47_code, 2, none, [])
theorem mv_Model_frameLine : MV k_Model_frameLine 11 0 := ⟨⟨_, rfl, rfl⟩, by decide, (tbk_mem (j := 15) (k := 90) rfl), Or.inr ⟨(tbk_mem (j := 15) (k := 89) rfl), 131, (tbk_mem (j := 11) (k := 41) rfl)⟩, Or.inl ⟨rfl, (tbk_mem (j := 15) (k := 91) rfl)⟩, ⟨by decide, by decide⟩, by decide +kernel, by decide +kernel, by decide⟩
def k_Model_usedLabel : Kp := (⟨"ClassWorksModel", "usedLabel", "()I"⟩, prog_13_method_42_code, 2, some (.int), [])
theorem mv_Model_usedLabel : MV k_Model_usedLabel 11 0 := ⟨⟨_, rfl, rfl⟩, by decide, (tbk_mem (j := 15) (k := 111) rfl), Or.inr ⟨(tbk_mem (j := 15) (k := 110) rfl), 131, (tbk_mem (j := 11) (k := 41) rfl)⟩, Or.inl ⟨rfl, (tbk_mem (j := 15) (k := 112) rfl)⟩, ⟨by decide, by decide⟩, by decide +kernel, by decide +kernel, by decide⟩
def k_Model_handlerLine : Kp := (⟨"ClassWorksModel", "handlerLine", "()V"⟩, prog_13_method_48_code, 7, none, [])
theorem mv_Model_handlerLine : MV k_Model_handlerLine 11 0 := ⟨⟨_, rfl, rfl⟩, by decide, (tbk_mem (j := 15) (k := 106) rfl), Or.inr ⟨(tbk_mem (j := 15) (k := 105) rfl), 131, (tbk_mem (j := 11) (k := 41) rfl)⟩, Or.inl ⟨rfl, (tbk_mem (j := 15) (k := 107) rfl)⟩, ⟨by decide, by decide⟩, by decide +kernel, by decide +kernel, by decide⟩
def k_Model_addList : Kp := (⟨"ClassWorksModel", "addList", "(I)V"⟩, prog_13_method_44_code, 2, none, [])
theorem mv_Model_addList : MV k_Model_addList 11 1 := ⟨⟨_, rfl, rfl⟩, by decide, (tbk_mem (j := 15) (k := 115) rfl), Or.inr ⟨(tbk_mem (j := 15) (k := 114) rfl), 131, (tbk_mem (j := 11) (k := 41) rfl)⟩, Or.inl ⟨rfl, (tbk_mem (j := 15) (k := 116) rfl)⟩, ⟨by decide, by decide⟩, by decide +kernel, by decide +kernel, by decide⟩
def w_Model_endMethod_j411 (this : Nat) (Q : Mem → Prop) (X : Mem → Prop) (k278 : Int32 → Mem → Prop) (v3 : Int32) (M : Mem) : Prop :=
  k278 (v3 + (1 : Int32)) M
def w_Model_endMethod_L357 (this : Nat) (Q : Mem → Prop) (X : Mem → Prop) (k278 : Int32 → Mem → Prop) : Nat → Int32 → Int32 → Mem → Prop
  | 0, _, _, _ => False
  | n + 1, v3, v5, M => ∃ i22, (mR M 11 this 45) = some (12, i22) ∧ ∃ i23, (mR M 12 i22 32) = some (300, i23) ∧ vp_in v3 (mL M 300 i23) ∧ ∃ i25, (mR M 11 this 45) = some (12, i25) ∧ ∃ i26, (mR M 12 i25 33) = some (300, i26) ∧ vp_in v3 (mL M 300 i26) ∧ if ((mI M 300 i23 v3.toNatClampNeg) + (mI M 300 i26 v3.toNatClampNeg)) ≤ v5 then (w_Model_endMethod_j411 this Q X k278 v3 M) else (∃ i29, (mR M 11 this 45) = some (12, i29) ∧ ∃ i30, (mR M 12 i29 36) = some (300, i30) ∧ ∃ i31, (mR M 11 this 45) = some (12, i31) ∧ ∃ i32, (mR M 12 i31 36) = some (300, i32) ∧ vp_in v5 (mL M 300 i32) ∧ w_Model_labelOf this (mI M 300 i32 v5.toNatClampNeg) (fun r35 M34 => vp_in v5 (mL M34 300 i30) ∧ (w_Model_endMethod_L357 this Q X k278 n) v3 (v5 + (1 : Int32)) (sI M34 300 i30 v5.toNatClampNeg r35)) M)
def w_Model_endMethod_j339 (this : Nat) (Q : Mem → Prop) (X : Mem → Prop) (k278 : Int32 → Mem → Prop) (v3 : Int32) (v4 : Int32) (M : Mem) : Prop :=
  if v4 = (40 : Int32) then (∃ i19, (mR M 11 this 45) = some (12, i19) ∧ ∃ i20, (mR M 12 i19 32) = some (300, i20) ∧ vp_in v3 (mL M 300 i20) ∧ ∃ n37 : Nat, w_Model_endMethod_L357 this Q X k278 n37 v3 (mI M 300 i20 v3.toNatClampNeg) M) else (w_Model_endMethod_j411 this Q X k278 v3 M)
def w_Model_endMethod_L278 (this : Nat) (Q : Mem → Prop) (X : Mem → Prop) : Nat → Int32 → Mem → Prop
  | 0, _, _ => False
  | n + 1, v3, M => ∃ i12, (mR M 11 this 45) = some (12, i12) ∧ if (mI M 12 i12 35) ≤ v3 then (Q M) else (∃ i14, (mR M 11 this 45) = some (12, i14) ∧ ∃ i15, (mR M 12 i14 30) = some (401, i15) ∧ vp_in v3 (mL M 401 i15) ∧ if (mI M 401 i15 v3.toNatClampNeg) < (23 : Int32) then (w_Model_endMethod_j339 this Q X (w_Model_endMethod_L278 this Q X n) v3 (mI M 401 i15 v3.toNatClampNeg) M) else (if (39 : Int32) < (mI M 401 i15 v3.toNatClampNeg) then (w_Model_endMethod_j339 this Q X (w_Model_endMethod_L278 this Q X n) v3 (mI M 401 i15 v3.toNatClampNeg) M) else (∃ i39, (mR M 11 this 45) = some (12, i39) ∧ ∃ i40, (mR M 12 i39 31) = some (300, i40) ∧ ∃ i41, (mR M 11 this 45) = some (12, i41) ∧ ∃ i42, (mR M 12 i41 31) = some (300, i42) ∧ vp_in v3 (mL M 300 i42) ∧ w_Model_labelOf this (mI M 300 i42 v3.toNatClampNeg) (fun r45 M44 => vp_in v3 (mL M44 300 i40) ∧ w_Model_endMethod_j411 this Q X (w_Model_endMethod_L278 this Q X n) v3 (sI M44 300 i40 v3.toNatClampNeg r45)) M)))
def w_Model_endMethod_j265 (this : Nat) (Q : Mem → Prop) (X : Mem → Prop)  (M : Mem) : Prop :=
  ∃ i10, (mR M 11 this 45) = some (12, i10) ∧ vp_in (mI M 11 this 54) (mL M 149 i10) ∧ ∃ n47 : Nat, w_Model_endMethod_L278 this Q X n47 (mI M 149 i10 (mI M 11 this 54).toNatClampNeg) M
def w_Model_endMethod_j243 (this : Nat) (Q : Mem → Prop) (X : Mem → Prop) (k112 : Int32 → Int32 → Int32 → Mem → Prop) (v1 : Int32) (v2 : Int32) (v3 : Int32) (M : Mem) : Prop :=
  k112 v1 v2 (v3 + (1 : Int32)) M
def w_Model_endMethod_L112 (this : Nat) (Q : Mem → Prop) (X : Mem → Prop) : Nat → Int32 → Int32 → Int32 → Mem → Prop
  | 0, _, _, _, _ => False
  | n + 1, v1, v2, v3, M => ∃ i4, (mR M 11 this 45) = some (12, i4) ∧ vp_in (mI M 11 this 54) (mL M 151 i4) ∧ if (mI M 151 i4 (mI M 11 this 54).toNatClampNeg) ≤ v3 then (if v1 = 0 then (vp_in (0 : Int32) (mL M 108 this) ∧ w_Model_refuse this (8 : Int32) (mI M 108 this (0 : Int32).toNatClampNeg) (fun M9 => w_Model_endMethod_j265 this Q X  M9) X M) else (w_Model_endMethod_j265 this Q X  M)) else (∃ i48, (mR M 11 this 45) = some (12, i48) ∧ ∃ i49, (mR M 11 this 45) = some (12, i49) ∧ vp_in (v2 + v3) (mL M 152 i49) ∧ w_Model_labelOf this (mI M 152 i49 (v2 + v3).toNatClampNeg) (fun r52 M51 => vp_in (v2 + v3) (mL M51 152 i48) ∧ ∃ i54, (mR (sI M51 152 i48 (v2 + v3).toNatClampNeg r52) 11 this 45) = some (12, i54) ∧ ∃ i55, (mR (sI M51 152 i48 (v2 + v3).toNatClampNeg r52) 11 this 45) = some (12, i55) ∧ vp_in (v2 + v3) (mL (sI M51 152 i48 (v2 + v3).toNatClampNeg r52) 153 i55) ∧ w_Model_labelOf this (mI (sI M51 152 i48 (v2 + v3).toNatClampNeg r52) 153 i55 (v2 + v3).toNatClampNeg) (fun r58 M57 => vp_in (v2 + v3) (mL M57 153 i54) ∧ ∃ i60, (mR (sI M57 153 i54 (v2 + v3).toNatClampNeg r58) 11 this 45) = some (12, i60) ∧ ∃ i61, (mR (sI M57 153 i54 (v2 + v3).toNatClampNeg r58) 11 this 45) = some (12, i61) ∧ vp_in (v2 + v3) (mL (sI M57 153 i54 (v2 + v3).toNatClampNeg r58) 154 i61) ∧ w_Model_labelOf this (mI (sI M57 153 i54 (v2 + v3).toNatClampNeg r58) 154 i61 (v2 + v3).toNatClampNeg) (fun r64 M63 => vp_in (v2 + v3) (mL M63 154 i60) ∧ ∃ i66, (mR (sI M63 154 i60 (v2 + v3).toNatClampNeg r64) 11 this 45) = some (12, i66) ∧ vp_in (v2 + v3) (mL (sI M63 154 i60 (v2 + v3).toNatClampNeg r64) 152 i66) ∧ ∃ i68, (mR (sI M63 154 i60 (v2 + v3).toNatClampNeg r64) 11 this 45) = some (12, i68) ∧ vp_in (v2 + v3) (mL (sI M63 154 i60 (v2 + v3).toNatClampNeg r64) 153 i68) ∧ if (mI (sI M63 154 i60 (v2 + v3).toNatClampNeg r64) 152 i66 (v2 + v3).toNatClampNeg) < (mI (sI M63 154 i60 (v2 + v3).toNatClampNeg r64) 153 i68 (v2 + v3).toNatClampNeg) then (w_Model_endMethod_j243 this Q X (w_Model_endMethod_L112 this Q X n) v1 v2 v3 (sI M63 154 i60 (v2 + v3).toNatClampNeg r64)) else (vp_in v3 (mL (sI M63 154 i60 (v2 + v3).toNatClampNeg r64) 109 this) ∧ w_Model_refuse this (10 : Int32) (mI (sI M63 154 i60 (v2 + v3).toNatClampNeg r64) 109 this v3.toNatClampNeg) (fun M72 => w_Model_endMethod_j243 this Q X (w_Model_endMethod_L112 this Q X n) v1 v2 v3 M72) X (sI M63 154 i60 (v2 + v3).toNatClampNeg r64))) (sI M57 153 i54 (v2 + v3).toNatClampNeg r58)) (sI M51 152 i48 (v2 + v3).toNatClampNeg r52)) M)
def w_Model_endMethod_j96 (this : Nat) (Q : Mem → Prop) (X : Mem → Prop) (k15 : Int32 → Int32 → Mem → Prop) (v1 : Int32) (v2 : Int32) (M : Mem) : Prop :=
  k15 v1 (v2 + (1 : Int32)) M
def w_Model_endMethod_j84 (this : Nat) (Q : Mem → Prop) (X : Mem → Prop) (k15 : Int32 → Int32 → Mem → Prop) (v1 : Int32) (v2 : Int32) (M : Mem) : Prop :=
  ∃ i84, (mR M 11 this 62) = some (300, i84) ∧ vp_in v2 (mL M 300 i84) ∧ w_Model_refuse this (9 : Int32) (mI M 300 i84 v2.toNatClampNeg) (fun M86 => w_Model_endMethod_j96 this Q X k15 v1 v2 M86) X M
def w_Model_endMethod_j53 (this : Nat) (Q : Mem → Prop) (X : Mem → Prop) (k15 : Int32 → Int32 → Mem → Prop) (v1 : Int32) (v2 : Int32) (s0 : Int32) (M : Mem) : Prop :=
  ∃ i81, (mR M 11 this 61) = some (300, i81) ∧ vp_in v2 (mL M 300 i81) ∧ if (mI M 300 i81 v2.toNatClampNeg) = (-2147483648 : Int32) then (w_Model_endMethod_j84 this Q X k15 v1 v2 M) else (if s0 < 0 then (w_Model_endMethod_j84 this Q X k15 v1 v2 M) else (if s0 = v1 then (∃ i89, (mR M 11 this 63) = some (501, i89) ∧ vp_in v2 (mL M 501 i89) ∧ if (mI M 501 i89 v2.toNatClampNeg) = 0 then (w_Model_endMethod_j84 this Q X k15 v1 v2 M) else (w_Model_endMethod_j96 this Q X k15 v1 v2 M)) else (w_Model_endMethod_j96 this Q X k15 v1 v2 M)))
def w_Model_endMethod_L15 (this : Nat) (Q : Mem → Prop) (X : Mem → Prop) : Nat → Int32 → Int32 → Mem → Prop
  | 0, _, _, _ => False
  | n + 1, v1, v2, M => if (mI M 11 this 64) ≤ v2 then (∃ n73 : Nat, w_Model_endMethod_L112 this Q X n73 v1 ((8 : Int32) * (mI M 11 this 54)) (0 : Int32) M) else (∃ i74, (mR M 11 this 61) = some (300, i74) ∧ vp_in v2 (mL M 300 i74) ∧ if 0 ≤ (mI M 300 i74 v2.toNatClampNeg) then (∃ i77, (mR M 11 this 61) = some (300, i77) ∧ vp_in v2 (mL M 300 i77) ∧ w_Model_labelOf this (mI M 300 i77 v2.toNatClampNeg) (fun r80 M79 => w_Model_endMethod_j53 this Q X (w_Model_endMethod_L15 this Q X n) v1 v2 r80 M79) M) else (∃ i92, (mR M 11 this 61) = some (300, i92) ∧ vp_in v2 (mL M 300 i92) ∧ w_Model_endMethod_j53 this Q X (w_Model_endMethod_L15 this Q X n) v1 v2 ((-1 : Int32) - (mI M 300 i92 v2.toNatClampNeg)) M))
def w_Model_endMethod (this : Nat) (Q : Mem → Prop) (X : Mem → Prop) (M : Mem) : Prop :=
  ∃ i1, (mR M 11 this 45) = some (12, i1) ∧ vp_in (mI M 11 this 54) (mL M 150 i1) ∧ ∃ n94 : Nat, w_Model_endMethod_L15 this Q X n94 (mI M 150 i1 (mI M 11 this 54).toNatClampNeg) (0 : Int32) M
set_option maxRecDepth 4096 in
theorem lk_Model_endMethod_j411 {γ : Gm} (hγ : Gk γ) (this : Nat) (Q : Mem → Prop) (X : Mem → Prop) (k278 : Int32 → Mem → Prop) (hk278 : ∀ (v3 : Int32) (M : Mem), k278 v3 M → E γ k_Model_endMethod 1 278 [some (vr (some (11, this))), none, none, some (vi v3), none, none] [] M (Qx (14, 0) (Qv Q) X)) (v3 : Int32) (M : Mem) (h : w_Model_endMethod_j411 this Q X k278 v3 M) : E γ k_Model_endMethod 1 411 [some (vr (some (11, this))), none, none, some (vi v3), none, none] [] M (Qx (14, 0) (Qv Q) X) := by
  unfold w_Model_endMethod_j411 at h
  refine E_blk (lv' := [some (vr (some (11, this))), none, none, some (vi (v3 + (1 : Int32))), none, none]) (st' := []) (M1 := M) (pc' := 414) (tb_Model hγ) [.iinc 3 1] (by decide +kernel) rfl rfl trivial ?_
  refine E_goto (off := -136) (tgt := 278) (by decide +kernel) (by decide) ?_
  refine E_mask [true, false, false, true, false, false] rfl ?_
  exact hk278 (v3 + (1 : Int32)) M h
set_option maxRecDepth 4096 in
theorem lk_Model_endMethod_L357 {γ : Gm} (hγ : Gk γ) (this : Nat) (Q : Mem → Prop) (X : Mem → Prop) (k278 : Int32 → Mem → Prop) (hk278 : ∀ (v3 : Int32) (M : Mem), k278 v3 M → E γ k_Model_endMethod 1 278 [some (vr (some (11, this))), none, none, some (vi v3), none, none] [] M (Qx (14, 0) (Qv Q) X)) : ∀ (n : Nat) (v3 : Int32) (v5 : Int32) (M : Mem), w_Model_endMethod_L357 this Q X k278 n v3 v5 M → E γ k_Model_endMethod 1 357 [some (vr (some (11, this))), none, none, some (vi v3), none, some (vi v5)] [] M (Qx (14, 0) (Qv Q) X) := by
  intro n
  induction n with
  | zero => intro v3 v5 M h; exact h.elim
  | succ n ih =>
    intro v3 v5 M h
    unfold w_Model_endMethod_L357 at h
    refine E_blk (lv' := [some (vr (some (11, this))), none, none, some (vi v3), none, some (vi v5)]) (st' := [vr (mR M 11 this 45), vi v5]) (M1 := M) (pc' := 363) (tb_Model hγ) [.iload 5, .aload_n 0, .getfield 522] (by decide +kernel) rfl rfl trivial ?_
    obtain ⟨i22, ei22, h⟩ := h
    rw [ei22]
    refine E_blk (lv' := [some (vr (some (11, this))), none, none, some (vi v3), none, some (vi v5)]) (st' := [vr (mR M 12 i22 32), vi v5]) (M1 := M) (pc' := 366) (tb_Model hγ) [.getfield 680] (by decide +kernel) rfl rfl trivial ?_
    obtain ⟨i23, ei23, h⟩ := h
    rw [ei23]
    obtain ⟨c24, h⟩ := h
    refine E_blk (lv' := [some (vr (some (11, this))), none, none, some (vi v3), none, some (vi v5)]) (st' := [vr (mR M 11 this 45), vi (mI M 300 i23 v3.toNatClampNeg), vi v5]) (M1 := M) (pc' := 372) (tb_Model hγ) [.iload_n 3, .iaload, .aload_n 0, .getfield 522] (by decide +kernel) rfl rfl ⟨c24, trivial⟩ ?_
    obtain ⟨i25, ei25, h⟩ := h
    rw [ei25]
    refine E_blk (lv' := [some (vr (some (11, this))), none, none, some (vi v3), none, some (vi v5)]) (st' := [vr (mR M 12 i25 33), vi (mI M 300 i23 v3.toNatClampNeg), vi v5]) (M1 := M) (pc' := 375) (tb_Model hγ) [.getfield 683] (by decide +kernel) rfl rfl trivial ?_
    obtain ⟨i26, ei26, h⟩ := h
    rw [ei26]
    obtain ⟨c27, h⟩ := h
    refine E_blk (lv' := [some (vr (some (11, this))), none, none, some (vi v3), none, some (vi v5)]) (st' := [vi ((mI M 300 i23 v3.toNatClampNeg) + (mI M 300 i26 v3.toNatClampNeg)), vi v5]) (M1 := M) (pc' := 378) (tb_Model hγ) [.iload_n 3, .iaload, .iadd] (by decide +kernel) rfl rfl ⟨c27, trivial⟩ ?_
    refine E_icmp_ge (off := 33) (tgt := 411) (by decide +kernel) (by decide) (fun b28 => ?_) (fun b28 => ?_)
    · rw [if_pos b28] at h
      refine E_mask [true, false, false, true, false, false] rfl ?_
      exact lk_Model_endMethod_j411 hγ this Q X k278 hk278 v3 M h
    · rw [if_neg b28] at h
      refine E_blk (lv' := [some (vr (some (11, this))), none, none, some (vi v3), none, some (vi v5)]) (st' := [vr (mR M 11 this 45)]) (M1 := M) (pc' := 385) (tb_Model hγ) [.aload_n 0, .getfield 522] (by decide +kernel) rfl rfl trivial ?_
      obtain ⟨i29, ei29, h⟩ := h
      rw [ei29]
      refine E_blk (lv' := [some (vr (some (11, this))), none, none, some (vi v3), none, some (vi v5)]) (st' := [vr (mR M 12 i29 36)]) (M1 := M) (pc' := 388) (tb_Model hγ) [.getfield 689] (by decide +kernel) rfl rfl trivial ?_
      obtain ⟨i30, ei30, h⟩ := h
      rw [ei30]
      refine E_blk (lv' := [some (vr (some (11, this))), none, none, some (vi v3), none, some (vi v5)]) (st' := [vr (mR M 11 this 45), vr (some (11, this)), vi v5, vr (some (300, i30))]) (M1 := M) (pc' := 395) (tb_Model hγ) [.iload 5, .aload_n 0, .aload_n 0, .getfield 522] (by decide +kernel) rfl rfl trivial ?_
      obtain ⟨i31, ei31, h⟩ := h
      rw [ei31]
      refine E_blk (lv' := [some (vr (some (11, this))), none, none, some (vi v3), none, some (vi v5)]) (st' := [vr (mR M 12 i31 36), vr (some (11, this)), vi v5, vr (some (300, i30))]) (M1 := M) (pc' := 398) (tb_Model hγ) [.getfield 689] (by decide +kernel) rfl rfl trivial ?_
      obtain ⟨i32, ei32, h⟩ := h
      rw [ei32]
      obtain ⟨c33, h⟩ := h
      refine E_blk (lv' := [some (vr (some (11, this))), none, none, some (vi v3), none, some (vi v5)]) (st' := [vi (mI M 300 i32 v5.toNatClampNeg), vr (some (11, this)), vi v5, vr (some (300, i30))]) (M1 := M) (pc' := 401) (tb_Model hγ) [.iload 5, .iaload] (by decide +kernel) rfl rfl ⟨c33, trivial⟩ ?_
      refine E_callV (κ' := k_Model_labelOf) (As := [vi (mI M 300 i32 v5.toNatClampNeg)]) (st := [vi v5, vr (some (300, i30))]) mv_Model_labelOf (Or.inl (tbk_mem (j := 14) (k := 238) rfl)) rfl (by decide +kernel) (Nat.le_of_ble_eq_true rfl) (Nat.le_of_ble_eq_true rfl) rfl (by decide) (lk_Model_labelOf hγ this (mI M 300 i32 v5.toNatClampNeg) _ M h) (fun _ _ => Qi_r) (fun v M34 hp => Qi_k (R := fun st => E γ k_Model_endMethod 1 404 [some (vr (some (11, this))), none, none, some (vi v3), none, some (vi v5)] st M34 (Qx (14, 0) (Qv Q) X)) hp (fun r35 h => ?_))
      obtain ⟨c36, h⟩ := h
      refine E_blk (lv' := [some (vr (some (11, this))), none, none, some (vi v3), none, some (vi (v5 + (1 : Int32)))]) (st' := []) (M1 := (sI M34 300 i30 v5.toNatClampNeg r35)) (pc' := 408) (tb_Model hγ) [.iastore, .iinc 5 1] (by decide +kernel) rfl rfl ⟨c36, trivial⟩ ?_
      refine E_goto (off := -51) (tgt := 357) (by decide +kernel) (by decide) ?_
      refine E_mask [true, false, false, true, false, true] rfl ?_
      exact ih v3 (v5 + (1 : Int32)) (sI M34 300 i30 v5.toNatClampNeg r35) h
set_option maxRecDepth 4096 in
theorem lk_Model_endMethod_j339 {γ : Gm} (hγ : Gk γ) (this : Nat) (Q : Mem → Prop) (X : Mem → Prop) (k278 : Int32 → Mem → Prop) (hk278 : ∀ (v3 : Int32) (M : Mem), k278 v3 M → E γ k_Model_endMethod 1 278 [some (vr (some (11, this))), none, none, some (vi v3), none, none] [] M (Qx (14, 0) (Qv Q) X)) (v3 : Int32) (v4 : Int32) (M : Mem) (h : w_Model_endMethod_j339 this Q X k278 v3 v4 M) : E γ k_Model_endMethod 1 339 [some (vr (some (11, this))), none, none, some (vi v3), some (vi v4), none] [] M (Qx (14, 0) (Qv Q) X) := by
  unfold w_Model_endMethod_j339 at h
  refine E_blk (lv' := [some (vr (some (11, this))), none, none, some (vi v3), some (vi v4), none]) (st' := [vi (40 : Int32), vi v4]) (M1 := M) (pc' := 343) (tb_Model hγ) [.iload 4, .bipush 40] (by decide +kernel) rfl rfl trivial ?_
  refine E_icmp_ne (off := 68) (tgt := 411) (by decide +kernel) (by decide) (fun b18 => ?_) (fun b18 => ?_)
  · rw [if_pos b18] at h
    refine E_blk (lv' := [some (vr (some (11, this))), none, none, some (vi v3), some (vi v4), none]) (st' := [vr (mR M 11 this 45)]) (M1 := M) (pc' := 350) (tb_Model hγ) [.aload_n 0, .getfield 522] (by decide +kernel) rfl rfl trivial ?_
    obtain ⟨i19, ei19, h⟩ := h
    rw [ei19]
    refine E_blk (lv' := [some (vr (some (11, this))), none, none, some (vi v3), some (vi v4), none]) (st' := [vr (mR M 12 i19 32)]) (M1 := M) (pc' := 353) (tb_Model hγ) [.getfield 680] (by decide +kernel) rfl rfl trivial ?_
    obtain ⟨i20, ei20, h⟩ := h
    rw [ei20]
    obtain ⟨c21, h⟩ := h
    refine E_blk (lv' := [some (vr (some (11, this))), none, none, some (vi v3), some (vi v4), some (vi (mI M 300 i20 v3.toNatClampNeg))]) (st' := []) (M1 := M) (pc' := 357) (tb_Model hγ) [.iload_n 3, .iaload, .istore 5] (by decide +kernel) rfl rfl ⟨c21, trivial⟩ ?_
    obtain ⟨n37, h⟩ := h
    refine E_mask [true, false, false, true, false, true] rfl ?_
    exact lk_Model_endMethod_L357 hγ this Q X k278 hk278 n37 v3 (mI M 300 i20 v3.toNatClampNeg) M h
  · rw [if_neg b18] at h
    refine E_mask [true, false, false, true, false, false] rfl ?_
    exact lk_Model_endMethod_j411 hγ this Q X k278 hk278 v3 M h
set_option maxRecDepth 4096 in
theorem lk_Model_endMethod_L278 {γ : Gm} (hγ : Gk γ) (this : Nat) (Q : Mem → Prop) (X : Mem → Prop) : ∀ (n : Nat) (v3 : Int32) (M : Mem), w_Model_endMethod_L278 this Q X n v3 M → E γ k_Model_endMethod 1 278 [some (vr (some (11, this))), none, none, some (vi v3), none, none] [] M (Qx (14, 0) (Qv Q) X) := by
  intro n
  induction n with
  | zero => intro v3 M h; exact h.elim
  | succ n ih =>
    intro v3 M h
    unfold w_Model_endMethod_L278 at h
    refine E_blk (lv' := [some (vr (some (11, this))), none, none, some (vi v3), none, none]) (st' := [vr (mR M 11 this 45), vi v3]) (M1 := M) (pc' := 283) (tb_Model hγ) [.iload_n 3, .aload_n 0, .getfield 522] (by decide +kernel) rfl rfl trivial ?_
    obtain ⟨i12, ei12, h⟩ := h
    rw [ei12]
    refine E_blk (lv' := [some (vr (some (11, this))), none, none, some (vi v3), none, none]) (st' := [vi (mI M 12 i12 35), vi v3]) (M1 := M) (pc' := 286) (tb_Model hγ) [.getfield 471] (by decide +kernel) rfl rfl trivial ?_
    refine E_icmp_ge (off := 131) (tgt := 417) (by decide +kernel) (by decide) (fun b13 => ?_) (fun b13 => ?_)
    · rw [if_pos b13] at h
      exact (E_vret rfl (by decide +kernel) h).nx
    · rw [if_neg b13] at h
      refine E_blk (lv' := [some (vr (some (11, this))), none, none, some (vi v3), none, none]) (st' := [vr (mR M 11 this 45)]) (M1 := M) (pc' := 293) (tb_Model hγ) [.aload_n 0, .getfield 522] (by decide +kernel) rfl rfl trivial ?_
      obtain ⟨i14, ei14, h⟩ := h
      rw [ei14]
      refine E_blk (lv' := [some (vr (some (11, this))), none, none, some (vi v3), none, none]) (st' := [vr (mR M 12 i14 30)]) (M1 := M) (pc' := 296) (tb_Model hγ) [.getfield 674] (by decide +kernel) rfl rfl trivial ?_
      obtain ⟨i15, ei15, h⟩ := h
      rw [ei15]
      obtain ⟨c16, h⟩ := h
      refine E_blk (lv' := [some (vr (some (11, this))), none, none, some (vi v3), some (vi (mI M 401 i15 v3.toNatClampNeg)), none]) (st' := [vi (23 : Int32), vi (mI M 401 i15 v3.toNatClampNeg)]) (M1 := M) (pc' := 304) (tb_Model hγ) [.iload_n 3, .baload, .istore 4, .iload 4, .bipush 23] (by decide +kernel) rfl rfl ⟨c16, trivial⟩ ?_
      refine E_icmp_lt (off := 35) (tgt := 339) (by decide +kernel) (by decide) (fun b17 => ?_) (fun b17 => ?_)
      · rw [if_pos b17] at h
        refine E_mask [true, false, false, true, true, false] rfl ?_
        exact lk_Model_endMethod_j339 hγ this Q X (w_Model_endMethod_L278 this Q X n) ih v3 (mI M 401 i15 v3.toNatClampNeg) M h
      · rw [if_neg b17] at h
        refine E_blk (lv' := [some (vr (some (11, this))), none, none, some (vi v3), some (vi (mI M 401 i15 v3.toNatClampNeg)), none]) (st' := [vi (39 : Int32), vi (mI M 401 i15 v3.toNatClampNeg)]) (M1 := M) (pc' := 311) (tb_Model hγ) [.iload 4, .bipush 39] (by decide +kernel) rfl rfl trivial ?_
        refine E_icmp_gt (off := 28) (tgt := 339) (by decide +kernel) (by decide) (fun b38 => ?_) (fun b38 => ?_)
        · rw [if_pos b38] at h
          refine E_mask [true, false, false, true, true, false] rfl ?_
          exact lk_Model_endMethod_j339 hγ this Q X (w_Model_endMethod_L278 this Q X n) ih v3 (mI M 401 i15 v3.toNatClampNeg) M h
        · rw [if_neg b38] at h
          refine E_blk (lv' := [some (vr (some (11, this))), none, none, some (vi v3), some (vi (mI M 401 i15 v3.toNatClampNeg)), none]) (st' := [vr (mR M 11 this 45)]) (M1 := M) (pc' := 318) (tb_Model hγ) [.aload_n 0, .getfield 522] (by decide +kernel) rfl rfl trivial ?_
          obtain ⟨i39, ei39, h⟩ := h
          rw [ei39]
          refine E_blk (lv' := [some (vr (some (11, this))), none, none, some (vi v3), some (vi (mI M 401 i15 v3.toNatClampNeg)), none]) (st' := [vr (mR M 12 i39 31)]) (M1 := M) (pc' := 321) (tb_Model hγ) [.getfield 677] (by decide +kernel) rfl rfl trivial ?_
          obtain ⟨i40, ei40, h⟩ := h
          rw [ei40]
          refine E_blk (lv' := [some (vr (some (11, this))), none, none, some (vi v3), some (vi (mI M 401 i15 v3.toNatClampNeg)), none]) (st' := [vr (mR M 11 this 45), vr (some (11, this)), vi v3, vr (some (300, i40))]) (M1 := M) (pc' := 327) (tb_Model hγ) [.iload_n 3, .aload_n 0, .aload_n 0, .getfield 522] (by decide +kernel) rfl rfl trivial ?_
          obtain ⟨i41, ei41, h⟩ := h
          rw [ei41]
          refine E_blk (lv' := [some (vr (some (11, this))), none, none, some (vi v3), some (vi (mI M 401 i15 v3.toNatClampNeg)), none]) (st' := [vr (mR M 12 i41 31), vr (some (11, this)), vi v3, vr (some (300, i40))]) (M1 := M) (pc' := 330) (tb_Model hγ) [.getfield 677] (by decide +kernel) rfl rfl trivial ?_
          obtain ⟨i42, ei42, h⟩ := h
          rw [ei42]
          obtain ⟨c43, h⟩ := h
          refine E_blk (lv' := [some (vr (some (11, this))), none, none, some (vi v3), some (vi (mI M 401 i15 v3.toNatClampNeg)), none]) (st' := [vi (mI M 300 i42 v3.toNatClampNeg), vr (some (11, this)), vi v3, vr (some (300, i40))]) (M1 := M) (pc' := 332) (tb_Model hγ) [.iload_n 3, .iaload] (by decide +kernel) rfl rfl ⟨c43, trivial⟩ ?_
          refine E_callV (κ' := k_Model_labelOf) (As := [vi (mI M 300 i42 v3.toNatClampNeg)]) (st := [vi v3, vr (some (300, i40))]) mv_Model_labelOf (Or.inl (tbk_mem (j := 14) (k := 238) rfl)) rfl (by decide +kernel) (Nat.le_of_ble_eq_true rfl) (Nat.le_of_ble_eq_true rfl) rfl (by decide) (lk_Model_labelOf hγ this (mI M 300 i42 v3.toNatClampNeg) _ M h) (fun _ _ => Qi_r) (fun v M44 hp => Qi_k (R := fun st => E γ k_Model_endMethod 1 335 [some (vr (some (11, this))), none, none, some (vi v3), some (vi (mI M 401 i15 v3.toNatClampNeg)), none] st M44 (Qx (14, 0) (Qv Q) X)) hp (fun r45 h => ?_))
          obtain ⟨c46, h⟩ := h
          refine E_blk (lv' := [some (vr (some (11, this))), none, none, some (vi v3), some (vi (mI M 401 i15 v3.toNatClampNeg)), none]) (st' := []) (M1 := (sI M44 300 i40 v3.toNatClampNeg r45)) (pc' := 336) (tb_Model hγ) [.iastore] (by decide +kernel) rfl rfl ⟨c46, trivial⟩ ?_
          refine E_goto (off := 75) (tgt := 411) (by decide +kernel) (by decide) ?_
          refine E_mask [true, false, false, true, false, false] rfl ?_
          exact lk_Model_endMethod_j411 hγ this Q X (w_Model_endMethod_L278 this Q X n) ih v3 (sI M44 300 i40 v3.toNatClampNeg r45) h
set_option maxRecDepth 4096 in
theorem lk_Model_endMethod_j265 {γ : Gm} (hγ : Gk γ) (this : Nat) (Q : Mem → Prop) (X : Mem → Prop)  (M : Mem) (h : w_Model_endMethod_j265 this Q X  M) : E γ k_Model_endMethod 1 265 [some (vr (some (11, this))), none, none, none, none, none] [] M (Qx (14, 0) (Qv Q) X) := by
  unfold w_Model_endMethod_j265 at h
  refine E_blk (lv' := [some (vr (some (11, this))), none, none, none, none, none]) (st' := [vr (mR M 11 this 45)]) (M1 := M) (pc' := 269) (tb_Model hγ) [.aload_n 0, .getfield 522] (by decide +kernel) rfl rfl trivial ?_
  obtain ⟨i10, ei10, h⟩ := h
  rw [ei10]
  obtain ⟨c11, h⟩ := h
  refine E_blk (lv' := [some (vr (some (11, this))), none, none, some (vi (mI M 149 i10 (mI M 11 this 54).toNatClampNeg)), none, none]) (st' := []) (M1 := M) (pc' := 278) (tb_Model hγ) [.getfield 462, .aload_n 0, .getfield 642, .iaload, .istore_n 3] (by decide +kernel) rfl rfl ⟨c11, trivial⟩ ?_
  obtain ⟨n47, h⟩ := h
  refine E_mask [true, false, false, true, false, false] rfl ?_
  exact lk_Model_endMethod_L278 hγ this Q X n47 (mI M 149 i10 (mI M 11 this 54).toNatClampNeg) M h
set_option maxRecDepth 4096 in
theorem lk_Model_endMethod_j243 {γ : Gm} (hγ : Gk γ) (this : Nat) (Q : Mem → Prop) (X : Mem → Prop) (k112 : Int32 → Int32 → Int32 → Mem → Prop) (hk112 : ∀ (v1 : Int32) (v2 : Int32) (v3 : Int32) (M : Mem), k112 v1 v2 v3 M → E γ k_Model_endMethod 1 112 [some (vr (some (11, this))), some (vi v1), some (vi v2), some (vi v3), none, none] [] M (Qx (14, 0) (Qv Q) X)) (v1 : Int32) (v2 : Int32) (v3 : Int32) (M : Mem) (h : w_Model_endMethod_j243 this Q X k112 v1 v2 v3 M) : E γ k_Model_endMethod 1 243 [some (vr (some (11, this))), some (vi v1), some (vi v2), some (vi v3), none, none] [] M (Qx (14, 0) (Qv Q) X) := by
  unfold w_Model_endMethod_j243 at h
  refine E_blk (lv' := [some (vr (some (11, this))), some (vi v1), some (vi v2), some (vi (v3 + (1 : Int32))), none, none]) (st' := []) (M1 := M) (pc' := 246) (tb_Model hγ) [.iinc 3 1] (by decide +kernel) rfl rfl trivial ?_
  refine E_goto (off := -134) (tgt := 112) (by decide +kernel) (by decide) ?_
  refine E_mask [true, true, true, true, false, false] rfl ?_
  exact hk112 v1 v2 (v3 + (1 : Int32)) M h
set_option maxRecDepth 4096 in
theorem lk_Model_endMethod_L112 {γ : Gm} (hγ : Gk γ) (this : Nat) (Q : Mem → Prop) (X : Mem → Prop) : ∀ (n : Nat) (v1 : Int32) (v2 : Int32) (v3 : Int32) (M : Mem), w_Model_endMethod_L112 this Q X n v1 v2 v3 M → E γ k_Model_endMethod 1 112 [some (vr (some (11, this))), some (vi v1), some (vi v2), some (vi v3), none, none] [] M (Qx (14, 0) (Qv Q) X) := by
  intro n
  induction n with
  | zero => intro v1 v2 v3 M h; exact h.elim
  | succ n ih =>
    intro v1 v2 v3 M h
    unfold w_Model_endMethod_L112 at h
    refine E_blk (lv' := [some (vr (some (11, this))), some (vi v1), some (vi v2), some (vi v3), none, none]) (st' := [vr (mR M 11 this 45), vi v3]) (M1 := M) (pc' := 117) (tb_Model hγ) [.iload_n 3, .aload_n 0, .getfield 522] (by decide +kernel) rfl rfl trivial ?_
    obtain ⟨i4, ei4, h⟩ := h
    rw [ei4]
    obtain ⟨c5, h⟩ := h
    refine E_blk (lv' := [some (vr (some (11, this))), some (vi v1), some (vi v2), some (vi v3), none, none]) (st' := [vi (mI M 151 i4 (mI M 11 this 54).toNatClampNeg), vi v3]) (M1 := M) (pc' := 125) (tb_Model hγ) [.getfield 468, .aload_n 0, .getfield 642, .iaload] (by decide +kernel) rfl rfl ⟨c5, trivial⟩ ?_
    refine E_icmp_ge (off := 124) (tgt := 249) (by decide +kernel) (by decide) (fun b6 => ?_) (fun b6 => ?_)
    · rw [if_pos b6] at h
      refine E_blk (lv' := [some (vr (some (11, this))), some (vi v1), some (vi v2), some (vi v3), none, none]) (st' := [vi v1]) (M1 := M) (pc' := 250) (tb_Model hγ) [.iload_n 1] (by decide +kernel) rfl rfl trivial ?_
      refine E_if_ne (off := 15) (tgt := 265) (by decide +kernel) (by decide) (fun b7 => ?_) (fun b7 => ?_)
      · rw [if_pos b7] at h
        obtain ⟨c8, h⟩ := h
        refine E_blk (lv' := [some (vr (some (11, this))), some (vi v1), some (vi v2), some (vi v3), none, none]) (st' := [vi (mI M 108 this (0 : Int32).toNatClampNeg), vi (8 : Int32), vr (some (11, this))]) (M1 := M) (pc' := 262) (tb_Model hγ) [.aload_n 0, .bipush 8, .aload_n 0, .getfield 101, .iconst 0, .iaload] (by decide +kernel) rfl rfl ⟨c8, trivial⟩ ?_
        refine E_callX (κ' := k_Model_refuse) (As := [vi (8 : Int32), vi (mI M 108 this (0 : Int32).toNatClampNeg)]) (st := []) mv_Model_refuse (Or.inl (tbk_mem (j := 15) (k := 3) rfl)) rfl (by decide +kernel) (Nat.le_of_ble_eq_true rfl) (Nat.le_of_ble_eq_true rfl) rfl (by decide) rfl (lk_Model_refuse hγ this (8 : Int32) (mI M 108 this (0 : Int32).toNatClampNeg) _ _ M h) (fun _ _ => Qv_r) (fun _ h => h) (fun v M9 hp => Qv_k (R := fun st => E γ k_Model_endMethod 1 265 [some (vr (some (11, this))), some (vi v1), some (vi v2), some (vi v3), none, none] st M9 (Qx (14, 0) (Qv Q) X)) hp (fun h => ?_))
        refine E_mask [true, false, false, false, false, false] rfl ?_
        exact lk_Model_endMethod_j265 hγ this Q X  M9 h
      · rw [if_neg b7] at h
        refine E_mask [true, false, false, false, false, false] rfl ?_
        exact lk_Model_endMethod_j265 hγ this Q X  M h
    · rw [if_neg b6] at h
      refine E_blk (lv' := [some (vr (some (11, this))), some (vi v1), some (vi v2), some (vi v3), none, none]) (st' := [vr (mR M 11 this 45)]) (M1 := M) (pc' := 132) (tb_Model hγ) [.aload_n 0, .getfield 522] (by decide +kernel) rfl rfl trivial ?_
      obtain ⟨i48, ei48, h⟩ := h
      rw [ei48]
      refine E_blk (lv' := [some (vr (some (11, this))), some (vi v1), some (vi v2), some (vi v3), none, none]) (st' := [vr (mR M 11 this 45), vr (some (11, this)), vi (v2 + v3), vr (some (152, i48))]) (M1 := M) (pc' := 143) (tb_Model hγ) [.getfield 713, .iload_n 2, .iload_n 3, .iadd, .aload_n 0, .aload_n 0, .getfield 522] (by decide +kernel) rfl rfl trivial ?_
      obtain ⟨i49, ei49, h⟩ := h
      rw [ei49]
      obtain ⟨c50, h⟩ := h
      refine E_blk (lv' := [some (vr (some (11, this))), some (vi v1), some (vi v2), some (vi v3), none, none]) (st' := [vi (mI M 152 i49 (v2 + v3).toNatClampNeg), vr (some (11, this)), vi (v2 + v3), vr (some (152, i48))]) (M1 := M) (pc' := 150) (tb_Model hγ) [.getfield 713, .iload_n 2, .iload_n 3, .iadd, .iaload] (by decide +kernel) rfl rfl ⟨c50, trivial⟩ ?_
      refine E_callV (κ' := k_Model_labelOf) (As := [vi (mI M 152 i49 (v2 + v3).toNatClampNeg)]) (st := [vi (v2 + v3), vr (some (152, i48))]) mv_Model_labelOf (Or.inl (tbk_mem (j := 14) (k := 238) rfl)) rfl (by decide +kernel) (Nat.le_of_ble_eq_true rfl) (Nat.le_of_ble_eq_true rfl) rfl (by decide) (lk_Model_labelOf hγ this (mI M 152 i49 (v2 + v3).toNatClampNeg) _ M h) (fun _ _ => Qi_r) (fun v M51 hp => Qi_k (R := fun st => E γ k_Model_endMethod 1 153 [some (vr (some (11, this))), some (vi v1), some (vi v2), some (vi v3), none, none] st M51 (Qx (14, 0) (Qv Q) X)) hp (fun r52 h => ?_))
      obtain ⟨c53, h⟩ := h
      refine E_blk (lv' := [some (vr (some (11, this))), some (vi v1), some (vi v2), some (vi v3), none, none]) (st' := [vr (mR (sI M51 152 i48 (v2 + v3).toNatClampNeg r52) 11 this 45)]) (M1 := (sI M51 152 i48 (v2 + v3).toNatClampNeg r52)) (pc' := 158) (tb_Model hγ) [.iastore, .aload_n 0, .getfield 522] (by decide +kernel) rfl rfl ⟨c53, trivial⟩ ?_
      obtain ⟨i54, ei54, h⟩ := h
      rw [ei54]
      refine E_blk (lv' := [some (vr (some (11, this))), some (vi v1), some (vi v2), some (vi v3), none, none]) (st' := [vr (mR (sI M51 152 i48 (v2 + v3).toNatClampNeg r52) 11 this 45), vr (some (11, this)), vi (v2 + v3), vr (some (153, i54))]) (M1 := (sI M51 152 i48 (v2 + v3).toNatClampNeg r52)) (pc' := 169) (tb_Model hγ) [.getfield 716, .iload_n 2, .iload_n 3, .iadd, .aload_n 0, .aload_n 0, .getfield 522] (by decide +kernel) rfl rfl trivial ?_
      obtain ⟨i55, ei55, h⟩ := h
      rw [ei55]
      obtain ⟨c56, h⟩ := h
      refine E_blk (lv' := [some (vr (some (11, this))), some (vi v1), some (vi v2), some (vi v3), none, none]) (st' := [vi (mI (sI M51 152 i48 (v2 + v3).toNatClampNeg r52) 153 i55 (v2 + v3).toNatClampNeg), vr (some (11, this)), vi (v2 + v3), vr (some (153, i54))]) (M1 := (sI M51 152 i48 (v2 + v3).toNatClampNeg r52)) (pc' := 176) (tb_Model hγ) [.getfield 716, .iload_n 2, .iload_n 3, .iadd, .iaload] (by decide +kernel) rfl rfl ⟨c56, trivial⟩ ?_
      refine E_callV (κ' := k_Model_labelOf) (As := [vi (mI (sI M51 152 i48 (v2 + v3).toNatClampNeg r52) 153 i55 (v2 + v3).toNatClampNeg)]) (st := [vi (v2 + v3), vr (some (153, i54))]) mv_Model_labelOf (Or.inl (tbk_mem (j := 14) (k := 238) rfl)) rfl (by decide +kernel) (Nat.le_of_ble_eq_true rfl) (Nat.le_of_ble_eq_true rfl) rfl (by decide) (lk_Model_labelOf hγ this (mI (sI M51 152 i48 (v2 + v3).toNatClampNeg r52) 153 i55 (v2 + v3).toNatClampNeg) _ (sI M51 152 i48 (v2 + v3).toNatClampNeg r52) h) (fun _ _ => Qi_r) (fun v M57 hp => Qi_k (R := fun st => E γ k_Model_endMethod 1 179 [some (vr (some (11, this))), some (vi v1), some (vi v2), some (vi v3), none, none] st M57 (Qx (14, 0) (Qv Q) X)) hp (fun r58 h => ?_))
      obtain ⟨c59, h⟩ := h
      refine E_blk (lv' := [some (vr (some (11, this))), some (vi v1), some (vi v2), some (vi v3), none, none]) (st' := [vr (mR (sI M57 153 i54 (v2 + v3).toNatClampNeg r58) 11 this 45)]) (M1 := (sI M57 153 i54 (v2 + v3).toNatClampNeg r58)) (pc' := 184) (tb_Model hγ) [.iastore, .aload_n 0, .getfield 522] (by decide +kernel) rfl rfl ⟨c59, trivial⟩ ?_
      obtain ⟨i60, ei60, h⟩ := h
      rw [ei60]
      refine E_blk (lv' := [some (vr (some (11, this))), some (vi v1), some (vi v2), some (vi v3), none, none]) (st' := [vr (mR (sI M57 153 i54 (v2 + v3).toNatClampNeg r58) 11 this 45), vr (some (11, this)), vi (v2 + v3), vr (some (154, i60))]) (M1 := (sI M57 153 i54 (v2 + v3).toNatClampNeg r58)) (pc' := 195) (tb_Model hγ) [.getfield 719, .iload_n 2, .iload_n 3, .iadd, .aload_n 0, .aload_n 0, .getfield 522] (by decide +kernel) rfl rfl trivial ?_
      obtain ⟨i61, ei61, h⟩ := h
      rw [ei61]
      obtain ⟨c62, h⟩ := h
      refine E_blk (lv' := [some (vr (some (11, this))), some (vi v1), some (vi v2), some (vi v3), none, none]) (st' := [vi (mI (sI M57 153 i54 (v2 + v3).toNatClampNeg r58) 154 i61 (v2 + v3).toNatClampNeg), vr (some (11, this)), vi (v2 + v3), vr (some (154, i60))]) (M1 := (sI M57 153 i54 (v2 + v3).toNatClampNeg r58)) (pc' := 202) (tb_Model hγ) [.getfield 719, .iload_n 2, .iload_n 3, .iadd, .iaload] (by decide +kernel) rfl rfl ⟨c62, trivial⟩ ?_
      refine E_callV (κ' := k_Model_labelOf) (As := [vi (mI (sI M57 153 i54 (v2 + v3).toNatClampNeg r58) 154 i61 (v2 + v3).toNatClampNeg)]) (st := [vi (v2 + v3), vr (some (154, i60))]) mv_Model_labelOf (Or.inl (tbk_mem (j := 14) (k := 238) rfl)) rfl (by decide +kernel) (Nat.le_of_ble_eq_true rfl) (Nat.le_of_ble_eq_true rfl) rfl (by decide) (lk_Model_labelOf hγ this (mI (sI M57 153 i54 (v2 + v3).toNatClampNeg r58) 154 i61 (v2 + v3).toNatClampNeg) _ (sI M57 153 i54 (v2 + v3).toNatClampNeg r58) h) (fun _ _ => Qi_r) (fun v M63 hp => Qi_k (R := fun st => E γ k_Model_endMethod 1 205 [some (vr (some (11, this))), some (vi v1), some (vi v2), some (vi v3), none, none] st M63 (Qx (14, 0) (Qv Q) X)) hp (fun r64 h => ?_))
      obtain ⟨c65, h⟩ := h
      refine E_blk (lv' := [some (vr (some (11, this))), some (vi v1), some (vi v2), some (vi v3), none, none]) (st' := [vr (mR (sI M63 154 i60 (v2 + v3).toNatClampNeg r64) 11 this 45)]) (M1 := (sI M63 154 i60 (v2 + v3).toNatClampNeg r64)) (pc' := 210) (tb_Model hγ) [.iastore, .aload_n 0, .getfield 522] (by decide +kernel) rfl rfl ⟨c65, trivial⟩ ?_
      obtain ⟨i66, ei66, h⟩ := h
      rw [ei66]
      obtain ⟨c67, h⟩ := h
      refine E_blk (lv' := [some (vr (some (11, this))), some (vi v1), some (vi v2), some (vi v3), none, none]) (st' := [vr (mR (sI M63 154 i60 (v2 + v3).toNatClampNeg r64) 11 this 45), vi (mI (sI M63 154 i60 (v2 + v3).toNatClampNeg r64) 152 i66 (v2 + v3).toNatClampNeg)]) (M1 := (sI M63 154 i60 (v2 + v3).toNatClampNeg r64)) (pc' := 221) (tb_Model hγ) [.getfield 713, .iload_n 2, .iload_n 3, .iadd, .iaload, .aload_n 0, .getfield 522] (by decide +kernel) rfl rfl ⟨c67, trivial⟩ ?_
      obtain ⟨i68, ei68, h⟩ := h
      rw [ei68]
      obtain ⟨c69, h⟩ := h
      refine E_blk (lv' := [some (vr (some (11, this))), some (vi v1), some (vi v2), some (vi v3), none, none]) (st' := [vi (mI (sI M63 154 i60 (v2 + v3).toNatClampNeg r64) 153 i68 (v2 + v3).toNatClampNeg), vi (mI (sI M63 154 i60 (v2 + v3).toNatClampNeg r64) 152 i66 (v2 + v3).toNatClampNeg)]) (M1 := (sI M63 154 i60 (v2 + v3).toNatClampNeg r64)) (pc' := 228) (tb_Model hγ) [.getfield 716, .iload_n 2, .iload_n 3, .iadd, .iaload] (by decide +kernel) rfl rfl ⟨c69, trivial⟩ ?_
      refine E_icmp_lt (off := 15) (tgt := 243) (by decide +kernel) (by decide) (fun b70 => ?_) (fun b70 => ?_)
      · rw [if_pos b70] at h
        refine E_mask [true, true, true, true, false, false] rfl ?_
        exact lk_Model_endMethod_j243 hγ this Q X (w_Model_endMethod_L112 this Q X n) ih v1 v2 v3 (sI M63 154 i60 (v2 + v3).toNatClampNeg r64) h
      · rw [if_neg b70] at h
        obtain ⟨c71, h⟩ := h
        refine E_blk (lv' := [some (vr (some (11, this))), some (vi v1), some (vi v2), some (vi v3), none, none]) (st' := [vi (mI (sI M63 154 i60 (v2 + v3).toNatClampNeg r64) 109 this v3.toNatClampNeg), vi (10 : Int32), vr (some (11, this))]) (M1 := (sI M63 154 i60 (v2 + v3).toNatClampNeg r64)) (pc' := 240) (tb_Model hγ) [.aload_n 0, .bipush 10, .aload_n 0, .getfield 299, .iload_n 3, .iaload] (by decide +kernel) rfl rfl ⟨c71, trivial⟩ ?_
        refine E_callX (κ' := k_Model_refuse) (As := [vi (10 : Int32), vi (mI (sI M63 154 i60 (v2 + v3).toNatClampNeg r64) 109 this v3.toNatClampNeg)]) (st := []) mv_Model_refuse (Or.inl (tbk_mem (j := 15) (k := 3) rfl)) rfl (by decide +kernel) (Nat.le_of_ble_eq_true rfl) (Nat.le_of_ble_eq_true rfl) rfl (by decide) rfl (lk_Model_refuse hγ this (10 : Int32) (mI (sI M63 154 i60 (v2 + v3).toNatClampNeg r64) 109 this v3.toNatClampNeg) _ _ (sI M63 154 i60 (v2 + v3).toNatClampNeg r64) h) (fun _ _ => Qv_r) (fun _ h => h) (fun v M72 hp => Qv_k (R := fun st => E γ k_Model_endMethod 1 243 [some (vr (some (11, this))), some (vi v1), some (vi v2), some (vi v3), none, none] st M72 (Qx (14, 0) (Qv Q) X)) hp (fun h => ?_))
        refine E_mask [true, true, true, true, false, false] rfl ?_
        exact lk_Model_endMethod_j243 hγ this Q X (w_Model_endMethod_L112 this Q X n) ih v1 v2 v3 M72 h
set_option maxRecDepth 4096 in
theorem lk_Model_endMethod_j96 {γ : Gm} (hγ : Gk γ) (this : Nat) (Q : Mem → Prop) (X : Mem → Prop) (k15 : Int32 → Int32 → Mem → Prop) (hk15 : ∀ (v1 : Int32) (v2 : Int32) (M : Mem), k15 v1 v2 M → E γ k_Model_endMethod 1 15 [some (vr (some (11, this))), some (vi v1), some (vi v2), none, none, none] [] M (Qx (14, 0) (Qv Q) X)) (v1 : Int32) (v2 : Int32) (M : Mem) (h : w_Model_endMethod_j96 this Q X k15 v1 v2 M) : E γ k_Model_endMethod 1 96 [some (vr (some (11, this))), some (vi v1), some (vi v2), none, none, none] [] M (Qx (14, 0) (Qv Q) X) := by
  unfold w_Model_endMethod_j96 at h
  refine E_blk (lv' := [some (vr (some (11, this))), some (vi v1), some (vi (v2 + (1 : Int32))), none, none, none]) (st' := []) (M1 := M) (pc' := 99) (tb_Model hγ) [.iinc 2 1] (by decide +kernel) rfl rfl trivial ?_
  refine E_goto (off := -84) (tgt := 15) (by decide +kernel) (by decide) ?_
  refine E_mask [true, true, true, false, false, false] rfl ?_
  exact hk15 v1 (v2 + (1 : Int32)) M h
set_option maxRecDepth 4096 in
theorem lk_Model_endMethod_j84 {γ : Gm} (hγ : Gk γ) (this : Nat) (Q : Mem → Prop) (X : Mem → Prop) (k15 : Int32 → Int32 → Mem → Prop) (hk15 : ∀ (v1 : Int32) (v2 : Int32) (M : Mem), k15 v1 v2 M → E γ k_Model_endMethod 1 15 [some (vr (some (11, this))), some (vi v1), some (vi v2), none, none, none] [] M (Qx (14, 0) (Qv Q) X)) (v1 : Int32) (v2 : Int32) (M : Mem) (h : w_Model_endMethod_j84 this Q X k15 v1 v2 M) : E γ k_Model_endMethod 1 84 [some (vr (some (11, this))), some (vi v1), some (vi v2), none, none, none] [] M (Qx (14, 0) (Qv Q) X) := by
  unfold w_Model_endMethod_j84 at h
  refine E_blk (lv' := [some (vr (some (11, this))), some (vi v1), some (vi v2), none, none, none]) (st' := [vr (mR M 11 this 62), vi (9 : Int32), vr (some (11, this))]) (M1 := M) (pc' := 91) (tb_Model hγ) [.aload_n 0, .bipush 9, .aload_n 0, .getfield 292] (by decide +kernel) rfl rfl trivial ?_
  obtain ⟨i84, ei84, h⟩ := h
  rw [ei84]
  obtain ⟨c85, h⟩ := h
  refine E_blk (lv' := [some (vr (some (11, this))), some (vi v1), some (vi v2), none, none, none]) (st' := [vi (mI M 300 i84 v2.toNatClampNeg), vi (9 : Int32), vr (some (11, this))]) (M1 := M) (pc' := 93) (tb_Model hγ) [.iload_n 2, .iaload] (by decide +kernel) rfl rfl ⟨c85, trivial⟩ ?_
  refine E_callX (κ' := k_Model_refuse) (As := [vi (9 : Int32), vi (mI M 300 i84 v2.toNatClampNeg)]) (st := []) mv_Model_refuse (Or.inl (tbk_mem (j := 15) (k := 3) rfl)) rfl (by decide +kernel) (Nat.le_of_ble_eq_true rfl) (Nat.le_of_ble_eq_true rfl) rfl (by decide) rfl (lk_Model_refuse hγ this (9 : Int32) (mI M 300 i84 v2.toNatClampNeg) _ _ M h) (fun _ _ => Qv_r) (fun _ h => h) (fun v M86 hp => Qv_k (R := fun st => E γ k_Model_endMethod 1 96 [some (vr (some (11, this))), some (vi v1), some (vi v2), none, none, none] st M86 (Qx (14, 0) (Qv Q) X)) hp (fun h => ?_))
  refine E_mask [true, true, true, false, false, false] rfl ?_
  exact lk_Model_endMethod_j96 hγ this Q X k15 hk15 v1 v2 M86 h
set_option maxRecDepth 4096 in
theorem lk_Model_endMethod_j53 {γ : Gm} (hγ : Gk γ) (this : Nat) (Q : Mem → Prop) (X : Mem → Prop) (k15 : Int32 → Int32 → Mem → Prop) (hk15 : ∀ (v1 : Int32) (v2 : Int32) (M : Mem), k15 v1 v2 M → E γ k_Model_endMethod 1 15 [some (vr (some (11, this))), some (vi v1), some (vi v2), none, none, none] [] M (Qx (14, 0) (Qv Q) X)) (v1 : Int32) (v2 : Int32) (s0 : Int32) (M : Mem) (h : w_Model_endMethod_j53 this Q X k15 v1 v2 s0 M) : E γ k_Model_endMethod 1 53 [some (vr (some (11, this))), some (vi v1), some (vi v2), none, none, none] [vi s0] M (Qx (14, 0) (Qv Q) X) := by
  unfold w_Model_endMethod_j53 at h
  refine E_blk (lv' := [some (vr (some (11, this))), some (vi v1), some (vi v2), some (vi s0), none, none]) (st' := [vr (mR M 11 this 61)]) (M1 := M) (pc' := 58) (tb_Model hγ) [.istore_n 3, .aload_n 0, .getfield 289] (by decide +kernel) rfl rfl trivial ?_
  obtain ⟨i81, ei81, h⟩ := h
  rw [ei81]
  obtain ⟨c82, h⟩ := h
  refine E_blk (lv' := [some (vr (some (11, this))), some (vi v1), some (vi v2), some (vi s0), none, none]) (st' := [vi (-2147483648 : Int32), vi (mI M 300 i81 v2.toNatClampNeg)]) (M1 := M) (pc' := 63) (tb_Model hγ) [.iload_n 2, .iaload, .ldc_w 616] (by decide +kernel) rfl rfl ⟨c82, trivial⟩ ?_
  refine E_icmp_eq (off := 21) (tgt := 84) (by decide +kernel) (by decide) (fun b83 => ?_) (fun b83 => ?_)
  · rw [if_pos b83] at h
    refine E_mask [true, true, true, false, false, false] rfl ?_
    exact lk_Model_endMethod_j84 hγ this Q X k15 hk15 v1 v2 M h
  · rw [if_neg b83] at h
    refine E_blk (lv' := [some (vr (some (11, this))), some (vi v1), some (vi v2), some (vi s0), none, none]) (st' := [vi s0]) (M1 := M) (pc' := 67) (tb_Model hγ) [.iload_n 3] (by decide +kernel) rfl rfl trivial ?_
    refine E_if_lt (off := 17) (tgt := 84) (by decide +kernel) (by decide) (fun b87 => ?_) (fun b87 => ?_)
    · rw [if_pos b87] at h
      refine E_mask [true, true, true, false, false, false] rfl ?_
      exact lk_Model_endMethod_j84 hγ this Q X k15 hk15 v1 v2 M h
    · rw [if_neg b87] at h
      refine E_blk (lv' := [some (vr (some (11, this))), some (vi v1), some (vi v2), some (vi s0), none, none]) (st' := [vi v1, vi s0]) (M1 := M) (pc' := 72) (tb_Model hγ) [.iload_n 3, .iload_n 1] (by decide +kernel) rfl rfl trivial ?_
      refine E_icmp_ne (off := 24) (tgt := 96) (by decide +kernel) (by decide) (fun b88 => ?_) (fun b88 => ?_)
      · rw [if_pos b88] at h
        refine E_blk (lv' := [some (vr (some (11, this))), some (vi v1), some (vi v2), some (vi s0), none, none]) (st' := [vr (mR M 11 this 63)]) (M1 := M) (pc' := 79) (tb_Model hγ) [.aload_n 0, .getfield 295] (by decide +kernel) rfl rfl trivial ?_
        obtain ⟨i89, ei89, h⟩ := h
        rw [ei89]
        obtain ⟨c90, h⟩ := h
        refine E_blk (lv' := [some (vr (some (11, this))), some (vi v1), some (vi v2), some (vi s0), none, none]) (st' := [vi (mI M 501 i89 v2.toNatClampNeg)]) (M1 := M) (pc' := 81) (tb_Model hγ) [.iload_n 2, .baload] (by decide +kernel) rfl rfl ⟨c90, trivial⟩ ?_
        refine E_if_ne (off := 15) (tgt := 96) (by decide +kernel) (by decide) (fun b91 => ?_) (fun b91 => ?_)
        · rw [if_pos b91] at h
          refine E_mask [true, true, true, false, false, false] rfl ?_
          exact lk_Model_endMethod_j84 hγ this Q X k15 hk15 v1 v2 M h
        · rw [if_neg b91] at h
          refine E_mask [true, true, true, false, false, false] rfl ?_
          exact lk_Model_endMethod_j96 hγ this Q X k15 hk15 v1 v2 M h
      · rw [if_neg b88] at h
        refine E_mask [true, true, true, false, false, false] rfl ?_
        exact lk_Model_endMethod_j96 hγ this Q X k15 hk15 v1 v2 M h
set_option maxRecDepth 4096 in
theorem lk_Model_endMethod_L15 {γ : Gm} (hγ : Gk γ) (this : Nat) (Q : Mem → Prop) (X : Mem → Prop) : ∀ (n : Nat) (v1 : Int32) (v2 : Int32) (M : Mem), w_Model_endMethod_L15 this Q X n v1 v2 M → E γ k_Model_endMethod 1 15 [some (vr (some (11, this))), some (vi v1), some (vi v2), none, none, none] [] M (Qx (14, 0) (Qv Q) X) := by
  intro n
  induction n with
  | zero => intro v1 v2 M h; exact h.elim
  | succ n ih =>
    intro v1 v2 M h
    unfold w_Model_endMethod_L15 at h
    refine E_blk (lv' := [some (vr (some (11, this))), some (vi v1), some (vi v2), none, none, none]) (st' := [vi (mI M 11 this 64), vi v2]) (M1 := M) (pc' := 20) (tb_Model hγ) [.iload_n 2, .aload_n 0, .getfield 647] (by decide +kernel) rfl rfl trivial ?_
    refine E_icmp_ge (off := 82) (tgt := 102) (by decide +kernel) (by decide) (fun b3 => ?_) (fun b3 => ?_)
    · rw [if_pos b3] at h
      refine E_blk (lv' := [some (vr (some (11, this))), some (vi v1), some (vi ((8 : Int32) * (mI M 11 this 54))), some (vi (0 : Int32)), none, none]) (st' := []) (M1 := M) (pc' := 112) (tb_Model hγ) [.bipush 8, .aload_n 0, .getfield 642, .imul, .istore_n 2, .iconst 0, .istore_n 3] (by decide +kernel) rfl rfl trivial ?_
      obtain ⟨n73, h⟩ := h
      refine E_mask [true, true, true, true, false, false] rfl ?_
      exact lk_Model_endMethod_L112 hγ this Q X n73 v1 ((8 : Int32) * (mI M 11 this 54)) (0 : Int32) M h
    · rw [if_neg b3] at h
      refine E_blk (lv' := [some (vr (some (11, this))), some (vi v1), some (vi v2), none, none, none]) (st' := [vr (mR M 11 this 61)]) (M1 := M) (pc' := 27) (tb_Model hγ) [.aload_n 0, .getfield 289] (by decide +kernel) rfl rfl trivial ?_
      obtain ⟨i74, ei74, h⟩ := h
      rw [ei74]
      obtain ⟨c75, h⟩ := h
      refine E_blk (lv' := [some (vr (some (11, this))), some (vi v1), some (vi v2), none, none, none]) (st' := [vi (mI M 300 i74 v2.toNatClampNeg)]) (M1 := M) (pc' := 29) (tb_Model hγ) [.iload_n 2, .iaload] (by decide +kernel) rfl rfl ⟨c75, trivial⟩ ?_
      refine E_if_ge (off := 14) (tgt := 43) (by decide +kernel) (by decide) (fun b76 => ?_) (fun b76 => ?_)
      · rw [if_pos b76] at h
        refine E_blk (lv' := [some (vr (some (11, this))), some (vi v1), some (vi v2), none, none, none]) (st' := [vr (mR M 11 this 61), vr (some (11, this))]) (M1 := M) (pc' := 48) (tb_Model hγ) [.aload_n 0, .aload_n 0, .getfield 289] (by decide +kernel) rfl rfl trivial ?_
        obtain ⟨i77, ei77, h⟩ := h
        rw [ei77]
        obtain ⟨c78, h⟩ := h
        refine E_blk (lv' := [some (vr (some (11, this))), some (vi v1), some (vi v2), none, none, none]) (st' := [vi (mI M 300 i77 v2.toNatClampNeg), vr (some (11, this))]) (M1 := M) (pc' := 50) (tb_Model hγ) [.iload_n 2, .iaload] (by decide +kernel) rfl rfl ⟨c78, trivial⟩ ?_
        refine E_callV (κ' := k_Model_labelOf) (As := [vi (mI M 300 i77 v2.toNatClampNeg)]) (st := []) mv_Model_labelOf (Or.inl (tbk_mem (j := 14) (k := 238) rfl)) rfl (by decide +kernel) (Nat.le_of_ble_eq_true rfl) (Nat.le_of_ble_eq_true rfl) rfl (by decide) (lk_Model_labelOf hγ this (mI M 300 i77 v2.toNatClampNeg) _ M h) (fun _ _ => Qi_r) (fun v M79 hp => Qi_k (R := fun st => E γ k_Model_endMethod 1 53 [some (vr (some (11, this))), some (vi v1), some (vi v2), none, none, none] st M79 (Qx (14, 0) (Qv Q) X)) hp (fun r80 h => ?_))
        refine E_mask [true, true, true, false, false, false] rfl ?_
        exact lk_Model_endMethod_j53 hγ this Q X (w_Model_endMethod_L15 this Q X n) ih v1 v2 r80 M79 h
      · rw [if_neg b76] at h
        refine E_blk (lv' := [some (vr (some (11, this))), some (vi v1), some (vi v2), none, none, none]) (st' := [vr (mR M 11 this 61), vi (-1 : Int32)]) (M1 := M) (pc' := 37) (tb_Model hγ) [.iconst (.negSucc 0), .aload_n 0, .getfield 289] (by decide +kernel) rfl rfl trivial ?_
        obtain ⟨i92, ei92, h⟩ := h
        rw [ei92]
        obtain ⟨c93, h⟩ := h
        refine E_blk (lv' := [some (vr (some (11, this))), some (vi v1), some (vi v2), none, none, none]) (st' := [vi ((-1 : Int32) - (mI M 300 i92 v2.toNatClampNeg))]) (M1 := M) (pc' := 40) (tb_Model hγ) [.iload_n 2, .iaload, .isub] (by decide +kernel) rfl rfl ⟨c93, trivial⟩ ?_
        refine E_goto (off := 13) (tgt := 53) (by decide +kernel) (by decide) ?_
        refine E_mask [true, true, true, false, false, false] rfl ?_
        exact lk_Model_endMethod_j53 hγ this Q X (w_Model_endMethod_L15 this Q X n) ih v1 v2 ((-1 : Int32) - (mI M 300 i92 v2.toNatClampNeg)) M h
set_option maxRecDepth 4096 in
theorem lk_Model_endMethod {γ : Gm} (hγ : Gk γ) (this : Nat) (Q : Mem → Prop) (X : Mem → Prop) (M : Mem) (h : w_Model_endMethod this Q X M) : E γ k_Model_endMethod 1 0 [some (vr (some (11, this))), none, none, none, none, none] [] M (Qx (14, 0) (Qv Q) X) := by
  unfold w_Model_endMethod at h
  refine E_blk (lv' := [some (vr (some (11, this))), none, none, none, none, none]) (st' := [vr (mR M 11 this 45)]) (M1 := M) (pc' := 4) (tb_Model hγ) [.aload_n 0, .getfield 522] (by decide +kernel) rfl rfl trivial ?_
  obtain ⟨i1, ei1, h⟩ := h
  rw [ei1]
  obtain ⟨c2, h⟩ := h
  refine E_blk (lv' := [some (vr (some (11, this))), some (vi (mI M 150 i1 (mI M 11 this 54).toNatClampNeg)), some (vi (0 : Int32)), none, none, none]) (st' := []) (M1 := M) (pc' := 15) (tb_Model hγ) [.getfield 465, .aload_n 0, .getfield 642, .iaload, .istore_n 1, .iconst 0, .istore_n 2] (by decide +kernel) rfl rfl ⟨c2, trivial⟩ ?_
  obtain ⟨n94, h⟩ := h
  refine E_mask [true, true, true, false, false, false] rfl ?_
  exact lk_Model_endMethod_L15 hγ this Q X n94 (mI M 150 i1 (mI M 11 this 54).toNatClampNeg) (0 : Int32) M h
def w_Model_classLine_j324 (this : Nat) (Q : Mem → Prop) (X : Mem → Prop) (k240 : Int32 → Int32 → Int32 → Int32 → Mem → Prop) (k297 : Int32 → Int32 → Int32 → Int32 → Int32 → Int32 → Mem → Prop) (v1 : Int32) (v3 : Int32) (v4 : Int32) (v5 : Int32) (v6 : Int32) (v7 : Int32) (s0 : Int32) (s1 : Int32) (M : Mem) : Prop :=
  w_Model_asks this s1 s0 (fun M38 => k297 v1 v3 v4 v5 v6 (v7 + (1 : Int32)) M38) M
def w_Model_classLine_L297 (this : Nat) (Q : Mem → Prop) (X : Mem → Prop) (k240 : Int32 → Int32 → Int32 → Int32 → Mem → Prop) : Nat → Int32 → Int32 → Int32 → Int32 → Int32 → Int32 → Mem → Prop
  | 0, _, _, _, _, _, _, _ => False
  | n + 1, v1, v3, v4, v5, v6, v7, M => if v5 ≤ v7 then (∃ i30, (mR M 11 this 57) = some (300, i30) ∧ w_Model_room i30 (v5 + (1 : Int32)) (fun i32 M31 => ∃ i33, (mR (sR M31 11 this 57 (some (300, i32))) 11 this 57) = some (300, i33) ∧ vp_in v5 (mL (sR M31 11 this 57 (some (300, i32))) 300 i33) ∧ k240 v1 v3 v4 (v5 + (1 : Int32)) (sI (sR M31 11 this 57 (some (300, i32))) 300 i33 v5.toNatClampNeg v6)) M) else (∃ i35, (mR M 11 this 57) = some (300, i35) ∧ vp_in v7 (mL M 300 i35) ∧ if (mI M 300 i35 v7.toNatClampNeg) = v6 then (w_Model_classLine_j324 this Q X k240 (w_Model_classLine_L297 this Q X k240 n) v1 v3 v4 v5 v6 v7 (1 : Int32) (11 : Int32) M) else (w_Model_classLine_j324 this Q X k240 (w_Model_classLine_L297 this Q X k240 n) v1 v3 v4 v5 v6 v7 (0 : Int32) (11 : Int32) M))
def w_Model_classLine_j291 (this : Nat) (Q : Mem → Prop) (X : Mem → Prop) (k240 : Int32 → Int32 → Int32 → Int32 → Mem → Prop) (v1 : Int32) (v3 : Int32) (v4 : Int32) (v5 : Int32) (v6 : Int32) (s0 : Int32) (s1 : Int32) (M : Mem) : Prop :=
  w_Model_asks this s1 s0 (fun M28 => ∃ n39 : Nat, w_Model_classLine_L297 this Q X k240 n39 v1 v3 v4 v5 v6 (0 : Int32) M28) M
def w_Model_classLine_j286 (this : Nat) (Q : Mem → Prop) (X : Mem → Prop) (k240 : Int32 → Int32 → Int32 → Int32 → Mem → Prop) (v1 : Int32) (v3 : Int32) (v4 : Int32) (v5 : Int32) (v6 : Int32) (s0 : Int32) (M : Mem) : Prop :=
  w_Model_classLine_j291 this Q X k240 v1 v3 v4 v5 v6 (1 : Int32) s0 M
def w_Model_classLine_j377 (this : Nat) (Q : Mem → Prop) (X : Mem → Prop) (v1 : Int32) (v3 : Int32) (v4 : Int32) (v5 : Int32) (s0 : Int32) (s1 : Int32) (M : Mem) : Prop :=
  w_Model_asks this s1 s0 (fun M42 => w_Model_need this (0 : Int32) (fun M43 => if (99 : Int32) ≤ (mI M43 11 this 51) then (∃ i45, (mR M43 11 this 45) = some (12, i45) ∧ ∃ i46, (mR M43 11 this 57) = some (300, i46) ∧ ∃ i47, (mR M43 11 this 45) = some (12, i47) ∧ ¬ (0 : Int32) < 0 ∧ ¬ ((4 : Int32) * (mI M43 12 i45 2)) < 0 ∧ ¬ v5 < 0 ∧ (0 : Int32).toNatClampNeg + v5.toNatClampNeg ≤ mL M43 300 i46 ∧ ((4 : Int32) * (mI M43 12 i45 2)).toNatClampNeg + v5.toNatClampNeg ≤ mL M43 133 i47 ∧ ∃ M48, M48 = cpI M43 300 i46 (0 : Int32).toNatClampNeg 133 i47 ((4 : Int32) * (mI M43 12 i45 2)).toNatClampNeg v5.toNatClampNeg ∧ ∃ i54, (mR M48 11 this 45) = some (12, i54) ∧ vp_in (mI M43 12 i45 2) (mL M48 130 i54) ∧ ∃ i56, (mR (sI M48 130 i54 (mI M43 12 i45 2).toNatClampNeg v3) 11 this 45) = some (12, i56) ∧ vp_in (mI M43 12 i45 2) (mL (sI M48 130 i54 (mI M43 12 i45 2).toNatClampNeg v3) 131 i56) ∧ ∃ M58, M58 = (sI (sI M48 130 i54 (mI M43 12 i45 2).toNatClampNeg v3) 131 i56 (mI M43 12 i45 2).toNatClampNeg v4) ∧ ∃ i59, (mR M58 11 this 45) = some (12, i59) ∧ vp_in (mI M43 12 i45 2) (mL M58 132 i59) ∧ ∃ i61, (mR (sI M58 132 i59 (mI M43 12 i45 2).toNatClampNeg v1) 11 this 45) = some (12, i61) ∧ vp_in (mI M43 12 i45 2) (mL (sI M58 132 i59 (mI M43 12 i45 2).toNatClampNeg v1) 134 i61) ∧ ∃ M63, M63 = (sI (sI M58 132 i59 (mI M43 12 i45 2).toNatClampNeg v1) 134 i61 (mI M43 12 i45 2).toNatClampNeg v5) ∧ ∃ i64, (mR M63 11 this 45) = some (12, i64) ∧ vp_in (mI M43 12 i45 2) (mL M63 135 i64) ∧ ∃ i66, (mR (sI M63 135 i64 (mI M43 12 i45 2).toNatClampNeg (0 : Int32)) 11 this 45) = some (12, i66) ∧ vp_in (mI M43 12 i45 2) (mL (sI M63 135 i64 (mI M43 12 i45 2).toNatClampNeg (0 : Int32)) 136 i66) ∧ ∃ M68, M68 = (sI (sI M63 135 i64 (mI M43 12 i45 2).toNatClampNeg (0 : Int32)) 136 i66 (mI M43 12 i45 2).toNatClampNeg (0 : Int32)) ∧ ∃ i69, (mR M68 11 this 45) = some (12, i69) ∧ vp_in (mI M43 12 i45 2) (mL M68 137 i69) ∧ ∃ i71, (mR (sI M68 137 i69 (mI M43 12 i45 2).toNatClampNeg (0 : Int32)) 11 this 45) = some (12, i71) ∧ vp_in (mI M43 12 i45 2) (mL (sI M68 137 i69 (mI M43 12 i45 2).toNatClampNeg (0 : Int32)) 138 i71) ∧ ∃ M73, M73 = (sI (sI M68 137 i69 (mI M43 12 i45 2).toNatClampNeg (0 : Int32)) 138 i71 (mI M43 12 i45 2).toNatClampNeg (0 : Int32)) ∧ ∃ i74, (mR M73 11 this 45) = some (12, i74) ∧ ∃ M75, M75 = (sI (sI M73 12 i74 2 ((mI M73 12 i74 2) + (1 : Int32))) 11 this 53 (mI M43 12 i45 2)) ∧ Q (sI M75 11 this 52 (1 : Int32))) else (Q M43)) X M42) M
def w_Model_classLine_L240 (this : Nat) (Q : Mem → Prop) (X : Mem → Prop) : Nat → Int32 → Int32 → Int32 → Int32 → Mem → Prop
  | 0, _, _, _, _, _ => False
  | n + 1, v1, v3, v4, v5, M => vp_in (mI M 11 this 43) (mL M 411 this) ∧ if (mI M 411 this (mI M 11 this 43).toNatClampNeg) = (44 : Int32) then (w_Model_className this (fun r26 M25 => if r26 = v3 then (w_Model_classLine_j286 this Q X (w_Model_classLine_L240 this Q X n) v1 v3 v4 v5 r26 (11 : Int32) M25) else (if r26 = v4 then (w_Model_classLine_j286 this Q X (w_Model_classLine_L240 this Q X n) v1 v3 v4 v5 r26 (11 : Int32) M25) else (w_Model_classLine_j291 this Q X (w_Model_classLine_L240 this Q X n) v1 v3 v4 v5 r26 (0 : Int32) (11 : Int32) M25))) X (sI M 11 this 43 ((mI M 11 this 43) + (1 : Int32)))) else (if v5 ≤ (4 : Int32) then (w_Model_classLine_j377 this Q X v1 v3 v4 v5 (0 : Int32) (12 : Int32) M) else (w_Model_classLine_j377 this Q X v1 v3 v4 v5 (1 : Int32) (12 : Int32) M))
def w_Model_classLine_j234 (this : Nat) (Q : Mem → Prop) (X : Mem → Prop) (v1 : Int32) (v3 : Int32) (v4 : Int32) (s0 : Int32) (s1 : Int32) (M : Mem) : Prop :=
  w_Model_asks this s1 s0 (fun M22 => ∃ n76 : Nat, w_Model_classLine_L240 this Q X n76 v1 v3 v4 (0 : Int32) M22) M
def w_Model_classLine_j211 (this : Nat) (Q : Mem → Prop) (X : Mem → Prop) (v1 : Int32) (v3 : Int32) (v4 : Int32) (s0 : Int32) (s1 : Int32) (M : Mem) : Prop :=
  w_Model_asks this s1 s0 (fun M19 => ∃ i20, (mR M19 11 this 45) = some (12, i20) ∧ if (mI M19 12 i20 2) = (51 : Int32) then (w_Model_classLine_j234 this Q X v1 v3 v4 (1 : Int32) (12 : Int32) M19) else (w_Model_classLine_j234 this Q X v1 v3 v4 (0 : Int32) (12 : Int32) M19)) M
def w_Model_classLine_j194 (this : Nat) (Q : Mem → Prop) (X : Mem → Prop) (v1 : Int32) (v3 : Int32) (v4 : Int32) (s0 : Int32) (s1 : Int32) (M : Mem) : Prop :=
  w_Model_asks this s1 s0 (fun M17 => if v4 = v3 then (w_Model_classLine_j211 this Q X v1 v3 v4 (1 : Int32) (11 : Int32) M17) else (w_Model_classLine_j211 this Q X v1 v3 v4 (0 : Int32) (11 : Int32) M17)) M
def w_Model_classLine_j189 (this : Nat) (Q : Mem → Prop) (X : Mem → Prop) (v1 : Int32) (v3 : Int32) (v4 : Int32) (s0 : Int32) (M : Mem) : Prop :=
  w_Model_classLine_j194 this Q X v1 v3 v4 (1 : Int32) s0 M
def w_Model_classLine_j193 (this : Nat) (Q : Mem → Prop) (X : Mem → Prop) (v1 : Int32) (v3 : Int32) (v4 : Int32) (s0 : Int32) (M : Mem) : Prop :=
  w_Model_classLine_j194 this Q X v1 v3 v4 (0 : Int32) s0 M
def w_Model_classLine_j168 (this : Nat) (Q : Mem → Prop) (X : Mem → Prop) (v1 : Int32) (v3 : Int32) (v4 : Int32) (s0 : Int32) (M : Mem) : Prop :=
  if v1 = (6 : Int32) then (w_Model_classLine_j189 this Q X v1 v3 v4 s0 M) else (if (v1 &&& (4 : Int32)) = 0 then (w_Model_classLine_j193 this Q X v1 v3 v4 s0 M) else (if v4 = (mI M 11 this 8) then (w_Model_classLine_j193 this Q X v1 v3 v4 s0 M) else (w_Model_classLine_j189 this Q X v1 v3 v4 s0 M)))
def w_Model_classLine_j144 (this : Nat) (Q : Mem → Prop) (X : Mem → Prop) (v1 : Int32) (v3 : Int32) (v4 : Int32) (s0 : Int32) (s1 : Int32) (M : Mem) : Prop :=
  w_Model_asks this s1 s0 (fun M11 => w_Model_isOff this (0 : Int32) (fun r13 M12 => if r13 = 0 then (if (v1 &&& (1 : Int32)) = 0 then (w_Model_classLine_j168 this Q X v1 v3 v4 (4 : Int32) M12) else (if v1 = (1 : Int32) then (w_Model_classLine_j168 this Q X v1 v3 v4 (4 : Int32) M12) else (w_Model_classLine_j189 this Q X v1 v3 v4 (4 : Int32) M12))) else (w_Model_classLine_j193 this Q X v1 v3 v4 (4 : Int32) M12)) M11) M
def w_Model_classLine_j97 (this : Nat) (Q : Mem → Prop) (X : Mem → Prop) (k4 : Int32 → Int32 → Mem → Prop) (v1 : Int32) (v2 : Int32) (s0 : Int32) (s1 : Int32) (M : Mem) : Prop :=
  k4 v1 v2 (sI M 11 this 43 (s1 + s0))
def w_Model_classLine_j81 (this : Nat) (Q : Mem → Prop) (X : Mem → Prop) (k4 : Int32 → Int32 → Mem → Prop) (v2 : Int32) (s0 : Int32) (s1 : Int32) (M : Mem) : Prop :=
  if v2 = 0 then (w_Model_classLine_j97 this Q X k4 (s1 ||| s0) v2 (0 : Int32) (mI M 11 this 43) M) else (w_Model_classLine_j97 this Q X k4 (s1 ||| s0) v2 (1 : Int32) (mI M 11 this 43) M)
def w_Model_classLine_j70 (this : Nat) (Q : Mem → Prop) (X : Mem → Prop) (k4 : Int32 → Int32 → Mem → Prop) (v1 : Int32) (v3 : Int32) (s0 : Int32) (M : Mem) : Prop :=
  if s0 = 0 then (w_Model_classLine_j81 this Q X k4 s0 (0 : Int32) v1 M) else (w_Model_classLine_j81 this Q X k4 s0 v3 v1 M)
def w_Model_classLine_j69 (this : Nat) (Q : Mem → Prop) (X : Mem → Prop) (k4 : Int32 → Int32 → Mem → Prop) (v1 : Int32) (v3 : Int32) (M : Mem) : Prop :=
  w_Model_classLine_j70 this Q X k4 v1 v3 (0 : Int32) M
def w_Model_classLine_j54 (this : Nat) (Q : Mem → Prop) (X : Mem → Prop) (k4 : Int32 → Int32 → Mem → Prop) (v1 : Int32) (s0 : Int32) (M : Mem) : Prop :=
  if s0 = 0 then (w_Model_classLine_j69 this Q X k4 v1 s0 M) else (if (v1 &&& s0) = 0 then (w_Model_classLine_j70 this Q X k4 v1 s0 (1 : Int32) M) else (w_Model_classLine_j69 this Q X k4 v1 s0 M))
def w_Model_classLine_L4 (this : Nat) (Q : Mem → Prop) (X : Mem → Prop) : Nat → Int32 → Int32 → Mem → Prop
  | 0, _, _, _ => False
  | n + 1, v1, v2, M => if v2 = 0 then (w_Model_needWord this (mI M 11 this 9) (fun M2 => w_Model_className this (fun r4 M3 => w_Model_need this (58 : Int32) (fun M5 => w_Model_className this (fun r7 M6 => w_Model_classOf this r4 (fun r9 M8 => if r9 < 0 then (w_Model_classLine_j144 this Q X v1 r4 r7 (0 : Int32) (2 : Int32) M8) else (w_Model_classLine_j144 this Q X v1 r4 r7 (1 : Int32) (2 : Int32) M8)) M6) X M5) X M3) X M2) X M) else (w_Model_isWord this (mI M 11 this 10) (fun r81 M80 => if r81 = 0 then (w_Model_isWord this (mI M80 11 this 11) (fun r84 M83 => if r84 = 0 then (w_Model_isWord this (mI M83 11 this 12) (fun r87 M86 => if r87 = 0 then (w_Model_classLine_j54 this Q X (w_Model_classLine_L4 this Q X n) v1 (0 : Int32) M86) else (w_Model_classLine_j54 this Q X (w_Model_classLine_L4 this Q X n) v1 (4 : Int32) M86)) M83) else (w_Model_classLine_j54 this Q X (w_Model_classLine_L4 this Q X n) v1 (2 : Int32) M83)) M80) else (w_Model_classLine_j54 this Q X (w_Model_classLine_L4 this Q X n) v1 (1 : Int32) M80)) M)
def w_Model_classLine (this : Nat) (Q : Mem → Prop) (X : Mem → Prop) (M : Mem) : Prop :=
  ∃ n93 : Nat, w_Model_classLine_L4 this Q X n93 (0 : Int32) (1 : Int32) M
set_option maxRecDepth 4096 in
theorem lk_Model_classLine_j324 {γ : Gm} (hγ : Gk γ) (this : Nat) (Q : Mem → Prop) (X : Mem → Prop) (k240 : Int32 → Int32 → Int32 → Int32 → Mem → Prop) (k297 : Int32 → Int32 → Int32 → Int32 → Int32 → Int32 → Mem → Prop) (hk240 : ∀ (v1 : Int32) (v3 : Int32) (v4 : Int32) (v5 : Int32) (M : Mem), k240 v1 v3 v4 v5 M → E γ k_Model_classLine 4 240 [some (vr (some (11, this))), some (vi v1), none, some (vi v3), some (vi v4), some (vi v5), none, none] [] M (Qx (14, 0) (Qv Q) X)) (hk297 : ∀ (v1 : Int32) (v3 : Int32) (v4 : Int32) (v5 : Int32) (v6 : Int32) (v7 : Int32) (M : Mem), k297 v1 v3 v4 v5 v6 v7 M → E γ k_Model_classLine 4 297 [some (vr (some (11, this))), some (vi v1), none, some (vi v3), some (vi v4), some (vi v5), some (vi v6), some (vi v7)] [] M (Qx (14, 0) (Qv Q) X)) (v1 : Int32) (v3 : Int32) (v4 : Int32) (v5 : Int32) (v6 : Int32) (v7 : Int32) (s0 : Int32) (s1 : Int32) (M : Mem) (h : w_Model_classLine_j324 this Q X k240 k297 v1 v3 v4 v5 v6 v7 s0 s1 M) : E γ k_Model_classLine 4 324 [some (vr (some (11, this))), some (vi v1), none, some (vi v3), some (vi v4), some (vi v5), some (vi v6), some (vi v7)] [vi s0, vi s1, vr (some (11, this))] M (Qx (14, 0) (Qv Q) X) := by
  unfold w_Model_classLine_j324 at h
  refine E_callV (κ' := k_Model_asks) (As := [vi s1, vi s0]) (st := []) mv_Model_asks (Or.inl (tbk_mem (j := 15) (k := 43) rfl)) rfl (by decide +kernel) (Nat.le_of_ble_eq_true rfl) (Nat.le_of_ble_eq_true rfl) rfl (by decide) (lk_Model_asks hγ this s1 s0 _ M h) (fun _ _ => Qv_r) (fun v M38 hp => Qv_k (R := fun st => E γ k_Model_classLine 4 327 [some (vr (some (11, this))), some (vi v1), none, some (vi v3), some (vi v4), some (vi v5), some (vi v6), some (vi v7)] st M38 (Qx (14, 0) (Qv Q) X)) hp (fun h => ?_))
  refine E_blk (lv' := [some (vr (some (11, this))), some (vi v1), none, some (vi v3), some (vi v4), some (vi v5), some (vi v6), some (vi (v7 + (1 : Int32)))]) (st' := []) (M1 := M38) (pc' := 330) (tb_Model hγ) [.iinc 7 1] (by decide +kernel) rfl rfl trivial ?_
  refine E_goto (off := -33) (tgt := 297) (by decide +kernel) (by decide) ?_
  refine E_mask [true, true, false, true, true, true, true, true] rfl ?_
  exact hk297 v1 v3 v4 v5 v6 (v7 + (1 : Int32)) M38 h
set_option maxRecDepth 4096 in
theorem lk_Model_classLine_L297 {γ : Gm} (hγ : Gk γ) (this : Nat) (Q : Mem → Prop) (X : Mem → Prop) (k240 : Int32 → Int32 → Int32 → Int32 → Mem → Prop) (hk240 : ∀ (v1 : Int32) (v3 : Int32) (v4 : Int32) (v5 : Int32) (M : Mem), k240 v1 v3 v4 v5 M → E γ k_Model_classLine 4 240 [some (vr (some (11, this))), some (vi v1), none, some (vi v3), some (vi v4), some (vi v5), none, none] [] M (Qx (14, 0) (Qv Q) X)) : ∀ (n : Nat) (v1 : Int32) (v3 : Int32) (v4 : Int32) (v5 : Int32) (v6 : Int32) (v7 : Int32) (M : Mem), w_Model_classLine_L297 this Q X k240 n v1 v3 v4 v5 v6 v7 M → E γ k_Model_classLine 4 297 [some (vr (some (11, this))), some (vi v1), none, some (vi v3), some (vi v4), some (vi v5), some (vi v6), some (vi v7)] [] M (Qx (14, 0) (Qv Q) X) := by
  intro n
  induction n with
  | zero => intro v1 v3 v4 v5 v6 v7 M h; exact h.elim
  | succ n ih =>
    intro v1 v3 v4 v5 v6 v7 M h
    unfold w_Model_classLine_L297 at h
    refine E_blk (lv' := [some (vr (some (11, this))), some (vi v1), none, some (vi v3), some (vi v4), some (vi v5), some (vi v6), some (vi v7)]) (st' := [vi v5, vi v7]) (M1 := M) (pc' := 301) (tb_Model hγ) [.iload 7, .iload 5] (by decide +kernel) rfl rfl trivial ?_
    refine E_icmp_ge (off := 32) (tgt := 333) (by decide +kernel) (by decide) (fun b29 => ?_) (fun b29 => ?_)
    · rw [if_pos b29] at h
      refine E_blk (lv' := [some (vr (some (11, this))), some (vi v1), none, some (vi v3), some (vi v4), some (vi v5), some (vi v6), some (vi v7)]) (st' := [vr (mR M 11 this 57), vr (some (11, this))]) (M1 := M) (pc' := 338) (tb_Model hγ) [.aload_n 0, .aload_n 0, .getfield 280] (by decide +kernel) rfl rfl trivial ?_
      obtain ⟨i30, ei30, h⟩ := h
      rw [ei30]
      refine E_blk (lv' := [some (vr (some (11, this))), some (vi v1), none, some (vi v3), some (vi v4), some (vi v5), some (vi v6), some (vi v7)]) (st' := [vi (v5 + (1 : Int32)), vr (some (300, i30)), vr (some (11, this))]) (M1 := M) (pc' := 342) (tb_Model hγ) [.iload 5, .iconst 1, .iadd] (by decide +kernel) rfl rfl trivial ?_
      refine E_callS (κ' := k_Model_room) (As := [vr (some (300, i30)), vi (v5 + (1 : Int32))]) (st := [vr (some (11, this))]) ms_Model_room (Or.inl (tbk_mem (j := 11) (k := 66) rfl)) rfl (by decide +kernel) (Nat.le_of_ble_eq_true rfl) (Nat.le_of_ble_eq_true rfl) rfl (by decide) (lk_Model_room hγ i30 (v5 + (1 : Int32)) _ M h) (fun _ _ => Qr_r) (fun v M31 hp => Qr_k (R := fun st => E γ k_Model_classLine 4 345 [some (vr (some (11, this))), some (vi v1), none, some (vi v3), some (vi v4), some (vi v5), some (vi v6), some (vi v7)] st M31 (Qx (14, 0) (Qv Q) X)) hp (fun i32 h => ?_))
      refine E_blk (lv' := [some (vr (some (11, this))), some (vi v1), none, some (vi v3), some (vi v4), some (vi v5), some (vi v6), some (vi v7)]) (st' := [vr (mR (sR M31 11 this 57 (some (300, i32))) 11 this 57)]) (M1 := (sR M31 11 this 57 (some (300, i32)))) (pc' := 352) (tb_Model hγ) [.putfield 280, .aload_n 0, .getfield 280] (by decide +kernel) rfl rfl trivial ?_
      obtain ⟨i33, ei33, h⟩ := h
      rw [ei33]
      obtain ⟨c34, h⟩ := h
      refine E_blk (lv' := [some (vr (some (11, this))), some (vi v1), none, some (vi v3), some (vi v4), some (vi (v5 + (1 : Int32))), some (vi v6), some (vi v7)]) (st' := []) (M1 := (sI (sR M31 11 this 57 (some (300, i32))) 300 i33 v5.toNatClampNeg v6)) (pc' := 360) (tb_Model hγ) [.iload 5, .iload 6, .iastore, .iinc 5 1] (by decide +kernel) rfl rfl ⟨c34, trivial⟩ ?_
      refine E_goto (off := -120) (tgt := 240) (by decide +kernel) (by decide) ?_
      refine E_mask [true, true, false, true, true, true, false, false] rfl ?_
      exact hk240 v1 v3 v4 (v5 + (1 : Int32)) (sI (sR M31 11 this 57 (some (300, i32))) 300 i33 v5.toNatClampNeg v6) h
    · rw [if_neg b29] at h
      refine E_blk (lv' := [some (vr (some (11, this))), some (vi v1), none, some (vi v3), some (vi v4), some (vi v5), some (vi v6), some (vi v7)]) (st' := [vr (mR M 11 this 57), vi (11 : Int32), vr (some (11, this))]) (M1 := M) (pc' := 311) (tb_Model hγ) [.aload_n 0, .bipush 11, .aload_n 0, .getfield 280] (by decide +kernel) rfl rfl trivial ?_
      obtain ⟨i35, ei35, h⟩ := h
      rw [ei35]
      obtain ⟨c36, h⟩ := h
      refine E_blk (lv' := [some (vr (some (11, this))), some (vi v1), none, some (vi v3), some (vi v4), some (vi v5), some (vi v6), some (vi v7)]) (st' := [vi v6, vi (mI M 300 i35 v7.toNatClampNeg), vi (11 : Int32), vr (some (11, this))]) (M1 := M) (pc' := 316) (tb_Model hγ) [.iload 7, .iaload, .iload 6] (by decide +kernel) rfl rfl ⟨c36, trivial⟩ ?_
      refine E_icmp_ne (off := 7) (tgt := 323) (by decide +kernel) (by decide) (fun b37 => ?_) (fun b37 => ?_)
      · rw [if_pos b37] at h
        refine E_blk (lv' := [some (vr (some (11, this))), some (vi v1), none, some (vi v3), some (vi v4), some (vi v5), some (vi v6), some (vi v7)]) (st' := [vi (1 : Int32), vi (11 : Int32), vr (some (11, this))]) (M1 := M) (pc' := 320) (tb_Model hγ) [.iconst 1] (by decide +kernel) rfl rfl trivial ?_
        refine E_goto (off := 4) (tgt := 324) (by decide +kernel) (by decide) ?_
        refine E_mask [true, true, false, true, true, true, true, true] rfl ?_
        exact lk_Model_classLine_j324 hγ this Q X k240 (w_Model_classLine_L297 this Q X k240 n) hk240 ih v1 v3 v4 v5 v6 v7 (1 : Int32) (11 : Int32) M h
      · rw [if_neg b37] at h
        refine E_blk (lv' := [some (vr (some (11, this))), some (vi v1), none, some (vi v3), some (vi v4), some (vi v5), some (vi v6), some (vi v7)]) (st' := [vi (0 : Int32), vi (11 : Int32), vr (some (11, this))]) (M1 := M) (pc' := 324) (tb_Model hγ) [.iconst 0] (by decide +kernel) rfl rfl trivial ?_
        refine E_mask [true, true, false, true, true, true, true, true] rfl ?_
        exact lk_Model_classLine_j324 hγ this Q X k240 (w_Model_classLine_L297 this Q X k240 n) hk240 ih v1 v3 v4 v5 v6 v7 (0 : Int32) (11 : Int32) M h
set_option maxRecDepth 4096 in
theorem lk_Model_classLine_j291 {γ : Gm} (hγ : Gk γ) (this : Nat) (Q : Mem → Prop) (X : Mem → Prop) (k240 : Int32 → Int32 → Int32 → Int32 → Mem → Prop) (hk240 : ∀ (v1 : Int32) (v3 : Int32) (v4 : Int32) (v5 : Int32) (M : Mem), k240 v1 v3 v4 v5 M → E γ k_Model_classLine 4 240 [some (vr (some (11, this))), some (vi v1), none, some (vi v3), some (vi v4), some (vi v5), none, none] [] M (Qx (14, 0) (Qv Q) X)) (v1 : Int32) (v3 : Int32) (v4 : Int32) (v5 : Int32) (v6 : Int32) (s0 : Int32) (s1 : Int32) (M : Mem) (h : w_Model_classLine_j291 this Q X k240 v1 v3 v4 v5 v6 s0 s1 M) : E γ k_Model_classLine 4 291 [some (vr (some (11, this))), some (vi v1), none, some (vi v3), some (vi v4), some (vi v5), some (vi v6), none] [vi s0, vi s1, vr (some (11, this))] M (Qx (14, 0) (Qv Q) X) := by
  unfold w_Model_classLine_j291 at h
  refine E_callV (κ' := k_Model_asks) (As := [vi s1, vi s0]) (st := []) mv_Model_asks (Or.inl (tbk_mem (j := 15) (k := 43) rfl)) rfl (by decide +kernel) (Nat.le_of_ble_eq_true rfl) (Nat.le_of_ble_eq_true rfl) rfl (by decide) (lk_Model_asks hγ this s1 s0 _ M h) (fun _ _ => Qv_r) (fun v M28 hp => Qv_k (R := fun st => E γ k_Model_classLine 4 294 [some (vr (some (11, this))), some (vi v1), none, some (vi v3), some (vi v4), some (vi v5), some (vi v6), none] st M28 (Qx (14, 0) (Qv Q) X)) hp (fun h => ?_))
  refine E_blk (lv' := [some (vr (some (11, this))), some (vi v1), none, some (vi v3), some (vi v4), some (vi v5), some (vi v6), some (vi (0 : Int32))]) (st' := []) (M1 := M28) (pc' := 297) (tb_Model hγ) [.iconst 0, .istore 7] (by decide +kernel) rfl rfl trivial ?_
  obtain ⟨n39, h⟩ := h
  refine E_mask [true, true, false, true, true, true, true, true] rfl ?_
  exact lk_Model_classLine_L297 hγ this Q X k240 hk240 n39 v1 v3 v4 v5 v6 (0 : Int32) M28 h
set_option maxRecDepth 4096 in
theorem lk_Model_classLine_j286 {γ : Gm} (hγ : Gk γ) (this : Nat) (Q : Mem → Prop) (X : Mem → Prop) (k240 : Int32 → Int32 → Int32 → Int32 → Mem → Prop) (hk240 : ∀ (v1 : Int32) (v3 : Int32) (v4 : Int32) (v5 : Int32) (M : Mem), k240 v1 v3 v4 v5 M → E γ k_Model_classLine 4 240 [some (vr (some (11, this))), some (vi v1), none, some (vi v3), some (vi v4), some (vi v5), none, none] [] M (Qx (14, 0) (Qv Q) X)) (v1 : Int32) (v3 : Int32) (v4 : Int32) (v5 : Int32) (v6 : Int32) (s0 : Int32) (M : Mem) (h : w_Model_classLine_j286 this Q X k240 v1 v3 v4 v5 v6 s0 M) : E γ k_Model_classLine 4 286 [some (vr (some (11, this))), some (vi v1), none, some (vi v3), some (vi v4), some (vi v5), some (vi v6), none] [vi s0, vr (some (11, this))] M (Qx (14, 0) (Qv Q) X) := by
  unfold w_Model_classLine_j286 at h
  refine E_blk (lv' := [some (vr (some (11, this))), some (vi v1), none, some (vi v3), some (vi v4), some (vi v5), some (vi v6), none]) (st' := [vi (1 : Int32), vi s0, vr (some (11, this))]) (M1 := M) (pc' := 287) (tb_Model hγ) [.iconst 1] (by decide +kernel) rfl rfl trivial ?_
  refine E_goto (off := 4) (tgt := 291) (by decide +kernel) (by decide) ?_
  refine E_mask [true, true, false, true, true, true, true, false] rfl ?_
  exact lk_Model_classLine_j291 hγ this Q X k240 hk240 v1 v3 v4 v5 v6 (1 : Int32) s0 M h
set_option maxRecDepth 4096 in
theorem lk_Model_classLine_j377 {γ : Gm} (hγ : Gk γ) (this : Nat) (Q : Mem → Prop) (X : Mem → Prop) (v1 : Int32) (v3 : Int32) (v4 : Int32) (v5 : Int32) (s0 : Int32) (s1 : Int32) (M : Mem) (h : w_Model_classLine_j377 this Q X v1 v3 v4 v5 s0 s1 M) : E γ k_Model_classLine 4 377 [some (vr (some (11, this))), some (vi v1), none, some (vi v3), some (vi v4), some (vi v5), none, none] [vi s0, vi s1, vr (some (11, this))] M (Qx (14, 0) (Qv Q) X) := by
  unfold w_Model_classLine_j377 at h
  refine E_callV (κ' := k_Model_asks) (As := [vi s1, vi s0]) (st := []) mv_Model_asks (Or.inl (tbk_mem (j := 15) (k := 43) rfl)) rfl (by decide +kernel) (Nat.le_of_ble_eq_true rfl) (Nat.le_of_ble_eq_true rfl) rfl (by decide) (lk_Model_asks hγ this s1 s0 _ M h) (fun _ _ => Qv_r) (fun v M42 hp => Qv_k (R := fun st => E γ k_Model_classLine 4 380 [some (vr (some (11, this))), some (vi v1), none, some (vi v3), some (vi v4), some (vi v5), none, none] st M42 (Qx (14, 0) (Qv Q) X)) hp (fun h => ?_))
  refine E_blk (lv' := [some (vr (some (11, this))), some (vi v1), none, some (vi v3), some (vi v4), some (vi v5), none, none]) (st' := [vi (0 : Int32), vr (some (11, this))]) (M1 := M42) (pc' := 382) (tb_Model hγ) [.aload_n 0, .iconst 0] (by decide +kernel) rfl rfl trivial ?_
  refine E_callX (κ' := k_Model_need) (As := [vi (0 : Int32)]) (st := []) mv_Model_need (Or.inl (tbk_mem (j := 15) (k := 35) rfl)) rfl (by decide +kernel) (Nat.le_of_ble_eq_true rfl) (Nat.le_of_ble_eq_true rfl) rfl (by decide) rfl (lk_Model_need hγ this (0 : Int32) _ _ M42 h) (fun _ _ => Qv_r) (fun _ h => h) (fun v M43 hp => Qv_k (R := fun st => E γ k_Model_classLine 4 385 [some (vr (some (11, this))), some (vi v1), none, some (vi v3), some (vi v4), some (vi v5), none, none] st M43 (Qx (14, 0) (Qv Q) X)) hp (fun h => ?_))
  refine E_blk (lv' := [some (vr (some (11, this))), some (vi v1), none, some (vi v3), some (vi v4), some (vi v5), none, none]) (st' := [vi (99 : Int32), vi (mI M43 11 this 51)]) (M1 := M43) (pc' := 391) (tb_Model hγ) [.aload_n 0, .getfield 532, .bipush 99] (by decide +kernel) rfl rfl trivial ?_
  refine E_icmp_ge (off := 4) (tgt := 395) (by decide +kernel) (by decide) (fun b44 => ?_) (fun b44 => ?_)
  · rw [if_pos b44] at h
    refine E_blk (lv' := [some (vr (some (11, this))), some (vi v1), none, some (vi v3), some (vi v4), some (vi v5), none, none]) (st' := [vr (mR M43 11 this 45)]) (M1 := M43) (pc' := 399) (tb_Model hγ) [.aload_n 0, .getfield 522] (by decide +kernel) rfl rfl trivial ?_
    obtain ⟨i45, ei45, h⟩ := h
    rw [ei45]
    refine E_blk (lv' := [some (vr (some (11, this))), some (vi v1), none, some (vi v3), some (vi v4), some (vi v5), some (vi (mI M43 12 i45 2)), none]) (st' := [vr (mR M43 11 this 57)]) (M1 := M43) (pc' := 408) (tb_Model hγ) [.getfield 420, .istore 6, .aload_n 0, .getfield 280] (by decide +kernel) rfl rfl trivial ?_
    obtain ⟨i46, ei46, h⟩ := h
    rw [ei46]
    refine E_blk (lv' := [some (vr (some (11, this))), some (vi v1), none, some (vi v3), some (vi v4), some (vi v5), some (vi (mI M43 12 i45 2)), none]) (st' := [vr (mR M43 11 this 45), vi (0 : Int32), vr (some (300, i46))]) (M1 := M43) (pc' := 413) (tb_Model hγ) [.iconst 0, .aload_n 0, .getfield 522] (by decide +kernel) rfl rfl trivial ?_
    obtain ⟨i47, ei47, h⟩ := h
    rw [ei47]
    refine E_blk (lv' := [some (vr (some (11, this))), some (vi v1), none, some (vi v3), some (vi v4), some (vi v5), some (vi (mI M43 12 i45 2)), none]) (st' := [vi v5, vi ((4 : Int32) * (mI M43 12 i45 2)), vr (some (133, i47)), vi (0 : Int32), vr (some (300, i46))]) (M1 := M43) (pc' := 422) (tb_Model hγ) [.getfield 612, .iconst 4, .iload 6, .imul, .iload 5] (by decide +kernel) rfl rfl trivial ?_
    obtain ⟨c49, c50, c51, c52, c53, M48, eM48, h⟩ := h
    refine E_copy (pc := 422) (κ := k_Model_classLine) (f := 300) (i := i46) (g := 133) (j := i47) (sp := (0 : Int32)) (dp := ((4 : Int32) * (mI M43 12 i45 2))) (n := v5) (idx := 11) (st := []) c49 c50 c51 c52 c53 (by decide) (by decide) rfl (by decide) (tbk_mem (j := 11) (k := 65) rfl) (by decide +kernel) (Nat.le_of_ble_eq_true rfl) ?_
    rw [← eM48]
    refine E_blk (lv' := [some (vr (some (11, this))), some (vi v1), none, some (vi v3), some (vi v4), some (vi v5), some (vi (mI M43 12 i45 2)), none]) (st' := [vr (mR M48 11 this 45)]) (M1 := M48) (pc' := 429) (tb_Model hγ) [.aload_n 0, .getfield 522] (by decide +kernel) rfl rfl trivial ?_
    obtain ⟨i54, ei54, h⟩ := h
    rw [ei54]
    obtain ⟨c55, h⟩ := h
    refine E_blk (lv' := [some (vr (some (11, this))), some (vi v1), none, some (vi v3), some (vi v4), some (vi v5), some (vi (mI M43 12 i45 2)), none]) (st' := [vr (mR (sI M48 130 i54 (mI M43 12 i45 2).toNatClampNeg v3) 11 this 45)]) (M1 := (sI M48 130 i54 (mI M43 12 i45 2).toNatClampNeg v3)) (pc' := 440) (tb_Model hγ) [.getfield 423, .iload 6, .iload_n 3, .iastore, .aload_n 0, .getfield 522] (by decide +kernel) rfl rfl ⟨c55, trivial⟩ ?_
    obtain ⟨i56, ei56, h⟩ := h
    rw [ei56]
    obtain ⟨c57, h⟩ := h
    refine E_blk (lv' := [some (vr (some (11, this))), some (vi v1), none, some (vi v3), some (vi v4), some (vi v5), some (vi (mI M43 12 i45 2)), none]) (st' := []) (M1 := (sI (sI M48 130 i54 (mI M43 12 i45 2).toNatClampNeg v3) 131 i56 (mI M43 12 i45 2).toNatClampNeg v4)) (pc' := 448) (tb_Model hγ) [.getfield 426, .iload 6, .iload 4, .iastore] (by decide +kernel) rfl rfl ⟨c57, trivial⟩ ?_
    obtain ⟨M58, eM58, h⟩ := h
    rw [← eM58]
    refine E_blk (lv' := [some (vr (some (11, this))), some (vi v1), none, some (vi v3), some (vi v4), some (vi v5), some (vi (mI M43 12 i45 2)), none]) (st' := [vr (mR M58 11 this 45)]) (M1 := M58) (pc' := 452) (tb_Model hγ) [.aload_n 0, .getfield 522] (by decide +kernel) rfl rfl trivial ?_
    obtain ⟨i59, ei59, h⟩ := h
    rw [ei59]
    obtain ⟨c60, h⟩ := h
    refine E_blk (lv' := [some (vr (some (11, this))), some (vi v1), none, some (vi v3), some (vi v4), some (vi v5), some (vi (mI M43 12 i45 2)), none]) (st' := [vr (mR (sI M58 132 i59 (mI M43 12 i45 2).toNatClampNeg v1) 11 this 45)]) (M1 := (sI M58 132 i59 (mI M43 12 i45 2).toNatClampNeg v1)) (pc' := 463) (tb_Model hγ) [.getfield 429, .iload 6, .iload_n 1, .iastore, .aload_n 0, .getfield 522] (by decide +kernel) rfl rfl ⟨c60, trivial⟩ ?_
    obtain ⟨i61, ei61, h⟩ := h
    rw [ei61]
    obtain ⟨c62, h⟩ := h
    refine E_blk (lv' := [some (vr (some (11, this))), some (vi v1), none, some (vi v3), some (vi v4), some (vi v5), some (vi (mI M43 12 i45 2)), none]) (st' := []) (M1 := (sI (sI M58 132 i59 (mI M43 12 i45 2).toNatClampNeg v1) 134 i61 (mI M43 12 i45 2).toNatClampNeg v5)) (pc' := 471) (tb_Model hγ) [.getfield 432, .iload 6, .iload 5, .iastore] (by decide +kernel) rfl rfl ⟨c62, trivial⟩ ?_
    obtain ⟨M63, eM63, h⟩ := h
    rw [← eM63]
    refine E_blk (lv' := [some (vr (some (11, this))), some (vi v1), none, some (vi v3), some (vi v4), some (vi v5), some (vi (mI M43 12 i45 2)), none]) (st' := [vr (mR M63 11 this 45)]) (M1 := M63) (pc' := 475) (tb_Model hγ) [.aload_n 0, .getfield 522] (by decide +kernel) rfl rfl trivial ?_
    obtain ⟨i64, ei64, h⟩ := h
    rw [ei64]
    obtain ⟨c65, h⟩ := h
    refine E_blk (lv' := [some (vr (some (11, this))), some (vi v1), none, some (vi v3), some (vi v4), some (vi v5), some (vi (mI M43 12 i45 2)), none]) (st' := [vr (mR (sI M63 135 i64 (mI M43 12 i45 2).toNatClampNeg (0 : Int32)) 11 this 45)]) (M1 := (sI M63 135 i64 (mI M43 12 i45 2).toNatClampNeg (0 : Int32))) (pc' := 486) (tb_Model hγ) [.getfield 435, .iload 6, .iconst 0, .iastore, .aload_n 0, .getfield 522] (by decide +kernel) rfl rfl ⟨c65, trivial⟩ ?_
    obtain ⟨i66, ei66, h⟩ := h
    rw [ei66]
    obtain ⟨c67, h⟩ := h
    refine E_blk (lv' := [some (vr (some (11, this))), some (vi v1), none, some (vi v3), some (vi v4), some (vi v5), some (vi (mI M43 12 i45 2)), none]) (st' := []) (M1 := (sI (sI M63 135 i64 (mI M43 12 i45 2).toNatClampNeg (0 : Int32)) 136 i66 (mI M43 12 i45 2).toNatClampNeg (0 : Int32))) (pc' := 493) (tb_Model hγ) [.getfield 438, .iload 6, .iconst 0, .iastore] (by decide +kernel) rfl rfl ⟨c67, trivial⟩ ?_
    obtain ⟨M68, eM68, h⟩ := h
    rw [← eM68]
    refine E_blk (lv' := [some (vr (some (11, this))), some (vi v1), none, some (vi v3), some (vi v4), some (vi v5), some (vi (mI M43 12 i45 2)), none]) (st' := [vr (mR M68 11 this 45)]) (M1 := M68) (pc' := 497) (tb_Model hγ) [.aload_n 0, .getfield 522] (by decide +kernel) rfl rfl trivial ?_
    obtain ⟨i69, ei69, h⟩ := h
    rw [ei69]
    obtain ⟨c70, h⟩ := h
    refine E_blk (lv' := [some (vr (some (11, this))), some (vi v1), none, some (vi v3), some (vi v4), some (vi v5), some (vi (mI M43 12 i45 2)), none]) (st' := [vr (mR (sI M68 137 i69 (mI M43 12 i45 2).toNatClampNeg (0 : Int32)) 11 this 45)]) (M1 := (sI M68 137 i69 (mI M43 12 i45 2).toNatClampNeg (0 : Int32))) (pc' := 508) (tb_Model hγ) [.getfield 441, .iload 6, .iconst 0, .iastore, .aload_n 0, .getfield 522] (by decide +kernel) rfl rfl ⟨c70, trivial⟩ ?_
    obtain ⟨i71, ei71, h⟩ := h
    rw [ei71]
    obtain ⟨c72, h⟩ := h
    refine E_blk (lv' := [some (vr (some (11, this))), some (vi v1), none, some (vi v3), some (vi v4), some (vi v5), some (vi (mI M43 12 i45 2)), none]) (st' := []) (M1 := (sI (sI M68 137 i69 (mI M43 12 i45 2).toNatClampNeg (0 : Int32)) 138 i71 (mI M43 12 i45 2).toNatClampNeg (0 : Int32))) (pc' := 515) (tb_Model hγ) [.getfield 444, .iload 6, .iconst 0, .iastore] (by decide +kernel) rfl rfl ⟨c72, trivial⟩ ?_
    obtain ⟨M73, eM73, h⟩ := h
    rw [← eM73]
    refine E_blk (lv' := [some (vr (some (11, this))), some (vi v1), none, some (vi v3), some (vi v4), some (vi v5), some (vi (mI M43 12 i45 2)), none]) (st' := [vr (mR M73 11 this 45)]) (M1 := M73) (pc' := 519) (tb_Model hγ) [.aload_n 0, .getfield 522] (by decide +kernel) rfl rfl trivial ?_
    obtain ⟨i74, ei74, h⟩ := h
    rw [ei74]
    refine E_blk (lv' := [some (vr (some (11, this))), some (vi v1), none, some (vi v3), some (vi v4), some (vi v5), some (vi (mI M43 12 i45 2)), none]) (st' := []) (M1 := (sI (sI M73 12 i74 2 ((mI M73 12 i74 2) + (1 : Int32))) 11 this 53 (mI M43 12 i45 2))) (pc' := 534) (tb_Model hγ) [.dup, .getfield 420, .iconst 1, .iadd, .putfield 420, .aload_n 0, .iload 6, .putfield 615] (by decide +kernel) rfl rfl trivial ?_
    obtain ⟨M75, eM75, h⟩ := h
    rw [← eM75]
    refine E_blk (lv' := [some (vr (some (11, this))), some (vi v1), none, some (vi v3), some (vi v4), some (vi v5), some (vi (mI M43 12 i45 2)), none]) (st' := []) (M1 := (sI M75 11 this 52 (1 : Int32))) (pc' := 539) (tb_Model hγ) [.aload_n 0, .iconst 1, .putfield 566] (by decide +kernel) rfl rfl trivial ?_
    exact (E_vret rfl (by decide +kernel) h).nx
  · rw [if_neg b44] at h
    exact (E_vret rfl (by decide +kernel) h).nx
set_option maxRecDepth 4096 in
theorem lk_Model_classLine_L240 {γ : Gm} (hγ : Gk γ) (this : Nat) (Q : Mem → Prop) (X : Mem → Prop) : ∀ (n : Nat) (v1 : Int32) (v3 : Int32) (v4 : Int32) (v5 : Int32) (M : Mem), w_Model_classLine_L240 this Q X n v1 v3 v4 v5 M → E γ k_Model_classLine 4 240 [some (vr (some (11, this))), some (vi v1), none, some (vi v3), some (vi v4), some (vi v5), none, none] [] M (Qx (14, 0) (Qv Q) X) := by
  intro n
  induction n with
  | zero => intro v1 v3 v4 v5 M h; exact h.elim
  | succ n ih =>
    intro v1 v3 v4 v5 M h
    unfold w_Model_classLine_L240 at h
    obtain ⟨c23, h⟩ := h
    refine E_blk (lv' := [some (vr (some (11, this))), some (vi v1), none, some (vi v3), some (vi v4), some (vi v5), none, none]) (st' := [vi (44 : Int32), vi (mI M 411 this (mI M 11 this 43).toNatClampNeg)]) (M1 := M) (pc' := 251) (tb_Model hγ) [.aload_n 0, .getfield 92, .aload_n 0, .getfield 104, .baload, .bipush 44] (by decide +kernel) rfl rfl ⟨c23, trivial⟩ ?_
    refine E_icmp_ne (off := 112) (tgt := 363) (by decide +kernel) (by decide) (fun b24 => ?_) (fun b24 => ?_)
    · rw [if_pos b24] at h
      refine E_blk (lv' := [some (vr (some (11, this))), some (vi v1), none, some (vi v3), some (vi v4), some (vi v5), none, none]) (st' := [vr (some (11, this))]) (M1 := (sI M 11 this 43 ((mI M 11 this 43) + (1 : Int32)))) (pc' := 265) (tb_Model hγ) [.aload_n 0, .dup, .getfield 104, .iconst 1, .iadd, .putfield 104, .aload_n 0] (by decide +kernel) rfl rfl trivial ?_
      refine E_callX (κ' := k_Model_className) (As := []) (st := []) mv_Model_className (Or.inl (tbk_mem (j := 15) (k := 23) rfl)) rfl (by decide +kernel) (Nat.le_of_ble_eq_true rfl) (Nat.le_of_ble_eq_true rfl) rfl (by decide) rfl (lk_Model_className hγ this _ _ (sI M 11 this 43 ((mI M 11 this 43) + (1 : Int32))) h) (fun _ _ => Qi_r) (fun _ h => h) (fun v M25 hp => Qi_k (R := fun st => E γ k_Model_classLine 4 268 [some (vr (some (11, this))), some (vi v1), none, some (vi v3), some (vi v4), some (vi v5), none, none] st M25 (Qx (14, 0) (Qv Q) X)) hp (fun r26 h => ?_))
      refine E_blk (lv' := [some (vr (some (11, this))), some (vi v1), none, some (vi v3), some (vi v4), some (vi v5), some (vi r26), none]) (st' := [vi v3, vi r26, vi (11 : Int32), vr (some (11, this))]) (M1 := M25) (pc' := 276) (tb_Model hγ) [.istore 6, .aload_n 0, .bipush 11, .iload 6, .iload_n 3] (by decide +kernel) rfl rfl trivial ?_
      refine E_icmp_eq (off := 10) (tgt := 286) (by decide +kernel) (by decide) (fun b27 => ?_) (fun b27 => ?_)
      · rw [if_pos b27] at h
        refine E_mask [true, true, false, true, true, true, true, false] rfl ?_
        exact lk_Model_classLine_j286 hγ this Q X (w_Model_classLine_L240 this Q X n) ih v1 v3 v4 v5 r26 (11 : Int32) M25 h
      · rw [if_neg b27] at h
        refine E_blk (lv' := [some (vr (some (11, this))), some (vi v1), none, some (vi v3), some (vi v4), some (vi v5), some (vi r26), none]) (st' := [vi v4, vi r26, vi (11 : Int32), vr (some (11, this))]) (M1 := M25) (pc' := 283) (tb_Model hγ) [.iload 6, .iload 4] (by decide +kernel) rfl rfl trivial ?_
        refine E_icmp_ne (off := 7) (tgt := 290) (by decide +kernel) (by decide) (fun b40 => ?_) (fun b40 => ?_)
        · rw [if_pos b40] at h
          refine E_mask [true, true, false, true, true, true, true, false] rfl ?_
          exact lk_Model_classLine_j286 hγ this Q X (w_Model_classLine_L240 this Q X n) ih v1 v3 v4 v5 r26 (11 : Int32) M25 h
        · rw [if_neg b40] at h
          refine E_blk (lv' := [some (vr (some (11, this))), some (vi v1), none, some (vi v3), some (vi v4), some (vi v5), some (vi r26), none]) (st' := [vi (0 : Int32), vi (11 : Int32), vr (some (11, this))]) (M1 := M25) (pc' := 291) (tb_Model hγ) [.iconst 0] (by decide +kernel) rfl rfl trivial ?_
          refine E_mask [true, true, false, true, true, true, true, false] rfl ?_
          exact lk_Model_classLine_j291 hγ this Q X (w_Model_classLine_L240 this Q X n) ih v1 v3 v4 v5 r26 (0 : Int32) (11 : Int32) M25 h
    · rw [if_neg b24] at h
      refine E_blk (lv' := [some (vr (some (11, this))), some (vi v1), none, some (vi v3), some (vi v4), some (vi v5), none, none]) (st' := [vi (4 : Int32), vi v5, vi (12 : Int32), vr (some (11, this))]) (M1 := M) (pc' := 369) (tb_Model hγ) [.aload_n 0, .bipush 12, .iload 5, .iconst 4] (by decide +kernel) rfl rfl trivial ?_
      refine E_icmp_le (off := 7) (tgt := 376) (by decide +kernel) (by decide) (fun b41 => ?_) (fun b41 => ?_)
      · rw [if_pos b41] at h
        refine E_blk (lv' := [some (vr (some (11, this))), some (vi v1), none, some (vi v3), some (vi v4), some (vi v5), none, none]) (st' := [vi (0 : Int32), vi (12 : Int32), vr (some (11, this))]) (M1 := M) (pc' := 377) (tb_Model hγ) [.iconst 0] (by decide +kernel) rfl rfl trivial ?_
        refine E_mask [true, true, false, true, true, true, false, false] rfl ?_
        exact lk_Model_classLine_j377 hγ this Q X v1 v3 v4 v5 (0 : Int32) (12 : Int32) M h
      · rw [if_neg b41] at h
        refine E_blk (lv' := [some (vr (some (11, this))), some (vi v1), none, some (vi v3), some (vi v4), some (vi v5), none, none]) (st' := [vi (1 : Int32), vi (12 : Int32), vr (some (11, this))]) (M1 := M) (pc' := 373) (tb_Model hγ) [.iconst 1] (by decide +kernel) rfl rfl trivial ?_
        refine E_goto (off := 4) (tgt := 377) (by decide +kernel) (by decide) ?_
        refine E_mask [true, true, false, true, true, true, false, false] rfl ?_
        exact lk_Model_classLine_j377 hγ this Q X v1 v3 v4 v5 (1 : Int32) (12 : Int32) M h
set_option maxRecDepth 4096 in
theorem lk_Model_classLine_j234 {γ : Gm} (hγ : Gk γ) (this : Nat) (Q : Mem → Prop) (X : Mem → Prop) (v1 : Int32) (v3 : Int32) (v4 : Int32) (s0 : Int32) (s1 : Int32) (M : Mem) (h : w_Model_classLine_j234 this Q X v1 v3 v4 s0 s1 M) : E γ k_Model_classLine 4 234 [some (vr (some (11, this))), some (vi v1), none, some (vi v3), some (vi v4), none, none, none] [vi s0, vi s1, vr (some (11, this))] M (Qx (14, 0) (Qv Q) X) := by
  unfold w_Model_classLine_j234 at h
  refine E_callV (κ' := k_Model_asks) (As := [vi s1, vi s0]) (st := []) mv_Model_asks (Or.inl (tbk_mem (j := 15) (k := 43) rfl)) rfl (by decide +kernel) (Nat.le_of_ble_eq_true rfl) (Nat.le_of_ble_eq_true rfl) rfl (by decide) (lk_Model_asks hγ this s1 s0 _ M h) (fun _ _ => Qv_r) (fun v M22 hp => Qv_k (R := fun st => E γ k_Model_classLine 4 237 [some (vr (some (11, this))), some (vi v1), none, some (vi v3), some (vi v4), none, none, none] st M22 (Qx (14, 0) (Qv Q) X)) hp (fun h => ?_))
  refine E_blk (lv' := [some (vr (some (11, this))), some (vi v1), none, some (vi v3), some (vi v4), some (vi (0 : Int32)), none, none]) (st' := []) (M1 := M22) (pc' := 240) (tb_Model hγ) [.iconst 0, .istore 5] (by decide +kernel) rfl rfl trivial ?_
  obtain ⟨n76, h⟩ := h
  refine E_mask [true, true, false, true, true, true, false, false] rfl ?_
  exact lk_Model_classLine_L240 hγ this Q X n76 v1 v3 v4 (0 : Int32) M22 h
set_option maxRecDepth 4096 in
theorem lk_Model_classLine_j211 {γ : Gm} (hγ : Gk γ) (this : Nat) (Q : Mem → Prop) (X : Mem → Prop) (v1 : Int32) (v3 : Int32) (v4 : Int32) (s0 : Int32) (s1 : Int32) (M : Mem) (h : w_Model_classLine_j211 this Q X v1 v3 v4 s0 s1 M) : E γ k_Model_classLine 4 211 [some (vr (some (11, this))), some (vi v1), none, some (vi v3), some (vi v4), none, none, none] [vi s0, vi s1, vr (some (11, this))] M (Qx (14, 0) (Qv Q) X) := by
  unfold w_Model_classLine_j211 at h
  refine E_callV (κ' := k_Model_asks) (As := [vi s1, vi s0]) (st := []) mv_Model_asks (Or.inl (tbk_mem (j := 15) (k := 43) rfl)) rfl (by decide +kernel) (Nat.le_of_ble_eq_true rfl) (Nat.le_of_ble_eq_true rfl) rfl (by decide) (lk_Model_asks hγ this s1 s0 _ M h) (fun _ _ => Qv_r) (fun v M19 hp => Qv_k (R := fun st => E γ k_Model_classLine 4 214 [some (vr (some (11, this))), some (vi v1), none, some (vi v3), some (vi v4), none, none, none] st M19 (Qx (14, 0) (Qv Q) X)) hp (fun h => ?_))
  refine E_blk (lv' := [some (vr (some (11, this))), some (vi v1), none, some (vi v3), some (vi v4), none, none, none]) (st' := [vr (mR M19 11 this 45), vi (12 : Int32), vr (some (11, this))]) (M1 := M19) (pc' := 221) (tb_Model hγ) [.aload_n 0, .bipush 12, .aload_n 0, .getfield 522] (by decide +kernel) rfl rfl trivial ?_
  obtain ⟨i20, ei20, h⟩ := h
  rw [ei20]
  refine E_blk (lv' := [some (vr (some (11, this))), some (vi v1), none, some (vi v3), some (vi v4), none, none, none]) (st' := [vi (51 : Int32), vi (mI M19 12 i20 2), vi (12 : Int32), vr (some (11, this))]) (M1 := M19) (pc' := 226) (tb_Model hγ) [.getfield 420, .bipush 51] (by decide +kernel) rfl rfl trivial ?_
  refine E_icmp_ne (off := 7) (tgt := 233) (by decide +kernel) (by decide) (fun b21 => ?_) (fun b21 => ?_)
  · rw [if_pos b21] at h
    refine E_blk (lv' := [some (vr (some (11, this))), some (vi v1), none, some (vi v3), some (vi v4), none, none, none]) (st' := [vi (1 : Int32), vi (12 : Int32), vr (some (11, this))]) (M1 := M19) (pc' := 230) (tb_Model hγ) [.iconst 1] (by decide +kernel) rfl rfl trivial ?_
    refine E_goto (off := 4) (tgt := 234) (by decide +kernel) (by decide) ?_
    refine E_mask [true, true, false, true, true, false, false, false] rfl ?_
    exact lk_Model_classLine_j234 hγ this Q X v1 v3 v4 (1 : Int32) (12 : Int32) M19 h
  · rw [if_neg b21] at h
    refine E_blk (lv' := [some (vr (some (11, this))), some (vi v1), none, some (vi v3), some (vi v4), none, none, none]) (st' := [vi (0 : Int32), vi (12 : Int32), vr (some (11, this))]) (M1 := M19) (pc' := 234) (tb_Model hγ) [.iconst 0] (by decide +kernel) rfl rfl trivial ?_
    refine E_mask [true, true, false, true, true, false, false, false] rfl ?_
    exact lk_Model_classLine_j234 hγ this Q X v1 v3 v4 (0 : Int32) (12 : Int32) M19 h
set_option maxRecDepth 4096 in
theorem lk_Model_classLine_j194 {γ : Gm} (hγ : Gk γ) (this : Nat) (Q : Mem → Prop) (X : Mem → Prop) (v1 : Int32) (v3 : Int32) (v4 : Int32) (s0 : Int32) (s1 : Int32) (M : Mem) (h : w_Model_classLine_j194 this Q X v1 v3 v4 s0 s1 M) : E γ k_Model_classLine 4 194 [some (vr (some (11, this))), some (vi v1), none, some (vi v3), some (vi v4), none, none, none] [vi s0, vi s1, vr (some (11, this))] M (Qx (14, 0) (Qv Q) X) := by
  unfold w_Model_classLine_j194 at h
  refine E_callV (κ' := k_Model_asks) (As := [vi s1, vi s0]) (st := []) mv_Model_asks (Or.inl (tbk_mem (j := 15) (k := 43) rfl)) rfl (by decide +kernel) (Nat.le_of_ble_eq_true rfl) (Nat.le_of_ble_eq_true rfl) rfl (by decide) (lk_Model_asks hγ this s1 s0 _ M h) (fun _ _ => Qv_r) (fun v M17 hp => Qv_k (R := fun st => E γ k_Model_classLine 4 197 [some (vr (some (11, this))), some (vi v1), none, some (vi v3), some (vi v4), none, none, none] st M17 (Qx (14, 0) (Qv Q) X)) hp (fun h => ?_))
  refine E_blk (lv' := [some (vr (some (11, this))), some (vi v1), none, some (vi v3), some (vi v4), none, none, none]) (st' := [vi v3, vi v4, vi (11 : Int32), vr (some (11, this))]) (M1 := M17) (pc' := 203) (tb_Model hγ) [.aload_n 0, .bipush 11, .iload 4, .iload_n 3] (by decide +kernel) rfl rfl trivial ?_
  refine E_icmp_ne (off := 7) (tgt := 210) (by decide +kernel) (by decide) (fun b18 => ?_) (fun b18 => ?_)
  · rw [if_pos b18] at h
    refine E_blk (lv' := [some (vr (some (11, this))), some (vi v1), none, some (vi v3), some (vi v4), none, none, none]) (st' := [vi (1 : Int32), vi (11 : Int32), vr (some (11, this))]) (M1 := M17) (pc' := 207) (tb_Model hγ) [.iconst 1] (by decide +kernel) rfl rfl trivial ?_
    refine E_goto (off := 4) (tgt := 211) (by decide +kernel) (by decide) ?_
    refine E_mask [true, true, false, true, true, false, false, false] rfl ?_
    exact lk_Model_classLine_j211 hγ this Q X v1 v3 v4 (1 : Int32) (11 : Int32) M17 h
  · rw [if_neg b18] at h
    refine E_blk (lv' := [some (vr (some (11, this))), some (vi v1), none, some (vi v3), some (vi v4), none, none, none]) (st' := [vi (0 : Int32), vi (11 : Int32), vr (some (11, this))]) (M1 := M17) (pc' := 211) (tb_Model hγ) [.iconst 0] (by decide +kernel) rfl rfl trivial ?_
    refine E_mask [true, true, false, true, true, false, false, false] rfl ?_
    exact lk_Model_classLine_j211 hγ this Q X v1 v3 v4 (0 : Int32) (11 : Int32) M17 h
set_option maxRecDepth 4096 in
theorem lk_Model_classLine_j189 {γ : Gm} (hγ : Gk γ) (this : Nat) (Q : Mem → Prop) (X : Mem → Prop) (v1 : Int32) (v3 : Int32) (v4 : Int32) (s0 : Int32) (M : Mem) (h : w_Model_classLine_j189 this Q X v1 v3 v4 s0 M) : E γ k_Model_classLine 4 189 [some (vr (some (11, this))), some (vi v1), none, some (vi v3), some (vi v4), none, none, none] [vi s0, vr (some (11, this))] M (Qx (14, 0) (Qv Q) X) := by
  unfold w_Model_classLine_j189 at h
  refine E_blk (lv' := [some (vr (some (11, this))), some (vi v1), none, some (vi v3), some (vi v4), none, none, none]) (st' := [vi (1 : Int32), vi s0, vr (some (11, this))]) (M1 := M) (pc' := 190) (tb_Model hγ) [.iconst 1] (by decide +kernel) rfl rfl trivial ?_
  refine E_goto (off := 4) (tgt := 194) (by decide +kernel) (by decide) ?_
  refine E_mask [true, true, false, true, true, false, false, false] rfl ?_
  exact lk_Model_classLine_j194 hγ this Q X v1 v3 v4 (1 : Int32) s0 M h
set_option maxRecDepth 4096 in
theorem lk_Model_classLine_j193 {γ : Gm} (hγ : Gk γ) (this : Nat) (Q : Mem → Prop) (X : Mem → Prop) (v1 : Int32) (v3 : Int32) (v4 : Int32) (s0 : Int32) (M : Mem) (h : w_Model_classLine_j193 this Q X v1 v3 v4 s0 M) : E γ k_Model_classLine 4 193 [some (vr (some (11, this))), some (vi v1), none, some (vi v3), some (vi v4), none, none, none] [vi s0, vr (some (11, this))] M (Qx (14, 0) (Qv Q) X) := by
  unfold w_Model_classLine_j193 at h
  refine E_blk (lv' := [some (vr (some (11, this))), some (vi v1), none, some (vi v3), some (vi v4), none, none, none]) (st' := [vi (0 : Int32), vi s0, vr (some (11, this))]) (M1 := M) (pc' := 194) (tb_Model hγ) [.iconst 0] (by decide +kernel) rfl rfl trivial ?_
  refine E_mask [true, true, false, true, true, false, false, false] rfl ?_
  exact lk_Model_classLine_j194 hγ this Q X v1 v3 v4 (0 : Int32) s0 M h
set_option maxRecDepth 4096 in
theorem lk_Model_classLine_j168 {γ : Gm} (hγ : Gk γ) (this : Nat) (Q : Mem → Prop) (X : Mem → Prop) (v1 : Int32) (v3 : Int32) (v4 : Int32) (s0 : Int32) (M : Mem) (h : w_Model_classLine_j168 this Q X v1 v3 v4 s0 M) : E γ k_Model_classLine 4 168 [some (vr (some (11, this))), some (vi v1), none, some (vi v3), some (vi v4), none, none, none] [vi s0, vr (some (11, this))] M (Qx (14, 0) (Qv Q) X) := by
  unfold w_Model_classLine_j168 at h
  refine E_blk (lv' := [some (vr (some (11, this))), some (vi v1), none, some (vi v3), some (vi v4), none, none, none]) (st' := [vi (6 : Int32), vi v1, vi s0, vr (some (11, this))]) (M1 := M) (pc' := 171) (tb_Model hγ) [.iload_n 1, .bipush 6] (by decide +kernel) rfl rfl trivial ?_
  refine E_icmp_eq (off := 18) (tgt := 189) (by decide +kernel) (by decide) (fun b16 => ?_) (fun b16 => ?_)
  · rw [if_pos b16] at h
    refine E_mask [true, true, false, true, true, false, false, false] rfl ?_
    exact lk_Model_classLine_j189 hγ this Q X v1 v3 v4 s0 M h
  · rw [if_neg b16] at h
    refine E_blk (lv' := [some (vr (some (11, this))), some (vi v1), none, some (vi v3), some (vi v4), none, none, none]) (st' := [vi (v1 &&& (4 : Int32)), vi s0, vr (some (11, this))]) (M1 := M) (pc' := 177) (tb_Model hγ) [.iload_n 1, .iconst 4, .iand] (by decide +kernel) rfl rfl trivial ?_
    refine E_if_eq (off := 16) (tgt := 193) (by decide +kernel) (by decide) (fun b77 => ?_) (fun b77 => ?_)
    · rw [if_pos b77] at h
      refine E_mask [true, true, false, true, true, false, false, false] rfl ?_
      exact lk_Model_classLine_j193 hγ this Q X v1 v3 v4 s0 M h
    · rw [if_neg b77] at h
      refine E_blk (lv' := [some (vr (some (11, this))), some (vi v1), none, some (vi v3), some (vi v4), none, none, none]) (st' := [vi (mI M 11 this 8), vi v4, vi s0, vr (some (11, this))]) (M1 := M) (pc' := 186) (tb_Model hγ) [.iload 4, .aload_n 0, .getfield 153] (by decide +kernel) rfl rfl trivial ?_
      refine E_icmp_eq (off := 7) (tgt := 193) (by decide +kernel) (by decide) (fun b78 => ?_) (fun b78 => ?_)
      · rw [if_pos b78] at h
        refine E_mask [true, true, false, true, true, false, false, false] rfl ?_
        exact lk_Model_classLine_j193 hγ this Q X v1 v3 v4 s0 M h
      · rw [if_neg b78] at h
        refine E_mask [true, true, false, true, true, false, false, false] rfl ?_
        exact lk_Model_classLine_j189 hγ this Q X v1 v3 v4 s0 M h
set_option maxRecDepth 4096 in
theorem lk_Model_classLine_j144 {γ : Gm} (hγ : Gk γ) (this : Nat) (Q : Mem → Prop) (X : Mem → Prop) (v1 : Int32) (v3 : Int32) (v4 : Int32) (s0 : Int32) (s1 : Int32) (M : Mem) (h : w_Model_classLine_j144 this Q X v1 v3 v4 s0 s1 M) : E γ k_Model_classLine 4 144 [some (vr (some (11, this))), some (vi v1), none, some (vi v3), some (vi v4), none, none, none] [vi s0, vi s1, vr (some (11, this))] M (Qx (14, 0) (Qv Q) X) := by
  unfold w_Model_classLine_j144 at h
  refine E_callV (κ' := k_Model_asks) (As := [vi s1, vi s0]) (st := []) mv_Model_asks (Or.inl (tbk_mem (j := 15) (k := 43) rfl)) rfl (by decide +kernel) (Nat.le_of_ble_eq_true rfl) (Nat.le_of_ble_eq_true rfl) rfl (by decide) (lk_Model_asks hγ this s1 s0 _ M h) (fun _ _ => Qv_r) (fun v M11 hp => Qv_k (R := fun st => E γ k_Model_classLine 4 147 [some (vr (some (11, this))), some (vi v1), none, some (vi v3), some (vi v4), none, none, none] st M11 (Qx (14, 0) (Qv Q) X)) hp (fun h => ?_))
  refine E_blk (lv' := [some (vr (some (11, this))), some (vi v1), none, some (vi v3), some (vi v4), none, none, none]) (st' := [vi (0 : Int32), vr (some (11, this)), vi (4 : Int32), vr (some (11, this))]) (M1 := M11) (pc' := 151) (tb_Model hγ) [.aload_n 0, .iconst 4, .aload_n 0, .iconst 0] (by decide +kernel) rfl rfl trivial ?_
  refine E_callV (κ' := k_Model_isOff) (As := [vi (0 : Int32)]) (st := [vi (4 : Int32), vr (some (11, this))]) mv_Model_isOff (Or.inl (tbk_mem (j := 15) (k := 47) rfl)) rfl (by decide +kernel) (Nat.le_of_ble_eq_true rfl) (Nat.le_of_ble_eq_true rfl) rfl (by decide) (lk_Model_isOff hγ this (0 : Int32) _ M11 h) (fun _ _ => Qi_r) (fun v M12 hp => Qi_k (R := fun st => E γ k_Model_classLine 4 154 [some (vr (some (11, this))), some (vi v1), none, some (vi v3), some (vi v4), none, none, none] st M12 (Qx (14, 0) (Qv Q) X)) hp (fun r13 h => ?_))
  refine E_if_ne (off := 39) (tgt := 193) (by decide +kernel) (by decide) (fun b14 => ?_) (fun b14 => ?_)
  · rw [if_pos b14] at h
    refine E_blk (lv' := [some (vr (some (11, this))), some (vi v1), none, some (vi v3), some (vi v4), none, none, none]) (st' := [vi (v1 &&& (1 : Int32)), vi (4 : Int32), vr (some (11, this))]) (M1 := M12) (pc' := 160) (tb_Model hγ) [.iload_n 1, .iconst 1, .iand] (by decide +kernel) rfl rfl trivial ?_
    refine E_if_eq (off := 8) (tgt := 168) (by decide +kernel) (by decide) (fun b15 => ?_) (fun b15 => ?_)
    · rw [if_pos b15] at h
      refine E_mask [true, true, false, true, true, false, false, false] rfl ?_
      exact lk_Model_classLine_j168 hγ this Q X v1 v3 v4 (4 : Int32) M12 h
    · rw [if_neg b15] at h
      refine E_blk (lv' := [some (vr (some (11, this))), some (vi v1), none, some (vi v3), some (vi v4), none, none, none]) (st' := [vi (1 : Int32), vi v1, vi (4 : Int32), vr (some (11, this))]) (M1 := M12) (pc' := 165) (tb_Model hγ) [.iload_n 1, .iconst 1] (by decide +kernel) rfl rfl trivial ?_
      refine E_icmp_ne (off := 24) (tgt := 189) (by decide +kernel) (by decide) (fun b79 => ?_) (fun b79 => ?_)
      · rw [if_pos b79] at h
        refine E_mask [true, true, false, true, true, false, false, false] rfl ?_
        exact lk_Model_classLine_j168 hγ this Q X v1 v3 v4 (4 : Int32) M12 h
      · rw [if_neg b79] at h
        refine E_mask [true, true, false, true, true, false, false, false] rfl ?_
        exact lk_Model_classLine_j189 hγ this Q X v1 v3 v4 (4 : Int32) M12 h
  · rw [if_neg b14] at h
    refine E_mask [true, true, false, true, true, false, false, false] rfl ?_
    exact lk_Model_classLine_j193 hγ this Q X v1 v3 v4 (4 : Int32) M12 h
set_option maxRecDepth 4096 in
theorem lk_Model_classLine_j97 {γ : Gm} (hγ : Gk γ) (this : Nat) (Q : Mem → Prop) (X : Mem → Prop) (k4 : Int32 → Int32 → Mem → Prop) (hk4 : ∀ (v1 : Int32) (v2 : Int32) (M : Mem), k4 v1 v2 M → E γ k_Model_classLine 4 4 [some (vr (some (11, this))), some (vi v1), some (vi v2), none, none, none, none, none] [] M (Qx (14, 0) (Qv Q) X)) (v1 : Int32) (v2 : Int32) (s0 : Int32) (s1 : Int32) (M : Mem) (h : w_Model_classLine_j97 this Q X k4 v1 v2 s0 s1 M) : E γ k_Model_classLine 4 97 [some (vr (some (11, this))), some (vi v1), some (vi v2), none, none, none, none, none] [vi s0, vi s1, vr (some (11, this))] M (Qx (14, 0) (Qv Q) X) := by
  unfold w_Model_classLine_j97 at h
  refine E_blk (lv' := [some (vr (some (11, this))), some (vi v1), some (vi v2), none, none, none, none, none]) (st' := []) (M1 := (sI M 11 this 43 (s1 + s0))) (pc' := 101) (tb_Model hγ) [.iadd, .putfield 104] (by decide +kernel) rfl rfl trivial ?_
  refine E_goto (off := -97) (tgt := 4) (by decide +kernel) (by decide) ?_
  refine E_mask [true, true, true, false, false, false, false, false] rfl ?_
  exact hk4 v1 v2 (sI M 11 this 43 (s1 + s0)) h
set_option maxRecDepth 4096 in
theorem lk_Model_classLine_j81 {γ : Gm} (hγ : Gk γ) (this : Nat) (Q : Mem → Prop) (X : Mem → Prop) (k4 : Int32 → Int32 → Mem → Prop) (hk4 : ∀ (v1 : Int32) (v2 : Int32) (M : Mem), k4 v1 v2 M → E γ k_Model_classLine 4 4 [some (vr (some (11, this))), some (vi v1), some (vi v2), none, none, none, none, none] [] M (Qx (14, 0) (Qv Q) X)) (v2 : Int32) (s0 : Int32) (s1 : Int32) (M : Mem) (h : w_Model_classLine_j81 this Q X k4 v2 s0 s1 M) : E γ k_Model_classLine 4 81 [some (vr (some (11, this))), none, some (vi v2), none, none, none, none, none] [vi s0, vi s1] M (Qx (14, 0) (Qv Q) X) := by
  unfold w_Model_classLine_j81 at h
  refine E_blk (lv' := [some (vr (some (11, this))), some (vi (s1 ||| s0)), some (vi v2), none, none, none, none, none]) (st' := [vi v2, vi (mI M 11 this 43), vr (some (11, this))]) (M1 := M) (pc' := 89) (tb_Model hγ) [.ior, .istore_n 1, .aload_n 0, .dup, .getfield 104, .iload_n 2] (by decide +kernel) rfl rfl trivial ?_
  refine E_if_eq (off := 7) (tgt := 96) (by decide +kernel) (by decide) (fun b91 => ?_) (fun b91 => ?_)
  · rw [if_pos b91] at h
    refine E_blk (lv' := [some (vr (some (11, this))), some (vi (s1 ||| s0)), some (vi v2), none, none, none, none, none]) (st' := [vi (0 : Int32), vi (mI M 11 this 43), vr (some (11, this))]) (M1 := M) (pc' := 97) (tb_Model hγ) [.iconst 0] (by decide +kernel) rfl rfl trivial ?_
    refine E_mask [true, true, true, false, false, false, false, false] rfl ?_
    exact lk_Model_classLine_j97 hγ this Q X k4 hk4 (s1 ||| s0) v2 (0 : Int32) (mI M 11 this 43) M h
  · rw [if_neg b91] at h
    refine E_blk (lv' := [some (vr (some (11, this))), some (vi (s1 ||| s0)), some (vi v2), none, none, none, none, none]) (st' := [vi (1 : Int32), vi (mI M 11 this 43), vr (some (11, this))]) (M1 := M) (pc' := 93) (tb_Model hγ) [.iconst 1] (by decide +kernel) rfl rfl trivial ?_
    refine E_goto (off := 4) (tgt := 97) (by decide +kernel) (by decide) ?_
    refine E_mask [true, true, true, false, false, false, false, false] rfl ?_
    exact lk_Model_classLine_j97 hγ this Q X k4 hk4 (s1 ||| s0) v2 (1 : Int32) (mI M 11 this 43) M h
set_option maxRecDepth 4096 in
theorem lk_Model_classLine_j70 {γ : Gm} (hγ : Gk γ) (this : Nat) (Q : Mem → Prop) (X : Mem → Prop) (k4 : Int32 → Int32 → Mem → Prop) (hk4 : ∀ (v1 : Int32) (v2 : Int32) (M : Mem), k4 v1 v2 M → E γ k_Model_classLine 4 4 [some (vr (some (11, this))), some (vi v1), some (vi v2), none, none, none, none, none] [] M (Qx (14, 0) (Qv Q) X)) (v1 : Int32) (v3 : Int32) (s0 : Int32) (M : Mem) (h : w_Model_classLine_j70 this Q X k4 v1 v3 s0 M) : E γ k_Model_classLine 4 70 [some (vr (some (11, this))), some (vi v1), none, some (vi v3), none, none, none, none] [vi s0] M (Qx (14, 0) (Qv Q) X) := by
  unfold w_Model_classLine_j70 at h
  refine E_blk (lv' := [some (vr (some (11, this))), some (vi v1), some (vi s0), some (vi v3), none, none, none, none]) (st' := [vi s0, vi v1]) (M1 := M) (pc' := 73) (tb_Model hγ) [.istore_n 2, .iload_n 1, .iload_n 2] (by decide +kernel) rfl rfl trivial ?_
  refine E_if_eq (off := 7) (tgt := 80) (by decide +kernel) (by decide) (fun b90 => ?_) (fun b90 => ?_)
  · rw [if_pos b90] at h
    refine E_blk (lv' := [some (vr (some (11, this))), some (vi v1), some (vi s0), some (vi v3), none, none, none, none]) (st' := [vi (0 : Int32), vi v1]) (M1 := M) (pc' := 81) (tb_Model hγ) [.iconst 0] (by decide +kernel) rfl rfl trivial ?_
    refine E_mask [true, false, true, false, false, false, false, false] rfl ?_
    exact lk_Model_classLine_j81 hγ this Q X k4 hk4 s0 (0 : Int32) v1 M h
  · rw [if_neg b90] at h
    refine E_blk (lv' := [some (vr (some (11, this))), some (vi v1), some (vi s0), some (vi v3), none, none, none, none]) (st' := [vi v3, vi v1]) (M1 := M) (pc' := 77) (tb_Model hγ) [.iload_n 3] (by decide +kernel) rfl rfl trivial ?_
    refine E_goto (off := 4) (tgt := 81) (by decide +kernel) (by decide) ?_
    refine E_mask [true, false, true, false, false, false, false, false] rfl ?_
    exact lk_Model_classLine_j81 hγ this Q X k4 hk4 s0 v3 v1 M h
set_option maxRecDepth 4096 in
theorem lk_Model_classLine_j69 {γ : Gm} (hγ : Gk γ) (this : Nat) (Q : Mem → Prop) (X : Mem → Prop) (k4 : Int32 → Int32 → Mem → Prop) (hk4 : ∀ (v1 : Int32) (v2 : Int32) (M : Mem), k4 v1 v2 M → E γ k_Model_classLine 4 4 [some (vr (some (11, this))), some (vi v1), some (vi v2), none, none, none, none, none] [] M (Qx (14, 0) (Qv Q) X)) (v1 : Int32) (v3 : Int32) (M : Mem) (h : w_Model_classLine_j69 this Q X k4 v1 v3 M) : E γ k_Model_classLine 4 69 [some (vr (some (11, this))), some (vi v1), none, some (vi v3), none, none, none, none] [] M (Qx (14, 0) (Qv Q) X) := by
  unfold w_Model_classLine_j69 at h
  refine E_blk (lv' := [some (vr (some (11, this))), some (vi v1), none, some (vi v3), none, none, none, none]) (st' := [vi (0 : Int32)]) (M1 := M) (pc' := 70) (tb_Model hγ) [.iconst 0] (by decide +kernel) rfl rfl trivial ?_
  refine E_mask [true, true, false, true, false, false, false, false] rfl ?_
  exact lk_Model_classLine_j70 hγ this Q X k4 hk4 v1 v3 (0 : Int32) M h
set_option maxRecDepth 4096 in
theorem lk_Model_classLine_j54 {γ : Gm} (hγ : Gk γ) (this : Nat) (Q : Mem → Prop) (X : Mem → Prop) (k4 : Int32 → Int32 → Mem → Prop) (hk4 : ∀ (v1 : Int32) (v2 : Int32) (M : Mem), k4 v1 v2 M → E γ k_Model_classLine 4 4 [some (vr (some (11, this))), some (vi v1), some (vi v2), none, none, none, none, none] [] M (Qx (14, 0) (Qv Q) X)) (v1 : Int32) (s0 : Int32) (M : Mem) (h : w_Model_classLine_j54 this Q X k4 v1 s0 M) : E γ k_Model_classLine 4 54 [some (vr (some (11, this))), some (vi v1), none, none, none, none, none, none] [vi s0] M (Qx (14, 0) (Qv Q) X) := by
  unfold w_Model_classLine_j54 at h
  refine E_blk (lv' := [some (vr (some (11, this))), some (vi v1), none, some (vi s0), none, none, none, none]) (st' := [vi s0]) (M1 := M) (pc' := 56) (tb_Model hγ) [.istore_n 3, .iload_n 3] (by decide +kernel) rfl rfl trivial ?_
  refine E_if_eq (off := 13) (tgt := 69) (by decide +kernel) (by decide) (fun b89 => ?_) (fun b89 => ?_)
  · rw [if_pos b89] at h
    refine E_mask [true, true, false, true, false, false, false, false] rfl ?_
    exact lk_Model_classLine_j69 hγ this Q X k4 hk4 v1 s0 M h
  · rw [if_neg b89] at h
    refine E_blk (lv' := [some (vr (some (11, this))), some (vi v1), none, some (vi s0), none, none, none, none]) (st' := [vi (v1 &&& s0)]) (M1 := M) (pc' := 62) (tb_Model hγ) [.iload_n 1, .iload_n 3, .iand] (by decide +kernel) rfl rfl trivial ?_
    refine E_if_ne (off := 7) (tgt := 69) (by decide +kernel) (by decide) (fun b92 => ?_) (fun b92 => ?_)
    · rw [if_pos b92] at h
      refine E_blk (lv' := [some (vr (some (11, this))), some (vi v1), none, some (vi s0), none, none, none, none]) (st' := [vi (1 : Int32)]) (M1 := M) (pc' := 66) (tb_Model hγ) [.iconst 1] (by decide +kernel) rfl rfl trivial ?_
      refine E_goto (off := 4) (tgt := 70) (by decide +kernel) (by decide) ?_
      refine E_mask [true, true, false, true, false, false, false, false] rfl ?_
      exact lk_Model_classLine_j70 hγ this Q X k4 hk4 v1 s0 (1 : Int32) M h
    · rw [if_neg b92] at h
      refine E_mask [true, true, false, true, false, false, false, false] rfl ?_
      exact lk_Model_classLine_j69 hγ this Q X k4 hk4 v1 s0 M h
set_option maxRecDepth 4096 in
theorem lk_Model_classLine_L4 {γ : Gm} (hγ : Gk γ) (this : Nat) (Q : Mem → Prop) (X : Mem → Prop) : ∀ (n : Nat) (v1 : Int32) (v2 : Int32) (M : Mem), w_Model_classLine_L4 this Q X n v1 v2 M → E γ k_Model_classLine 4 4 [some (vr (some (11, this))), some (vi v1), some (vi v2), none, none, none, none, none] [] M (Qx (14, 0) (Qv Q) X) := by
  intro n
  induction n with
  | zero => intro v1 v2 M h; exact h.elim
  | succ n ih =>
    intro v1 v2 M h
    unfold w_Model_classLine_L4 at h
    refine E_blk (lv' := [some (vr (some (11, this))), some (vi v1), some (vi v2), none, none, none, none, none]) (st' := [vi v2]) (M1 := M) (pc' := 5) (tb_Model hγ) [.iload_n 2] (by decide +kernel) rfl rfl trivial ?_
    refine E_if_eq (off := 99) (tgt := 104) (by decide +kernel) (by decide) (fun b1 => ?_) (fun b1 => ?_)
    · rw [if_pos b1] at h
      refine E_blk (lv' := [some (vr (some (11, this))), some (vi v1), some (vi v2), none, none, none, none, none]) (st' := [vi (mI M 11 this 9), vr (some (11, this))]) (M1 := M) (pc' := 109) (tb_Model hγ) [.aload_n 0, .aload_n 0, .getfield 158] (by decide +kernel) rfl rfl trivial ?_
      refine E_callX (κ' := k_Model_needWord) (As := [vi (mI M 11 this 9)]) (st := []) mv_Model_needWord (Or.inl (tbk_mem (j := 15) (k := 11) rfl)) rfl (by decide +kernel) (Nat.le_of_ble_eq_true rfl) (Nat.le_of_ble_eq_true rfl) rfl (by decide) rfl (lk_Model_needWord hγ this (mI M 11 this 9) _ _ M h) (fun _ _ => Qv_r) (fun _ h => h) (fun v M2 hp => Qv_k (R := fun st => E γ k_Model_classLine 4 112 [some (vr (some (11, this))), some (vi v1), some (vi v2), none, none, none, none, none] st M2 (Qx (14, 0) (Qv Q) X)) hp (fun h => ?_))
      refine E_blk (lv' := [some (vr (some (11, this))), some (vi v1), some (vi v2), none, none, none, none, none]) (st' := [vr (some (11, this))]) (M1 := M2) (pc' := 113) (tb_Model hγ) [.aload_n 0] (by decide +kernel) rfl rfl trivial ?_
      refine E_callX (κ' := k_Model_className) (As := []) (st := []) mv_Model_className (Or.inl (tbk_mem (j := 15) (k := 23) rfl)) rfl (by decide +kernel) (Nat.le_of_ble_eq_true rfl) (Nat.le_of_ble_eq_true rfl) rfl (by decide) rfl (lk_Model_className hγ this _ _ M2 h) (fun _ _ => Qi_r) (fun _ h => h) (fun v M3 hp => Qi_k (R := fun st => E γ k_Model_classLine 4 116 [some (vr (some (11, this))), some (vi v1), some (vi v2), none, none, none, none, none] st M3 (Qx (14, 0) (Qv Q) X)) hp (fun r4 h => ?_))
      refine E_blk (lv' := [some (vr (some (11, this))), some (vi v1), some (vi v2), some (vi r4), none, none, none, none]) (st' := [vi (58 : Int32), vr (some (11, this))]) (M1 := M3) (pc' := 120) (tb_Model hγ) [.istore_n 3, .aload_n 0, .bipush 58] (by decide +kernel) rfl rfl trivial ?_
      refine E_callX (κ' := k_Model_need) (As := [vi (58 : Int32)]) (st := []) mv_Model_need (Or.inl (tbk_mem (j := 15) (k := 35) rfl)) rfl (by decide +kernel) (Nat.le_of_ble_eq_true rfl) (Nat.le_of_ble_eq_true rfl) rfl (by decide) rfl (lk_Model_need hγ this (58 : Int32) _ _ M3 h) (fun _ _ => Qv_r) (fun _ h => h) (fun v M5 hp => Qv_k (R := fun st => E γ k_Model_classLine 4 123 [some (vr (some (11, this))), some (vi v1), some (vi v2), some (vi r4), none, none, none, none] st M5 (Qx (14, 0) (Qv Q) X)) hp (fun h => ?_))
      refine E_blk (lv' := [some (vr (some (11, this))), some (vi v1), some (vi v2), some (vi r4), none, none, none, none]) (st' := [vr (some (11, this))]) (M1 := M5) (pc' := 124) (tb_Model hγ) [.aload_n 0] (by decide +kernel) rfl rfl trivial ?_
      refine E_callX (κ' := k_Model_className) (As := []) (st := []) mv_Model_className (Or.inl (tbk_mem (j := 15) (k := 23) rfl)) rfl (by decide +kernel) (Nat.le_of_ble_eq_true rfl) (Nat.le_of_ble_eq_true rfl) rfl (by decide) rfl (lk_Model_className hγ this _ _ M5 h) (fun _ _ => Qi_r) (fun _ h => h) (fun v M6 hp => Qi_k (R := fun st => E γ k_Model_classLine 4 127 [some (vr (some (11, this))), some (vi v1), some (vi v2), some (vi r4), none, none, none, none] st M6 (Qx (14, 0) (Qv Q) X)) hp (fun r7 h => ?_))
      refine E_blk (lv' := [some (vr (some (11, this))), some (vi v1), some (vi v2), some (vi r4), some (vi r7), none, none, none]) (st' := [vi r4, vr (some (11, this)), vi (2 : Int32), vr (some (11, this))]) (M1 := M6) (pc' := 133) (tb_Model hγ) [.istore 4, .aload_n 0, .iconst 2, .aload_n 0, .iload_n 3] (by decide +kernel) rfl rfl trivial ?_
      refine E_callV (κ' := k_Model_classOf) (As := [vi r4]) (st := [vi (2 : Int32), vr (some (11, this))]) mv_Model_classOf (Or.inl (tbk_mem (j := 15) (k := 39) rfl)) rfl (by decide +kernel) (Nat.le_of_ble_eq_true rfl) (Nat.le_of_ble_eq_true rfl) rfl (by decide) (lk_Model_classOf hγ this r4 _ M6 h) (fun _ _ => Qi_r) (fun v M8 hp => Qi_k (R := fun st => E γ k_Model_classLine 4 136 [some (vr (some (11, this))), some (vi v1), some (vi v2), some (vi r4), some (vi r7), none, none, none] st M8 (Qx (14, 0) (Qv Q) X)) hp (fun r9 h => ?_))
      refine E_if_lt (off := 7) (tgt := 143) (by decide +kernel) (by decide) (fun b10 => ?_) (fun b10 => ?_)
      · rw [if_pos b10] at h
        refine E_blk (lv' := [some (vr (some (11, this))), some (vi v1), some (vi v2), some (vi r4), some (vi r7), none, none, none]) (st' := [vi (0 : Int32), vi (2 : Int32), vr (some (11, this))]) (M1 := M8) (pc' := 144) (tb_Model hγ) [.iconst 0] (by decide +kernel) rfl rfl trivial ?_
        refine E_mask [true, true, false, true, true, false, false, false] rfl ?_
        exact lk_Model_classLine_j144 hγ this Q X v1 r4 r7 (0 : Int32) (2 : Int32) M8 h
      · rw [if_neg b10] at h
        refine E_blk (lv' := [some (vr (some (11, this))), some (vi v1), some (vi v2), some (vi r4), some (vi r7), none, none, none]) (st' := [vi (1 : Int32), vi (2 : Int32), vr (some (11, this))]) (M1 := M8) (pc' := 140) (tb_Model hγ) [.iconst 1] (by decide +kernel) rfl rfl trivial ?_
        refine E_goto (off := 4) (tgt := 144) (by decide +kernel) (by decide) ?_
        refine E_mask [true, true, false, true, true, false, false, false] rfl ?_
        exact lk_Model_classLine_j144 hγ this Q X v1 r4 r7 (1 : Int32) (2 : Int32) M8 h
    · rw [if_neg b1] at h
      refine E_blk (lv' := [some (vr (some (11, this))), some (vi v1), some (vi v2), none, none, none, none, none]) (st' := [vi (mI M 11 this 10), vr (some (11, this))]) (M1 := M) (pc' := 13) (tb_Model hγ) [.aload_n 0, .aload_n 0, .getfield 163] (by decide +kernel) rfl rfl trivial ?_
      refine E_callV (κ' := k_Model_isWord) (As := [vi (mI M 11 this 10)]) (st := []) mv_Model_isWord (Or.inl (tbk_mem (j := 14) (k := 230) rfl)) rfl (by decide +kernel) (Nat.le_of_ble_eq_true rfl) (Nat.le_of_ble_eq_true rfl) rfl (by decide) (lk_Model_isWord hγ this (mI M 11 this 10) _ M h) (fun _ _ => Qi_r) (fun v M80 hp => Qi_k (R := fun st => E γ k_Model_classLine 4 16 [some (vr (some (11, this))), some (vi v1), some (vi v2), none, none, none, none, none] st M80 (Qx (14, 0) (Qv Q) X)) hp (fun r81 h => ?_))
      refine E_if_eq (off := 7) (tgt := 23) (by decide +kernel) (by decide) (fun b82 => ?_) (fun b82 => ?_)
      · rw [if_pos b82] at h
        refine E_blk (lv' := [some (vr (some (11, this))), some (vi v1), some (vi v2), none, none, none, none, none]) (st' := [vi (mI M80 11 this 11), vr (some (11, this))]) (M1 := M80) (pc' := 28) (tb_Model hγ) [.aload_n 0, .aload_n 0, .getfield 168] (by decide +kernel) rfl rfl trivial ?_
        refine E_callV (κ' := k_Model_isWord) (As := [vi (mI M80 11 this 11)]) (st := []) mv_Model_isWord (Or.inl (tbk_mem (j := 14) (k := 230) rfl)) rfl (by decide +kernel) (Nat.le_of_ble_eq_true rfl) (Nat.le_of_ble_eq_true rfl) rfl (by decide) (lk_Model_isWord hγ this (mI M80 11 this 11) _ M80 h) (fun _ _ => Qi_r) (fun v M83 hp => Qi_k (R := fun st => E γ k_Model_classLine 4 31 [some (vr (some (11, this))), some (vi v1), some (vi v2), none, none, none, none, none] st M83 (Qx (14, 0) (Qv Q) X)) hp (fun r84 h => ?_))
        refine E_if_eq (off := 7) (tgt := 38) (by decide +kernel) (by decide) (fun b85 => ?_) (fun b85 => ?_)
        · rw [if_pos b85] at h
          refine E_blk (lv' := [some (vr (some (11, this))), some (vi v1), some (vi v2), none, none, none, none, none]) (st' := [vi (mI M83 11 this 12), vr (some (11, this))]) (M1 := M83) (pc' := 43) (tb_Model hγ) [.aload_n 0, .aload_n 0, .getfield 173] (by decide +kernel) rfl rfl trivial ?_
          refine E_callV (κ' := k_Model_isWord) (As := [vi (mI M83 11 this 12)]) (st := []) mv_Model_isWord (Or.inl (tbk_mem (j := 14) (k := 230) rfl)) rfl (by decide +kernel) (Nat.le_of_ble_eq_true rfl) (Nat.le_of_ble_eq_true rfl) rfl (by decide) (lk_Model_isWord hγ this (mI M83 11 this 12) _ M83 h) (fun _ _ => Qi_r) (fun v M86 hp => Qi_k (R := fun st => E γ k_Model_classLine 4 46 [some (vr (some (11, this))), some (vi v1), some (vi v2), none, none, none, none, none] st M86 (Qx (14, 0) (Qv Q) X)) hp (fun r87 h => ?_))
          refine E_if_eq (off := 7) (tgt := 53) (by decide +kernel) (by decide) (fun b88 => ?_) (fun b88 => ?_)
          · rw [if_pos b88] at h
            refine E_blk (lv' := [some (vr (some (11, this))), some (vi v1), some (vi v2), none, none, none, none, none]) (st' := [vi (0 : Int32)]) (M1 := M86) (pc' := 54) (tb_Model hγ) [.iconst 0] (by decide +kernel) rfl rfl trivial ?_
            refine E_mask [true, true, false, false, false, false, false, false] rfl ?_
            exact lk_Model_classLine_j54 hγ this Q X (w_Model_classLine_L4 this Q X n) ih v1 (0 : Int32) M86 h
          · rw [if_neg b88] at h
            refine E_blk (lv' := [some (vr (some (11, this))), some (vi v1), some (vi v2), none, none, none, none, none]) (st' := [vi (4 : Int32)]) (M1 := M86) (pc' := 50) (tb_Model hγ) [.iconst 4] (by decide +kernel) rfl rfl trivial ?_
            refine E_goto (off := 4) (tgt := 54) (by decide +kernel) (by decide) ?_
            refine E_mask [true, true, false, false, false, false, false, false] rfl ?_
            exact lk_Model_classLine_j54 hγ this Q X (w_Model_classLine_L4 this Q X n) ih v1 (4 : Int32) M86 h
        · rw [if_neg b85] at h
          refine E_blk (lv' := [some (vr (some (11, this))), some (vi v1), some (vi v2), none, none, none, none, none]) (st' := [vi (2 : Int32)]) (M1 := M83) (pc' := 35) (tb_Model hγ) [.iconst 2] (by decide +kernel) rfl rfl trivial ?_
          refine E_goto (off := 19) (tgt := 54) (by decide +kernel) (by decide) ?_
          refine E_mask [true, true, false, false, false, false, false, false] rfl ?_
          exact lk_Model_classLine_j54 hγ this Q X (w_Model_classLine_L4 this Q X n) ih v1 (2 : Int32) M83 h
      · rw [if_neg b82] at h
        refine E_blk (lv' := [some (vr (some (11, this))), some (vi v1), some (vi v2), none, none, none, none, none]) (st' := [vi (1 : Int32)]) (M1 := M80) (pc' := 20) (tb_Model hγ) [.iconst 1] (by decide +kernel) rfl rfl trivial ?_
        refine E_goto (off := 34) (tgt := 54) (by decide +kernel) (by decide) ?_
        refine E_mask [true, true, false, false, false, false, false, false] rfl ?_
        exact lk_Model_classLine_j54 hγ this Q X (w_Model_classLine_L4 this Q X n) ih v1 (1 : Int32) M80 h
set_option maxRecDepth 4096 in
theorem lk_Model_classLine {γ : Gm} (hγ : Gk γ) (this : Nat) (Q : Mem → Prop) (X : Mem → Prop) (M : Mem) (h : w_Model_classLine this Q X M) : E γ k_Model_classLine 4 0 [some (vr (some (11, this))), none, none, none, none, none, none, none] [] M (Qx (14, 0) (Qv Q) X) := by
  unfold w_Model_classLine at h
  refine E_blk (lv' := [some (vr (some (11, this))), some (vi (0 : Int32)), some (vi (1 : Int32)), none, none, none, none, none]) (st' := []) (M1 := M) (pc' := 4) (tb_Model hγ) [.iconst 0, .istore_n 1, .iconst 1, .istore_n 2] (by decide +kernel) rfl rfl trivial ?_
  obtain ⟨n93, h⟩ := h
  refine E_mask [true, true, true, false, false, false, false, false] rfl ?_
  exact lk_Model_classLine_L4 hγ this Q X n93 (0 : Int32) (1 : Int32) M h
def w_Model_fieldLine_j334 (this : Nat) (Q : Mem → Prop) (X : Mem → Prop) (v1 : Int32) (v3 : Int32) (v4 : Int32) (v5 : Int32) (v6 : Int32) (v7 : Int32) (v8 : Int32) (s0 : Int32) (s1 : Int32) (M : Mem) : Prop :=
  w_Model_asks this s1 s0 (fun M21 => if (99 : Int32) ≤ (mI M21 11 this 51) then (∃ i23, (mR M21 11 this 45) = some (12, i23) ∧ vp_in (v8 + v7) (mL M21 139 i23) ∧ ∃ i25, (mR (sI M21 139 i23 (v8 + v7).toNatClampNeg v3) 11 this 45) = some (12, i25) ∧ vp_in (v8 + v7) (mL (sI M21 139 i23 (v8 + v7).toNatClampNeg v3) 140 i25) ∧ ∃ M27, M27 = (sI (sI M21 139 i23 (v8 + v7).toNatClampNeg v3) 140 i25 (v8 + v7).toNatClampNeg v4) ∧ ∃ i28, (mR M27 11 this 45) = some (12, i28) ∧ vp_in (v8 + v7) (mL M27 141 i28) ∧ ∃ i30, (mR (sI M27 141 i28 (v8 + v7).toNatClampNeg v1) 11 this 45) = some (12, i30) ∧ vp_in (v8 + v7) (mL (sI M27 141 i28 (v8 + v7).toNatClampNeg v1) 142 i30) ∧ ∃ M32, M32 = (sI (sI M27 141 i28 (v8 + v7).toNatClampNeg v1) 142 i30 (v8 + v7).toNatClampNeg v6) ∧ ∃ i33, (mR M32 11 this 45) = some (12, i33) ∧ vp_in (v8 + v7) (mL M32 523 i33) ∧ ∃ i35, (mR (sI M32 523 i33 (v8 + v7).toNatClampNeg (v5 &&& 1)) 11 this 45) = some (12, i35) ∧ vp_in (v8 + v7) (mL (sI M32 523 i33 (v8 + v7).toNatClampNeg (v5 &&& 1)) 143 i35) ∧ ∃ M37, M37 = (sI (sI M32 523 i33 (v8 + v7).toNatClampNeg (v5 &&& 1)) 143 i35 (v8 + v7).toNatClampNeg (0 : Int32)) ∧ ∃ i38, (mR M37 11 this 45) = some (12, i38) ∧ vp_in (mI M37 11 this 53) (mL M37 135 i38) ∧ vp_in (mI M37 11 this 53) (mL M37 135 i38) ∧ ∃ M41, M41 = (sI M37 135 i38 (mI M37 11 this 53).toNatClampNeg ((mI M37 135 i38 (mI M37 11 this 53).toNatClampNeg) + (1 : Int32))) ∧ Q M41) else (Q M21)) M
def w_Model_fieldLine_j333 (this : Nat) (Q : Mem → Prop) (X : Mem → Prop) (v1 : Int32) (v3 : Int32) (v4 : Int32) (v5 : Int32) (v6 : Int32) (v7 : Int32) (v8 : Int32) (s0 : Int32) (M : Mem) : Prop :=
  w_Model_fieldLine_j334 this Q X v1 v3 v4 v5 v6 v7 v8 (0 : Int32) s0 M
def w_Model_fieldLine_j329 (this : Nat) (Q : Mem → Prop) (X : Mem → Prop) (v1 : Int32) (v3 : Int32) (v4 : Int32) (v5 : Int32) (v6 : Int32) (v7 : Int32) (v8 : Int32) (s0 : Int32) (M : Mem) : Prop :=
  w_Model_fieldLine_j334 this Q X v1 v3 v4 v5 v6 v7 v8 (1 : Int32) s0 M
def w_Model_fieldLine_j306 (this : Nat) (Q : Mem → Prop) (X : Mem → Prop) (v1 : Int32) (v3 : Int32) (v4 : Int32) (v5 : Int32) (v6 : Int32) (v7 : Int32) (v8 : Int32) (s0 : Int32) (s1 : Int32) (M : Mem) : Prop :=
  w_Model_asks this s1 s0 (fun M19 => if v5 = 0 then (w_Model_fieldLine_j333 this Q X v1 v3 v4 v5 v6 v7 v8 (14 : Int32) M19) else (if (v1 &&& (1 : Int32)) = 0 then (w_Model_fieldLine_j329 this Q X v1 v3 v4 v5 v6 v7 v8 (14 : Int32) M19) else (if v4 = (1 : Int32) then (w_Model_fieldLine_j333 this Q X v1 v3 v4 v5 v6 v7 v8 (14 : Int32) M19) else (w_Model_fieldLine_j329 this Q X v1 v3 v4 v5 v6 v7 v8 (14 : Int32) M19)))) M
def w_Model_fieldLine_j288 (this : Nat) (Q : Mem → Prop) (X : Mem → Prop) (v1 : Int32) (v3 : Int32) (v4 : Int32) (v5 : Int32) (v6 : Int32) (v7 : Int32) (v8 : Int32) (s0 : Int32) (s1 : Int32) (M : Mem) : Prop :=
  w_Model_asks this s1 s0 (fun M17 => if v7 = (8 : Int32) then (w_Model_fieldLine_j306 this Q X v1 v3 v4 v5 v6 v7 v8 (1 : Int32) (12 : Int32) M17) else (w_Model_fieldLine_j306 this Q X v1 v3 v4 v5 v6 v7 v8 (0 : Int32) (12 : Int32) M17)) M
def w_Model_fieldLine_j287 (this : Nat) (Q : Mem → Prop) (X : Mem → Prop) (v1 : Int32) (v3 : Int32) (v4 : Int32) (v5 : Int32) (v6 : Int32) (v7 : Int32) (v8 : Int32) (s0 : Int32) (M : Mem) : Prop :=
  w_Model_fieldLine_j288 this Q X v1 v3 v4 v5 v6 v7 v8 (0 : Int32) s0 M
def w_Model_fieldLine_j259 (this : Nat) (Q : Mem → Prop) (X : Mem → Prop) (v1 : Int32) (v3 : Int32) (v4 : Int32) (v5 : Int32) (v6 : Int32) (v7 : Int32) (v8 : Int32) (s0 : Int32) (M : Mem) : Prop :=
  if s0 = 0 then (w_Model_fieldLine_j287 this Q X v1 v3 v4 v5 v6 v7 v8 (5 : Int32) M) else (w_Model_isOff this (1 : Int32) (fun r45 M44 => if r45 = 0 then (if (v1 &&& (3 : Int32)) = (3 : Int32) then (w_Model_fieldLine_j287 this Q X v1 v3 v4 v5 v6 v7 v8 (5 : Int32) M44) else (w_Model_fieldLine_j288 this Q X v1 v3 v4 v5 v6 v7 v8 (1 : Int32) (5 : Int32) M44)) else (w_Model_fieldLine_j287 this Q X v1 v3 v4 v5 v6 v7 v8 (5 : Int32) M44)) M)
def w_Model_fieldLine_j228 (this : Nat) (Q : Mem → Prop) (X : Mem → Prop) (k197 : Int32 → Int32 → Int32 → Int32 → Int32 → Int32 → Int32 → Int32 → Mem → Prop) (v1 : Int32) (v3 : Int32) (v4 : Int32) (v5 : Int32) (v6 : Int32) (v7 : Int32) (v8 : Int32) (v9 : Int32) (s0 : Int32) (s1 : Int32) (M : Mem) : Prop :=
  w_Model_asks this s1 s0 (fun M51 => k197 v1 v3 v4 v5 v6 v7 v8 (v9 + (1 : Int32)) M51) M
def w_Model_fieldLine_L197 (this : Nat) (Q : Mem → Prop) (X : Mem → Prop) : Nat → Int32 → Int32 → Int32 → Int32 → Int32 → Int32 → Int32 → Int32 → Mem → Prop
  | 0, _, _, _, _, _, _, _, _, _ => False
  | n + 1, v1, v3, v4, v5, v6, v7, v8, v9, M => if v7 ≤ v9 then (∃ i13, (mR M 11 this 45) = some (12, i13) ∧ vp_in (mI M 11 this 53) (mL M 132 i13) ∧ if ((mI M 132 i13 (mI M 11 this 53).toNatClampNeg) &&& (4 : Int32)) = 0 then (w_Model_fieldLine_j259 this Q X v1 v3 v4 v5 v6 v7 v8 (0 : Int32) M) else (w_Model_fieldLine_j259 this Q X v1 v3 v4 v5 v6 v7 v8 (1 : Int32) M)) else (∃ i48, (mR M 11 this 45) = some (12, i48) ∧ vp_in (v8 + v9) (mL M 139 i48) ∧ if (mI M 139 i48 (v8 + v9).toNatClampNeg) = v3 then (w_Model_fieldLine_j228 this Q X (w_Model_fieldLine_L197 this Q X n) v1 v3 v4 v5 v6 v7 v8 v9 (1 : Int32) (3 : Int32) M) else (w_Model_fieldLine_j228 this Q X (w_Model_fieldLine_L197 this Q X n) v1 v3 v4 v5 v6 v7 v8 v9 (0 : Int32) (3 : Int32) M))
def w_Model_fieldLine_j166 (this : Nat) (Q : Mem → Prop) (X : Mem → Prop) (v1 : Int32) (v3 : Int32) (v4 : Int32) (v5 : Int32) (v6 : Int32) (M : Mem) : Prop :=
  w_Model_need this (0 : Int32) (fun M9 => ∃ i10, (mR M9 11 this 45) = some (12, i10) ∧ vp_in (mI M9 11 this 53) (mL M9 135 i10) ∧ ∃ n52 : Nat, w_Model_fieldLine_L197 this Q X n52 v1 v3 v4 v5 v6 (mI M9 135 i10 (mI M9 11 this 53).toNatClampNeg) ((8 : Int32) * (mI M9 11 this 53)) (0 : Int32) M9) X M
def w_Model_fieldLine_j134 (this : Nat) (Q : Mem → Prop) (X : Mem → Prop) (v1 : Int32) (v3 : Int32) (v4 : Int32) (s0 : Int32) (M : Mem) : Prop :=
  if s0 = 0 then (w_Model_fieldLine_j166 this Q X v1 v3 v4 s0 (0 : Int32) M) else (w_Model_numberIn this (-2147483648 : Int32) (2147483647 : Int32) (fun r54 M53 => w_Model_fieldLine_j166 this Q X v1 v3 v4 s0 r54 M53) X (sI M 11 this 43 ((mI M 11 this 43) + (1 : Int32))))
def w_Model_fieldLine_j97 (this : Nat) (Q : Mem → Prop) (X : Mem → Prop) (k4 : Int32 → Int32 → Mem → Prop) (v1 : Int32) (v2 : Int32) (s0 : Int32) (s1 : Int32) (M : Mem) : Prop :=
  k4 v1 v2 (sI M 11 this 43 (s1 + s0))
def w_Model_fieldLine_j81 (this : Nat) (Q : Mem → Prop) (X : Mem → Prop) (k4 : Int32 → Int32 → Mem → Prop) (v2 : Int32) (s0 : Int32) (s1 : Int32) (M : Mem) : Prop :=
  if v2 = 0 then (w_Model_fieldLine_j97 this Q X k4 (s1 ||| s0) v2 (0 : Int32) (mI M 11 this 43) M) else (w_Model_fieldLine_j97 this Q X k4 (s1 ||| s0) v2 (1 : Int32) (mI M 11 this 43) M)
def w_Model_fieldLine_j70 (this : Nat) (Q : Mem → Prop) (X : Mem → Prop) (k4 : Int32 → Int32 → Mem → Prop) (v1 : Int32) (v3 : Int32) (s0 : Int32) (M : Mem) : Prop :=
  if s0 = 0 then (w_Model_fieldLine_j81 this Q X k4 s0 (0 : Int32) v1 M) else (w_Model_fieldLine_j81 this Q X k4 s0 v3 v1 M)
def w_Model_fieldLine_j69 (this : Nat) (Q : Mem → Prop) (X : Mem → Prop) (k4 : Int32 → Int32 → Mem → Prop) (v1 : Int32) (v3 : Int32) (M : Mem) : Prop :=
  w_Model_fieldLine_j70 this Q X k4 v1 v3 (0 : Int32) M
def w_Model_fieldLine_j54 (this : Nat) (Q : Mem → Prop) (X : Mem → Prop) (k4 : Int32 → Int32 → Mem → Prop) (v1 : Int32) (s0 : Int32) (M : Mem) : Prop :=
  if s0 = 0 then (w_Model_fieldLine_j69 this Q X k4 v1 s0 M) else (if (v1 &&& s0) = 0 then (w_Model_fieldLine_j70 this Q X k4 v1 s0 (1 : Int32) M) else (w_Model_fieldLine_j69 this Q X k4 v1 s0 M))
def w_Model_fieldLine_L4 (this : Nat) (Q : Mem → Prop) (X : Mem → Prop) : Nat → Int32 → Int32 → Mem → Prop
  | 0, _, _, _ => False
  | n + 1, v1, v2, M => if v2 = 0 then (w_Model_plainName this (fun r3 M2 => w_Model_type this (fun r5 M4 => vp_in (mI M4 11 this 43) (mL M4 411 this) ∧ if (mI M4 411 this (mI M4 11 this 43).toNatClampNeg) = (61 : Int32) then (w_Model_fieldLine_j134 this Q X v1 r3 r5 (1 : Int32) M4) else (w_Model_fieldLine_j134 this Q X v1 r3 r5 (0 : Int32) M4)) X M2) X M) else (w_Model_isWord this (mI M 11 this 29) (fun r56 M55 => if r56 = 0 then (w_Model_isWord this (mI M55 11 this 10) (fun r59 M58 => if r59 = 0 then (w_Model_isWord this (mI M58 11 this 15) (fun r62 M61 => if r62 = 0 then (w_Model_fieldLine_j54 this Q X (w_Model_fieldLine_L4 this Q X n) v1 (0 : Int32) M61) else (w_Model_fieldLine_j54 this Q X (w_Model_fieldLine_L4 this Q X n) v1 (4 : Int32) M61)) M58) else (w_Model_fieldLine_j54 this Q X (w_Model_fieldLine_L4 this Q X n) v1 (2 : Int32) M58)) M55) else (w_Model_fieldLine_j54 this Q X (w_Model_fieldLine_L4 this Q X n) v1 (1 : Int32) M55)) M)
def w_Model_fieldLine (this : Nat) (Q : Mem → Prop) (X : Mem → Prop) (M : Mem) : Prop :=
  ∃ n68 : Nat, w_Model_fieldLine_L4 this Q X n68 (0 : Int32) (1 : Int32) M
set_option maxRecDepth 4096 in
theorem lk_Model_fieldLine_j334 {γ : Gm} (hγ : Gk γ) (this : Nat) (Q : Mem → Prop) (X : Mem → Prop) (v1 : Int32) (v3 : Int32) (v4 : Int32) (v5 : Int32) (v6 : Int32) (v7 : Int32) (v8 : Int32) (s0 : Int32) (s1 : Int32) (M : Mem) (h : w_Model_fieldLine_j334 this Q X v1 v3 v4 v5 v6 v7 v8 s0 s1 M) : E γ k_Model_fieldLine 5 334 [some (vr (some (11, this))), some (vi v1), none, some (vi v3), some (vi v4), some (vi v5), some (vi v6), some (vi v7), some (vi v8), none] [vi s0, vi s1, vr (some (11, this))] M (Qx (14, 0) (Qv Q) X) := by
  unfold w_Model_fieldLine_j334 at h
  refine E_callV (κ' := k_Model_asks) (As := [vi s1, vi s0]) (st := []) mv_Model_asks (Or.inl (tbk_mem (j := 15) (k := 43) rfl)) rfl (by decide +kernel) (Nat.le_of_ble_eq_true rfl) (Nat.le_of_ble_eq_true rfl) rfl (by decide) (lk_Model_asks hγ this s1 s0 _ M h) (fun _ _ => Qv_r) (fun v M21 hp => Qv_k (R := fun st => E γ k_Model_fieldLine 5 337 [some (vr (some (11, this))), some (vi v1), none, some (vi v3), some (vi v4), some (vi v5), some (vi v6), some (vi v7), some (vi v8), none] st M21 (Qx (14, 0) (Qv Q) X)) hp (fun h => ?_))
  refine E_blk (lv' := [some (vr (some (11, this))), some (vi v1), none, some (vi v3), some (vi v4), some (vi v5), some (vi v6), some (vi v7), some (vi v8), none]) (st' := [vi (99 : Int32), vi (mI M21 11 this 51)]) (M1 := M21) (pc' := 343) (tb_Model hγ) [.aload_n 0, .getfield 532, .bipush 99] (by decide +kernel) rfl rfl trivial ?_
  refine E_icmp_ge (off := 4) (tgt := 347) (by decide +kernel) (by decide) (fun b22 => ?_) (fun b22 => ?_)
  · rw [if_pos b22] at h
    refine E_blk (lv' := [some (vr (some (11, this))), some (vi v1), none, some (vi v3), some (vi v4), some (vi v5), some (vi v6), some (vi v7), some (vi v8), none]) (st' := [vr (mR M21 11 this 45)]) (M1 := M21) (pc' := 351) (tb_Model hγ) [.aload_n 0, .getfield 522] (by decide +kernel) rfl rfl trivial ?_
    obtain ⟨i23, ei23, h⟩ := h
    rw [ei23]
    obtain ⟨c24, h⟩ := h
    refine E_blk (lv' := [some (vr (some (11, this))), some (vi v1), none, some (vi v3), some (vi v4), some (vi v5), some (vi v6), some (vi v7), some (vi v8), none]) (st' := [vr (mR (sI M21 139 i23 (v8 + v7).toNatClampNeg v3) 11 this 45)]) (M1 := (sI M21 139 i23 (v8 + v7).toNatClampNeg v3)) (pc' := 365) (tb_Model hγ) [.getfield 621, .iload 8, .iload 7, .iadd, .iload_n 3, .iastore, .aload_n 0, .getfield 522] (by decide +kernel) rfl rfl ⟨c24, trivial⟩ ?_
    obtain ⟨i25, ei25, h⟩ := h
    rw [ei25]
    obtain ⟨c26, h⟩ := h
    refine E_blk (lv' := [some (vr (some (11, this))), some (vi v1), none, some (vi v3), some (vi v4), some (vi v5), some (vi v6), some (vi v7), some (vi v8), none]) (st' := []) (M1 := (sI (sI M21 139 i23 (v8 + v7).toNatClampNeg v3) 140 i25 (v8 + v7).toNatClampNeg v4)) (pc' := 376) (tb_Model hγ) [.getfield 624, .iload 8, .iload 7, .iadd, .iload 4, .iastore] (by decide +kernel) rfl rfl ⟨c26, trivial⟩ ?_
    obtain ⟨M27, eM27, h⟩ := h
    rw [← eM27]
    refine E_blk (lv' := [some (vr (some (11, this))), some (vi v1), none, some (vi v3), some (vi v4), some (vi v5), some (vi v6), some (vi v7), some (vi v8), none]) (st' := [vr (mR M27 11 this 45)]) (M1 := M27) (pc' := 380) (tb_Model hγ) [.aload_n 0, .getfield 522] (by decide +kernel) rfl rfl trivial ?_
    obtain ⟨i28, ei28, h⟩ := h
    rw [ei28]
    obtain ⟨c29, h⟩ := h
    refine E_blk (lv' := [some (vr (some (11, this))), some (vi v1), none, some (vi v3), some (vi v4), some (vi v5), some (vi v6), some (vi v7), some (vi v8), none]) (st' := [vr (mR (sI M27 141 i28 (v8 + v7).toNatClampNeg v1) 11 this 45)]) (M1 := (sI M27 141 i28 (v8 + v7).toNatClampNeg v1)) (pc' := 394) (tb_Model hγ) [.getfield 627, .iload 8, .iload 7, .iadd, .iload_n 1, .iastore, .aload_n 0, .getfield 522] (by decide +kernel) rfl rfl ⟨c29, trivial⟩ ?_
    obtain ⟨i30, ei30, h⟩ := h
    rw [ei30]
    obtain ⟨c31, h⟩ := h
    refine E_blk (lv' := [some (vr (some (11, this))), some (vi v1), none, some (vi v3), some (vi v4), some (vi v5), some (vi v6), some (vi v7), some (vi v8), none]) (st' := []) (M1 := (sI (sI M27 141 i28 (v8 + v7).toNatClampNeg v1) 142 i30 (v8 + v7).toNatClampNeg v6)) (pc' := 405) (tb_Model hγ) [.getfield 630, .iload 8, .iload 7, .iadd, .iload 6, .iastore] (by decide +kernel) rfl rfl ⟨c31, trivial⟩ ?_
    obtain ⟨M32, eM32, h⟩ := h
    rw [← eM32]
    refine E_blk (lv' := [some (vr (some (11, this))), some (vi v1), none, some (vi v3), some (vi v4), some (vi v5), some (vi v6), some (vi v7), some (vi v8), none]) (st' := [vr (mR M32 11 this 45)]) (M1 := M32) (pc' := 409) (tb_Model hγ) [.aload_n 0, .getfield 522] (by decide +kernel) rfl rfl trivial ?_
    obtain ⟨i33, ei33, h⟩ := h
    rw [ei33]
    obtain ⟨c34, h⟩ := h
    refine E_blk (lv' := [some (vr (some (11, this))), some (vi v1), none, some (vi v3), some (vi v4), some (vi v5), some (vi v6), some (vi v7), some (vi v8), none]) (st' := [vr (mR (sI M32 523 i33 (v8 + v7).toNatClampNeg (v5 &&& 1)) 11 this 45)]) (M1 := (sI M32 523 i33 (v8 + v7).toNatClampNeg (v5 &&& 1))) (pc' := 424) (tb_Model hγ) [.getfield 633, .iload 8, .iload 7, .iadd, .iload 5, .bastore, .aload_n 0, .getfield 522] (by decide +kernel) rfl rfl ⟨c34, trivial⟩ ?_
    obtain ⟨i35, ei35, h⟩ := h
    rw [ei35]
    obtain ⟨c36, h⟩ := h
    refine E_blk (lv' := [some (vr (some (11, this))), some (vi v1), none, some (vi v3), some (vi v4), some (vi v5), some (vi v6), some (vi v7), some (vi v8), none]) (st' := []) (M1 := (sI (sI M32 523 i33 (v8 + v7).toNatClampNeg (v5 &&& 1)) 143 i35 (v8 + v7).toNatClampNeg (0 : Int32))) (pc' := 434) (tb_Model hγ) [.getfield 636, .iload 8, .iload 7, .iadd, .iconst 0, .iastore] (by decide +kernel) rfl rfl ⟨c36, trivial⟩ ?_
    obtain ⟨M37, eM37, h⟩ := h
    rw [← eM37]
    refine E_blk (lv' := [some (vr (some (11, this))), some (vi v1), none, some (vi v3), some (vi v4), some (vi v5), some (vi v6), some (vi v7), some (vi v8), none]) (st' := [vr (mR M37 11 this 45)]) (M1 := M37) (pc' := 438) (tb_Model hγ) [.aload_n 0, .getfield 522] (by decide +kernel) rfl rfl trivial ?_
    obtain ⟨i38, ei38, h⟩ := h
    rw [ei38]
    obtain ⟨c39, c40, h⟩ := h
    refine E_blk (lv' := [some (vr (some (11, this))), some (vi v1), none, some (vi v3), some (vi v4), some (vi v5), some (vi v6), some (vi v7), some (vi v8), none]) (st' := []) (M1 := (sI M37 135 i38 (mI M37 11 this 53).toNatClampNeg ((mI M37 135 i38 (mI M37 11 this 53).toNatClampNeg) + (1 : Int32)))) (pc' := 450) (tb_Model hγ) [.getfield 435, .aload_n 0, .getfield 615, .dup2, .iaload, .iconst 1, .iadd, .iastore] (by decide +kernel) rfl rfl ⟨c39, c40, trivial⟩ ?_
    obtain ⟨M41, eM41, h⟩ := h
    rw [← eM41]
    exact (E_vret rfl (by decide +kernel) h).nx
  · rw [if_neg b22] at h
    exact (E_vret rfl (by decide +kernel) h).nx
set_option maxRecDepth 4096 in
theorem lk_Model_fieldLine_j333 {γ : Gm} (hγ : Gk γ) (this : Nat) (Q : Mem → Prop) (X : Mem → Prop) (v1 : Int32) (v3 : Int32) (v4 : Int32) (v5 : Int32) (v6 : Int32) (v7 : Int32) (v8 : Int32) (s0 : Int32) (M : Mem) (h : w_Model_fieldLine_j333 this Q X v1 v3 v4 v5 v6 v7 v8 s0 M) : E γ k_Model_fieldLine 5 333 [some (vr (some (11, this))), some (vi v1), none, some (vi v3), some (vi v4), some (vi v5), some (vi v6), some (vi v7), some (vi v8), none] [vi s0, vr (some (11, this))] M (Qx (14, 0) (Qv Q) X) := by
  unfold w_Model_fieldLine_j333 at h
  refine E_blk (lv' := [some (vr (some (11, this))), some (vi v1), none, some (vi v3), some (vi v4), some (vi v5), some (vi v6), some (vi v7), some (vi v8), none]) (st' := [vi (0 : Int32), vi s0, vr (some (11, this))]) (M1 := M) (pc' := 334) (tb_Model hγ) [.iconst 0] (by decide +kernel) rfl rfl trivial ?_
  refine E_mask [true, true, false, true, true, true, true, true, true, false] rfl ?_
  exact lk_Model_fieldLine_j334 hγ this Q X v1 v3 v4 v5 v6 v7 v8 (0 : Int32) s0 M h
set_option maxRecDepth 4096 in
theorem lk_Model_fieldLine_j329 {γ : Gm} (hγ : Gk γ) (this : Nat) (Q : Mem → Prop) (X : Mem → Prop) (v1 : Int32) (v3 : Int32) (v4 : Int32) (v5 : Int32) (v6 : Int32) (v7 : Int32) (v8 : Int32) (s0 : Int32) (M : Mem) (h : w_Model_fieldLine_j329 this Q X v1 v3 v4 v5 v6 v7 v8 s0 M) : E γ k_Model_fieldLine 5 329 [some (vr (some (11, this))), some (vi v1), none, some (vi v3), some (vi v4), some (vi v5), some (vi v6), some (vi v7), some (vi v8), none] [vi s0, vr (some (11, this))] M (Qx (14, 0) (Qv Q) X) := by
  unfold w_Model_fieldLine_j329 at h
  refine E_blk (lv' := [some (vr (some (11, this))), some (vi v1), none, some (vi v3), some (vi v4), some (vi v5), some (vi v6), some (vi v7), some (vi v8), none]) (st' := [vi (1 : Int32), vi s0, vr (some (11, this))]) (M1 := M) (pc' := 330) (tb_Model hγ) [.iconst 1] (by decide +kernel) rfl rfl trivial ?_
  refine E_goto (off := 4) (tgt := 334) (by decide +kernel) (by decide) ?_
  refine E_mask [true, true, false, true, true, true, true, true, true, false] rfl ?_
  exact lk_Model_fieldLine_j334 hγ this Q X v1 v3 v4 v5 v6 v7 v8 (1 : Int32) s0 M h
set_option maxRecDepth 4096 in
theorem lk_Model_fieldLine_j306 {γ : Gm} (hγ : Gk γ) (this : Nat) (Q : Mem → Prop) (X : Mem → Prop) (v1 : Int32) (v3 : Int32) (v4 : Int32) (v5 : Int32) (v6 : Int32) (v7 : Int32) (v8 : Int32) (s0 : Int32) (s1 : Int32) (M : Mem) (h : w_Model_fieldLine_j306 this Q X v1 v3 v4 v5 v6 v7 v8 s0 s1 M) : E γ k_Model_fieldLine 5 306 [some (vr (some (11, this))), some (vi v1), none, some (vi v3), some (vi v4), some (vi v5), some (vi v6), some (vi v7), some (vi v8), none] [vi s0, vi s1, vr (some (11, this))] M (Qx (14, 0) (Qv Q) X) := by
  unfold w_Model_fieldLine_j306 at h
  refine E_callV (κ' := k_Model_asks) (As := [vi s1, vi s0]) (st := []) mv_Model_asks (Or.inl (tbk_mem (j := 15) (k := 43) rfl)) rfl (by decide +kernel) (Nat.le_of_ble_eq_true rfl) (Nat.le_of_ble_eq_true rfl) rfl (by decide) (lk_Model_asks hγ this s1 s0 _ M h) (fun _ _ => Qv_r) (fun v M19 hp => Qv_k (R := fun st => E γ k_Model_fieldLine 5 309 [some (vr (some (11, this))), some (vi v1), none, some (vi v3), some (vi v4), some (vi v5), some (vi v6), some (vi v7), some (vi v8), none] st M19 (Qx (14, 0) (Qv Q) X)) hp (fun h => ?_))
  refine E_blk (lv' := [some (vr (some (11, this))), some (vi v1), none, some (vi v3), some (vi v4), some (vi v5), some (vi v6), some (vi v7), some (vi v8), none]) (st' := [vi v5, vi (14 : Int32), vr (some (11, this))]) (M1 := M19) (pc' := 314) (tb_Model hγ) [.aload_n 0, .bipush 14, .iload 5] (by decide +kernel) rfl rfl trivial ?_
  refine E_if_eq (off := 19) (tgt := 333) (by decide +kernel) (by decide) (fun b20 => ?_) (fun b20 => ?_)
  · rw [if_pos b20] at h
    refine E_mask [true, true, false, true, true, true, true, true, true, false] rfl ?_
    exact lk_Model_fieldLine_j333 hγ this Q X v1 v3 v4 v5 v6 v7 v8 (14 : Int32) M19 h
  · rw [if_neg b20] at h
    refine E_blk (lv' := [some (vr (some (11, this))), some (vi v1), none, some (vi v3), some (vi v4), some (vi v5), some (vi v6), some (vi v7), some (vi v8), none]) (st' := [vi (v1 &&& (1 : Int32)), vi (14 : Int32), vr (some (11, this))]) (M1 := M19) (pc' := 320) (tb_Model hγ) [.iload_n 1, .iconst 1, .iand] (by decide +kernel) rfl rfl trivial ?_
    refine E_if_eq (off := 9) (tgt := 329) (by decide +kernel) (by decide) (fun b42 => ?_) (fun b42 => ?_)
    · rw [if_pos b42] at h
      refine E_mask [true, true, false, true, true, true, true, true, true, false] rfl ?_
      exact lk_Model_fieldLine_j329 hγ this Q X v1 v3 v4 v5 v6 v7 v8 (14 : Int32) M19 h
    · rw [if_neg b42] at h
      refine E_blk (lv' := [some (vr (some (11, this))), some (vi v1), none, some (vi v3), some (vi v4), some (vi v5), some (vi v6), some (vi v7), some (vi v8), none]) (st' := [vi (1 : Int32), vi v4, vi (14 : Int32), vr (some (11, this))]) (M1 := M19) (pc' := 326) (tb_Model hγ) [.iload 4, .iconst 1] (by decide +kernel) rfl rfl trivial ?_
      refine E_icmp_eq (off := 7) (tgt := 333) (by decide +kernel) (by decide) (fun b43 => ?_) (fun b43 => ?_)
      · rw [if_pos b43] at h
        refine E_mask [true, true, false, true, true, true, true, true, true, false] rfl ?_
        exact lk_Model_fieldLine_j333 hγ this Q X v1 v3 v4 v5 v6 v7 v8 (14 : Int32) M19 h
      · rw [if_neg b43] at h
        refine E_mask [true, true, false, true, true, true, true, true, true, false] rfl ?_
        exact lk_Model_fieldLine_j329 hγ this Q X v1 v3 v4 v5 v6 v7 v8 (14 : Int32) M19 h
set_option maxRecDepth 4096 in
theorem lk_Model_fieldLine_j288 {γ : Gm} (hγ : Gk γ) (this : Nat) (Q : Mem → Prop) (X : Mem → Prop) (v1 : Int32) (v3 : Int32) (v4 : Int32) (v5 : Int32) (v6 : Int32) (v7 : Int32) (v8 : Int32) (s0 : Int32) (s1 : Int32) (M : Mem) (h : w_Model_fieldLine_j288 this Q X v1 v3 v4 v5 v6 v7 v8 s0 s1 M) : E γ k_Model_fieldLine 5 288 [some (vr (some (11, this))), some (vi v1), none, some (vi v3), some (vi v4), some (vi v5), some (vi v6), some (vi v7), some (vi v8), none] [vi s0, vi s1, vr (some (11, this))] M (Qx (14, 0) (Qv Q) X) := by
  unfold w_Model_fieldLine_j288 at h
  refine E_callV (κ' := k_Model_asks) (As := [vi s1, vi s0]) (st := []) mv_Model_asks (Or.inl (tbk_mem (j := 15) (k := 43) rfl)) rfl (by decide +kernel) (Nat.le_of_ble_eq_true rfl) (Nat.le_of_ble_eq_true rfl) rfl (by decide) (lk_Model_asks hγ this s1 s0 _ M h) (fun _ _ => Qv_r) (fun v M17 hp => Qv_k (R := fun st => E γ k_Model_fieldLine 5 291 [some (vr (some (11, this))), some (vi v1), none, some (vi v3), some (vi v4), some (vi v5), some (vi v6), some (vi v7), some (vi v8), none] st M17 (Qx (14, 0) (Qv Q) X)) hp (fun h => ?_))
  refine E_blk (lv' := [some (vr (some (11, this))), some (vi v1), none, some (vi v3), some (vi v4), some (vi v5), some (vi v6), some (vi v7), some (vi v8), none]) (st' := [vi (8 : Int32), vi v7, vi (12 : Int32), vr (some (11, this))]) (M1 := M17) (pc' := 298) (tb_Model hγ) [.aload_n 0, .bipush 12, .iload 7, .bipush 8] (by decide +kernel) rfl rfl trivial ?_
  refine E_icmp_ne (off := 7) (tgt := 305) (by decide +kernel) (by decide) (fun b18 => ?_) (fun b18 => ?_)
  · rw [if_pos b18] at h
    refine E_blk (lv' := [some (vr (some (11, this))), some (vi v1), none, some (vi v3), some (vi v4), some (vi v5), some (vi v6), some (vi v7), some (vi v8), none]) (st' := [vi (1 : Int32), vi (12 : Int32), vr (some (11, this))]) (M1 := M17) (pc' := 302) (tb_Model hγ) [.iconst 1] (by decide +kernel) rfl rfl trivial ?_
    refine E_goto (off := 4) (tgt := 306) (by decide +kernel) (by decide) ?_
    refine E_mask [true, true, false, true, true, true, true, true, true, false] rfl ?_
    exact lk_Model_fieldLine_j306 hγ this Q X v1 v3 v4 v5 v6 v7 v8 (1 : Int32) (12 : Int32) M17 h
  · rw [if_neg b18] at h
    refine E_blk (lv' := [some (vr (some (11, this))), some (vi v1), none, some (vi v3), some (vi v4), some (vi v5), some (vi v6), some (vi v7), some (vi v8), none]) (st' := [vi (0 : Int32), vi (12 : Int32), vr (some (11, this))]) (M1 := M17) (pc' := 306) (tb_Model hγ) [.iconst 0] (by decide +kernel) rfl rfl trivial ?_
    refine E_mask [true, true, false, true, true, true, true, true, true, false] rfl ?_
    exact lk_Model_fieldLine_j306 hγ this Q X v1 v3 v4 v5 v6 v7 v8 (0 : Int32) (12 : Int32) M17 h
set_option maxRecDepth 4096 in
theorem lk_Model_fieldLine_j287 {γ : Gm} (hγ : Gk γ) (this : Nat) (Q : Mem → Prop) (X : Mem → Prop) (v1 : Int32) (v3 : Int32) (v4 : Int32) (v5 : Int32) (v6 : Int32) (v7 : Int32) (v8 : Int32) (s0 : Int32) (M : Mem) (h : w_Model_fieldLine_j287 this Q X v1 v3 v4 v5 v6 v7 v8 s0 M) : E γ k_Model_fieldLine 5 287 [some (vr (some (11, this))), some (vi v1), none, some (vi v3), some (vi v4), some (vi v5), some (vi v6), some (vi v7), some (vi v8), none] [vi s0, vr (some (11, this))] M (Qx (14, 0) (Qv Q) X) := by
  unfold w_Model_fieldLine_j287 at h
  refine E_blk (lv' := [some (vr (some (11, this))), some (vi v1), none, some (vi v3), some (vi v4), some (vi v5), some (vi v6), some (vi v7), some (vi v8), none]) (st' := [vi (0 : Int32), vi s0, vr (some (11, this))]) (M1 := M) (pc' := 288) (tb_Model hγ) [.iconst 0] (by decide +kernel) rfl rfl trivial ?_
  refine E_mask [true, true, false, true, true, true, true, true, true, false] rfl ?_
  exact lk_Model_fieldLine_j288 hγ this Q X v1 v3 v4 v5 v6 v7 v8 (0 : Int32) s0 M h
set_option maxRecDepth 4096 in
theorem lk_Model_fieldLine_j259 {γ : Gm} (hγ : Gk γ) (this : Nat) (Q : Mem → Prop) (X : Mem → Prop) (v1 : Int32) (v3 : Int32) (v4 : Int32) (v5 : Int32) (v6 : Int32) (v7 : Int32) (v8 : Int32) (s0 : Int32) (M : Mem) (h : w_Model_fieldLine_j259 this Q X v1 v3 v4 v5 v6 v7 v8 s0 M) : E γ k_Model_fieldLine 5 259 [some (vr (some (11, this))), some (vi v1), none, some (vi v3), some (vi v4), some (vi v5), some (vi v6), some (vi v7), some (vi v8), none] [vi s0] M (Qx (14, 0) (Qv Q) X) := by
  unfold w_Model_fieldLine_j259 at h
  refine E_blk (lv' := [some (vr (some (11, this))), some (vi v1), none, some (vi v3), some (vi v4), some (vi v5), some (vi v6), some (vi v7), some (vi v8), some (vi s0)]) (st' := [vi s0, vi (5 : Int32), vr (some (11, this))]) (M1 := M) (pc' := 265) (tb_Model hγ) [.istore 9, .aload_n 0, .iconst 5, .iload 9] (by decide +kernel) rfl rfl trivial ?_
  refine E_if_eq (off := 22) (tgt := 287) (by decide +kernel) (by decide) (fun b16 => ?_) (fun b16 => ?_)
  · rw [if_pos b16] at h
    refine E_mask [true, true, false, true, true, true, true, true, true, false] rfl ?_
    exact lk_Model_fieldLine_j287 hγ this Q X v1 v3 v4 v5 v6 v7 v8 (5 : Int32) M h
  · rw [if_neg b16] at h
    refine E_blk (lv' := [some (vr (some (11, this))), some (vi v1), none, some (vi v3), some (vi v4), some (vi v5), some (vi v6), some (vi v7), some (vi v8), some (vi s0)]) (st' := [vi (1 : Int32), vr (some (11, this)), vi (5 : Int32), vr (some (11, this))]) (M1 := M) (pc' := 270) (tb_Model hγ) [.aload_n 0, .iconst 1] (by decide +kernel) rfl rfl trivial ?_
    refine E_callV (κ' := k_Model_isOff) (As := [vi (1 : Int32)]) (st := [vi (5 : Int32), vr (some (11, this))]) mv_Model_isOff (Or.inl (tbk_mem (j := 15) (k := 47) rfl)) rfl (by decide +kernel) (Nat.le_of_ble_eq_true rfl) (Nat.le_of_ble_eq_true rfl) rfl (by decide) (lk_Model_isOff hγ this (1 : Int32) _ M h) (fun _ _ => Qi_r) (fun v M44 hp => Qi_k (R := fun st => E γ k_Model_fieldLine 5 273 [some (vr (some (11, this))), some (vi v1), none, some (vi v3), some (vi v4), some (vi v5), some (vi v6), some (vi v7), some (vi v8), some (vi s0)] st M44 (Qx (14, 0) (Qv Q) X)) hp (fun r45 h => ?_))
    refine E_if_ne (off := 14) (tgt := 287) (by decide +kernel) (by decide) (fun b46 => ?_) (fun b46 => ?_)
    · rw [if_pos b46] at h
      refine E_blk (lv' := [some (vr (some (11, this))), some (vi v1), none, some (vi v3), some (vi v4), some (vi v5), some (vi v6), some (vi v7), some (vi v8), some (vi s0)]) (st' := [vi (3 : Int32), vi (v1 &&& (3 : Int32)), vi (5 : Int32), vr (some (11, this))]) (M1 := M44) (pc' := 280) (tb_Model hγ) [.iload_n 1, .iconst 3, .iand, .iconst 3] (by decide +kernel) rfl rfl trivial ?_
      refine E_icmp_eq (off := 7) (tgt := 287) (by decide +kernel) (by decide) (fun b47 => ?_) (fun b47 => ?_)
      · rw [if_pos b47] at h
        refine E_mask [true, true, false, true, true, true, true, true, true, false] rfl ?_
        exact lk_Model_fieldLine_j287 hγ this Q X v1 v3 v4 v5 v6 v7 v8 (5 : Int32) M44 h
      · rw [if_neg b47] at h
        refine E_blk (lv' := [some (vr (some (11, this))), some (vi v1), none, some (vi v3), some (vi v4), some (vi v5), some (vi v6), some (vi v7), some (vi v8), some (vi s0)]) (st' := [vi (1 : Int32), vi (5 : Int32), vr (some (11, this))]) (M1 := M44) (pc' := 284) (tb_Model hγ) [.iconst 1] (by decide +kernel) rfl rfl trivial ?_
        refine E_goto (off := 4) (tgt := 288) (by decide +kernel) (by decide) ?_
        refine E_mask [true, true, false, true, true, true, true, true, true, false] rfl ?_
        exact lk_Model_fieldLine_j288 hγ this Q X v1 v3 v4 v5 v6 v7 v8 (1 : Int32) (5 : Int32) M44 h
    · rw [if_neg b46] at h
      refine E_mask [true, true, false, true, true, true, true, true, true, false] rfl ?_
      exact lk_Model_fieldLine_j287 hγ this Q X v1 v3 v4 v5 v6 v7 v8 (5 : Int32) M44 h
set_option maxRecDepth 4096 in
theorem lk_Model_fieldLine_j228 {γ : Gm} (hγ : Gk γ) (this : Nat) (Q : Mem → Prop) (X : Mem → Prop) (k197 : Int32 → Int32 → Int32 → Int32 → Int32 → Int32 → Int32 → Int32 → Mem → Prop) (hk197 : ∀ (v1 : Int32) (v3 : Int32) (v4 : Int32) (v5 : Int32) (v6 : Int32) (v7 : Int32) (v8 : Int32) (v9 : Int32) (M : Mem), k197 v1 v3 v4 v5 v6 v7 v8 v9 M → E γ k_Model_fieldLine 5 197 [some (vr (some (11, this))), some (vi v1), none, some (vi v3), some (vi v4), some (vi v5), some (vi v6), some (vi v7), some (vi v8), some (vi v9)] [] M (Qx (14, 0) (Qv Q) X)) (v1 : Int32) (v3 : Int32) (v4 : Int32) (v5 : Int32) (v6 : Int32) (v7 : Int32) (v8 : Int32) (v9 : Int32) (s0 : Int32) (s1 : Int32) (M : Mem) (h : w_Model_fieldLine_j228 this Q X k197 v1 v3 v4 v5 v6 v7 v8 v9 s0 s1 M) : E γ k_Model_fieldLine 5 228 [some (vr (some (11, this))), some (vi v1), none, some (vi v3), some (vi v4), some (vi v5), some (vi v6), some (vi v7), some (vi v8), some (vi v9)] [vi s0, vi s1, vr (some (11, this))] M (Qx (14, 0) (Qv Q) X) := by
  unfold w_Model_fieldLine_j228 at h
  refine E_callV (κ' := k_Model_asks) (As := [vi s1, vi s0]) (st := []) mv_Model_asks (Or.inl (tbk_mem (j := 15) (k := 43) rfl)) rfl (by decide +kernel) (Nat.le_of_ble_eq_true rfl) (Nat.le_of_ble_eq_true rfl) rfl (by decide) (lk_Model_asks hγ this s1 s0 _ M h) (fun _ _ => Qv_r) (fun v M51 hp => Qv_k (R := fun st => E γ k_Model_fieldLine 5 231 [some (vr (some (11, this))), some (vi v1), none, some (vi v3), some (vi v4), some (vi v5), some (vi v6), some (vi v7), some (vi v8), some (vi v9)] st M51 (Qx (14, 0) (Qv Q) X)) hp (fun h => ?_))
  refine E_blk (lv' := [some (vr (some (11, this))), some (vi v1), none, some (vi v3), some (vi v4), some (vi v5), some (vi v6), some (vi v7), some (vi v8), some (vi (v9 + (1 : Int32)))]) (st' := []) (M1 := M51) (pc' := 234) (tb_Model hγ) [.iinc 9 1] (by decide +kernel) rfl rfl trivial ?_
  refine E_goto (off := -37) (tgt := 197) (by decide +kernel) (by decide) ?_
  refine E_mask [true, true, false, true, true, true, true, true, true, true] rfl ?_
  exact hk197 v1 v3 v4 v5 v6 v7 v8 (v9 + (1 : Int32)) M51 h
set_option maxRecDepth 4096 in
theorem lk_Model_fieldLine_L197 {γ : Gm} (hγ : Gk γ) (this : Nat) (Q : Mem → Prop) (X : Mem → Prop) : ∀ (n : Nat) (v1 : Int32) (v3 : Int32) (v4 : Int32) (v5 : Int32) (v6 : Int32) (v7 : Int32) (v8 : Int32) (v9 : Int32) (M : Mem), w_Model_fieldLine_L197 this Q X n v1 v3 v4 v5 v6 v7 v8 v9 M → E γ k_Model_fieldLine 5 197 [some (vr (some (11, this))), some (vi v1), none, some (vi v3), some (vi v4), some (vi v5), some (vi v6), some (vi v7), some (vi v8), some (vi v9)] [] M (Qx (14, 0) (Qv Q) X) := by
  intro n
  induction n with
  | zero => intro v1 v3 v4 v5 v6 v7 v8 v9 M h; exact h.elim
  | succ n ih =>
    intro v1 v3 v4 v5 v6 v7 v8 v9 M h
    unfold w_Model_fieldLine_L197 at h
    refine E_blk (lv' := [some (vr (some (11, this))), some (vi v1), none, some (vi v3), some (vi v4), some (vi v5), some (vi v6), some (vi v7), some (vi v8), some (vi v9)]) (st' := [vi v7, vi v9]) (M1 := M) (pc' := 201) (tb_Model hγ) [.iload 9, .iload 7] (by decide +kernel) rfl rfl trivial ?_
    refine E_icmp_ge (off := 36) (tgt := 237) (by decide +kernel) (by decide) (fun b12 => ?_) (fun b12 => ?_)
    · rw [if_pos b12] at h
      refine E_blk (lv' := [some (vr (some (11, this))), some (vi v1), none, some (vi v3), some (vi v4), some (vi v5), some (vi v6), some (vi v7), some (vi v8), some (vi v9)]) (st' := [vr (mR M 11 this 45)]) (M1 := M) (pc' := 241) (tb_Model hγ) [.aload_n 0, .getfield 522] (by decide +kernel) rfl rfl trivial ?_
      obtain ⟨i13, ei13, h⟩ := h
      rw [ei13]
      obtain ⟨c14, h⟩ := h
      refine E_blk (lv' := [some (vr (some (11, this))), some (vi v1), none, some (vi v3), some (vi v4), some (vi v5), some (vi v6), some (vi v7), some (vi v8), some (vi v9)]) (st' := [vi ((mI M 132 i13 (mI M 11 this 53).toNatClampNeg) &&& (4 : Int32))]) (M1 := M) (pc' := 251) (tb_Model hγ) [.getfield 429, .aload_n 0, .getfield 615, .iaload, .iconst 4, .iand] (by decide +kernel) rfl rfl ⟨c14, trivial⟩ ?_
      refine E_if_eq (off := 7) (tgt := 258) (by decide +kernel) (by decide) (fun b15 => ?_) (fun b15 => ?_)
      · rw [if_pos b15] at h
        refine E_blk (lv' := [some (vr (some (11, this))), some (vi v1), none, some (vi v3), some (vi v4), some (vi v5), some (vi v6), some (vi v7), some (vi v8), some (vi v9)]) (st' := [vi (0 : Int32)]) (M1 := M) (pc' := 259) (tb_Model hγ) [.iconst 0] (by decide +kernel) rfl rfl trivial ?_
        refine E_mask [true, true, false, true, true, true, true, true, true, false] rfl ?_
        exact lk_Model_fieldLine_j259 hγ this Q X v1 v3 v4 v5 v6 v7 v8 (0 : Int32) M h
      · rw [if_neg b15] at h
        refine E_blk (lv' := [some (vr (some (11, this))), some (vi v1), none, some (vi v3), some (vi v4), some (vi v5), some (vi v6), some (vi v7), some (vi v8), some (vi v9)]) (st' := [vi (1 : Int32)]) (M1 := M) (pc' := 255) (tb_Model hγ) [.iconst 1] (by decide +kernel) rfl rfl trivial ?_
        refine E_goto (off := 4) (tgt := 259) (by decide +kernel) (by decide) ?_
        refine E_mask [true, true, false, true, true, true, true, true, true, false] rfl ?_
        exact lk_Model_fieldLine_j259 hγ this Q X v1 v3 v4 v5 v6 v7 v8 (1 : Int32) M h
    · rw [if_neg b12] at h
      refine E_blk (lv' := [some (vr (some (11, this))), some (vi v1), none, some (vi v3), some (vi v4), some (vi v5), some (vi v6), some (vi v7), some (vi v8), some (vi v9)]) (st' := [vr (mR M 11 this 45), vi (3 : Int32), vr (some (11, this))]) (M1 := M) (pc' := 210) (tb_Model hγ) [.aload_n 0, .iconst 3, .aload_n 0, .getfield 522] (by decide +kernel) rfl rfl trivial ?_
      obtain ⟨i48, ei48, h⟩ := h
      rw [ei48]
      obtain ⟨c49, h⟩ := h
      refine E_blk (lv' := [some (vr (some (11, this))), some (vi v1), none, some (vi v3), some (vi v4), some (vi v5), some (vi v6), some (vi v7), some (vi v8), some (vi v9)]) (st' := [vi v3, vi (mI M 139 i48 (v8 + v9).toNatClampNeg), vi (3 : Int32), vr (some (11, this))]) (M1 := M) (pc' := 220) (tb_Model hγ) [.getfield 621, .iload 8, .iload 9, .iadd, .iaload, .iload_n 3] (by decide +kernel) rfl rfl ⟨c49, trivial⟩ ?_
      refine E_icmp_ne (off := 7) (tgt := 227) (by decide +kernel) (by decide) (fun b50 => ?_) (fun b50 => ?_)
      · rw [if_pos b50] at h
        refine E_blk (lv' := [some (vr (some (11, this))), some (vi v1), none, some (vi v3), some (vi v4), some (vi v5), some (vi v6), some (vi v7), some (vi v8), some (vi v9)]) (st' := [vi (1 : Int32), vi (3 : Int32), vr (some (11, this))]) (M1 := M) (pc' := 224) (tb_Model hγ) [.iconst 1] (by decide +kernel) rfl rfl trivial ?_
        refine E_goto (off := 4) (tgt := 228) (by decide +kernel) (by decide) ?_
        refine E_mask [true, true, false, true, true, true, true, true, true, true] rfl ?_
        exact lk_Model_fieldLine_j228 hγ this Q X (w_Model_fieldLine_L197 this Q X n) ih v1 v3 v4 v5 v6 v7 v8 v9 (1 : Int32) (3 : Int32) M h
      · rw [if_neg b50] at h
        refine E_blk (lv' := [some (vr (some (11, this))), some (vi v1), none, some (vi v3), some (vi v4), some (vi v5), some (vi v6), some (vi v7), some (vi v8), some (vi v9)]) (st' := [vi (0 : Int32), vi (3 : Int32), vr (some (11, this))]) (M1 := M) (pc' := 228) (tb_Model hγ) [.iconst 0] (by decide +kernel) rfl rfl trivial ?_
        refine E_mask [true, true, false, true, true, true, true, true, true, true] rfl ?_
        exact lk_Model_fieldLine_j228 hγ this Q X (w_Model_fieldLine_L197 this Q X n) ih v1 v3 v4 v5 v6 v7 v8 v9 (0 : Int32) (3 : Int32) M h
set_option maxRecDepth 4096 in
theorem lk_Model_fieldLine_j166 {γ : Gm} (hγ : Gk γ) (this : Nat) (Q : Mem → Prop) (X : Mem → Prop) (v1 : Int32) (v3 : Int32) (v4 : Int32) (v5 : Int32) (v6 : Int32) (M : Mem) (h : w_Model_fieldLine_j166 this Q X v1 v3 v4 v5 v6 M) : E γ k_Model_fieldLine 5 166 [some (vr (some (11, this))), some (vi v1), none, some (vi v3), some (vi v4), some (vi v5), some (vi v6), none, none, none] [] M (Qx (14, 0) (Qv Q) X) := by
  unfold w_Model_fieldLine_j166 at h
  refine E_blk (lv' := [some (vr (some (11, this))), some (vi v1), none, some (vi v3), some (vi v4), some (vi v5), some (vi v6), none, none, none]) (st' := [vi (0 : Int32), vr (some (11, this))]) (M1 := M) (pc' := 168) (tb_Model hγ) [.aload_n 0, .iconst 0] (by decide +kernel) rfl rfl trivial ?_
  refine E_callX (κ' := k_Model_need) (As := [vi (0 : Int32)]) (st := []) mv_Model_need (Or.inl (tbk_mem (j := 15) (k := 35) rfl)) rfl (by decide +kernel) (Nat.le_of_ble_eq_true rfl) (Nat.le_of_ble_eq_true rfl) rfl (by decide) rfl (lk_Model_need hγ this (0 : Int32) _ _ M h) (fun _ _ => Qv_r) (fun _ h => h) (fun v M9 hp => Qv_k (R := fun st => E γ k_Model_fieldLine 5 171 [some (vr (some (11, this))), some (vi v1), none, some (vi v3), some (vi v4), some (vi v5), some (vi v6), none, none, none] st M9 (Qx (14, 0) (Qv Q) X)) hp (fun h => ?_))
  refine E_blk (lv' := [some (vr (some (11, this))), some (vi v1), none, some (vi v3), some (vi v4), some (vi v5), some (vi v6), none, none, none]) (st' := [vr (mR M9 11 this 45)]) (M1 := M9) (pc' := 175) (tb_Model hγ) [.aload_n 0, .getfield 522] (by decide +kernel) rfl rfl trivial ?_
  obtain ⟨i10, ei10, h⟩ := h
  rw [ei10]
  obtain ⟨c11, h⟩ := h
  refine E_blk (lv' := [some (vr (some (11, this))), some (vi v1), none, some (vi v3), some (vi v4), some (vi v5), some (vi v6), some (vi (mI M9 135 i10 (mI M9 11 this 53).toNatClampNeg)), some (vi ((8 : Int32) * (mI M9 11 this 53))), some (vi (0 : Int32))]) (st' := []) (M1 := M9) (pc' := 197) (tb_Model hγ) [.getfield 435, .aload_n 0, .getfield 615, .iaload, .istore 7, .bipush 8, .aload_n 0, .getfield 615, .imul, .istore 8, .iconst 0, .istore 9] (by decide +kernel) rfl rfl ⟨c11, trivial⟩ ?_
  obtain ⟨n52, h⟩ := h
  refine E_mask [true, true, false, true, true, true, true, true, true, true] rfl ?_
  exact lk_Model_fieldLine_L197 hγ this Q X n52 v1 v3 v4 v5 v6 (mI M9 135 i10 (mI M9 11 this 53).toNatClampNeg) ((8 : Int32) * (mI M9 11 this 53)) (0 : Int32) M9 h
set_option maxRecDepth 4096 in
theorem lk_Model_fieldLine_j134 {γ : Gm} (hγ : Gk γ) (this : Nat) (Q : Mem → Prop) (X : Mem → Prop) (v1 : Int32) (v3 : Int32) (v4 : Int32) (s0 : Int32) (M : Mem) (h : w_Model_fieldLine_j134 this Q X v1 v3 v4 s0 M) : E γ k_Model_fieldLine 5 134 [some (vr (some (11, this))), some (vi v1), none, some (vi v3), some (vi v4), none, none, none, none, none] [vi s0] M (Qx (14, 0) (Qv Q) X) := by
  unfold w_Model_fieldLine_j134 at h
  refine E_blk (lv' := [some (vr (some (11, this))), some (vi v1), none, some (vi v3), some (vi v4), some (vi s0), some (vi (0 : Int32)), none, none, none]) (st' := [vi s0]) (M1 := M) (pc' := 141) (tb_Model hγ) [.istore 5, .iconst 0, .istore 6, .iload 5] (by decide +kernel) rfl rfl trivial ?_
  refine E_if_eq (off := 25) (tgt := 166) (by decide +kernel) (by decide) (fun b8 => ?_) (fun b8 => ?_)
  · rw [if_pos b8] at h
    refine E_mask [true, true, false, true, true, true, true, false, false, false] rfl ?_
    exact lk_Model_fieldLine_j166 hγ this Q X v1 v3 v4 s0 (0 : Int32) M h
  · rw [if_neg b8] at h
    refine E_blk (lv' := [some (vr (some (11, this))), some (vi v1), none, some (vi v3), some (vi v4), some (vi s0), some (vi (0 : Int32)), none, none, none]) (st' := [vi (2147483647 : Int32), vi (-2147483648 : Int32), vr (some (11, this))]) (M1 := (sI M 11 this 43 ((mI M 11 this 43) + (1 : Int32)))) (pc' := 161) (tb_Model hγ) [.aload_n 0, .dup, .getfield 104, .iconst 1, .iadd, .putfield 104, .aload_n 0, .ldc_w 616, .ldc_w 617] (by decide +kernel) rfl rfl trivial ?_
    refine E_callX (κ' := k_Model_numberIn) (As := [vi (-2147483648 : Int32), vi (2147483647 : Int32)]) (st := []) mv_Model_numberIn (Or.inl (tbk_mem (j := 15) (k := 60) rfl)) rfl (by decide +kernel) (Nat.le_of_ble_eq_true rfl) (Nat.le_of_ble_eq_true rfl) rfl (by decide) rfl (lk_Model_numberIn hγ this (-2147483648 : Int32) (2147483647 : Int32) _ _ (sI M 11 this 43 ((mI M 11 this 43) + (1 : Int32))) h) (fun _ _ => Qi_r) (fun _ h => h) (fun v M53 hp => Qi_k (R := fun st => E γ k_Model_fieldLine 5 164 [some (vr (some (11, this))), some (vi v1), none, some (vi v3), some (vi v4), some (vi s0), some (vi (0 : Int32)), none, none, none] st M53 (Qx (14, 0) (Qv Q) X)) hp (fun r54 h => ?_))
    refine E_blk (lv' := [some (vr (some (11, this))), some (vi v1), none, some (vi v3), some (vi v4), some (vi s0), some (vi r54), none, none, none]) (st' := []) (M1 := M53) (pc' := 166) (tb_Model hγ) [.istore 6] (by decide +kernel) rfl rfl trivial ?_
    refine E_mask [true, true, false, true, true, true, true, false, false, false] rfl ?_
    exact lk_Model_fieldLine_j166 hγ this Q X v1 v3 v4 s0 r54 M53 h
set_option maxRecDepth 4096 in
theorem lk_Model_fieldLine_j97 {γ : Gm} (hγ : Gk γ) (this : Nat) (Q : Mem → Prop) (X : Mem → Prop) (k4 : Int32 → Int32 → Mem → Prop) (hk4 : ∀ (v1 : Int32) (v2 : Int32) (M : Mem), k4 v1 v2 M → E γ k_Model_fieldLine 5 4 [some (vr (some (11, this))), some (vi v1), some (vi v2), none, none, none, none, none, none, none] [] M (Qx (14, 0) (Qv Q) X)) (v1 : Int32) (v2 : Int32) (s0 : Int32) (s1 : Int32) (M : Mem) (h : w_Model_fieldLine_j97 this Q X k4 v1 v2 s0 s1 M) : E γ k_Model_fieldLine 5 97 [some (vr (some (11, this))), some (vi v1), some (vi v2), none, none, none, none, none, none, none] [vi s0, vi s1, vr (some (11, this))] M (Qx (14, 0) (Qv Q) X) := by
  unfold w_Model_fieldLine_j97 at h
  refine E_blk (lv' := [some (vr (some (11, this))), some (vi v1), some (vi v2), none, none, none, none, none, none, none]) (st' := []) (M1 := (sI M 11 this 43 (s1 + s0))) (pc' := 101) (tb_Model hγ) [.iadd, .putfield 104] (by decide +kernel) rfl rfl trivial ?_
  refine E_goto (off := -97) (tgt := 4) (by decide +kernel) (by decide) ?_
  refine E_mask [true, true, true, false, false, false, false, false, false, false] rfl ?_
  exact hk4 v1 v2 (sI M 11 this 43 (s1 + s0)) h
set_option maxRecDepth 4096 in
theorem lk_Model_fieldLine_j81 {γ : Gm} (hγ : Gk γ) (this : Nat) (Q : Mem → Prop) (X : Mem → Prop) (k4 : Int32 → Int32 → Mem → Prop) (hk4 : ∀ (v1 : Int32) (v2 : Int32) (M : Mem), k4 v1 v2 M → E γ k_Model_fieldLine 5 4 [some (vr (some (11, this))), some (vi v1), some (vi v2), none, none, none, none, none, none, none] [] M (Qx (14, 0) (Qv Q) X)) (v2 : Int32) (s0 : Int32) (s1 : Int32) (M : Mem) (h : w_Model_fieldLine_j81 this Q X k4 v2 s0 s1 M) : E γ k_Model_fieldLine 5 81 [some (vr (some (11, this))), none, some (vi v2), none, none, none, none, none, none, none] [vi s0, vi s1] M (Qx (14, 0) (Qv Q) X) := by
  unfold w_Model_fieldLine_j81 at h
  refine E_blk (lv' := [some (vr (some (11, this))), some (vi (s1 ||| s0)), some (vi v2), none, none, none, none, none, none, none]) (st' := [vi v2, vi (mI M 11 this 43), vr (some (11, this))]) (M1 := M) (pc' := 89) (tb_Model hγ) [.ior, .istore_n 1, .aload_n 0, .dup, .getfield 104, .iload_n 2] (by decide +kernel) rfl rfl trivial ?_
  refine E_if_eq (off := 7) (tgt := 96) (by decide +kernel) (by decide) (fun b66 => ?_) (fun b66 => ?_)
  · rw [if_pos b66] at h
    refine E_blk (lv' := [some (vr (some (11, this))), some (vi (s1 ||| s0)), some (vi v2), none, none, none, none, none, none, none]) (st' := [vi (0 : Int32), vi (mI M 11 this 43), vr (some (11, this))]) (M1 := M) (pc' := 97) (tb_Model hγ) [.iconst 0] (by decide +kernel) rfl rfl trivial ?_
    refine E_mask [true, true, true, false, false, false, false, false, false, false] rfl ?_
    exact lk_Model_fieldLine_j97 hγ this Q X k4 hk4 (s1 ||| s0) v2 (0 : Int32) (mI M 11 this 43) M h
  · rw [if_neg b66] at h
    refine E_blk (lv' := [some (vr (some (11, this))), some (vi (s1 ||| s0)), some (vi v2), none, none, none, none, none, none, none]) (st' := [vi (1 : Int32), vi (mI M 11 this 43), vr (some (11, this))]) (M1 := M) (pc' := 93) (tb_Model hγ) [.iconst 1] (by decide +kernel) rfl rfl trivial ?_
    refine E_goto (off := 4) (tgt := 97) (by decide +kernel) (by decide) ?_
    refine E_mask [true, true, true, false, false, false, false, false, false, false] rfl ?_
    exact lk_Model_fieldLine_j97 hγ this Q X k4 hk4 (s1 ||| s0) v2 (1 : Int32) (mI M 11 this 43) M h
set_option maxRecDepth 4096 in
theorem lk_Model_fieldLine_j70 {γ : Gm} (hγ : Gk γ) (this : Nat) (Q : Mem → Prop) (X : Mem → Prop) (k4 : Int32 → Int32 → Mem → Prop) (hk4 : ∀ (v1 : Int32) (v2 : Int32) (M : Mem), k4 v1 v2 M → E γ k_Model_fieldLine 5 4 [some (vr (some (11, this))), some (vi v1), some (vi v2), none, none, none, none, none, none, none] [] M (Qx (14, 0) (Qv Q) X)) (v1 : Int32) (v3 : Int32) (s0 : Int32) (M : Mem) (h : w_Model_fieldLine_j70 this Q X k4 v1 v3 s0 M) : E γ k_Model_fieldLine 5 70 [some (vr (some (11, this))), some (vi v1), none, some (vi v3), none, none, none, none, none, none] [vi s0] M (Qx (14, 0) (Qv Q) X) := by
  unfold w_Model_fieldLine_j70 at h
  refine E_blk (lv' := [some (vr (some (11, this))), some (vi v1), some (vi s0), some (vi v3), none, none, none, none, none, none]) (st' := [vi s0, vi v1]) (M1 := M) (pc' := 73) (tb_Model hγ) [.istore_n 2, .iload_n 1, .iload_n 2] (by decide +kernel) rfl rfl trivial ?_
  refine E_if_eq (off := 7) (tgt := 80) (by decide +kernel) (by decide) (fun b65 => ?_) (fun b65 => ?_)
  · rw [if_pos b65] at h
    refine E_blk (lv' := [some (vr (some (11, this))), some (vi v1), some (vi s0), some (vi v3), none, none, none, none, none, none]) (st' := [vi (0 : Int32), vi v1]) (M1 := M) (pc' := 81) (tb_Model hγ) [.iconst 0] (by decide +kernel) rfl rfl trivial ?_
    refine E_mask [true, false, true, false, false, false, false, false, false, false] rfl ?_
    exact lk_Model_fieldLine_j81 hγ this Q X k4 hk4 s0 (0 : Int32) v1 M h
  · rw [if_neg b65] at h
    refine E_blk (lv' := [some (vr (some (11, this))), some (vi v1), some (vi s0), some (vi v3), none, none, none, none, none, none]) (st' := [vi v3, vi v1]) (M1 := M) (pc' := 77) (tb_Model hγ) [.iload_n 3] (by decide +kernel) rfl rfl trivial ?_
    refine E_goto (off := 4) (tgt := 81) (by decide +kernel) (by decide) ?_
    refine E_mask [true, false, true, false, false, false, false, false, false, false] rfl ?_
    exact lk_Model_fieldLine_j81 hγ this Q X k4 hk4 s0 v3 v1 M h
set_option maxRecDepth 4096 in
theorem lk_Model_fieldLine_j69 {γ : Gm} (hγ : Gk γ) (this : Nat) (Q : Mem → Prop) (X : Mem → Prop) (k4 : Int32 → Int32 → Mem → Prop) (hk4 : ∀ (v1 : Int32) (v2 : Int32) (M : Mem), k4 v1 v2 M → E γ k_Model_fieldLine 5 4 [some (vr (some (11, this))), some (vi v1), some (vi v2), none, none, none, none, none, none, none] [] M (Qx (14, 0) (Qv Q) X)) (v1 : Int32) (v3 : Int32) (M : Mem) (h : w_Model_fieldLine_j69 this Q X k4 v1 v3 M) : E γ k_Model_fieldLine 5 69 [some (vr (some (11, this))), some (vi v1), none, some (vi v3), none, none, none, none, none, none] [] M (Qx (14, 0) (Qv Q) X) := by
  unfold w_Model_fieldLine_j69 at h
  refine E_blk (lv' := [some (vr (some (11, this))), some (vi v1), none, some (vi v3), none, none, none, none, none, none]) (st' := [vi (0 : Int32)]) (M1 := M) (pc' := 70) (tb_Model hγ) [.iconst 0] (by decide +kernel) rfl rfl trivial ?_
  refine E_mask [true, true, false, true, false, false, false, false, false, false] rfl ?_
  exact lk_Model_fieldLine_j70 hγ this Q X k4 hk4 v1 v3 (0 : Int32) M h
set_option maxRecDepth 4096 in
theorem lk_Model_fieldLine_j54 {γ : Gm} (hγ : Gk γ) (this : Nat) (Q : Mem → Prop) (X : Mem → Prop) (k4 : Int32 → Int32 → Mem → Prop) (hk4 : ∀ (v1 : Int32) (v2 : Int32) (M : Mem), k4 v1 v2 M → E γ k_Model_fieldLine 5 4 [some (vr (some (11, this))), some (vi v1), some (vi v2), none, none, none, none, none, none, none] [] M (Qx (14, 0) (Qv Q) X)) (v1 : Int32) (s0 : Int32) (M : Mem) (h : w_Model_fieldLine_j54 this Q X k4 v1 s0 M) : E γ k_Model_fieldLine 5 54 [some (vr (some (11, this))), some (vi v1), none, none, none, none, none, none, none, none] [vi s0] M (Qx (14, 0) (Qv Q) X) := by
  unfold w_Model_fieldLine_j54 at h
  refine E_blk (lv' := [some (vr (some (11, this))), some (vi v1), none, some (vi s0), none, none, none, none, none, none]) (st' := [vi s0]) (M1 := M) (pc' := 56) (tb_Model hγ) [.istore_n 3, .iload_n 3] (by decide +kernel) rfl rfl trivial ?_
  refine E_if_eq (off := 13) (tgt := 69) (by decide +kernel) (by decide) (fun b64 => ?_) (fun b64 => ?_)
  · rw [if_pos b64] at h
    refine E_mask [true, true, false, true, false, false, false, false, false, false] rfl ?_
    exact lk_Model_fieldLine_j69 hγ this Q X k4 hk4 v1 s0 M h
  · rw [if_neg b64] at h
    refine E_blk (lv' := [some (vr (some (11, this))), some (vi v1), none, some (vi s0), none, none, none, none, none, none]) (st' := [vi (v1 &&& s0)]) (M1 := M) (pc' := 62) (tb_Model hγ) [.iload_n 1, .iload_n 3, .iand] (by decide +kernel) rfl rfl trivial ?_
    refine E_if_ne (off := 7) (tgt := 69) (by decide +kernel) (by decide) (fun b67 => ?_) (fun b67 => ?_)
    · rw [if_pos b67] at h
      refine E_blk (lv' := [some (vr (some (11, this))), some (vi v1), none, some (vi s0), none, none, none, none, none, none]) (st' := [vi (1 : Int32)]) (M1 := M) (pc' := 66) (tb_Model hγ) [.iconst 1] (by decide +kernel) rfl rfl trivial ?_
      refine E_goto (off := 4) (tgt := 70) (by decide +kernel) (by decide) ?_
      refine E_mask [true, true, false, true, false, false, false, false, false, false] rfl ?_
      exact lk_Model_fieldLine_j70 hγ this Q X k4 hk4 v1 s0 (1 : Int32) M h
    · rw [if_neg b67] at h
      refine E_mask [true, true, false, true, false, false, false, false, false, false] rfl ?_
      exact lk_Model_fieldLine_j69 hγ this Q X k4 hk4 v1 s0 M h
set_option maxRecDepth 4096 in
theorem lk_Model_fieldLine_L4 {γ : Gm} (hγ : Gk γ) (this : Nat) (Q : Mem → Prop) (X : Mem → Prop) : ∀ (n : Nat) (v1 : Int32) (v2 : Int32) (M : Mem), w_Model_fieldLine_L4 this Q X n v1 v2 M → E γ k_Model_fieldLine 5 4 [some (vr (some (11, this))), some (vi v1), some (vi v2), none, none, none, none, none, none, none] [] M (Qx (14, 0) (Qv Q) X) := by
  intro n
  induction n with
  | zero => intro v1 v2 M h; exact h.elim
  | succ n ih =>
    intro v1 v2 M h
    unfold w_Model_fieldLine_L4 at h
    refine E_blk (lv' := [some (vr (some (11, this))), some (vi v1), some (vi v2), none, none, none, none, none, none, none]) (st' := [vi v2]) (M1 := M) (pc' := 5) (tb_Model hγ) [.iload_n 2] (by decide +kernel) rfl rfl trivial ?_
    refine E_if_eq (off := 99) (tgt := 104) (by decide +kernel) (by decide) (fun b1 => ?_) (fun b1 => ?_)
    · rw [if_pos b1] at h
      refine E_blk (lv' := [some (vr (some (11, this))), some (vi v1), some (vi v2), none, none, none, none, none, none, none]) (st' := [vr (some (11, this))]) (M1 := M) (pc' := 105) (tb_Model hγ) [.aload_n 0] (by decide +kernel) rfl rfl trivial ?_
      refine E_callX (κ' := k_Model_plainName) (As := []) (st := []) mv_Model_plainName (Or.inl (tbk_mem (j := 15) (k := 31) rfl)) rfl (by decide +kernel) (Nat.le_of_ble_eq_true rfl) (Nat.le_of_ble_eq_true rfl) rfl (by decide) rfl (lk_Model_plainName hγ this _ _ M h) (fun _ _ => Qi_r) (fun _ h => h) (fun v M2 hp => Qi_k (R := fun st => E γ k_Model_fieldLine 5 108 [some (vr (some (11, this))), some (vi v1), some (vi v2), none, none, none, none, none, none, none] st M2 (Qx (14, 0) (Qv Q) X)) hp (fun r3 h => ?_))
      refine E_blk (lv' := [some (vr (some (11, this))), some (vi v1), some (vi v2), some (vi r3), none, none, none, none, none, none]) (st' := [vr (some (11, this))]) (M1 := M2) (pc' := 110) (tb_Model hγ) [.istore_n 3, .aload_n 0] (by decide +kernel) rfl rfl trivial ?_
      refine E_callX (κ' := k_Model_type) (As := []) (st := []) mv_Model_type (Or.inl (tbk_mem (j := 15) (k := 55) rfl)) rfl (by decide +kernel) (Nat.le_of_ble_eq_true rfl) (Nat.le_of_ble_eq_true rfl) rfl (by decide) rfl (lk_Model_type hγ this _ _ M2 h) (fun _ _ => Qi_r) (fun _ h => h) (fun v M4 hp => Qi_k (R := fun st => E γ k_Model_fieldLine 5 113 [some (vr (some (11, this))), some (vi v1), some (vi v2), some (vi r3), none, none, none, none, none, none] st M4 (Qx (14, 0) (Qv Q) X)) hp (fun r5 h => ?_))
      obtain ⟨c6, h⟩ := h
      refine E_blk (lv' := [some (vr (some (11, this))), some (vi v1), some (vi v2), some (vi r3), some (vi r5), none, none, none, none, none]) (st' := [vi (61 : Int32), vi (mI M4 411 this (mI M4 11 this 43).toNatClampNeg)]) (M1 := M4) (pc' := 126) (tb_Model hγ) [.istore 4, .aload_n 0, .getfield 92, .aload_n 0, .getfield 104, .baload, .bipush 61] (by decide +kernel) rfl rfl ⟨c6, trivial⟩ ?_
      refine E_icmp_ne (off := 7) (tgt := 133) (by decide +kernel) (by decide) (fun b7 => ?_) (fun b7 => ?_)
      · rw [if_pos b7] at h
        refine E_blk (lv' := [some (vr (some (11, this))), some (vi v1), some (vi v2), some (vi r3), some (vi r5), none, none, none, none, none]) (st' := [vi (1 : Int32)]) (M1 := M4) (pc' := 130) (tb_Model hγ) [.iconst 1] (by decide +kernel) rfl rfl trivial ?_
        refine E_goto (off := 4) (tgt := 134) (by decide +kernel) (by decide) ?_
        refine E_mask [true, true, false, true, true, false, false, false, false, false] rfl ?_
        exact lk_Model_fieldLine_j134 hγ this Q X v1 r3 r5 (1 : Int32) M4 h
      · rw [if_neg b7] at h
        refine E_blk (lv' := [some (vr (some (11, this))), some (vi v1), some (vi v2), some (vi r3), some (vi r5), none, none, none, none, none]) (st' := [vi (0 : Int32)]) (M1 := M4) (pc' := 134) (tb_Model hγ) [.iconst 0] (by decide +kernel) rfl rfl trivial ?_
        refine E_mask [true, true, false, true, true, false, false, false, false, false] rfl ?_
        exact lk_Model_fieldLine_j134 hγ this Q X v1 r3 r5 (0 : Int32) M4 h
    · rw [if_neg b1] at h
      refine E_blk (lv' := [some (vr (some (11, this))), some (vi v1), some (vi v2), none, none, none, none, none, none, none]) (st' := [vi (mI M 11 this 29), vr (some (11, this))]) (M1 := M) (pc' := 13) (tb_Model hγ) [.aload_n 0, .aload_n 0, .getfield 251] (by decide +kernel) rfl rfl trivial ?_
      refine E_callV (κ' := k_Model_isWord) (As := [vi (mI M 11 this 29)]) (st := []) mv_Model_isWord (Or.inl (tbk_mem (j := 14) (k := 230) rfl)) rfl (by decide +kernel) (Nat.le_of_ble_eq_true rfl) (Nat.le_of_ble_eq_true rfl) rfl (by decide) (lk_Model_isWord hγ this (mI M 11 this 29) _ M h) (fun _ _ => Qi_r) (fun v M55 hp => Qi_k (R := fun st => E γ k_Model_fieldLine 5 16 [some (vr (some (11, this))), some (vi v1), some (vi v2), none, none, none, none, none, none, none] st M55 (Qx (14, 0) (Qv Q) X)) hp (fun r56 h => ?_))
      refine E_if_eq (off := 7) (tgt := 23) (by decide +kernel) (by decide) (fun b57 => ?_) (fun b57 => ?_)
      · rw [if_pos b57] at h
        refine E_blk (lv' := [some (vr (some (11, this))), some (vi v1), some (vi v2), none, none, none, none, none, none, none]) (st' := [vi (mI M55 11 this 10), vr (some (11, this))]) (M1 := M55) (pc' := 28) (tb_Model hγ) [.aload_n 0, .aload_n 0, .getfield 163] (by decide +kernel) rfl rfl trivial ?_
        refine E_callV (κ' := k_Model_isWord) (As := [vi (mI M55 11 this 10)]) (st := []) mv_Model_isWord (Or.inl (tbk_mem (j := 14) (k := 230) rfl)) rfl (by decide +kernel) (Nat.le_of_ble_eq_true rfl) (Nat.le_of_ble_eq_true rfl) rfl (by decide) (lk_Model_isWord hγ this (mI M55 11 this 10) _ M55 h) (fun _ _ => Qi_r) (fun v M58 hp => Qi_k (R := fun st => E γ k_Model_fieldLine 5 31 [some (vr (some (11, this))), some (vi v1), some (vi v2), none, none, none, none, none, none, none] st M58 (Qx (14, 0) (Qv Q) X)) hp (fun r59 h => ?_))
        refine E_if_eq (off := 7) (tgt := 38) (by decide +kernel) (by decide) (fun b60 => ?_) (fun b60 => ?_)
        · rw [if_pos b60] at h
          refine E_blk (lv' := [some (vr (some (11, this))), some (vi v1), some (vi v2), none, none, none, none, none, none, none]) (st' := [vi (mI M58 11 this 15), vr (some (11, this))]) (M1 := M58) (pc' := 43) (tb_Model hγ) [.aload_n 0, .aload_n 0, .getfield 188] (by decide +kernel) rfl rfl trivial ?_
          refine E_callV (κ' := k_Model_isWord) (As := [vi (mI M58 11 this 15)]) (st := []) mv_Model_isWord (Or.inl (tbk_mem (j := 14) (k := 230) rfl)) rfl (by decide +kernel) (Nat.le_of_ble_eq_true rfl) (Nat.le_of_ble_eq_true rfl) rfl (by decide) (lk_Model_isWord hγ this (mI M58 11 this 15) _ M58 h) (fun _ _ => Qi_r) (fun v M61 hp => Qi_k (R := fun st => E γ k_Model_fieldLine 5 46 [some (vr (some (11, this))), some (vi v1), some (vi v2), none, none, none, none, none, none, none] st M61 (Qx (14, 0) (Qv Q) X)) hp (fun r62 h => ?_))
          refine E_if_eq (off := 7) (tgt := 53) (by decide +kernel) (by decide) (fun b63 => ?_) (fun b63 => ?_)
          · rw [if_pos b63] at h
            refine E_blk (lv' := [some (vr (some (11, this))), some (vi v1), some (vi v2), none, none, none, none, none, none, none]) (st' := [vi (0 : Int32)]) (M1 := M61) (pc' := 54) (tb_Model hγ) [.iconst 0] (by decide +kernel) rfl rfl trivial ?_
            refine E_mask [true, true, false, false, false, false, false, false, false, false] rfl ?_
            exact lk_Model_fieldLine_j54 hγ this Q X (w_Model_fieldLine_L4 this Q X n) ih v1 (0 : Int32) M61 h
          · rw [if_neg b63] at h
            refine E_blk (lv' := [some (vr (some (11, this))), some (vi v1), some (vi v2), none, none, none, none, none, none, none]) (st' := [vi (4 : Int32)]) (M1 := M61) (pc' := 50) (tb_Model hγ) [.iconst 4] (by decide +kernel) rfl rfl trivial ?_
            refine E_goto (off := 4) (tgt := 54) (by decide +kernel) (by decide) ?_
            refine E_mask [true, true, false, false, false, false, false, false, false, false] rfl ?_
            exact lk_Model_fieldLine_j54 hγ this Q X (w_Model_fieldLine_L4 this Q X n) ih v1 (4 : Int32) M61 h
        · rw [if_neg b60] at h
          refine E_blk (lv' := [some (vr (some (11, this))), some (vi v1), some (vi v2), none, none, none, none, none, none, none]) (st' := [vi (2 : Int32)]) (M1 := M58) (pc' := 35) (tb_Model hγ) [.iconst 2] (by decide +kernel) rfl rfl trivial ?_
          refine E_goto (off := 19) (tgt := 54) (by decide +kernel) (by decide) ?_
          refine E_mask [true, true, false, false, false, false, false, false, false, false] rfl ?_
          exact lk_Model_fieldLine_j54 hγ this Q X (w_Model_fieldLine_L4 this Q X n) ih v1 (2 : Int32) M58 h
      · rw [if_neg b57] at h
        refine E_blk (lv' := [some (vr (some (11, this))), some (vi v1), some (vi v2), none, none, none, none, none, none, none]) (st' := [vi (1 : Int32)]) (M1 := M55) (pc' := 20) (tb_Model hγ) [.iconst 1] (by decide +kernel) rfl rfl trivial ?_
        refine E_goto (off := 34) (tgt := 54) (by decide +kernel) (by decide) ?_
        refine E_mask [true, true, false, false, false, false, false, false, false, false] rfl ?_
        exact lk_Model_fieldLine_j54 hγ this Q X (w_Model_fieldLine_L4 this Q X n) ih v1 (1 : Int32) M55 h
set_option maxRecDepth 4096 in
theorem lk_Model_fieldLine {γ : Gm} (hγ : Gk γ) (this : Nat) (Q : Mem → Prop) (X : Mem → Prop) (M : Mem) (h : w_Model_fieldLine this Q X M) : E γ k_Model_fieldLine 5 0 [some (vr (some (11, this))), none, none, none, none, none, none, none, none, none] [] M (Qx (14, 0) (Qv Q) X) := by
  unfold w_Model_fieldLine at h
  refine E_blk (lv' := [some (vr (some (11, this))), some (vi (0 : Int32)), some (vi (1 : Int32)), none, none, none, none, none, none, none]) (st' := []) (M1 := M) (pc' := 4) (tb_Model hγ) [.iconst 0, .istore_n 1, .iconst 1, .istore_n 2] (by decide +kernel) rfl rfl trivial ?_
  obtain ⟨n68, h⟩ := h
  refine E_mask [true, true, true, false, false, false, false, false, false, false] rfl ?_
  exact lk_Model_fieldLine_L4 hγ this Q X n68 (0 : Int32) (1 : Int32) M h
def w_Model_methodLine_j691 (this : Nat) (Q : Mem → Prop) (X : Mem → Prop) (s0 : Int32) (M : Mem) : Prop :=
  Q (sI M 11 this 52 s0)
def w_Model_methodLine_j516 (this : Nat) (Q : Mem → Prop) (X : Mem → Prop) (v1 : Int32) (v3 : Int32) (v4 : Int32) (v5 : Int32) (v6 : Int32) (v8 : Int32) (s0 : Int32) (s1 : Int32) (M : Mem) : Prop :=
  w_Model_asks this s1 s0 (fun M31 => if (99 : Int32) ≤ (mI M31 11 this 51) then (∃ i33, (mR (sI M31 11 this 54 (v6 + v5)) 11 this 45) = some (12, i33) ∧ vp_in (mI (sI M31 11 this 54 (v6 + v5)) 11 this 54) (mL (sI M31 11 this 54 (v6 + v5)) 144 i33) ∧ ∃ M35, M35 = (sI (sI M31 11 this 54 (v6 + v5)) 144 i33 (mI (sI M31 11 this 54 (v6 + v5)) 11 this 54).toNatClampNeg v3) ∧ ∃ i36, (mR M35 11 this 45) = some (12, i36) ∧ vp_in (mI M35 11 this 54) (mL M35 145 i36) ∧ ∃ i38, (mR (sI M35 145 i36 (mI M35 11 this 54).toNatClampNeg v4) 11 this 45) = some (12, i38) ∧ vp_in (mI (sI M35 145 i36 (mI M35 11 this 54).toNatClampNeg v4) 11 this 54) (mL (sI M35 145 i36 (mI M35 11 this 54).toNatClampNeg v4) 146 i38) ∧ ∃ M40, M40 = (sI (sI M35 145 i36 (mI M35 11 this 54).toNatClampNeg v4) 146 i38 (mI (sI M35 145 i36 (mI M35 11 this 54).toNatClampNeg v4) 11 this 54).toNatClampNeg v1) ∧ ∃ i41, (mR M40 11 this 45) = some (12, i41) ∧ vp_in (mI M40 11 this 54) (mL M40 147 i41) ∧ ∃ i43, (mR (sI M40 147 i41 (mI M40 11 this 54).toNatClampNeg (0 : Int32)) 11 this 45) = some (12, i43) ∧ vp_in (mI (sI M40 147 i41 (mI M40 11 this 54).toNatClampNeg (0 : Int32)) 11 this 54) (mL (sI M40 147 i41 (mI M40 11 this 54).toNatClampNeg (0 : Int32)) 148 i43) ∧ ∃ M45, M45 = (sI (sI M40 147 i41 (mI M40 11 this 54).toNatClampNeg (0 : Int32)) 148 i43 (mI (sI M40 147 i41 (mI M40 11 this 54).toNatClampNeg (0 : Int32)) 11 this 54).toNatClampNeg (0 : Int32)) ∧ ∃ i46, (mR M45 11 this 45) = some (12, i46) ∧ ∃ i47, (mR M45 11 this 45) = some (12, i47) ∧ vp_in (mI M45 11 this 54) (mL M45 149 i46) ∧ ∃ i49, (mR (sI M45 149 i46 (mI M45 11 this 54).toNatClampNeg (mI M45 12 i47 35)) 11 this 45) = some (12, i49) ∧ vp_in (mI (sI M45 149 i46 (mI M45 11 this 54).toNatClampNeg (mI M45 12 i47 35)) 11 this 54) (mL (sI M45 149 i46 (mI M45 11 this 54).toNatClampNeg (mI M45 12 i47 35)) 150 i49) ∧ ∃ M51, M51 = (sI (sI M45 149 i46 (mI M45 11 this 54).toNatClampNeg (mI M45 12 i47 35)) 150 i49 (mI (sI M45 149 i46 (mI M45 11 this 54).toNatClampNeg (mI M45 12 i47 35)) 11 this 54).toNatClampNeg (0 : Int32)) ∧ ∃ i52, (mR M51 11 this 45) = some (12, i52) ∧ vp_in (mI M51 11 this 54) (mL M51 151 i52) ∧ ∃ i54, (mR (sI M51 151 i52 (mI M51 11 this 54).toNatClampNeg (0 : Int32)) 11 this 45) = some (12, i54) ∧ vp_in (mI (sI M51 151 i52 (mI M51 11 this 54).toNatClampNeg (0 : Int32)) 11 this 53) (mL (sI M51 151 i52 (mI M51 11 this 54).toNatClampNeg (0 : Int32)) 136 i54) ∧ vp_in (mI (sI M51 151 i52 (mI M51 11 this 54).toNatClampNeg (0 : Int32)) 11 this 53) (mL (sI M51 151 i52 (mI M51 11 this 54).toNatClampNeg (0 : Int32)) 136 i54) ∧ ∃ M57, M57 = (sI (sI M51 151 i52 (mI M51 11 this 54).toNatClampNeg (0 : Int32)) 136 i54 (mI (sI M51 151 i52 (mI M51 11 this 54).toNatClampNeg (0 : Int32)) 11 this 53).toNatClampNeg ((mI (sI M51 151 i52 (mI M51 11 this 54).toNatClampNeg (0 : Int32)) 136 i54 (mI (sI M51 151 i52 (mI M51 11 this 54).toNatClampNeg (0 : Int32)) 11 this 53).toNatClampNeg) + (1 : Int32))) ∧ ∃ M58, M58 = (sI (sI (sI M57 11 this 60 (0 : Int32)) 11 this 64 (0 : Int32)) 11 this 65 (0 : Int32)) ∧ if v8 = 0 then (w_Model_methodLine_j691 this Q X (2 : Int32) M58) else (w_Model_methodLine_j691 this Q X (1 : Int32) M58)) else (Q M31)) M
def w_Model_methodLine_j511 (this : Nat) (Q : Mem → Prop) (X : Mem → Prop) (v1 : Int32) (v3 : Int32) (v4 : Int32) (v5 : Int32) (v6 : Int32) (v8 : Int32) (s0 : Int32) (M : Mem) : Prop :=
  w_Model_methodLine_j516 this Q X v1 v3 v4 v5 v6 v8 (1 : Int32) s0 M
def w_Model_methodLine_j486 (this : Nat) (Q : Mem → Prop) (X : Mem → Prop) (v1 : Int32) (v3 : Int32) (v4 : Int32) (v5 : Int32) (v6 : Int32) (v8 : Int32) (s0 : Int32) (s1 : Int32) (M : Mem) : Prop :=
  w_Model_asks this s1 s0 (fun M29 => if v5 = (12 : Int32) then (w_Model_methodLine_j511 this Q X v1 v3 v4 v5 v6 v8 (12 : Int32) M29) else (∃ i60, (mR M29 11 this 31) = some (300, i60) ∧ vp_in v4 (mL M29 300 i60) ∧ if (mI M29 300 i60 v4.toNatClampNeg) ≤ (6 : Int32) then (w_Model_methodLine_j516 this Q X v1 v3 v4 v5 v6 v8 (0 : Int32) (12 : Int32) M29) else (w_Model_methodLine_j511 this Q X v1 v3 v4 v5 v6 v8 (12 : Int32) M29))) M
def w_Model_methodLine_j481 (this : Nat) (Q : Mem → Prop) (X : Mem → Prop) (v1 : Int32) (v3 : Int32) (v4 : Int32) (v5 : Int32) (v6 : Int32) (v8 : Int32) (s0 : Int32) (M : Mem) : Prop :=
  w_Model_methodLine_j486 this Q X v1 v3 v4 v5 v6 v8 (1 : Int32) s0 M
def w_Model_methodLine_j485 (this : Nat) (Q : Mem → Prop) (X : Mem → Prop) (v1 : Int32) (v3 : Int32) (v4 : Int32) (v5 : Int32) (v6 : Int32) (v8 : Int32) (s0 : Int32) (M : Mem) : Prop :=
  w_Model_methodLine_j486 this Q X v1 v3 v4 v5 v6 v8 (0 : Int32) s0 M
def w_Model_methodLine_j445 (this : Nat) (Q : Mem → Prop) (X : Mem → Prop) (v1 : Int32) (v3 : Int32) (v4 : Int32) (v5 : Int32) (v6 : Int32) (v8 : Int32) (s0 : Int32) (s1 : Int32) (M : Mem) : Prop :=
  w_Model_asks this s1 s0 (fun M26 => if v3 = (mI M26 11 this 7) then (if (v1 &&& (1 : Int32)) = 0 then (w_Model_methodLine_j481 this Q X v1 v3 v4 v5 v6 v8 (7 : Int32) M26) else (if (v1 &&& (14 : Int32)) = 0 then (if v4 = (mI M26 11 this 38) then (w_Model_methodLine_j485 this Q X v1 v3 v4 v5 v6 v8 (7 : Int32) M26) else (w_Model_methodLine_j481 this Q X v1 v3 v4 v5 v6 v8 (7 : Int32) M26)) else (w_Model_methodLine_j481 this Q X v1 v3 v4 v5 v6 v8 (7 : Int32) M26))) else (w_Model_methodLine_j485 this Q X v1 v3 v4 v5 v6 v8 (7 : Int32) M26)) M
def w_Model_methodLine_j444 (this : Nat) (Q : Mem → Prop) (X : Mem → Prop) (v1 : Int32) (v3 : Int32) (v4 : Int32) (v5 : Int32) (v6 : Int32) (v8 : Int32) (s0 : Int32) (M : Mem) : Prop :=
  w_Model_methodLine_j445 this Q X v1 v3 v4 v5 v6 v8 (0 : Int32) s0 M
def w_Model_methodLine_j440 (this : Nat) (Q : Mem → Prop) (X : Mem → Prop) (v1 : Int32) (v3 : Int32) (v4 : Int32) (v5 : Int32) (v6 : Int32) (v8 : Int32) (s0 : Int32) (M : Mem) : Prop :=
  w_Model_methodLine_j445 this Q X v1 v3 v4 v5 v6 v8 (1 : Int32) s0 M
def w_Model_methodLine_j409 (this : Nat) (Q : Mem → Prop) (X : Mem → Prop) (v1 : Int32) (v3 : Int32) (v4 : Int32) (v5 : Int32) (v6 : Int32) (v8 : Int32) (s0 : Int32) (s1 : Int32) (M : Mem) : Prop :=
  w_Model_asks this s1 s0 (fun M20 => if v3 = (mI M20 11 this 6) then (if (v1 &&& (11 : Int32)) = 0 then (∃ i23, (mR M20 11 this 32) = some (300, i23) ∧ vp_in v4 (mL M20 300 i23) ∧ if (mI M20 300 i23 v4.toNatClampNeg) = 0 then (w_Model_methodLine_j444 this Q X v1 v3 v4 v5 v6 v8 (7 : Int32) M20) else (w_Model_methodLine_j440 this Q X v1 v3 v4 v5 v6 v8 (7 : Int32) M20)) else (w_Model_methodLine_j440 this Q X v1 v3 v4 v5 v6 v8 (7 : Int32) M20)) else (w_Model_methodLine_j444 this Q X v1 v3 v4 v5 v6 v8 (7 : Int32) M20)) M
def w_Model_methodLine_j408 (this : Nat) (Q : Mem → Prop) (X : Mem → Prop) (v1 : Int32) (v3 : Int32) (v4 : Int32) (v5 : Int32) (v6 : Int32) (v8 : Int32) (s0 : Int32) (M : Mem) : Prop :=
  w_Model_methodLine_j409 this Q X v1 v3 v4 v5 v6 v8 (0 : Int32) s0 M
def w_Model_methodLine_j367 (this : Nat) (Q : Mem → Prop) (X : Mem → Prop) (v1 : Int32) (v3 : Int32) (v4 : Int32) (v5 : Int32) (v6 : Int32) (v8 : Int32) (s0 : Int32) (s1 : Int32) (M : Mem) : Prop :=
  w_Model_asks this s1 s0 (fun M18 => if v8 = 0 then (w_Model_methodLine_j408 this Q X v1 v3 v4 v5 v6 v8 (6 : Int32) M18) else (∃ i65, (mR M18 11 this 45) = some (12, i65) ∧ vp_in (mI M18 11 this 53) (mL M18 132 i65) ∧ if ((mI M18 132 i65 (mI M18 11 this 53).toNatClampNeg) &&& (6 : Int32)) = 0 then (w_Model_isOff this (2 : Int32) (fun r69 M68 => if r69 = 0 then (w_Model_methodLine_j409 this Q X v1 v3 v4 v5 v6 v8 (1 : Int32) (6 : Int32) M68) else (w_Model_methodLine_j408 this Q X v1 v3 v4 v5 v6 v8 (6 : Int32) M68)) M18) else (w_Model_methodLine_j408 this Q X v1 v3 v4 v5 v6 v8 (6 : Int32) M18))) M
def w_Model_methodLine_j366 (this : Nat) (Q : Mem → Prop) (X : Mem → Prop) (v1 : Int32) (v3 : Int32) (v4 : Int32) (v5 : Int32) (v6 : Int32) (v8 : Int32) (s0 : Int32) (M : Mem) : Prop :=
  w_Model_methodLine_j367 this Q X v1 v3 v4 v5 v6 v8 (0 : Int32) s0 M
def w_Model_methodLine_j362 (this : Nat) (Q : Mem → Prop) (X : Mem → Prop) (v1 : Int32) (v3 : Int32) (v4 : Int32) (v5 : Int32) (v6 : Int32) (v8 : Int32) (s0 : Int32) (M : Mem) : Prop :=
  w_Model_methodLine_j367 this Q X v1 v3 v4 v5 v6 v8 (1 : Int32) s0 M
def w_Model_methodLine_j329 (this : Nat) (Q : Mem → Prop) (X : Mem → Prop) (v1 : Int32) (v3 : Int32) (v4 : Int32) (v5 : Int32) (v6 : Int32) (v7 : Int32) (v8 : Int32) (s0 : Int32) (s1 : Int32) (M : Mem) : Prop :=
  w_Model_asks this s1 s0 (fun M16 => if v7 = 0 then (w_Model_methodLine_j366 this Q X v1 v3 v4 v5 v6 v8 (5 : Int32) M16) else (w_Model_isOff this (1 : Int32) (fun r72 M71 => if r72 = 0 then (if (v1 &&& (6 : Int32)) = 0 then (if v3 = (mI M71 11 this 6) then (w_Model_methodLine_j362 this Q X v1 v3 v4 v5 v6 v8 (5 : Int32) M71) else (w_Model_methodLine_j366 this Q X v1 v3 v4 v5 v6 v8 (5 : Int32) M71)) else (w_Model_methodLine_j362 this Q X v1 v3 v4 v5 v6 v8 (5 : Int32) M71)) else (w_Model_methodLine_j366 this Q X v1 v3 v4 v5 v6 v8 (5 : Int32) M71)) M16)) M
def w_Model_methodLine_j328 (this : Nat) (Q : Mem → Prop) (X : Mem → Prop) (v1 : Int32) (v3 : Int32) (v4 : Int32) (v5 : Int32) (v6 : Int32) (v7 : Int32) (v8 : Int32) (s0 : Int32) (M : Mem) : Prop :=
  w_Model_methodLine_j329 this Q X v1 v3 v4 v5 v6 v7 v8 (0 : Int32) s0 M
def w_Model_methodLine_j301 (this : Nat) (Q : Mem → Prop) (X : Mem → Prop) (v1 : Int32) (v3 : Int32) (v4 : Int32) (v5 : Int32) (v6 : Int32) (v7 : Int32) (s0 : Int32) (M : Mem) : Prop :=
  if s0 = 0 then (w_Model_methodLine_j328 this Q X v1 v3 v4 v5 v6 v7 s0 (4 : Int32) M) else (if v1 = (8 : Int32) then (w_Model_methodLine_j328 this Q X v1 v3 v4 v5 v6 v7 s0 (4 : Int32) M) else (w_Model_isOff this (0 : Int32) (fun r78 M77 => if r78 = 0 then (w_Model_methodLine_j329 this Q X v1 v3 v4 v5 v6 v7 s0 (1 : Int32) (4 : Int32) M77) else (w_Model_methodLine_j328 this Q X v1 v3 v4 v5 v6 v7 s0 (4 : Int32) M77)) M))
def w_Model_methodLine_j287 (this : Nat) (Q : Mem → Prop) (X : Mem → Prop) (v1 : Int32) (v3 : Int32) (v4 : Int32) (v5 : Int32) (v6 : Int32) (s0 : Int32) (M : Mem) : Prop :=
  if (v1 &&& (8 : Int32)) = 0 then (w_Model_methodLine_j301 this Q X v1 v3 v4 v5 v6 s0 (0 : Int32) M) else (w_Model_methodLine_j301 this Q X v1 v3 v4 v5 v6 s0 (1 : Int32) M)
def w_Model_methodLine_j256 (this : Nat) (Q : Mem → Prop) (X : Mem → Prop) (k207 : Int32 → Int32 → Int32 → Int32 → Int32 → Int32 → Mem → Prop) (v1 : Int32) (v3 : Int32) (v4 : Int32) (v5 : Int32) (v6 : Int32) (v7 : Int32) (s0 : Int32) (s1 : Int32) (M : Mem) : Prop :=
  w_Model_asks this s1 s0 (fun M86 => k207 v1 v3 v4 v5 v6 (v7 + (1 : Int32)) M86) M
def w_Model_methodLine_j255 (this : Nat) (Q : Mem → Prop) (X : Mem → Prop) (k207 : Int32 → Int32 → Int32 → Int32 → Int32 → Int32 → Mem → Prop) (v1 : Int32) (v3 : Int32) (v4 : Int32) (v5 : Int32) (v6 : Int32) (v7 : Int32) (s0 : Int32) (M : Mem) : Prop :=
  w_Model_methodLine_j256 this Q X k207 v1 v3 v4 v5 v6 v7 (0 : Int32) s0 M
def w_Model_methodLine_L207 (this : Nat) (Q : Mem → Prop) (X : Mem → Prop) : Nat → Int32 → Int32 → Int32 → Int32 → Int32 → Int32 → Mem → Prop
  | 0, _, _, _, _, _, _, _ => False
  | n + 1, v1, v3, v4, v5, v6, v7, M => if v5 ≤ v7 then (∃ i11, (mR M 11 this 45) = some (12, i11) ∧ vp_in (mI M 11 this 53) (mL M 132 i11) ∧ if ((mI M 132 i11 (mI M 11 this 53).toNatClampNeg) &&& (4 : Int32)) = 0 then (w_Model_methodLine_j287 this Q X v1 v3 v4 v5 v6 (0 : Int32) M) else (w_Model_methodLine_j287 this Q X v1 v3 v4 v5 v6 (1 : Int32) M)) else (∃ i80, (mR M 11 this 45) = some (12, i80) ∧ vp_in (v6 + v7) (mL M 144 i80) ∧ if (mI M 144 i80 (v6 + v7).toNatClampNeg) = v3 then (∃ i83, (mR M 11 this 45) = some (12, i83) ∧ vp_in (v6 + v7) (mL M 145 i83) ∧ if (mI M 145 i83 (v6 + v7).toNatClampNeg) = v4 then (w_Model_methodLine_j256 this Q X (w_Model_methodLine_L207 this Q X n) v1 v3 v4 v5 v6 v7 (1 : Int32) (3 : Int32) M) else (w_Model_methodLine_j255 this Q X (w_Model_methodLine_L207 this Q X n) v1 v3 v4 v5 v6 v7 (3 : Int32) M)) else (w_Model_methodLine_j255 this Q X (w_Model_methodLine_L207 this Q X n) v1 v3 v4 v5 v6 v7 (3 : Int32) M))
def w_Model_methodLine_j150 (this : Nat) (Q : Mem → Prop) (X : Mem → Prop) (v1 : Int32) (M : Mem) : Prop :=
  vp_in (mI M 11 this 43) (mL M 107 this) ∧ w_Model_wholeSignature this (fun r6 M5 => w_Model_need this (0 : Int32) (fun M7 => ∃ i8, (mR M7 11 this 45) = some (12, i8) ∧ vp_in (mI M7 11 this 53) (mL M7 136 i8) ∧ ∃ n87 : Nat, w_Model_methodLine_L207 this Q X n87 v1 (mI M 107 this (mI M 11 this 43).toNatClampNeg) r6 (mI M7 136 i8 (mI M7 11 this 53).toNatClampNeg) ((12 : Int32) * (mI M7 11 this 53)) (0 : Int32) M7) X M5) X (sI M 11 this 43 ((mI M 11 this 43) + (1 : Int32)))
def w_Model_methodLine_j113 (this : Nat) (Q : Mem → Prop) (X : Mem → Prop) (k4 : Int32 → Int32 → Mem → Prop) (v1 : Int32) (v2 : Int32) (s0 : Int32) (s1 : Int32) (M : Mem) : Prop :=
  k4 v1 v2 (sI M 11 this 43 (s1 + s0))
def w_Model_methodLine_j97 (this : Nat) (Q : Mem → Prop) (X : Mem → Prop) (k4 : Int32 → Int32 → Mem → Prop) (v2 : Int32) (s0 : Int32) (s1 : Int32) (M : Mem) : Prop :=
  if v2 = 0 then (w_Model_methodLine_j113 this Q X k4 (s1 ||| s0) v2 (0 : Int32) (mI M 11 this 43) M) else (w_Model_methodLine_j113 this Q X k4 (s1 ||| s0) v2 (1 : Int32) (mI M 11 this 43) M)
def w_Model_methodLine_j86 (this : Nat) (Q : Mem → Prop) (X : Mem → Prop) (k4 : Int32 → Int32 → Mem → Prop) (v1 : Int32) (v3 : Int32) (s0 : Int32) (M : Mem) : Prop :=
  if s0 = 0 then (w_Model_methodLine_j97 this Q X k4 s0 (0 : Int32) v1 M) else (w_Model_methodLine_j97 this Q X k4 s0 v3 v1 M)
def w_Model_methodLine_j85 (this : Nat) (Q : Mem → Prop) (X : Mem → Prop) (k4 : Int32 → Int32 → Mem → Prop) (v1 : Int32) (v3 : Int32) (M : Mem) : Prop :=
  w_Model_methodLine_j86 this Q X k4 v1 v3 (0 : Int32) M
def w_Model_methodLine_j70 (this : Nat) (Q : Mem → Prop) (X : Mem → Prop) (k4 : Int32 → Int32 → Mem → Prop) (v1 : Int32) (s0 : Int32) (M : Mem) : Prop :=
  if s0 = 0 then (w_Model_methodLine_j85 this Q X k4 v1 s0 M) else (if (v1 &&& s0) = 0 then (w_Model_methodLine_j86 this Q X k4 v1 s0 (1 : Int32) M) else (w_Model_methodLine_j85 this Q X k4 v1 s0 M))
def w_Model_methodLine_L4 (this : Nat) (Q : Mem → Prop) (X : Mem → Prop) : Nat → Int32 → Int32 → Mem → Prop
  | 0, _, _, _ => False
  | n + 1, v1, v2, M => if v2 = 0 then (vp_in (mI M 11 this 43) (mL M 411 this) ∧ if (mI M 411 this (mI M 11 this 43).toNatClampNeg) = (2 : Int32) then (w_Model_methodLine_j150 this Q X v1 M) else (vp_in (mI M 11 this 43) (mL M 411 this) ∧ if (mI M 411 this (mI M 11 this 43).toNatClampNeg) = (3 : Int32) then (w_Model_methodLine_j150 this Q X v1 M) else (w_Model_wrong this (fun M90 => w_Model_methodLine_j150 this Q X v1 M90) X M))) else (w_Model_isWord this (mI M 11 this 29) (fun r92 M91 => if r92 = 0 then (w_Model_isWord this (mI M91 11 this 10) (fun r95 M94 => if r95 = 0 then (w_Model_isWord this (mI M94 11 this 15) (fun r98 M97 => if r98 = 0 then (w_Model_isWord this (mI M97 11 this 11) (fun r101 M100 => if r101 = 0 then (w_Model_methodLine_j70 this Q X (w_Model_methodLine_L4 this Q X n) v1 (0 : Int32) M100) else (w_Model_methodLine_j70 this Q X (w_Model_methodLine_L4 this Q X n) v1 (8 : Int32) M100)) M97) else (w_Model_methodLine_j70 this Q X (w_Model_methodLine_L4 this Q X n) v1 (4 : Int32) M97)) M94) else (w_Model_methodLine_j70 this Q X (w_Model_methodLine_L4 this Q X n) v1 (2 : Int32) M94)) M91) else (w_Model_methodLine_j70 this Q X (w_Model_methodLine_L4 this Q X n) v1 (1 : Int32) M91)) M)
def w_Model_methodLine (this : Nat) (Q : Mem → Prop) (X : Mem → Prop) (M : Mem) : Prop :=
  ∃ n107 : Nat, w_Model_methodLine_L4 this Q X n107 (0 : Int32) (1 : Int32) M
set_option maxRecDepth 4096 in
theorem lk_Model_methodLine_j691 {γ : Gm} (hγ : Gk γ) (this : Nat) (Q : Mem → Prop) (X : Mem → Prop) (s0 : Int32) (M : Mem) (h : w_Model_methodLine_j691 this Q X s0 M) : E γ k_Model_methodLine 7 691 [none, none, none, none, none, none, none, none, none] [vi s0, vr (some (11, this))] M (Qx (14, 0) (Qv Q) X) := by
  unfold w_Model_methodLine_j691 at h
  refine E_blk (lv' := [none, none, none, none, none, none, none, none, none]) (st' := []) (M1 := (sI M 11 this 52 s0)) (pc' := 694) (tb_Model hγ) [.putfield 566] (by decide +kernel) rfl rfl trivial ?_
  exact (E_vret rfl (by decide +kernel) h).nx
set_option maxRecDepth 4096 in
theorem lk_Model_methodLine_j516 {γ : Gm} (hγ : Gk γ) (this : Nat) (Q : Mem → Prop) (X : Mem → Prop) (v1 : Int32) (v3 : Int32) (v4 : Int32) (v5 : Int32) (v6 : Int32) (v8 : Int32) (s0 : Int32) (s1 : Int32) (M : Mem) (h : w_Model_methodLine_j516 this Q X v1 v3 v4 v5 v6 v8 s0 s1 M) : E γ k_Model_methodLine 7 516 [some (vr (some (11, this))), some (vi v1), none, some (vi v3), some (vi v4), some (vi v5), some (vi v6), none, some (vi v8)] [vi s0, vi s1, vr (some (11, this))] M (Qx (14, 0) (Qv Q) X) := by
  unfold w_Model_methodLine_j516 at h
  refine E_callV (κ' := k_Model_asks) (As := [vi s1, vi s0]) (st := []) mv_Model_asks (Or.inl (tbk_mem (j := 15) (k := 43) rfl)) rfl (by decide +kernel) (Nat.le_of_ble_eq_true rfl) (Nat.le_of_ble_eq_true rfl) rfl (by decide) (lk_Model_asks hγ this s1 s0 _ M h) (fun _ _ => Qv_r) (fun v M31 hp => Qv_k (R := fun st => E γ k_Model_methodLine 7 519 [some (vr (some (11, this))), some (vi v1), none, some (vi v3), some (vi v4), some (vi v5), some (vi v6), none, some (vi v8)] st M31 (Qx (14, 0) (Qv Q) X)) hp (fun h => ?_))
  refine E_blk (lv' := [some (vr (some (11, this))), some (vi v1), none, some (vi v3), some (vi v4), some (vi v5), some (vi v6), none, some (vi v8)]) (st' := [vi (99 : Int32), vi (mI M31 11 this 51)]) (M1 := M31) (pc' := 525) (tb_Model hγ) [.aload_n 0, .getfield 532, .bipush 99] (by decide +kernel) rfl rfl trivial ?_
  refine E_icmp_ge (off := 4) (tgt := 529) (by decide +kernel) (by decide) (fun b32 => ?_) (fun b32 => ?_)
  · rw [if_pos b32] at h
    refine E_blk (lv' := [some (vr (some (11, this))), some (vi v1), none, some (vi v3), some (vi v4), some (vi v5), some (vi v6), none, some (vi v8)]) (st' := [vr (mR (sI M31 11 this 54 (v6 + v5)) 11 this 45)]) (M1 := (sI M31 11 this 54 (v6 + v5))) (pc' := 542) (tb_Model hγ) [.aload_n 0, .iload 6, .iload 5, .iadd, .putfield 642, .aload_n 0, .getfield 522] (by decide +kernel) rfl rfl trivial ?_
    obtain ⟨i33, ei33, h⟩ := h
    rw [ei33]
    obtain ⟨c34, h⟩ := h
    refine E_blk (lv' := [some (vr (some (11, this))), some (vi v1), none, some (vi v3), some (vi v4), some (vi v5), some (vi v6), none, some (vi v8)]) (st' := []) (M1 := (sI (sI M31 11 this 54 (v6 + v5)) 144 i33 (mI (sI M31 11 this 54 (v6 + v5)) 11 this 54).toNatClampNeg v3)) (pc' := 551) (tb_Model hγ) [.getfield 447, .aload_n 0, .getfield 642, .iload_n 3, .iastore] (by decide +kernel) rfl rfl ⟨c34, trivial⟩ ?_
    obtain ⟨M35, eM35, h⟩ := h
    rw [← eM35]
    refine E_blk (lv' := [some (vr (some (11, this))), some (vi v1), none, some (vi v3), some (vi v4), some (vi v5), some (vi v6), none, some (vi v8)]) (st' := [vr (mR M35 11 this 45)]) (M1 := M35) (pc' := 555) (tb_Model hγ) [.aload_n 0, .getfield 522] (by decide +kernel) rfl rfl trivial ?_
    obtain ⟨i36, ei36, h⟩ := h
    rw [ei36]
    obtain ⟨c37, h⟩ := h
    refine E_blk (lv' := [some (vr (some (11, this))), some (vi v1), none, some (vi v3), some (vi v4), some (vi v5), some (vi v6), none, some (vi v8)]) (st' := [vr (mR (sI M35 145 i36 (mI M35 11 this 54).toNatClampNeg v4) 11 this 45)]) (M1 := (sI M35 145 i36 (mI M35 11 this 54).toNatClampNeg v4)) (pc' := 569) (tb_Model hγ) [.getfield 450, .aload_n 0, .getfield 642, .iload 4, .iastore, .aload_n 0, .getfield 522] (by decide +kernel) rfl rfl ⟨c37, trivial⟩ ?_
    obtain ⟨i38, ei38, h⟩ := h
    rw [ei38]
    obtain ⟨c39, h⟩ := h
    refine E_blk (lv' := [some (vr (some (11, this))), some (vi v1), none, some (vi v3), some (vi v4), some (vi v5), some (vi v6), none, some (vi v8)]) (st' := []) (M1 := (sI (sI M35 145 i36 (mI M35 11 this 54).toNatClampNeg v4) 146 i38 (mI (sI M35 145 i36 (mI M35 11 this 54).toNatClampNeg v4) 11 this 54).toNatClampNeg v1)) (pc' := 578) (tb_Model hγ) [.getfield 453, .aload_n 0, .getfield 642, .iload_n 1, .iastore] (by decide +kernel) rfl rfl ⟨c39, trivial⟩ ?_
    obtain ⟨M40, eM40, h⟩ := h
    rw [← eM40]
    refine E_blk (lv' := [some (vr (some (11, this))), some (vi v1), none, some (vi v3), some (vi v4), some (vi v5), some (vi v6), none, some (vi v8)]) (st' := [vr (mR M40 11 this 45)]) (M1 := M40) (pc' := 582) (tb_Model hγ) [.aload_n 0, .getfield 522] (by decide +kernel) rfl rfl trivial ?_
    obtain ⟨i41, ei41, h⟩ := h
    rw [ei41]
    obtain ⟨c42, h⟩ := h
    refine E_blk (lv' := [some (vr (some (11, this))), some (vi v1), none, some (vi v3), some (vi v4), some (vi v5), some (vi v6), none, some (vi v8)]) (st' := [vr (mR (sI M40 147 i41 (mI M40 11 this 54).toNatClampNeg (0 : Int32)) 11 this 45)]) (M1 := (sI M40 147 i41 (mI M40 11 this 54).toNatClampNeg (0 : Int32))) (pc' := 595) (tb_Model hγ) [.getfield 456, .aload_n 0, .getfield 642, .iconst 0, .iastore, .aload_n 0, .getfield 522] (by decide +kernel) rfl rfl ⟨c42, trivial⟩ ?_
    obtain ⟨i43, ei43, h⟩ := h
    rw [ei43]
    obtain ⟨c44, h⟩ := h
    refine E_blk (lv' := [some (vr (some (11, this))), some (vi v1), none, some (vi v3), some (vi v4), some (vi v5), some (vi v6), none, some (vi v8)]) (st' := []) (M1 := (sI (sI M40 147 i41 (mI M40 11 this 54).toNatClampNeg (0 : Int32)) 148 i43 (mI (sI M40 147 i41 (mI M40 11 this 54).toNatClampNeg (0 : Int32)) 11 this 54).toNatClampNeg (0 : Int32))) (pc' := 604) (tb_Model hγ) [.getfield 459, .aload_n 0, .getfield 642, .iconst 0, .iastore] (by decide +kernel) rfl rfl ⟨c44, trivial⟩ ?_
    obtain ⟨M45, eM45, h⟩ := h
    rw [← eM45]
    refine E_blk (lv' := [some (vr (some (11, this))), some (vi v1), none, some (vi v3), some (vi v4), some (vi v5), some (vi v6), none, some (vi v8)]) (st' := [vr (mR M45 11 this 45)]) (M1 := M45) (pc' := 608) (tb_Model hγ) [.aload_n 0, .getfield 522] (by decide +kernel) rfl rfl trivial ?_
    obtain ⟨i46, ei46, h⟩ := h
    rw [ei46]
    refine E_blk (lv' := [some (vr (some (11, this))), some (vi v1), none, some (vi v3), some (vi v4), some (vi v5), some (vi v6), none, some (vi v8)]) (st' := [vr (mR M45 11 this 45), vi (mI M45 11 this 54), vr (some (149, i46))]) (M1 := M45) (pc' := 619) (tb_Model hγ) [.getfield 462, .aload_n 0, .getfield 642, .aload_n 0, .getfield 522] (by decide +kernel) rfl rfl trivial ?_
    obtain ⟨i47, ei47, h⟩ := h
    rw [ei47]
    obtain ⟨c48, h⟩ := h
    refine E_blk (lv' := [some (vr (some (11, this))), some (vi v1), none, some (vi v3), some (vi v4), some (vi v5), some (vi v6), none, some (vi v8)]) (st' := [vr (mR (sI M45 149 i46 (mI M45 11 this 54).toNatClampNeg (mI M45 12 i47 35)) 11 this 45)]) (M1 := (sI M45 149 i46 (mI M45 11 this 54).toNatClampNeg (mI M45 12 i47 35))) (pc' := 627) (tb_Model hγ) [.getfield 471, .iastore, .aload_n 0, .getfield 522] (by decide +kernel) rfl rfl ⟨c48, trivial⟩ ?_
    obtain ⟨i49, ei49, h⟩ := h
    rw [ei49]
    obtain ⟨c50, h⟩ := h
    refine E_blk (lv' := [some (vr (some (11, this))), some (vi v1), none, some (vi v3), some (vi v4), some (vi v5), some (vi v6), none, some (vi v8)]) (st' := []) (M1 := (sI (sI M45 149 i46 (mI M45 11 this 54).toNatClampNeg (mI M45 12 i47 35)) 150 i49 (mI (sI M45 149 i46 (mI M45 11 this 54).toNatClampNeg (mI M45 12 i47 35)) 11 this 54).toNatClampNeg (0 : Int32))) (pc' := 636) (tb_Model hγ) [.getfield 465, .aload_n 0, .getfield 642, .iconst 0, .iastore] (by decide +kernel) rfl rfl ⟨c50, trivial⟩ ?_
    obtain ⟨M51, eM51, h⟩ := h
    rw [← eM51]
    refine E_blk (lv' := [some (vr (some (11, this))), some (vi v1), none, some (vi v3), some (vi v4), some (vi v5), some (vi v6), none, some (vi v8)]) (st' := [vr (mR M51 11 this 45)]) (M1 := M51) (pc' := 640) (tb_Model hγ) [.aload_n 0, .getfield 522] (by decide +kernel) rfl rfl trivial ?_
    obtain ⟨i52, ei52, h⟩ := h
    rw [ei52]
    obtain ⟨c53, h⟩ := h
    refine E_blk (lv' := [some (vr (some (11, this))), some (vi v1), none, some (vi v3), some (vi v4), some (vi v5), some (vi v6), none, some (vi v8)]) (st' := [vr (mR (sI M51 151 i52 (mI M51 11 this 54).toNatClampNeg (0 : Int32)) 11 this 45)]) (M1 := (sI M51 151 i52 (mI M51 11 this 54).toNatClampNeg (0 : Int32))) (pc' := 653) (tb_Model hγ) [.getfield 468, .aload_n 0, .getfield 642, .iconst 0, .iastore, .aload_n 0, .getfield 522] (by decide +kernel) rfl rfl ⟨c53, trivial⟩ ?_
    obtain ⟨i54, ei54, h⟩ := h
    rw [ei54]
    obtain ⟨c55, c56, h⟩ := h
    refine E_blk (lv' := [some (vr (some (11, this))), some (vi v1), none, some (vi v3), some (vi v4), some (vi v5), some (vi v6), none, some (vi v8)]) (st' := []) (M1 := (sI (sI M51 151 i52 (mI M51 11 this 54).toNatClampNeg (0 : Int32)) 136 i54 (mI (sI M51 151 i52 (mI M51 11 this 54).toNatClampNeg (0 : Int32)) 11 this 53).toNatClampNeg ((mI (sI M51 151 i52 (mI M51 11 this 54).toNatClampNeg (0 : Int32)) 136 i54 (mI (sI M51 151 i52 (mI M51 11 this 54).toNatClampNeg (0 : Int32)) 11 this 53).toNatClampNeg) + (1 : Int32)))) (pc' := 665) (tb_Model hγ) [.getfield 438, .aload_n 0, .getfield 615, .dup2, .iaload, .iconst 1, .iadd, .iastore] (by decide +kernel) rfl rfl ⟨c55, c56, trivial⟩ ?_
    obtain ⟨M57, eM57, h⟩ := h
    rw [← eM57]
    refine E_blk (lv' := [some (vr (some (11, this))), some (vi v1), none, some (vi v3), some (vi v4), some (vi v5), some (vi v6), none, some (vi v8)]) (st' := []) (M1 := (sI (sI (sI M57 11 this 60 (0 : Int32)) 11 this 64 (0 : Int32)) 11 this 65 (0 : Int32))) (pc' := 680) (tb_Model hγ) [.aload_n 0, .iconst 0, .putfield 644, .aload_n 0, .iconst 0, .putfield 647, .aload_n 0, .iconst 0, .putfield 650] (by decide +kernel) rfl rfl trivial ?_
    obtain ⟨M58, eM58, h⟩ := h
    rw [← eM58]
    refine E_blk (lv' := [some (vr (some (11, this))), some (vi v1), none, some (vi v3), some (vi v4), some (vi v5), some (vi v6), none, some (vi v8)]) (st' := [vi v8, vr (some (11, this))]) (M1 := M58) (pc' := 683) (tb_Model hγ) [.aload_n 0, .iload 8] (by decide +kernel) rfl rfl trivial ?_
    refine E_if_eq (off := 7) (tgt := 690) (by decide +kernel) (by decide) (fun b59 => ?_) (fun b59 => ?_)
    · rw [if_pos b59] at h
      refine E_blk (lv' := [some (vr (some (11, this))), some (vi v1), none, some (vi v3), some (vi v4), some (vi v5), some (vi v6), none, some (vi v8)]) (st' := [vi (2 : Int32), vr (some (11, this))]) (M1 := M58) (pc' := 691) (tb_Model hγ) [.iconst 2] (by decide +kernel) rfl rfl trivial ?_
      refine E_mask [false, false, false, false, false, false, false, false, false] rfl ?_
      exact lk_Model_methodLine_j691 hγ this Q X (2 : Int32) M58 h
    · rw [if_neg b59] at h
      refine E_blk (lv' := [some (vr (some (11, this))), some (vi v1), none, some (vi v3), some (vi v4), some (vi v5), some (vi v6), none, some (vi v8)]) (st' := [vi (1 : Int32), vr (some (11, this))]) (M1 := M58) (pc' := 687) (tb_Model hγ) [.iconst 1] (by decide +kernel) rfl rfl trivial ?_
      refine E_goto (off := 4) (tgt := 691) (by decide +kernel) (by decide) ?_
      refine E_mask [false, false, false, false, false, false, false, false, false] rfl ?_
      exact lk_Model_methodLine_j691 hγ this Q X (1 : Int32) M58 h
  · rw [if_neg b32] at h
    exact (E_vret rfl (by decide +kernel) h).nx
set_option maxRecDepth 4096 in
theorem lk_Model_methodLine_j511 {γ : Gm} (hγ : Gk γ) (this : Nat) (Q : Mem → Prop) (X : Mem → Prop) (v1 : Int32) (v3 : Int32) (v4 : Int32) (v5 : Int32) (v6 : Int32) (v8 : Int32) (s0 : Int32) (M : Mem) (h : w_Model_methodLine_j511 this Q X v1 v3 v4 v5 v6 v8 s0 M) : E γ k_Model_methodLine 7 511 [some (vr (some (11, this))), some (vi v1), none, some (vi v3), some (vi v4), some (vi v5), some (vi v6), none, some (vi v8)] [vi s0, vr (some (11, this))] M (Qx (14, 0) (Qv Q) X) := by
  unfold w_Model_methodLine_j511 at h
  refine E_blk (lv' := [some (vr (some (11, this))), some (vi v1), none, some (vi v3), some (vi v4), some (vi v5), some (vi v6), none, some (vi v8)]) (st' := [vi (1 : Int32), vi s0, vr (some (11, this))]) (M1 := M) (pc' := 512) (tb_Model hγ) [.iconst 1] (by decide +kernel) rfl rfl trivial ?_
  refine E_goto (off := 4) (tgt := 516) (by decide +kernel) (by decide) ?_
  refine E_mask [true, true, false, true, true, true, true, false, true] rfl ?_
  exact lk_Model_methodLine_j516 hγ this Q X v1 v3 v4 v5 v6 v8 (1 : Int32) s0 M h
set_option maxRecDepth 4096 in
theorem lk_Model_methodLine_j486 {γ : Gm} (hγ : Gk γ) (this : Nat) (Q : Mem → Prop) (X : Mem → Prop) (v1 : Int32) (v3 : Int32) (v4 : Int32) (v5 : Int32) (v6 : Int32) (v8 : Int32) (s0 : Int32) (s1 : Int32) (M : Mem) (h : w_Model_methodLine_j486 this Q X v1 v3 v4 v5 v6 v8 s0 s1 M) : E γ k_Model_methodLine 7 486 [some (vr (some (11, this))), some (vi v1), none, some (vi v3), some (vi v4), some (vi v5), some (vi v6), none, some (vi v8)] [vi s0, vi s1, vr (some (11, this))] M (Qx (14, 0) (Qv Q) X) := by
  unfold w_Model_methodLine_j486 at h
  refine E_callV (κ' := k_Model_asks) (As := [vi s1, vi s0]) (st := []) mv_Model_asks (Or.inl (tbk_mem (j := 15) (k := 43) rfl)) rfl (by decide +kernel) (Nat.le_of_ble_eq_true rfl) (Nat.le_of_ble_eq_true rfl) rfl (by decide) (lk_Model_asks hγ this s1 s0 _ M h) (fun _ _ => Qv_r) (fun v M29 hp => Qv_k (R := fun st => E γ k_Model_methodLine 7 489 [some (vr (some (11, this))), some (vi v1), none, some (vi v3), some (vi v4), some (vi v5), some (vi v6), none, some (vi v8)] st M29 (Qx (14, 0) (Qv Q) X)) hp (fun h => ?_))
  refine E_blk (lv' := [some (vr (some (11, this))), some (vi v1), none, some (vi v3), some (vi v4), some (vi v5), some (vi v6), none, some (vi v8)]) (st' := [vi (12 : Int32), vi v5, vi (12 : Int32), vr (some (11, this))]) (M1 := M29) (pc' := 496) (tb_Model hγ) [.aload_n 0, .bipush 12, .iload 5, .bipush 12] (by decide +kernel) rfl rfl trivial ?_
  refine E_icmp_eq (off := 15) (tgt := 511) (by decide +kernel) (by decide) (fun b30 => ?_) (fun b30 => ?_)
  · rw [if_pos b30] at h
    refine E_mask [true, true, false, true, true, true, true, false, true] rfl ?_
    exact lk_Model_methodLine_j511 hγ this Q X v1 v3 v4 v5 v6 v8 (12 : Int32) M29 h
  · rw [if_neg b30] at h
    refine E_blk (lv' := [some (vr (some (11, this))), some (vi v1), none, some (vi v3), some (vi v4), some (vi v5), some (vi v6), none, some (vi v8)]) (st' := [vr (mR M29 11 this 31), vi (12 : Int32), vr (some (11, this))]) (M1 := M29) (pc' := 503) (tb_Model hγ) [.aload_n 0, .getfield 80] (by decide +kernel) rfl rfl trivial ?_
    obtain ⟨i60, ei60, h⟩ := h
    rw [ei60]
    obtain ⟨c61, h⟩ := h
    refine E_blk (lv' := [some (vr (some (11, this))), some (vi v1), none, some (vi v3), some (vi v4), some (vi v5), some (vi v6), none, some (vi v8)]) (st' := [vi (6 : Int32), vi (mI M29 300 i60 v4.toNatClampNeg), vi (12 : Int32), vr (some (11, this))]) (M1 := M29) (pc' := 508) (tb_Model hγ) [.iload 4, .iaload, .bipush 6] (by decide +kernel) rfl rfl ⟨c61, trivial⟩ ?_
    refine E_icmp_le (off := 7) (tgt := 515) (by decide +kernel) (by decide) (fun b62 => ?_) (fun b62 => ?_)
    · rw [if_pos b62] at h
      refine E_blk (lv' := [some (vr (some (11, this))), some (vi v1), none, some (vi v3), some (vi v4), some (vi v5), some (vi v6), none, some (vi v8)]) (st' := [vi (0 : Int32), vi (12 : Int32), vr (some (11, this))]) (M1 := M29) (pc' := 516) (tb_Model hγ) [.iconst 0] (by decide +kernel) rfl rfl trivial ?_
      refine E_mask [true, true, false, true, true, true, true, false, true] rfl ?_
      exact lk_Model_methodLine_j516 hγ this Q X v1 v3 v4 v5 v6 v8 (0 : Int32) (12 : Int32) M29 h
    · rw [if_neg b62] at h
      refine E_mask [true, true, false, true, true, true, true, false, true] rfl ?_
      exact lk_Model_methodLine_j511 hγ this Q X v1 v3 v4 v5 v6 v8 (12 : Int32) M29 h
set_option maxRecDepth 4096 in
theorem lk_Model_methodLine_j481 {γ : Gm} (hγ : Gk γ) (this : Nat) (Q : Mem → Prop) (X : Mem → Prop) (v1 : Int32) (v3 : Int32) (v4 : Int32) (v5 : Int32) (v6 : Int32) (v8 : Int32) (s0 : Int32) (M : Mem) (h : w_Model_methodLine_j481 this Q X v1 v3 v4 v5 v6 v8 s0 M) : E γ k_Model_methodLine 7 481 [some (vr (some (11, this))), some (vi v1), none, some (vi v3), some (vi v4), some (vi v5), some (vi v6), none, some (vi v8)] [vi s0, vr (some (11, this))] M (Qx (14, 0) (Qv Q) X) := by
  unfold w_Model_methodLine_j481 at h
  refine E_blk (lv' := [some (vr (some (11, this))), some (vi v1), none, some (vi v3), some (vi v4), some (vi v5), some (vi v6), none, some (vi v8)]) (st' := [vi (1 : Int32), vi s0, vr (some (11, this))]) (M1 := M) (pc' := 482) (tb_Model hγ) [.iconst 1] (by decide +kernel) rfl rfl trivial ?_
  refine E_goto (off := 4) (tgt := 486) (by decide +kernel) (by decide) ?_
  refine E_mask [true, true, false, true, true, true, true, false, true] rfl ?_
  exact lk_Model_methodLine_j486 hγ this Q X v1 v3 v4 v5 v6 v8 (1 : Int32) s0 M h
set_option maxRecDepth 4096 in
theorem lk_Model_methodLine_j485 {γ : Gm} (hγ : Gk γ) (this : Nat) (Q : Mem → Prop) (X : Mem → Prop) (v1 : Int32) (v3 : Int32) (v4 : Int32) (v5 : Int32) (v6 : Int32) (v8 : Int32) (s0 : Int32) (M : Mem) (h : w_Model_methodLine_j485 this Q X v1 v3 v4 v5 v6 v8 s0 M) : E γ k_Model_methodLine 7 485 [some (vr (some (11, this))), some (vi v1), none, some (vi v3), some (vi v4), some (vi v5), some (vi v6), none, some (vi v8)] [vi s0, vr (some (11, this))] M (Qx (14, 0) (Qv Q) X) := by
  unfold w_Model_methodLine_j485 at h
  refine E_blk (lv' := [some (vr (some (11, this))), some (vi v1), none, some (vi v3), some (vi v4), some (vi v5), some (vi v6), none, some (vi v8)]) (st' := [vi (0 : Int32), vi s0, vr (some (11, this))]) (M1 := M) (pc' := 486) (tb_Model hγ) [.iconst 0] (by decide +kernel) rfl rfl trivial ?_
  refine E_mask [true, true, false, true, true, true, true, false, true] rfl ?_
  exact lk_Model_methodLine_j486 hγ this Q X v1 v3 v4 v5 v6 v8 (0 : Int32) s0 M h
set_option maxRecDepth 4096 in
theorem lk_Model_methodLine_j445 {γ : Gm} (hγ : Gk γ) (this : Nat) (Q : Mem → Prop) (X : Mem → Prop) (v1 : Int32) (v3 : Int32) (v4 : Int32) (v5 : Int32) (v6 : Int32) (v8 : Int32) (s0 : Int32) (s1 : Int32) (M : Mem) (h : w_Model_methodLine_j445 this Q X v1 v3 v4 v5 v6 v8 s0 s1 M) : E γ k_Model_methodLine 7 445 [some (vr (some (11, this))), some (vi v1), none, some (vi v3), some (vi v4), some (vi v5), some (vi v6), none, some (vi v8)] [vi s0, vi s1, vr (some (11, this))] M (Qx (14, 0) (Qv Q) X) := by
  unfold w_Model_methodLine_j445 at h
  refine E_callV (κ' := k_Model_asks) (As := [vi s1, vi s0]) (st := []) mv_Model_asks (Or.inl (tbk_mem (j := 15) (k := 43) rfl)) rfl (by decide +kernel) (Nat.le_of_ble_eq_true rfl) (Nat.le_of_ble_eq_true rfl) rfl (by decide) (lk_Model_asks hγ this s1 s0 _ M h) (fun _ _ => Qv_r) (fun v M26 hp => Qv_k (R := fun st => E γ k_Model_methodLine 7 448 [some (vr (some (11, this))), some (vi v1), none, some (vi v3), some (vi v4), some (vi v5), some (vi v6), none, some (vi v8)] st M26 (Qx (14, 0) (Qv Q) X)) hp (fun h => ?_))
  refine E_blk (lv' := [some (vr (some (11, this))), some (vi v1), none, some (vi v3), some (vi v4), some (vi v5), some (vi v6), none, some (vi v8)]) (st' := [vi (mI M26 11 this 7), vi v3, vi (7 : Int32), vr (some (11, this))]) (M1 := M26) (pc' := 456) (tb_Model hγ) [.aload_n 0, .bipush 7, .iload_n 3, .aload_n 0, .getfield 127] (by decide +kernel) rfl rfl trivial ?_
  refine E_icmp_ne (off := 29) (tgt := 485) (by decide +kernel) (by decide) (fun b27 => ?_) (fun b27 => ?_)
  · rw [if_pos b27] at h
    refine E_blk (lv' := [some (vr (some (11, this))), some (vi v1), none, some (vi v3), some (vi v4), some (vi v5), some (vi v6), none, some (vi v8)]) (st' := [vi (v1 &&& (1 : Int32)), vi (7 : Int32), vr (some (11, this))]) (M1 := M26) (pc' := 462) (tb_Model hγ) [.iload_n 1, .iconst 1, .iand] (by decide +kernel) rfl rfl trivial ?_
    refine E_if_eq (off := 19) (tgt := 481) (by decide +kernel) (by decide) (fun b28 => ?_) (fun b28 => ?_)
    · rw [if_pos b28] at h
      refine E_mask [true, true, false, true, true, true, true, false, true] rfl ?_
      exact lk_Model_methodLine_j481 hγ this Q X v1 v3 v4 v5 v6 v8 (7 : Int32) M26 h
    · rw [if_neg b28] at h
      refine E_blk (lv' := [some (vr (some (11, this))), some (vi v1), none, some (vi v3), some (vi v4), some (vi v5), some (vi v6), none, some (vi v8)]) (st' := [vi (v1 &&& (14 : Int32)), vi (7 : Int32), vr (some (11, this))]) (M1 := M26) (pc' := 469) (tb_Model hγ) [.iload_n 1, .bipush 14, .iand] (by decide +kernel) rfl rfl trivial ?_
      refine E_if_ne (off := 12) (tgt := 481) (by decide +kernel) (by decide) (fun b63 => ?_) (fun b63 => ?_)
      · rw [if_pos b63] at h
        refine E_blk (lv' := [some (vr (some (11, this))), some (vi v1), none, some (vi v3), some (vi v4), some (vi v5), some (vi v6), none, some (vi v8)]) (st' := [vi (mI M26 11 this 38), vi v4, vi (7 : Int32), vr (some (11, this))]) (M1 := M26) (pc' := 478) (tb_Model hγ) [.iload 4, .aload_n 0, .getfield 258] (by decide +kernel) rfl rfl trivial ?_
        refine E_icmp_eq (off := 7) (tgt := 485) (by decide +kernel) (by decide) (fun b64 => ?_) (fun b64 => ?_)
        · rw [if_pos b64] at h
          refine E_mask [true, true, false, true, true, true, true, false, true] rfl ?_
          exact lk_Model_methodLine_j485 hγ this Q X v1 v3 v4 v5 v6 v8 (7 : Int32) M26 h
        · rw [if_neg b64] at h
          refine E_mask [true, true, false, true, true, true, true, false, true] rfl ?_
          exact lk_Model_methodLine_j481 hγ this Q X v1 v3 v4 v5 v6 v8 (7 : Int32) M26 h
      · rw [if_neg b63] at h
        refine E_mask [true, true, false, true, true, true, true, false, true] rfl ?_
        exact lk_Model_methodLine_j481 hγ this Q X v1 v3 v4 v5 v6 v8 (7 : Int32) M26 h
  · rw [if_neg b27] at h
    refine E_mask [true, true, false, true, true, true, true, false, true] rfl ?_
    exact lk_Model_methodLine_j485 hγ this Q X v1 v3 v4 v5 v6 v8 (7 : Int32) M26 h
set_option maxRecDepth 4096 in
theorem lk_Model_methodLine_j444 {γ : Gm} (hγ : Gk γ) (this : Nat) (Q : Mem → Prop) (X : Mem → Prop) (v1 : Int32) (v3 : Int32) (v4 : Int32) (v5 : Int32) (v6 : Int32) (v8 : Int32) (s0 : Int32) (M : Mem) (h : w_Model_methodLine_j444 this Q X v1 v3 v4 v5 v6 v8 s0 M) : E γ k_Model_methodLine 7 444 [some (vr (some (11, this))), some (vi v1), none, some (vi v3), some (vi v4), some (vi v5), some (vi v6), none, some (vi v8)] [vi s0, vr (some (11, this))] M (Qx (14, 0) (Qv Q) X) := by
  unfold w_Model_methodLine_j444 at h
  refine E_blk (lv' := [some (vr (some (11, this))), some (vi v1), none, some (vi v3), some (vi v4), some (vi v5), some (vi v6), none, some (vi v8)]) (st' := [vi (0 : Int32), vi s0, vr (some (11, this))]) (M1 := M) (pc' := 445) (tb_Model hγ) [.iconst 0] (by decide +kernel) rfl rfl trivial ?_
  refine E_mask [true, true, false, true, true, true, true, false, true] rfl ?_
  exact lk_Model_methodLine_j445 hγ this Q X v1 v3 v4 v5 v6 v8 (0 : Int32) s0 M h
set_option maxRecDepth 4096 in
theorem lk_Model_methodLine_j440 {γ : Gm} (hγ : Gk γ) (this : Nat) (Q : Mem → Prop) (X : Mem → Prop) (v1 : Int32) (v3 : Int32) (v4 : Int32) (v5 : Int32) (v6 : Int32) (v8 : Int32) (s0 : Int32) (M : Mem) (h : w_Model_methodLine_j440 this Q X v1 v3 v4 v5 v6 v8 s0 M) : E γ k_Model_methodLine 7 440 [some (vr (some (11, this))), some (vi v1), none, some (vi v3), some (vi v4), some (vi v5), some (vi v6), none, some (vi v8)] [vi s0, vr (some (11, this))] M (Qx (14, 0) (Qv Q) X) := by
  unfold w_Model_methodLine_j440 at h
  refine E_blk (lv' := [some (vr (some (11, this))), some (vi v1), none, some (vi v3), some (vi v4), some (vi v5), some (vi v6), none, some (vi v8)]) (st' := [vi (1 : Int32), vi s0, vr (some (11, this))]) (M1 := M) (pc' := 441) (tb_Model hγ) [.iconst 1] (by decide +kernel) rfl rfl trivial ?_
  refine E_goto (off := 4) (tgt := 445) (by decide +kernel) (by decide) ?_
  refine E_mask [true, true, false, true, true, true, true, false, true] rfl ?_
  exact lk_Model_methodLine_j445 hγ this Q X v1 v3 v4 v5 v6 v8 (1 : Int32) s0 M h
set_option maxRecDepth 4096 in
theorem lk_Model_methodLine_j409 {γ : Gm} (hγ : Gk γ) (this : Nat) (Q : Mem → Prop) (X : Mem → Prop) (v1 : Int32) (v3 : Int32) (v4 : Int32) (v5 : Int32) (v6 : Int32) (v8 : Int32) (s0 : Int32) (s1 : Int32) (M : Mem) (h : w_Model_methodLine_j409 this Q X v1 v3 v4 v5 v6 v8 s0 s1 M) : E γ k_Model_methodLine 7 409 [some (vr (some (11, this))), some (vi v1), none, some (vi v3), some (vi v4), some (vi v5), some (vi v6), none, some (vi v8)] [vi s0, vi s1, vr (some (11, this))] M (Qx (14, 0) (Qv Q) X) := by
  unfold w_Model_methodLine_j409 at h
  refine E_callV (κ' := k_Model_asks) (As := [vi s1, vi s0]) (st := []) mv_Model_asks (Or.inl (tbk_mem (j := 15) (k := 43) rfl)) rfl (by decide +kernel) (Nat.le_of_ble_eq_true rfl) (Nat.le_of_ble_eq_true rfl) rfl (by decide) (lk_Model_asks hγ this s1 s0 _ M h) (fun _ _ => Qv_r) (fun v M20 hp => Qv_k (R := fun st => E γ k_Model_methodLine 7 412 [some (vr (some (11, this))), some (vi v1), none, some (vi v3), some (vi v4), some (vi v5), some (vi v6), none, some (vi v8)] st M20 (Qx (14, 0) (Qv Q) X)) hp (fun h => ?_))
  refine E_blk (lv' := [some (vr (some (11, this))), some (vi v1), none, some (vi v3), some (vi v4), some (vi v5), some (vi v6), none, some (vi v8)]) (st' := [vi (mI M20 11 this 6), vi v3, vi (7 : Int32), vr (some (11, this))]) (M1 := M20) (pc' := 420) (tb_Model hγ) [.aload_n 0, .bipush 7, .iload_n 3, .aload_n 0, .getfield 121] (by decide +kernel) rfl rfl trivial ?_
  refine E_icmp_ne (off := 24) (tgt := 444) (by decide +kernel) (by decide) (fun b21 => ?_) (fun b21 => ?_)
  · rw [if_pos b21] at h
    refine E_blk (lv' := [some (vr (some (11, this))), some (vi v1), none, some (vi v3), some (vi v4), some (vi v5), some (vi v6), none, some (vi v8)]) (st' := [vi (v1 &&& (11 : Int32)), vi (7 : Int32), vr (some (11, this))]) (M1 := M20) (pc' := 427) (tb_Model hγ) [.iload_n 1, .bipush 11, .iand] (by decide +kernel) rfl rfl trivial ?_
    refine E_if_ne (off := 13) (tgt := 440) (by decide +kernel) (by decide) (fun b22 => ?_) (fun b22 => ?_)
    · rw [if_pos b22] at h
      refine E_blk (lv' := [some (vr (some (11, this))), some (vi v1), none, some (vi v3), some (vi v4), some (vi v5), some (vi v6), none, some (vi v8)]) (st' := [vr (mR M20 11 this 32), vi (7 : Int32), vr (some (11, this))]) (M1 := M20) (pc' := 434) (tb_Model hγ) [.aload_n 0, .getfield 83] (by decide +kernel) rfl rfl trivial ?_
      obtain ⟨i23, ei23, h⟩ := h
      rw [ei23]
      obtain ⟨c24, h⟩ := h
      refine E_blk (lv' := [some (vr (some (11, this))), some (vi v1), none, some (vi v3), some (vi v4), some (vi v5), some (vi v6), none, some (vi v8)]) (st' := [vi (mI M20 300 i23 v4.toNatClampNeg), vi (7 : Int32), vr (some (11, this))]) (M1 := M20) (pc' := 437) (tb_Model hγ) [.iload 4, .iaload] (by decide +kernel) rfl rfl ⟨c24, trivial⟩ ?_
      refine E_if_eq (off := 7) (tgt := 444) (by decide +kernel) (by decide) (fun b25 => ?_) (fun b25 => ?_)
      · rw [if_pos b25] at h
        refine E_mask [true, true, false, true, true, true, true, false, true] rfl ?_
        exact lk_Model_methodLine_j444 hγ this Q X v1 v3 v4 v5 v6 v8 (7 : Int32) M20 h
      · rw [if_neg b25] at h
        refine E_mask [true, true, false, true, true, true, true, false, true] rfl ?_
        exact lk_Model_methodLine_j440 hγ this Q X v1 v3 v4 v5 v6 v8 (7 : Int32) M20 h
    · rw [if_neg b22] at h
      refine E_mask [true, true, false, true, true, true, true, false, true] rfl ?_
      exact lk_Model_methodLine_j440 hγ this Q X v1 v3 v4 v5 v6 v8 (7 : Int32) M20 h
  · rw [if_neg b21] at h
    refine E_mask [true, true, false, true, true, true, true, false, true] rfl ?_
    exact lk_Model_methodLine_j444 hγ this Q X v1 v3 v4 v5 v6 v8 (7 : Int32) M20 h
set_option maxRecDepth 4096 in
theorem lk_Model_methodLine_j408 {γ : Gm} (hγ : Gk γ) (this : Nat) (Q : Mem → Prop) (X : Mem → Prop) (v1 : Int32) (v3 : Int32) (v4 : Int32) (v5 : Int32) (v6 : Int32) (v8 : Int32) (s0 : Int32) (M : Mem) (h : w_Model_methodLine_j408 this Q X v1 v3 v4 v5 v6 v8 s0 M) : E γ k_Model_methodLine 7 408 [some (vr (some (11, this))), some (vi v1), none, some (vi v3), some (vi v4), some (vi v5), some (vi v6), none, some (vi v8)] [vi s0, vr (some (11, this))] M (Qx (14, 0) (Qv Q) X) := by
  unfold w_Model_methodLine_j408 at h
  refine E_blk (lv' := [some (vr (some (11, this))), some (vi v1), none, some (vi v3), some (vi v4), some (vi v5), some (vi v6), none, some (vi v8)]) (st' := [vi (0 : Int32), vi s0, vr (some (11, this))]) (M1 := M) (pc' := 409) (tb_Model hγ) [.iconst 0] (by decide +kernel) rfl rfl trivial ?_
  refine E_mask [true, true, false, true, true, true, true, false, true] rfl ?_
  exact lk_Model_methodLine_j409 hγ this Q X v1 v3 v4 v5 v6 v8 (0 : Int32) s0 M h
set_option maxRecDepth 4096 in
theorem lk_Model_methodLine_j367 {γ : Gm} (hγ : Gk γ) (this : Nat) (Q : Mem → Prop) (X : Mem → Prop) (v1 : Int32) (v3 : Int32) (v4 : Int32) (v5 : Int32) (v6 : Int32) (v8 : Int32) (s0 : Int32) (s1 : Int32) (M : Mem) (h : w_Model_methodLine_j367 this Q X v1 v3 v4 v5 v6 v8 s0 s1 M) : E γ k_Model_methodLine 7 367 [some (vr (some (11, this))), some (vi v1), none, some (vi v3), some (vi v4), some (vi v5), some (vi v6), none, some (vi v8)] [vi s0, vi s1, vr (some (11, this))] M (Qx (14, 0) (Qv Q) X) := by
  unfold w_Model_methodLine_j367 at h
  refine E_callV (κ' := k_Model_asks) (As := [vi s1, vi s0]) (st := []) mv_Model_asks (Or.inl (tbk_mem (j := 15) (k := 43) rfl)) rfl (by decide +kernel) (Nat.le_of_ble_eq_true rfl) (Nat.le_of_ble_eq_true rfl) rfl (by decide) (lk_Model_asks hγ this s1 s0 _ M h) (fun _ _ => Qv_r) (fun v M18 hp => Qv_k (R := fun st => E γ k_Model_methodLine 7 370 [some (vr (some (11, this))), some (vi v1), none, some (vi v3), some (vi v4), some (vi v5), some (vi v6), none, some (vi v8)] st M18 (Qx (14, 0) (Qv Q) X)) hp (fun h => ?_))
  refine E_blk (lv' := [some (vr (some (11, this))), some (vi v1), none, some (vi v3), some (vi v4), some (vi v5), some (vi v6), none, some (vi v8)]) (st' := [vi v8, vi (6 : Int32), vr (some (11, this))]) (M1 := M18) (pc' := 375) (tb_Model hγ) [.aload_n 0, .bipush 6, .iload 8] (by decide +kernel) rfl rfl trivial ?_
  refine E_if_eq (off := 33) (tgt := 408) (by decide +kernel) (by decide) (fun b19 => ?_) (fun b19 => ?_)
  · rw [if_pos b19] at h
    refine E_mask [true, true, false, true, true, true, true, false, true] rfl ?_
    exact lk_Model_methodLine_j408 hγ this Q X v1 v3 v4 v5 v6 v8 (6 : Int32) M18 h
  · rw [if_neg b19] at h
    refine E_blk (lv' := [some (vr (some (11, this))), some (vi v1), none, some (vi v3), some (vi v4), some (vi v5), some (vi v6), none, some (vi v8)]) (st' := [vr (mR M18 11 this 45), vi (6 : Int32), vr (some (11, this))]) (M1 := M18) (pc' := 382) (tb_Model hγ) [.aload_n 0, .getfield 522] (by decide +kernel) rfl rfl trivial ?_
    obtain ⟨i65, ei65, h⟩ := h
    rw [ei65]
    obtain ⟨c66, h⟩ := h
    refine E_blk (lv' := [some (vr (some (11, this))), some (vi v1), none, some (vi v3), some (vi v4), some (vi v5), some (vi v6), none, some (vi v8)]) (st' := [vi ((mI M18 132 i65 (mI M18 11 this 53).toNatClampNeg) &&& (6 : Int32)), vi (6 : Int32), vr (some (11, this))]) (M1 := M18) (pc' := 393) (tb_Model hγ) [.getfield 429, .aload_n 0, .getfield 615, .iaload, .bipush 6, .iand] (by decide +kernel) rfl rfl ⟨c66, trivial⟩ ?_
    refine E_if_ne (off := 15) (tgt := 408) (by decide +kernel) (by decide) (fun b67 => ?_) (fun b67 => ?_)
    · rw [if_pos b67] at h
      refine E_blk (lv' := [some (vr (some (11, this))), some (vi v1), none, some (vi v3), some (vi v4), some (vi v5), some (vi v6), none, some (vi v8)]) (st' := [vi (2 : Int32), vr (some (11, this)), vi (6 : Int32), vr (some (11, this))]) (M1 := M18) (pc' := 398) (tb_Model hγ) [.aload_n 0, .iconst 2] (by decide +kernel) rfl rfl trivial ?_
      refine E_callV (κ' := k_Model_isOff) (As := [vi (2 : Int32)]) (st := [vi (6 : Int32), vr (some (11, this))]) mv_Model_isOff (Or.inl (tbk_mem (j := 15) (k := 47) rfl)) rfl (by decide +kernel) (Nat.le_of_ble_eq_true rfl) (Nat.le_of_ble_eq_true rfl) rfl (by decide) (lk_Model_isOff hγ this (2 : Int32) _ M18 h) (fun _ _ => Qi_r) (fun v M68 hp => Qi_k (R := fun st => E γ k_Model_methodLine 7 401 [some (vr (some (11, this))), some (vi v1), none, some (vi v3), some (vi v4), some (vi v5), some (vi v6), none, some (vi v8)] st M68 (Qx (14, 0) (Qv Q) X)) hp (fun r69 h => ?_))
      refine E_if_ne (off := 7) (tgt := 408) (by decide +kernel) (by decide) (fun b70 => ?_) (fun b70 => ?_)
      · rw [if_pos b70] at h
        refine E_blk (lv' := [some (vr (some (11, this))), some (vi v1), none, some (vi v3), some (vi v4), some (vi v5), some (vi v6), none, some (vi v8)]) (st' := [vi (1 : Int32), vi (6 : Int32), vr (some (11, this))]) (M1 := M68) (pc' := 405) (tb_Model hγ) [.iconst 1] (by decide +kernel) rfl rfl trivial ?_
        refine E_goto (off := 4) (tgt := 409) (by decide +kernel) (by decide) ?_
        refine E_mask [true, true, false, true, true, true, true, false, true] rfl ?_
        exact lk_Model_methodLine_j409 hγ this Q X v1 v3 v4 v5 v6 v8 (1 : Int32) (6 : Int32) M68 h
      · rw [if_neg b70] at h
        refine E_mask [true, true, false, true, true, true, true, false, true] rfl ?_
        exact lk_Model_methodLine_j408 hγ this Q X v1 v3 v4 v5 v6 v8 (6 : Int32) M68 h
    · rw [if_neg b67] at h
      refine E_mask [true, true, false, true, true, true, true, false, true] rfl ?_
      exact lk_Model_methodLine_j408 hγ this Q X v1 v3 v4 v5 v6 v8 (6 : Int32) M18 h
set_option maxRecDepth 4096 in
theorem lk_Model_methodLine_j366 {γ : Gm} (hγ : Gk γ) (this : Nat) (Q : Mem → Prop) (X : Mem → Prop) (v1 : Int32) (v3 : Int32) (v4 : Int32) (v5 : Int32) (v6 : Int32) (v8 : Int32) (s0 : Int32) (M : Mem) (h : w_Model_methodLine_j366 this Q X v1 v3 v4 v5 v6 v8 s0 M) : E γ k_Model_methodLine 7 366 [some (vr (some (11, this))), some (vi v1), none, some (vi v3), some (vi v4), some (vi v5), some (vi v6), none, some (vi v8)] [vi s0, vr (some (11, this))] M (Qx (14, 0) (Qv Q) X) := by
  unfold w_Model_methodLine_j366 at h
  refine E_blk (lv' := [some (vr (some (11, this))), some (vi v1), none, some (vi v3), some (vi v4), some (vi v5), some (vi v6), none, some (vi v8)]) (st' := [vi (0 : Int32), vi s0, vr (some (11, this))]) (M1 := M) (pc' := 367) (tb_Model hγ) [.iconst 0] (by decide +kernel) rfl rfl trivial ?_
  refine E_mask [true, true, false, true, true, true, true, false, true] rfl ?_
  exact lk_Model_methodLine_j367 hγ this Q X v1 v3 v4 v5 v6 v8 (0 : Int32) s0 M h
set_option maxRecDepth 4096 in
theorem lk_Model_methodLine_j362 {γ : Gm} (hγ : Gk γ) (this : Nat) (Q : Mem → Prop) (X : Mem → Prop) (v1 : Int32) (v3 : Int32) (v4 : Int32) (v5 : Int32) (v6 : Int32) (v8 : Int32) (s0 : Int32) (M : Mem) (h : w_Model_methodLine_j362 this Q X v1 v3 v4 v5 v6 v8 s0 M) : E γ k_Model_methodLine 7 362 [some (vr (some (11, this))), some (vi v1), none, some (vi v3), some (vi v4), some (vi v5), some (vi v6), none, some (vi v8)] [vi s0, vr (some (11, this))] M (Qx (14, 0) (Qv Q) X) := by
  unfold w_Model_methodLine_j362 at h
  refine E_blk (lv' := [some (vr (some (11, this))), some (vi v1), none, some (vi v3), some (vi v4), some (vi v5), some (vi v6), none, some (vi v8)]) (st' := [vi (1 : Int32), vi s0, vr (some (11, this))]) (M1 := M) (pc' := 363) (tb_Model hγ) [.iconst 1] (by decide +kernel) rfl rfl trivial ?_
  refine E_goto (off := 4) (tgt := 367) (by decide +kernel) (by decide) ?_
  refine E_mask [true, true, false, true, true, true, true, false, true] rfl ?_
  exact lk_Model_methodLine_j367 hγ this Q X v1 v3 v4 v5 v6 v8 (1 : Int32) s0 M h
set_option maxRecDepth 4096 in
theorem lk_Model_methodLine_j329 {γ : Gm} (hγ : Gk γ) (this : Nat) (Q : Mem → Prop) (X : Mem → Prop) (v1 : Int32) (v3 : Int32) (v4 : Int32) (v5 : Int32) (v6 : Int32) (v7 : Int32) (v8 : Int32) (s0 : Int32) (s1 : Int32) (M : Mem) (h : w_Model_methodLine_j329 this Q X v1 v3 v4 v5 v6 v7 v8 s0 s1 M) : E γ k_Model_methodLine 7 329 [some (vr (some (11, this))), some (vi v1), none, some (vi v3), some (vi v4), some (vi v5), some (vi v6), some (vi v7), some (vi v8)] [vi s0, vi s1, vr (some (11, this))] M (Qx (14, 0) (Qv Q) X) := by
  unfold w_Model_methodLine_j329 at h
  refine E_callV (κ' := k_Model_asks) (As := [vi s1, vi s0]) (st := []) mv_Model_asks (Or.inl (tbk_mem (j := 15) (k := 43) rfl)) rfl (by decide +kernel) (Nat.le_of_ble_eq_true rfl) (Nat.le_of_ble_eq_true rfl) rfl (by decide) (lk_Model_asks hγ this s1 s0 _ M h) (fun _ _ => Qv_r) (fun v M16 hp => Qv_k (R := fun st => E γ k_Model_methodLine 7 332 [some (vr (some (11, this))), some (vi v1), none, some (vi v3), some (vi v4), some (vi v5), some (vi v6), some (vi v7), some (vi v8)] st M16 (Qx (14, 0) (Qv Q) X)) hp (fun h => ?_))
  refine E_blk (lv' := [some (vr (some (11, this))), some (vi v1), none, some (vi v3), some (vi v4), some (vi v5), some (vi v6), some (vi v7), some (vi v8)]) (st' := [vi v7, vi (5 : Int32), vr (some (11, this))]) (M1 := M16) (pc' := 336) (tb_Model hγ) [.aload_n 0, .iconst 5, .iload 7] (by decide +kernel) rfl rfl trivial ?_
  refine E_if_eq (off := 30) (tgt := 366) (by decide +kernel) (by decide) (fun b17 => ?_) (fun b17 => ?_)
  · rw [if_pos b17] at h
    refine E_mask [true, true, false, true, true, true, true, false, true] rfl ?_
    exact lk_Model_methodLine_j366 hγ this Q X v1 v3 v4 v5 v6 v8 (5 : Int32) M16 h
  · rw [if_neg b17] at h
    refine E_blk (lv' := [some (vr (some (11, this))), some (vi v1), none, some (vi v3), some (vi v4), some (vi v5), some (vi v6), some (vi v7), some (vi v8)]) (st' := [vi (1 : Int32), vr (some (11, this)), vi (5 : Int32), vr (some (11, this))]) (M1 := M16) (pc' := 341) (tb_Model hγ) [.aload_n 0, .iconst 1] (by decide +kernel) rfl rfl trivial ?_
    refine E_callV (κ' := k_Model_isOff) (As := [vi (1 : Int32)]) (st := [vi (5 : Int32), vr (some (11, this))]) mv_Model_isOff (Or.inl (tbk_mem (j := 15) (k := 47) rfl)) rfl (by decide +kernel) (Nat.le_of_ble_eq_true rfl) (Nat.le_of_ble_eq_true rfl) rfl (by decide) (lk_Model_isOff hγ this (1 : Int32) _ M16 h) (fun _ _ => Qi_r) (fun v M71 hp => Qi_k (R := fun st => E γ k_Model_methodLine 7 344 [some (vr (some (11, this))), some (vi v1), none, some (vi v3), some (vi v4), some (vi v5), some (vi v6), some (vi v7), some (vi v8)] st M71 (Qx (14, 0) (Qv Q) X)) hp (fun r72 h => ?_))
    refine E_if_ne (off := 22) (tgt := 366) (by decide +kernel) (by decide) (fun b73 => ?_) (fun b73 => ?_)
    · rw [if_pos b73] at h
      refine E_blk (lv' := [some (vr (some (11, this))), some (vi v1), none, some (vi v3), some (vi v4), some (vi v5), some (vi v6), some (vi v7), some (vi v8)]) (st' := [vi (v1 &&& (6 : Int32)), vi (5 : Int32), vr (some (11, this))]) (M1 := M71) (pc' := 351) (tb_Model hγ) [.iload_n 1, .bipush 6, .iand] (by decide +kernel) rfl rfl trivial ?_
      refine E_if_ne (off := 11) (tgt := 362) (by decide +kernel) (by decide) (fun b74 => ?_) (fun b74 => ?_)
      · rw [if_pos b74] at h
        refine E_blk (lv' := [some (vr (some (11, this))), some (vi v1), none, some (vi v3), some (vi v4), some (vi v5), some (vi v6), some (vi v7), some (vi v8)]) (st' := [vi (mI M71 11 this 6), vi v3, vi (5 : Int32), vr (some (11, this))]) (M1 := M71) (pc' := 359) (tb_Model hγ) [.iload_n 3, .aload_n 0, .getfield 121] (by decide +kernel) rfl rfl trivial ?_
        refine E_icmp_ne (off := 7) (tgt := 366) (by decide +kernel) (by decide) (fun b75 => ?_) (fun b75 => ?_)
        · rw [if_pos b75] at h
          refine E_mask [true, true, false, true, true, true, true, false, true] rfl ?_
          exact lk_Model_methodLine_j362 hγ this Q X v1 v3 v4 v5 v6 v8 (5 : Int32) M71 h
        · rw [if_neg b75] at h
          refine E_mask [true, true, false, true, true, true, true, false, true] rfl ?_
          exact lk_Model_methodLine_j366 hγ this Q X v1 v3 v4 v5 v6 v8 (5 : Int32) M71 h
      · rw [if_neg b74] at h
        refine E_mask [true, true, false, true, true, true, true, false, true] rfl ?_
        exact lk_Model_methodLine_j362 hγ this Q X v1 v3 v4 v5 v6 v8 (5 : Int32) M71 h
    · rw [if_neg b73] at h
      refine E_mask [true, true, false, true, true, true, true, false, true] rfl ?_
      exact lk_Model_methodLine_j366 hγ this Q X v1 v3 v4 v5 v6 v8 (5 : Int32) M71 h
set_option maxRecDepth 4096 in
theorem lk_Model_methodLine_j328 {γ : Gm} (hγ : Gk γ) (this : Nat) (Q : Mem → Prop) (X : Mem → Prop) (v1 : Int32) (v3 : Int32) (v4 : Int32) (v5 : Int32) (v6 : Int32) (v7 : Int32) (v8 : Int32) (s0 : Int32) (M : Mem) (h : w_Model_methodLine_j328 this Q X v1 v3 v4 v5 v6 v7 v8 s0 M) : E γ k_Model_methodLine 7 328 [some (vr (some (11, this))), some (vi v1), none, some (vi v3), some (vi v4), some (vi v5), some (vi v6), some (vi v7), some (vi v8)] [vi s0, vr (some (11, this))] M (Qx (14, 0) (Qv Q) X) := by
  unfold w_Model_methodLine_j328 at h
  refine E_blk (lv' := [some (vr (some (11, this))), some (vi v1), none, some (vi v3), some (vi v4), some (vi v5), some (vi v6), some (vi v7), some (vi v8)]) (st' := [vi (0 : Int32), vi s0, vr (some (11, this))]) (M1 := M) (pc' := 329) (tb_Model hγ) [.iconst 0] (by decide +kernel) rfl rfl trivial ?_
  refine E_mask [true, true, false, true, true, true, true, true, true] rfl ?_
  exact lk_Model_methodLine_j329 hγ this Q X v1 v3 v4 v5 v6 v7 v8 (0 : Int32) s0 M h
set_option maxRecDepth 4096 in
theorem lk_Model_methodLine_j301 {γ : Gm} (hγ : Gk γ) (this : Nat) (Q : Mem → Prop) (X : Mem → Prop) (v1 : Int32) (v3 : Int32) (v4 : Int32) (v5 : Int32) (v6 : Int32) (v7 : Int32) (s0 : Int32) (M : Mem) (h : w_Model_methodLine_j301 this Q X v1 v3 v4 v5 v6 v7 s0 M) : E γ k_Model_methodLine 7 301 [some (vr (some (11, this))), some (vi v1), none, some (vi v3), some (vi v4), some (vi v5), some (vi v6), some (vi v7), none] [vi s0] M (Qx (14, 0) (Qv Q) X) := by
  unfold w_Model_methodLine_j301 at h
  refine E_blk (lv' := [some (vr (some (11, this))), some (vi v1), none, some (vi v3), some (vi v4), some (vi v5), some (vi v6), some (vi v7), some (vi s0)]) (st' := [vi s0, vi (4 : Int32), vr (some (11, this))]) (M1 := M) (pc' := 307) (tb_Model hγ) [.istore 8, .aload_n 0, .iconst 4, .iload 8] (by decide +kernel) rfl rfl trivial ?_
  refine E_if_eq (off := 21) (tgt := 328) (by decide +kernel) (by decide) (fun b15 => ?_) (fun b15 => ?_)
  · rw [if_pos b15] at h
    refine E_mask [true, true, false, true, true, true, true, true, true] rfl ?_
    exact lk_Model_methodLine_j328 hγ this Q X v1 v3 v4 v5 v6 v7 s0 (4 : Int32) M h
  · rw [if_neg b15] at h
    refine E_blk (lv' := [some (vr (some (11, this))), some (vi v1), none, some (vi v3), some (vi v4), some (vi v5), some (vi v6), some (vi v7), some (vi s0)]) (st' := [vi (8 : Int32), vi v1, vi (4 : Int32), vr (some (11, this))]) (M1 := M) (pc' := 313) (tb_Model hγ) [.iload_n 1, .bipush 8] (by decide +kernel) rfl rfl trivial ?_
    refine E_icmp_eq (off := 15) (tgt := 328) (by decide +kernel) (by decide) (fun b76 => ?_) (fun b76 => ?_)
    · rw [if_pos b76] at h
      refine E_mask [true, true, false, true, true, true, true, true, true] rfl ?_
      exact lk_Model_methodLine_j328 hγ this Q X v1 v3 v4 v5 v6 v7 s0 (4 : Int32) M h
    · rw [if_neg b76] at h
      refine E_blk (lv' := [some (vr (some (11, this))), some (vi v1), none, some (vi v3), some (vi v4), some (vi v5), some (vi v6), some (vi v7), some (vi s0)]) (st' := [vi (0 : Int32), vr (some (11, this)), vi (4 : Int32), vr (some (11, this))]) (M1 := M) (pc' := 318) (tb_Model hγ) [.aload_n 0, .iconst 0] (by decide +kernel) rfl rfl trivial ?_
      refine E_callV (κ' := k_Model_isOff) (As := [vi (0 : Int32)]) (st := [vi (4 : Int32), vr (some (11, this))]) mv_Model_isOff (Or.inl (tbk_mem (j := 15) (k := 47) rfl)) rfl (by decide +kernel) (Nat.le_of_ble_eq_true rfl) (Nat.le_of_ble_eq_true rfl) rfl (by decide) (lk_Model_isOff hγ this (0 : Int32) _ M h) (fun _ _ => Qi_r) (fun v M77 hp => Qi_k (R := fun st => E γ k_Model_methodLine 7 321 [some (vr (some (11, this))), some (vi v1), none, some (vi v3), some (vi v4), some (vi v5), some (vi v6), some (vi v7), some (vi s0)] st M77 (Qx (14, 0) (Qv Q) X)) hp (fun r78 h => ?_))
      refine E_if_ne (off := 7) (tgt := 328) (by decide +kernel) (by decide) (fun b79 => ?_) (fun b79 => ?_)
      · rw [if_pos b79] at h
        refine E_blk (lv' := [some (vr (some (11, this))), some (vi v1), none, some (vi v3), some (vi v4), some (vi v5), some (vi v6), some (vi v7), some (vi s0)]) (st' := [vi (1 : Int32), vi (4 : Int32), vr (some (11, this))]) (M1 := M77) (pc' := 325) (tb_Model hγ) [.iconst 1] (by decide +kernel) rfl rfl trivial ?_
        refine E_goto (off := 4) (tgt := 329) (by decide +kernel) (by decide) ?_
        refine E_mask [true, true, false, true, true, true, true, true, true] rfl ?_
        exact lk_Model_methodLine_j329 hγ this Q X v1 v3 v4 v5 v6 v7 s0 (1 : Int32) (4 : Int32) M77 h
      · rw [if_neg b79] at h
        refine E_mask [true, true, false, true, true, true, true, true, true] rfl ?_
        exact lk_Model_methodLine_j328 hγ this Q X v1 v3 v4 v5 v6 v7 s0 (4 : Int32) M77 h
set_option maxRecDepth 4096 in
theorem lk_Model_methodLine_j287 {γ : Gm} (hγ : Gk γ) (this : Nat) (Q : Mem → Prop) (X : Mem → Prop) (v1 : Int32) (v3 : Int32) (v4 : Int32) (v5 : Int32) (v6 : Int32) (s0 : Int32) (M : Mem) (h : w_Model_methodLine_j287 this Q X v1 v3 v4 v5 v6 s0 M) : E γ k_Model_methodLine 7 287 [some (vr (some (11, this))), some (vi v1), none, some (vi v3), some (vi v4), some (vi v5), some (vi v6), none, none] [vi s0] M (Qx (14, 0) (Qv Q) X) := by
  unfold w_Model_methodLine_j287 at h
  refine E_blk (lv' := [some (vr (some (11, this))), some (vi v1), none, some (vi v3), some (vi v4), some (vi v5), some (vi v6), some (vi s0), none]) (st' := [vi (v1 &&& (8 : Int32))]) (M1 := M) (pc' := 293) (tb_Model hγ) [.istore 7, .iload_n 1, .bipush 8, .iand] (by decide +kernel) rfl rfl trivial ?_
  refine E_if_eq (off := 7) (tgt := 300) (by decide +kernel) (by decide) (fun b14 => ?_) (fun b14 => ?_)
  · rw [if_pos b14] at h
    refine E_blk (lv' := [some (vr (some (11, this))), some (vi v1), none, some (vi v3), some (vi v4), some (vi v5), some (vi v6), some (vi s0), none]) (st' := [vi (0 : Int32)]) (M1 := M) (pc' := 301) (tb_Model hγ) [.iconst 0] (by decide +kernel) rfl rfl trivial ?_
    refine E_mask [true, true, false, true, true, true, true, true, false] rfl ?_
    exact lk_Model_methodLine_j301 hγ this Q X v1 v3 v4 v5 v6 s0 (0 : Int32) M h
  · rw [if_neg b14] at h
    refine E_blk (lv' := [some (vr (some (11, this))), some (vi v1), none, some (vi v3), some (vi v4), some (vi v5), some (vi v6), some (vi s0), none]) (st' := [vi (1 : Int32)]) (M1 := M) (pc' := 297) (tb_Model hγ) [.iconst 1] (by decide +kernel) rfl rfl trivial ?_
    refine E_goto (off := 4) (tgt := 301) (by decide +kernel) (by decide) ?_
    refine E_mask [true, true, false, true, true, true, true, true, false] rfl ?_
    exact lk_Model_methodLine_j301 hγ this Q X v1 v3 v4 v5 v6 s0 (1 : Int32) M h
set_option maxRecDepth 4096 in
theorem lk_Model_methodLine_j256 {γ : Gm} (hγ : Gk γ) (this : Nat) (Q : Mem → Prop) (X : Mem → Prop) (k207 : Int32 → Int32 → Int32 → Int32 → Int32 → Int32 → Mem → Prop) (hk207 : ∀ (v1 : Int32) (v3 : Int32) (v4 : Int32) (v5 : Int32) (v6 : Int32) (v7 : Int32) (M : Mem), k207 v1 v3 v4 v5 v6 v7 M → E γ k_Model_methodLine 7 207 [some (vr (some (11, this))), some (vi v1), none, some (vi v3), some (vi v4), some (vi v5), some (vi v6), some (vi v7), none] [] M (Qx (14, 0) (Qv Q) X)) (v1 : Int32) (v3 : Int32) (v4 : Int32) (v5 : Int32) (v6 : Int32) (v7 : Int32) (s0 : Int32) (s1 : Int32) (M : Mem) (h : w_Model_methodLine_j256 this Q X k207 v1 v3 v4 v5 v6 v7 s0 s1 M) : E γ k_Model_methodLine 7 256 [some (vr (some (11, this))), some (vi v1), none, some (vi v3), some (vi v4), some (vi v5), some (vi v6), some (vi v7), none] [vi s0, vi s1, vr (some (11, this))] M (Qx (14, 0) (Qv Q) X) := by
  unfold w_Model_methodLine_j256 at h
  refine E_callV (κ' := k_Model_asks) (As := [vi s1, vi s0]) (st := []) mv_Model_asks (Or.inl (tbk_mem (j := 15) (k := 43) rfl)) rfl (by decide +kernel) (Nat.le_of_ble_eq_true rfl) (Nat.le_of_ble_eq_true rfl) rfl (by decide) (lk_Model_asks hγ this s1 s0 _ M h) (fun _ _ => Qv_r) (fun v M86 hp => Qv_k (R := fun st => E γ k_Model_methodLine 7 259 [some (vr (some (11, this))), some (vi v1), none, some (vi v3), some (vi v4), some (vi v5), some (vi v6), some (vi v7), none] st M86 (Qx (14, 0) (Qv Q) X)) hp (fun h => ?_))
  refine E_blk (lv' := [some (vr (some (11, this))), some (vi v1), none, some (vi v3), some (vi v4), some (vi v5), some (vi v6), some (vi (v7 + (1 : Int32))), none]) (st' := []) (M1 := M86) (pc' := 262) (tb_Model hγ) [.iinc 7 1] (by decide +kernel) rfl rfl trivial ?_
  refine E_goto (off := -55) (tgt := 207) (by decide +kernel) (by decide) ?_
  refine E_mask [true, true, false, true, true, true, true, true, false] rfl ?_
  exact hk207 v1 v3 v4 v5 v6 (v7 + (1 : Int32)) M86 h
set_option maxRecDepth 4096 in
theorem lk_Model_methodLine_j255 {γ : Gm} (hγ : Gk γ) (this : Nat) (Q : Mem → Prop) (X : Mem → Prop) (k207 : Int32 → Int32 → Int32 → Int32 → Int32 → Int32 → Mem → Prop) (hk207 : ∀ (v1 : Int32) (v3 : Int32) (v4 : Int32) (v5 : Int32) (v6 : Int32) (v7 : Int32) (M : Mem), k207 v1 v3 v4 v5 v6 v7 M → E γ k_Model_methodLine 7 207 [some (vr (some (11, this))), some (vi v1), none, some (vi v3), some (vi v4), some (vi v5), some (vi v6), some (vi v7), none] [] M (Qx (14, 0) (Qv Q) X)) (v1 : Int32) (v3 : Int32) (v4 : Int32) (v5 : Int32) (v6 : Int32) (v7 : Int32) (s0 : Int32) (M : Mem) (h : w_Model_methodLine_j255 this Q X k207 v1 v3 v4 v5 v6 v7 s0 M) : E γ k_Model_methodLine 7 255 [some (vr (some (11, this))), some (vi v1), none, some (vi v3), some (vi v4), some (vi v5), some (vi v6), some (vi v7), none] [vi s0, vr (some (11, this))] M (Qx (14, 0) (Qv Q) X) := by
  unfold w_Model_methodLine_j255 at h
  refine E_blk (lv' := [some (vr (some (11, this))), some (vi v1), none, some (vi v3), some (vi v4), some (vi v5), some (vi v6), some (vi v7), none]) (st' := [vi (0 : Int32), vi s0, vr (some (11, this))]) (M1 := M) (pc' := 256) (tb_Model hγ) [.iconst 0] (by decide +kernel) rfl rfl trivial ?_
  refine E_mask [true, true, false, true, true, true, true, true, false] rfl ?_
  exact lk_Model_methodLine_j256 hγ this Q X k207 hk207 v1 v3 v4 v5 v6 v7 (0 : Int32) s0 M h
set_option maxRecDepth 4096 in
theorem lk_Model_methodLine_L207 {γ : Gm} (hγ : Gk γ) (this : Nat) (Q : Mem → Prop) (X : Mem → Prop) : ∀ (n : Nat) (v1 : Int32) (v3 : Int32) (v4 : Int32) (v5 : Int32) (v6 : Int32) (v7 : Int32) (M : Mem), w_Model_methodLine_L207 this Q X n v1 v3 v4 v5 v6 v7 M → E γ k_Model_methodLine 7 207 [some (vr (some (11, this))), some (vi v1), none, some (vi v3), some (vi v4), some (vi v5), some (vi v6), some (vi v7), none] [] M (Qx (14, 0) (Qv Q) X) := by
  intro n
  induction n with
  | zero => intro v1 v3 v4 v5 v6 v7 M h; exact h.elim
  | succ n ih =>
    intro v1 v3 v4 v5 v6 v7 M h
    unfold w_Model_methodLine_L207 at h
    refine E_blk (lv' := [some (vr (some (11, this))), some (vi v1), none, some (vi v3), some (vi v4), some (vi v5), some (vi v6), some (vi v7), none]) (st' := [vi v5, vi v7]) (M1 := M) (pc' := 211) (tb_Model hγ) [.iload 7, .iload 5] (by decide +kernel) rfl rfl trivial ?_
    refine E_icmp_ge (off := 54) (tgt := 265) (by decide +kernel) (by decide) (fun b10 => ?_) (fun b10 => ?_)
    · rw [if_pos b10] at h
      refine E_blk (lv' := [some (vr (some (11, this))), some (vi v1), none, some (vi v3), some (vi v4), some (vi v5), some (vi v6), some (vi v7), none]) (st' := [vr (mR M 11 this 45)]) (M1 := M) (pc' := 269) (tb_Model hγ) [.aload_n 0, .getfield 522] (by decide +kernel) rfl rfl trivial ?_
      obtain ⟨i11, ei11, h⟩ := h
      rw [ei11]
      obtain ⟨c12, h⟩ := h
      refine E_blk (lv' := [some (vr (some (11, this))), some (vi v1), none, some (vi v3), some (vi v4), some (vi v5), some (vi v6), some (vi v7), none]) (st' := [vi ((mI M 132 i11 (mI M 11 this 53).toNatClampNeg) &&& (4 : Int32))]) (M1 := M) (pc' := 279) (tb_Model hγ) [.getfield 429, .aload_n 0, .getfield 615, .iaload, .iconst 4, .iand] (by decide +kernel) rfl rfl ⟨c12, trivial⟩ ?_
      refine E_if_eq (off := 7) (tgt := 286) (by decide +kernel) (by decide) (fun b13 => ?_) (fun b13 => ?_)
      · rw [if_pos b13] at h
        refine E_blk (lv' := [some (vr (some (11, this))), some (vi v1), none, some (vi v3), some (vi v4), some (vi v5), some (vi v6), some (vi v7), none]) (st' := [vi (0 : Int32)]) (M1 := M) (pc' := 287) (tb_Model hγ) [.iconst 0] (by decide +kernel) rfl rfl trivial ?_
        refine E_mask [true, true, false, true, true, true, true, false, false] rfl ?_
        exact lk_Model_methodLine_j287 hγ this Q X v1 v3 v4 v5 v6 (0 : Int32) M h
      · rw [if_neg b13] at h
        refine E_blk (lv' := [some (vr (some (11, this))), some (vi v1), none, some (vi v3), some (vi v4), some (vi v5), some (vi v6), some (vi v7), none]) (st' := [vi (1 : Int32)]) (M1 := M) (pc' := 283) (tb_Model hγ) [.iconst 1] (by decide +kernel) rfl rfl trivial ?_
        refine E_goto (off := 4) (tgt := 287) (by decide +kernel) (by decide) ?_
        refine E_mask [true, true, false, true, true, true, true, false, false] rfl ?_
        exact lk_Model_methodLine_j287 hγ this Q X v1 v3 v4 v5 v6 (1 : Int32) M h
    · rw [if_neg b10] at h
      refine E_blk (lv' := [some (vr (some (11, this))), some (vi v1), none, some (vi v3), some (vi v4), some (vi v5), some (vi v6), some (vi v7), none]) (st' := [vr (mR M 11 this 45), vi (3 : Int32), vr (some (11, this))]) (M1 := M) (pc' := 220) (tb_Model hγ) [.aload_n 0, .iconst 3, .aload_n 0, .getfield 522] (by decide +kernel) rfl rfl trivial ?_
      obtain ⟨i80, ei80, h⟩ := h
      rw [ei80]
      obtain ⟨c81, h⟩ := h
      refine E_blk (lv' := [some (vr (some (11, this))), some (vi v1), none, some (vi v3), some (vi v4), some (vi v5), some (vi v6), some (vi v7), none]) (st' := [vi v3, vi (mI M 144 i80 (v6 + v7).toNatClampNeg), vi (3 : Int32), vr (some (11, this))]) (M1 := M) (pc' := 230) (tb_Model hγ) [.getfield 447, .iload 6, .iload 7, .iadd, .iaload, .iload_n 3] (by decide +kernel) rfl rfl ⟨c81, trivial⟩ ?_
      refine E_icmp_ne (off := 25) (tgt := 255) (by decide +kernel) (by decide) (fun b82 => ?_) (fun b82 => ?_)
      · rw [if_pos b82] at h
        refine E_blk (lv' := [some (vr (some (11, this))), some (vi v1), none, some (vi v3), some (vi v4), some (vi v5), some (vi v6), some (vi v7), none]) (st' := [vr (mR M 11 this 45), vi (3 : Int32), vr (some (11, this))]) (M1 := M) (pc' := 237) (tb_Model hγ) [.aload_n 0, .getfield 522] (by decide +kernel) rfl rfl trivial ?_
        obtain ⟨i83, ei83, h⟩ := h
        rw [ei83]
        obtain ⟨c84, h⟩ := h
        refine E_blk (lv' := [some (vr (some (11, this))), some (vi v1), none, some (vi v3), some (vi v4), some (vi v5), some (vi v6), some (vi v7), none]) (st' := [vi v4, vi (mI M 145 i83 (v6 + v7).toNatClampNeg), vi (3 : Int32), vr (some (11, this))]) (M1 := M) (pc' := 248) (tb_Model hγ) [.getfield 450, .iload 6, .iload 7, .iadd, .iaload, .iload 4] (by decide +kernel) rfl rfl ⟨c84, trivial⟩ ?_
        refine E_icmp_ne (off := 7) (tgt := 255) (by decide +kernel) (by decide) (fun b85 => ?_) (fun b85 => ?_)
        · rw [if_pos b85] at h
          refine E_blk (lv' := [some (vr (some (11, this))), some (vi v1), none, some (vi v3), some (vi v4), some (vi v5), some (vi v6), some (vi v7), none]) (st' := [vi (1 : Int32), vi (3 : Int32), vr (some (11, this))]) (M1 := M) (pc' := 252) (tb_Model hγ) [.iconst 1] (by decide +kernel) rfl rfl trivial ?_
          refine E_goto (off := 4) (tgt := 256) (by decide +kernel) (by decide) ?_
          refine E_mask [true, true, false, true, true, true, true, true, false] rfl ?_
          exact lk_Model_methodLine_j256 hγ this Q X (w_Model_methodLine_L207 this Q X n) ih v1 v3 v4 v5 v6 v7 (1 : Int32) (3 : Int32) M h
        · rw [if_neg b85] at h
          refine E_mask [true, true, false, true, true, true, true, true, false] rfl ?_
          exact lk_Model_methodLine_j255 hγ this Q X (w_Model_methodLine_L207 this Q X n) ih v1 v3 v4 v5 v6 v7 (3 : Int32) M h
      · rw [if_neg b82] at h
        refine E_mask [true, true, false, true, true, true, true, true, false] rfl ?_
        exact lk_Model_methodLine_j255 hγ this Q X (w_Model_methodLine_L207 this Q X n) ih v1 v3 v4 v5 v6 v7 (3 : Int32) M h
set_option maxRecDepth 4096 in
theorem lk_Model_methodLine_j150 {γ : Gm} (hγ : Gk γ) (this : Nat) (Q : Mem → Prop) (X : Mem → Prop) (v1 : Int32) (M : Mem) (h : w_Model_methodLine_j150 this Q X v1 M) : E γ k_Model_methodLine 7 150 [some (vr (some (11, this))), some (vi v1), none, none, none, none, none, none, none] [] M (Qx (14, 0) (Qv Q) X) := by
  unfold w_Model_methodLine_j150 at h
  obtain ⟨c4, h⟩ := h
  refine E_blk (lv' := [some (vr (some (11, this))), some (vi v1), none, some (vi (mI M 107 this (mI M 11 this 43).toNatClampNeg)), none, none, none, none, none]) (st' := [vr (some (11, this))]) (M1 := (sI M 11 this 43 ((mI M 11 this 43) + (1 : Int32)))) (pc' := 171) (tb_Model hγ) [.aload_n 0, .getfield 98, .aload_n 0, .getfield 104, .iaload, .istore_n 3, .aload_n 0, .dup, .getfield 104, .iconst 1, .iadd, .putfield 104, .aload_n 0] (by decide +kernel) rfl rfl ⟨c4, trivial⟩ ?_
  refine E_callX (κ' := k_Model_wholeSignature) (As := []) (st := []) mv_Model_wholeSignature (Or.inl (tbk_mem (j := 15) (k := 68) rfl)) rfl (by decide +kernel) (Nat.le_of_ble_eq_true rfl) (Nat.le_of_ble_eq_true rfl) rfl (by decide) rfl (lk_Model_wholeSignature hγ this _ _ (sI M 11 this 43 ((mI M 11 this 43) + (1 : Int32))) h) (fun _ _ => Qi_r) (fun _ h => h) (fun v M5 hp => Qi_k (R := fun st => E γ k_Model_methodLine 7 174 [some (vr (some (11, this))), some (vi v1), none, some (vi (mI M 107 this (mI M 11 this 43).toNatClampNeg)), none, none, none, none, none] st M5 (Qx (14, 0) (Qv Q) X)) hp (fun r6 h => ?_))
  refine E_blk (lv' := [some (vr (some (11, this))), some (vi v1), none, some (vi (mI M 107 this (mI M 11 this 43).toNatClampNeg)), some (vi r6), none, none, none, none]) (st' := [vi (0 : Int32), vr (some (11, this))]) (M1 := M5) (pc' := 178) (tb_Model hγ) [.istore 4, .aload_n 0, .iconst 0] (by decide +kernel) rfl rfl trivial ?_
  refine E_callX (κ' := k_Model_need) (As := [vi (0 : Int32)]) (st := []) mv_Model_need (Or.inl (tbk_mem (j := 15) (k := 35) rfl)) rfl (by decide +kernel) (Nat.le_of_ble_eq_true rfl) (Nat.le_of_ble_eq_true rfl) rfl (by decide) rfl (lk_Model_need hγ this (0 : Int32) _ _ M5 h) (fun _ _ => Qv_r) (fun _ h => h) (fun v M7 hp => Qv_k (R := fun st => E γ k_Model_methodLine 7 181 [some (vr (some (11, this))), some (vi v1), none, some (vi (mI M 107 this (mI M 11 this 43).toNatClampNeg)), some (vi r6), none, none, none, none] st M7 (Qx (14, 0) (Qv Q) X)) hp (fun h => ?_))
  refine E_blk (lv' := [some (vr (some (11, this))), some (vi v1), none, some (vi (mI M 107 this (mI M 11 this 43).toNatClampNeg)), some (vi r6), none, none, none, none]) (st' := [vr (mR M7 11 this 45)]) (M1 := M7) (pc' := 185) (tb_Model hγ) [.aload_n 0, .getfield 522] (by decide +kernel) rfl rfl trivial ?_
  obtain ⟨i8, ei8, h⟩ := h
  rw [ei8]
  obtain ⟨c9, h⟩ := h
  refine E_blk (lv' := [some (vr (some (11, this))), some (vi v1), none, some (vi (mI M 107 this (mI M 11 this 43).toNatClampNeg)), some (vi r6), some (vi (mI M7 136 i8 (mI M7 11 this 53).toNatClampNeg)), some (vi ((12 : Int32) * (mI M7 11 this 53))), some (vi (0 : Int32)), none]) (st' := []) (M1 := M7) (pc' := 207) (tb_Model hγ) [.getfield 438, .aload_n 0, .getfield 615, .iaload, .istore 5, .bipush 12, .aload_n 0, .getfield 615, .imul, .istore 6, .iconst 0, .istore 7] (by decide +kernel) rfl rfl ⟨c9, trivial⟩ ?_
  obtain ⟨n87, h⟩ := h
  refine E_mask [true, true, false, true, true, true, true, true, false] rfl ?_
  exact lk_Model_methodLine_L207 hγ this Q X n87 v1 (mI M 107 this (mI M 11 this 43).toNatClampNeg) r6 (mI M7 136 i8 (mI M7 11 this 53).toNatClampNeg) ((12 : Int32) * (mI M7 11 this 53)) (0 : Int32) M7 h
set_option maxRecDepth 4096 in
theorem lk_Model_methodLine_j113 {γ : Gm} (hγ : Gk γ) (this : Nat) (Q : Mem → Prop) (X : Mem → Prop) (k4 : Int32 → Int32 → Mem → Prop) (hk4 : ∀ (v1 : Int32) (v2 : Int32) (M : Mem), k4 v1 v2 M → E γ k_Model_methodLine 7 4 [some (vr (some (11, this))), some (vi v1), some (vi v2), none, none, none, none, none, none] [] M (Qx (14, 0) (Qv Q) X)) (v1 : Int32) (v2 : Int32) (s0 : Int32) (s1 : Int32) (M : Mem) (h : w_Model_methodLine_j113 this Q X k4 v1 v2 s0 s1 M) : E γ k_Model_methodLine 7 113 [some (vr (some (11, this))), some (vi v1), some (vi v2), none, none, none, none, none, none] [vi s0, vi s1, vr (some (11, this))] M (Qx (14, 0) (Qv Q) X) := by
  unfold w_Model_methodLine_j113 at h
  refine E_blk (lv' := [some (vr (some (11, this))), some (vi v1), some (vi v2), none, none, none, none, none, none]) (st' := []) (M1 := (sI M 11 this 43 (s1 + s0))) (pc' := 117) (tb_Model hγ) [.iadd, .putfield 104] (by decide +kernel) rfl rfl trivial ?_
  refine E_goto (off := -113) (tgt := 4) (by decide +kernel) (by decide) ?_
  refine E_mask [true, true, true, false, false, false, false, false, false] rfl ?_
  exact hk4 v1 v2 (sI M 11 this 43 (s1 + s0)) h
set_option maxRecDepth 4096 in
theorem lk_Model_methodLine_j97 {γ : Gm} (hγ : Gk γ) (this : Nat) (Q : Mem → Prop) (X : Mem → Prop) (k4 : Int32 → Int32 → Mem → Prop) (hk4 : ∀ (v1 : Int32) (v2 : Int32) (M : Mem), k4 v1 v2 M → E γ k_Model_methodLine 7 4 [some (vr (some (11, this))), some (vi v1), some (vi v2), none, none, none, none, none, none] [] M (Qx (14, 0) (Qv Q) X)) (v2 : Int32) (s0 : Int32) (s1 : Int32) (M : Mem) (h : w_Model_methodLine_j97 this Q X k4 v2 s0 s1 M) : E γ k_Model_methodLine 7 97 [some (vr (some (11, this))), none, some (vi v2), none, none, none, none, none, none] [vi s0, vi s1] M (Qx (14, 0) (Qv Q) X) := by
  unfold w_Model_methodLine_j97 at h
  refine E_blk (lv' := [some (vr (some (11, this))), some (vi (s1 ||| s0)), some (vi v2), none, none, none, none, none, none]) (st' := [vi v2, vi (mI M 11 this 43), vr (some (11, this))]) (M1 := M) (pc' := 105) (tb_Model hγ) [.ior, .istore_n 1, .aload_n 0, .dup, .getfield 104, .iload_n 2] (by decide +kernel) rfl rfl trivial ?_
  refine E_if_eq (off := 7) (tgt := 112) (by decide +kernel) (by decide) (fun b105 => ?_) (fun b105 => ?_)
  · rw [if_pos b105] at h
    refine E_blk (lv' := [some (vr (some (11, this))), some (vi (s1 ||| s0)), some (vi v2), none, none, none, none, none, none]) (st' := [vi (0 : Int32), vi (mI M 11 this 43), vr (some (11, this))]) (M1 := M) (pc' := 113) (tb_Model hγ) [.iconst 0] (by decide +kernel) rfl rfl trivial ?_
    refine E_mask [true, true, true, false, false, false, false, false, false] rfl ?_
    exact lk_Model_methodLine_j113 hγ this Q X k4 hk4 (s1 ||| s0) v2 (0 : Int32) (mI M 11 this 43) M h
  · rw [if_neg b105] at h
    refine E_blk (lv' := [some (vr (some (11, this))), some (vi (s1 ||| s0)), some (vi v2), none, none, none, none, none, none]) (st' := [vi (1 : Int32), vi (mI M 11 this 43), vr (some (11, this))]) (M1 := M) (pc' := 109) (tb_Model hγ) [.iconst 1] (by decide +kernel) rfl rfl trivial ?_
    refine E_goto (off := 4) (tgt := 113) (by decide +kernel) (by decide) ?_
    refine E_mask [true, true, true, false, false, false, false, false, false] rfl ?_
    exact lk_Model_methodLine_j113 hγ this Q X k4 hk4 (s1 ||| s0) v2 (1 : Int32) (mI M 11 this 43) M h
set_option maxRecDepth 4096 in
theorem lk_Model_methodLine_j86 {γ : Gm} (hγ : Gk γ) (this : Nat) (Q : Mem → Prop) (X : Mem → Prop) (k4 : Int32 → Int32 → Mem → Prop) (hk4 : ∀ (v1 : Int32) (v2 : Int32) (M : Mem), k4 v1 v2 M → E γ k_Model_methodLine 7 4 [some (vr (some (11, this))), some (vi v1), some (vi v2), none, none, none, none, none, none] [] M (Qx (14, 0) (Qv Q) X)) (v1 : Int32) (v3 : Int32) (s0 : Int32) (M : Mem) (h : w_Model_methodLine_j86 this Q X k4 v1 v3 s0 M) : E γ k_Model_methodLine 7 86 [some (vr (some (11, this))), some (vi v1), none, some (vi v3), none, none, none, none, none] [vi s0] M (Qx (14, 0) (Qv Q) X) := by
  unfold w_Model_methodLine_j86 at h
  refine E_blk (lv' := [some (vr (some (11, this))), some (vi v1), some (vi s0), some (vi v3), none, none, none, none, none]) (st' := [vi s0, vi v1]) (M1 := M) (pc' := 89) (tb_Model hγ) [.istore_n 2, .iload_n 1, .iload_n 2] (by decide +kernel) rfl rfl trivial ?_
  refine E_if_eq (off := 7) (tgt := 96) (by decide +kernel) (by decide) (fun b104 => ?_) (fun b104 => ?_)
  · rw [if_pos b104] at h
    refine E_blk (lv' := [some (vr (some (11, this))), some (vi v1), some (vi s0), some (vi v3), none, none, none, none, none]) (st' := [vi (0 : Int32), vi v1]) (M1 := M) (pc' := 97) (tb_Model hγ) [.iconst 0] (by decide +kernel) rfl rfl trivial ?_
    refine E_mask [true, false, true, false, false, false, false, false, false] rfl ?_
    exact lk_Model_methodLine_j97 hγ this Q X k4 hk4 s0 (0 : Int32) v1 M h
  · rw [if_neg b104] at h
    refine E_blk (lv' := [some (vr (some (11, this))), some (vi v1), some (vi s0), some (vi v3), none, none, none, none, none]) (st' := [vi v3, vi v1]) (M1 := M) (pc' := 93) (tb_Model hγ) [.iload_n 3] (by decide +kernel) rfl rfl trivial ?_
    refine E_goto (off := 4) (tgt := 97) (by decide +kernel) (by decide) ?_
    refine E_mask [true, false, true, false, false, false, false, false, false] rfl ?_
    exact lk_Model_methodLine_j97 hγ this Q X k4 hk4 s0 v3 v1 M h
set_option maxRecDepth 4096 in
theorem lk_Model_methodLine_j85 {γ : Gm} (hγ : Gk γ) (this : Nat) (Q : Mem → Prop) (X : Mem → Prop) (k4 : Int32 → Int32 → Mem → Prop) (hk4 : ∀ (v1 : Int32) (v2 : Int32) (M : Mem), k4 v1 v2 M → E γ k_Model_methodLine 7 4 [some (vr (some (11, this))), some (vi v1), some (vi v2), none, none, none, none, none, none] [] M (Qx (14, 0) (Qv Q) X)) (v1 : Int32) (v3 : Int32) (M : Mem) (h : w_Model_methodLine_j85 this Q X k4 v1 v3 M) : E γ k_Model_methodLine 7 85 [some (vr (some (11, this))), some (vi v1), none, some (vi v3), none, none, none, none, none] [] M (Qx (14, 0) (Qv Q) X) := by
  unfold w_Model_methodLine_j85 at h
  refine E_blk (lv' := [some (vr (some (11, this))), some (vi v1), none, some (vi v3), none, none, none, none, none]) (st' := [vi (0 : Int32)]) (M1 := M) (pc' := 86) (tb_Model hγ) [.iconst 0] (by decide +kernel) rfl rfl trivial ?_
  refine E_mask [true, true, false, true, false, false, false, false, false] rfl ?_
  exact lk_Model_methodLine_j86 hγ this Q X k4 hk4 v1 v3 (0 : Int32) M h
set_option maxRecDepth 4096 in
theorem lk_Model_methodLine_j70 {γ : Gm} (hγ : Gk γ) (this : Nat) (Q : Mem → Prop) (X : Mem → Prop) (k4 : Int32 → Int32 → Mem → Prop) (hk4 : ∀ (v1 : Int32) (v2 : Int32) (M : Mem), k4 v1 v2 M → E γ k_Model_methodLine 7 4 [some (vr (some (11, this))), some (vi v1), some (vi v2), none, none, none, none, none, none] [] M (Qx (14, 0) (Qv Q) X)) (v1 : Int32) (s0 : Int32) (M : Mem) (h : w_Model_methodLine_j70 this Q X k4 v1 s0 M) : E γ k_Model_methodLine 7 70 [some (vr (some (11, this))), some (vi v1), none, none, none, none, none, none, none] [vi s0] M (Qx (14, 0) (Qv Q) X) := by
  unfold w_Model_methodLine_j70 at h
  refine E_blk (lv' := [some (vr (some (11, this))), some (vi v1), none, some (vi s0), none, none, none, none, none]) (st' := [vi s0]) (M1 := M) (pc' := 72) (tb_Model hγ) [.istore_n 3, .iload_n 3] (by decide +kernel) rfl rfl trivial ?_
  refine E_if_eq (off := 13) (tgt := 85) (by decide +kernel) (by decide) (fun b103 => ?_) (fun b103 => ?_)
  · rw [if_pos b103] at h
    refine E_mask [true, true, false, true, false, false, false, false, false] rfl ?_
    exact lk_Model_methodLine_j85 hγ this Q X k4 hk4 v1 s0 M h
  · rw [if_neg b103] at h
    refine E_blk (lv' := [some (vr (some (11, this))), some (vi v1), none, some (vi s0), none, none, none, none, none]) (st' := [vi (v1 &&& s0)]) (M1 := M) (pc' := 78) (tb_Model hγ) [.iload_n 1, .iload_n 3, .iand] (by decide +kernel) rfl rfl trivial ?_
    refine E_if_ne (off := 7) (tgt := 85) (by decide +kernel) (by decide) (fun b106 => ?_) (fun b106 => ?_)
    · rw [if_pos b106] at h
      refine E_blk (lv' := [some (vr (some (11, this))), some (vi v1), none, some (vi s0), none, none, none, none, none]) (st' := [vi (1 : Int32)]) (M1 := M) (pc' := 82) (tb_Model hγ) [.iconst 1] (by decide +kernel) rfl rfl trivial ?_
      refine E_goto (off := 4) (tgt := 86) (by decide +kernel) (by decide) ?_
      refine E_mask [true, true, false, true, false, false, false, false, false] rfl ?_
      exact lk_Model_methodLine_j86 hγ this Q X k4 hk4 v1 s0 (1 : Int32) M h
    · rw [if_neg b106] at h
      refine E_mask [true, true, false, true, false, false, false, false, false] rfl ?_
      exact lk_Model_methodLine_j85 hγ this Q X k4 hk4 v1 s0 M h
set_option maxRecDepth 4096 in
theorem lk_Model_methodLine_L4 {γ : Gm} (hγ : Gk γ) (this : Nat) (Q : Mem → Prop) (X : Mem → Prop) : ∀ (n : Nat) (v1 : Int32) (v2 : Int32) (M : Mem), w_Model_methodLine_L4 this Q X n v1 v2 M → E γ k_Model_methodLine 7 4 [some (vr (some (11, this))), some (vi v1), some (vi v2), none, none, none, none, none, none] [] M (Qx (14, 0) (Qv Q) X) := by
  intro n
  induction n with
  | zero => intro v1 v2 M h; exact h.elim
  | succ n ih =>
    intro v1 v2 M h
    unfold w_Model_methodLine_L4 at h
    refine E_blk (lv' := [some (vr (some (11, this))), some (vi v1), some (vi v2), none, none, none, none, none, none]) (st' := [vi v2]) (M1 := M) (pc' := 5) (tb_Model hγ) [.iload_n 2] (by decide +kernel) rfl rfl trivial ?_
    refine E_if_eq (off := 115) (tgt := 120) (by decide +kernel) (by decide) (fun b1 => ?_) (fun b1 => ?_)
    · rw [if_pos b1] at h
      obtain ⟨c2, h⟩ := h
      refine E_blk (lv' := [some (vr (some (11, this))), some (vi v1), some (vi v2), none, none, none, none, none, none]) (st' := [vi (2 : Int32), vi (mI M 411 this (mI M 11 this 43).toNatClampNeg)]) (M1 := M) (pc' := 130) (tb_Model hγ) [.aload_n 0, .getfield 92, .aload_n 0, .getfield 104, .baload, .iconst 2] (by decide +kernel) rfl rfl ⟨c2, trivial⟩ ?_
      refine E_icmp_eq (off := 20) (tgt := 150) (by decide +kernel) (by decide) (fun b3 => ?_) (fun b3 => ?_)
      · rw [if_pos b3] at h
        refine E_mask [true, true, false, false, false, false, false, false, false] rfl ?_
        exact lk_Model_methodLine_j150 hγ this Q X v1 M h
      · rw [if_neg b3] at h
        obtain ⟨c88, h⟩ := h
        refine E_blk (lv' := [some (vr (some (11, this))), some (vi v1), some (vi v2), none, none, none, none, none, none]) (st' := [vi (3 : Int32), vi (mI M 411 this (mI M 11 this 43).toNatClampNeg)]) (M1 := M) (pc' := 143) (tb_Model hγ) [.aload_n 0, .getfield 92, .aload_n 0, .getfield 104, .baload, .iconst 3] (by decide +kernel) rfl rfl ⟨c88, trivial⟩ ?_
        refine E_icmp_eq (off := 7) (tgt := 150) (by decide +kernel) (by decide) (fun b89 => ?_) (fun b89 => ?_)
        · rw [if_pos b89] at h
          refine E_mask [true, true, false, false, false, false, false, false, false] rfl ?_
          exact lk_Model_methodLine_j150 hγ this Q X v1 M h
        · rw [if_neg b89] at h
          refine E_blk (lv' := [some (vr (some (11, this))), some (vi v1), some (vi v2), none, none, none, none, none, none]) (st' := [vr (some (11, this))]) (M1 := M) (pc' := 147) (tb_Model hγ) [.aload_n 0] (by decide +kernel) rfl rfl trivial ?_
          refine E_callX (κ' := k_Model_wrong) (As := []) (st := []) mv_Model_wrong (Or.inl (tbk_mem (j := 15) (k := 19) rfl)) rfl (by decide +kernel) (Nat.le_of_ble_eq_true rfl) (Nat.le_of_ble_eq_true rfl) rfl (by decide) rfl (lk_Model_wrong hγ this _ _ M h) (fun _ _ => Qv_r) (fun _ h => h) (fun v M90 hp => Qv_k (R := fun st => E γ k_Model_methodLine 7 150 [some (vr (some (11, this))), some (vi v1), some (vi v2), none, none, none, none, none, none] st M90 (Qx (14, 0) (Qv Q) X)) hp (fun h => ?_))
          refine E_mask [true, true, false, false, false, false, false, false, false] rfl ?_
          exact lk_Model_methodLine_j150 hγ this Q X v1 M90 h
    · rw [if_neg b1] at h
      refine E_blk (lv' := [some (vr (some (11, this))), some (vi v1), some (vi v2), none, none, none, none, none, none]) (st' := [vi (mI M 11 this 29), vr (some (11, this))]) (M1 := M) (pc' := 13) (tb_Model hγ) [.aload_n 0, .aload_n 0, .getfield 251] (by decide +kernel) rfl rfl trivial ?_
      refine E_callV (κ' := k_Model_isWord) (As := [vi (mI M 11 this 29)]) (st := []) mv_Model_isWord (Or.inl (tbk_mem (j := 14) (k := 230) rfl)) rfl (by decide +kernel) (Nat.le_of_ble_eq_true rfl) (Nat.le_of_ble_eq_true rfl) rfl (by decide) (lk_Model_isWord hγ this (mI M 11 this 29) _ M h) (fun _ _ => Qi_r) (fun v M91 hp => Qi_k (R := fun st => E γ k_Model_methodLine 7 16 [some (vr (some (11, this))), some (vi v1), some (vi v2), none, none, none, none, none, none] st M91 (Qx (14, 0) (Qv Q) X)) hp (fun r92 h => ?_))
      refine E_if_eq (off := 7) (tgt := 23) (by decide +kernel) (by decide) (fun b93 => ?_) (fun b93 => ?_)
      · rw [if_pos b93] at h
        refine E_blk (lv' := [some (vr (some (11, this))), some (vi v1), some (vi v2), none, none, none, none, none, none]) (st' := [vi (mI M91 11 this 10), vr (some (11, this))]) (M1 := M91) (pc' := 28) (tb_Model hγ) [.aload_n 0, .aload_n 0, .getfield 163] (by decide +kernel) rfl rfl trivial ?_
        refine E_callV (κ' := k_Model_isWord) (As := [vi (mI M91 11 this 10)]) (st := []) mv_Model_isWord (Or.inl (tbk_mem (j := 14) (k := 230) rfl)) rfl (by decide +kernel) (Nat.le_of_ble_eq_true rfl) (Nat.le_of_ble_eq_true rfl) rfl (by decide) (lk_Model_isWord hγ this (mI M91 11 this 10) _ M91 h) (fun _ _ => Qi_r) (fun v M94 hp => Qi_k (R := fun st => E γ k_Model_methodLine 7 31 [some (vr (some (11, this))), some (vi v1), some (vi v2), none, none, none, none, none, none] st M94 (Qx (14, 0) (Qv Q) X)) hp (fun r95 h => ?_))
        refine E_if_eq (off := 7) (tgt := 38) (by decide +kernel) (by decide) (fun b96 => ?_) (fun b96 => ?_)
        · rw [if_pos b96] at h
          refine E_blk (lv' := [some (vr (some (11, this))), some (vi v1), some (vi v2), none, none, none, none, none, none]) (st' := [vi (mI M94 11 this 15), vr (some (11, this))]) (M1 := M94) (pc' := 43) (tb_Model hγ) [.aload_n 0, .aload_n 0, .getfield 188] (by decide +kernel) rfl rfl trivial ?_
          refine E_callV (κ' := k_Model_isWord) (As := [vi (mI M94 11 this 15)]) (st := []) mv_Model_isWord (Or.inl (tbk_mem (j := 14) (k := 230) rfl)) rfl (by decide +kernel) (Nat.le_of_ble_eq_true rfl) (Nat.le_of_ble_eq_true rfl) rfl (by decide) (lk_Model_isWord hγ this (mI M94 11 this 15) _ M94 h) (fun _ _ => Qi_r) (fun v M97 hp => Qi_k (R := fun st => E γ k_Model_methodLine 7 46 [some (vr (some (11, this))), some (vi v1), some (vi v2), none, none, none, none, none, none] st M97 (Qx (14, 0) (Qv Q) X)) hp (fun r98 h => ?_))
          refine E_if_eq (off := 7) (tgt := 53) (by decide +kernel) (by decide) (fun b99 => ?_) (fun b99 => ?_)
          · rw [if_pos b99] at h
            refine E_blk (lv' := [some (vr (some (11, this))), some (vi v1), some (vi v2), none, none, none, none, none, none]) (st' := [vi (mI M97 11 this 11), vr (some (11, this))]) (M1 := M97) (pc' := 58) (tb_Model hγ) [.aload_n 0, .aload_n 0, .getfield 168] (by decide +kernel) rfl rfl trivial ?_
            refine E_callV (κ' := k_Model_isWord) (As := [vi (mI M97 11 this 11)]) (st := []) mv_Model_isWord (Or.inl (tbk_mem (j := 14) (k := 230) rfl)) rfl (by decide +kernel) (Nat.le_of_ble_eq_true rfl) (Nat.le_of_ble_eq_true rfl) rfl (by decide) (lk_Model_isWord hγ this (mI M97 11 this 11) _ M97 h) (fun _ _ => Qi_r) (fun v M100 hp => Qi_k (R := fun st => E γ k_Model_methodLine 7 61 [some (vr (some (11, this))), some (vi v1), some (vi v2), none, none, none, none, none, none] st M100 (Qx (14, 0) (Qv Q) X)) hp (fun r101 h => ?_))
            refine E_if_eq (off := 8) (tgt := 69) (by decide +kernel) (by decide) (fun b102 => ?_) (fun b102 => ?_)
            · rw [if_pos b102] at h
              refine E_blk (lv' := [some (vr (some (11, this))), some (vi v1), some (vi v2), none, none, none, none, none, none]) (st' := [vi (0 : Int32)]) (M1 := M100) (pc' := 70) (tb_Model hγ) [.iconst 0] (by decide +kernel) rfl rfl trivial ?_
              refine E_mask [true, true, false, false, false, false, false, false, false] rfl ?_
              exact lk_Model_methodLine_j70 hγ this Q X (w_Model_methodLine_L4 this Q X n) ih v1 (0 : Int32) M100 h
            · rw [if_neg b102] at h
              refine E_blk (lv' := [some (vr (some (11, this))), some (vi v1), some (vi v2), none, none, none, none, none, none]) (st' := [vi (8 : Int32)]) (M1 := M100) (pc' := 66) (tb_Model hγ) [.bipush 8] (by decide +kernel) rfl rfl trivial ?_
              refine E_goto (off := 4) (tgt := 70) (by decide +kernel) (by decide) ?_
              refine E_mask [true, true, false, false, false, false, false, false, false] rfl ?_
              exact lk_Model_methodLine_j70 hγ this Q X (w_Model_methodLine_L4 this Q X n) ih v1 (8 : Int32) M100 h
          · rw [if_neg b99] at h
            refine E_blk (lv' := [some (vr (some (11, this))), some (vi v1), some (vi v2), none, none, none, none, none, none]) (st' := [vi (4 : Int32)]) (M1 := M97) (pc' := 50) (tb_Model hγ) [.iconst 4] (by decide +kernel) rfl rfl trivial ?_
            refine E_goto (off := 20) (tgt := 70) (by decide +kernel) (by decide) ?_
            refine E_mask [true, true, false, false, false, false, false, false, false] rfl ?_
            exact lk_Model_methodLine_j70 hγ this Q X (w_Model_methodLine_L4 this Q X n) ih v1 (4 : Int32) M97 h
        · rw [if_neg b96] at h
          refine E_blk (lv' := [some (vr (some (11, this))), some (vi v1), some (vi v2), none, none, none, none, none, none]) (st' := [vi (2 : Int32)]) (M1 := M94) (pc' := 35) (tb_Model hγ) [.iconst 2] (by decide +kernel) rfl rfl trivial ?_
          refine E_goto (off := 35) (tgt := 70) (by decide +kernel) (by decide) ?_
          refine E_mask [true, true, false, false, false, false, false, false, false] rfl ?_
          exact lk_Model_methodLine_j70 hγ this Q X (w_Model_methodLine_L4 this Q X n) ih v1 (2 : Int32) M94 h
      · rw [if_neg b93] at h
        refine E_blk (lv' := [some (vr (some (11, this))), some (vi v1), some (vi v2), none, none, none, none, none, none]) (st' := [vi (1 : Int32)]) (M1 := M91) (pc' := 20) (tb_Model hγ) [.iconst 1] (by decide +kernel) rfl rfl trivial ?_
        refine E_goto (off := 50) (tgt := 70) (by decide +kernel) (by decide) ?_
        refine E_mask [true, true, false, false, false, false, false, false, false] rfl ?_
        exact lk_Model_methodLine_j70 hγ this Q X (w_Model_methodLine_L4 this Q X n) ih v1 (1 : Int32) M91 h
set_option maxRecDepth 4096 in
theorem lk_Model_methodLine {γ : Gm} (hγ : Gk γ) (this : Nat) (Q : Mem → Prop) (X : Mem → Prop) (M : Mem) (h : w_Model_methodLine this Q X M) : E γ k_Model_methodLine 7 0 [some (vr (some (11, this))), none, none, none, none, none, none, none, none] [] M (Qx (14, 0) (Qv Q) X) := by
  unfold w_Model_methodLine at h
  refine E_blk (lv' := [some (vr (some (11, this))), some (vi (0 : Int32)), some (vi (1 : Int32)), none, none, none, none, none, none]) (st' := []) (M1 := M) (pc' := 4) (tb_Model hγ) [.iconst 0, .istore_n 1, .iconst 1, .istore_n 2] (by decide +kernel) rfl rfl trivial ?_
  obtain ⟨n107, h⟩ := h
  refine E_mask [true, true, true, false, false, false, false, false, false] rfl ?_
  exact lk_Model_methodLine_L4 hγ this Q X n107 (0 : Int32) (1 : Int32) M h
def w_Model_argumentsOf (this : Nat) (a1 : Int32) (Q : Int32 → Mem → Prop) (M : Mem) : Prop :=
  ∃ i1, (mR M 11 this 31) = some (300, i1) ∧ ∃ i2, (mR M 11 this 45) = some (12, i2) ∧ vp_in a1 (mL M 145 i2) ∧ vp_in (mI M 145 i2 a1.toNatClampNeg) (mL M 300 i1) ∧ ∃ i5, (mR M 11 this 45) = some (12, i5) ∧ vp_in a1 (mL M 146 i5) ∧ if ((mI M 146 i5 a1.toNatClampNeg) &&& (1 : Int32)) = 0 then (Q ((mI M 300 i1 (mI M 145 i2 a1.toNatClampNeg).toNatClampNeg) + (1 : Int32)) M) else (Q ((mI M 300 i1 (mI M 145 i2 a1.toNatClampNeg).toNatClampNeg) + (0 : Int32)) M)
set_option maxRecDepth 4096 in
theorem lk_Model_argumentsOf {γ : Gm} (hγ : Gk γ) (this : Nat) (a1 : Int32) (Q : Int32 → Mem → Prop) (M : Mem) (h : w_Model_argumentsOf this a1 Q M) : E γ k_Model_argumentsOf 0 0 [some (vr (some (11, this))), some (vi a1)] [] M (Qi Q) := by
  unfold w_Model_argumentsOf at h
  refine E_blk (lv' := [some (vr (some (11, this))), some (vi a1)]) (st' := [vr (mR M 11 this 31)]) (M1 := M) (pc' := 4) (tb_Model hγ) [.aload_n 0, .getfield 80] (by decide +kernel) rfl rfl trivial ?_
  obtain ⟨i1, ei1, h⟩ := h
  rw [ei1]
  refine E_blk (lv' := [some (vr (some (11, this))), some (vi a1)]) (st' := [vr (mR M 11 this 45), vr (some (300, i1))]) (M1 := M) (pc' := 8) (tb_Model hγ) [.aload_n 0, .getfield 522] (by decide +kernel) rfl rfl trivial ?_
  obtain ⟨i2, ei2, h⟩ := h
  rw [ei2]
  obtain ⟨c3, c4, h⟩ := h
  refine E_blk (lv' := [some (vr (some (11, this))), some (vi a1)]) (st' := [vr (mR M 11 this 45), vi (mI M 300 i1 (mI M 145 i2 a1.toNatClampNeg).toNatClampNeg)]) (M1 := M) (pc' := 18) (tb_Model hγ) [.getfield 450, .iload_n 1, .iaload, .iaload, .aload_n 0, .getfield 522] (by decide +kernel) rfl rfl ⟨c3, c4, trivial⟩ ?_
  obtain ⟨i5, ei5, h⟩ := h
  rw [ei5]
  obtain ⟨c6, h⟩ := h
  refine E_blk (lv' := [some (vr (some (11, this))), some (vi a1)]) (st' := [vi ((mI M 146 i5 a1.toNatClampNeg) &&& (1 : Int32)), vi (mI M 300 i1 (mI M 145 i2 a1.toNatClampNeg).toNatClampNeg)]) (M1 := M) (pc' := 25) (tb_Model hγ) [.getfield 453, .iload_n 1, .iaload, .iconst 1, .iand] (by decide +kernel) rfl rfl ⟨c6, trivial⟩ ?_
  refine E_if_eq (off := 7) (tgt := 32) (by decide +kernel) (by decide) (fun b7 => ?_) (fun b7 => ?_)
  · rw [if_pos b7] at h
    refine E_blk (lv' := [some (vr (some (11, this))), some (vi a1)]) (st' := [vi ((mI M 300 i1 (mI M 145 i2 a1.toNatClampNeg).toNatClampNeg) + (1 : Int32))]) (M1 := M) (pc' := 34) (tb_Model hγ) [.iconst 1, .iadd] (by decide +kernel) rfl rfl trivial ?_
    exact E_iret rfl (by decide +kernel) h
  · rw [if_neg b7] at h
    refine E_blk (lv' := [some (vr (some (11, this))), some (vi a1)]) (st' := [vi (0 : Int32), vi (mI M 300 i1 (mI M 145 i2 a1.toNatClampNeg).toNatClampNeg)]) (M1 := M) (pc' := 29) (tb_Model hγ) [.iconst 0] (by decide +kernel) rfl rfl trivial ?_
    refine E_goto (off := 4) (tgt := 33) (by decide +kernel) (by decide) ?_
    refine E_blk (lv' := [some (vr (some (11, this))), some (vi a1)]) (st' := [vi ((mI M 300 i1 (mI M 145 i2 a1.toNatClampNeg).toNatClampNeg) + (0 : Int32))]) (M1 := M) (pc' := 34) (tb_Model hγ) [.iadd] (by decide +kernel) rfl rfl trivial ?_
    exact E_iret rfl (by decide +kernel) h
def w_Model_roomLine_j82 (this : Nat) (Q : Mem → Prop) (X : Mem → Prop) (s0 : Int32) (s1 : Int32) (M : Mem) : Prop :=
  w_Model_asks this s1 s0 (fun M17 => Q (sI M17 11 this 52 (3 : Int32))) M
def w_Model_roomLine (this : Nat) (Q : Mem → Prop) (X : Mem → Prop) (M : Mem) : Prop :=
  w_Model_needWord this (mI M 11 this 16) (fun M1 => ∃ i2, (mR M1 11 this 45) = some (12, i2) ∧ w_Model_numberIn this (0 : Int32) (20 : Int32) (fun r4 M3 => vp_in (mI M1 11 this 54) (mL M3 147 i2) ∧ ∃ i6, (mR (sI M3 147 i2 (mI M1 11 this 54).toNatClampNeg r4) 11 this 45) = some (12, i6) ∧ w_Model_numberIn this (0 : Int32) (20 : Int32) (fun r8 M7 => vp_in (mI (sI M3 147 i2 (mI M1 11 this 54).toNatClampNeg r4) 11 this 54) (mL M7 148 i6) ∧ ∃ M10, M10 = (sI M7 148 i6 (mI (sI M3 147 i2 (mI M1 11 this 54).toNatClampNeg r4) 11 this 54).toNatClampNeg r8) ∧ w_Model_need this (0 : Int32) (fun M11 => ∃ i12, (mR M11 11 this 45) = some (12, i12) ∧ vp_in (mI M11 11 this 54) (mL M11 148 i12) ∧ w_Model_argumentsOf this (mI M11 11 this 54) (fun r15 M14 => if r15 ≤ (mI M11 148 i12 (mI M11 11 this 54).toNatClampNeg) then (w_Model_roomLine_j82 this Q X (0 : Int32) (13 : Int32) M14) else (w_Model_roomLine_j82 this Q X (1 : Int32) (13 : Int32) M14)) M11) X M10) X (sI M3 147 i2 (mI M1 11 this 54).toNatClampNeg r4)) X M1) X M
set_option maxRecDepth 4096 in
theorem lk_Model_roomLine_j82 {γ : Gm} (hγ : Gk γ) (this : Nat) (Q : Mem → Prop) (X : Mem → Prop) (s0 : Int32) (s1 : Int32) (M : Mem) (h : w_Model_roomLine_j82 this Q X s0 s1 M) : E γ k_Model_roomLine 3 82 [some (vr (some (11, this)))] [vi s0, vi s1, vr (some (11, this))] M (Qx (14, 0) (Qv Q) X) := by
  unfold w_Model_roomLine_j82 at h
  refine E_callV (κ' := k_Model_asks) (As := [vi s1, vi s0]) (st := []) mv_Model_asks (Or.inl (tbk_mem (j := 15) (k := 43) rfl)) rfl (by decide +kernel) (Nat.le_of_ble_eq_true rfl) (Nat.le_of_ble_eq_true rfl) rfl (by decide) (lk_Model_asks hγ this s1 s0 _ M h) (fun _ _ => Qv_r) (fun v M17 hp => Qv_k (R := fun st => E γ k_Model_roomLine 3 85 [some (vr (some (11, this)))] st M17 (Qx (14, 0) (Qv Q) X)) hp (fun h => ?_))
  refine E_blk (lv' := [some (vr (some (11, this)))]) (st' := []) (M1 := (sI M17 11 this 52 (3 : Int32))) (pc' := 90) (tb_Model hγ) [.aload_n 0, .iconst 3, .putfield 566] (by decide +kernel) rfl rfl trivial ?_
  exact (E_vret rfl (by decide +kernel) h).nx
set_option maxRecDepth 4096 in
theorem lk_Model_roomLine {γ : Gm} (hγ : Gk γ) (this : Nat) (Q : Mem → Prop) (X : Mem → Prop) (M : Mem) (h : w_Model_roomLine this Q X M) : E γ k_Model_roomLine 3 0 [some (vr (some (11, this)))] [] M (Qx (14, 0) (Qv Q) X) := by
  unfold w_Model_roomLine at h
  refine E_blk (lv' := [some (vr (some (11, this)))]) (st' := [vi (mI M 11 this 16), vr (some (11, this))]) (M1 := M) (pc' := 5) (tb_Model hγ) [.aload_n 0, .aload_n 0, .getfield 192] (by decide +kernel) rfl rfl trivial ?_
  refine E_callX (κ' := k_Model_needWord) (As := [vi (mI M 11 this 16)]) (st := []) mv_Model_needWord (Or.inl (tbk_mem (j := 15) (k := 11) rfl)) rfl (by decide +kernel) (Nat.le_of_ble_eq_true rfl) (Nat.le_of_ble_eq_true rfl) rfl (by decide) rfl (lk_Model_needWord hγ this (mI M 11 this 16) _ _ M h) (fun _ _ => Qv_r) (fun _ h => h) (fun v M1 hp => Qv_k (R := fun st => E γ k_Model_roomLine 3 8 [some (vr (some (11, this)))] st M1 (Qx (14, 0) (Qv Q) X)) hp (fun h => ?_))
  refine E_blk (lv' := [some (vr (some (11, this)))]) (st' := [vr (mR M1 11 this 45)]) (M1 := M1) (pc' := 12) (tb_Model hγ) [.aload_n 0, .getfield 522] (by decide +kernel) rfl rfl trivial ?_
  obtain ⟨i2, ei2, h⟩ := h
  rw [ei2]
  refine E_blk (lv' := [some (vr (some (11, this)))]) (st' := [vi (20 : Int32), vi (0 : Int32), vr (some (11, this)), vi (mI M1 11 this 54), vr (some (147, i2))]) (M1 := M1) (pc' := 23) (tb_Model hγ) [.getfield 456, .aload_n 0, .getfield 642, .aload_n 0, .iconst 0, .bipush 20] (by decide +kernel) rfl rfl trivial ?_
  refine E_callX (κ' := k_Model_numberIn) (As := [vi (0 : Int32), vi (20 : Int32)]) (st := [vi (mI M1 11 this 54), vr (some (147, i2))]) mv_Model_numberIn (Or.inl (tbk_mem (j := 15) (k := 60) rfl)) rfl (by decide +kernel) (Nat.le_of_ble_eq_true rfl) (Nat.le_of_ble_eq_true rfl) rfl (by decide) rfl (lk_Model_numberIn hγ this (0 : Int32) (20 : Int32) _ _ M1 h) (fun _ _ => Qi_r) (fun _ h => h) (fun v M3 hp => Qi_k (R := fun st => E γ k_Model_roomLine 3 26 [some (vr (some (11, this)))] st M3 (Qx (14, 0) (Qv Q) X)) hp (fun r4 h => ?_))
  obtain ⟨c5, h⟩ := h
  refine E_blk (lv' := [some (vr (some (11, this)))]) (st' := [vr (mR (sI M3 147 i2 (mI M1 11 this 54).toNatClampNeg r4) 11 this 45)]) (M1 := (sI M3 147 i2 (mI M1 11 this 54).toNatClampNeg r4)) (pc' := 31) (tb_Model hγ) [.iastore, .aload_n 0, .getfield 522] (by decide +kernel) rfl rfl ⟨c5, trivial⟩ ?_
  obtain ⟨i6, ei6, h⟩ := h
  rw [ei6]
  refine E_blk (lv' := [some (vr (some (11, this)))]) (st' := [vi (20 : Int32), vi (0 : Int32), vr (some (11, this)), vi (mI (sI M3 147 i2 (mI M1 11 this 54).toNatClampNeg r4) 11 this 54), vr (some (148, i6))]) (M1 := (sI M3 147 i2 (mI M1 11 this 54).toNatClampNeg r4)) (pc' := 42) (tb_Model hγ) [.getfield 459, .aload_n 0, .getfield 642, .aload_n 0, .iconst 0, .bipush 20] (by decide +kernel) rfl rfl trivial ?_
  refine E_callX (κ' := k_Model_numberIn) (As := [vi (0 : Int32), vi (20 : Int32)]) (st := [vi (mI (sI M3 147 i2 (mI M1 11 this 54).toNatClampNeg r4) 11 this 54), vr (some (148, i6))]) mv_Model_numberIn (Or.inl (tbk_mem (j := 15) (k := 60) rfl)) rfl (by decide +kernel) (Nat.le_of_ble_eq_true rfl) (Nat.le_of_ble_eq_true rfl) rfl (by decide) rfl (lk_Model_numberIn hγ this (0 : Int32) (20 : Int32) _ _ (sI M3 147 i2 (mI M1 11 this 54).toNatClampNeg r4) h) (fun _ _ => Qi_r) (fun _ h => h) (fun v M7 hp => Qi_k (R := fun st => E γ k_Model_roomLine 3 45 [some (vr (some (11, this)))] st M7 (Qx (14, 0) (Qv Q) X)) hp (fun r8 h => ?_))
  obtain ⟨c9, h⟩ := h
  refine E_blk (lv' := [some (vr (some (11, this)))]) (st' := []) (M1 := (sI M7 148 i6 (mI (sI M3 147 i2 (mI M1 11 this 54).toNatClampNeg r4) 11 this 54).toNatClampNeg r8)) (pc' := 46) (tb_Model hγ) [.iastore] (by decide +kernel) rfl rfl ⟨c9, trivial⟩ ?_
  obtain ⟨M10, eM10, h⟩ := h
  rw [← eM10]
  refine E_blk (lv' := [some (vr (some (11, this)))]) (st' := [vi (0 : Int32), vr (some (11, this))]) (M1 := M10) (pc' := 48) (tb_Model hγ) [.aload_n 0, .iconst 0] (by decide +kernel) rfl rfl trivial ?_
  refine E_callX (κ' := k_Model_need) (As := [vi (0 : Int32)]) (st := []) mv_Model_need (Or.inl (tbk_mem (j := 15) (k := 35) rfl)) rfl (by decide +kernel) (Nat.le_of_ble_eq_true rfl) (Nat.le_of_ble_eq_true rfl) rfl (by decide) rfl (lk_Model_need hγ this (0 : Int32) _ _ M10 h) (fun _ _ => Qv_r) (fun _ h => h) (fun v M11 hp => Qv_k (R := fun st => E γ k_Model_roomLine 3 51 [some (vr (some (11, this)))] st M11 (Qx (14, 0) (Qv Q) X)) hp (fun h => ?_))
  refine E_blk (lv' := [some (vr (some (11, this)))]) (st' := [vr (mR M11 11 this 45), vi (13 : Int32), vr (some (11, this))]) (M1 := M11) (pc' := 58) (tb_Model hγ) [.aload_n 0, .bipush 13, .aload_n 0, .getfield 522] (by decide +kernel) rfl rfl trivial ?_
  obtain ⟨i12, ei12, h⟩ := h
  rw [ei12]
  obtain ⟨c13, h⟩ := h
  refine E_blk (lv' := [some (vr (some (11, this)))]) (st' := [vi (mI M11 11 this 54), vr (some (11, this)), vi (mI M11 148 i12 (mI M11 11 this 54).toNatClampNeg), vi (13 : Int32), vr (some (11, this))]) (M1 := M11) (pc' := 71) (tb_Model hγ) [.getfield 459, .aload_n 0, .getfield 642, .iaload, .aload_n 0, .aload_n 0, .getfield 642] (by decide +kernel) rfl rfl ⟨c13, trivial⟩ ?_
  refine E_callV (κ' := k_Model_argumentsOf) (As := [vi (mI M11 11 this 54)]) (st := [vi (mI M11 148 i12 (mI M11 11 this 54).toNatClampNeg), vi (13 : Int32), vr (some (11, this))]) mv_Model_argumentsOf (Or.inl (tbk_mem (j := 15) (k := 80) rfl)) rfl (by decide +kernel) (Nat.le_of_ble_eq_true rfl) (Nat.le_of_ble_eq_true rfl) rfl (by decide) (lk_Model_argumentsOf hγ this (mI M11 11 this 54) _ M11 h) (fun _ _ => Qi_r) (fun v M14 hp => Qi_k (R := fun st => E γ k_Model_roomLine 3 74 [some (vr (some (11, this)))] st M14 (Qx (14, 0) (Qv Q) X)) hp (fun r15 h => ?_))
  refine E_icmp_ge (off := 7) (tgt := 81) (by decide +kernel) (by decide) (fun b16 => ?_) (fun b16 => ?_)
  · rw [if_pos b16] at h
    refine E_blk (lv' := [some (vr (some (11, this)))]) (st' := [vi (0 : Int32), vi (13 : Int32), vr (some (11, this))]) (M1 := M14) (pc' := 82) (tb_Model hγ) [.iconst 0] (by decide +kernel) rfl rfl trivial ?_
    refine E_mask [true] rfl ?_
    exact lk_Model_roomLine_j82 hγ this Q X (0 : Int32) (13 : Int32) M14 h
  · rw [if_neg b16] at h
    refine E_blk (lv' := [some (vr (some (11, this)))]) (st' := [vi (1 : Int32), vi (13 : Int32), vr (some (11, this))]) (M1 := M14) (pc' := 78) (tb_Model hγ) [.iconst 1] (by decide +kernel) rfl rfl trivial ?_
    refine E_goto (off := 4) (tgt := 82) (by decide +kernel) (by decide) ?_
    refine E_mask [true] rfl ?_
    exact lk_Model_roomLine_j82 hγ this Q X (1 : Int32) (13 : Int32) M14 h
def w_Model_kindWord (this : Nat) (Q : Int32 → Mem → Prop) (X : Mem → Prop) (M : Mem) : Prop :=
  w_Model_takes this (mI M 11 this 27) (fun r2 M1 => if r2 = 0 then (w_Model_takes this (mI M1 11 this 20) (fun r5 M4 => if r5 = 0 then (w_Model_takes this (mI M4 11 this 28) (fun r8 M7 => if r8 = 0 then (w_Model_takes this (mI M7 11 this 22) (fun r11 M10 => if r11 = 0 then (w_Model_takes this (mI M10 11 this 23) (fun r14 M13 => if r14 = 0 then (w_Model_className this (fun r17 M16 => Q ((16 : Int32) + r17) M16) X M13) else (Q (5 : Int32) M13)) M10) else (Q (4 : Int32) M10)) M7) else (Q (3 : Int32) M7)) M4) else (Q (2 : Int32) M4)) M1) else (Q (1 : Int32) M1)) M
set_option maxRecDepth 4096 in
theorem lk_Model_kindWord {γ : Gm} (hγ : Gk γ) (this : Nat) (Q : Int32 → Mem → Prop) (X : Mem → Prop) (M : Mem) (h : w_Model_kindWord this Q X M) : E γ k_Model_kindWord 4 0 [some (vr (some (11, this)))] [] M (Qx (14, 0) (Qi Q) X) := by
  unfold w_Model_kindWord at h
  refine E_blk (lv' := [some (vr (some (11, this)))]) (st' := [vi (mI M 11 this 27), vr (some (11, this))]) (M1 := M) (pc' := 5) (tb_Model hγ) [.aload_n 0, .aload_n 0, .getfield 245] (by decide +kernel) rfl rfl trivial ?_
  refine E_callV (κ' := k_Model_takes) (As := [vi (mI M 11 this 27)]) (st := []) mv_Model_takes (Or.inl (tbk_mem (j := 15) (k := 15) rfl)) rfl (by decide +kernel) (Nat.le_of_ble_eq_true rfl) (Nat.le_of_ble_eq_true rfl) rfl (by decide) (lk_Model_takes hγ this (mI M 11 this 27) _ M h) (fun _ _ => Qi_r) (fun v M1 hp => Qi_k (R := fun st => E γ k_Model_kindWord 4 8 [some (vr (some (11, this)))] st M1 (Qx (14, 0) (Qi Q) X)) hp (fun r2 h => ?_))
  refine E_if_eq (off := 5) (tgt := 13) (by decide +kernel) (by decide) (fun b3 => ?_) (fun b3 => ?_)
  · rw [if_pos b3] at h
    refine E_blk (lv' := [some (vr (some (11, this)))]) (st' := [vi (mI M1 11 this 20), vr (some (11, this))]) (M1 := M1) (pc' := 18) (tb_Model hγ) [.aload_n 0, .aload_n 0, .getfield 212] (by decide +kernel) rfl rfl trivial ?_
    refine E_callV (κ' := k_Model_takes) (As := [vi (mI M1 11 this 20)]) (st := []) mv_Model_takes (Or.inl (tbk_mem (j := 15) (k := 15) rfl)) rfl (by decide +kernel) (Nat.le_of_ble_eq_true rfl) (Nat.le_of_ble_eq_true rfl) rfl (by decide) (lk_Model_takes hγ this (mI M1 11 this 20) _ M1 h) (fun _ _ => Qi_r) (fun v M4 hp => Qi_k (R := fun st => E γ k_Model_kindWord 4 21 [some (vr (some (11, this)))] st M4 (Qx (14, 0) (Qi Q) X)) hp (fun r5 h => ?_))
    refine E_if_eq (off := 5) (tgt := 26) (by decide +kernel) (by decide) (fun b6 => ?_) (fun b6 => ?_)
    · rw [if_pos b6] at h
      refine E_blk (lv' := [some (vr (some (11, this)))]) (st' := [vi (mI M4 11 this 28), vr (some (11, this))]) (M1 := M4) (pc' := 31) (tb_Model hγ) [.aload_n 0, .aload_n 0, .getfield 248] (by decide +kernel) rfl rfl trivial ?_
      refine E_callV (κ' := k_Model_takes) (As := [vi (mI M4 11 this 28)]) (st := []) mv_Model_takes (Or.inl (tbk_mem (j := 15) (k := 15) rfl)) rfl (by decide +kernel) (Nat.le_of_ble_eq_true rfl) (Nat.le_of_ble_eq_true rfl) rfl (by decide) (lk_Model_takes hγ this (mI M4 11 this 28) _ M4 h) (fun _ _ => Qi_r) (fun v M7 hp => Qi_k (R := fun st => E γ k_Model_kindWord 4 34 [some (vr (some (11, this)))] st M7 (Qx (14, 0) (Qi Q) X)) hp (fun r8 h => ?_))
      refine E_if_eq (off := 5) (tgt := 39) (by decide +kernel) (by decide) (fun b9 => ?_) (fun b9 => ?_)
      · rw [if_pos b9] at h
        refine E_blk (lv' := [some (vr (some (11, this)))]) (st' := [vi (mI M7 11 this 22), vr (some (11, this))]) (M1 := M7) (pc' := 44) (tb_Model hγ) [.aload_n 0, .aload_n 0, .getfield 222] (by decide +kernel) rfl rfl trivial ?_
        refine E_callV (κ' := k_Model_takes) (As := [vi (mI M7 11 this 22)]) (st := []) mv_Model_takes (Or.inl (tbk_mem (j := 15) (k := 15) rfl)) rfl (by decide +kernel) (Nat.le_of_ble_eq_true rfl) (Nat.le_of_ble_eq_true rfl) rfl (by decide) (lk_Model_takes hγ this (mI M7 11 this 22) _ M7 h) (fun _ _ => Qi_r) (fun v M10 hp => Qi_k (R := fun st => E γ k_Model_kindWord 4 47 [some (vr (some (11, this)))] st M10 (Qx (14, 0) (Qi Q) X)) hp (fun r11 h => ?_))
        refine E_if_eq (off := 5) (tgt := 52) (by decide +kernel) (by decide) (fun b12 => ?_) (fun b12 => ?_)
        · rw [if_pos b12] at h
          refine E_blk (lv' := [some (vr (some (11, this)))]) (st' := [vi (mI M10 11 this 23), vr (some (11, this))]) (M1 := M10) (pc' := 57) (tb_Model hγ) [.aload_n 0, .aload_n 0, .getfield 227] (by decide +kernel) rfl rfl trivial ?_
          refine E_callV (κ' := k_Model_takes) (As := [vi (mI M10 11 this 23)]) (st := []) mv_Model_takes (Or.inl (tbk_mem (j := 15) (k := 15) rfl)) rfl (by decide +kernel) (Nat.le_of_ble_eq_true rfl) (Nat.le_of_ble_eq_true rfl) rfl (by decide) (lk_Model_takes hγ this (mI M10 11 this 23) _ M10 h) (fun _ _ => Qi_r) (fun v M13 hp => Qi_k (R := fun st => E γ k_Model_kindWord 4 60 [some (vr (some (11, this)))] st M13 (Qx (14, 0) (Qi Q) X)) hp (fun r14 h => ?_))
          refine E_if_eq (off := 7) (tgt := 67) (by decide +kernel) (by decide) (fun b15 => ?_) (fun b15 => ?_)
          · rw [if_pos b15] at h
            refine E_blk (lv' := [some (vr (some (11, this)))]) (st' := [vr (some (11, this)), vi (16 : Int32)]) (M1 := M13) (pc' := 70) (tb_Model hγ) [.bipush 16, .aload_n 0] (by decide +kernel) rfl rfl trivial ?_
            refine E_callX (κ' := k_Model_className) (As := []) (st := [vi (16 : Int32)]) mv_Model_className (Or.inl (tbk_mem (j := 15) (k := 23) rfl)) rfl (by decide +kernel) (Nat.le_of_ble_eq_true rfl) (Nat.le_of_ble_eq_true rfl) rfl (by decide) rfl (lk_Model_className hγ this _ _ M13 h) (fun _ _ => Qi_r) (fun _ h => h) (fun v M16 hp => Qi_k (R := fun st => E γ k_Model_kindWord 4 73 [some (vr (some (11, this)))] st M16 (Qx (14, 0) (Qi Q) X)) hp (fun r17 h => ?_))
            refine E_blk (lv' := [some (vr (some (11, this)))]) (st' := [vi ((16 : Int32) + r17)]) (M1 := M16) (pc' := 74) (tb_Model hγ) [.iadd] (by decide +kernel) rfl rfl trivial ?_
            exact (E_iret rfl (by decide +kernel) h).nx
          · rw [if_neg b15] at h
            refine E_blk (lv' := [some (vr (some (11, this)))]) (st' := [vi (5 : Int32)]) (M1 := M13) (pc' := 64) (tb_Model hγ) [.iconst 5] (by decide +kernel) rfl rfl trivial ?_
            refine E_goto (off := 10) (tgt := 74) (by decide +kernel) (by decide) ?_
            exact (E_iret rfl (by decide +kernel) h).nx
        · rw [if_neg b12] at h
          refine E_blk (lv' := [some (vr (some (11, this)))]) (st' := [vi (4 : Int32)]) (M1 := M10) (pc' := 51) (tb_Model hγ) [.iconst 4] (by decide +kernel) rfl rfl trivial ?_
          exact (E_iret rfl (by decide +kernel) h).nx
      · rw [if_neg b9] at h
        refine E_blk (lv' := [some (vr (some (11, this)))]) (st' := [vi (3 : Int32)]) (M1 := M7) (pc' := 38) (tb_Model hγ) [.iconst 3] (by decide +kernel) rfl rfl trivial ?_
        exact (E_iret rfl (by decide +kernel) h).nx
    · rw [if_neg b6] at h
      refine E_blk (lv' := [some (vr (some (11, this)))]) (st' := [vi (2 : Int32)]) (M1 := M4) (pc' := 25) (tb_Model hγ) [.iconst 2] (by decide +kernel) rfl rfl trivial ?_
      exact (E_iret rfl (by decide +kernel) h).nx
  · rw [if_neg b3] at h
    refine E_blk (lv' := [some (vr (some (11, this)))]) (st' := [vi (1 : Int32)]) (M1 := M1) (pc' := 12) (tb_Model hγ) [.iconst 1] (by decide +kernel) rfl rfl trivial ?_
    exact (E_iret rfl (by decide +kernel) h).nx
def w_Model_kindWords_j123 (this : Nat) (Q : Int32 → Mem → Prop) (X : Mem → Prop) (v1 : Int32) (v2 : Int32) (M : Mem) : Prop :=
  w_Model_need this v1 (fun M3 => Q v2 M3) X M
def w_Model_kindWords_j116 (this : Nat) (Q : Int32 → Mem → Prop) (X : Mem → Prop) (k17 : Int32 → Int32 → Int32 → Mem → Prop) (v1 : Int32) (v2 : Int32) (v3 : Int32) (s0 : Int32) (s1 : Int32) (M : Mem) : Prop :=
  k17 v1 v2 v3 (sI M 11 this 43 (s1 + s0))
def w_Model_kindWords_j101 (this : Nat) (Q : Int32 → Mem → Prop) (X : Mem → Prop) (k17 : Int32 → Int32 → Int32 → Mem → Prop) (v1 : Int32) (v2 : Int32) (s0 : Int32) (M : Mem) : Prop :=
  if s0 = 0 then (w_Model_kindWords_j116 this Q X k17 v1 v2 s0 (0 : Int32) (mI M 11 this 43) M) else (w_Model_kindWords_j116 this Q X k17 v1 v2 s0 (1 : Int32) (mI M 11 this 43) M)
def w_Model_kindWords_L17 (this : Nat) (Q : Int32 → Mem → Prop) (X : Mem → Prop) : Nat → Int32 → Int32 → Int32 → Mem → Prop
  | 0, _, _, _, _ => False
  | n + 1, v1, v2, v3, M => if v3 = 0 then (w_Model_kindWords_j123 this Q X v1 v2 M) else (∃ i5, (mR M 11 this 45) = some (12, i5) ∧ ∃ i6, (mR M 11 this 45) = some (12, i6) ∧ ∃ i7, (mR M 12 i6 42) = some (300, i7) ∧ ∃ i8, (mR M 11 this 45) = some (12, i8) ∧ w_Model_room i7 ((mI M 12 i8 43) + (1 : Int32)) (fun i10 M9 => ∃ i11, (mR (sR M9 12 i5 42 (some (300, i10))) 11 this 45) = some (12, i11) ∧ ∃ i12, (mR (sR M9 12 i5 42 (some (300, i10))) 12 i11 42) = some (300, i12) ∧ ∃ i13, (mR (sR M9 12 i5 42 (some (300, i10))) 11 this 45) = some (12, i13) ∧ w_Model_kindWord this (fun r15 M14 => vp_in (mI (sR M9 12 i5 42 (some (300, i10))) 12 i13 43) (mL M14 300 i12) ∧ ∃ M17, M17 = (sI M14 300 i12 (mI (sR M9 12 i5 42 (some (300, i10))) 12 i13 43).toNatClampNeg r15) ∧ ∃ i18, (mR M17 11 this 45) = some (12, i18) ∧ vp_in (mI (sI M17 12 i18 43 ((mI M17 12 i18 43) + (1 : Int32))) 11 this 43) (mL (sI M17 12 i18 43 ((mI M17 12 i18 43) + (1 : Int32))) 411 this) ∧ if (mI (sI M17 12 i18 43 ((mI M17 12 i18 43) + (1 : Int32))) 411 this (mI (sI M17 12 i18 43 ((mI M17 12 i18 43) + (1 : Int32))) 11 this 43).toNatClampNeg) = (44 : Int32) then (w_Model_kindWords_j101 this Q X (w_Model_kindWords_L17 this Q X n) v1 (v2 + (1 : Int32)) (1 : Int32) (sI M17 12 i18 43 ((mI M17 12 i18 43) + (1 : Int32)))) else (w_Model_kindWords_j101 this Q X (w_Model_kindWords_L17 this Q X n) v1 (v2 + (1 : Int32)) (0 : Int32) (sI M17 12 i18 43 ((mI M17 12 i18 43) + (1 : Int32))))) X (sR M9 12 i5 42 (some (300, i10)))) M)
def w_Model_kindWords (this : Nat) (a1 : Int32) (Q : Int32 → Mem → Prop) (X : Mem → Prop) (M : Mem) : Prop :=
  vp_in (mI M 11 this 43) (mL M 411 this) ∧ if (mI M 411 this (mI M 11 this 43).toNatClampNeg) = a1 then (w_Model_kindWords_j123 this Q X a1 (0 : Int32) M) else (∃ n22 : Nat, w_Model_kindWords_L17 this Q X n22 a1 (0 : Int32) (1 : Int32) M)
set_option maxRecDepth 4096 in
theorem lk_Model_kindWords_j123 {γ : Gm} (hγ : Gk γ) (this : Nat) (Q : Int32 → Mem → Prop) (X : Mem → Prop) (v1 : Int32) (v2 : Int32) (M : Mem) (h : w_Model_kindWords_j123 this Q X v1 v2 M) : E γ k_Model_kindWords 5 123 [some (vr (some (11, this))), some (vi v1), some (vi v2), none] [] M (Qx (14, 0) (Qi Q) X) := by
  unfold w_Model_kindWords_j123 at h
  refine E_blk (lv' := [some (vr (some (11, this))), some (vi v1), some (vi v2), none]) (st' := [vi v1, vr (some (11, this))]) (M1 := M) (pc' := 125) (tb_Model hγ) [.aload_n 0, .iload_n 1] (by decide +kernel) rfl rfl trivial ?_
  refine E_callX (κ' := k_Model_need) (As := [vi v1]) (st := []) mv_Model_need (Or.inl (tbk_mem (j := 15) (k := 35) rfl)) rfl (by decide +kernel) (Nat.le_of_ble_eq_true rfl) (Nat.le_of_ble_eq_true rfl) rfl (by decide) rfl (lk_Model_need hγ this v1 _ _ M h) (fun _ _ => Qv_r) (fun _ h => h) (fun v M3 hp => Qv_k (R := fun st => E γ k_Model_kindWords 5 128 [some (vr (some (11, this))), some (vi v1), some (vi v2), none] st M3 (Qx (14, 0) (Qi Q) X)) hp (fun h => ?_))
  refine E_blk (lv' := [some (vr (some (11, this))), some (vi v1), some (vi v2), none]) (st' := [vi v2]) (M1 := M3) (pc' := 129) (tb_Model hγ) [.iload_n 2] (by decide +kernel) rfl rfl trivial ?_
  exact (E_iret rfl (by decide +kernel) h).nx
set_option maxRecDepth 4096 in
theorem lk_Model_kindWords_j116 {γ : Gm} (hγ : Gk γ) (this : Nat) (Q : Int32 → Mem → Prop) (X : Mem → Prop) (k17 : Int32 → Int32 → Int32 → Mem → Prop) (hk17 : ∀ (v1 : Int32) (v2 : Int32) (v3 : Int32) (M : Mem), k17 v1 v2 v3 M → E γ k_Model_kindWords 5 17 [some (vr (some (11, this))), some (vi v1), some (vi v2), some (vi v3)] [] M (Qx (14, 0) (Qi Q) X)) (v1 : Int32) (v2 : Int32) (v3 : Int32) (s0 : Int32) (s1 : Int32) (M : Mem) (h : w_Model_kindWords_j116 this Q X k17 v1 v2 v3 s0 s1 M) : E γ k_Model_kindWords 5 116 [some (vr (some (11, this))), some (vi v1), some (vi v2), some (vi v3)] [vi s0, vi s1, vr (some (11, this))] M (Qx (14, 0) (Qi Q) X) := by
  unfold w_Model_kindWords_j116 at h
  refine E_blk (lv' := [some (vr (some (11, this))), some (vi v1), some (vi v2), some (vi v3)]) (st' := []) (M1 := (sI M 11 this 43 (s1 + s0))) (pc' := 120) (tb_Model hγ) [.iadd, .putfield 104] (by decide +kernel) rfl rfl trivial ?_
  refine E_goto (off := -103) (tgt := 17) (by decide +kernel) (by decide) ?_
  refine E_mask [true, true, true, true] rfl ?_
  exact hk17 v1 v2 v3 (sI M 11 this 43 (s1 + s0)) h
set_option maxRecDepth 4096 in
theorem lk_Model_kindWords_j101 {γ : Gm} (hγ : Gk γ) (this : Nat) (Q : Int32 → Mem → Prop) (X : Mem → Prop) (k17 : Int32 → Int32 → Int32 → Mem → Prop) (hk17 : ∀ (v1 : Int32) (v2 : Int32) (v3 : Int32) (M : Mem), k17 v1 v2 v3 M → E γ k_Model_kindWords 5 17 [some (vr (some (11, this))), some (vi v1), some (vi v2), some (vi v3)] [] M (Qx (14, 0) (Qi Q) X)) (v1 : Int32) (v2 : Int32) (s0 : Int32) (M : Mem) (h : w_Model_kindWords_j101 this Q X k17 v1 v2 s0 M) : E γ k_Model_kindWords 5 101 [some (vr (some (11, this))), some (vi v1), some (vi v2), none] [vi s0] M (Qx (14, 0) (Qi Q) X) := by
  unfold w_Model_kindWords_j101 at h
  refine E_blk (lv' := [some (vr (some (11, this))), some (vi v1), some (vi v2), some (vi s0)]) (st' := [vi s0, vi (mI M 11 this 43), vr (some (11, this))]) (M1 := M) (pc' := 108) (tb_Model hγ) [.istore_n 3, .aload_n 0, .dup, .getfield 104, .iload_n 3] (by decide +kernel) rfl rfl trivial ?_
  refine E_if_eq (off := 7) (tgt := 115) (by decide +kernel) (by decide) (fun b21 => ?_) (fun b21 => ?_)
  · rw [if_pos b21] at h
    refine E_blk (lv' := [some (vr (some (11, this))), some (vi v1), some (vi v2), some (vi s0)]) (st' := [vi (0 : Int32), vi (mI M 11 this 43), vr (some (11, this))]) (M1 := M) (pc' := 116) (tb_Model hγ) [.iconst 0] (by decide +kernel) rfl rfl trivial ?_
    refine E_mask [true, true, true, true] rfl ?_
    exact lk_Model_kindWords_j116 hγ this Q X k17 hk17 v1 v2 s0 (0 : Int32) (mI M 11 this 43) M h
  · rw [if_neg b21] at h
    refine E_blk (lv' := [some (vr (some (11, this))), some (vi v1), some (vi v2), some (vi s0)]) (st' := [vi (1 : Int32), vi (mI M 11 this 43), vr (some (11, this))]) (M1 := M) (pc' := 112) (tb_Model hγ) [.iconst 1] (by decide +kernel) rfl rfl trivial ?_
    refine E_goto (off := 4) (tgt := 116) (by decide +kernel) (by decide) ?_
    refine E_mask [true, true, true, true] rfl ?_
    exact lk_Model_kindWords_j116 hγ this Q X k17 hk17 v1 v2 s0 (1 : Int32) (mI M 11 this 43) M h
set_option maxRecDepth 4096 in
theorem lk_Model_kindWords_L17 {γ : Gm} (hγ : Gk γ) (this : Nat) (Q : Int32 → Mem → Prop) (X : Mem → Prop) : ∀ (n : Nat) (v1 : Int32) (v2 : Int32) (v3 : Int32) (M : Mem), w_Model_kindWords_L17 this Q X n v1 v2 v3 M → E γ k_Model_kindWords 5 17 [some (vr (some (11, this))), some (vi v1), some (vi v2), some (vi v3)] [] M (Qx (14, 0) (Qi Q) X) := by
  intro n
  induction n with
  | zero => intro v1 v2 v3 M h; exact h.elim
  | succ n ih =>
    intro v1 v2 v3 M h
    unfold w_Model_kindWords_L17 at h
    refine E_blk (lv' := [some (vr (some (11, this))), some (vi v1), some (vi v2), some (vi v3)]) (st' := [vi v3]) (M1 := M) (pc' := 18) (tb_Model hγ) [.iload_n 3] (by decide +kernel) rfl rfl trivial ?_
    refine E_if_eq (off := 105) (tgt := 123) (by decide +kernel) (by decide) (fun b4 => ?_) (fun b4 => ?_)
    · rw [if_pos b4] at h
      refine E_mask [true, true, true, false] rfl ?_
      exact lk_Model_kindWords_j123 hγ this Q X v1 v2 M h
    · rw [if_neg b4] at h
      refine E_blk (lv' := [some (vr (some (11, this))), some (vi v1), some (vi v2), some (vi v3)]) (st' := [vr (mR M 11 this 45)]) (M1 := M) (pc' := 25) (tb_Model hγ) [.aload_n 0, .getfield 522] (by decide +kernel) rfl rfl trivial ?_
      obtain ⟨i5, ei5, h⟩ := h
      rw [ei5]
      refine E_blk (lv' := [some (vr (some (11, this))), some (vi v1), some (vi v2), some (vi v3)]) (st' := [vr (mR M 11 this 45), vr (some (12, i5))]) (M1 := M) (pc' := 29) (tb_Model hγ) [.aload_n 0, .getfield 522] (by decide +kernel) rfl rfl trivial ?_
      obtain ⟨i6, ei6, h⟩ := h
      rw [ei6]
      refine E_blk (lv' := [some (vr (some (11, this))), some (vi v1), some (vi v2), some (vi v3)]) (st' := [vr (mR M 12 i6 42), vr (some (12, i5))]) (M1 := M) (pc' := 32) (tb_Model hγ) [.getfield 692] (by decide +kernel) rfl rfl trivial ?_
      obtain ⟨i7, ei7, h⟩ := h
      rw [ei7]
      refine E_blk (lv' := [some (vr (some (11, this))), some (vi v1), some (vi v2), some (vi v3)]) (st' := [vr (mR M 11 this 45), vr (some (300, i7)), vr (some (12, i5))]) (M1 := M) (pc' := 36) (tb_Model hγ) [.aload_n 0, .getfield 522] (by decide +kernel) rfl rfl trivial ?_
      obtain ⟨i8, ei8, h⟩ := h
      rw [ei8]
      refine E_blk (lv' := [some (vr (some (11, this))), some (vi v1), some (vi v2), some (vi v3)]) (st' := [vi ((mI M 12 i8 43) + (1 : Int32)), vr (some (300, i7)), vr (some (12, i5))]) (M1 := M) (pc' := 41) (tb_Model hγ) [.getfield 480, .iconst 1, .iadd] (by decide +kernel) rfl rfl trivial ?_
      refine E_callS (κ' := k_Model_room) (As := [vr (some (300, i7)), vi ((mI M 12 i8 43) + (1 : Int32))]) (st := [vr (some (12, i5))]) ms_Model_room (Or.inl (tbk_mem (j := 11) (k := 66) rfl)) rfl (by decide +kernel) (Nat.le_of_ble_eq_true rfl) (Nat.le_of_ble_eq_true rfl) rfl (by decide) (lk_Model_room hγ i7 ((mI M 12 i8 43) + (1 : Int32)) _ M h) (fun _ _ => Qr_r) (fun v M9 hp => Qr_k (R := fun st => E γ k_Model_kindWords 5 44 [some (vr (some (11, this))), some (vi v1), some (vi v2), some (vi v3)] st M9 (Qx (14, 0) (Qi Q) X)) hp (fun i10 h => ?_))
      refine E_blk (lv' := [some (vr (some (11, this))), some (vi v1), some (vi v2), some (vi v3)]) (st' := [vr (mR (sR M9 12 i5 42 (some (300, i10))) 11 this 45)]) (M1 := (sR M9 12 i5 42 (some (300, i10)))) (pc' := 51) (tb_Model hγ) [.putfield 692, .aload_n 0, .getfield 522] (by decide +kernel) rfl rfl trivial ?_
      obtain ⟨i11, ei11, h⟩ := h
      rw [ei11]
      refine E_blk (lv' := [some (vr (some (11, this))), some (vi v1), some (vi v2), some (vi v3)]) (st' := [vr (mR (sR M9 12 i5 42 (some (300, i10))) 12 i11 42)]) (M1 := (sR M9 12 i5 42 (some (300, i10)))) (pc' := 54) (tb_Model hγ) [.getfield 692] (by decide +kernel) rfl rfl trivial ?_
      obtain ⟨i12, ei12, h⟩ := h
      rw [ei12]
      refine E_blk (lv' := [some (vr (some (11, this))), some (vi v1), some (vi v2), some (vi v3)]) (st' := [vr (mR (sR M9 12 i5 42 (some (300, i10))) 11 this 45), vr (some (300, i12))]) (M1 := (sR M9 12 i5 42 (some (300, i10)))) (pc' := 58) (tb_Model hγ) [.aload_n 0, .getfield 522] (by decide +kernel) rfl rfl trivial ?_
      obtain ⟨i13, ei13, h⟩ := h
      rw [ei13]
      refine E_blk (lv' := [some (vr (some (11, this))), some (vi v1), some (vi v2), some (vi v3)]) (st' := [vr (some (11, this)), vi (mI (sR M9 12 i5 42 (some (300, i10))) 12 i13 43), vr (some (300, i12))]) (M1 := (sR M9 12 i5 42 (some (300, i10)))) (pc' := 62) (tb_Model hγ) [.getfield 480, .aload_n 0] (by decide +kernel) rfl rfl trivial ?_
      refine E_callX (κ' := k_Model_kindWord) (As := []) (st := [vi (mI (sR M9 12 i5 42 (some (300, i10))) 12 i13 43), vr (some (300, i12))]) mv_Model_kindWord (Or.inl (tbk_mem (j := 15) (k := 96) rfl)) rfl (by decide +kernel) (Nat.le_of_ble_eq_true rfl) (Nat.le_of_ble_eq_true rfl) rfl (by decide) rfl (lk_Model_kindWord hγ this _ _ (sR M9 12 i5 42 (some (300, i10))) h) (fun _ _ => Qi_r) (fun _ h => h) (fun v M14 hp => Qi_k (R := fun st => E γ k_Model_kindWords 5 65 [some (vr (some (11, this))), some (vi v1), some (vi v2), some (vi v3)] st M14 (Qx (14, 0) (Qi Q) X)) hp (fun r15 h => ?_))
      obtain ⟨c16, h⟩ := h
      refine E_blk (lv' := [some (vr (some (11, this))), some (vi v1), some (vi v2), some (vi v3)]) (st' := []) (M1 := (sI M14 300 i12 (mI (sR M9 12 i5 42 (some (300, i10))) 12 i13 43).toNatClampNeg r15)) (pc' := 66) (tb_Model hγ) [.iastore] (by decide +kernel) rfl rfl ⟨c16, trivial⟩ ?_
      obtain ⟨M17, eM17, h⟩ := h
      rw [← eM17]
      refine E_blk (lv' := [some (vr (some (11, this))), some (vi v1), some (vi v2), some (vi v3)]) (st' := [vr (mR M17 11 this 45)]) (M1 := M17) (pc' := 70) (tb_Model hγ) [.aload_n 0, .getfield 522] (by decide +kernel) rfl rfl trivial ?_
      obtain ⟨i18, ei18, h⟩ := h
      rw [ei18]
      obtain ⟨c19, h⟩ := h
      refine E_blk (lv' := [some (vr (some (11, this))), some (vi v1), some (vi (v2 + (1 : Int32))), some (vi v3)]) (st' := [vi (44 : Int32), vi (mI (sI M17 12 i18 43 ((mI M17 12 i18 43) + (1 : Int32))) 411 this (mI (sI M17 12 i18 43 ((mI M17 12 i18 43) + (1 : Int32))) 11 this 43).toNatClampNeg)]) (M1 := (sI M17 12 i18 43 ((mI M17 12 i18 43) + (1 : Int32)))) (pc' := 93) (tb_Model hγ) [.dup, .getfield 480, .iconst 1, .iadd, .putfield 480, .iinc 2 1, .aload_n 0, .getfield 92, .aload_n 0, .getfield 104, .baload, .bipush 44] (by decide +kernel) rfl rfl ⟨c19, trivial⟩ ?_
      refine E_icmp_ne (off := 7) (tgt := 100) (by decide +kernel) (by decide) (fun b20 => ?_) (fun b20 => ?_)
      · rw [if_pos b20] at h
        refine E_blk (lv' := [some (vr (some (11, this))), some (vi v1), some (vi (v2 + (1 : Int32))), some (vi v3)]) (st' := [vi (1 : Int32)]) (M1 := (sI M17 12 i18 43 ((mI M17 12 i18 43) + (1 : Int32)))) (pc' := 97) (tb_Model hγ) [.iconst 1] (by decide +kernel) rfl rfl trivial ?_
        refine E_goto (off := 4) (tgt := 101) (by decide +kernel) (by decide) ?_
        refine E_mask [true, true, true, false] rfl ?_
        exact lk_Model_kindWords_j101 hγ this Q X (w_Model_kindWords_L17 this Q X n) ih v1 (v2 + (1 : Int32)) (1 : Int32) (sI M17 12 i18 43 ((mI M17 12 i18 43) + (1 : Int32))) h
      · rw [if_neg b20] at h
        refine E_blk (lv' := [some (vr (some (11, this))), some (vi v1), some (vi (v2 + (1 : Int32))), some (vi v3)]) (st' := [vi (0 : Int32)]) (M1 := (sI M17 12 i18 43 ((mI M17 12 i18 43) + (1 : Int32)))) (pc' := 101) (tb_Model hγ) [.iconst 0] (by decide +kernel) rfl rfl trivial ?_
        refine E_mask [true, true, true, false] rfl ?_
        exact lk_Model_kindWords_j101 hγ this Q X (w_Model_kindWords_L17 this Q X n) ih v1 (v2 + (1 : Int32)) (0 : Int32) (sI M17 12 i18 43 ((mI M17 12 i18 43) + (1 : Int32))) h
set_option maxRecDepth 4096 in
theorem lk_Model_kindWords {γ : Gm} (hγ : Gk γ) (this : Nat) (a1 : Int32) (Q : Int32 → Mem → Prop) (X : Mem → Prop) (M : Mem) (h : w_Model_kindWords this a1 Q X M) : E γ k_Model_kindWords 5 0 [some (vr (some (11, this))), some (vi a1), none, none] [] M (Qx (14, 0) (Qi Q) X) := by
  unfold w_Model_kindWords at h
  obtain ⟨c1, h⟩ := h
  refine E_blk (lv' := [some (vr (some (11, this))), some (vi a1), some (vi (0 : Int32)), none]) (st' := [vi a1, vi (mI M 411 this (mI M 11 this 43).toNatClampNeg)]) (M1 := M) (pc' := 12) (tb_Model hγ) [.iconst 0, .istore_n 2, .aload_n 0, .getfield 92, .aload_n 0, .getfield 104, .baload, .iload_n 1] (by decide +kernel) rfl rfl ⟨c1, trivial⟩ ?_
  refine E_icmp_eq (off := 111) (tgt := 123) (by decide +kernel) (by decide) (fun b2 => ?_) (fun b2 => ?_)
  · rw [if_pos b2] at h
    refine E_mask [true, true, true, false] rfl ?_
    exact lk_Model_kindWords_j123 hγ this Q X a1 (0 : Int32) M h
  · rw [if_neg b2] at h
    refine E_blk (lv' := [some (vr (some (11, this))), some (vi a1), some (vi (0 : Int32)), some (vi (1 : Int32))]) (st' := []) (M1 := M) (pc' := 17) (tb_Model hγ) [.iconst 1, .istore_n 3] (by decide +kernel) rfl rfl trivial ?_
    obtain ⟨n22, h⟩ := h
    refine E_mask [true, true, true, true] rfl ?_
    exact lk_Model_kindWords_L17 hγ this Q X n22 a1 (0 : Int32) (1 : Int32) M h
def w_Model_addNine_j74 (this : Nat) (Q : Mem → Prop) (v1 : Int32) (v2 : Int32) (M : Mem) : Prop :=
  ∃ i21, (mR M 11 this 61) = some (300, i21) ∧ vp_in (mI M 11 this 64) (mL M 300 i21) ∧ ∃ i23, (mR (sI M 300 i21 (mI M 11 this 64).toNatClampNeg v1) 11 this 62) = some (300, i23) ∧ vp_in (0 : Int32) (mL (sI M 300 i21 (mI M 11 this 64).toNatClampNeg v1) 108 this) ∧ vp_in (mI (sI M 300 i21 (mI M 11 this 64).toNatClampNeg v1) 11 this 64) (mL (sI M 300 i21 (mI M 11 this 64).toNatClampNeg v1) 300 i23) ∧ ∃ M26, M26 = (sI (sI M 300 i21 (mI M 11 this 64).toNatClampNeg v1) 300 i23 (mI (sI M 300 i21 (mI M 11 this 64).toNatClampNeg v1) 11 this 64).toNatClampNeg (mI (sI M 300 i21 (mI M 11 this 64).toNatClampNeg v1) 108 this (0 : Int32).toNatClampNeg)) ∧ ∃ i27, (mR M26 11 this 63) = some (501, i27) ∧ vp_in (mI M26 11 this 64) (mL M26 501 i27) ∧ ∃ M29, M29 = (sI (sI M26 501 i27 (mI M26 11 this 64).toNatClampNeg (v2 &&& 1)) 11 this 64 ((mI (sI M26 501 i27 (mI M26 11 this 64).toNatClampNeg (v2 &&& 1)) 11 this 64) + (1 : Int32))) ∧ Q M29
def w_Model_addNine (this : Nat) (a1 : Int32) (a2 : Int32) (Q : Mem → Prop) (M : Mem) : Prop :=
  ∃ i1, (mR M 11 this 61) = some (300, i1) ∧ w_Model_room i1 ((mI M 11 this 64) + (1 : Int32)) (fun i3 M2 => ∃ i4, (mR (sR M2 11 this 61 (some (300, i3))) 11 this 62) = some (300, i4) ∧ w_Model_room i4 ((mI (sR M2 11 this 61 (some (300, i3))) 11 this 64) + (1 : Int32)) (fun i6 M5 => ∃ i7, (mR (sR M5 11 this 62 (some (300, i6))) 11 this 63) = some (501, i7) ∧ if (mI (sR M5 11 this 62 (some (300, i6))) 11 this 64) = (Int32.ofNat (mL (sR M5 11 this 62 (some (300, i6))) 501 i7)) then (¬ ((2 : Int32) * (mI (sR M5 11 this 62 (some (300, i6))) 11 this 64)) < 0 ∧ ((2 : Int32) * (mI (sR M5 11 this 62 (some (300, i6))) 11 this 64)).toNatClampNeg ≤ 60000000 ∧ ∃ i10, (501, i10) ∉ mN (sR M5 11 this 62 (some (300, i6))) ∧ ∃ M9, M9 = mk (sR M5 11 this 62 (some (300, i6))) 501 i10 ((2 : Int32) * (mI (sR M5 11 this 62 (some (300, i6))) 11 this 64)).toNatClampNeg ∧ ∃ i14, (mR M9 11 this 63) = some (501, i14) ∧ ¬ (0 : Int32) < 0 ∧ ¬ (0 : Int32) < 0 ∧ ¬ (mI M9 11 this 64) < 0 ∧ (0 : Int32).toNatClampNeg + (mI M9 11 this 64).toNatClampNeg ≤ mL M9 501 i14 ∧ (0 : Int32).toNatClampNeg + (mI M9 11 this 64).toNatClampNeg ≤ mL M9 501 i10 ∧ ∃ M15, M15 = cpI M9 501 i14 (0 : Int32).toNatClampNeg 501 i10 (0 : Int32).toNatClampNeg (mI M9 11 this 64).toNatClampNeg ∧ w_Model_addNine_j74 this Q a1 a2 (sR M15 11 this 63 (some (501, i10)))) else (w_Model_addNine_j74 this Q a1 a2 (sR M5 11 this 62 (some (300, i6))))) (sR M2 11 this 61 (some (300, i3)))) M
set_option maxRecDepth 4096 in
theorem lk_Model_addNine_j74 {γ : Gm} (hγ : Gk γ) (this : Nat) (Q : Mem → Prop) (v1 : Int32) (v2 : Int32) (M : Mem) (h : w_Model_addNine_j74 this Q v1 v2 M) : E γ k_Model_addNine 2 74 [some (vr (some (11, this))), some (vi v1), some (vi v2), none] [] M (Qv Q) := by
  unfold w_Model_addNine_j74 at h
  refine E_blk (lv' := [some (vr (some (11, this))), some (vi v1), some (vi v2), none]) (st' := [vr (mR M 11 this 61)]) (M1 := M) (pc' := 78) (tb_Model hγ) [.aload_n 0, .getfield 289] (by decide +kernel) rfl rfl trivial ?_
  obtain ⟨i21, ei21, h⟩ := h
  rw [ei21]
  obtain ⟨c22, h⟩ := h
  refine E_blk (lv' := [some (vr (some (11, this))), some (vi v1), some (vi v2), none]) (st' := [vr (mR (sI M 300 i21 (mI M 11 this 64).toNatClampNeg v1) 11 this 62)]) (M1 := (sI M 300 i21 (mI M 11 this 64).toNatClampNeg v1)) (pc' := 88) (tb_Model hγ) [.aload_n 0, .getfield 647, .iload_n 1, .iastore, .aload_n 0, .getfield 292] (by decide +kernel) rfl rfl ⟨c22, trivial⟩ ?_
  obtain ⟨i23, ei23, h⟩ := h
  rw [ei23]
  obtain ⟨c24, c25, h⟩ := h
  refine E_blk (lv' := [some (vr (some (11, this))), some (vi v1), some (vi v2), none]) (st' := []) (M1 := (sI (sI M 300 i21 (mI M 11 this 64).toNatClampNeg v1) 300 i23 (mI (sI M 300 i21 (mI M 11 this 64).toNatClampNeg v1) 11 this 64).toNatClampNeg (mI (sI M 300 i21 (mI M 11 this 64).toNatClampNeg v1) 108 this (0 : Int32).toNatClampNeg))) (pc' := 99) (tb_Model hγ) [.aload_n 0, .getfield 647, .aload_n 0, .getfield 101, .iconst 0, .iaload, .iastore] (by decide +kernel) rfl rfl ⟨c24, c25, trivial⟩ ?_
  obtain ⟨M26, eM26, h⟩ := h
  rw [← eM26]
  refine E_blk (lv' := [some (vr (some (11, this))), some (vi v1), some (vi v2), none]) (st' := [vr (mR M26 11 this 63)]) (M1 := M26) (pc' := 103) (tb_Model hγ) [.aload_n 0, .getfield 295] (by decide +kernel) rfl rfl trivial ?_
  obtain ⟨i27, ei27, h⟩ := h
  rw [ei27]
  obtain ⟨c28, h⟩ := h
  refine E_blk (lv' := [some (vr (some (11, this))), some (vi v1), some (vi v2), none]) (st' := []) (M1 := (sI (sI M26 501 i27 (mI M26 11 this 64).toNatClampNeg (v2 &&& 1)) 11 this 64 ((mI (sI M26 501 i27 (mI M26 11 this 64).toNatClampNeg (v2 &&& 1)) 11 this 64) + (1 : Int32)))) (pc' := 119) (tb_Model hγ) [.aload_n 0, .getfield 647, .iload_n 2, .bastore, .aload_n 0, .dup, .getfield 647, .iconst 1, .iadd, .putfield 647] (by decide +kernel) rfl rfl ⟨c28, trivial⟩ ?_
  obtain ⟨M29, eM29, h⟩ := h
  rw [← eM29]
  exact E_vret rfl (by decide +kernel) h
set_option maxRecDepth 4096 in
theorem lk_Model_addNine {γ : Gm} (hγ : Gk γ) (this : Nat) (a1 : Int32) (a2 : Int32) (Q : Mem → Prop) (M : Mem) (h : w_Model_addNine this a1 a2 Q M) : E γ k_Model_addNine 2 0 [some (vr (some (11, this))), some (vi a1), some (vi a2), none] [] M (Qv Q) := by
  unfold w_Model_addNine at h
  refine E_blk (lv' := [some (vr (some (11, this))), some (vi a1), some (vi a2), none]) (st' := [vr (mR M 11 this 61), vr (some (11, this))]) (M1 := M) (pc' := 5) (tb_Model hγ) [.aload_n 0, .aload_n 0, .getfield 289] (by decide +kernel) rfl rfl trivial ?_
  obtain ⟨i1, ei1, h⟩ := h
  rw [ei1]
  refine E_blk (lv' := [some (vr (some (11, this))), some (vi a1), some (vi a2), none]) (st' := [vi ((mI M 11 this 64) + (1 : Int32)), vr (some (300, i1)), vr (some (11, this))]) (M1 := M) (pc' := 11) (tb_Model hγ) [.aload_n 0, .getfield 647, .iconst 1, .iadd] (by decide +kernel) rfl rfl trivial ?_
  refine E_callS (κ' := k_Model_room) (As := [vr (some (300, i1)), vi ((mI M 11 this 64) + (1 : Int32))]) (st := [vr (some (11, this))]) ms_Model_room (Or.inl (tbk_mem (j := 11) (k := 66) rfl)) rfl (by decide +kernel) (Nat.le_of_ble_eq_true rfl) (Nat.le_of_ble_eq_true rfl) rfl (by decide) (lk_Model_room hγ i1 ((mI M 11 this 64) + (1 : Int32)) _ M h) (fun _ _ => Qr_r) (fun v M2 hp => Qr_k (R := fun st => E γ k_Model_addNine 2 14 [some (vr (some (11, this))), some (vi a1), some (vi a2), none] st M2 (Qv Q)) hp (fun i3 h => ?_))
  refine E_blk (lv' := [some (vr (some (11, this))), some (vi a1), some (vi a2), none]) (st' := [vr (mR (sR M2 11 this 61 (some (300, i3))) 11 this 62), vr (some (11, this))]) (M1 := (sR M2 11 this 61 (some (300, i3)))) (pc' := 22) (tb_Model hγ) [.putfield 289, .aload_n 0, .aload_n 0, .getfield 292] (by decide +kernel) rfl rfl trivial ?_
  obtain ⟨i4, ei4, h⟩ := h
  rw [ei4]
  refine E_blk (lv' := [some (vr (some (11, this))), some (vi a1), some (vi a2), none]) (st' := [vi ((mI (sR M2 11 this 61 (some (300, i3))) 11 this 64) + (1 : Int32)), vr (some (300, i4)), vr (some (11, this))]) (M1 := (sR M2 11 this 61 (some (300, i3)))) (pc' := 28) (tb_Model hγ) [.aload_n 0, .getfield 647, .iconst 1, .iadd] (by decide +kernel) rfl rfl trivial ?_
  refine E_callS (κ' := k_Model_room) (As := [vr (some (300, i4)), vi ((mI (sR M2 11 this 61 (some (300, i3))) 11 this 64) + (1 : Int32))]) (st := [vr (some (11, this))]) ms_Model_room (Or.inl (tbk_mem (j := 11) (k := 66) rfl)) rfl (by decide +kernel) (Nat.le_of_ble_eq_true rfl) (Nat.le_of_ble_eq_true rfl) rfl (by decide) (lk_Model_room hγ i4 ((mI (sR M2 11 this 61 (some (300, i3))) 11 this 64) + (1 : Int32)) _ (sR M2 11 this 61 (some (300, i3))) h) (fun _ _ => Qr_r) (fun v M5 hp => Qr_k (R := fun st => E γ k_Model_addNine 2 31 [some (vr (some (11, this))), some (vi a1), some (vi a2), none] st M5 (Qv Q)) hp (fun i6 h => ?_))
  refine E_blk (lv' := [some (vr (some (11, this))), some (vi a1), some (vi a2), none]) (st' := [vr (mR (sR M5 11 this 62 (some (300, i6))) 11 this 63), vi (mI (sR M5 11 this 62 (some (300, i6))) 11 this 64)]) (M1 := (sR M5 11 this 62 (some (300, i6)))) (pc' := 42) (tb_Model hγ) [.putfield 292, .aload_n 0, .getfield 647, .aload_n 0, .getfield 295] (by decide +kernel) rfl rfl trivial ?_
  obtain ⟨i7, ei7, h⟩ := h
  rw [ei7]
  refine E_blk (lv' := [some (vr (some (11, this))), some (vi a1), some (vi a2), none]) (st' := [vi (Int32.ofNat (mL (sR M5 11 this 62 (some (300, i6))) 501 i7)), vi (mI (sR M5 11 this 62 (some (300, i6))) 11 this 64)]) (M1 := (sR M5 11 this 62 (some (300, i6)))) (pc' := 43) (tb_Model hγ) [.arraylength] (by decide +kernel) rfl rfl trivial ?_
  refine E_icmp_ne (off := 31) (tgt := 74) (by decide +kernel) (by decide) (fun b8 => ?_) (fun b8 => ?_)
  · rw [if_pos b8] at h
    refine E_blk (lv' := [some (vr (some (11, this))), some (vi a1), some (vi a2), none]) (st' := [vi ((2 : Int32) * (mI (sR M5 11 this 62 (some (300, i6))) 11 this 64))]) (M1 := (sR M5 11 this 62 (some (300, i6)))) (pc' := 52) (tb_Model hγ) [.iconst 2, .aload_n 0, .getfield 647, .imul] (by decide +kernel) rfl rfl trivial ?_
    obtain ⟨c11, c12, i10, c13, M9, eM9, h⟩ := h
    refine E_newa (f := 501) (i := i10) (by decide) (by decide) (FIN_lt hγ.1) c11 c12 c13 (by decide +kernel) ?_
    rw [← eM9]
    refine E_blk (lv' := [some (vr (some (11, this))), some (vi a1), some (vi a2), some (vr (some (501, i10)))]) (st' := [vr (mR M9 11 this 63)]) (M1 := M9) (pc' := 59) (tb_Model hγ) [.astore_n 3, .aload_n 0, .getfield 295] (by decide +kernel) rfl rfl trivial ?_
    obtain ⟨i14, ei14, h⟩ := h
    rw [ei14]
    refine E_blk (lv' := [some (vr (some (11, this))), some (vi a1), some (vi a2), some (vr (some (501, i10)))]) (st' := [vi (mI M9 11 this 64), vi (0 : Int32), vr (some (501, i10)), vi (0 : Int32), vr (some (501, i14))]) (M1 := M9) (pc' := 66) (tb_Model hγ) [.iconst 0, .aload_n 3, .iconst 0, .aload_n 0, .getfield 647] (by decide +kernel) rfl rfl trivial ?_
    obtain ⟨c16, c17, c18, c19, c20, M15, eM15, h⟩ := h
    refine E_copy (pc := 66) (κ := k_Model_addNine) (f := 501) (i := i14) (g := 501) (j := i10) (sp := (0 : Int32)) (dp := (0 : Int32)) (n := (mI M9 11 this 64)) (idx := 11) (st := []) c16 c17 c18 c19 c20 (by decide) (by decide) rfl (by decide) (tbk_mem (j := 11) (k := 65) rfl) (by decide +kernel) (Nat.le_of_ble_eq_true rfl) ?_
    rw [← eM15]
    refine E_blk (lv' := [some (vr (some (11, this))), some (vi a1), some (vi a2), some (vr (some (501, i10)))]) (st' := []) (M1 := (sR M15 11 this 63 (some (501, i10)))) (pc' := 74) (tb_Model hγ) [.aload_n 0, .aload_n 3, .putfield 295] (by decide +kernel) rfl rfl trivial ?_
    refine E_mask [true, true, true, false] rfl ?_
    exact lk_Model_addNine_j74 hγ this Q a1 a2 (sR M15 11 this 63 (some (501, i10))) h
  · rw [if_neg b8] at h
    refine E_mask [true, true, true, false] rfl ?_
    exact lk_Model_addNine_j74 hγ this Q a1 a2 (sR M5 11 this 62 (some (300, i6))) h
def w_Model_frameLine_j16 (this : Nat) (Q : Mem → Prop) (X : Mem → Prop)  (M : Mem) : Prop :=
  ∃ i2, (mR M 11 this 45) = some (12, i2) ∧ ∃ i3, (mR M 11 this 45) = some (12, i3) ∧ ∃ i4, (mR M 11 this 45) = some (12, i4) ∧ ∃ i5, (mR M 12 i4 40) = some (300, i5) ∧ w_Model_room i5 ((mI M 12 i2 41) + (1 : Int32)) (fun i7 M6 => ∃ i8, (mR (sR M6 12 i3 40 (some (300, i7))) 11 this 45) = some (12, i8) ∧ ∃ i9, (mR (sR M6 12 i3 40 (some (300, i7))) 11 this 45) = some (12, i9) ∧ ∃ i10, (mR (sR M6 12 i3 40 (some (300, i7))) 12 i9 38) = some (300, i10) ∧ w_Model_room i10 ((mI M 12 i2 41) + (1 : Int32)) (fun i12 M11 => ∃ i13, (mR (sR M11 12 i8 38 (some (300, i12))) 11 this 45) = some (12, i13) ∧ ∃ i14, (mR (sR M11 12 i8 38 (some (300, i12))) 11 this 45) = some (12, i14) ∧ ∃ i15, (mR (sR M11 12 i8 38 (some (300, i12))) 12 i14 39) = some (300, i15) ∧ w_Model_room i15 ((mI M 12 i2 41) + (1 : Int32)) (fun i17 M16 => ∃ i18, (mR (sR M16 12 i13 39 (some (300, i17))) 11 this 45) = some (12, i18) ∧ ∃ i19, (mR (sR M16 12 i13 39 (some (300, i17))) 12 i18 40) = some (300, i19) ∧ ∃ i20, (mR (sR M16 12 i13 39 (some (300, i17))) 11 this 45) = some (12, i20) ∧ vp_in (mI M 12 i2 41) (mL (sR M16 12 i13 39 (some (300, i17))) 300 i19) ∧ ∃ M22, M22 = (sI (sR M16 12 i13 39 (some (300, i17))) 300 i19 (mI M 12 i2 41).toNatClampNeg (mI (sR M16 12 i13 39 (some (300, i17))) 12 i20 43)) ∧ ∃ i23, (mR M22 11 this 45) = some (12, i23) ∧ ∃ i24, (mR M22 12 i23 38) = some (300, i24) ∧ w_Model_kindWords this (59 : Int32) (fun r26 M25 => vp_in (mI M 12 i2 41) (mL M25 300 i24) ∧ ∃ i28, (mR (sI M25 300 i24 (mI M 12 i2 41).toNatClampNeg r26) 11 this 45) = some (12, i28) ∧ ∃ i29, (mR (sI M25 300 i24 (mI M 12 i2 41).toNatClampNeg r26) 12 i28 39) = some (300, i29) ∧ w_Model_kindWords this (0 : Int32) (fun r31 M30 => vp_in (mI M 12 i2 41) (mL M30 300 i29) ∧ ∃ i33, (mR (sI M30 300 i29 (mI M 12 i2 41).toNatClampNeg r31) 11 this 45) = some (12, i33) ∧ vp_in (mI (sI M30 300 i29 (mI M 12 i2 41).toNatClampNeg r31) 11 this 54) (mL (sI M30 300 i29 (mI M 12 i2 41).toNatClampNeg r31) 150 i33) ∧ w_Model_addNine this ((-1 : Int32) - (mI (sI M30 300 i29 (mI M 12 i2 41).toNatClampNeg r31) 150 i33 (mI (sI M30 300 i29 (mI M 12 i2 41).toNatClampNeg r31) 11 this 54).toNatClampNeg)) (0 : Int32) (fun M35 => ∃ i36, (mR M35 11 this 45) = some (12, i36) ∧ ∃ i37, (mR (sI M35 12 i36 41 ((mI M35 12 i36 41) + (1 : Int32))) 11 this 45) = some (12, i37) ∧ ∃ M38, M38 = (sI (sI M35 12 i36 41 ((mI M35 12 i36 41) + (1 : Int32))) 11 this 65 (mI (sI M35 12 i36 41 ((mI M35 12 i36 41) + (1 : Int32))) 12 i37 41)) ∧ Q M38) (sI M30 300 i29 (mI M 12 i2 41).toNatClampNeg r31)) X (sI M25 300 i24 (mI M 12 i2 41).toNatClampNeg r26)) X M22) (sR M11 12 i8 38 (some (300, i12)))) (sR M6 12 i3 40 (some (300, i7)))) M
def w_Model_frameLine (this : Nat) (Q : Mem → Prop) (X : Mem → Prop) (M : Mem) : Prop :=
  if (mI M 11 this 65) ≤ 0 then (w_Model_frameLine_j16 this Q X  M) else (w_Model_wrong this (fun M39 => w_Model_frameLine_j16 this Q X  M39) X (sI M 11 this 43 (0 : Int32)))
set_option maxRecDepth 4096 in
theorem lk_Model_frameLine_j16 {γ : Gm} (hγ : Gk γ) (this : Nat) (Q : Mem → Prop) (X : Mem → Prop)  (M : Mem) (h : w_Model_frameLine_j16 this Q X  M) : E γ k_Model_frameLine 6 16 [some (vr (some (11, this))), none] [] M (Qx (14, 0) (Qv Q) X) := by
  unfold w_Model_frameLine_j16 at h
  refine E_blk (lv' := [some (vr (some (11, this))), none]) (st' := [vr (mR M 11 this 45)]) (M1 := M) (pc' := 20) (tb_Model hγ) [.aload_n 0, .getfield 522] (by decide +kernel) rfl rfl trivial ?_
  obtain ⟨i2, ei2, h⟩ := h
  rw [ei2]
  refine E_blk (lv' := [some (vr (some (11, this))), some (vi (mI M 12 i2 41))]) (st' := [vr (mR M 11 this 45)]) (M1 := M) (pc' := 28) (tb_Model hγ) [.getfield 477, .istore_n 1, .aload_n 0, .getfield 522] (by decide +kernel) rfl rfl trivial ?_
  obtain ⟨i3, ei3, h⟩ := h
  rw [ei3]
  refine E_blk (lv' := [some (vr (some (11, this))), some (vi (mI M 12 i2 41))]) (st' := [vr (mR M 11 this 45), vr (some (12, i3))]) (M1 := M) (pc' := 32) (tb_Model hγ) [.aload_n 0, .getfield 522] (by decide +kernel) rfl rfl trivial ?_
  obtain ⟨i4, ei4, h⟩ := h
  rw [ei4]
  refine E_blk (lv' := [some (vr (some (11, this))), some (vi (mI M 12 i2 41))]) (st' := [vr (mR M 12 i4 40), vr (some (12, i3))]) (M1 := M) (pc' := 35) (tb_Model hγ) [.getfield 698] (by decide +kernel) rfl rfl trivial ?_
  obtain ⟨i5, ei5, h⟩ := h
  rw [ei5]
  refine E_blk (lv' := [some (vr (some (11, this))), some (vi (mI M 12 i2 41))]) (st' := [vi ((mI M 12 i2 41) + (1 : Int32)), vr (some (300, i5)), vr (some (12, i3))]) (M1 := M) (pc' := 38) (tb_Model hγ) [.iload_n 1, .iconst 1, .iadd] (by decide +kernel) rfl rfl trivial ?_
  refine E_callS (κ' := k_Model_room) (As := [vr (some (300, i5)), vi ((mI M 12 i2 41) + (1 : Int32))]) (st := [vr (some (12, i3))]) ms_Model_room (Or.inl (tbk_mem (j := 11) (k := 66) rfl)) rfl (by decide +kernel) (Nat.le_of_ble_eq_true rfl) (Nat.le_of_ble_eq_true rfl) rfl (by decide) (lk_Model_room hγ i5 ((mI M 12 i2 41) + (1 : Int32)) _ M h) (fun _ _ => Qr_r) (fun v M6 hp => Qr_k (R := fun st => E γ k_Model_frameLine 6 41 [some (vr (some (11, this))), some (vi (mI M 12 i2 41))] st M6 (Qx (14, 0) (Qv Q) X)) hp (fun i7 h => ?_))
  refine E_blk (lv' := [some (vr (some (11, this))), some (vi (mI M 12 i2 41))]) (st' := [vr (mR (sR M6 12 i3 40 (some (300, i7))) 11 this 45)]) (M1 := (sR M6 12 i3 40 (some (300, i7)))) (pc' := 48) (tb_Model hγ) [.putfield 698, .aload_n 0, .getfield 522] (by decide +kernel) rfl rfl trivial ?_
  obtain ⟨i8, ei8, h⟩ := h
  rw [ei8]
  refine E_blk (lv' := [some (vr (some (11, this))), some (vi (mI M 12 i2 41))]) (st' := [vr (mR (sR M6 12 i3 40 (some (300, i7))) 11 this 45), vr (some (12, i8))]) (M1 := (sR M6 12 i3 40 (some (300, i7)))) (pc' := 52) (tb_Model hγ) [.aload_n 0, .getfield 522] (by decide +kernel) rfl rfl trivial ?_
  obtain ⟨i9, ei9, h⟩ := h
  rw [ei9]
  refine E_blk (lv' := [some (vr (some (11, this))), some (vi (mI M 12 i2 41))]) (st' := [vr (mR (sR M6 12 i3 40 (some (300, i7))) 12 i9 38), vr (some (12, i8))]) (M1 := (sR M6 12 i3 40 (some (300, i7)))) (pc' := 55) (tb_Model hγ) [.getfield 701] (by decide +kernel) rfl rfl trivial ?_
  obtain ⟨i10, ei10, h⟩ := h
  rw [ei10]
  refine E_blk (lv' := [some (vr (some (11, this))), some (vi (mI M 12 i2 41))]) (st' := [vi ((mI M 12 i2 41) + (1 : Int32)), vr (some (300, i10)), vr (some (12, i8))]) (M1 := (sR M6 12 i3 40 (some (300, i7)))) (pc' := 58) (tb_Model hγ) [.iload_n 1, .iconst 1, .iadd] (by decide +kernel) rfl rfl trivial ?_
  refine E_callS (κ' := k_Model_room) (As := [vr (some (300, i10)), vi ((mI M 12 i2 41) + (1 : Int32))]) (st := [vr (some (12, i8))]) ms_Model_room (Or.inl (tbk_mem (j := 11) (k := 66) rfl)) rfl (by decide +kernel) (Nat.le_of_ble_eq_true rfl) (Nat.le_of_ble_eq_true rfl) rfl (by decide) (lk_Model_room hγ i10 ((mI M 12 i2 41) + (1 : Int32)) _ (sR M6 12 i3 40 (some (300, i7))) h) (fun _ _ => Qr_r) (fun v M11 hp => Qr_k (R := fun st => E γ k_Model_frameLine 6 61 [some (vr (some (11, this))), some (vi (mI M 12 i2 41))] st M11 (Qx (14, 0) (Qv Q) X)) hp (fun i12 h => ?_))
  refine E_blk (lv' := [some (vr (some (11, this))), some (vi (mI M 12 i2 41))]) (st' := [vr (mR (sR M11 12 i8 38 (some (300, i12))) 11 this 45)]) (M1 := (sR M11 12 i8 38 (some (300, i12)))) (pc' := 68) (tb_Model hγ) [.putfield 701, .aload_n 0, .getfield 522] (by decide +kernel) rfl rfl trivial ?_
  obtain ⟨i13, ei13, h⟩ := h
  rw [ei13]
  refine E_blk (lv' := [some (vr (some (11, this))), some (vi (mI M 12 i2 41))]) (st' := [vr (mR (sR M11 12 i8 38 (some (300, i12))) 11 this 45), vr (some (12, i13))]) (M1 := (sR M11 12 i8 38 (some (300, i12)))) (pc' := 72) (tb_Model hγ) [.aload_n 0, .getfield 522] (by decide +kernel) rfl rfl trivial ?_
  obtain ⟨i14, ei14, h⟩ := h
  rw [ei14]
  refine E_blk (lv' := [some (vr (some (11, this))), some (vi (mI M 12 i2 41))]) (st' := [vr (mR (sR M11 12 i8 38 (some (300, i12))) 12 i14 39), vr (some (12, i13))]) (M1 := (sR M11 12 i8 38 (some (300, i12)))) (pc' := 75) (tb_Model hγ) [.getfield 704] (by decide +kernel) rfl rfl trivial ?_
  obtain ⟨i15, ei15, h⟩ := h
  rw [ei15]
  refine E_blk (lv' := [some (vr (some (11, this))), some (vi (mI M 12 i2 41))]) (st' := [vi ((mI M 12 i2 41) + (1 : Int32)), vr (some (300, i15)), vr (some (12, i13))]) (M1 := (sR M11 12 i8 38 (some (300, i12)))) (pc' := 78) (tb_Model hγ) [.iload_n 1, .iconst 1, .iadd] (by decide +kernel) rfl rfl trivial ?_
  refine E_callS (κ' := k_Model_room) (As := [vr (some (300, i15)), vi ((mI M 12 i2 41) + (1 : Int32))]) (st := [vr (some (12, i13))]) ms_Model_room (Or.inl (tbk_mem (j := 11) (k := 66) rfl)) rfl (by decide +kernel) (Nat.le_of_ble_eq_true rfl) (Nat.le_of_ble_eq_true rfl) rfl (by decide) (lk_Model_room hγ i15 ((mI M 12 i2 41) + (1 : Int32)) _ (sR M11 12 i8 38 (some (300, i12))) h) (fun _ _ => Qr_r) (fun v M16 hp => Qr_k (R := fun st => E γ k_Model_frameLine 6 81 [some (vr (some (11, this))), some (vi (mI M 12 i2 41))] st M16 (Qx (14, 0) (Qv Q) X)) hp (fun i17 h => ?_))
  refine E_blk (lv' := [some (vr (some (11, this))), some (vi (mI M 12 i2 41))]) (st' := [vr (mR (sR M16 12 i13 39 (some (300, i17))) 11 this 45)]) (M1 := (sR M16 12 i13 39 (some (300, i17)))) (pc' := 88) (tb_Model hγ) [.putfield 704, .aload_n 0, .getfield 522] (by decide +kernel) rfl rfl trivial ?_
  obtain ⟨i18, ei18, h⟩ := h
  rw [ei18]
  refine E_blk (lv' := [some (vr (some (11, this))), some (vi (mI M 12 i2 41))]) (st' := [vr (mR (sR M16 12 i13 39 (some (300, i17))) 12 i18 40)]) (M1 := (sR M16 12 i13 39 (some (300, i17)))) (pc' := 91) (tb_Model hγ) [.getfield 698] (by decide +kernel) rfl rfl trivial ?_
  obtain ⟨i19, ei19, h⟩ := h
  rw [ei19]
  refine E_blk (lv' := [some (vr (some (11, this))), some (vi (mI M 12 i2 41))]) (st' := [vr (mR (sR M16 12 i13 39 (some (300, i17))) 11 this 45), vi (mI M 12 i2 41), vr (some (300, i19))]) (M1 := (sR M16 12 i13 39 (some (300, i17)))) (pc' := 96) (tb_Model hγ) [.iload_n 1, .aload_n 0, .getfield 522] (by decide +kernel) rfl rfl trivial ?_
  obtain ⟨i20, ei20, h⟩ := h
  rw [ei20]
  obtain ⟨c21, h⟩ := h
  refine E_blk (lv' := [some (vr (some (11, this))), some (vi (mI M 12 i2 41))]) (st' := []) (M1 := (sI (sR M16 12 i13 39 (some (300, i17))) 300 i19 (mI M 12 i2 41).toNatClampNeg (mI (sR M16 12 i13 39 (some (300, i17))) 12 i20 43))) (pc' := 100) (tb_Model hγ) [.getfield 480, .iastore] (by decide +kernel) rfl rfl ⟨c21, trivial⟩ ?_
  obtain ⟨M22, eM22, h⟩ := h
  rw [← eM22]
  refine E_blk (lv' := [some (vr (some (11, this))), some (vi (mI M 12 i2 41))]) (st' := [vr (mR M22 11 this 45)]) (M1 := M22) (pc' := 104) (tb_Model hγ) [.aload_n 0, .getfield 522] (by decide +kernel) rfl rfl trivial ?_
  obtain ⟨i23, ei23, h⟩ := h
  rw [ei23]
  refine E_blk (lv' := [some (vr (some (11, this))), some (vi (mI M 12 i2 41))]) (st' := [vr (mR M22 12 i23 38)]) (M1 := M22) (pc' := 107) (tb_Model hγ) [.getfield 701] (by decide +kernel) rfl rfl trivial ?_
  obtain ⟨i24, ei24, h⟩ := h
  rw [ei24]
  refine E_blk (lv' := [some (vr (some (11, this))), some (vi (mI M 12 i2 41))]) (st' := [vi (59 : Int32), vr (some (11, this)), vi (mI M 12 i2 41), vr (some (300, i24))]) (M1 := M22) (pc' := 111) (tb_Model hγ) [.iload_n 1, .aload_n 0, .bipush 59] (by decide +kernel) rfl rfl trivial ?_
  refine E_callX (κ' := k_Model_kindWords) (As := [vi (59 : Int32)]) (st := [vi (mI M 12 i2 41), vr (some (300, i24))]) mv_Model_kindWords (Or.inl (tbk_mem (j := 15) (k := 92) rfl)) rfl (by decide +kernel) (Nat.le_of_ble_eq_true rfl) (Nat.le_of_ble_eq_true rfl) rfl (by decide) rfl (lk_Model_kindWords hγ this (59 : Int32) _ _ M22 h) (fun _ _ => Qi_r) (fun _ h => h) (fun v M25 hp => Qi_k (R := fun st => E γ k_Model_frameLine 6 114 [some (vr (some (11, this))), some (vi (mI M 12 i2 41))] st M25 (Qx (14, 0) (Qv Q) X)) hp (fun r26 h => ?_))
  obtain ⟨c27, h⟩ := h
  refine E_blk (lv' := [some (vr (some (11, this))), some (vi (mI M 12 i2 41))]) (st' := [vr (mR (sI M25 300 i24 (mI M 12 i2 41).toNatClampNeg r26) 11 this 45)]) (M1 := (sI M25 300 i24 (mI M 12 i2 41).toNatClampNeg r26)) (pc' := 119) (tb_Model hγ) [.iastore, .aload_n 0, .getfield 522] (by decide +kernel) rfl rfl ⟨c27, trivial⟩ ?_
  obtain ⟨i28, ei28, h⟩ := h
  rw [ei28]
  refine E_blk (lv' := [some (vr (some (11, this))), some (vi (mI M 12 i2 41))]) (st' := [vr (mR (sI M25 300 i24 (mI M 12 i2 41).toNatClampNeg r26) 12 i28 39)]) (M1 := (sI M25 300 i24 (mI M 12 i2 41).toNatClampNeg r26)) (pc' := 122) (tb_Model hγ) [.getfield 704] (by decide +kernel) rfl rfl trivial ?_
  obtain ⟨i29, ei29, h⟩ := h
  rw [ei29]
  refine E_blk (lv' := [some (vr (some (11, this))), some (vi (mI M 12 i2 41))]) (st' := [vi (0 : Int32), vr (some (11, this)), vi (mI M 12 i2 41), vr (some (300, i29))]) (M1 := (sI M25 300 i24 (mI M 12 i2 41).toNatClampNeg r26)) (pc' := 125) (tb_Model hγ) [.iload_n 1, .aload_n 0, .iconst 0] (by decide +kernel) rfl rfl trivial ?_
  refine E_callX (κ' := k_Model_kindWords) (As := [vi (0 : Int32)]) (st := [vi (mI M 12 i2 41), vr (some (300, i29))]) mv_Model_kindWords (Or.inl (tbk_mem (j := 15) (k := 92) rfl)) rfl (by decide +kernel) (Nat.le_of_ble_eq_true rfl) (Nat.le_of_ble_eq_true rfl) rfl (by decide) rfl (lk_Model_kindWords hγ this (0 : Int32) _ _ (sI M25 300 i24 (mI M 12 i2 41).toNatClampNeg r26) h) (fun _ _ => Qi_r) (fun _ h => h) (fun v M30 hp => Qi_k (R := fun st => E γ k_Model_frameLine 6 128 [some (vr (some (11, this))), some (vi (mI M 12 i2 41))] st M30 (Qx (14, 0) (Qv Q) X)) hp (fun r31 h => ?_))
  obtain ⟨c32, h⟩ := h
  refine E_blk (lv' := [some (vr (some (11, this))), some (vi (mI M 12 i2 41))]) (st' := [vr (mR (sI M30 300 i29 (mI M 12 i2 41).toNatClampNeg r31) 11 this 45), vi (-1 : Int32), vr (some (11, this))]) (M1 := (sI M30 300 i29 (mI M 12 i2 41).toNatClampNeg r31)) (pc' := 135) (tb_Model hγ) [.iastore, .aload_n 0, .iconst (.negSucc 0), .aload_n 0, .getfield 522] (by decide +kernel) rfl rfl ⟨c32, trivial⟩ ?_
  obtain ⟨i33, ei33, h⟩ := h
  rw [ei33]
  obtain ⟨c34, h⟩ := h
  refine E_blk (lv' := [some (vr (some (11, this))), some (vi (mI M 12 i2 41))]) (st' := [vi (0 : Int32), vi ((-1 : Int32) - (mI (sI M30 300 i29 (mI M 12 i2 41).toNatClampNeg r31) 150 i33 (mI (sI M30 300 i29 (mI M 12 i2 41).toNatClampNeg r31) 11 this 54).toNatClampNeg)), vr (some (11, this))]) (M1 := (sI M30 300 i29 (mI M 12 i2 41).toNatClampNeg r31)) (pc' := 145) (tb_Model hγ) [.getfield 465, .aload_n 0, .getfield 642, .iaload, .isub, .iconst 0] (by decide +kernel) rfl rfl ⟨c34, trivial⟩ ?_
  refine E_callV (κ' := k_Model_addNine) (As := [vi ((-1 : Int32) - (mI (sI M30 300 i29 (mI M 12 i2 41).toNatClampNeg r31) 150 i33 (mI (sI M30 300 i29 (mI M 12 i2 41).toNatClampNeg r31) 11 this 54).toNatClampNeg)), vi (0 : Int32)]) (st := []) mv_Model_addNine (Or.inl (tbk_mem (j := 15) (k := 100) rfl)) rfl (by decide +kernel) (Nat.le_of_ble_eq_true rfl) (Nat.le_of_ble_eq_true rfl) rfl (by decide) (lk_Model_addNine hγ this ((-1 : Int32) - (mI (sI M30 300 i29 (mI M 12 i2 41).toNatClampNeg r31) 150 i33 (mI (sI M30 300 i29 (mI M 12 i2 41).toNatClampNeg r31) 11 this 54).toNatClampNeg)) (0 : Int32) _ (sI M30 300 i29 (mI M 12 i2 41).toNatClampNeg r31) h) (fun _ _ => Qv_r) (fun v M35 hp => Qv_k (R := fun st => E γ k_Model_frameLine 6 148 [some (vr (some (11, this))), some (vi (mI M 12 i2 41))] st M35 (Qx (14, 0) (Qv Q) X)) hp (fun h => ?_))
  refine E_blk (lv' := [some (vr (some (11, this))), some (vi (mI M 12 i2 41))]) (st' := [vr (mR M35 11 this 45)]) (M1 := M35) (pc' := 152) (tb_Model hγ) [.aload_n 0, .getfield 522] (by decide +kernel) rfl rfl trivial ?_
  obtain ⟨i36, ei36, h⟩ := h
  rw [ei36]
  refine E_blk (lv' := [some (vr (some (11, this))), some (vi (mI M 12 i2 41))]) (st' := [vr (mR (sI M35 12 i36 41 ((mI M35 12 i36 41) + (1 : Int32))) 11 this 45), vr (some (11, this))]) (M1 := (sI M35 12 i36 41 ((mI M35 12 i36 41) + (1 : Int32)))) (pc' := 166) (tb_Model hγ) [.dup, .getfield 477, .iconst 1, .iadd, .putfield 477, .aload_n 0, .aload_n 0, .getfield 522] (by decide +kernel) rfl rfl trivial ?_
  obtain ⟨i37, ei37, h⟩ := h
  rw [ei37]
  refine E_blk (lv' := [some (vr (some (11, this))), some (vi (mI M 12 i2 41))]) (st' := []) (M1 := (sI (sI M35 12 i36 41 ((mI M35 12 i36 41) + (1 : Int32))) 11 this 65 (mI (sI M35 12 i36 41 ((mI M35 12 i36 41) + (1 : Int32))) 12 i37 41))) (pc' := 172) (tb_Model hγ) [.getfield 477, .putfield 650] (by decide +kernel) rfl rfl trivial ?_
  obtain ⟨M38, eM38, h⟩ := h
  rw [← eM38]
  exact (E_vret rfl (by decide +kernel) h).nx
set_option maxRecDepth 4096 in
theorem lk_Model_frameLine {γ : Gm} (hγ : Gk γ) (this : Nat) (Q : Mem → Prop) (X : Mem → Prop) (M : Mem) (h : w_Model_frameLine this Q X M) : E γ k_Model_frameLine 6 0 [some (vr (some (11, this))), none] [] M (Qx (14, 0) (Qv Q) X) := by
  unfold w_Model_frameLine at h
  refine E_blk (lv' := [some (vr (some (11, this))), none]) (st' := [vi (mI M 11 this 65)]) (M1 := M) (pc' := 4) (tb_Model hγ) [.aload_n 0, .getfield 650] (by decide +kernel) rfl rfl trivial ?_
  refine E_if_le (off := 12) (tgt := 16) (by decide +kernel) (by decide) (fun b1 => ?_) (fun b1 => ?_)
  · rw [if_pos b1] at h
    refine E_mask [true, false] rfl ?_
    exact lk_Model_frameLine_j16 hγ this Q X  M h
  · rw [if_neg b1] at h
    refine E_blk (lv' := [some (vr (some (11, this))), none]) (st' := [vr (some (11, this))]) (M1 := (sI M 11 this 43 (0 : Int32))) (pc' := 13) (tb_Model hγ) [.aload_n 0, .iconst 0, .putfield 104, .aload_n 0] (by decide +kernel) rfl rfl trivial ?_
    refine E_callX (κ' := k_Model_wrong) (As := []) (st := []) mv_Model_wrong (Or.inl (tbk_mem (j := 15) (k := 19) rfl)) rfl (by decide +kernel) (Nat.le_of_ble_eq_true rfl) (Nat.le_of_ble_eq_true rfl) rfl (by decide) rfl (lk_Model_wrong hγ this _ _ (sI M 11 this 43 (0 : Int32)) h) (fun _ _ => Qv_r) (fun _ h => h) (fun v M39 hp => Qv_k (R := fun st => E γ k_Model_frameLine 6 16 [some (vr (some (11, this))), none] st M39 (Qx (14, 0) (Qv Q) X)) hp (fun h => ?_))
    refine E_mask [true, false] rfl ?_
    exact lk_Model_frameLine_j16 hγ this Q X  M39 h
def w_Model_usedLabel (this : Nat) (Q : Int32 → Mem → Prop) (X : Mem → Prop) (M : Mem) : Prop :=
  w_Model_plainName this (fun r2 M1 => w_Model_addNine this r2 (0 : Int32) (fun M3 => Q r2 M3) M1) X M
set_option maxRecDepth 4096 in
theorem lk_Model_usedLabel {γ : Gm} (hγ : Gk γ) (this : Nat) (Q : Int32 → Mem → Prop) (X : Mem → Prop) (M : Mem) (h : w_Model_usedLabel this Q X M) : E γ k_Model_usedLabel 3 0 [some (vr (some (11, this))), none] [] M (Qx (14, 0) (Qi Q) X) := by
  unfold w_Model_usedLabel at h
  refine E_blk (lv' := [some (vr (some (11, this))), none]) (st' := [vr (some (11, this))]) (M1 := M) (pc' := 1) (tb_Model hγ) [.aload_n 0] (by decide +kernel) rfl rfl trivial ?_
  refine E_callX (κ' := k_Model_plainName) (As := []) (st := []) mv_Model_plainName (Or.inl (tbk_mem (j := 15) (k := 31) rfl)) rfl (by decide +kernel) (Nat.le_of_ble_eq_true rfl) (Nat.le_of_ble_eq_true rfl) rfl (by decide) rfl (lk_Model_plainName hγ this _ _ M h) (fun _ _ => Qi_r) (fun _ h => h) (fun v M1 hp => Qi_k (R := fun st => E γ k_Model_usedLabel 3 4 [some (vr (some (11, this))), none] st M1 (Qx (14, 0) (Qi Q) X)) hp (fun r2 h => ?_))
  refine E_blk (lv' := [some (vr (some (11, this))), some (vi r2)]) (st' := [vi (0 : Int32), vi r2, vr (some (11, this))]) (M1 := M1) (pc' := 8) (tb_Model hγ) [.istore_n 1, .aload_n 0, .iload_n 1, .iconst 0] (by decide +kernel) rfl rfl trivial ?_
  refine E_callV (κ' := k_Model_addNine) (As := [vi r2, vi (0 : Int32)]) (st := []) mv_Model_addNine (Or.inl (tbk_mem (j := 15) (k := 100) rfl)) rfl (by decide +kernel) (Nat.le_of_ble_eq_true rfl) (Nat.le_of_ble_eq_true rfl) rfl (by decide) (lk_Model_addNine hγ this r2 (0 : Int32) _ M1 h) (fun _ _ => Qv_r) (fun v M3 hp => Qv_k (R := fun st => E γ k_Model_usedLabel 3 11 [some (vr (some (11, this))), some (vi r2)] st M3 (Qx (14, 0) (Qi Q) X)) hp (fun h => ?_))
  refine E_blk (lv' := [some (vr (some (11, this))), some (vi r2)]) (st' := [vi r2]) (M1 := M3) (pc' := 12) (tb_Model hγ) [.iload_n 1] (by decide +kernel) rfl rfl trivial ?_
  exact (E_iret rfl (by decide +kernel) h).nx
def w_Model_handlerLine_j92 (this : Nat) (Q : Mem → Prop) (X : Mem → Prop) (v1 : Int32) (v2 : Int32) (v3 : Int32) (v4 : Int32) (v5 : Int32) (v6 : Int32) (s0 : Int32) (s1 : Int32) (M : Mem) : Prop :=
  w_Model_asks this s1 s0 (fun M19 => if (99 : Int32) ≤ (mI M19 11 this 51) then (∃ i21, (mR M19 11 this 45) = some (12, i21) ∧ vp_in v2 (mL M19 152 i21) ∧ ∃ i23, (mR (sI M19 152 i21 v2.toNatClampNeg v3) 11 this 45) = some (12, i23) ∧ vp_in v2 (mL (sI M19 152 i21 v2.toNatClampNeg v3) 153 i23) ∧ ∃ i25, (mR (sI (sI M19 152 i21 v2.toNatClampNeg v3) 153 i23 v2.toNatClampNeg v4) 11 this 45) = some (12, i25) ∧ vp_in v2 (mL (sI (sI M19 152 i21 v2.toNatClampNeg v3) 153 i23 v2.toNatClampNeg v4) 154 i25) ∧ ∃ M27, M27 = (sI (sI (sI M19 152 i21 v2.toNatClampNeg v3) 153 i23 v2.toNatClampNeg v4) 154 i25 v2.toNatClampNeg v5) ∧ ∃ i28, (mR M27 11 this 45) = some (12, i28) ∧ vp_in v2 (mL M27 155 i28) ∧ vp_in (0 : Int32) (mL (sI M27 155 i28 v2.toNatClampNeg v6) 108 this) ∧ vp_in v1 (mL (sI M27 155 i28 v2.toNatClampNeg v6) 109 this) ∧ ∃ M32, M32 = (sI (sI M27 155 i28 v2.toNatClampNeg v6) 109 this v1.toNatClampNeg (mI (sI M27 155 i28 v2.toNatClampNeg v6) 108 this (0 : Int32).toNatClampNeg)) ∧ ∃ i33, (mR M32 11 this 45) = some (12, i33) ∧ vp_in (mI M32 11 this 54) (mL M32 151 i33) ∧ vp_in (mI M32 11 this 54) (mL M32 151 i33) ∧ ∃ M36, M36 = (sI M32 151 i33 (mI M32 11 this 54).toNatClampNeg ((mI M32 151 i33 (mI M32 11 this 54).toNatClampNeg) + (1 : Int32))) ∧ Q M36) else (Q M19)) M
def w_Model_handlerLine_j71 (this : Nat) (Q : Mem → Prop) (X : Mem → Prop) (v1 : Int32) (v2 : Int32) (v3 : Int32) (v4 : Int32) (v5 : Int32) (s0 : Int32) (M : Mem) : Prop :=
  w_Model_need this (0 : Int32) (fun M17 => if v1 = (8 : Int32) then (w_Model_handlerLine_j92 this Q X v1 v2 v3 v4 v5 s0 (1 : Int32) (12 : Int32) M17) else (w_Model_handlerLine_j92 this Q X v1 v2 v3 v4 v5 s0 (0 : Int32) (12 : Int32) M17)) X M
def w_Model_handlerLine (this : Nat) (Q : Mem → Prop) (X : Mem → Prop) (M : Mem) : Prop :=
  ∃ i1, (mR M 11 this 45) = some (12, i1) ∧ vp_in (mI M 11 this 54) (mL M 151 i1) ∧ w_JMath_min (mI M 151 i1 (mI M 11 this 54).toNatClampNeg) (7 : Int32) (fun r4 M3 => w_Model_usedLabel this (fun r6 M5 => w_Model_plainName this (fun r8 M7 => w_Model_addNine this r8 (1 : Int32) (fun M9 => w_Model_usedLabel this (fun r11 M10 => w_Model_takes this (mI M10 11 this 24) (fun r13 M12 => if r13 = 0 then (w_Model_className this (fun r16 M15 => w_Model_handlerLine_j71 this Q X (mI M 151 i1 (mI M 11 this 54).toNatClampNeg) (((8 : Int32) * (mI M 11 this 54)) + r4) r6 r8 r11 r16 M15) X M12) else (w_Model_handlerLine_j71 this Q X (mI M 151 i1 (mI M 11 this 54).toNatClampNeg) (((8 : Int32) * (mI M 11 this 54)) + r4) r6 r8 r11 (-1 : Int32) M12)) M10) X M9) M7) X M5) X M3) M
set_option maxRecDepth 4096 in
theorem lk_Model_handlerLine_j92 {γ : Gm} (hγ : Gk γ) (this : Nat) (Q : Mem → Prop) (X : Mem → Prop) (v1 : Int32) (v2 : Int32) (v3 : Int32) (v4 : Int32) (v5 : Int32) (v6 : Int32) (s0 : Int32) (s1 : Int32) (M : Mem) (h : w_Model_handlerLine_j92 this Q X v1 v2 v3 v4 v5 v6 s0 s1 M) : E γ k_Model_handlerLine 4 92 [some (vr (some (11, this))), some (vi v1), some (vi v2), some (vi v3), some (vi v4), some (vi v5), some (vi v6)] [vi s0, vi s1, vr (some (11, this))] M (Qx (14, 0) (Qv Q) X) := by
  unfold w_Model_handlerLine_j92 at h
  refine E_callV (κ' := k_Model_asks) (As := [vi s1, vi s0]) (st := []) mv_Model_asks (Or.inl (tbk_mem (j := 15) (k := 43) rfl)) rfl (by decide +kernel) (Nat.le_of_ble_eq_true rfl) (Nat.le_of_ble_eq_true rfl) rfl (by decide) (lk_Model_asks hγ this s1 s0 _ M h) (fun _ _ => Qv_r) (fun v M19 hp => Qv_k (R := fun st => E γ k_Model_handlerLine 4 95 [some (vr (some (11, this))), some (vi v1), some (vi v2), some (vi v3), some (vi v4), some (vi v5), some (vi v6)] st M19 (Qx (14, 0) (Qv Q) X)) hp (fun h => ?_))
  refine E_blk (lv' := [some (vr (some (11, this))), some (vi v1), some (vi v2), some (vi v3), some (vi v4), some (vi v5), some (vi v6)]) (st' := [vi (99 : Int32), vi (mI M19 11 this 51)]) (M1 := M19) (pc' := 101) (tb_Model hγ) [.aload_n 0, .getfield 532, .bipush 99] (by decide +kernel) rfl rfl trivial ?_
  refine E_icmp_ge (off := 4) (tgt := 105) (by decide +kernel) (by decide) (fun b20 => ?_) (fun b20 => ?_)
  · rw [if_pos b20] at h
    refine E_blk (lv' := [some (vr (some (11, this))), some (vi v1), some (vi v2), some (vi v3), some (vi v4), some (vi v5), some (vi v6)]) (st' := [vr (mR M19 11 this 45)]) (M1 := M19) (pc' := 109) (tb_Model hγ) [.aload_n 0, .getfield 522] (by decide +kernel) rfl rfl trivial ?_
    obtain ⟨i21, ei21, h⟩ := h
    rw [ei21]
    obtain ⟨c22, h⟩ := h
    refine E_blk (lv' := [some (vr (some (11, this))), some (vi v1), some (vi v2), some (vi v3), some (vi v4), some (vi v5), some (vi v6)]) (st' := [vr (mR (sI M19 152 i21 v2.toNatClampNeg v3) 11 this 45)]) (M1 := (sI M19 152 i21 v2.toNatClampNeg v3)) (pc' := 119) (tb_Model hγ) [.getfield 713, .iload_n 2, .iload_n 3, .iastore, .aload_n 0, .getfield 522] (by decide +kernel) rfl rfl ⟨c22, trivial⟩ ?_
    obtain ⟨i23, ei23, h⟩ := h
    rw [ei23]
    obtain ⟨c24, h⟩ := h
    refine E_blk (lv' := [some (vr (some (11, this))), some (vi v1), some (vi v2), some (vi v3), some (vi v4), some (vi v5), some (vi v6)]) (st' := [vr (mR (sI (sI M19 152 i21 v2.toNatClampNeg v3) 153 i23 v2.toNatClampNeg v4) 11 this 45)]) (M1 := (sI (sI M19 152 i21 v2.toNatClampNeg v3) 153 i23 v2.toNatClampNeg v4)) (pc' := 130) (tb_Model hγ) [.getfield 716, .iload_n 2, .iload 4, .iastore, .aload_n 0, .getfield 522] (by decide +kernel) rfl rfl ⟨c24, trivial⟩ ?_
    obtain ⟨i25, ei25, h⟩ := h
    rw [ei25]
    obtain ⟨c26, h⟩ := h
    refine E_blk (lv' := [some (vr (some (11, this))), some (vi v1), some (vi v2), some (vi v3), some (vi v4), some (vi v5), some (vi v6)]) (st' := []) (M1 := (sI (sI (sI M19 152 i21 v2.toNatClampNeg v3) 153 i23 v2.toNatClampNeg v4) 154 i25 v2.toNatClampNeg v5)) (pc' := 137) (tb_Model hγ) [.getfield 719, .iload_n 2, .iload 5, .iastore] (by decide +kernel) rfl rfl ⟨c26, trivial⟩ ?_
    obtain ⟨M27, eM27, h⟩ := h
    rw [← eM27]
    refine E_blk (lv' := [some (vr (some (11, this))), some (vi v1), some (vi v2), some (vi v3), some (vi v4), some (vi v5), some (vi v6)]) (st' := [vr (mR M27 11 this 45)]) (M1 := M27) (pc' := 141) (tb_Model hγ) [.aload_n 0, .getfield 522] (by decide +kernel) rfl rfl trivial ?_
    obtain ⟨i28, ei28, h⟩ := h
    rw [ei28]
    obtain ⟨c29, c30, c31, h⟩ := h
    refine E_blk (lv' := [some (vr (some (11, this))), some (vi v1), some (vi v2), some (vi v3), some (vi v4), some (vi v5), some (vi v6)]) (st' := []) (M1 := (sI (sI M27 155 i28 v2.toNatClampNeg v6) 109 this v1.toNatClampNeg (mI (sI M27 155 i28 v2.toNatClampNeg v6) 108 this (0 : Int32).toNatClampNeg))) (pc' := 160) (tb_Model hγ) [.getfield 722, .iload_n 2, .iload 6, .iastore, .aload_n 0, .getfield 299, .iload_n 1, .aload_n 0, .getfield 101, .iconst 0, .iaload, .iastore] (by decide +kernel) rfl rfl ⟨c29, c30, c31, trivial⟩ ?_
    obtain ⟨M32, eM32, h⟩ := h
    rw [← eM32]
    refine E_blk (lv' := [some (vr (some (11, this))), some (vi v1), some (vi v2), some (vi v3), some (vi v4), some (vi v5), some (vi v6)]) (st' := [vr (mR M32 11 this 45)]) (M1 := M32) (pc' := 164) (tb_Model hγ) [.aload_n 0, .getfield 522] (by decide +kernel) rfl rfl trivial ?_
    obtain ⟨i33, ei33, h⟩ := h
    rw [ei33]
    obtain ⟨c34, c35, h⟩ := h
    refine E_blk (lv' := [some (vr (some (11, this))), some (vi v1), some (vi v2), some (vi v3), some (vi v4), some (vi v5), some (vi v6)]) (st' := []) (M1 := (sI M32 151 i33 (mI M32 11 this 54).toNatClampNeg ((mI M32 151 i33 (mI M32 11 this 54).toNatClampNeg) + (1 : Int32)))) (pc' := 176) (tb_Model hγ) [.getfield 468, .aload_n 0, .getfield 642, .dup2, .iaload, .iconst 1, .iadd, .iastore] (by decide +kernel) rfl rfl ⟨c34, c35, trivial⟩ ?_
    obtain ⟨M36, eM36, h⟩ := h
    rw [← eM36]
    exact (E_vret rfl (by decide +kernel) h).nx
  · rw [if_neg b20] at h
    exact (E_vret rfl (by decide +kernel) h).nx
set_option maxRecDepth 4096 in
theorem lk_Model_handlerLine_j71 {γ : Gm} (hγ : Gk γ) (this : Nat) (Q : Mem → Prop) (X : Mem → Prop) (v1 : Int32) (v2 : Int32) (v3 : Int32) (v4 : Int32) (v5 : Int32) (s0 : Int32) (M : Mem) (h : w_Model_handlerLine_j71 this Q X v1 v2 v3 v4 v5 s0 M) : E γ k_Model_handlerLine 4 71 [some (vr (some (11, this))), some (vi v1), some (vi v2), some (vi v3), some (vi v4), some (vi v5), none] [vi s0] M (Qx (14, 0) (Qv Q) X) := by
  unfold w_Model_handlerLine_j71 at h
  refine E_blk (lv' := [some (vr (some (11, this))), some (vi v1), some (vi v2), some (vi v3), some (vi v4), some (vi v5), some (vi s0)]) (st' := [vi (0 : Int32), vr (some (11, this))]) (M1 := M) (pc' := 75) (tb_Model hγ) [.istore 6, .aload_n 0, .iconst 0] (by decide +kernel) rfl rfl trivial ?_
  refine E_callX (κ' := k_Model_need) (As := [vi (0 : Int32)]) (st := []) mv_Model_need (Or.inl (tbk_mem (j := 15) (k := 35) rfl)) rfl (by decide +kernel) (Nat.le_of_ble_eq_true rfl) (Nat.le_of_ble_eq_true rfl) rfl (by decide) rfl (lk_Model_need hγ this (0 : Int32) _ _ M h) (fun _ _ => Qv_r) (fun _ h => h) (fun v M17 hp => Qv_k (R := fun st => E γ k_Model_handlerLine 4 78 [some (vr (some (11, this))), some (vi v1), some (vi v2), some (vi v3), some (vi v4), some (vi v5), some (vi s0)] st M17 (Qx (14, 0) (Qv Q) X)) hp (fun h => ?_))
  refine E_blk (lv' := [some (vr (some (11, this))), some (vi v1), some (vi v2), some (vi v3), some (vi v4), some (vi v5), some (vi s0)]) (st' := [vi (8 : Int32), vi v1, vi (12 : Int32), vr (some (11, this))]) (M1 := M17) (pc' := 84) (tb_Model hγ) [.aload_n 0, .bipush 12, .iload_n 1, .bipush 8] (by decide +kernel) rfl rfl trivial ?_
  refine E_icmp_ne (off := 7) (tgt := 91) (by decide +kernel) (by decide) (fun b18 => ?_) (fun b18 => ?_)
  · rw [if_pos b18] at h
    refine E_blk (lv' := [some (vr (some (11, this))), some (vi v1), some (vi v2), some (vi v3), some (vi v4), some (vi v5), some (vi s0)]) (st' := [vi (1 : Int32), vi (12 : Int32), vr (some (11, this))]) (M1 := M17) (pc' := 88) (tb_Model hγ) [.iconst 1] (by decide +kernel) rfl rfl trivial ?_
    refine E_goto (off := 4) (tgt := 92) (by decide +kernel) (by decide) ?_
    refine E_mask [true, true, true, true, true, true, true] rfl ?_
    exact lk_Model_handlerLine_j92 hγ this Q X v1 v2 v3 v4 v5 s0 (1 : Int32) (12 : Int32) M17 h
  · rw [if_neg b18] at h
    refine E_blk (lv' := [some (vr (some (11, this))), some (vi v1), some (vi v2), some (vi v3), some (vi v4), some (vi v5), some (vi s0)]) (st' := [vi (0 : Int32), vi (12 : Int32), vr (some (11, this))]) (M1 := M17) (pc' := 92) (tb_Model hγ) [.iconst 0] (by decide +kernel) rfl rfl trivial ?_
    refine E_mask [true, true, true, true, true, true, true] rfl ?_
    exact lk_Model_handlerLine_j92 hγ this Q X v1 v2 v3 v4 v5 s0 (0 : Int32) (12 : Int32) M17 h
set_option maxRecDepth 4096 in
theorem lk_Model_handlerLine {γ : Gm} (hγ : Gk γ) (this : Nat) (Q : Mem → Prop) (X : Mem → Prop) (M : Mem) (h : w_Model_handlerLine this Q X M) : E γ k_Model_handlerLine 4 0 [some (vr (some (11, this))), none, none, none, none, none, none] [] M (Qx (14, 0) (Qv Q) X) := by
  unfold w_Model_handlerLine at h
  refine E_blk (lv' := [some (vr (some (11, this))), none, none, none, none, none, none]) (st' := [vr (mR M 11 this 45)]) (M1 := M) (pc' := 4) (tb_Model hγ) [.aload_n 0, .getfield 522] (by decide +kernel) rfl rfl trivial ?_
  obtain ⟨i1, ei1, h⟩ := h
  rw [ei1]
  obtain ⟨c2, h⟩ := h
  refine E_blk (lv' := [some (vr (some (11, this))), some (vi (mI M 151 i1 (mI M 11 this 54).toNatClampNeg)), none, none, none, none, none]) (st' := [vi (7 : Int32), vi (mI M 151 i1 (mI M 11 this 54).toNatClampNeg), vi ((8 : Int32) * (mI M 11 this 54))]) (M1 := M) (pc' := 23) (tb_Model hγ) [.getfield 468, .aload_n 0, .getfield 642, .iaload, .istore_n 1, .bipush 8, .aload_n 0, .getfield 642, .imul, .iload_n 1, .bipush 7] (by decide +kernel) rfl rfl ⟨c2, trivial⟩ ?_
  refine E_callS (κ' := k_JMath_min) (As := [vi (mI M 151 i1 (mI M 11 this 54).toNatClampNeg), vi (7 : Int32)]) (st := [vi ((8 : Int32) * (mI M 11 this 54))]) ms_JMath_min (Or.inl (tbk_mem (j := 15) (k := 108) rfl)) rfl (by decide +kernel) (Nat.le_of_ble_eq_true rfl) (Nat.le_of_ble_eq_true rfl) rfl (by decide) (lk_JMath_min hγ (mI M 151 i1 (mI M 11 this 54).toNatClampNeg) (7 : Int32) _ M h) (fun _ _ => Qi_r) (fun v M3 hp => Qi_k (R := fun st => E γ k_Model_handlerLine 4 26 [some (vr (some (11, this))), some (vi (mI M 151 i1 (mI M 11 this 54).toNatClampNeg)), none, none, none, none, none] st M3 (Qx (14, 0) (Qv Q) X)) hp (fun r4 h => ?_))
  refine E_blk (lv' := [some (vr (some (11, this))), some (vi (mI M 151 i1 (mI M 11 this 54).toNatClampNeg)), some (vi (((8 : Int32) * (mI M 11 this 54)) + r4)), none, none, none, none]) (st' := [vr (some (11, this))]) (M1 := M3) (pc' := 29) (tb_Model hγ) [.iadd, .istore_n 2, .aload_n 0] (by decide +kernel) rfl rfl trivial ?_
  refine E_callX (κ' := k_Model_usedLabel) (As := []) (st := []) mv_Model_usedLabel (Or.inl (tbk_mem (j := 15) (k := 109) rfl)) rfl (by decide +kernel) (Nat.le_of_ble_eq_true rfl) (Nat.le_of_ble_eq_true rfl) rfl (by decide) rfl (lk_Model_usedLabel hγ this _ _ M3 h) (fun _ _ => Qi_r) (fun _ h => h) (fun v M5 hp => Qi_k (R := fun st => E γ k_Model_handlerLine 4 32 [some (vr (some (11, this))), some (vi (mI M 151 i1 (mI M 11 this 54).toNatClampNeg)), some (vi (((8 : Int32) * (mI M 11 this 54)) + r4)), none, none, none, none] st M5 (Qx (14, 0) (Qv Q) X)) hp (fun r6 h => ?_))
  refine E_blk (lv' := [some (vr (some (11, this))), some (vi (mI M 151 i1 (mI M 11 this 54).toNatClampNeg)), some (vi (((8 : Int32) * (mI M 11 this 54)) + r4)), some (vi r6), none, none, none]) (st' := [vr (some (11, this))]) (M1 := M5) (pc' := 34) (tb_Model hγ) [.istore_n 3, .aload_n 0] (by decide +kernel) rfl rfl trivial ?_
  refine E_callX (κ' := k_Model_plainName) (As := []) (st := []) mv_Model_plainName (Or.inl (tbk_mem (j := 15) (k := 31) rfl)) rfl (by decide +kernel) (Nat.le_of_ble_eq_true rfl) (Nat.le_of_ble_eq_true rfl) rfl (by decide) rfl (lk_Model_plainName hγ this _ _ M5 h) (fun _ _ => Qi_r) (fun _ h => h) (fun v M7 hp => Qi_k (R := fun st => E γ k_Model_handlerLine 4 37 [some (vr (some (11, this))), some (vi (mI M 151 i1 (mI M 11 this 54).toNatClampNeg)), some (vi (((8 : Int32) * (mI M 11 this 54)) + r4)), some (vi r6), none, none, none] st M7 (Qx (14, 0) (Qv Q) X)) hp (fun r8 h => ?_))
  refine E_blk (lv' := [some (vr (some (11, this))), some (vi (mI M 151 i1 (mI M 11 this 54).toNatClampNeg)), some (vi (((8 : Int32) * (mI M 11 this 54)) + r4)), some (vi r6), some (vi r8), none, none]) (st' := [vi (1 : Int32), vi r8, vr (some (11, this))]) (M1 := M7) (pc' := 43) (tb_Model hγ) [.istore 4, .aload_n 0, .iload 4, .iconst 1] (by decide +kernel) rfl rfl trivial ?_
  refine E_callV (κ' := k_Model_addNine) (As := [vi r8, vi (1 : Int32)]) (st := []) mv_Model_addNine (Or.inl (tbk_mem (j := 15) (k := 100) rfl)) rfl (by decide +kernel) (Nat.le_of_ble_eq_true rfl) (Nat.le_of_ble_eq_true rfl) rfl (by decide) (lk_Model_addNine hγ this r8 (1 : Int32) _ M7 h) (fun _ _ => Qv_r) (fun v M9 hp => Qv_k (R := fun st => E γ k_Model_handlerLine 4 46 [some (vr (some (11, this))), some (vi (mI M 151 i1 (mI M 11 this 54).toNatClampNeg)), some (vi (((8 : Int32) * (mI M 11 this 54)) + r4)), some (vi r6), some (vi r8), none, none] st M9 (Qx (14, 0) (Qv Q) X)) hp (fun h => ?_))
  refine E_blk (lv' := [some (vr (some (11, this))), some (vi (mI M 151 i1 (mI M 11 this 54).toNatClampNeg)), some (vi (((8 : Int32) * (mI M 11 this 54)) + r4)), some (vi r6), some (vi r8), none, none]) (st' := [vr (some (11, this))]) (M1 := M9) (pc' := 47) (tb_Model hγ) [.aload_n 0] (by decide +kernel) rfl rfl trivial ?_
  refine E_callX (κ' := k_Model_usedLabel) (As := []) (st := []) mv_Model_usedLabel (Or.inl (tbk_mem (j := 15) (k := 109) rfl)) rfl (by decide +kernel) (Nat.le_of_ble_eq_true rfl) (Nat.le_of_ble_eq_true rfl) rfl (by decide) rfl (lk_Model_usedLabel hγ this _ _ M9 h) (fun _ _ => Qi_r) (fun _ h => h) (fun v M10 hp => Qi_k (R := fun st => E γ k_Model_handlerLine 4 50 [some (vr (some (11, this))), some (vi (mI M 151 i1 (mI M 11 this 54).toNatClampNeg)), some (vi (((8 : Int32) * (mI M 11 this 54)) + r4)), some (vi r6), some (vi r8), none, none] st M10 (Qx (14, 0) (Qv Q) X)) hp (fun r11 h => ?_))
  refine E_blk (lv' := [some (vr (some (11, this))), some (vi (mI M 151 i1 (mI M 11 this 54).toNatClampNeg)), some (vi (((8 : Int32) * (mI M 11 this 54)) + r4)), some (vi r6), some (vi r8), some (vi r11), none]) (st' := [vi (mI M10 11 this 24), vr (some (11, this))]) (M1 := M10) (pc' := 57) (tb_Model hγ) [.istore 5, .aload_n 0, .aload_n 0, .getfield 232] (by decide +kernel) rfl rfl trivial ?_
  refine E_callV (κ' := k_Model_takes) (As := [vi (mI M10 11 this 24)]) (st := []) mv_Model_takes (Or.inl (tbk_mem (j := 15) (k := 15) rfl)) rfl (by decide +kernel) (Nat.le_of_ble_eq_true rfl) (Nat.le_of_ble_eq_true rfl) rfl (by decide) (lk_Model_takes hγ this (mI M10 11 this 24) _ M10 h) (fun _ _ => Qi_r) (fun v M12 hp => Qi_k (R := fun st => E γ k_Model_handlerLine 4 60 [some (vr (some (11, this))), some (vi (mI M 151 i1 (mI M 11 this 54).toNatClampNeg)), some (vi (((8 : Int32) * (mI M 11 this 54)) + r4)), some (vi r6), some (vi r8), some (vi r11), none] st M12 (Qx (14, 0) (Qv Q) X)) hp (fun r13 h => ?_))
  refine E_if_eq (off := 7) (tgt := 67) (by decide +kernel) (by decide) (fun b14 => ?_) (fun b14 => ?_)
  · rw [if_pos b14] at h
    refine E_blk (lv' := [some (vr (some (11, this))), some (vi (mI M 151 i1 (mI M 11 this 54).toNatClampNeg)), some (vi (((8 : Int32) * (mI M 11 this 54)) + r4)), some (vi r6), some (vi r8), some (vi r11), none]) (st' := [vr (some (11, this))]) (M1 := M12) (pc' := 68) (tb_Model hγ) [.aload_n 0] (by decide +kernel) rfl rfl trivial ?_
    refine E_callX (κ' := k_Model_className) (As := []) (st := []) mv_Model_className (Or.inl (tbk_mem (j := 15) (k := 23) rfl)) rfl (by decide +kernel) (Nat.le_of_ble_eq_true rfl) (Nat.le_of_ble_eq_true rfl) rfl (by decide) rfl (lk_Model_className hγ this _ _ M12 h) (fun _ _ => Qi_r) (fun _ h => h) (fun v M15 hp => Qi_k (R := fun st => E γ k_Model_handlerLine 4 71 [some (vr (some (11, this))), some (vi (mI M 151 i1 (mI M 11 this 54).toNatClampNeg)), some (vi (((8 : Int32) * (mI M 11 this 54)) + r4)), some (vi r6), some (vi r8), some (vi r11), none] st M15 (Qx (14, 0) (Qv Q) X)) hp (fun r16 h => ?_))
    refine E_mask [true, true, true, true, true, true, false] rfl ?_
    exact lk_Model_handlerLine_j71 hγ this Q X (mI M 151 i1 (mI M 11 this 54).toNatClampNeg) (((8 : Int32) * (mI M 11 this 54)) + r4) r6 r8 r11 r16 M15 h
  · rw [if_neg b14] at h
    refine E_blk (lv' := [some (vr (some (11, this))), some (vi (mI M 151 i1 (mI M 11 this 54).toNatClampNeg)), some (vi (((8 : Int32) * (mI M 11 this 54)) + r4)), some (vi r6), some (vi r8), some (vi r11), none]) (st' := [vi (-1 : Int32)]) (M1 := M12) (pc' := 64) (tb_Model hγ) [.iconst (.negSucc 0)] (by decide +kernel) rfl rfl trivial ?_
    refine E_goto (off := 7) (tgt := 71) (by decide +kernel) (by decide) ?_
    refine E_mask [true, true, true, true, true, true, false] rfl ?_
    exact lk_Model_handlerLine_j71 hγ this Q X (mI M 151 i1 (mI M 11 this 54).toNatClampNeg) (((8 : Int32) * (mI M 11 this 54)) + r4) r6 r8 r11 (-1 : Int32) M12 h
def w_Model_addList (this : Nat) (a1 : Int32) (Q : Mem → Prop) (M : Mem) : Prop :=
  ∃ i1, (mR M 11 this 45) = some (12, i1) ∧ ∃ i2, (mR M 11 this 45) = some (12, i2) ∧ ∃ i3, (mR M 12 i2 36) = some (300, i3) ∧ ∃ i4, (mR M 11 this 45) = some (12, i4) ∧ w_Model_room i3 ((mI M 12 i4 37) + (1 : Int32)) (fun i6 M5 => ∃ i7, (mR (sR M5 12 i1 36 (some (300, i6))) 11 this 45) = some (12, i7) ∧ ∃ i8, (mR (sR M5 12 i1 36 (some (300, i6))) 12 i7 36) = some (300, i8) ∧ ∃ i9, (mR (sR M5 12 i1 36 (some (300, i6))) 11 this 45) = some (12, i9) ∧ vp_in (mI (sR M5 12 i1 36 (some (300, i6))) 12 i9 37) (mL (sR M5 12 i1 36 (some (300, i6))) 300 i8) ∧ ∃ M11, M11 = (sI (sR M5 12 i1 36 (some (300, i6))) 300 i8 (mI (sR M5 12 i1 36 (some (300, i6))) 12 i9 37).toNatClampNeg a1) ∧ ∃ i12, (mR M11 11 this 45) = some (12, i12) ∧ Q (sI M11 12 i12 37 ((mI M11 12 i12 37) + (1 : Int32)))) M
set_option maxRecDepth 4096 in
theorem lk_Model_addList {γ : Gm} (hγ : Gk γ) (this : Nat) (a1 : Int32) (Q : Mem → Prop) (M : Mem) (h : w_Model_addList this a1 Q M) : E γ k_Model_addList 2 0 [some (vr (some (11, this))), some (vi a1)] [] M (Qv Q) := by
  unfold w_Model_addList at h
  refine E_blk (lv' := [some (vr (some (11, this))), some (vi a1)]) (st' := [vr (mR M 11 this 45)]) (M1 := M) (pc' := 4) (tb_Model hγ) [.aload_n 0, .getfield 522] (by decide +kernel) rfl rfl trivial ?_
  obtain ⟨i1, ei1, h⟩ := h
  rw [ei1]
  refine E_blk (lv' := [some (vr (some (11, this))), some (vi a1)]) (st' := [vr (mR M 11 this 45), vr (some (12, i1))]) (M1 := M) (pc' := 8) (tb_Model hγ) [.aload_n 0, .getfield 522] (by decide +kernel) rfl rfl trivial ?_
  obtain ⟨i2, ei2, h⟩ := h
  rw [ei2]
  refine E_blk (lv' := [some (vr (some (11, this))), some (vi a1)]) (st' := [vr (mR M 12 i2 36), vr (some (12, i1))]) (M1 := M) (pc' := 11) (tb_Model hγ) [.getfield 689] (by decide +kernel) rfl rfl trivial ?_
  obtain ⟨i3, ei3, h⟩ := h
  rw [ei3]
  refine E_blk (lv' := [some (vr (some (11, this))), some (vi a1)]) (st' := [vr (mR M 11 this 45), vr (some (300, i3)), vr (some (12, i1))]) (M1 := M) (pc' := 15) (tb_Model hγ) [.aload_n 0, .getfield 522] (by decide +kernel) rfl rfl trivial ?_
  obtain ⟨i4, ei4, h⟩ := h
  rw [ei4]
  refine E_blk (lv' := [some (vr (some (11, this))), some (vi a1)]) (st' := [vi ((mI M 12 i4 37) + (1 : Int32)), vr (some (300, i3)), vr (some (12, i1))]) (M1 := M) (pc' := 20) (tb_Model hγ) [.getfield 474, .iconst 1, .iadd] (by decide +kernel) rfl rfl trivial ?_
  refine E_callS (κ' := k_Model_room) (As := [vr (some (300, i3)), vi ((mI M 12 i4 37) + (1 : Int32))]) (st := [vr (some (12, i1))]) ms_Model_room (Or.inl (tbk_mem (j := 11) (k := 66) rfl)) rfl (by decide +kernel) (Nat.le_of_ble_eq_true rfl) (Nat.le_of_ble_eq_true rfl) rfl (by decide) (lk_Model_room hγ i3 ((mI M 12 i4 37) + (1 : Int32)) _ M h) (fun _ _ => Qr_r) (fun v M5 hp => Qr_k (R := fun st => E γ k_Model_addList 2 23 [some (vr (some (11, this))), some (vi a1)] st M5 (Qv Q)) hp (fun i6 h => ?_))
  refine E_blk (lv' := [some (vr (some (11, this))), some (vi a1)]) (st' := [vr (mR (sR M5 12 i1 36 (some (300, i6))) 11 this 45)]) (M1 := (sR M5 12 i1 36 (some (300, i6)))) (pc' := 30) (tb_Model hγ) [.putfield 689, .aload_n 0, .getfield 522] (by decide +kernel) rfl rfl trivial ?_
  obtain ⟨i7, ei7, h⟩ := h
  rw [ei7]
  refine E_blk (lv' := [some (vr (some (11, this))), some (vi a1)]) (st' := [vr (mR (sR M5 12 i1 36 (some (300, i6))) 12 i7 36)]) (M1 := (sR M5 12 i1 36 (some (300, i6)))) (pc' := 33) (tb_Model hγ) [.getfield 689] (by decide +kernel) rfl rfl trivial ?_
  obtain ⟨i8, ei8, h⟩ := h
  rw [ei8]
  refine E_blk (lv' := [some (vr (some (11, this))), some (vi a1)]) (st' := [vr (mR (sR M5 12 i1 36 (some (300, i6))) 11 this 45), vr (some (300, i8))]) (M1 := (sR M5 12 i1 36 (some (300, i6)))) (pc' := 37) (tb_Model hγ) [.aload_n 0, .getfield 522] (by decide +kernel) rfl rfl trivial ?_
  obtain ⟨i9, ei9, h⟩ := h
  rw [ei9]
  obtain ⟨c10, h⟩ := h
  refine E_blk (lv' := [some (vr (some (11, this))), some (vi a1)]) (st' := []) (M1 := (sI (sR M5 12 i1 36 (some (300, i6))) 300 i8 (mI (sR M5 12 i1 36 (some (300, i6))) 12 i9 37).toNatClampNeg a1)) (pc' := 42) (tb_Model hγ) [.getfield 474, .iload_n 1, .iastore] (by decide +kernel) rfl rfl ⟨c10, trivial⟩ ?_
  obtain ⟨M11, eM11, h⟩ := h
  rw [← eM11]
  refine E_blk (lv' := [some (vr (some (11, this))), some (vi a1)]) (st' := [vr (mR M11 11 this 45)]) (M1 := M11) (pc' := 46) (tb_Model hγ) [.aload_n 0, .getfield 522] (by decide +kernel) rfl rfl trivial ?_
  obtain ⟨i12, ei12, h⟩ := h
  rw [ei12]
  refine E_blk (lv' := [some (vr (some (11, this))), some (vi a1)]) (st' := []) (M1 := (sI M11 12 i12 37 ((mI M11 12 i12 37) + (1 : Int32)))) (pc' := 55) (tb_Model hγ) [.dup, .getfield 474, .iconst 1, .iadd, .putfield 474] (by decide +kernel) rfl rfl trivial ?_
  exact E_vret rfl (by decide +kernel) h
