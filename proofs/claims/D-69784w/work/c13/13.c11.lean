def k_Model_codeLine : Kp := (⟨"ClassWorksModel", "codeLine", "()V"⟩, prog_13_method_43_code, 7, none, [])
theorem mv_Model_codeLine : MV k_Model_codeLine 11 0 := ⟨⟨_, rfl, rfl⟩, by decide, (tbk_mem (j := 15) (k := 86) rfl), Or.inr ⟨(tbk_mem (j := 15) (k := 85) rfl), 131, (tbk_mem (j := 11) (k := 41) rfl)⟩, Or.inl ⟨rfl, (tbk_mem (j := 15) (k := 87) rfl)⟩, ⟨by decide, by decide⟩, by decide +kernel, by decide +kernel, by decide⟩
def k_Model_takeLine : Kp := (⟨"ClassWorksModel", "takeLine", "()V"⟩, prog_13_method_34_code, 1, none, [])
theorem mv_Model_takeLine : MV k_Model_takeLine 11 0 := ⟨⟨_, rfl, rfl⟩, by decide, (tbk_mem (j := 14) (k := 228) rfl), Or.inr ⟨(tbk_mem (j := 14) (k := 227) rfl), 131, (tbk_mem (j := 11) (k := 41) rfl)⟩, Or.inl ⟨rfl, (tbk_mem (j := 14) (k := 229) rfl)⟩, ⟨by decide, by decide⟩, by decide +kernel, by decide +kernel, by decide⟩
def k_Model_take : Kp := (⟨"ClassWorksModel", "take", "([BI)I"⟩, prog_13_method_33_code, 10, some (.int), [(60, 132, 135, 267)])
theorem mv_Model_take : MV k_Model_take 11 2 := ⟨⟨_, rfl, rfl⟩, by decide, (tbk_mem (j := 14) (k := 200) rfl), Or.inr ⟨(tbk_mem (j := 14) (k := 199) rfl), 131, (tbk_mem (j := 11) (k := 41) rfl)⟩, Or.inr (tbk_mem (j := 14) (k := 201) rfl), ⟨by decide, by decide⟩, by decide +kernel, by decide +kernel, by decide⟩
def k_Model_parentOf : Kp := (⟨"ClassWorksModel", "parentOf", "(I)I"⟩, prog_13_method_53_code, 2, some (.int), [])
theorem mv_Model_parentOf : MV k_Model_parentOf 11 1 := ⟨⟨_, rfl, rfl⟩, by decide, (tbk_mem (j := 15) (k := 159) rfl), Or.inr ⟨(tbk_mem (j := 15) (k := 158) rfl), 131, (tbk_mem (j := 11) (k := 41) rfl)⟩, Or.inl ⟨rfl, (tbk_mem (j := 15) (k := 160) rfl)⟩, ⟨by decide, by decide⟩, by decide +kernel, by decide +kernel, by decide⟩
def k_Model_directs : Kp := (⟨"ClassWorksModel", "directs", "(IZ)J"⟩, prog_13_method_50_code, 8, some (.long), [])
theorem mv_Model_directs : MV k_Model_directs 11 2 := ⟨⟨_, rfl, rfl⟩, by decide, (tbk_mem (j := 15) (k := 155) rfl), Or.inr ⟨(tbk_mem (j := 15) (k := 154) rfl), 131, (tbk_mem (j := 11) (k := 41) rfl)⟩, Or.inl ⟨rfl, (tbk_mem (j := 15) (k := 156) rfl)⟩, ⟨by decide, by decide⟩, by decide +kernel, by decide +kernel, by decide⟩
def k_Model_upFrom : Kp := (⟨"ClassWorksModel", "upFrom", "(JZ)J"⟩, prog_13_method_51_code, 10, some (.long), [])
theorem mv_Model_upFrom : MV k_Model_upFrom 11 2 := ⟨⟨_, rfl, rfl⟩, by decide, (tbk_mem (j := 15) (k := 163) rfl), Or.inr ⟨(tbk_mem (j := 15) (k := 162) rfl), 131, (tbk_mem (j := 11) (k := 41) rfl)⟩, Or.inl ⟨rfl, (tbk_mem (j := 15) (k := 164) rfl)⟩, ⟨by decide, by decide⟩, by decide +kernel, by decide +kernel, by decide⟩
def k_Model_isBelow : Kp := (⟨"ClassWorksModel", "isBelow", "(II)Z"⟩, prog_13_method_52_code, 3, some (.boolean), [])
theorem mv_Model_isBelow : MV k_Model_isBelow 11 2 := ⟨⟨_, rfl, rfl⟩, by decide, (tbk_mem (j := 16) (k := 133) rfl), Or.inr ⟨(tbk_mem (j := 16) (k := 132) rfl), 131, (tbk_mem (j := 11) (k := 41) rfl)⟩, Or.inl ⟨rfl, (tbk_mem (j := 16) (k := 134) rfl)⟩, ⟨by decide, by decide⟩, by decide +kernel, by decide +kernel, by decide⟩
def k_Model_parentName : Kp := (⟨"ClassWorksModel", "parentName", "(I)I"⟩, prog_13_method_54_code, 2, some (.int), [])
theorem mv_Model_parentName : MV k_Model_parentName 11 1 := ⟨⟨_, rfl, rfl⟩, by decide, (tbk_mem (j := 15) (k := 207) rfl), Or.inr ⟨(tbk_mem (j := 15) (k := 206) rfl), 131, (tbk_mem (j := 11) (k := 41) rfl)⟩, Or.inl ⟨rfl, (tbk_mem (j := 15) (k := 208) rfl)⟩, ⟨by decide, by decide⟩, by decide +kernel, by decide +kernel, by decide⟩
def k_Model_listOwn : Kp := (⟨"ClassWorksModel", "listOwn", "(I)V"⟩, prog_13_method_56_code, 4, none, [])
theorem mv_Model_listOwn : MV k_Model_listOwn 11 1 := ⟨⟨_, rfl, rfl⟩, by decide, (tbk_mem (j := 16) (k := 101) rfl), Or.inr ⟨(tbk_mem (j := 16) (k := 100) rfl), 131, (tbk_mem (j := 11) (k := 41) rfl)⟩, Or.inl ⟨rfl, (tbk_mem (j := 16) (k := 102) rfl)⟩, ⟨by decide, by decide⟩, by decide +kernel, by decide +kernel, by decide⟩
def k_Model_listFaces : Kp := (⟨"ClassWorksModel", "listFaces", "(I)V"⟩, prog_13_method_55_code, 4, none, [])
theorem mv_Model_listFaces : MV k_Model_listFaces 11 1 := ⟨⟨_, rfl, rfl⟩, by decide, (tbk_mem (j := 16) (k := 97) rfl), Or.inr ⟨(tbk_mem (j := 16) (k := 96) rfl), 131, (tbk_mem (j := 11) (k := 41) rfl)⟩, Or.inl ⟨rfl, (tbk_mem (j := 16) (k := 98) rfl)⟩, ⟨by decide, by decide⟩, by decide +kernel, by decide +kernel, by decide⟩
def k_Model_methodIn : Kp := (⟨"ClassWorksModel", "methodIn", "(III)I"⟩, prog_13_method_59_code, 5, some (.int), [])
theorem mv_Model_methodIn : MV k_Model_methodIn 11 3 := ⟨⟨_, rfl, rfl⟩, by decide, (tbk_mem (j := 15) (k := 167) rfl), Or.inr ⟨(tbk_mem (j := 15) (k := 166) rfl), 131, (tbk_mem (j := 11) (k := 41) rfl)⟩, Or.inl ⟨rfl, (tbk_mem (j := 15) (k := 168) rfl)⟩, ⟨by decide, by decide⟩, by decide +kernel, by decide +kernel, by decide⟩
def k_Model_begin : Kp := (⟨"ClassWorksModel", "begin", "(II)V"⟩, prog_13_method_70_code, 7, none, [])
theorem mv_Model_begin : MV k_Model_begin 11 2 := ⟨⟨_, rfl, rfl⟩, by decide, (tbk_mem (j := 15) (k := 175) rfl), Or.inr ⟨(tbk_mem (j := 15) (k := 174) rfl), 131, (tbk_mem (j := 11) (k := 41) rfl)⟩, Or.inl ⟨rfl, (tbk_mem (j := 15) (k := 176) rfl)⟩, ⟨by decide, by decide⟩, by decide +kernel, by decide +kernel, by decide⟩
def k_Model_frameKind : Kp := (⟨"ClassWorksModel", "frameKind", "(II)I"⟩, prog_13_method_64_code, 3, some (.int), [])
theorem mv_Model_frameKind : MV k_Model_frameKind 11 2 := ⟨⟨_, rfl, rfl⟩, by decide, (tbk_mem (j := 15) (k := 187) rfl), Or.inr ⟨(tbk_mem (j := 15) (k := 186) rfl), 131, (tbk_mem (j := 11) (k := 41) rfl)⟩, Or.inl ⟨rfl, (tbk_mem (j := 15) (k := 188) rfl)⟩, ⟨by decide, by decide⟩, by decide +kernel, by decide +kernel, by decide⟩
def k_Model_isWrongFrame : Kp := (⟨"ClassWorksModel", "isWrongFrame", "(I)Z"⟩, prog_13_method_65_code, 7, some (.boolean), [])
theorem mv_Model_isWrongFrame : MV k_Model_isWrongFrame 11 1 := ⟨⟨_, rfl, rfl⟩, by decide, (tbk_mem (j := 15) (k := 183) rfl), Or.inr ⟨(tbk_mem (j := 15) (k := 182) rfl), 131, (tbk_mem (j := 11) (k := 41) rfl)⟩, Or.inl ⟨rfl, (tbk_mem (j := 15) (k := 184) rfl)⟩, ⟨by decide, by decide⟩, by decide +kernel, by decide +kernel, by decide⟩
def k_Model_fitClass : Kp := (⟨"ClassWorksModel", "fitClass", "(II)I"⟩, prog_13_method_63_code, 7, some (.int), [])
theorem mv_Model_fitClass : MV k_Model_fitClass 11 2 := ⟨⟨_, rfl, rfl⟩, by decide, (tbk_mem (j := 15) (k := 203) rfl), Or.inr ⟨(tbk_mem (j := 15) (k := 202) rfl), 131, (tbk_mem (j := 11) (k := 41) rfl)⟩, Or.inl ⟨rfl, (tbk_mem (j := 15) (k := 204) rfl)⟩, ⟨by decide, by decide⟩, by decide +kernel, by decide +kernel, by decide⟩
def k_Model_fit : Kp := (⟨"ClassWorksModel", "fit", "(II)I"⟩, prog_13_method_62_code, 3, some (.int), [])
theorem mv_Model_fit : MV k_Model_fit 11 2 := ⟨⟨_, rfl, rfl⟩, by decide, (tbk_mem (j := 15) (k := 199) rfl), Or.inr ⟨(tbk_mem (j := 15) (k := 198) rfl), 131, (tbk_mem (j := 11) (k := 41) rfl)⟩, Or.inl ⟨rfl, (tbk_mem (j := 15) (k := 200) rfl)⟩, ⟨by decide, by decide⟩, by decide +kernel, by decide +kernel, by decide⟩
def k_Model_fitLocals : Kp := (⟨"ClassWorksModel", "fitLocals", "(I)I"⟩, prog_13_method_66_code, 4, some (.int), [])
theorem mv_Model_fitLocals : MV k_Model_fitLocals 11 1 := ⟨⟨_, rfl, rfl⟩, by decide, (tbk_mem (j := 15) (k := 195) rfl), Or.inr ⟨(tbk_mem (j := 15) (k := 194) rfl), 131, (tbk_mem (j := 11) (k := 41) rfl)⟩, Or.inl ⟨rfl, (tbk_mem (j := 15) (k := 196) rfl)⟩, ⟨by decide, by decide⟩, by decide +kernel, by decide +kernel, by decide⟩
def k_Model_fitState : Kp := (⟨"ClassWorksModel", "fitState", "(I)I"⟩, prog_13_method_67_code, 4, some (.int), [])
theorem mv_Model_fitState : MV k_Model_fitState 11 1 := ⟨⟨_, rfl, rfl⟩, by decide, (tbk_mem (j := 15) (k := 191) rfl), Or.inr ⟨(tbk_mem (j := 15) (k := 190) rfl), 131, (tbk_mem (j := 11) (k := 41) rfl)⟩, Or.inl ⟨rfl, (tbk_mem (j := 15) (k := 192) rfl)⟩, ⟨by decide, by decide⟩, by decide +kernel, by decide +kernel, by decide⟩
def k_Model_record : Kp := (⟨"ClassWorksModel", "record", "(I)V"⟩, prog_13_method_169_code, 2, none, [])
theorem mv_Model_record : MV k_Model_record 11 1 := ⟨⟨_, rfl, rfl⟩, by decide, (tbk_mem (j := 15) (k := 211) rfl), Or.inr ⟨(tbk_mem (j := 15) (k := 210) rfl), 131, (tbk_mem (j := 11) (k := 41) rfl)⟩, Or.inl ⟨rfl, (tbk_mem (j := 15) (k := 212) rfl)⟩, ⟨by decide, by decide⟩, by decide +kernel, by decide +kernel, by decide⟩
def k_Model_askHandlers : Kp := (⟨"ClassWorksModel", "askHandlers", "(I)I"⟩, prog_13_method_69_code, 6, some (.int), [])
theorem mv_Model_askHandlers : MV k_Model_askHandlers 11 1 := ⟨⟨_, rfl, rfl⟩, by decide, (tbk_mem (j := 15) (k := 215) rfl), Or.inr ⟨(tbk_mem (j := 15) (k := 214) rfl), 131, (tbk_mem (j := 11) (k := 41) rfl)⟩, Or.inl ⟨rfl, (tbk_mem (j := 15) (k := 216) rfl)⟩, ⟨by decide, by decide⟩, by decide +kernel, by decide +kernel, by decide⟩
def k_Model_want : Kp := (⟨"ClassWorksModel", "want", "(I)V"⟩, prog_13_method_73_code, 2, none, [])
theorem mv_Model_want : MV k_Model_want 11 1 := ⟨⟨_, rfl, rfl⟩, by decide, (tbk_mem (j := 15) (k := 227) rfl), Or.inr ⟨(tbk_mem (j := 15) (k := 226) rfl), 131, (tbk_mem (j := 11) (k := 41) rfl)⟩, Or.inl ⟨rfl, (tbk_mem (j := 15) (k := 228) rfl)⟩, ⟨by decide, by decide⟩, by decide +kernel, by decide +kernel, by decide⟩
def w_Model_codeLine_j120 (this : Nat) (Q : Mem → Prop) (X : Mem → Prop) (k67 : Int32 → Mem → Prop) (v1 : Int32) (M : Mem) : Prop :=
  ∃ i15, (mR M 11 this 58) = some (300, i15) ∧ w_Model_room i15 ((mI M 11 this 60) + (1 : Int32)) (fun i17 M16 => ∃ i18, (mR (sR M16 11 this 58 (some (300, i17))) 11 this 59) = some (300, i18) ∧ w_Model_room i18 ((mI (sR M16 11 this 58 (some (300, i17))) 11 this 60) + (1 : Int32)) (fun i20 M19 => ∃ i21, (mR (sR M19 11 this 59 (some (300, i20))) 11 this 58) = some (300, i21) ∧ vp_in (mI (sR M19 11 this 59 (some (300, i20))) 11 this 43) (mL (sR M19 11 this 59 (some (300, i20))) 107 this) ∧ vp_in (mI (sR M19 11 this 59 (some (300, i20))) 11 this 60) (mL (sR M19 11 this 59 (some (300, i20))) 300 i21) ∧ ∃ M24, M24 = (sI (sR M19 11 this 59 (some (300, i20))) 300 i21 (mI (sR M19 11 this 59 (some (300, i20))) 11 this 60).toNatClampNeg (mI (sR M19 11 this 59 (some (300, i20))) 107 this (mI (sR M19 11 this 59 (some (300, i20))) 11 this 43).toNatClampNeg)) ∧ ∃ i25, (mR M24 11 this 59) = some (300, i25) ∧ vp_in (mI M24 11 this 60) (mL M24 300 i25) ∧ ∃ M27, M27 = (sI (sI M24 300 i25 (mI M24 11 this 60).toNatClampNeg v1) 11 this 60 ((mI (sI M24 300 i25 (mI M24 11 this 60).toNatClampNeg v1) 11 this 60) + (1 : Int32))) ∧ k67 v1 (sI M27 11 this 43 ((mI M27 11 this 43) + (2 : Int32)))) (sR M16 11 this 58 (some (300, i17)))) M
def w_Model_codeLine_j808 (this : Nat) (Q : Mem → Prop) (X : Mem → Prop) (v2 : Int32) (v3 : Int32) (v4 : Int32) (v5 : Int32) (s0 : Int32) (s1 : Int32) (M : Mem) : Prop :=
  w_Model_asks this s1 s0 (fun M37 => ∃ i38, (mR M37 11 this 45) = some (12, i38) ∧ ∃ i39, (mR M37 11 this 45) = some (12, i39) ∧ ∃ i40, (mR M37 11 this 45) = some (12, i40) ∧ ∃ i41, (mR M37 12 i40 30) = some (401, i41) ∧ w_Model_roomy i41 ((mI M37 12 i38 35) + (1 : Int32)) (fun i43 M42 => ∃ i44, (mR (sR M42 12 i39 30 (some (401, i43))) 11 this 45) = some (12, i44) ∧ ∃ i45, (mR (sR M42 12 i39 30 (some (401, i43))) 11 this 45) = some (12, i45) ∧ ∃ i46, (mR (sR M42 12 i39 30 (some (401, i43))) 12 i45 31) = some (300, i46) ∧ w_Model_room i46 ((mI M37 12 i38 35) + (1 : Int32)) (fun i48 M47 => ∃ i49, (mR (sR M47 12 i44 31 (some (300, i48))) 11 this 45) = some (12, i49) ∧ ∃ i50, (mR (sR M47 12 i44 31 (some (300, i48))) 11 this 45) = some (12, i50) ∧ ∃ i51, (mR (sR M47 12 i44 31 (some (300, i48))) 12 i50 32) = some (300, i51) ∧ w_Model_room i51 ((mI M37 12 i38 35) + (1 : Int32)) (fun i53 M52 => ∃ i54, (mR (sR M52 12 i49 32 (some (300, i53))) 11 this 45) = some (12, i54) ∧ ∃ i55, (mR (sR M52 12 i49 32 (some (300, i53))) 11 this 45) = some (12, i55) ∧ ∃ i56, (mR (sR M52 12 i49 32 (some (300, i53))) 12 i55 33) = some (300, i56) ∧ w_Model_room i56 ((mI M37 12 i38 35) + (1 : Int32)) (fun i58 M57 => ∃ i59, (mR (sR M57 12 i54 33 (some (300, i58))) 11 this 45) = some (12, i59) ∧ ∃ i60, (mR (sR M57 12 i54 33 (some (300, i58))) 11 this 45) = some (12, i60) ∧ ∃ i61, (mR (sR M57 12 i54 33 (some (300, i58))) 12 i60 34) = some (300, i61) ∧ w_Model_room i61 ((mI M37 12 i38 35) + (1 : Int32)) (fun i63 M62 => ∃ i64, (mR (sR M62 12 i59 34 (some (300, i63))) 11 this 45) = some (12, i64) ∧ ∃ i65, (mR (sR M62 12 i59 34 (some (300, i63))) 12 i64 30) = some (401, i65) ∧ vp_in (mI M37 12 i38 35) (mL (sR M62 12 i59 34 (some (300, i63))) 401 i65) ∧ ∃ M67, M67 = (sI (sR M62 12 i59 34 (some (300, i63))) 401 i65 (mI M37 12 i38 35).toNatClampNeg v2.toInt8.toInt32.toInt8.toInt32) ∧ ∃ i68, (mR M67 11 this 45) = some (12, i68) ∧ ∃ i69, (mR M67 12 i68 31) = some (300, i69) ∧ vp_in (mI M37 12 i38 35) (mL M67 300 i69) ∧ ∃ i71, (mR (sI M67 300 i69 (mI M37 12 i38 35).toNatClampNeg v3) 11 this 45) = some (12, i71) ∧ ∃ i72, (mR (sI M67 300 i69 (mI M37 12 i38 35).toNatClampNeg v3) 12 i71 32) = some (300, i72) ∧ vp_in (mI M37 12 i38 35) (mL (sI M67 300 i69 (mI M37 12 i38 35).toNatClampNeg v3) 300 i72) ∧ ∃ M74, M74 = (sI (sI M67 300 i69 (mI M37 12 i38 35).toNatClampNeg v3) 300 i72 (mI M37 12 i38 35).toNatClampNeg v4) ∧ ∃ i75, (mR M74 11 this 45) = some (12, i75) ∧ ∃ i76, (mR M74 12 i75 33) = some (300, i76) ∧ vp_in (mI M37 12 i38 35) (mL M74 300 i76) ∧ ∃ i78, (mR (sI M74 300 i76 (mI M37 12 i38 35).toNatClampNeg v5) 11 this 45) = some (12, i78) ∧ ∃ i79, (mR (sI M74 300 i76 (mI M37 12 i38 35).toNatClampNeg v5) 12 i78 34) = some (300, i79) ∧ vp_in (mI M37 12 i38 35) (mL (sI M74 300 i76 (mI M37 12 i38 35).toNatClampNeg v5) 300 i79) ∧ ∃ M81, M81 = (sI (sI M74 300 i76 (mI M37 12 i38 35).toNatClampNeg v5) 300 i79 (mI M37 12 i38 35).toNatClampNeg (mI (sI M74 300 i76 (mI M37 12 i38 35).toNatClampNeg v5) 11 this 65)) ∧ ∃ i82, (mR (sI M81 11 this 65 (0 : Int32)) 11 this 45) = some (12, i82) ∧ ∃ M83, M83 = (sI (sI M81 11 this 65 (0 : Int32)) 12 i82 35 ((mI (sI M81 11 this 65 (0 : Int32)) 12 i82 35) + (1 : Int32))) ∧ ∃ i84, (mR M83 11 this 45) = some (12, i84) ∧ vp_in (mI M83 11 this 54) (mL M83 150 i84) ∧ vp_in (mI M83 11 this 54) (mL M83 150 i84) ∧ ∃ M87, M87 = (sI M83 150 i84 (mI M83 11 this 54).toNatClampNeg ((mI M83 150 i84 (mI M83 11 this 54).toNatClampNeg) + (1 : Int32))) ∧ Q M87) (sR M57 12 i54 33 (some (300, i58)))) (sR M52 12 i49 32 (some (300, i53)))) (sR M47 12 i44 31 (some (300, i48)))) (sR M42 12 i39 30 (some (401, i43)))) M37) M
def w_Model_codeLine_j789 (this : Nat) (Q : Mem → Prop) (X : Mem → Prop) (v1 : Int32) (v2 : Int32) (v3 : Int32) (v4 : Int32) (v5 : Int32) (M : Mem) : Prop :=
  w_Model_need this (0 : Int32) (fun M35 => if v1 = (80 : Int32) then (w_Model_codeLine_j808 this Q X v2 v3 v4 v5 (1 : Int32) (12 : Int32) M35) else (w_Model_codeLine_j808 this Q X v2 v3 v4 v5 (0 : Int32) (12 : Int32) M35)) X M
def w_Model_codeLine_j783 (this : Nat) (Q : Mem → Prop) (X : Mem → Prop) (v1 : Int32) (v2 : Int32) (v3 : Int32) (v4 : Int32) (v5 : Int32) (s0 : Int32) (s1 : Int32) (M : Mem) : Prop :=
  w_Model_asks this s1 s0 (fun M160 => w_Model_codeLine_j789 this Q X v1 v2 v3 v4 v5 M160) M
def w_Model_codeLine_j757 (this : Nat) (Q : Mem → Prop) (X : Mem → Prop) (v1 : Int32) (v2 : Int32) (v3 : Int32) (v4 : Int32) (M : Mem) : Prop :=
  w_Model_wholeSignature this (fun r156 M155 => ∃ i157, (mR M155 11 this 31) = some (300, i157) ∧ vp_in r156 (mL M155 300 i157) ∧ if (mI M155 300 i157 r156.toNatClampNeg) ≤ (6 : Int32) then (w_Model_codeLine_j783 this Q X v1 v2 v3 v4 r156 (0 : Int32) (12 : Int32) M155) else (w_Model_codeLine_j783 this Q X v1 v2 v3 v4 r156 (1 : Int32) (12 : Int32) M155)) X M
def w_Model_codeLine_j751 (this : Nat) (Q : Mem → Prop) (X : Mem → Prop) (v1 : Int32) (v2 : Int32) (v3 : Int32) (M : Mem) : Prop :=
  w_Model_plainName this (fun r162 M161 => w_Model_codeLine_j757 this Q X v1 v2 v3 r162 M161) X M
def w_Model_codeLine_L608 (this : Nat) (Q : Mem → Prop) (X : Mem → Prop) : Nat → Int32 → Int32 → Int32 → Int32 → Mem → Prop
  | 0, _, _, _, _, _ => False
  | n + 1, v1, v2, v3, v4, M => vp_in (mI M 11 this 43) (mL M 411 this) ∧ if (mI M 411 this (mI M 11 this 43).toNatClampNeg) = (44 : Int32) then (w_Model_usedLabel this (fun r226 M225 => w_Model_addList this r226 (fun M227 => (w_Model_codeLine_L608 this Q X n) v1 v2 v3 v4 M227) M225) X (sI M 11 this 43 ((mI M 11 this 43) + (1 : Int32)))) else (∃ i228, (mR M 11 this 45) = some (12, i228) ∧ w_Model_codeLine_j789 this Q X v1 v2 v3 v4 ((mI M 12 i228 37) - v4) M)
def w_Model_codeLine_j272 (this : Nat) (Q : Mem → Prop) (X : Mem → Prop) (v1 : Int32) (v2 : Int32) (M : Mem) : Prop :=
  if v2 = (1 : Int32) then (w_Model_numberIn this (-2147483648 : Int32) (2147483647 : Int32) (fun r277 M276 => w_Model_codeLine_j789 this Q X v1 v2 r277 (0 : Int32) (0 : Int32) M276) X (sI M 11 this 43 ((mI M 11 this 43) + (1 : Int32)))) else (if v2 = (2 : Int32) then (w_Model_codeLine_j789 this Q X v1 v2 (0 : Int32) (0 : Int32) (0 : Int32) (sI M 11 this 43 ((mI M 11 this 43) + (1 : Int32)))) else (if v2 = (3 : Int32) then (w_Model_numberIn this (0 : Int32) (19 : Int32) (fun r275 M274 => w_Model_codeLine_j789 this Q X v1 v2 r275 (0 : Int32) (0 : Int32) M274) X (sI M 11 this 43 ((mI M 11 this 43) + (1 : Int32)))) else (if v2 = (4 : Int32) then (w_Model_numberIn this (0 : Int32) (19 : Int32) (fun r273 M272 => w_Model_codeLine_j789 this Q X v1 v2 r273 (0 : Int32) (0 : Int32) M272) X (sI M 11 this 43 ((mI M 11 this 43) + (1 : Int32)))) else (if v2 = (5 : Int32) then (w_Model_numberIn this (0 : Int32) (19 : Int32) (fun r271 M270 => w_Model_codeLine_j789 this Q X v1 v2 r271 (0 : Int32) (0 : Int32) M270) X (sI M 11 this 43 ((mI M 11 this 43) + (1 : Int32)))) else (if v2 = (6 : Int32) then (w_Model_numberIn this (0 : Int32) (19 : Int32) (fun r269 M268 => w_Model_codeLine_j789 this Q X v1 v2 r269 (0 : Int32) (0 : Int32) M268) X (sI M 11 this 43 ((mI M 11 this 43) + (1 : Int32)))) else (if v2 = (7 : Int32) then (w_Model_numberIn this (0 : Int32) (19 : Int32) (fun r265 M264 => w_Model_numberIn this (-2147483648 : Int32) (2147483647 : Int32) (fun r267 M266 => w_Model_codeLine_j789 this Q X v1 v2 r265 r267 (0 : Int32) M266) X M264) X (sI M 11 this 43 ((mI M 11 this 43) + (1 : Int32)))) else (if v2 = (8 : Int32) then (w_Model_codeLine_j789 this Q X v1 v2 (0 : Int32) (0 : Int32) (0 : Int32) (sI M 11 this 43 ((mI M 11 this 43) + (1 : Int32)))) else (if v2 = (9 : Int32) then (w_Model_codeLine_j789 this Q X v1 v2 (0 : Int32) (0 : Int32) (0 : Int32) (sI M 11 this 43 ((mI M 11 this 43) + (1 : Int32)))) else (if v2 = (10 : Int32) then (w_Model_codeLine_j789 this Q X v1 v2 (0 : Int32) (0 : Int32) (0 : Int32) (sI M 11 this 43 ((mI M 11 this 43) + (1 : Int32)))) else (if v2 = (11 : Int32) then (w_Model_codeLine_j789 this Q X v1 v2 (0 : Int32) (0 : Int32) (0 : Int32) (sI M 11 this 43 ((mI M 11 this 43) + (1 : Int32)))) else (if v2 = (12 : Int32) then (w_Model_codeLine_j789 this Q X v1 v2 (0 : Int32) (0 : Int32) (0 : Int32) (sI M 11 this 43 ((mI M 11 this 43) + (1 : Int32)))) else (if v2 = (13 : Int32) then (w_Model_codeLine_j789 this Q X v1 v2 (0 : Int32) (0 : Int32) (0 : Int32) (sI M 11 this 43 ((mI M 11 this 43) + (1 : Int32)))) else (if v2 = (14 : Int32) then (w_Model_codeLine_j789 this Q X v1 v2 (0 : Int32) (0 : Int32) (0 : Int32) (sI M 11 this 43 ((mI M 11 this 43) + (1 : Int32)))) else (if v2 = (15 : Int32) then (w_Model_codeLine_j789 this Q X v1 v2 (0 : Int32) (0 : Int32) (0 : Int32) (sI M 11 this 43 ((mI M 11 this 43) + (1 : Int32)))) else (if v2 = (16 : Int32) then (w_Model_codeLine_j789 this Q X v1 v2 (0 : Int32) (0 : Int32) (0 : Int32) (sI M 11 this 43 ((mI M 11 this 43) + (1 : Int32)))) else (if v2 = (17 : Int32) then (w_Model_codeLine_j789 this Q X v1 v2 (0 : Int32) (0 : Int32) (0 : Int32) (sI M 11 this 43 ((mI M 11 this 43) + (1 : Int32)))) else (if v2 = (18 : Int32) then (w_Model_codeLine_j789 this Q X v1 v2 (0 : Int32) (0 : Int32) (0 : Int32) (sI M 11 this 43 ((mI M 11 this 43) + (1 : Int32)))) else (if v2 = (19 : Int32) then (w_Model_codeLine_j789 this Q X v1 v2 (0 : Int32) (0 : Int32) (0 : Int32) (sI M 11 this 43 ((mI M 11 this 43) + (1 : Int32)))) else (if v2 = (20 : Int32) then (w_Model_codeLine_j789 this Q X v1 v2 (0 : Int32) (0 : Int32) (0 : Int32) (sI M 11 this 43 ((mI M 11 this 43) + (1 : Int32)))) else (if v2 = (21 : Int32) then (w_Model_codeLine_j789 this Q X v1 v2 (0 : Int32) (0 : Int32) (0 : Int32) (sI M 11 this 43 ((mI M 11 this 43) + (1 : Int32)))) else (if v2 = (22 : Int32) then (w_Model_codeLine_j789 this Q X v1 v2 (0 : Int32) (0 : Int32) (0 : Int32) (sI M 11 this 43 ((mI M 11 this 43) + (1 : Int32)))) else (if v2 = (23 : Int32) then (w_Model_usedLabel this (fun r263 M262 => w_Model_codeLine_j789 this Q X v1 v2 r263 (0 : Int32) (0 : Int32) M262) X (sI M 11 this 43 ((mI M 11 this 43) + (1 : Int32)))) else (if v2 = (24 : Int32) then (w_Model_usedLabel this (fun r261 M260 => w_Model_codeLine_j789 this Q X v1 v2 r261 (0 : Int32) (0 : Int32) M260) X (sI M 11 this 43 ((mI M 11 this 43) + (1 : Int32)))) else (if v2 = (25 : Int32) then (w_Model_usedLabel this (fun r259 M258 => w_Model_codeLine_j789 this Q X v1 v2 r259 (0 : Int32) (0 : Int32) M258) X (sI M 11 this 43 ((mI M 11 this 43) + (1 : Int32)))) else (if v2 = (26 : Int32) then (w_Model_usedLabel this (fun r257 M256 => w_Model_codeLine_j789 this Q X v1 v2 r257 (0 : Int32) (0 : Int32) M256) X (sI M 11 this 43 ((mI M 11 this 43) + (1 : Int32)))) else (if v2 = (27 : Int32) then (w_Model_usedLabel this (fun r255 M254 => w_Model_codeLine_j789 this Q X v1 v2 r255 (0 : Int32) (0 : Int32) M254) X (sI M 11 this 43 ((mI M 11 this 43) + (1 : Int32)))) else (if v2 = (28 : Int32) then (w_Model_usedLabel this (fun r253 M252 => w_Model_codeLine_j789 this Q X v1 v2 r253 (0 : Int32) (0 : Int32) M252) X (sI M 11 this 43 ((mI M 11 this 43) + (1 : Int32)))) else (if v2 = (29 : Int32) then (w_Model_usedLabel this (fun r251 M250 => w_Model_codeLine_j789 this Q X v1 v2 r251 (0 : Int32) (0 : Int32) M250) X (sI M 11 this 43 ((mI M 11 this 43) + (1 : Int32)))) else (if v2 = (30 : Int32) then (w_Model_usedLabel this (fun r249 M248 => w_Model_codeLine_j789 this Q X v1 v2 r249 (0 : Int32) (0 : Int32) M248) X (sI M 11 this 43 ((mI M 11 this 43) + (1 : Int32)))) else (if v2 = (31 : Int32) then (w_Model_usedLabel this (fun r247 M246 => w_Model_codeLine_j789 this Q X v1 v2 r247 (0 : Int32) (0 : Int32) M246) X (sI M 11 this 43 ((mI M 11 this 43) + (1 : Int32)))) else (if v2 = (32 : Int32) then (w_Model_usedLabel this (fun r245 M244 => w_Model_codeLine_j789 this Q X v1 v2 r245 (0 : Int32) (0 : Int32) M244) X (sI M 11 this 43 ((mI M 11 this 43) + (1 : Int32)))) else (if v2 = (33 : Int32) then (w_Model_usedLabel this (fun r243 M242 => w_Model_codeLine_j789 this Q X v1 v2 r243 (0 : Int32) (0 : Int32) M242) X (sI M 11 this 43 ((mI M 11 this 43) + (1 : Int32)))) else (if v2 = (34 : Int32) then (w_Model_usedLabel this (fun r241 M240 => w_Model_codeLine_j789 this Q X v1 v2 r241 (0 : Int32) (0 : Int32) M240) X (sI M 11 this 43 ((mI M 11 this 43) + (1 : Int32)))) else (if v2 = (35 : Int32) then (w_Model_usedLabel this (fun r239 M238 => w_Model_codeLine_j789 this Q X v1 v2 r239 (0 : Int32) (0 : Int32) M238) X (sI M 11 this 43 ((mI M 11 this 43) + (1 : Int32)))) else (if v2 = (36 : Int32) then (w_Model_usedLabel this (fun r237 M236 => w_Model_codeLine_j789 this Q X v1 v2 r237 (0 : Int32) (0 : Int32) M236) X (sI M 11 this 43 ((mI M 11 this 43) + (1 : Int32)))) else (if v2 = (37 : Int32) then (w_Model_usedLabel this (fun r235 M234 => w_Model_codeLine_j789 this Q X v1 v2 r235 (0 : Int32) (0 : Int32) M234) X (sI M 11 this 43 ((mI M 11 this 43) + (1 : Int32)))) else (if v2 = (38 : Int32) then (w_Model_usedLabel this (fun r233 M232 => w_Model_codeLine_j789 this Q X v1 v2 r233 (0 : Int32) (0 : Int32) M232) X (sI M 11 this 43 ((mI M 11 this 43) + (1 : Int32)))) else (if v2 = (39 : Int32) then (w_Model_usedLabel this (fun r231 M230 => w_Model_codeLine_j789 this Q X v1 v2 r231 (0 : Int32) (0 : Int32) M230) X (sI M 11 this 43 ((mI M 11 this 43) + (1 : Int32)))) else (if v2 = (40 : Int32) then (w_Model_numberIn this (-2147483648 : Int32) (2147483647 : Int32) (fun r218 M217 => ∃ i219, (mR M217 11 this 45) = some (12, i219) ∧ w_Model_usedLabel this (fun r221 M220 => w_Model_addList this r221 (fun M222 => ∃ n229 : Nat, w_Model_codeLine_L608 this Q X n229 v1 v2 r218 (mI M217 12 i219 37) M222) M220) X M217) X (sI M 11 this 43 ((mI M 11 this 43) + (1 : Int32)))) else (if v2 = (41 : Int32) then (w_Model_className this (fun r216 M215 => w_Model_codeLine_j789 this Q X v1 v2 r216 (0 : Int32) (0 : Int32) M215) X (sI M 11 this 43 ((mI M 11 this 43) + (1 : Int32)))) else (if v2 = (42 : Int32) then (w_Model_codeLine_j789 this Q X v1 v2 (0 : Int32) (0 : Int32) (0 : Int32) (sI M 11 this 43 ((mI M 11 this 43) + (1 : Int32)))) else (if v2 = (43 : Int32) then (w_Model_codeLine_j789 this Q X v1 v2 (0 : Int32) (0 : Int32) (0 : Int32) (sI M 11 this 43 ((mI M 11 this 43) + (1 : Int32)))) else (if v2 = (44 : Int32) then (w_Model_codeLine_j789 this Q X v1 v2 (0 : Int32) (0 : Int32) (0 : Int32) (sI M 11 this 43 ((mI M 11 this 43) + (1 : Int32)))) else (if v2 = (45 : Int32) then (w_Model_codeLine_j789 this Q X v1 v2 (0 : Int32) (0 : Int32) (0 : Int32) (sI M 11 this 43 ((mI M 11 this 43) + (1 : Int32)))) else (if v2 = (46 : Int32) then (w_Model_className this (fun r209 M208 => w_Model_need this (46 : Int32) (fun M210 => w_Model_plainName this (fun r212 M211 => w_Model_type this (fun r214 M213 => w_Model_codeLine_j789 this Q X v1 v2 r209 r212 r214 M213) X M211) X M210) X M208) X (sI M 11 this 43 ((mI M 11 this 43) + (1 : Int32)))) else (if v2 = (47 : Int32) then (w_Model_className this (fun r202 M201 => w_Model_need this (46 : Int32) (fun M203 => w_Model_plainName this (fun r205 M204 => w_Model_type this (fun r207 M206 => w_Model_codeLine_j789 this Q X v1 v2 r202 r205 r207 M206) X M204) X M203) X M201) X (sI M 11 this 43 ((mI M 11 this 43) + (1 : Int32)))) else (if v2 = (48 : Int32) then (w_Model_className this (fun r195 M194 => w_Model_need this (46 : Int32) (fun M196 => w_Model_plainName this (fun r198 M197 => w_Model_type this (fun r200 M199 => w_Model_codeLine_j789 this Q X v1 v2 r195 r198 r200 M199) X M197) X M196) X M194) X (sI M 11 this 43 ((mI M 11 this 43) + (1 : Int32)))) else (if v2 = (49 : Int32) then (w_Model_className this (fun r188 M187 => w_Model_need this (46 : Int32) (fun M189 => w_Model_plainName this (fun r191 M190 => w_Model_type this (fun r193 M192 => w_Model_codeLine_j789 this Q X v1 v2 r188 r191 r193 M192) X M190) X M189) X M187) X (sI M 11 this 43 ((mI M 11 this 43) + (1 : Int32)))) else (if v2 = (50 : Int32) then (w_Model_className this (fun r180 M179 => w_Model_need this (46 : Int32) (fun M181 => vp_in (mI M181 11 this 43) (mL M181 411 this) ∧ if (mI M181 411 this (mI M181 11 this 43).toNatClampNeg) = (3 : Int32) then (vp_in (mI M181 11 this 43) (mL M181 107 this) ∧ if (mI M181 107 this (mI M181 11 this 43).toNatClampNeg) = (mI M181 11 this 6) then (∃ x186 : Int32, x186 = (mI (sI M181 11 this 43 ((mI M181 11 this 43) + (1 : Int32))) 11 this 6) ∧ w_Model_codeLine_j757 this Q X v1 v2 r180 x186 (sI M181 11 this 43 ((mI M181 11 this 43) + (1 : Int32)))) else (w_Model_codeLine_j751 this Q X v1 v2 r180 M181)) else (w_Model_codeLine_j751 this Q X v1 v2 r180 M181)) X M179) X (sI M 11 this 43 ((mI M 11 this 43) + (1 : Int32)))) else (if v2 = (51 : Int32) then (w_Model_className this (fun r172 M171 => w_Model_need this (46 : Int32) (fun M173 => vp_in (mI M173 11 this 43) (mL M173 411 this) ∧ if (mI M173 411 this (mI M173 11 this 43).toNatClampNeg) = (3 : Int32) then (vp_in (mI M173 11 this 43) (mL M173 107 this) ∧ if (mI M173 107 this (mI M173 11 this 43).toNatClampNeg) = (mI M173 11 this 6) then (∃ x178 : Int32, x178 = (mI (sI M173 11 this 43 ((mI M173 11 this 43) + (1 : Int32))) 11 this 6) ∧ w_Model_codeLine_j757 this Q X v1 v2 r172 x178 (sI M173 11 this 43 ((mI M173 11 this 43) + (1 : Int32)))) else (w_Model_codeLine_j751 this Q X v1 v2 r172 M173)) else (w_Model_codeLine_j751 this Q X v1 v2 r172 M173)) X M171) X (sI M 11 this 43 ((mI M 11 this 43) + (1 : Int32)))) else (if v2 = (52 : Int32) then (w_Model_className this (fun r164 M163 => w_Model_need this (46 : Int32) (fun M165 => vp_in (mI M165 11 this 43) (mL M165 411 this) ∧ if (mI M165 411 this (mI M165 11 this 43).toNatClampNeg) = (3 : Int32) then (vp_in (mI M165 11 this 43) (mL M165 107 this) ∧ if (mI M165 107 this (mI M165 11 this 43).toNatClampNeg) = (mI M165 11 this 6) then (∃ x170 : Int32, x170 = (mI (sI M165 11 this 43 ((mI M165 11 this 43) + (1 : Int32))) 11 this 6) ∧ w_Model_codeLine_j757 this Q X v1 v2 r164 x170 (sI M165 11 this 43 ((mI M165 11 this 43) + (1 : Int32)))) else (w_Model_codeLine_j751 this Q X v1 v2 r164 M165)) else (w_Model_codeLine_j751 this Q X v1 v2 r164 M165)) X M163) X (sI M 11 this 43 ((mI M 11 this 43) + (1 : Int32)))) else (if v2 = (53 : Int32) then (w_Model_className this (fun r148 M147 => w_Model_need this (46 : Int32) (fun M149 => vp_in (mI M149 11 this 43) (mL M149 411 this) ∧ if (mI M149 411 this (mI M149 11 this 43).toNatClampNeg) = (3 : Int32) then (vp_in (mI M149 11 this 43) (mL M149 107 this) ∧ if (mI M149 107 this (mI M149 11 this 43).toNatClampNeg) = (mI M149 11 this 6) then (∃ x154 : Int32, x154 = (mI (sI M149 11 this 43 ((mI M149 11 this 43) + (1 : Int32))) 11 this 6) ∧ w_Model_codeLine_j757 this Q X v1 v2 r148 x154 (sI M149 11 this 43 ((mI M149 11 this 43) + (1 : Int32)))) else (w_Model_codeLine_j751 this Q X v1 v2 r148 M149)) else (w_Model_codeLine_j751 this Q X v1 v2 r148 M149)) X M147) X (sI M 11 this 43 ((mI M 11 this 43) + (1 : Int32)))) else (if v2 = (54 : Int32) then (w_Model_className this (fun r146 M145 => w_Model_codeLine_j789 this Q X v1 v2 r146 (0 : Int32) (0 : Int32) M145) X (sI M 11 this 43 ((mI M 11 this 43) + (1 : Int32)))) else (if v2 = (55 : Int32) then (w_Model_className this (fun r144 M143 => w_Model_codeLine_j789 this Q X v1 v2 r144 (0 : Int32) (0 : Int32) M143) X (sI M 11 this 43 ((mI M 11 this 43) + (1 : Int32)))) else (w_Model_codeLine_j789 this Q X v1 v2 (0 : Int32) (0 : Int32) (0 : Int32) (sI M 11 this 43 ((mI M 11 this 43) + (1 : Int32))))))))))))))))))))))))))))))))))))))))))))))))))))))))))
def w_Model_codeLine_j268 (this : Nat) (Q : Mem → Prop) (X : Mem → Prop) (v1 : Int32) (v2 : Int32) (M : Mem) : Prop :=
  w_Model_wrong this (fun M34 => w_Model_codeLine_j272 this Q X v1 v2 M34) X M
def w_Model_codeLine_j257 (this : Nat) (Q : Mem → Prop) (X : Mem → Prop) (v1 : Int32) (s0 : Int32) (M : Mem) : Prop :=
  if s0 < 0 then (w_Model_codeLine_j268 this Q X v1 s0 M) else (if s0 < (62 : Int32) then (w_Model_codeLine_j272 this Q X v1 s0 M) else (w_Model_codeLine_j268 this Q X v1 s0 M))
def w_Model_codeLine_j225 (this : Nat) (Q : Mem → Prop) (X : Mem → Prop) (v1 : Int32) (M : Mem) : Prop :=
  vp_in (mI M 11 this 43) (mL M 411 this) ∧ if (mI M 411 this (mI M 11 this 43).toNatClampNeg) = (2 : Int32) then (vp_in (mI M 11 this 43) (mL M 107 this) ∧ w_Model_codeLine_j257 this Q X v1 ((mI M 107 this (mI M 11 this 43).toNatClampNeg) - (mI M 11 this 26)) M) else (w_Model_codeLine_j257 this Q X v1 (62 : Int32) M)
def w_Model_codeLine_j205 (this : Nat) (Q : Mem → Prop) (X : Mem → Prop) (v1 : Int32) (M : Mem) : Prop :=
  if (mI M 11 this 43) ≤ 0 then (w_Model_codeLine_j225 this Q X v1 M) else (vp_in (mI M 11 this 43) (mL M 411 this) ∧ if (mI M 411 this (mI M 11 this 43).toNatClampNeg) = 0 then (Q M) else (w_Model_codeLine_j225 this Q X v1 M))
def w_Model_codeLine_L67 (this : Nat) (Q : Mem → Prop) (X : Mem → Prop) : Nat → Int32 → Mem → Prop
  | 0, _, _ => False
  | n + 1, v1, M => vp_in (mI M 11 this 43) (mL M 411 this) ∧ if (mI M 411 this (mI M 11 this 43).toNatClampNeg) = (2 : Int32) then (vp_in ((mI M 11 this 43) + (1 : Int32)) (mL M 411 this) ∧ if (mI M 411 this ((mI M 11 this 43) + (1 : Int32)).toNatClampNeg) = (58 : Int32) then (vp_in (mI M 11 this 43) (mL M 107 this) ∧ w_Model_labelOf this (mI M 107 this (mI M 11 this 43).toNatClampNeg) (fun r13 M12 => if r13 < 0 then (w_Model_codeLine_j120 this Q X (w_Model_codeLine_L67 this Q X n) v1 M12) else (w_Model_addNine this (-2147483648 : Int32) (0 : Int32) (fun M28 => w_Model_codeLine_j120 this Q X (w_Model_codeLine_L67 this Q X n) v1 M28) M12)) M) else (w_Model_codeLine_j205 this Q X v1 M)) else (w_Model_codeLine_j205 this Q X v1 M)
def w_Model_codeLine_j54 (this : Nat) (Q : Mem → Prop) (X : Mem → Prop)  (M : Mem) : Prop :=
  ∃ i5, (mR M 11 this 45) = some (12, i5) ∧ vp_in (mI M 11 this 54) (mL M 150 i5) ∧ ∃ n281 : Nat, w_Model_codeLine_L67 this Q X n281 (mI M 150 i5 (mI M 11 this 54).toNatClampNeg) M
def w_Model_codeLine_j27 (this : Nat) (Q : Mem → Prop) (X : Mem → Prop)  (M : Mem) : Prop :=
  vp_in (1 : Int32) (mL M 411 this) ∧ if (mI M 411 this (1 : Int32).toNatClampNeg) = (58 : Int32) then (w_Model_codeLine_j54 this Q X  M) else (w_Model_takes this (mI M 11 this 18) (fun r283 M282 => if r283 = 0 then (w_Model_codeLine_j54 this Q X  M282) else (w_Model_handlerLine this (fun M285 => Q M285) X M282)) M)
def w_Model_codeLine (this : Nat) (Q : Mem → Prop) (X : Mem → Prop) (M : Mem) : Prop :=
  vp_in (1 : Int32) (mL M 411 this) ∧ if (mI M 411 this (1 : Int32).toNatClampNeg) = (58 : Int32) then (w_Model_codeLine_j27 this Q X  M) else (w_Model_takes this (mI M 11 this 17) (fun r287 M286 => if r287 = 0 then (w_Model_codeLine_j27 this Q X  M286) else (w_Model_frameLine this (fun M289 => Q M289) X M286)) M)
set_option maxRecDepth 4096 in
theorem lk_Model_codeLine_j120 {γ : Gm} (hγ : Gk γ) (this : Nat) (Q : Mem → Prop) (X : Mem → Prop) (k67 : Int32 → Mem → Prop) (hk67 : ∀ (v1 : Int32) (M : Mem), k67 v1 M → E γ k_Model_codeLine 7 67 [some (vr (some (11, this))), some (vi v1), none, none, none, none, none] [] M (Qx (14, 0) (Qv Q) X)) (v1 : Int32) (M : Mem) (h : w_Model_codeLine_j120 this Q X k67 v1 M) : E γ k_Model_codeLine 7 120 [some (vr (some (11, this))), some (vi v1), none, none, none, none, none] [] M (Qx (14, 0) (Qv Q) X) := by
  unfold w_Model_codeLine_j120 at h
  refine E_blk (lv' := [some (vr (some (11, this))), some (vi v1), none, none, none, none, none]) (st' := [vr (mR M 11 this 58), vr (some (11, this))]) (M1 := M) (pc' := 125) (tb_Model hγ) [.aload_n 0, .aload_n 0, .getfield 283] (by decide +kernel) rfl rfl trivial ?_
  obtain ⟨i15, ei15, h⟩ := h
  rw [ei15]
  refine E_blk (lv' := [some (vr (some (11, this))), some (vi v1), none, none, none, none, none]) (st' := [vi ((mI M 11 this 60) + (1 : Int32)), vr (some (300, i15)), vr (some (11, this))]) (M1 := M) (pc' := 131) (tb_Model hγ) [.aload_n 0, .getfield 644, .iconst 1, .iadd] (by decide +kernel) rfl rfl trivial ?_
  refine E_callS (κ' := k_Model_room) (As := [vr (some (300, i15)), vi ((mI M 11 this 60) + (1 : Int32))]) (st := [vr (some (11, this))]) ms_Model_room (Or.inl (tbk_mem (j := 11) (k := 66) rfl)) rfl (by decide +kernel) (Nat.le_of_ble_eq_true rfl) (Nat.le_of_ble_eq_true rfl) rfl (by decide) (lk_Model_room hγ i15 ((mI M 11 this 60) + (1 : Int32)) _ M h) (fun _ _ => Qr_r) (fun v M16 hp => Qr_k (R := fun st => E γ k_Model_codeLine 7 134 [some (vr (some (11, this))), some (vi v1), none, none, none, none, none] st M16 (Qx (14, 0) (Qv Q) X)) hp (fun i17 h => ?_))
  refine E_blk (lv' := [some (vr (some (11, this))), some (vi v1), none, none, none, none, none]) (st' := [vr (mR (sR M16 11 this 58 (some (300, i17))) 11 this 59), vr (some (11, this))]) (M1 := (sR M16 11 this 58 (some (300, i17)))) (pc' := 142) (tb_Model hγ) [.putfield 283, .aload_n 0, .aload_n 0, .getfield 286] (by decide +kernel) rfl rfl trivial ?_
  obtain ⟨i18, ei18, h⟩ := h
  rw [ei18]
  refine E_blk (lv' := [some (vr (some (11, this))), some (vi v1), none, none, none, none, none]) (st' := [vi ((mI (sR M16 11 this 58 (some (300, i17))) 11 this 60) + (1 : Int32)), vr (some (300, i18)), vr (some (11, this))]) (M1 := (sR M16 11 this 58 (some (300, i17)))) (pc' := 148) (tb_Model hγ) [.aload_n 0, .getfield 644, .iconst 1, .iadd] (by decide +kernel) rfl rfl trivial ?_
  refine E_callS (κ' := k_Model_room) (As := [vr (some (300, i18)), vi ((mI (sR M16 11 this 58 (some (300, i17))) 11 this 60) + (1 : Int32))]) (st := [vr (some (11, this))]) ms_Model_room (Or.inl (tbk_mem (j := 11) (k := 66) rfl)) rfl (by decide +kernel) (Nat.le_of_ble_eq_true rfl) (Nat.le_of_ble_eq_true rfl) rfl (by decide) (lk_Model_room hγ i18 ((mI (sR M16 11 this 58 (some (300, i17))) 11 this 60) + (1 : Int32)) _ (sR M16 11 this 58 (some (300, i17))) h) (fun _ _ => Qr_r) (fun v M19 hp => Qr_k (R := fun st => E γ k_Model_codeLine 7 151 [some (vr (some (11, this))), some (vi v1), none, none, none, none, none] st M19 (Qx (14, 0) (Qv Q) X)) hp (fun i20 h => ?_))
  refine E_blk (lv' := [some (vr (some (11, this))), some (vi v1), none, none, none, none, none]) (st' := [vr (mR (sR M19 11 this 59 (some (300, i20))) 11 this 58)]) (M1 := (sR M19 11 this 59 (some (300, i20)))) (pc' := 158) (tb_Model hγ) [.putfield 286, .aload_n 0, .getfield 283] (by decide +kernel) rfl rfl trivial ?_
  obtain ⟨i21, ei21, h⟩ := h
  rw [ei21]
  obtain ⟨c22, c23, h⟩ := h
  refine E_blk (lv' := [some (vr (some (11, this))), some (vi v1), none, none, none, none, none]) (st' := []) (M1 := (sI (sR M19 11 this 59 (some (300, i20))) 300 i21 (mI (sR M19 11 this 59 (some (300, i20))) 11 this 60).toNatClampNeg (mI (sR M19 11 this 59 (some (300, i20))) 107 this (mI (sR M19 11 this 59 (some (300, i20))) 11 this 43).toNatClampNeg))) (pc' := 172) (tb_Model hγ) [.aload_n 0, .getfield 644, .aload_n 0, .getfield 98, .aload_n 0, .getfield 104, .iaload, .iastore] (by decide +kernel) rfl rfl ⟨c22, c23, trivial⟩ ?_
  obtain ⟨M24, eM24, h⟩ := h
  rw [← eM24]
  refine E_blk (lv' := [some (vr (some (11, this))), some (vi v1), none, none, none, none, none]) (st' := [vr (mR M24 11 this 59)]) (M1 := M24) (pc' := 176) (tb_Model hγ) [.aload_n 0, .getfield 286] (by decide +kernel) rfl rfl trivial ?_
  obtain ⟨i25, ei25, h⟩ := h
  rw [ei25]
  obtain ⟨c26, h⟩ := h
  refine E_blk (lv' := [some (vr (some (11, this))), some (vi v1), none, none, none, none, none]) (st' := []) (M1 := (sI (sI M24 300 i25 (mI M24 11 this 60).toNatClampNeg v1) 11 this 60 ((mI (sI M24 300 i25 (mI M24 11 this 60).toNatClampNeg v1) 11 this 60) + (1 : Int32)))) (pc' := 192) (tb_Model hγ) [.aload_n 0, .getfield 644, .iload_n 1, .iastore, .aload_n 0, .dup, .getfield 644, .iconst 1, .iadd, .putfield 644] (by decide +kernel) rfl rfl ⟨c26, trivial⟩ ?_
  obtain ⟨M27, eM27, h⟩ := h
  rw [← eM27]
  refine E_blk (lv' := [some (vr (some (11, this))), some (vi v1), none, none, none, none, none]) (st' := []) (M1 := (sI M27 11 this 43 ((mI M27 11 this 43) + (2 : Int32)))) (pc' := 202) (tb_Model hγ) [.aload_n 0, .dup, .getfield 104, .iconst 2, .iadd, .putfield 104] (by decide +kernel) rfl rfl trivial ?_
  refine E_goto (off := -135) (tgt := 67) (by decide +kernel) (by decide) ?_
  refine E_mask [true, true, false, false, false, false, false] rfl ?_
  exact hk67 v1 (sI M27 11 this 43 ((mI M27 11 this 43) + (2 : Int32))) h
set_option maxRecDepth 4096 in
theorem lk_Model_codeLine_j808 {γ : Gm} (hγ : Gk γ) (this : Nat) (Q : Mem → Prop) (X : Mem → Prop) (v2 : Int32) (v3 : Int32) (v4 : Int32) (v5 : Int32) (s0 : Int32) (s1 : Int32) (M : Mem) (h : w_Model_codeLine_j808 this Q X v2 v3 v4 v5 s0 s1 M) : E γ k_Model_codeLine 7 808 [some (vr (some (11, this))), none, some (vi v2), some (vi v3), some (vi v4), some (vi v5), none] [vi s0, vi s1, vr (some (11, this))] M (Qx (14, 0) (Qv Q) X) := by
  unfold w_Model_codeLine_j808 at h
  refine E_callV (κ' := k_Model_asks) (As := [vi s1, vi s0]) (st := []) mv_Model_asks (Or.inl (tbk_mem (j := 15) (k := 43) rfl)) rfl (by decide +kernel) (Nat.le_of_ble_eq_true rfl) (Nat.le_of_ble_eq_true rfl) rfl (by decide) (lk_Model_asks hγ this s1 s0 _ M h) (fun _ _ => Qv_r) (fun v M37 hp => Qv_k (R := fun st => E γ k_Model_codeLine 7 811 [some (vr (some (11, this))), none, some (vi v2), some (vi v3), some (vi v4), some (vi v5), none] st M37 (Qx (14, 0) (Qv Q) X)) hp (fun h => ?_))
  refine E_blk (lv' := [some (vr (some (11, this))), none, some (vi v2), some (vi v3), some (vi v4), some (vi v5), none]) (st' := [vr (mR M37 11 this 45)]) (M1 := M37) (pc' := 815) (tb_Model hγ) [.aload_n 0, .getfield 522] (by decide +kernel) rfl rfl trivial ?_
  obtain ⟨i38, ei38, h⟩ := h
  rw [ei38]
  refine E_blk (lv' := [some (vr (some (11, this))), none, some (vi v2), some (vi v3), some (vi v4), some (vi v5), some (vi (mI M37 12 i38 35))]) (st' := [vr (mR M37 11 this 45)]) (M1 := M37) (pc' := 824) (tb_Model hγ) [.getfield 471, .istore 6, .aload_n 0, .getfield 522] (by decide +kernel) rfl rfl trivial ?_
  obtain ⟨i39, ei39, h⟩ := h
  rw [ei39]
  refine E_blk (lv' := [some (vr (some (11, this))), none, some (vi v2), some (vi v3), some (vi v4), some (vi v5), some (vi (mI M37 12 i38 35))]) (st' := [vr (mR M37 11 this 45), vr (some (12, i39))]) (M1 := M37) (pc' := 828) (tb_Model hγ) [.aload_n 0, .getfield 522] (by decide +kernel) rfl rfl trivial ?_
  obtain ⟨i40, ei40, h⟩ := h
  rw [ei40]
  refine E_blk (lv' := [some (vr (some (11, this))), none, some (vi v2), some (vi v3), some (vi v4), some (vi v5), some (vi (mI M37 12 i38 35))]) (st' := [vr (mR M37 12 i40 30), vr (some (12, i39))]) (M1 := M37) (pc' := 831) (tb_Model hγ) [.getfield 674] (by decide +kernel) rfl rfl trivial ?_
  obtain ⟨i41, ei41, h⟩ := h
  rw [ei41]
  refine E_blk (lv' := [some (vr (some (11, this))), none, some (vi v2), some (vi v3), some (vi v4), some (vi v5), some (vi (mI M37 12 i38 35))]) (st' := [vi ((mI M37 12 i38 35) + (1 : Int32)), vr (some (401, i41)), vr (some (12, i39))]) (M1 := M37) (pc' := 835) (tb_Model hγ) [.iload 6, .iconst 1, .iadd] (by decide +kernel) rfl rfl trivial ?_
  refine E_callS (κ' := k_Model_roomy) (As := [vr (some (401, i41)), vi ((mI M37 12 i38 35) + (1 : Int32))]) (st := [vr (some (12, i39))]) ms_Model_roomy (Or.inl (tbk_mem (j := 11) (k := 61) rfl)) rfl (by decide +kernel) (Nat.le_of_ble_eq_true rfl) (Nat.le_of_ble_eq_true rfl) rfl (by decide) (lk_Model_roomy hγ i41 ((mI M37 12 i38 35) + (1 : Int32)) _ M37 h) (fun _ _ => Qr_r) (fun v M42 hp => Qr_k (R := fun st => E γ k_Model_codeLine 7 838 [some (vr (some (11, this))), none, some (vi v2), some (vi v3), some (vi v4), some (vi v5), some (vi (mI M37 12 i38 35))] st M42 (Qx (14, 0) (Qv Q) X)) hp (fun i43 h => ?_))
  refine E_blk (lv' := [some (vr (some (11, this))), none, some (vi v2), some (vi v3), some (vi v4), some (vi v5), some (vi (mI M37 12 i38 35))]) (st' := [vr (mR (sR M42 12 i39 30 (some (401, i43))) 11 this 45)]) (M1 := (sR M42 12 i39 30 (some (401, i43)))) (pc' := 845) (tb_Model hγ) [.putfield 674, .aload_n 0, .getfield 522] (by decide +kernel) rfl rfl trivial ?_
  obtain ⟨i44, ei44, h⟩ := h
  rw [ei44]
  refine E_blk (lv' := [some (vr (some (11, this))), none, some (vi v2), some (vi v3), some (vi v4), some (vi v5), some (vi (mI M37 12 i38 35))]) (st' := [vr (mR (sR M42 12 i39 30 (some (401, i43))) 11 this 45), vr (some (12, i44))]) (M1 := (sR M42 12 i39 30 (some (401, i43)))) (pc' := 849) (tb_Model hγ) [.aload_n 0, .getfield 522] (by decide +kernel) rfl rfl trivial ?_
  obtain ⟨i45, ei45, h⟩ := h
  rw [ei45]
  refine E_blk (lv' := [some (vr (some (11, this))), none, some (vi v2), some (vi v3), some (vi v4), some (vi v5), some (vi (mI M37 12 i38 35))]) (st' := [vr (mR (sR M42 12 i39 30 (some (401, i43))) 12 i45 31), vr (some (12, i44))]) (M1 := (sR M42 12 i39 30 (some (401, i43)))) (pc' := 852) (tb_Model hγ) [.getfield 677] (by decide +kernel) rfl rfl trivial ?_
  obtain ⟨i46, ei46, h⟩ := h
  rw [ei46]
  refine E_blk (lv' := [some (vr (some (11, this))), none, some (vi v2), some (vi v3), some (vi v4), some (vi v5), some (vi (mI M37 12 i38 35))]) (st' := [vi ((mI M37 12 i38 35) + (1 : Int32)), vr (some (300, i46)), vr (some (12, i44))]) (M1 := (sR M42 12 i39 30 (some (401, i43)))) (pc' := 856) (tb_Model hγ) [.iload 6, .iconst 1, .iadd] (by decide +kernel) rfl rfl trivial ?_
  refine E_callS (κ' := k_Model_room) (As := [vr (some (300, i46)), vi ((mI M37 12 i38 35) + (1 : Int32))]) (st := [vr (some (12, i44))]) ms_Model_room (Or.inl (tbk_mem (j := 11) (k := 66) rfl)) rfl (by decide +kernel) (Nat.le_of_ble_eq_true rfl) (Nat.le_of_ble_eq_true rfl) rfl (by decide) (lk_Model_room hγ i46 ((mI M37 12 i38 35) + (1 : Int32)) _ (sR M42 12 i39 30 (some (401, i43))) h) (fun _ _ => Qr_r) (fun v M47 hp => Qr_k (R := fun st => E γ k_Model_codeLine 7 859 [some (vr (some (11, this))), none, some (vi v2), some (vi v3), some (vi v4), some (vi v5), some (vi (mI M37 12 i38 35))] st M47 (Qx (14, 0) (Qv Q) X)) hp (fun i48 h => ?_))
  refine E_blk (lv' := [some (vr (some (11, this))), none, some (vi v2), some (vi v3), some (vi v4), some (vi v5), some (vi (mI M37 12 i38 35))]) (st' := [vr (mR (sR M47 12 i44 31 (some (300, i48))) 11 this 45)]) (M1 := (sR M47 12 i44 31 (some (300, i48)))) (pc' := 866) (tb_Model hγ) [.putfield 677, .aload_n 0, .getfield 522] (by decide +kernel) rfl rfl trivial ?_
  obtain ⟨i49, ei49, h⟩ := h
  rw [ei49]
  refine E_blk (lv' := [some (vr (some (11, this))), none, some (vi v2), some (vi v3), some (vi v4), some (vi v5), some (vi (mI M37 12 i38 35))]) (st' := [vr (mR (sR M47 12 i44 31 (some (300, i48))) 11 this 45), vr (some (12, i49))]) (M1 := (sR M47 12 i44 31 (some (300, i48)))) (pc' := 870) (tb_Model hγ) [.aload_n 0, .getfield 522] (by decide +kernel) rfl rfl trivial ?_
  obtain ⟨i50, ei50, h⟩ := h
  rw [ei50]
  refine E_blk (lv' := [some (vr (some (11, this))), none, some (vi v2), some (vi v3), some (vi v4), some (vi v5), some (vi (mI M37 12 i38 35))]) (st' := [vr (mR (sR M47 12 i44 31 (some (300, i48))) 12 i50 32), vr (some (12, i49))]) (M1 := (sR M47 12 i44 31 (some (300, i48)))) (pc' := 873) (tb_Model hγ) [.getfield 680] (by decide +kernel) rfl rfl trivial ?_
  obtain ⟨i51, ei51, h⟩ := h
  rw [ei51]
  refine E_blk (lv' := [some (vr (some (11, this))), none, some (vi v2), some (vi v3), some (vi v4), some (vi v5), some (vi (mI M37 12 i38 35))]) (st' := [vi ((mI M37 12 i38 35) + (1 : Int32)), vr (some (300, i51)), vr (some (12, i49))]) (M1 := (sR M47 12 i44 31 (some (300, i48)))) (pc' := 877) (tb_Model hγ) [.iload 6, .iconst 1, .iadd] (by decide +kernel) rfl rfl trivial ?_
  refine E_callS (κ' := k_Model_room) (As := [vr (some (300, i51)), vi ((mI M37 12 i38 35) + (1 : Int32))]) (st := [vr (some (12, i49))]) ms_Model_room (Or.inl (tbk_mem (j := 11) (k := 66) rfl)) rfl (by decide +kernel) (Nat.le_of_ble_eq_true rfl) (Nat.le_of_ble_eq_true rfl) rfl (by decide) (lk_Model_room hγ i51 ((mI M37 12 i38 35) + (1 : Int32)) _ (sR M47 12 i44 31 (some (300, i48))) h) (fun _ _ => Qr_r) (fun v M52 hp => Qr_k (R := fun st => E γ k_Model_codeLine 7 880 [some (vr (some (11, this))), none, some (vi v2), some (vi v3), some (vi v4), some (vi v5), some (vi (mI M37 12 i38 35))] st M52 (Qx (14, 0) (Qv Q) X)) hp (fun i53 h => ?_))
  refine E_blk (lv' := [some (vr (some (11, this))), none, some (vi v2), some (vi v3), some (vi v4), some (vi v5), some (vi (mI M37 12 i38 35))]) (st' := [vr (mR (sR M52 12 i49 32 (some (300, i53))) 11 this 45)]) (M1 := (sR M52 12 i49 32 (some (300, i53)))) (pc' := 887) (tb_Model hγ) [.putfield 680, .aload_n 0, .getfield 522] (by decide +kernel) rfl rfl trivial ?_
  obtain ⟨i54, ei54, h⟩ := h
  rw [ei54]
  refine E_blk (lv' := [some (vr (some (11, this))), none, some (vi v2), some (vi v3), some (vi v4), some (vi v5), some (vi (mI M37 12 i38 35))]) (st' := [vr (mR (sR M52 12 i49 32 (some (300, i53))) 11 this 45), vr (some (12, i54))]) (M1 := (sR M52 12 i49 32 (some (300, i53)))) (pc' := 891) (tb_Model hγ) [.aload_n 0, .getfield 522] (by decide +kernel) rfl rfl trivial ?_
  obtain ⟨i55, ei55, h⟩ := h
  rw [ei55]
  refine E_blk (lv' := [some (vr (some (11, this))), none, some (vi v2), some (vi v3), some (vi v4), some (vi v5), some (vi (mI M37 12 i38 35))]) (st' := [vr (mR (sR M52 12 i49 32 (some (300, i53))) 12 i55 33), vr (some (12, i54))]) (M1 := (sR M52 12 i49 32 (some (300, i53)))) (pc' := 894) (tb_Model hγ) [.getfield 683] (by decide +kernel) rfl rfl trivial ?_
  obtain ⟨i56, ei56, h⟩ := h
  rw [ei56]
  refine E_blk (lv' := [some (vr (some (11, this))), none, some (vi v2), some (vi v3), some (vi v4), some (vi v5), some (vi (mI M37 12 i38 35))]) (st' := [vi ((mI M37 12 i38 35) + (1 : Int32)), vr (some (300, i56)), vr (some (12, i54))]) (M1 := (sR M52 12 i49 32 (some (300, i53)))) (pc' := 898) (tb_Model hγ) [.iload 6, .iconst 1, .iadd] (by decide +kernel) rfl rfl trivial ?_
  refine E_callS (κ' := k_Model_room) (As := [vr (some (300, i56)), vi ((mI M37 12 i38 35) + (1 : Int32))]) (st := [vr (some (12, i54))]) ms_Model_room (Or.inl (tbk_mem (j := 11) (k := 66) rfl)) rfl (by decide +kernel) (Nat.le_of_ble_eq_true rfl) (Nat.le_of_ble_eq_true rfl) rfl (by decide) (lk_Model_room hγ i56 ((mI M37 12 i38 35) + (1 : Int32)) _ (sR M52 12 i49 32 (some (300, i53))) h) (fun _ _ => Qr_r) (fun v M57 hp => Qr_k (R := fun st => E γ k_Model_codeLine 7 901 [some (vr (some (11, this))), none, some (vi v2), some (vi v3), some (vi v4), some (vi v5), some (vi (mI M37 12 i38 35))] st M57 (Qx (14, 0) (Qv Q) X)) hp (fun i58 h => ?_))
  refine E_blk (lv' := [some (vr (some (11, this))), none, some (vi v2), some (vi v3), some (vi v4), some (vi v5), some (vi (mI M37 12 i38 35))]) (st' := [vr (mR (sR M57 12 i54 33 (some (300, i58))) 11 this 45)]) (M1 := (sR M57 12 i54 33 (some (300, i58)))) (pc' := 908) (tb_Model hγ) [.putfield 683, .aload_n 0, .getfield 522] (by decide +kernel) rfl rfl trivial ?_
  obtain ⟨i59, ei59, h⟩ := h
  rw [ei59]
  refine E_blk (lv' := [some (vr (some (11, this))), none, some (vi v2), some (vi v3), some (vi v4), some (vi v5), some (vi (mI M37 12 i38 35))]) (st' := [vr (mR (sR M57 12 i54 33 (some (300, i58))) 11 this 45), vr (some (12, i59))]) (M1 := (sR M57 12 i54 33 (some (300, i58)))) (pc' := 912) (tb_Model hγ) [.aload_n 0, .getfield 522] (by decide +kernel) rfl rfl trivial ?_
  obtain ⟨i60, ei60, h⟩ := h
  rw [ei60]
  refine E_blk (lv' := [some (vr (some (11, this))), none, some (vi v2), some (vi v3), some (vi v4), some (vi v5), some (vi (mI M37 12 i38 35))]) (st' := [vr (mR (sR M57 12 i54 33 (some (300, i58))) 12 i60 34), vr (some (12, i59))]) (M1 := (sR M57 12 i54 33 (some (300, i58)))) (pc' := 915) (tb_Model hγ) [.getfield 686] (by decide +kernel) rfl rfl trivial ?_
  obtain ⟨i61, ei61, h⟩ := h
  rw [ei61]
  refine E_blk (lv' := [some (vr (some (11, this))), none, some (vi v2), some (vi v3), some (vi v4), some (vi v5), some (vi (mI M37 12 i38 35))]) (st' := [vi ((mI M37 12 i38 35) + (1 : Int32)), vr (some (300, i61)), vr (some (12, i59))]) (M1 := (sR M57 12 i54 33 (some (300, i58)))) (pc' := 919) (tb_Model hγ) [.iload 6, .iconst 1, .iadd] (by decide +kernel) rfl rfl trivial ?_
  refine E_callS (κ' := k_Model_room) (As := [vr (some (300, i61)), vi ((mI M37 12 i38 35) + (1 : Int32))]) (st := [vr (some (12, i59))]) ms_Model_room (Or.inl (tbk_mem (j := 11) (k := 66) rfl)) rfl (by decide +kernel) (Nat.le_of_ble_eq_true rfl) (Nat.le_of_ble_eq_true rfl) rfl (by decide) (lk_Model_room hγ i61 ((mI M37 12 i38 35) + (1 : Int32)) _ (sR M57 12 i54 33 (some (300, i58))) h) (fun _ _ => Qr_r) (fun v M62 hp => Qr_k (R := fun st => E γ k_Model_codeLine 7 922 [some (vr (some (11, this))), none, some (vi v2), some (vi v3), some (vi v4), some (vi v5), some (vi (mI M37 12 i38 35))] st M62 (Qx (14, 0) (Qv Q) X)) hp (fun i63 h => ?_))
  refine E_blk (lv' := [some (vr (some (11, this))), none, some (vi v2), some (vi v3), some (vi v4), some (vi v5), some (vi (mI M37 12 i38 35))]) (st' := [vr (mR (sR M62 12 i59 34 (some (300, i63))) 11 this 45)]) (M1 := (sR M62 12 i59 34 (some (300, i63)))) (pc' := 929) (tb_Model hγ) [.putfield 686, .aload_n 0, .getfield 522] (by decide +kernel) rfl rfl trivial ?_
  obtain ⟨i64, ei64, h⟩ := h
  rw [ei64]
  refine E_blk (lv' := [some (vr (some (11, this))), none, some (vi v2), some (vi v3), some (vi v4), some (vi v5), some (vi (mI M37 12 i38 35))]) (st' := [vr (mR (sR M62 12 i59 34 (some (300, i63))) 12 i64 30)]) (M1 := (sR M62 12 i59 34 (some (300, i63)))) (pc' := 932) (tb_Model hγ) [.getfield 674] (by decide +kernel) rfl rfl trivial ?_
  obtain ⟨i65, ei65, h⟩ := h
  rw [ei65]
  obtain ⟨c66, h⟩ := h
  refine E_blk (lv' := [some (vr (some (11, this))), none, some (vi v2), some (vi v3), some (vi v4), some (vi v5), some (vi (mI M37 12 i38 35))]) (st' := []) (M1 := (sI (sR M62 12 i59 34 (some (300, i63))) 401 i65 (mI M37 12 i38 35).toNatClampNeg v2.toInt8.toInt32.toInt8.toInt32)) (pc' := 937) (tb_Model hγ) [.iload 6, .iload_n 2, .i2b, .bastore] (by decide +kernel) rfl rfl ⟨c66, trivial⟩ ?_
  obtain ⟨M67, eM67, h⟩ := h
  rw [← eM67]
  refine E_blk (lv' := [some (vr (some (11, this))), none, some (vi v2), some (vi v3), some (vi v4), some (vi v5), some (vi (mI M37 12 i38 35))]) (st' := [vr (mR M67 11 this 45)]) (M1 := M67) (pc' := 941) (tb_Model hγ) [.aload_n 0, .getfield 522] (by decide +kernel) rfl rfl trivial ?_
  obtain ⟨i68, ei68, h⟩ := h
  rw [ei68]
  refine E_blk (lv' := [some (vr (some (11, this))), none, some (vi v2), some (vi v3), some (vi v4), some (vi v5), some (vi (mI M37 12 i38 35))]) (st' := [vr (mR M67 12 i68 31)]) (M1 := M67) (pc' := 944) (tb_Model hγ) [.getfield 677] (by decide +kernel) rfl rfl trivial ?_
  obtain ⟨i69, ei69, h⟩ := h
  rw [ei69]
  obtain ⟨c70, h⟩ := h
  refine E_blk (lv' := [some (vr (some (11, this))), none, some (vi v2), some (vi v3), some (vi v4), some (vi v5), some (vi (mI M37 12 i38 35))]) (st' := [vr (mR (sI M67 300 i69 (mI M37 12 i38 35).toNatClampNeg v3) 11 this 45)]) (M1 := (sI M67 300 i69 (mI M37 12 i38 35).toNatClampNeg v3)) (pc' := 952) (tb_Model hγ) [.iload 6, .iload_n 3, .iastore, .aload_n 0, .getfield 522] (by decide +kernel) rfl rfl ⟨c70, trivial⟩ ?_
  obtain ⟨i71, ei71, h⟩ := h
  rw [ei71]
  refine E_blk (lv' := [some (vr (some (11, this))), none, some (vi v2), some (vi v3), some (vi v4), some (vi v5), some (vi (mI M37 12 i38 35))]) (st' := [vr (mR (sI M67 300 i69 (mI M37 12 i38 35).toNatClampNeg v3) 12 i71 32)]) (M1 := (sI M67 300 i69 (mI M37 12 i38 35).toNatClampNeg v3)) (pc' := 955) (tb_Model hγ) [.getfield 680] (by decide +kernel) rfl rfl trivial ?_
  obtain ⟨i72, ei72, h⟩ := h
  rw [ei72]
  obtain ⟨c73, h⟩ := h
  refine E_blk (lv' := [some (vr (some (11, this))), none, some (vi v2), some (vi v3), some (vi v4), some (vi v5), some (vi (mI M37 12 i38 35))]) (st' := []) (M1 := (sI (sI M67 300 i69 (mI M37 12 i38 35).toNatClampNeg v3) 300 i72 (mI M37 12 i38 35).toNatClampNeg v4)) (pc' := 960) (tb_Model hγ) [.iload 6, .iload 4, .iastore] (by decide +kernel) rfl rfl ⟨c73, trivial⟩ ?_
  obtain ⟨M74, eM74, h⟩ := h
  rw [← eM74]
  refine E_blk (lv' := [some (vr (some (11, this))), none, some (vi v2), some (vi v3), some (vi v4), some (vi v5), some (vi (mI M37 12 i38 35))]) (st' := [vr (mR M74 11 this 45)]) (M1 := M74) (pc' := 964) (tb_Model hγ) [.aload_n 0, .getfield 522] (by decide +kernel) rfl rfl trivial ?_
  obtain ⟨i75, ei75, h⟩ := h
  rw [ei75]
  refine E_blk (lv' := [some (vr (some (11, this))), none, some (vi v2), some (vi v3), some (vi v4), some (vi v5), some (vi (mI M37 12 i38 35))]) (st' := [vr (mR M74 12 i75 33)]) (M1 := M74) (pc' := 967) (tb_Model hγ) [.getfield 683] (by decide +kernel) rfl rfl trivial ?_
  obtain ⟨i76, ei76, h⟩ := h
  rw [ei76]
  obtain ⟨c77, h⟩ := h
  refine E_blk (lv' := [some (vr (some (11, this))), none, some (vi v2), some (vi v3), some (vi v4), some (vi v5), some (vi (mI M37 12 i38 35))]) (st' := [vr (mR (sI M74 300 i76 (mI M37 12 i38 35).toNatClampNeg v5) 11 this 45)]) (M1 := (sI M74 300 i76 (mI M37 12 i38 35).toNatClampNeg v5)) (pc' := 976) (tb_Model hγ) [.iload 6, .iload 5, .iastore, .aload_n 0, .getfield 522] (by decide +kernel) rfl rfl ⟨c77, trivial⟩ ?_
  obtain ⟨i78, ei78, h⟩ := h
  rw [ei78]
  refine E_blk (lv' := [some (vr (some (11, this))), none, some (vi v2), some (vi v3), some (vi v4), some (vi v5), some (vi (mI M37 12 i38 35))]) (st' := [vr (mR (sI M74 300 i76 (mI M37 12 i38 35).toNatClampNeg v5) 12 i78 34)]) (M1 := (sI M74 300 i76 (mI M37 12 i38 35).toNatClampNeg v5)) (pc' := 979) (tb_Model hγ) [.getfield 686] (by decide +kernel) rfl rfl trivial ?_
  obtain ⟨i79, ei79, h⟩ := h
  rw [ei79]
  obtain ⟨c80, h⟩ := h
  refine E_blk (lv' := [some (vr (some (11, this))), none, some (vi v2), some (vi v3), some (vi v4), some (vi v5), some (vi (mI M37 12 i38 35))]) (st' := []) (M1 := (sI (sI M74 300 i76 (mI M37 12 i38 35).toNatClampNeg v5) 300 i79 (mI M37 12 i38 35).toNatClampNeg (mI (sI M74 300 i76 (mI M37 12 i38 35).toNatClampNeg v5) 11 this 65))) (pc' := 986) (tb_Model hγ) [.iload 6, .aload_n 0, .getfield 650, .iastore] (by decide +kernel) rfl rfl ⟨c80, trivial⟩ ?_
  obtain ⟨M81, eM81, h⟩ := h
  rw [← eM81]
  refine E_blk (lv' := [some (vr (some (11, this))), none, some (vi v2), some (vi v3), some (vi v4), some (vi v5), some (vi (mI M37 12 i38 35))]) (st' := [vr (mR (sI M81 11 this 65 (0 : Int32)) 11 this 45)]) (M1 := (sI M81 11 this 65 (0 : Int32))) (pc' := 995) (tb_Model hγ) [.aload_n 0, .iconst 0, .putfield 650, .aload_n 0, .getfield 522] (by decide +kernel) rfl rfl trivial ?_
  obtain ⟨i82, ei82, h⟩ := h
  rw [ei82]
  refine E_blk (lv' := [some (vr (some (11, this))), none, some (vi v2), some (vi v3), some (vi v4), some (vi v5), some (vi (mI M37 12 i38 35))]) (st' := []) (M1 := (sI (sI M81 11 this 65 (0 : Int32)) 12 i82 35 ((mI (sI M81 11 this 65 (0 : Int32)) 12 i82 35) + (1 : Int32)))) (pc' := 1004) (tb_Model hγ) [.dup, .getfield 471, .iconst 1, .iadd, .putfield 471] (by decide +kernel) rfl rfl trivial ?_
  obtain ⟨M83, eM83, h⟩ := h
  rw [← eM83]
  refine E_blk (lv' := [some (vr (some (11, this))), none, some (vi v2), some (vi v3), some (vi v4), some (vi v5), some (vi (mI M37 12 i38 35))]) (st' := [vr (mR M83 11 this 45)]) (M1 := M83) (pc' := 1008) (tb_Model hγ) [.aload_n 0, .getfield 522] (by decide +kernel) rfl rfl trivial ?_
  obtain ⟨i84, ei84, h⟩ := h
  rw [ei84]
  obtain ⟨c85, c86, h⟩ := h
  refine E_blk (lv' := [some (vr (some (11, this))), none, some (vi v2), some (vi v3), some (vi v4), some (vi v5), some (vi (mI M37 12 i38 35))]) (st' := []) (M1 := (sI M83 150 i84 (mI M83 11 this 54).toNatClampNeg ((mI M83 150 i84 (mI M83 11 this 54).toNatClampNeg) + (1 : Int32)))) (pc' := 1020) (tb_Model hγ) [.getfield 465, .aload_n 0, .getfield 642, .dup2, .iaload, .iconst 1, .iadd, .iastore] (by decide +kernel) rfl rfl ⟨c85, c86, trivial⟩ ?_
  obtain ⟨M87, eM87, h⟩ := h
  rw [← eM87]
  exact (E_vret rfl (by decide +kernel) h).nx
set_option maxRecDepth 4096 in
theorem lk_Model_codeLine_j789 {γ : Gm} (hγ : Gk γ) (this : Nat) (Q : Mem → Prop) (X : Mem → Prop) (v1 : Int32) (v2 : Int32) (v3 : Int32) (v4 : Int32) (v5 : Int32) (M : Mem) (h : w_Model_codeLine_j789 this Q X v1 v2 v3 v4 v5 M) : E γ k_Model_codeLine 7 789 [some (vr (some (11, this))), some (vi v1), some (vi v2), some (vi v3), some (vi v4), some (vi v5), none] [] M (Qx (14, 0) (Qv Q) X) := by
  unfold w_Model_codeLine_j789 at h
  refine E_blk (lv' := [some (vr (some (11, this))), some (vi v1), some (vi v2), some (vi v3), some (vi v4), some (vi v5), none]) (st' := [vi (0 : Int32), vr (some (11, this))]) (M1 := M) (pc' := 791) (tb_Model hγ) [.aload_n 0, .iconst 0] (by decide +kernel) rfl rfl trivial ?_
  refine E_callX (κ' := k_Model_need) (As := [vi (0 : Int32)]) (st := []) mv_Model_need (Or.inl (tbk_mem (j := 15) (k := 35) rfl)) rfl (by decide +kernel) (Nat.le_of_ble_eq_true rfl) (Nat.le_of_ble_eq_true rfl) rfl (by decide) rfl (lk_Model_need hγ this (0 : Int32) _ _ M h) (fun _ _ => Qv_r) (fun _ h => h) (fun v M35 hp => Qv_k (R := fun st => E γ k_Model_codeLine 7 794 [some (vr (some (11, this))), some (vi v1), some (vi v2), some (vi v3), some (vi v4), some (vi v5), none] st M35 (Qx (14, 0) (Qv Q) X)) hp (fun h => ?_))
  refine E_blk (lv' := [some (vr (some (11, this))), some (vi v1), some (vi v2), some (vi v3), some (vi v4), some (vi v5), none]) (st' := [vi (80 : Int32), vi v1, vi (12 : Int32), vr (some (11, this))]) (M1 := M35) (pc' := 800) (tb_Model hγ) [.aload_n 0, .bipush 12, .iload_n 1, .bipush 80] (by decide +kernel) rfl rfl trivial ?_
  refine E_icmp_ne (off := 7) (tgt := 807) (by decide +kernel) (by decide) (fun b36 => ?_) (fun b36 => ?_)
  · rw [if_pos b36] at h
    refine E_blk (lv' := [some (vr (some (11, this))), some (vi v1), some (vi v2), some (vi v3), some (vi v4), some (vi v5), none]) (st' := [vi (1 : Int32), vi (12 : Int32), vr (some (11, this))]) (M1 := M35) (pc' := 804) (tb_Model hγ) [.iconst 1] (by decide +kernel) rfl rfl trivial ?_
    refine E_goto (off := 4) (tgt := 808) (by decide +kernel) (by decide) ?_
    refine E_mask [true, false, true, true, true, true, false] rfl ?_
    exact lk_Model_codeLine_j808 hγ this Q X v2 v3 v4 v5 (1 : Int32) (12 : Int32) M35 h
  · rw [if_neg b36] at h
    refine E_blk (lv' := [some (vr (some (11, this))), some (vi v1), some (vi v2), some (vi v3), some (vi v4), some (vi v5), none]) (st' := [vi (0 : Int32), vi (12 : Int32), vr (some (11, this))]) (M1 := M35) (pc' := 808) (tb_Model hγ) [.iconst 0] (by decide +kernel) rfl rfl trivial ?_
    refine E_mask [true, false, true, true, true, true, false] rfl ?_
    exact lk_Model_codeLine_j808 hγ this Q X v2 v3 v4 v5 (0 : Int32) (12 : Int32) M35 h
set_option maxRecDepth 4096 in
theorem lk_Model_codeLine_j783 {γ : Gm} (hγ : Gk γ) (this : Nat) (Q : Mem → Prop) (X : Mem → Prop) (v1 : Int32) (v2 : Int32) (v3 : Int32) (v4 : Int32) (v5 : Int32) (s0 : Int32) (s1 : Int32) (M : Mem) (h : w_Model_codeLine_j783 this Q X v1 v2 v3 v4 v5 s0 s1 M) : E γ k_Model_codeLine 7 783 [some (vr (some (11, this))), some (vi v1), some (vi v2), some (vi v3), some (vi v4), some (vi v5), none] [vi s0, vi s1, vr (some (11, this))] M (Qx (14, 0) (Qv Q) X) := by
  unfold w_Model_codeLine_j783 at h
  refine E_callV (κ' := k_Model_asks) (As := [vi s1, vi s0]) (st := []) mv_Model_asks (Or.inl (tbk_mem (j := 15) (k := 43) rfl)) rfl (by decide +kernel) (Nat.le_of_ble_eq_true rfl) (Nat.le_of_ble_eq_true rfl) rfl (by decide) (lk_Model_asks hγ this s1 s0 _ M h) (fun _ _ => Qv_r) (fun v M160 hp => Qv_k (R := fun st => E γ k_Model_codeLine 7 786 [some (vr (some (11, this))), some (vi v1), some (vi v2), some (vi v3), some (vi v4), some (vi v5), none] st M160 (Qx (14, 0) (Qv Q) X)) hp (fun h => ?_))
  refine E_goto (off := 3) (tgt := 789) (by decide +kernel) (by decide) ?_
  refine E_mask [true, true, true, true, true, true, false] rfl ?_
  exact lk_Model_codeLine_j789 hγ this Q X v1 v2 v3 v4 v5 M160 h
set_option maxRecDepth 4096 in
theorem lk_Model_codeLine_j757 {γ : Gm} (hγ : Gk γ) (this : Nat) (Q : Mem → Prop) (X : Mem → Prop) (v1 : Int32) (v2 : Int32) (v3 : Int32) (v4 : Int32) (M : Mem) (h : w_Model_codeLine_j757 this Q X v1 v2 v3 v4 M) : E γ k_Model_codeLine 7 757 [some (vr (some (11, this))), some (vi v1), some (vi v2), some (vi v3), some (vi v4), none, none] [] M (Qx (14, 0) (Qv Q) X) := by
  unfold w_Model_codeLine_j757 at h
  refine E_blk (lv' := [some (vr (some (11, this))), some (vi v1), some (vi v2), some (vi v3), some (vi v4), none, none]) (st' := [vr (some (11, this))]) (M1 := M) (pc' := 758) (tb_Model hγ) [.aload_n 0] (by decide +kernel) rfl rfl trivial ?_
  refine E_callX (κ' := k_Model_wholeSignature) (As := []) (st := []) mv_Model_wholeSignature (Or.inl (tbk_mem (j := 15) (k := 68) rfl)) rfl (by decide +kernel) (Nat.le_of_ble_eq_true rfl) (Nat.le_of_ble_eq_true rfl) rfl (by decide) rfl (lk_Model_wholeSignature hγ this _ _ M h) (fun _ _ => Qi_r) (fun _ h => h) (fun v M155 hp => Qi_k (R := fun st => E γ k_Model_codeLine 7 761 [some (vr (some (11, this))), some (vi v1), some (vi v2), some (vi v3), some (vi v4), none, none] st M155 (Qx (14, 0) (Qv Q) X)) hp (fun r156 h => ?_))
  refine E_blk (lv' := [some (vr (some (11, this))), some (vi v1), some (vi v2), some (vi v3), some (vi v4), some (vi r156), none]) (st' := [vr (mR M155 11 this 31), vi (12 : Int32), vr (some (11, this))]) (M1 := M155) (pc' := 770) (tb_Model hγ) [.istore 5, .aload_n 0, .bipush 12, .aload_n 0, .getfield 80] (by decide +kernel) rfl rfl trivial ?_
  obtain ⟨i157, ei157, h⟩ := h
  rw [ei157]
  obtain ⟨c158, h⟩ := h
  refine E_blk (lv' := [some (vr (some (11, this))), some (vi v1), some (vi v2), some (vi v3), some (vi v4), some (vi r156), none]) (st' := [vi (6 : Int32), vi (mI M155 300 i157 r156.toNatClampNeg), vi (12 : Int32), vr (some (11, this))]) (M1 := M155) (pc' := 775) (tb_Model hγ) [.iload 5, .iaload, .bipush 6] (by decide +kernel) rfl rfl ⟨c158, trivial⟩ ?_
  refine E_icmp_le (off := 7) (tgt := 782) (by decide +kernel) (by decide) (fun b159 => ?_) (fun b159 => ?_)
  · rw [if_pos b159] at h
    refine E_blk (lv' := [some (vr (some (11, this))), some (vi v1), some (vi v2), some (vi v3), some (vi v4), some (vi r156), none]) (st' := [vi (0 : Int32), vi (12 : Int32), vr (some (11, this))]) (M1 := M155) (pc' := 783) (tb_Model hγ) [.iconst 0] (by decide +kernel) rfl rfl trivial ?_
    refine E_mask [true, true, true, true, true, true, false] rfl ?_
    exact lk_Model_codeLine_j783 hγ this Q X v1 v2 v3 v4 r156 (0 : Int32) (12 : Int32) M155 h
  · rw [if_neg b159] at h
    refine E_blk (lv' := [some (vr (some (11, this))), some (vi v1), some (vi v2), some (vi v3), some (vi v4), some (vi r156), none]) (st' := [vi (1 : Int32), vi (12 : Int32), vr (some (11, this))]) (M1 := M155) (pc' := 779) (tb_Model hγ) [.iconst 1] (by decide +kernel) rfl rfl trivial ?_
    refine E_goto (off := 4) (tgt := 783) (by decide +kernel) (by decide) ?_
    refine E_mask [true, true, true, true, true, true, false] rfl ?_
    exact lk_Model_codeLine_j783 hγ this Q X v1 v2 v3 v4 r156 (1 : Int32) (12 : Int32) M155 h
set_option maxRecDepth 4096 in
theorem lk_Model_codeLine_j751 {γ : Gm} (hγ : Gk γ) (this : Nat) (Q : Mem → Prop) (X : Mem → Prop) (v1 : Int32) (v2 : Int32) (v3 : Int32) (M : Mem) (h : w_Model_codeLine_j751 this Q X v1 v2 v3 M) : E γ k_Model_codeLine 7 751 [some (vr (some (11, this))), some (vi v1), some (vi v2), some (vi v3), none, none, none] [] M (Qx (14, 0) (Qv Q) X) := by
  unfold w_Model_codeLine_j751 at h
  refine E_blk (lv' := [some (vr (some (11, this))), some (vi v1), some (vi v2), some (vi v3), none, none, none]) (st' := [vr (some (11, this))]) (M1 := M) (pc' := 752) (tb_Model hγ) [.aload_n 0] (by decide +kernel) rfl rfl trivial ?_
  refine E_callX (κ' := k_Model_plainName) (As := []) (st := []) mv_Model_plainName (Or.inl (tbk_mem (j := 15) (k := 31) rfl)) rfl (by decide +kernel) (Nat.le_of_ble_eq_true rfl) (Nat.le_of_ble_eq_true rfl) rfl (by decide) rfl (lk_Model_plainName hγ this _ _ M h) (fun _ _ => Qi_r) (fun _ h => h) (fun v M161 hp => Qi_k (R := fun st => E γ k_Model_codeLine 7 755 [some (vr (some (11, this))), some (vi v1), some (vi v2), some (vi v3), none, none, none] st M161 (Qx (14, 0) (Qv Q) X)) hp (fun r162 h => ?_))
  refine E_blk (lv' := [some (vr (some (11, this))), some (vi v1), some (vi v2), some (vi v3), some (vi r162), none, none]) (st' := []) (M1 := M161) (pc' := 757) (tb_Model hγ) [.istore 4] (by decide +kernel) rfl rfl trivial ?_
  refine E_mask [true, true, true, true, true, false, false] rfl ?_
  exact lk_Model_codeLine_j757 hγ this Q X v1 v2 v3 r162 M161 h
set_option maxRecDepth 4096 in
theorem lk_Model_codeLine_L608 {γ : Gm} (hγ : Gk γ) (this : Nat) (Q : Mem → Prop) (X : Mem → Prop) : ∀ (n : Nat) (v1 : Int32) (v2 : Int32) (v3 : Int32) (v4 : Int32) (M : Mem), w_Model_codeLine_L608 this Q X n v1 v2 v3 v4 M → E γ k_Model_codeLine 7 608 [some (vr (some (11, this))), some (vi v1), some (vi v2), some (vi v3), some (vi v4), none, none] [] M (Qx (14, 0) (Qv Q) X) := by
  intro n
  induction n with
  | zero => intro v1 v2 v3 v4 M h; exact h.elim
  | succ n ih =>
    intro v1 v2 v3 v4 M h
    unfold w_Model_codeLine_L608 at h
    obtain ⟨c223, h⟩ := h
    refine E_blk (lv' := [some (vr (some (11, this))), some (vi v1), some (vi v2), some (vi v3), some (vi v4), none, none]) (st' := [vi (44 : Int32), vi (mI M 411 this (mI M 11 this 43).toNatClampNeg)]) (M1 := M) (pc' := 619) (tb_Model hγ) [.aload_n 0, .getfield 92, .aload_n 0, .getfield 104, .baload, .bipush 44] (by decide +kernel) rfl rfl ⟨c223, trivial⟩ ?_
    refine E_icmp_ne (off := 24) (tgt := 643) (by decide +kernel) (by decide) (fun b224 => ?_) (fun b224 => ?_)
    · rw [if_pos b224] at h
      refine E_blk (lv' := [some (vr (some (11, this))), some (vi v1), some (vi v2), some (vi v3), some (vi v4), none, none]) (st' := [vr (some (11, this)), vr (some (11, this))]) (M1 := (sI M 11 this 43 ((mI M 11 this 43) + (1 : Int32)))) (pc' := 634) (tb_Model hγ) [.aload_n 0, .dup, .getfield 104, .iconst 1, .iadd, .putfield 104, .aload_n 0, .aload_n 0] (by decide +kernel) rfl rfl trivial ?_
      refine E_callX (κ' := k_Model_usedLabel) (As := []) (st := [vr (some (11, this))]) mv_Model_usedLabel (Or.inl (tbk_mem (j := 15) (k := 109) rfl)) rfl (by decide +kernel) (Nat.le_of_ble_eq_true rfl) (Nat.le_of_ble_eq_true rfl) rfl (by decide) rfl (lk_Model_usedLabel hγ this _ _ (sI M 11 this 43 ((mI M 11 this 43) + (1 : Int32))) h) (fun _ _ => Qi_r) (fun _ h => h) (fun v M225 hp => Qi_k (R := fun st => E γ k_Model_codeLine 7 637 [some (vr (some (11, this))), some (vi v1), some (vi v2), some (vi v3), some (vi v4), none, none] st M225 (Qx (14, 0) (Qv Q) X)) hp (fun r226 h => ?_))
      refine E_callV (κ' := k_Model_addList) (As := [vi r226]) (st := []) mv_Model_addList (Or.inl (tbk_mem (j := 15) (k := 113) rfl)) rfl (by decide +kernel) (Nat.le_of_ble_eq_true rfl) (Nat.le_of_ble_eq_true rfl) rfl (by decide) (lk_Model_addList hγ this r226 _ M225 h) (fun _ _ => Qv_r) (fun v M227 hp => Qv_k (R := fun st => E γ k_Model_codeLine 7 640 [some (vr (some (11, this))), some (vi v1), some (vi v2), some (vi v3), some (vi v4), none, none] st M227 (Qx (14, 0) (Qv Q) X)) hp (fun h => ?_))
      refine E_goto (off := -32) (tgt := 608) (by decide +kernel) (by decide) ?_
      refine E_mask [true, true, true, true, true, false, false] rfl ?_
      exact ih v1 v2 v3 v4 M227 h
    · rw [if_neg b224] at h
      refine E_blk (lv' := [some (vr (some (11, this))), some (vi v1), some (vi v2), some (vi v3), some (vi v4), none, none]) (st' := [vr (mR M 11 this 45)]) (M1 := M) (pc' := 647) (tb_Model hγ) [.aload_n 0, .getfield 522] (by decide +kernel) rfl rfl trivial ?_
      obtain ⟨i228, ei228, h⟩ := h
      rw [ei228]
      refine E_blk (lv' := [some (vr (some (11, this))), some (vi v1), some (vi v2), some (vi v3), some (vi v4), some (vi ((mI M 12 i228 37) - v4)), none]) (st' := []) (M1 := M) (pc' := 655) (tb_Model hγ) [.getfield 474, .iload 4, .isub, .istore 5] (by decide +kernel) rfl rfl trivial ?_
      refine E_goto (off := 134) (tgt := 789) (by decide +kernel) (by decide) ?_
      refine E_mask [true, true, true, true, true, true, false] rfl ?_
      exact lk_Model_codeLine_j789 hγ this Q X v1 v2 v3 v4 ((mI M 12 i228 37) - v4) M h
set_option maxRecDepth 4096 in
theorem lk_Model_codeLine_j272 {γ : Gm} (hγ : Gk γ) (this : Nat) (Q : Mem → Prop) (X : Mem → Prop) (v1 : Int32) (v2 : Int32) (M : Mem) (h : w_Model_codeLine_j272 this Q X v1 v2 M) : E γ k_Model_codeLine 7 272 [some (vr (some (11, this))), some (vi v1), some (vi v2), none, none, none, none] [] M (Qx (14, 0) (Qv Q) X) := by
  unfold w_Model_codeLine_j272 at h
  refine E_blk (lv' := [some (vr (some (11, this))), some (vi v1), some (vi v2), some (vi (0 : Int32)), some (vi (0 : Int32)), some (vi (0 : Int32)), none]) (st' := [vi v2]) (M1 := (sI M 11 this 43 ((mI M 11 this 43) + (1 : Int32)))) (pc' := 291) (tb_Model hγ) [.aload_n 0, .dup, .getfield 104, .iconst 1, .iadd, .putfield 104, .iconst 0, .istore_n 3, .iconst 0, .istore 4, .iconst 0, .istore 5, .iload_n 2] (by decide +kernel) rfl rfl trivial ?_
  by_cases b88 : v2 = (1 : Int32)
  · rw [if_pos b88] at h
    refine E.up (fun _ _ hJ => J_tswI (len := 233) (dflt := 498) (lo := 1) (hi := 55) (offs := #[267, 498, 233, 233, 233, 233, 244, 498, 498, 498, 498, 498, 498, 498, 498, 498, 498, 498, 498, 498, 498, 498, 281, 281, 281, 281, 281, 281, 281, 281, 281, 281, 281, 281, 281, 281, 281, 281, 281, 289, 367, 498, 498, 498, 498, 375, 375, 375, 375, 401, 401, 401, 401, 367, 367]) (off := 267) (tgt := 558) (by decide +kernel) (by rw [b88]; decide) (by rw [b88]; decide) (by rw [b88]; rfl) (by decide) hJ) ?_
    refine E_blk (lv' := [some (vr (some (11, this))), some (vi v1), some (vi v2), some (vi (0 : Int32)), some (vi (0 : Int32)), some (vi (0 : Int32)), none]) (st' := [vi (2147483647 : Int32), vi (-2147483648 : Int32), vr (some (11, this))]) (M1 := (sI M 11 this 43 ((mI M 11 this 43) + (1 : Int32)))) (pc' := 565) (tb_Model hγ) [.aload_n 0, .ldc_w 616, .ldc_w 617] (by decide +kernel) rfl rfl trivial ?_
    refine E_callX (κ' := k_Model_numberIn) (As := [vi (-2147483648 : Int32), vi (2147483647 : Int32)]) (st := []) mv_Model_numberIn (Or.inl (tbk_mem (j := 15) (k := 60) rfl)) rfl (by decide +kernel) (Nat.le_of_ble_eq_true rfl) (Nat.le_of_ble_eq_true rfl) rfl (by decide) rfl (lk_Model_numberIn hγ this (-2147483648 : Int32) (2147483647 : Int32) _ _ (sI M 11 this 43 ((mI M 11 this 43) + (1 : Int32))) h) (fun _ _ => Qi_r) (fun _ h => h) (fun v M276 hp => Qi_k (R := fun st => E γ k_Model_codeLine 7 568 [some (vr (some (11, this))), some (vi v1), some (vi v2), some (vi (0 : Int32)), some (vi (0 : Int32)), some (vi (0 : Int32)), none] st M276 (Qx (14, 0) (Qv Q) X)) hp (fun r277 h => ?_))
    refine E_blk (lv' := [some (vr (some (11, this))), some (vi v1), some (vi v2), some (vi r277), some (vi (0 : Int32)), some (vi (0 : Int32)), none]) (st' := []) (M1 := M276) (pc' := 569) (tb_Model hγ) [.istore_n 3] (by decide +kernel) rfl rfl trivial ?_
    refine E_goto (off := 220) (tgt := 789) (by decide +kernel) (by decide) ?_
    refine E_mask [true, true, true, true, true, true, false] rfl ?_
    exact lk_Model_codeLine_j789 hγ this Q X v1 v2 r277 (0 : Int32) (0 : Int32) M276 h
  · rw [if_neg b88] at h
    by_cases b89 : v2 = (2 : Int32)
    · rw [if_pos b89] at h
      refine E.up (fun _ _ hJ => J_tswI (len := 233) (dflt := 498) (lo := 1) (hi := 55) (offs := #[267, 498, 233, 233, 233, 233, 244, 498, 498, 498, 498, 498, 498, 498, 498, 498, 498, 498, 498, 498, 498, 498, 281, 281, 281, 281, 281, 281, 281, 281, 281, 281, 281, 281, 281, 281, 281, 281, 281, 289, 367, 498, 498, 498, 498, 375, 375, 375, 375, 401, 401, 401, 401, 367, 367]) (off := 498) (tgt := 789) (by decide +kernel) (by rw [b89]; decide) (by rw [b89]; decide) (by rw [b89]; rfl) (by decide) hJ) ?_
      refine E_mask [true, true, true, true, true, true, false] rfl ?_
      exact lk_Model_codeLine_j789 hγ this Q X v1 v2 (0 : Int32) (0 : Int32) (0 : Int32) (sI M 11 this 43 ((mI M 11 this 43) + (1 : Int32))) h
    · rw [if_neg b89] at h
      by_cases b90 : v2 = (3 : Int32)
      · rw [if_pos b90] at h
        refine E.up (fun _ _ hJ => J_tswI (len := 233) (dflt := 498) (lo := 1) (hi := 55) (offs := #[267, 498, 233, 233, 233, 233, 244, 498, 498, 498, 498, 498, 498, 498, 498, 498, 498, 498, 498, 498, 498, 498, 281, 281, 281, 281, 281, 281, 281, 281, 281, 281, 281, 281, 281, 281, 281, 281, 281, 289, 367, 498, 498, 498, 498, 375, 375, 375, 375, 401, 401, 401, 401, 367, 367]) (off := 233) (tgt := 524) (by decide +kernel) (by rw [b90]; decide) (by rw [b90]; decide) (by rw [b90]; rfl) (by decide) hJ) ?_
        refine E_blk (lv' := [some (vr (some (11, this))), some (vi v1), some (vi v2), some (vi (0 : Int32)), some (vi (0 : Int32)), some (vi (0 : Int32)), none]) (st' := [vi (19 : Int32), vi (0 : Int32), vr (some (11, this))]) (M1 := (sI M 11 this 43 ((mI M 11 this 43) + (1 : Int32)))) (pc' := 528) (tb_Model hγ) [.aload_n 0, .iconst 0, .bipush 19] (by decide +kernel) rfl rfl trivial ?_
        refine E_callX (κ' := k_Model_numberIn) (As := [vi (0 : Int32), vi (19 : Int32)]) (st := []) mv_Model_numberIn (Or.inl (tbk_mem (j := 15) (k := 60) rfl)) rfl (by decide +kernel) (Nat.le_of_ble_eq_true rfl) (Nat.le_of_ble_eq_true rfl) rfl (by decide) rfl (lk_Model_numberIn hγ this (0 : Int32) (19 : Int32) _ _ (sI M 11 this 43 ((mI M 11 this 43) + (1 : Int32))) h) (fun _ _ => Qi_r) (fun _ h => h) (fun v M274 hp => Qi_k (R := fun st => E γ k_Model_codeLine 7 531 [some (vr (some (11, this))), some (vi v1), some (vi v2), some (vi (0 : Int32)), some (vi (0 : Int32)), some (vi (0 : Int32)), none] st M274 (Qx (14, 0) (Qv Q) X)) hp (fun r275 h => ?_))
        refine E_blk (lv' := [some (vr (some (11, this))), some (vi v1), some (vi v2), some (vi r275), some (vi (0 : Int32)), some (vi (0 : Int32)), none]) (st' := []) (M1 := M274) (pc' := 532) (tb_Model hγ) [.istore_n 3] (by decide +kernel) rfl rfl trivial ?_
        refine E_goto (off := 257) (tgt := 789) (by decide +kernel) (by decide) ?_
        refine E_mask [true, true, true, true, true, true, false] rfl ?_
        exact lk_Model_codeLine_j789 hγ this Q X v1 v2 r275 (0 : Int32) (0 : Int32) M274 h
      · rw [if_neg b90] at h
        by_cases b91 : v2 = (4 : Int32)
        · rw [if_pos b91] at h
          refine E.up (fun _ _ hJ => J_tswI (len := 233) (dflt := 498) (lo := 1) (hi := 55) (offs := #[267, 498, 233, 233, 233, 233, 244, 498, 498, 498, 498, 498, 498, 498, 498, 498, 498, 498, 498, 498, 498, 498, 281, 281, 281, 281, 281, 281, 281, 281, 281, 281, 281, 281, 281, 281, 281, 281, 281, 289, 367, 498, 498, 498, 498, 375, 375, 375, 375, 401, 401, 401, 401, 367, 367]) (off := 233) (tgt := 524) (by decide +kernel) (by rw [b91]; decide) (by rw [b91]; decide) (by rw [b91]; rfl) (by decide) hJ) ?_
          refine E_blk (lv' := [some (vr (some (11, this))), some (vi v1), some (vi v2), some (vi (0 : Int32)), some (vi (0 : Int32)), some (vi (0 : Int32)), none]) (st' := [vi (19 : Int32), vi (0 : Int32), vr (some (11, this))]) (M1 := (sI M 11 this 43 ((mI M 11 this 43) + (1 : Int32)))) (pc' := 528) (tb_Model hγ) [.aload_n 0, .iconst 0, .bipush 19] (by decide +kernel) rfl rfl trivial ?_
          refine E_callX (κ' := k_Model_numberIn) (As := [vi (0 : Int32), vi (19 : Int32)]) (st := []) mv_Model_numberIn (Or.inl (tbk_mem (j := 15) (k := 60) rfl)) rfl (by decide +kernel) (Nat.le_of_ble_eq_true rfl) (Nat.le_of_ble_eq_true rfl) rfl (by decide) rfl (lk_Model_numberIn hγ this (0 : Int32) (19 : Int32) _ _ (sI M 11 this 43 ((mI M 11 this 43) + (1 : Int32))) h) (fun _ _ => Qi_r) (fun _ h => h) (fun v M272 hp => Qi_k (R := fun st => E γ k_Model_codeLine 7 531 [some (vr (some (11, this))), some (vi v1), some (vi v2), some (vi (0 : Int32)), some (vi (0 : Int32)), some (vi (0 : Int32)), none] st M272 (Qx (14, 0) (Qv Q) X)) hp (fun r273 h => ?_))
          refine E_blk (lv' := [some (vr (some (11, this))), some (vi v1), some (vi v2), some (vi r273), some (vi (0 : Int32)), some (vi (0 : Int32)), none]) (st' := []) (M1 := M272) (pc' := 532) (tb_Model hγ) [.istore_n 3] (by decide +kernel) rfl rfl trivial ?_
          refine E_goto (off := 257) (tgt := 789) (by decide +kernel) (by decide) ?_
          refine E_mask [true, true, true, true, true, true, false] rfl ?_
          exact lk_Model_codeLine_j789 hγ this Q X v1 v2 r273 (0 : Int32) (0 : Int32) M272 h
        · rw [if_neg b91] at h
          by_cases b92 : v2 = (5 : Int32)
          · rw [if_pos b92] at h
            refine E.up (fun _ _ hJ => J_tswI (len := 233) (dflt := 498) (lo := 1) (hi := 55) (offs := #[267, 498, 233, 233, 233, 233, 244, 498, 498, 498, 498, 498, 498, 498, 498, 498, 498, 498, 498, 498, 498, 498, 281, 281, 281, 281, 281, 281, 281, 281, 281, 281, 281, 281, 281, 281, 281, 281, 281, 289, 367, 498, 498, 498, 498, 375, 375, 375, 375, 401, 401, 401, 401, 367, 367]) (off := 233) (tgt := 524) (by decide +kernel) (by rw [b92]; decide) (by rw [b92]; decide) (by rw [b92]; rfl) (by decide) hJ) ?_
            refine E_blk (lv' := [some (vr (some (11, this))), some (vi v1), some (vi v2), some (vi (0 : Int32)), some (vi (0 : Int32)), some (vi (0 : Int32)), none]) (st' := [vi (19 : Int32), vi (0 : Int32), vr (some (11, this))]) (M1 := (sI M 11 this 43 ((mI M 11 this 43) + (1 : Int32)))) (pc' := 528) (tb_Model hγ) [.aload_n 0, .iconst 0, .bipush 19] (by decide +kernel) rfl rfl trivial ?_
            refine E_callX (κ' := k_Model_numberIn) (As := [vi (0 : Int32), vi (19 : Int32)]) (st := []) mv_Model_numberIn (Or.inl (tbk_mem (j := 15) (k := 60) rfl)) rfl (by decide +kernel) (Nat.le_of_ble_eq_true rfl) (Nat.le_of_ble_eq_true rfl) rfl (by decide) rfl (lk_Model_numberIn hγ this (0 : Int32) (19 : Int32) _ _ (sI M 11 this 43 ((mI M 11 this 43) + (1 : Int32))) h) (fun _ _ => Qi_r) (fun _ h => h) (fun v M270 hp => Qi_k (R := fun st => E γ k_Model_codeLine 7 531 [some (vr (some (11, this))), some (vi v1), some (vi v2), some (vi (0 : Int32)), some (vi (0 : Int32)), some (vi (0 : Int32)), none] st M270 (Qx (14, 0) (Qv Q) X)) hp (fun r271 h => ?_))
            refine E_blk (lv' := [some (vr (some (11, this))), some (vi v1), some (vi v2), some (vi r271), some (vi (0 : Int32)), some (vi (0 : Int32)), none]) (st' := []) (M1 := M270) (pc' := 532) (tb_Model hγ) [.istore_n 3] (by decide +kernel) rfl rfl trivial ?_
            refine E_goto (off := 257) (tgt := 789) (by decide +kernel) (by decide) ?_
            refine E_mask [true, true, true, true, true, true, false] rfl ?_
            exact lk_Model_codeLine_j789 hγ this Q X v1 v2 r271 (0 : Int32) (0 : Int32) M270 h
          · rw [if_neg b92] at h
            by_cases b93 : v2 = (6 : Int32)
            · rw [if_pos b93] at h
              refine E.up (fun _ _ hJ => J_tswI (len := 233) (dflt := 498) (lo := 1) (hi := 55) (offs := #[267, 498, 233, 233, 233, 233, 244, 498, 498, 498, 498, 498, 498, 498, 498, 498, 498, 498, 498, 498, 498, 498, 281, 281, 281, 281, 281, 281, 281, 281, 281, 281, 281, 281, 281, 281, 281, 281, 281, 289, 367, 498, 498, 498, 498, 375, 375, 375, 375, 401, 401, 401, 401, 367, 367]) (off := 233) (tgt := 524) (by decide +kernel) (by rw [b93]; decide) (by rw [b93]; decide) (by rw [b93]; rfl) (by decide) hJ) ?_
              refine E_blk (lv' := [some (vr (some (11, this))), some (vi v1), some (vi v2), some (vi (0 : Int32)), some (vi (0 : Int32)), some (vi (0 : Int32)), none]) (st' := [vi (19 : Int32), vi (0 : Int32), vr (some (11, this))]) (M1 := (sI M 11 this 43 ((mI M 11 this 43) + (1 : Int32)))) (pc' := 528) (tb_Model hγ) [.aload_n 0, .iconst 0, .bipush 19] (by decide +kernel) rfl rfl trivial ?_
              refine E_callX (κ' := k_Model_numberIn) (As := [vi (0 : Int32), vi (19 : Int32)]) (st := []) mv_Model_numberIn (Or.inl (tbk_mem (j := 15) (k := 60) rfl)) rfl (by decide +kernel) (Nat.le_of_ble_eq_true rfl) (Nat.le_of_ble_eq_true rfl) rfl (by decide) rfl (lk_Model_numberIn hγ this (0 : Int32) (19 : Int32) _ _ (sI M 11 this 43 ((mI M 11 this 43) + (1 : Int32))) h) (fun _ _ => Qi_r) (fun _ h => h) (fun v M268 hp => Qi_k (R := fun st => E γ k_Model_codeLine 7 531 [some (vr (some (11, this))), some (vi v1), some (vi v2), some (vi (0 : Int32)), some (vi (0 : Int32)), some (vi (0 : Int32)), none] st M268 (Qx (14, 0) (Qv Q) X)) hp (fun r269 h => ?_))
              refine E_blk (lv' := [some (vr (some (11, this))), some (vi v1), some (vi v2), some (vi r269), some (vi (0 : Int32)), some (vi (0 : Int32)), none]) (st' := []) (M1 := M268) (pc' := 532) (tb_Model hγ) [.istore_n 3] (by decide +kernel) rfl rfl trivial ?_
              refine E_goto (off := 257) (tgt := 789) (by decide +kernel) (by decide) ?_
              refine E_mask [true, true, true, true, true, true, false] rfl ?_
              exact lk_Model_codeLine_j789 hγ this Q X v1 v2 r269 (0 : Int32) (0 : Int32) M268 h
            · rw [if_neg b93] at h
              by_cases b94 : v2 = (7 : Int32)
              · rw [if_pos b94] at h
                refine E.up (fun _ _ hJ => J_tswI (len := 233) (dflt := 498) (lo := 1) (hi := 55) (offs := #[267, 498, 233, 233, 233, 233, 244, 498, 498, 498, 498, 498, 498, 498, 498, 498, 498, 498, 498, 498, 498, 498, 281, 281, 281, 281, 281, 281, 281, 281, 281, 281, 281, 281, 281, 281, 281, 281, 281, 289, 367, 498, 498, 498, 498, 375, 375, 375, 375, 401, 401, 401, 401, 367, 367]) (off := 244) (tgt := 535) (by decide +kernel) (by rw [b94]; decide) (by rw [b94]; decide) (by rw [b94]; rfl) (by decide) hJ) ?_
                refine E_blk (lv' := [some (vr (some (11, this))), some (vi v1), some (vi v2), some (vi (0 : Int32)), some (vi (0 : Int32)), some (vi (0 : Int32)), none]) (st' := [vi (19 : Int32), vi (0 : Int32), vr (some (11, this))]) (M1 := (sI M 11 this 43 ((mI M 11 this 43) + (1 : Int32)))) (pc' := 539) (tb_Model hγ) [.aload_n 0, .iconst 0, .bipush 19] (by decide +kernel) rfl rfl trivial ?_
                refine E_callX (κ' := k_Model_numberIn) (As := [vi (0 : Int32), vi (19 : Int32)]) (st := []) mv_Model_numberIn (Or.inl (tbk_mem (j := 15) (k := 60) rfl)) rfl (by decide +kernel) (Nat.le_of_ble_eq_true rfl) (Nat.le_of_ble_eq_true rfl) rfl (by decide) rfl (lk_Model_numberIn hγ this (0 : Int32) (19 : Int32) _ _ (sI M 11 this 43 ((mI M 11 this 43) + (1 : Int32))) h) (fun _ _ => Qi_r) (fun _ h => h) (fun v M264 hp => Qi_k (R := fun st => E γ k_Model_codeLine 7 542 [some (vr (some (11, this))), some (vi v1), some (vi v2), some (vi (0 : Int32)), some (vi (0 : Int32)), some (vi (0 : Int32)), none] st M264 (Qx (14, 0) (Qv Q) X)) hp (fun r265 h => ?_))
                refine E_blk (lv' := [some (vr (some (11, this))), some (vi v1), some (vi v2), some (vi r265), some (vi (0 : Int32)), some (vi (0 : Int32)), none]) (st' := [vi (2147483647 : Int32), vi (-2147483648 : Int32), vr (some (11, this))]) (M1 := M264) (pc' := 550) (tb_Model hγ) [.istore_n 3, .aload_n 0, .ldc_w 616, .ldc_w 617] (by decide +kernel) rfl rfl trivial ?_
                refine E_callX (κ' := k_Model_numberIn) (As := [vi (-2147483648 : Int32), vi (2147483647 : Int32)]) (st := []) mv_Model_numberIn (Or.inl (tbk_mem (j := 15) (k := 60) rfl)) rfl (by decide +kernel) (Nat.le_of_ble_eq_true rfl) (Nat.le_of_ble_eq_true rfl) rfl (by decide) rfl (lk_Model_numberIn hγ this (-2147483648 : Int32) (2147483647 : Int32) _ _ M264 h) (fun _ _ => Qi_r) (fun _ h => h) (fun v M266 hp => Qi_k (R := fun st => E γ k_Model_codeLine 7 553 [some (vr (some (11, this))), some (vi v1), some (vi v2), some (vi r265), some (vi (0 : Int32)), some (vi (0 : Int32)), none] st M266 (Qx (14, 0) (Qv Q) X)) hp (fun r267 h => ?_))
                refine E_blk (lv' := [some (vr (some (11, this))), some (vi v1), some (vi v2), some (vi r265), some (vi r267), some (vi (0 : Int32)), none]) (st' := []) (M1 := M266) (pc' := 555) (tb_Model hγ) [.istore 4] (by decide +kernel) rfl rfl trivial ?_
                refine E_goto (off := 234) (tgt := 789) (by decide +kernel) (by decide) ?_
                refine E_mask [true, true, true, true, true, true, false] rfl ?_
                exact lk_Model_codeLine_j789 hγ this Q X v1 v2 r265 r267 (0 : Int32) M266 h
              · rw [if_neg b94] at h
                by_cases b95 : v2 = (8 : Int32)
                · rw [if_pos b95] at h
                  refine E.up (fun _ _ hJ => J_tswI (len := 233) (dflt := 498) (lo := 1) (hi := 55) (offs := #[267, 498, 233, 233, 233, 233, 244, 498, 498, 498, 498, 498, 498, 498, 498, 498, 498, 498, 498, 498, 498, 498, 281, 281, 281, 281, 281, 281, 281, 281, 281, 281, 281, 281, 281, 281, 281, 281, 281, 289, 367, 498, 498, 498, 498, 375, 375, 375, 375, 401, 401, 401, 401, 367, 367]) (off := 498) (tgt := 789) (by decide +kernel) (by rw [b95]; decide) (by rw [b95]; decide) (by rw [b95]; rfl) (by decide) hJ) ?_
                  refine E_mask [true, true, true, true, true, true, false] rfl ?_
                  exact lk_Model_codeLine_j789 hγ this Q X v1 v2 (0 : Int32) (0 : Int32) (0 : Int32) (sI M 11 this 43 ((mI M 11 this 43) + (1 : Int32))) h
                · rw [if_neg b95] at h
                  by_cases b96 : v2 = (9 : Int32)
                  · rw [if_pos b96] at h
                    refine E.up (fun _ _ hJ => J_tswI (len := 233) (dflt := 498) (lo := 1) (hi := 55) (offs := #[267, 498, 233, 233, 233, 233, 244, 498, 498, 498, 498, 498, 498, 498, 498, 498, 498, 498, 498, 498, 498, 498, 281, 281, 281, 281, 281, 281, 281, 281, 281, 281, 281, 281, 281, 281, 281, 281, 281, 289, 367, 498, 498, 498, 498, 375, 375, 375, 375, 401, 401, 401, 401, 367, 367]) (off := 498) (tgt := 789) (by decide +kernel) (by rw [b96]; decide) (by rw [b96]; decide) (by rw [b96]; rfl) (by decide) hJ) ?_
                    refine E_mask [true, true, true, true, true, true, false] rfl ?_
                    exact lk_Model_codeLine_j789 hγ this Q X v1 v2 (0 : Int32) (0 : Int32) (0 : Int32) (sI M 11 this 43 ((mI M 11 this 43) + (1 : Int32))) h
                  · rw [if_neg b96] at h
                    by_cases b97 : v2 = (10 : Int32)
                    · rw [if_pos b97] at h
                      refine E.up (fun _ _ hJ => J_tswI (len := 233) (dflt := 498) (lo := 1) (hi := 55) (offs := #[267, 498, 233, 233, 233, 233, 244, 498, 498, 498, 498, 498, 498, 498, 498, 498, 498, 498, 498, 498, 498, 498, 281, 281, 281, 281, 281, 281, 281, 281, 281, 281, 281, 281, 281, 281, 281, 281, 281, 289, 367, 498, 498, 498, 498, 375, 375, 375, 375, 401, 401, 401, 401, 367, 367]) (off := 498) (tgt := 789) (by decide +kernel) (by rw [b97]; decide) (by rw [b97]; decide) (by rw [b97]; rfl) (by decide) hJ) ?_
                      refine E_mask [true, true, true, true, true, true, false] rfl ?_
                      exact lk_Model_codeLine_j789 hγ this Q X v1 v2 (0 : Int32) (0 : Int32) (0 : Int32) (sI M 11 this 43 ((mI M 11 this 43) + (1 : Int32))) h
                    · rw [if_neg b97] at h
                      by_cases b98 : v2 = (11 : Int32)
                      · rw [if_pos b98] at h
                        refine E.up (fun _ _ hJ => J_tswI (len := 233) (dflt := 498) (lo := 1) (hi := 55) (offs := #[267, 498, 233, 233, 233, 233, 244, 498, 498, 498, 498, 498, 498, 498, 498, 498, 498, 498, 498, 498, 498, 498, 281, 281, 281, 281, 281, 281, 281, 281, 281, 281, 281, 281, 281, 281, 281, 281, 281, 289, 367, 498, 498, 498, 498, 375, 375, 375, 375, 401, 401, 401, 401, 367, 367]) (off := 498) (tgt := 789) (by decide +kernel) (by rw [b98]; decide) (by rw [b98]; decide) (by rw [b98]; rfl) (by decide) hJ) ?_
                        refine E_mask [true, true, true, true, true, true, false] rfl ?_
                        exact lk_Model_codeLine_j789 hγ this Q X v1 v2 (0 : Int32) (0 : Int32) (0 : Int32) (sI M 11 this 43 ((mI M 11 this 43) + (1 : Int32))) h
                      · rw [if_neg b98] at h
                        by_cases b99 : v2 = (12 : Int32)
                        · rw [if_pos b99] at h
                          refine E.up (fun _ _ hJ => J_tswI (len := 233) (dflt := 498) (lo := 1) (hi := 55) (offs := #[267, 498, 233, 233, 233, 233, 244, 498, 498, 498, 498, 498, 498, 498, 498, 498, 498, 498, 498, 498, 498, 498, 281, 281, 281, 281, 281, 281, 281, 281, 281, 281, 281, 281, 281, 281, 281, 281, 281, 289, 367, 498, 498, 498, 498, 375, 375, 375, 375, 401, 401, 401, 401, 367, 367]) (off := 498) (tgt := 789) (by decide +kernel) (by rw [b99]; decide) (by rw [b99]; decide) (by rw [b99]; rfl) (by decide) hJ) ?_
                          refine E_mask [true, true, true, true, true, true, false] rfl ?_
                          exact lk_Model_codeLine_j789 hγ this Q X v1 v2 (0 : Int32) (0 : Int32) (0 : Int32) (sI M 11 this 43 ((mI M 11 this 43) + (1 : Int32))) h
                        · rw [if_neg b99] at h
                          by_cases b100 : v2 = (13 : Int32)
                          · rw [if_pos b100] at h
                            refine E.up (fun _ _ hJ => J_tswI (len := 233) (dflt := 498) (lo := 1) (hi := 55) (offs := #[267, 498, 233, 233, 233, 233, 244, 498, 498, 498, 498, 498, 498, 498, 498, 498, 498, 498, 498, 498, 498, 498, 281, 281, 281, 281, 281, 281, 281, 281, 281, 281, 281, 281, 281, 281, 281, 281, 281, 289, 367, 498, 498, 498, 498, 375, 375, 375, 375, 401, 401, 401, 401, 367, 367]) (off := 498) (tgt := 789) (by decide +kernel) (by rw [b100]; decide) (by rw [b100]; decide) (by rw [b100]; rfl) (by decide) hJ) ?_
                            refine E_mask [true, true, true, true, true, true, false] rfl ?_
                            exact lk_Model_codeLine_j789 hγ this Q X v1 v2 (0 : Int32) (0 : Int32) (0 : Int32) (sI M 11 this 43 ((mI M 11 this 43) + (1 : Int32))) h
                          · rw [if_neg b100] at h
                            by_cases b101 : v2 = (14 : Int32)
                            · rw [if_pos b101] at h
                              refine E.up (fun _ _ hJ => J_tswI (len := 233) (dflt := 498) (lo := 1) (hi := 55) (offs := #[267, 498, 233, 233, 233, 233, 244, 498, 498, 498, 498, 498, 498, 498, 498, 498, 498, 498, 498, 498, 498, 498, 281, 281, 281, 281, 281, 281, 281, 281, 281, 281, 281, 281, 281, 281, 281, 281, 281, 289, 367, 498, 498, 498, 498, 375, 375, 375, 375, 401, 401, 401, 401, 367, 367]) (off := 498) (tgt := 789) (by decide +kernel) (by rw [b101]; decide) (by rw [b101]; decide) (by rw [b101]; rfl) (by decide) hJ) ?_
                              refine E_mask [true, true, true, true, true, true, false] rfl ?_
                              exact lk_Model_codeLine_j789 hγ this Q X v1 v2 (0 : Int32) (0 : Int32) (0 : Int32) (sI M 11 this 43 ((mI M 11 this 43) + (1 : Int32))) h
                            · rw [if_neg b101] at h
                              by_cases b102 : v2 = (15 : Int32)
                              · rw [if_pos b102] at h
                                refine E.up (fun _ _ hJ => J_tswI (len := 233) (dflt := 498) (lo := 1) (hi := 55) (offs := #[267, 498, 233, 233, 233, 233, 244, 498, 498, 498, 498, 498, 498, 498, 498, 498, 498, 498, 498, 498, 498, 498, 281, 281, 281, 281, 281, 281, 281, 281, 281, 281, 281, 281, 281, 281, 281, 281, 281, 289, 367, 498, 498, 498, 498, 375, 375, 375, 375, 401, 401, 401, 401, 367, 367]) (off := 498) (tgt := 789) (by decide +kernel) (by rw [b102]; decide) (by rw [b102]; decide) (by rw [b102]; rfl) (by decide) hJ) ?_
                                refine E_mask [true, true, true, true, true, true, false] rfl ?_
                                exact lk_Model_codeLine_j789 hγ this Q X v1 v2 (0 : Int32) (0 : Int32) (0 : Int32) (sI M 11 this 43 ((mI M 11 this 43) + (1 : Int32))) h
                              · rw [if_neg b102] at h
                                by_cases b103 : v2 = (16 : Int32)
                                · rw [if_pos b103] at h
                                  refine E.up (fun _ _ hJ => J_tswI (len := 233) (dflt := 498) (lo := 1) (hi := 55) (offs := #[267, 498, 233, 233, 233, 233, 244, 498, 498, 498, 498, 498, 498, 498, 498, 498, 498, 498, 498, 498, 498, 498, 281, 281, 281, 281, 281, 281, 281, 281, 281, 281, 281, 281, 281, 281, 281, 281, 281, 289, 367, 498, 498, 498, 498, 375, 375, 375, 375, 401, 401, 401, 401, 367, 367]) (off := 498) (tgt := 789) (by decide +kernel) (by rw [b103]; decide) (by rw [b103]; decide) (by rw [b103]; rfl) (by decide) hJ) ?_
                                  refine E_mask [true, true, true, true, true, true, false] rfl ?_
                                  exact lk_Model_codeLine_j789 hγ this Q X v1 v2 (0 : Int32) (0 : Int32) (0 : Int32) (sI M 11 this 43 ((mI M 11 this 43) + (1 : Int32))) h
                                · rw [if_neg b103] at h
                                  by_cases b104 : v2 = (17 : Int32)
                                  · rw [if_pos b104] at h
                                    refine E.up (fun _ _ hJ => J_tswI (len := 233) (dflt := 498) (lo := 1) (hi := 55) (offs := #[267, 498, 233, 233, 233, 233, 244, 498, 498, 498, 498, 498, 498, 498, 498, 498, 498, 498, 498, 498, 498, 498, 281, 281, 281, 281, 281, 281, 281, 281, 281, 281, 281, 281, 281, 281, 281, 281, 281, 289, 367, 498, 498, 498, 498, 375, 375, 375, 375, 401, 401, 401, 401, 367, 367]) (off := 498) (tgt := 789) (by decide +kernel) (by rw [b104]; decide) (by rw [b104]; decide) (by rw [b104]; rfl) (by decide) hJ) ?_
                                    refine E_mask [true, true, true, true, true, true, false] rfl ?_
                                    exact lk_Model_codeLine_j789 hγ this Q X v1 v2 (0 : Int32) (0 : Int32) (0 : Int32) (sI M 11 this 43 ((mI M 11 this 43) + (1 : Int32))) h
                                  · rw [if_neg b104] at h
                                    by_cases b105 : v2 = (18 : Int32)
                                    · rw [if_pos b105] at h
                                      refine E.up (fun _ _ hJ => J_tswI (len := 233) (dflt := 498) (lo := 1) (hi := 55) (offs := #[267, 498, 233, 233, 233, 233, 244, 498, 498, 498, 498, 498, 498, 498, 498, 498, 498, 498, 498, 498, 498, 498, 281, 281, 281, 281, 281, 281, 281, 281, 281, 281, 281, 281, 281, 281, 281, 281, 281, 289, 367, 498, 498, 498, 498, 375, 375, 375, 375, 401, 401, 401, 401, 367, 367]) (off := 498) (tgt := 789) (by decide +kernel) (by rw [b105]; decide) (by rw [b105]; decide) (by rw [b105]; rfl) (by decide) hJ) ?_
                                      refine E_mask [true, true, true, true, true, true, false] rfl ?_
                                      exact lk_Model_codeLine_j789 hγ this Q X v1 v2 (0 : Int32) (0 : Int32) (0 : Int32) (sI M 11 this 43 ((mI M 11 this 43) + (1 : Int32))) h
                                    · rw [if_neg b105] at h
                                      by_cases b106 : v2 = (19 : Int32)
                                      · rw [if_pos b106] at h
                                        refine E.up (fun _ _ hJ => J_tswI (len := 233) (dflt := 498) (lo := 1) (hi := 55) (offs := #[267, 498, 233, 233, 233, 233, 244, 498, 498, 498, 498, 498, 498, 498, 498, 498, 498, 498, 498, 498, 498, 498, 281, 281, 281, 281, 281, 281, 281, 281, 281, 281, 281, 281, 281, 281, 281, 281, 281, 289, 367, 498, 498, 498, 498, 375, 375, 375, 375, 401, 401, 401, 401, 367, 367]) (off := 498) (tgt := 789) (by decide +kernel) (by rw [b106]; decide) (by rw [b106]; decide) (by rw [b106]; rfl) (by decide) hJ) ?_
                                        refine E_mask [true, true, true, true, true, true, false] rfl ?_
                                        exact lk_Model_codeLine_j789 hγ this Q X v1 v2 (0 : Int32) (0 : Int32) (0 : Int32) (sI M 11 this 43 ((mI M 11 this 43) + (1 : Int32))) h
                                      · rw [if_neg b106] at h
                                        by_cases b107 : v2 = (20 : Int32)
                                        · rw [if_pos b107] at h
                                          refine E.up (fun _ _ hJ => J_tswI (len := 233) (dflt := 498) (lo := 1) (hi := 55) (offs := #[267, 498, 233, 233, 233, 233, 244, 498, 498, 498, 498, 498, 498, 498, 498, 498, 498, 498, 498, 498, 498, 498, 281, 281, 281, 281, 281, 281, 281, 281, 281, 281, 281, 281, 281, 281, 281, 281, 281, 289, 367, 498, 498, 498, 498, 375, 375, 375, 375, 401, 401, 401, 401, 367, 367]) (off := 498) (tgt := 789) (by decide +kernel) (by rw [b107]; decide) (by rw [b107]; decide) (by rw [b107]; rfl) (by decide) hJ) ?_
                                          refine E_mask [true, true, true, true, true, true, false] rfl ?_
                                          exact lk_Model_codeLine_j789 hγ this Q X v1 v2 (0 : Int32) (0 : Int32) (0 : Int32) (sI M 11 this 43 ((mI M 11 this 43) + (1 : Int32))) h
                                        · rw [if_neg b107] at h
                                          by_cases b108 : v2 = (21 : Int32)
                                          · rw [if_pos b108] at h
                                            refine E.up (fun _ _ hJ => J_tswI (len := 233) (dflt := 498) (lo := 1) (hi := 55) (offs := #[267, 498, 233, 233, 233, 233, 244, 498, 498, 498, 498, 498, 498, 498, 498, 498, 498, 498, 498, 498, 498, 498, 281, 281, 281, 281, 281, 281, 281, 281, 281, 281, 281, 281, 281, 281, 281, 281, 281, 289, 367, 498, 498, 498, 498, 375, 375, 375, 375, 401, 401, 401, 401, 367, 367]) (off := 498) (tgt := 789) (by decide +kernel) (by rw [b108]; decide) (by rw [b108]; decide) (by rw [b108]; rfl) (by decide) hJ) ?_
                                            refine E_mask [true, true, true, true, true, true, false] rfl ?_
                                            exact lk_Model_codeLine_j789 hγ this Q X v1 v2 (0 : Int32) (0 : Int32) (0 : Int32) (sI M 11 this 43 ((mI M 11 this 43) + (1 : Int32))) h
                                          · rw [if_neg b108] at h
                                            by_cases b109 : v2 = (22 : Int32)
                                            · rw [if_pos b109] at h
                                              refine E.up (fun _ _ hJ => J_tswI (len := 233) (dflt := 498) (lo := 1) (hi := 55) (offs := #[267, 498, 233, 233, 233, 233, 244, 498, 498, 498, 498, 498, 498, 498, 498, 498, 498, 498, 498, 498, 498, 498, 281, 281, 281, 281, 281, 281, 281, 281, 281, 281, 281, 281, 281, 281, 281, 281, 281, 289, 367, 498, 498, 498, 498, 375, 375, 375, 375, 401, 401, 401, 401, 367, 367]) (off := 498) (tgt := 789) (by decide +kernel) (by rw [b109]; decide) (by rw [b109]; decide) (by rw [b109]; rfl) (by decide) hJ) ?_
                                              refine E_mask [true, true, true, true, true, true, false] rfl ?_
                                              exact lk_Model_codeLine_j789 hγ this Q X v1 v2 (0 : Int32) (0 : Int32) (0 : Int32) (sI M 11 this 43 ((mI M 11 this 43) + (1 : Int32))) h
                                            · rw [if_neg b109] at h
                                              by_cases b110 : v2 = (23 : Int32)
                                              · rw [if_pos b110] at h
                                                refine E.up (fun _ _ hJ => J_tswI (len := 233) (dflt := 498) (lo := 1) (hi := 55) (offs := #[267, 498, 233, 233, 233, 233, 244, 498, 498, 498, 498, 498, 498, 498, 498, 498, 498, 498, 498, 498, 498, 498, 281, 281, 281, 281, 281, 281, 281, 281, 281, 281, 281, 281, 281, 281, 281, 281, 281, 289, 367, 498, 498, 498, 498, 375, 375, 375, 375, 401, 401, 401, 401, 367, 367]) (off := 281) (tgt := 572) (by decide +kernel) (by rw [b110]; decide) (by rw [b110]; decide) (by rw [b110]; rfl) (by decide) hJ) ?_
                                                refine E_blk (lv' := [some (vr (some (11, this))), some (vi v1), some (vi v2), some (vi (0 : Int32)), some (vi (0 : Int32)), some (vi (0 : Int32)), none]) (st' := [vr (some (11, this))]) (M1 := (sI M 11 this 43 ((mI M 11 this 43) + (1 : Int32)))) (pc' := 573) (tb_Model hγ) [.aload_n 0] (by decide +kernel) rfl rfl trivial ?_
                                                refine E_callX (κ' := k_Model_usedLabel) (As := []) (st := []) mv_Model_usedLabel (Or.inl (tbk_mem (j := 15) (k := 109) rfl)) rfl (by decide +kernel) (Nat.le_of_ble_eq_true rfl) (Nat.le_of_ble_eq_true rfl) rfl (by decide) rfl (lk_Model_usedLabel hγ this _ _ (sI M 11 this 43 ((mI M 11 this 43) + (1 : Int32))) h) (fun _ _ => Qi_r) (fun _ h => h) (fun v M262 hp => Qi_k (R := fun st => E γ k_Model_codeLine 7 576 [some (vr (some (11, this))), some (vi v1), some (vi v2), some (vi (0 : Int32)), some (vi (0 : Int32)), some (vi (0 : Int32)), none] st M262 (Qx (14, 0) (Qv Q) X)) hp (fun r263 h => ?_))
                                                refine E_blk (lv' := [some (vr (some (11, this))), some (vi v1), some (vi v2), some (vi r263), some (vi (0 : Int32)), some (vi (0 : Int32)), none]) (st' := []) (M1 := M262) (pc' := 577) (tb_Model hγ) [.istore_n 3] (by decide +kernel) rfl rfl trivial ?_
                                                refine E_goto (off := 212) (tgt := 789) (by decide +kernel) (by decide) ?_
                                                refine E_mask [true, true, true, true, true, true, false] rfl ?_
                                                exact lk_Model_codeLine_j789 hγ this Q X v1 v2 r263 (0 : Int32) (0 : Int32) M262 h
                                              · rw [if_neg b110] at h
                                                by_cases b111 : v2 = (24 : Int32)
                                                · rw [if_pos b111] at h
                                                  refine E.up (fun _ _ hJ => J_tswI (len := 233) (dflt := 498) (lo := 1) (hi := 55) (offs := #[267, 498, 233, 233, 233, 233, 244, 498, 498, 498, 498, 498, 498, 498, 498, 498, 498, 498, 498, 498, 498, 498, 281, 281, 281, 281, 281, 281, 281, 281, 281, 281, 281, 281, 281, 281, 281, 281, 281, 289, 367, 498, 498, 498, 498, 375, 375, 375, 375, 401, 401, 401, 401, 367, 367]) (off := 281) (tgt := 572) (by decide +kernel) (by rw [b111]; decide) (by rw [b111]; decide) (by rw [b111]; rfl) (by decide) hJ) ?_
                                                  refine E_blk (lv' := [some (vr (some (11, this))), some (vi v1), some (vi v2), some (vi (0 : Int32)), some (vi (0 : Int32)), some (vi (0 : Int32)), none]) (st' := [vr (some (11, this))]) (M1 := (sI M 11 this 43 ((mI M 11 this 43) + (1 : Int32)))) (pc' := 573) (tb_Model hγ) [.aload_n 0] (by decide +kernel) rfl rfl trivial ?_
                                                  refine E_callX (κ' := k_Model_usedLabel) (As := []) (st := []) mv_Model_usedLabel (Or.inl (tbk_mem (j := 15) (k := 109) rfl)) rfl (by decide +kernel) (Nat.le_of_ble_eq_true rfl) (Nat.le_of_ble_eq_true rfl) rfl (by decide) rfl (lk_Model_usedLabel hγ this _ _ (sI M 11 this 43 ((mI M 11 this 43) + (1 : Int32))) h) (fun _ _ => Qi_r) (fun _ h => h) (fun v M260 hp => Qi_k (R := fun st => E γ k_Model_codeLine 7 576 [some (vr (some (11, this))), some (vi v1), some (vi v2), some (vi (0 : Int32)), some (vi (0 : Int32)), some (vi (0 : Int32)), none] st M260 (Qx (14, 0) (Qv Q) X)) hp (fun r261 h => ?_))
                                                  refine E_blk (lv' := [some (vr (some (11, this))), some (vi v1), some (vi v2), some (vi r261), some (vi (0 : Int32)), some (vi (0 : Int32)), none]) (st' := []) (M1 := M260) (pc' := 577) (tb_Model hγ) [.istore_n 3] (by decide +kernel) rfl rfl trivial ?_
                                                  refine E_goto (off := 212) (tgt := 789) (by decide +kernel) (by decide) ?_
                                                  refine E_mask [true, true, true, true, true, true, false] rfl ?_
                                                  exact lk_Model_codeLine_j789 hγ this Q X v1 v2 r261 (0 : Int32) (0 : Int32) M260 h
                                                · rw [if_neg b111] at h
                                                  by_cases b112 : v2 = (25 : Int32)
                                                  · rw [if_pos b112] at h
                                                    refine E.up (fun _ _ hJ => J_tswI (len := 233) (dflt := 498) (lo := 1) (hi := 55) (offs := #[267, 498, 233, 233, 233, 233, 244, 498, 498, 498, 498, 498, 498, 498, 498, 498, 498, 498, 498, 498, 498, 498, 281, 281, 281, 281, 281, 281, 281, 281, 281, 281, 281, 281, 281, 281, 281, 281, 281, 289, 367, 498, 498, 498, 498, 375, 375, 375, 375, 401, 401, 401, 401, 367, 367]) (off := 281) (tgt := 572) (by decide +kernel) (by rw [b112]; decide) (by rw [b112]; decide) (by rw [b112]; rfl) (by decide) hJ) ?_
                                                    refine E_blk (lv' := [some (vr (some (11, this))), some (vi v1), some (vi v2), some (vi (0 : Int32)), some (vi (0 : Int32)), some (vi (0 : Int32)), none]) (st' := [vr (some (11, this))]) (M1 := (sI M 11 this 43 ((mI M 11 this 43) + (1 : Int32)))) (pc' := 573) (tb_Model hγ) [.aload_n 0] (by decide +kernel) rfl rfl trivial ?_
                                                    refine E_callX (κ' := k_Model_usedLabel) (As := []) (st := []) mv_Model_usedLabel (Or.inl (tbk_mem (j := 15) (k := 109) rfl)) rfl (by decide +kernel) (Nat.le_of_ble_eq_true rfl) (Nat.le_of_ble_eq_true rfl) rfl (by decide) rfl (lk_Model_usedLabel hγ this _ _ (sI M 11 this 43 ((mI M 11 this 43) + (1 : Int32))) h) (fun _ _ => Qi_r) (fun _ h => h) (fun v M258 hp => Qi_k (R := fun st => E γ k_Model_codeLine 7 576 [some (vr (some (11, this))), some (vi v1), some (vi v2), some (vi (0 : Int32)), some (vi (0 : Int32)), some (vi (0 : Int32)), none] st M258 (Qx (14, 0) (Qv Q) X)) hp (fun r259 h => ?_))
                                                    refine E_blk (lv' := [some (vr (some (11, this))), some (vi v1), some (vi v2), some (vi r259), some (vi (0 : Int32)), some (vi (0 : Int32)), none]) (st' := []) (M1 := M258) (pc' := 577) (tb_Model hγ) [.istore_n 3] (by decide +kernel) rfl rfl trivial ?_
                                                    refine E_goto (off := 212) (tgt := 789) (by decide +kernel) (by decide) ?_
                                                    refine E_mask [true, true, true, true, true, true, false] rfl ?_
                                                    exact lk_Model_codeLine_j789 hγ this Q X v1 v2 r259 (0 : Int32) (0 : Int32) M258 h
                                                  · rw [if_neg b112] at h
                                                    by_cases b113 : v2 = (26 : Int32)
                                                    · rw [if_pos b113] at h
                                                      refine E.up (fun _ _ hJ => J_tswI (len := 233) (dflt := 498) (lo := 1) (hi := 55) (offs := #[267, 498, 233, 233, 233, 233, 244, 498, 498, 498, 498, 498, 498, 498, 498, 498, 498, 498, 498, 498, 498, 498, 281, 281, 281, 281, 281, 281, 281, 281, 281, 281, 281, 281, 281, 281, 281, 281, 281, 289, 367, 498, 498, 498, 498, 375, 375, 375, 375, 401, 401, 401, 401, 367, 367]) (off := 281) (tgt := 572) (by decide +kernel) (by rw [b113]; decide) (by rw [b113]; decide) (by rw [b113]; rfl) (by decide) hJ) ?_
                                                      refine E_blk (lv' := [some (vr (some (11, this))), some (vi v1), some (vi v2), some (vi (0 : Int32)), some (vi (0 : Int32)), some (vi (0 : Int32)), none]) (st' := [vr (some (11, this))]) (M1 := (sI M 11 this 43 ((mI M 11 this 43) + (1 : Int32)))) (pc' := 573) (tb_Model hγ) [.aload_n 0] (by decide +kernel) rfl rfl trivial ?_
                                                      refine E_callX (κ' := k_Model_usedLabel) (As := []) (st := []) mv_Model_usedLabel (Or.inl (tbk_mem (j := 15) (k := 109) rfl)) rfl (by decide +kernel) (Nat.le_of_ble_eq_true rfl) (Nat.le_of_ble_eq_true rfl) rfl (by decide) rfl (lk_Model_usedLabel hγ this _ _ (sI M 11 this 43 ((mI M 11 this 43) + (1 : Int32))) h) (fun _ _ => Qi_r) (fun _ h => h) (fun v M256 hp => Qi_k (R := fun st => E γ k_Model_codeLine 7 576 [some (vr (some (11, this))), some (vi v1), some (vi v2), some (vi (0 : Int32)), some (vi (0 : Int32)), some (vi (0 : Int32)), none] st M256 (Qx (14, 0) (Qv Q) X)) hp (fun r257 h => ?_))
                                                      refine E_blk (lv' := [some (vr (some (11, this))), some (vi v1), some (vi v2), some (vi r257), some (vi (0 : Int32)), some (vi (0 : Int32)), none]) (st' := []) (M1 := M256) (pc' := 577) (tb_Model hγ) [.istore_n 3] (by decide +kernel) rfl rfl trivial ?_
                                                      refine E_goto (off := 212) (tgt := 789) (by decide +kernel) (by decide) ?_
                                                      refine E_mask [true, true, true, true, true, true, false] rfl ?_
                                                      exact lk_Model_codeLine_j789 hγ this Q X v1 v2 r257 (0 : Int32) (0 : Int32) M256 h
                                                    · rw [if_neg b113] at h
                                                      by_cases b114 : v2 = (27 : Int32)
                                                      · rw [if_pos b114] at h
                                                        refine E.up (fun _ _ hJ => J_tswI (len := 233) (dflt := 498) (lo := 1) (hi := 55) (offs := #[267, 498, 233, 233, 233, 233, 244, 498, 498, 498, 498, 498, 498, 498, 498, 498, 498, 498, 498, 498, 498, 498, 281, 281, 281, 281, 281, 281, 281, 281, 281, 281, 281, 281, 281, 281, 281, 281, 281, 289, 367, 498, 498, 498, 498, 375, 375, 375, 375, 401, 401, 401, 401, 367, 367]) (off := 281) (tgt := 572) (by decide +kernel) (by rw [b114]; decide) (by rw [b114]; decide) (by rw [b114]; rfl) (by decide) hJ) ?_
                                                        refine E_blk (lv' := [some (vr (some (11, this))), some (vi v1), some (vi v2), some (vi (0 : Int32)), some (vi (0 : Int32)), some (vi (0 : Int32)), none]) (st' := [vr (some (11, this))]) (M1 := (sI M 11 this 43 ((mI M 11 this 43) + (1 : Int32)))) (pc' := 573) (tb_Model hγ) [.aload_n 0] (by decide +kernel) rfl rfl trivial ?_
                                                        refine E_callX (κ' := k_Model_usedLabel) (As := []) (st := []) mv_Model_usedLabel (Or.inl (tbk_mem (j := 15) (k := 109) rfl)) rfl (by decide +kernel) (Nat.le_of_ble_eq_true rfl) (Nat.le_of_ble_eq_true rfl) rfl (by decide) rfl (lk_Model_usedLabel hγ this _ _ (sI M 11 this 43 ((mI M 11 this 43) + (1 : Int32))) h) (fun _ _ => Qi_r) (fun _ h => h) (fun v M254 hp => Qi_k (R := fun st => E γ k_Model_codeLine 7 576 [some (vr (some (11, this))), some (vi v1), some (vi v2), some (vi (0 : Int32)), some (vi (0 : Int32)), some (vi (0 : Int32)), none] st M254 (Qx (14, 0) (Qv Q) X)) hp (fun r255 h => ?_))
                                                        refine E_blk (lv' := [some (vr (some (11, this))), some (vi v1), some (vi v2), some (vi r255), some (vi (0 : Int32)), some (vi (0 : Int32)), none]) (st' := []) (M1 := M254) (pc' := 577) (tb_Model hγ) [.istore_n 3] (by decide +kernel) rfl rfl trivial ?_
                                                        refine E_goto (off := 212) (tgt := 789) (by decide +kernel) (by decide) ?_
                                                        refine E_mask [true, true, true, true, true, true, false] rfl ?_
                                                        exact lk_Model_codeLine_j789 hγ this Q X v1 v2 r255 (0 : Int32) (0 : Int32) M254 h
                                                      · rw [if_neg b114] at h
                                                        by_cases b115 : v2 = (28 : Int32)
                                                        · rw [if_pos b115] at h
                                                          refine E.up (fun _ _ hJ => J_tswI (len := 233) (dflt := 498) (lo := 1) (hi := 55) (offs := #[267, 498, 233, 233, 233, 233, 244, 498, 498, 498, 498, 498, 498, 498, 498, 498, 498, 498, 498, 498, 498, 498, 281, 281, 281, 281, 281, 281, 281, 281, 281, 281, 281, 281, 281, 281, 281, 281, 281, 289, 367, 498, 498, 498, 498, 375, 375, 375, 375, 401, 401, 401, 401, 367, 367]) (off := 281) (tgt := 572) (by decide +kernel) (by rw [b115]; decide) (by rw [b115]; decide) (by rw [b115]; rfl) (by decide) hJ) ?_
                                                          refine E_blk (lv' := [some (vr (some (11, this))), some (vi v1), some (vi v2), some (vi (0 : Int32)), some (vi (0 : Int32)), some (vi (0 : Int32)), none]) (st' := [vr (some (11, this))]) (M1 := (sI M 11 this 43 ((mI M 11 this 43) + (1 : Int32)))) (pc' := 573) (tb_Model hγ) [.aload_n 0] (by decide +kernel) rfl rfl trivial ?_
                                                          refine E_callX (κ' := k_Model_usedLabel) (As := []) (st := []) mv_Model_usedLabel (Or.inl (tbk_mem (j := 15) (k := 109) rfl)) rfl (by decide +kernel) (Nat.le_of_ble_eq_true rfl) (Nat.le_of_ble_eq_true rfl) rfl (by decide) rfl (lk_Model_usedLabel hγ this _ _ (sI M 11 this 43 ((mI M 11 this 43) + (1 : Int32))) h) (fun _ _ => Qi_r) (fun _ h => h) (fun v M252 hp => Qi_k (R := fun st => E γ k_Model_codeLine 7 576 [some (vr (some (11, this))), some (vi v1), some (vi v2), some (vi (0 : Int32)), some (vi (0 : Int32)), some (vi (0 : Int32)), none] st M252 (Qx (14, 0) (Qv Q) X)) hp (fun r253 h => ?_))
                                                          refine E_blk (lv' := [some (vr (some (11, this))), some (vi v1), some (vi v2), some (vi r253), some (vi (0 : Int32)), some (vi (0 : Int32)), none]) (st' := []) (M1 := M252) (pc' := 577) (tb_Model hγ) [.istore_n 3] (by decide +kernel) rfl rfl trivial ?_
                                                          refine E_goto (off := 212) (tgt := 789) (by decide +kernel) (by decide) ?_
                                                          refine E_mask [true, true, true, true, true, true, false] rfl ?_
                                                          exact lk_Model_codeLine_j789 hγ this Q X v1 v2 r253 (0 : Int32) (0 : Int32) M252 h
                                                        · rw [if_neg b115] at h
                                                          by_cases b116 : v2 = (29 : Int32)
                                                          · rw [if_pos b116] at h
                                                            refine E.up (fun _ _ hJ => J_tswI (len := 233) (dflt := 498) (lo := 1) (hi := 55) (offs := #[267, 498, 233, 233, 233, 233, 244, 498, 498, 498, 498, 498, 498, 498, 498, 498, 498, 498, 498, 498, 498, 498, 281, 281, 281, 281, 281, 281, 281, 281, 281, 281, 281, 281, 281, 281, 281, 281, 281, 289, 367, 498, 498, 498, 498, 375, 375, 375, 375, 401, 401, 401, 401, 367, 367]) (off := 281) (tgt := 572) (by decide +kernel) (by rw [b116]; decide) (by rw [b116]; decide) (by rw [b116]; rfl) (by decide) hJ) ?_
                                                            refine E_blk (lv' := [some (vr (some (11, this))), some (vi v1), some (vi v2), some (vi (0 : Int32)), some (vi (0 : Int32)), some (vi (0 : Int32)), none]) (st' := [vr (some (11, this))]) (M1 := (sI M 11 this 43 ((mI M 11 this 43) + (1 : Int32)))) (pc' := 573) (tb_Model hγ) [.aload_n 0] (by decide +kernel) rfl rfl trivial ?_
                                                            refine E_callX (κ' := k_Model_usedLabel) (As := []) (st := []) mv_Model_usedLabel (Or.inl (tbk_mem (j := 15) (k := 109) rfl)) rfl (by decide +kernel) (Nat.le_of_ble_eq_true rfl) (Nat.le_of_ble_eq_true rfl) rfl (by decide) rfl (lk_Model_usedLabel hγ this _ _ (sI M 11 this 43 ((mI M 11 this 43) + (1 : Int32))) h) (fun _ _ => Qi_r) (fun _ h => h) (fun v M250 hp => Qi_k (R := fun st => E γ k_Model_codeLine 7 576 [some (vr (some (11, this))), some (vi v1), some (vi v2), some (vi (0 : Int32)), some (vi (0 : Int32)), some (vi (0 : Int32)), none] st M250 (Qx (14, 0) (Qv Q) X)) hp (fun r251 h => ?_))
                                                            refine E_blk (lv' := [some (vr (some (11, this))), some (vi v1), some (vi v2), some (vi r251), some (vi (0 : Int32)), some (vi (0 : Int32)), none]) (st' := []) (M1 := M250) (pc' := 577) (tb_Model hγ) [.istore_n 3] (by decide +kernel) rfl rfl trivial ?_
                                                            refine E_goto (off := 212) (tgt := 789) (by decide +kernel) (by decide) ?_
                                                            refine E_mask [true, true, true, true, true, true, false] rfl ?_
                                                            exact lk_Model_codeLine_j789 hγ this Q X v1 v2 r251 (0 : Int32) (0 : Int32) M250 h
                                                          · rw [if_neg b116] at h
                                                            by_cases b117 : v2 = (30 : Int32)
                                                            · rw [if_pos b117] at h
                                                              refine E.up (fun _ _ hJ => J_tswI (len := 233) (dflt := 498) (lo := 1) (hi := 55) (offs := #[267, 498, 233, 233, 233, 233, 244, 498, 498, 498, 498, 498, 498, 498, 498, 498, 498, 498, 498, 498, 498, 498, 281, 281, 281, 281, 281, 281, 281, 281, 281, 281, 281, 281, 281, 281, 281, 281, 281, 289, 367, 498, 498, 498, 498, 375, 375, 375, 375, 401, 401, 401, 401, 367, 367]) (off := 281) (tgt := 572) (by decide +kernel) (by rw [b117]; decide) (by rw [b117]; decide) (by rw [b117]; rfl) (by decide) hJ) ?_
                                                              refine E_blk (lv' := [some (vr (some (11, this))), some (vi v1), some (vi v2), some (vi (0 : Int32)), some (vi (0 : Int32)), some (vi (0 : Int32)), none]) (st' := [vr (some (11, this))]) (M1 := (sI M 11 this 43 ((mI M 11 this 43) + (1 : Int32)))) (pc' := 573) (tb_Model hγ) [.aload_n 0] (by decide +kernel) rfl rfl trivial ?_
                                                              refine E_callX (κ' := k_Model_usedLabel) (As := []) (st := []) mv_Model_usedLabel (Or.inl (tbk_mem (j := 15) (k := 109) rfl)) rfl (by decide +kernel) (Nat.le_of_ble_eq_true rfl) (Nat.le_of_ble_eq_true rfl) rfl (by decide) rfl (lk_Model_usedLabel hγ this _ _ (sI M 11 this 43 ((mI M 11 this 43) + (1 : Int32))) h) (fun _ _ => Qi_r) (fun _ h => h) (fun v M248 hp => Qi_k (R := fun st => E γ k_Model_codeLine 7 576 [some (vr (some (11, this))), some (vi v1), some (vi v2), some (vi (0 : Int32)), some (vi (0 : Int32)), some (vi (0 : Int32)), none] st M248 (Qx (14, 0) (Qv Q) X)) hp (fun r249 h => ?_))
                                                              refine E_blk (lv' := [some (vr (some (11, this))), some (vi v1), some (vi v2), some (vi r249), some (vi (0 : Int32)), some (vi (0 : Int32)), none]) (st' := []) (M1 := M248) (pc' := 577) (tb_Model hγ) [.istore_n 3] (by decide +kernel) rfl rfl trivial ?_
                                                              refine E_goto (off := 212) (tgt := 789) (by decide +kernel) (by decide) ?_
                                                              refine E_mask [true, true, true, true, true, true, false] rfl ?_
                                                              exact lk_Model_codeLine_j789 hγ this Q X v1 v2 r249 (0 : Int32) (0 : Int32) M248 h
                                                            · rw [if_neg b117] at h
                                                              by_cases b118 : v2 = (31 : Int32)
                                                              · rw [if_pos b118] at h
                                                                refine E.up (fun _ _ hJ => J_tswI (len := 233) (dflt := 498) (lo := 1) (hi := 55) (offs := #[267, 498, 233, 233, 233, 233, 244, 498, 498, 498, 498, 498, 498, 498, 498, 498, 498, 498, 498, 498, 498, 498, 281, 281, 281, 281, 281, 281, 281, 281, 281, 281, 281, 281, 281, 281, 281, 281, 281, 289, 367, 498, 498, 498, 498, 375, 375, 375, 375, 401, 401, 401, 401, 367, 367]) (off := 281) (tgt := 572) (by decide +kernel) (by rw [b118]; decide) (by rw [b118]; decide) (by rw [b118]; rfl) (by decide) hJ) ?_
                                                                refine E_blk (lv' := [some (vr (some (11, this))), some (vi v1), some (vi v2), some (vi (0 : Int32)), some (vi (0 : Int32)), some (vi (0 : Int32)), none]) (st' := [vr (some (11, this))]) (M1 := (sI M 11 this 43 ((mI M 11 this 43) + (1 : Int32)))) (pc' := 573) (tb_Model hγ) [.aload_n 0] (by decide +kernel) rfl rfl trivial ?_
                                                                refine E_callX (κ' := k_Model_usedLabel) (As := []) (st := []) mv_Model_usedLabel (Or.inl (tbk_mem (j := 15) (k := 109) rfl)) rfl (by decide +kernel) (Nat.le_of_ble_eq_true rfl) (Nat.le_of_ble_eq_true rfl) rfl (by decide) rfl (lk_Model_usedLabel hγ this _ _ (sI M 11 this 43 ((mI M 11 this 43) + (1 : Int32))) h) (fun _ _ => Qi_r) (fun _ h => h) (fun v M246 hp => Qi_k (R := fun st => E γ k_Model_codeLine 7 576 [some (vr (some (11, this))), some (vi v1), some (vi v2), some (vi (0 : Int32)), some (vi (0 : Int32)), some (vi (0 : Int32)), none] st M246 (Qx (14, 0) (Qv Q) X)) hp (fun r247 h => ?_))
                                                                refine E_blk (lv' := [some (vr (some (11, this))), some (vi v1), some (vi v2), some (vi r247), some (vi (0 : Int32)), some (vi (0 : Int32)), none]) (st' := []) (M1 := M246) (pc' := 577) (tb_Model hγ) [.istore_n 3] (by decide +kernel) rfl rfl trivial ?_
                                                                refine E_goto (off := 212) (tgt := 789) (by decide +kernel) (by decide) ?_
                                                                refine E_mask [true, true, true, true, true, true, false] rfl ?_
                                                                exact lk_Model_codeLine_j789 hγ this Q X v1 v2 r247 (0 : Int32) (0 : Int32) M246 h
                                                              · rw [if_neg b118] at h
                                                                by_cases b119 : v2 = (32 : Int32)
                                                                · rw [if_pos b119] at h
                                                                  refine E.up (fun _ _ hJ => J_tswI (len := 233) (dflt := 498) (lo := 1) (hi := 55) (offs := #[267, 498, 233, 233, 233, 233, 244, 498, 498, 498, 498, 498, 498, 498, 498, 498, 498, 498, 498, 498, 498, 498, 281, 281, 281, 281, 281, 281, 281, 281, 281, 281, 281, 281, 281, 281, 281, 281, 281, 289, 367, 498, 498, 498, 498, 375, 375, 375, 375, 401, 401, 401, 401, 367, 367]) (off := 281) (tgt := 572) (by decide +kernel) (by rw [b119]; decide) (by rw [b119]; decide) (by rw [b119]; rfl) (by decide) hJ) ?_
                                                                  refine E_blk (lv' := [some (vr (some (11, this))), some (vi v1), some (vi v2), some (vi (0 : Int32)), some (vi (0 : Int32)), some (vi (0 : Int32)), none]) (st' := [vr (some (11, this))]) (M1 := (sI M 11 this 43 ((mI M 11 this 43) + (1 : Int32)))) (pc' := 573) (tb_Model hγ) [.aload_n 0] (by decide +kernel) rfl rfl trivial ?_
                                                                  refine E_callX (κ' := k_Model_usedLabel) (As := []) (st := []) mv_Model_usedLabel (Or.inl (tbk_mem (j := 15) (k := 109) rfl)) rfl (by decide +kernel) (Nat.le_of_ble_eq_true rfl) (Nat.le_of_ble_eq_true rfl) rfl (by decide) rfl (lk_Model_usedLabel hγ this _ _ (sI M 11 this 43 ((mI M 11 this 43) + (1 : Int32))) h) (fun _ _ => Qi_r) (fun _ h => h) (fun v M244 hp => Qi_k (R := fun st => E γ k_Model_codeLine 7 576 [some (vr (some (11, this))), some (vi v1), some (vi v2), some (vi (0 : Int32)), some (vi (0 : Int32)), some (vi (0 : Int32)), none] st M244 (Qx (14, 0) (Qv Q) X)) hp (fun r245 h => ?_))
                                                                  refine E_blk (lv' := [some (vr (some (11, this))), some (vi v1), some (vi v2), some (vi r245), some (vi (0 : Int32)), some (vi (0 : Int32)), none]) (st' := []) (M1 := M244) (pc' := 577) (tb_Model hγ) [.istore_n 3] (by decide +kernel) rfl rfl trivial ?_
                                                                  refine E_goto (off := 212) (tgt := 789) (by decide +kernel) (by decide) ?_
                                                                  refine E_mask [true, true, true, true, true, true, false] rfl ?_
                                                                  exact lk_Model_codeLine_j789 hγ this Q X v1 v2 r245 (0 : Int32) (0 : Int32) M244 h
                                                                · rw [if_neg b119] at h
                                                                  by_cases b120 : v2 = (33 : Int32)
                                                                  · rw [if_pos b120] at h
                                                                    refine E.up (fun _ _ hJ => J_tswI (len := 233) (dflt := 498) (lo := 1) (hi := 55) (offs := #[267, 498, 233, 233, 233, 233, 244, 498, 498, 498, 498, 498, 498, 498, 498, 498, 498, 498, 498, 498, 498, 498, 281, 281, 281, 281, 281, 281, 281, 281, 281, 281, 281, 281, 281, 281, 281, 281, 281, 289, 367, 498, 498, 498, 498, 375, 375, 375, 375, 401, 401, 401, 401, 367, 367]) (off := 281) (tgt := 572) (by decide +kernel) (by rw [b120]; decide) (by rw [b120]; decide) (by rw [b120]; rfl) (by decide) hJ) ?_
                                                                    refine E_blk (lv' := [some (vr (some (11, this))), some (vi v1), some (vi v2), some (vi (0 : Int32)), some (vi (0 : Int32)), some (vi (0 : Int32)), none]) (st' := [vr (some (11, this))]) (M1 := (sI M 11 this 43 ((mI M 11 this 43) + (1 : Int32)))) (pc' := 573) (tb_Model hγ) [.aload_n 0] (by decide +kernel) rfl rfl trivial ?_
                                                                    refine E_callX (κ' := k_Model_usedLabel) (As := []) (st := []) mv_Model_usedLabel (Or.inl (tbk_mem (j := 15) (k := 109) rfl)) rfl (by decide +kernel) (Nat.le_of_ble_eq_true rfl) (Nat.le_of_ble_eq_true rfl) rfl (by decide) rfl (lk_Model_usedLabel hγ this _ _ (sI M 11 this 43 ((mI M 11 this 43) + (1 : Int32))) h) (fun _ _ => Qi_r) (fun _ h => h) (fun v M242 hp => Qi_k (R := fun st => E γ k_Model_codeLine 7 576 [some (vr (some (11, this))), some (vi v1), some (vi v2), some (vi (0 : Int32)), some (vi (0 : Int32)), some (vi (0 : Int32)), none] st M242 (Qx (14, 0) (Qv Q) X)) hp (fun r243 h => ?_))
                                                                    refine E_blk (lv' := [some (vr (some (11, this))), some (vi v1), some (vi v2), some (vi r243), some (vi (0 : Int32)), some (vi (0 : Int32)), none]) (st' := []) (M1 := M242) (pc' := 577) (tb_Model hγ) [.istore_n 3] (by decide +kernel) rfl rfl trivial ?_
                                                                    refine E_goto (off := 212) (tgt := 789) (by decide +kernel) (by decide) ?_
                                                                    refine E_mask [true, true, true, true, true, true, false] rfl ?_
                                                                    exact lk_Model_codeLine_j789 hγ this Q X v1 v2 r243 (0 : Int32) (0 : Int32) M242 h
                                                                  · rw [if_neg b120] at h
                                                                    by_cases b121 : v2 = (34 : Int32)
                                                                    · rw [if_pos b121] at h
                                                                      refine E.up (fun _ _ hJ => J_tswI (len := 233) (dflt := 498) (lo := 1) (hi := 55) (offs := #[267, 498, 233, 233, 233, 233, 244, 498, 498, 498, 498, 498, 498, 498, 498, 498, 498, 498, 498, 498, 498, 498, 281, 281, 281, 281, 281, 281, 281, 281, 281, 281, 281, 281, 281, 281, 281, 281, 281, 289, 367, 498, 498, 498, 498, 375, 375, 375, 375, 401, 401, 401, 401, 367, 367]) (off := 281) (tgt := 572) (by decide +kernel) (by rw [b121]; decide) (by rw [b121]; decide) (by rw [b121]; rfl) (by decide) hJ) ?_
                                                                      refine E_blk (lv' := [some (vr (some (11, this))), some (vi v1), some (vi v2), some (vi (0 : Int32)), some (vi (0 : Int32)), some (vi (0 : Int32)), none]) (st' := [vr (some (11, this))]) (M1 := (sI M 11 this 43 ((mI M 11 this 43) + (1 : Int32)))) (pc' := 573) (tb_Model hγ) [.aload_n 0] (by decide +kernel) rfl rfl trivial ?_
                                                                      refine E_callX (κ' := k_Model_usedLabel) (As := []) (st := []) mv_Model_usedLabel (Or.inl (tbk_mem (j := 15) (k := 109) rfl)) rfl (by decide +kernel) (Nat.le_of_ble_eq_true rfl) (Nat.le_of_ble_eq_true rfl) rfl (by decide) rfl (lk_Model_usedLabel hγ this _ _ (sI M 11 this 43 ((mI M 11 this 43) + (1 : Int32))) h) (fun _ _ => Qi_r) (fun _ h => h) (fun v M240 hp => Qi_k (R := fun st => E γ k_Model_codeLine 7 576 [some (vr (some (11, this))), some (vi v1), some (vi v2), some (vi (0 : Int32)), some (vi (0 : Int32)), some (vi (0 : Int32)), none] st M240 (Qx (14, 0) (Qv Q) X)) hp (fun r241 h => ?_))
                                                                      refine E_blk (lv' := [some (vr (some (11, this))), some (vi v1), some (vi v2), some (vi r241), some (vi (0 : Int32)), some (vi (0 : Int32)), none]) (st' := []) (M1 := M240) (pc' := 577) (tb_Model hγ) [.istore_n 3] (by decide +kernel) rfl rfl trivial ?_
                                                                      refine E_goto (off := 212) (tgt := 789) (by decide +kernel) (by decide) ?_
                                                                      refine E_mask [true, true, true, true, true, true, false] rfl ?_
                                                                      exact lk_Model_codeLine_j789 hγ this Q X v1 v2 r241 (0 : Int32) (0 : Int32) M240 h
                                                                    · rw [if_neg b121] at h
                                                                      by_cases b122 : v2 = (35 : Int32)
                                                                      · rw [if_pos b122] at h
                                                                        refine E.up (fun _ _ hJ => J_tswI (len := 233) (dflt := 498) (lo := 1) (hi := 55) (offs := #[267, 498, 233, 233, 233, 233, 244, 498, 498, 498, 498, 498, 498, 498, 498, 498, 498, 498, 498, 498, 498, 498, 281, 281, 281, 281, 281, 281, 281, 281, 281, 281, 281, 281, 281, 281, 281, 281, 281, 289, 367, 498, 498, 498, 498, 375, 375, 375, 375, 401, 401, 401, 401, 367, 367]) (off := 281) (tgt := 572) (by decide +kernel) (by rw [b122]; decide) (by rw [b122]; decide) (by rw [b122]; rfl) (by decide) hJ) ?_
                                                                        refine E_blk (lv' := [some (vr (some (11, this))), some (vi v1), some (vi v2), some (vi (0 : Int32)), some (vi (0 : Int32)), some (vi (0 : Int32)), none]) (st' := [vr (some (11, this))]) (M1 := (sI M 11 this 43 ((mI M 11 this 43) + (1 : Int32)))) (pc' := 573) (tb_Model hγ) [.aload_n 0] (by decide +kernel) rfl rfl trivial ?_
                                                                        refine E_callX (κ' := k_Model_usedLabel) (As := []) (st := []) mv_Model_usedLabel (Or.inl (tbk_mem (j := 15) (k := 109) rfl)) rfl (by decide +kernel) (Nat.le_of_ble_eq_true rfl) (Nat.le_of_ble_eq_true rfl) rfl (by decide) rfl (lk_Model_usedLabel hγ this _ _ (sI M 11 this 43 ((mI M 11 this 43) + (1 : Int32))) h) (fun _ _ => Qi_r) (fun _ h => h) (fun v M238 hp => Qi_k (R := fun st => E γ k_Model_codeLine 7 576 [some (vr (some (11, this))), some (vi v1), some (vi v2), some (vi (0 : Int32)), some (vi (0 : Int32)), some (vi (0 : Int32)), none] st M238 (Qx (14, 0) (Qv Q) X)) hp (fun r239 h => ?_))
                                                                        refine E_blk (lv' := [some (vr (some (11, this))), some (vi v1), some (vi v2), some (vi r239), some (vi (0 : Int32)), some (vi (0 : Int32)), none]) (st' := []) (M1 := M238) (pc' := 577) (tb_Model hγ) [.istore_n 3] (by decide +kernel) rfl rfl trivial ?_
                                                                        refine E_goto (off := 212) (tgt := 789) (by decide +kernel) (by decide) ?_
                                                                        refine E_mask [true, true, true, true, true, true, false] rfl ?_
                                                                        exact lk_Model_codeLine_j789 hγ this Q X v1 v2 r239 (0 : Int32) (0 : Int32) M238 h
                                                                      · rw [if_neg b122] at h
                                                                        by_cases b123 : v2 = (36 : Int32)
                                                                        · rw [if_pos b123] at h
                                                                          refine E.up (fun _ _ hJ => J_tswI (len := 233) (dflt := 498) (lo := 1) (hi := 55) (offs := #[267, 498, 233, 233, 233, 233, 244, 498, 498, 498, 498, 498, 498, 498, 498, 498, 498, 498, 498, 498, 498, 498, 281, 281, 281, 281, 281, 281, 281, 281, 281, 281, 281, 281, 281, 281, 281, 281, 281, 289, 367, 498, 498, 498, 498, 375, 375, 375, 375, 401, 401, 401, 401, 367, 367]) (off := 281) (tgt := 572) (by decide +kernel) (by rw [b123]; decide) (by rw [b123]; decide) (by rw [b123]; rfl) (by decide) hJ) ?_
                                                                          refine E_blk (lv' := [some (vr (some (11, this))), some (vi v1), some (vi v2), some (vi (0 : Int32)), some (vi (0 : Int32)), some (vi (0 : Int32)), none]) (st' := [vr (some (11, this))]) (M1 := (sI M 11 this 43 ((mI M 11 this 43) + (1 : Int32)))) (pc' := 573) (tb_Model hγ) [.aload_n 0] (by decide +kernel) rfl rfl trivial ?_
                                                                          refine E_callX (κ' := k_Model_usedLabel) (As := []) (st := []) mv_Model_usedLabel (Or.inl (tbk_mem (j := 15) (k := 109) rfl)) rfl (by decide +kernel) (Nat.le_of_ble_eq_true rfl) (Nat.le_of_ble_eq_true rfl) rfl (by decide) rfl (lk_Model_usedLabel hγ this _ _ (sI M 11 this 43 ((mI M 11 this 43) + (1 : Int32))) h) (fun _ _ => Qi_r) (fun _ h => h) (fun v M236 hp => Qi_k (R := fun st => E γ k_Model_codeLine 7 576 [some (vr (some (11, this))), some (vi v1), some (vi v2), some (vi (0 : Int32)), some (vi (0 : Int32)), some (vi (0 : Int32)), none] st M236 (Qx (14, 0) (Qv Q) X)) hp (fun r237 h => ?_))
                                                                          refine E_blk (lv' := [some (vr (some (11, this))), some (vi v1), some (vi v2), some (vi r237), some (vi (0 : Int32)), some (vi (0 : Int32)), none]) (st' := []) (M1 := M236) (pc' := 577) (tb_Model hγ) [.istore_n 3] (by decide +kernel) rfl rfl trivial ?_
                                                                          refine E_goto (off := 212) (tgt := 789) (by decide +kernel) (by decide) ?_
                                                                          refine E_mask [true, true, true, true, true, true, false] rfl ?_
                                                                          exact lk_Model_codeLine_j789 hγ this Q X v1 v2 r237 (0 : Int32) (0 : Int32) M236 h
                                                                        · rw [if_neg b123] at h
                                                                          by_cases b124 : v2 = (37 : Int32)
                                                                          · rw [if_pos b124] at h
                                                                            refine E.up (fun _ _ hJ => J_tswI (len := 233) (dflt := 498) (lo := 1) (hi := 55) (offs := #[267, 498, 233, 233, 233, 233, 244, 498, 498, 498, 498, 498, 498, 498, 498, 498, 498, 498, 498, 498, 498, 498, 281, 281, 281, 281, 281, 281, 281, 281, 281, 281, 281, 281, 281, 281, 281, 281, 281, 289, 367, 498, 498, 498, 498, 375, 375, 375, 375, 401, 401, 401, 401, 367, 367]) (off := 281) (tgt := 572) (by decide +kernel) (by rw [b124]; decide) (by rw [b124]; decide) (by rw [b124]; rfl) (by decide) hJ) ?_
                                                                            refine E_blk (lv' := [some (vr (some (11, this))), some (vi v1), some (vi v2), some (vi (0 : Int32)), some (vi (0 : Int32)), some (vi (0 : Int32)), none]) (st' := [vr (some (11, this))]) (M1 := (sI M 11 this 43 ((mI M 11 this 43) + (1 : Int32)))) (pc' := 573) (tb_Model hγ) [.aload_n 0] (by decide +kernel) rfl rfl trivial ?_
                                                                            refine E_callX (κ' := k_Model_usedLabel) (As := []) (st := []) mv_Model_usedLabel (Or.inl (tbk_mem (j := 15) (k := 109) rfl)) rfl (by decide +kernel) (Nat.le_of_ble_eq_true rfl) (Nat.le_of_ble_eq_true rfl) rfl (by decide) rfl (lk_Model_usedLabel hγ this _ _ (sI M 11 this 43 ((mI M 11 this 43) + (1 : Int32))) h) (fun _ _ => Qi_r) (fun _ h => h) (fun v M234 hp => Qi_k (R := fun st => E γ k_Model_codeLine 7 576 [some (vr (some (11, this))), some (vi v1), some (vi v2), some (vi (0 : Int32)), some (vi (0 : Int32)), some (vi (0 : Int32)), none] st M234 (Qx (14, 0) (Qv Q) X)) hp (fun r235 h => ?_))
                                                                            refine E_blk (lv' := [some (vr (some (11, this))), some (vi v1), some (vi v2), some (vi r235), some (vi (0 : Int32)), some (vi (0 : Int32)), none]) (st' := []) (M1 := M234) (pc' := 577) (tb_Model hγ) [.istore_n 3] (by decide +kernel) rfl rfl trivial ?_
                                                                            refine E_goto (off := 212) (tgt := 789) (by decide +kernel) (by decide) ?_
                                                                            refine E_mask [true, true, true, true, true, true, false] rfl ?_
                                                                            exact lk_Model_codeLine_j789 hγ this Q X v1 v2 r235 (0 : Int32) (0 : Int32) M234 h
                                                                          · rw [if_neg b124] at h
                                                                            by_cases b125 : v2 = (38 : Int32)
                                                                            · rw [if_pos b125] at h
                                                                              refine E.up (fun _ _ hJ => J_tswI (len := 233) (dflt := 498) (lo := 1) (hi := 55) (offs := #[267, 498, 233, 233, 233, 233, 244, 498, 498, 498, 498, 498, 498, 498, 498, 498, 498, 498, 498, 498, 498, 498, 281, 281, 281, 281, 281, 281, 281, 281, 281, 281, 281, 281, 281, 281, 281, 281, 281, 289, 367, 498, 498, 498, 498, 375, 375, 375, 375, 401, 401, 401, 401, 367, 367]) (off := 281) (tgt := 572) (by decide +kernel) (by rw [b125]; decide) (by rw [b125]; decide) (by rw [b125]; rfl) (by decide) hJ) ?_
                                                                              refine E_blk (lv' := [some (vr (some (11, this))), some (vi v1), some (vi v2), some (vi (0 : Int32)), some (vi (0 : Int32)), some (vi (0 : Int32)), none]) (st' := [vr (some (11, this))]) (M1 := (sI M 11 this 43 ((mI M 11 this 43) + (1 : Int32)))) (pc' := 573) (tb_Model hγ) [.aload_n 0] (by decide +kernel) rfl rfl trivial ?_
                                                                              refine E_callX (κ' := k_Model_usedLabel) (As := []) (st := []) mv_Model_usedLabel (Or.inl (tbk_mem (j := 15) (k := 109) rfl)) rfl (by decide +kernel) (Nat.le_of_ble_eq_true rfl) (Nat.le_of_ble_eq_true rfl) rfl (by decide) rfl (lk_Model_usedLabel hγ this _ _ (sI M 11 this 43 ((mI M 11 this 43) + (1 : Int32))) h) (fun _ _ => Qi_r) (fun _ h => h) (fun v M232 hp => Qi_k (R := fun st => E γ k_Model_codeLine 7 576 [some (vr (some (11, this))), some (vi v1), some (vi v2), some (vi (0 : Int32)), some (vi (0 : Int32)), some (vi (0 : Int32)), none] st M232 (Qx (14, 0) (Qv Q) X)) hp (fun r233 h => ?_))
                                                                              refine E_blk (lv' := [some (vr (some (11, this))), some (vi v1), some (vi v2), some (vi r233), some (vi (0 : Int32)), some (vi (0 : Int32)), none]) (st' := []) (M1 := M232) (pc' := 577) (tb_Model hγ) [.istore_n 3] (by decide +kernel) rfl rfl trivial ?_
                                                                              refine E_goto (off := 212) (tgt := 789) (by decide +kernel) (by decide) ?_
                                                                              refine E_mask [true, true, true, true, true, true, false] rfl ?_
                                                                              exact lk_Model_codeLine_j789 hγ this Q X v1 v2 r233 (0 : Int32) (0 : Int32) M232 h
                                                                            · rw [if_neg b125] at h
                                                                              by_cases b126 : v2 = (39 : Int32)
                                                                              · rw [if_pos b126] at h
                                                                                refine E.up (fun _ _ hJ => J_tswI (len := 233) (dflt := 498) (lo := 1) (hi := 55) (offs := #[267, 498, 233, 233, 233, 233, 244, 498, 498, 498, 498, 498, 498, 498, 498, 498, 498, 498, 498, 498, 498, 498, 281, 281, 281, 281, 281, 281, 281, 281, 281, 281, 281, 281, 281, 281, 281, 281, 281, 289, 367, 498, 498, 498, 498, 375, 375, 375, 375, 401, 401, 401, 401, 367, 367]) (off := 281) (tgt := 572) (by decide +kernel) (by rw [b126]; decide) (by rw [b126]; decide) (by rw [b126]; rfl) (by decide) hJ) ?_
                                                                                refine E_blk (lv' := [some (vr (some (11, this))), some (vi v1), some (vi v2), some (vi (0 : Int32)), some (vi (0 : Int32)), some (vi (0 : Int32)), none]) (st' := [vr (some (11, this))]) (M1 := (sI M 11 this 43 ((mI M 11 this 43) + (1 : Int32)))) (pc' := 573) (tb_Model hγ) [.aload_n 0] (by decide +kernel) rfl rfl trivial ?_
                                                                                refine E_callX (κ' := k_Model_usedLabel) (As := []) (st := []) mv_Model_usedLabel (Or.inl (tbk_mem (j := 15) (k := 109) rfl)) rfl (by decide +kernel) (Nat.le_of_ble_eq_true rfl) (Nat.le_of_ble_eq_true rfl) rfl (by decide) rfl (lk_Model_usedLabel hγ this _ _ (sI M 11 this 43 ((mI M 11 this 43) + (1 : Int32))) h) (fun _ _ => Qi_r) (fun _ h => h) (fun v M230 hp => Qi_k (R := fun st => E γ k_Model_codeLine 7 576 [some (vr (some (11, this))), some (vi v1), some (vi v2), some (vi (0 : Int32)), some (vi (0 : Int32)), some (vi (0 : Int32)), none] st M230 (Qx (14, 0) (Qv Q) X)) hp (fun r231 h => ?_))
                                                                                refine E_blk (lv' := [some (vr (some (11, this))), some (vi v1), some (vi v2), some (vi r231), some (vi (0 : Int32)), some (vi (0 : Int32)), none]) (st' := []) (M1 := M230) (pc' := 577) (tb_Model hγ) [.istore_n 3] (by decide +kernel) rfl rfl trivial ?_
                                                                                refine E_goto (off := 212) (tgt := 789) (by decide +kernel) (by decide) ?_
                                                                                refine E_mask [true, true, true, true, true, true, false] rfl ?_
                                                                                exact lk_Model_codeLine_j789 hγ this Q X v1 v2 r231 (0 : Int32) (0 : Int32) M230 h
                                                                              · rw [if_neg b126] at h
                                                                                by_cases b127 : v2 = (40 : Int32)
                                                                                · rw [if_pos b127] at h
                                                                                  refine E.up (fun _ _ hJ => J_tswI (len := 233) (dflt := 498) (lo := 1) (hi := 55) (offs := #[267, 498, 233, 233, 233, 233, 244, 498, 498, 498, 498, 498, 498, 498, 498, 498, 498, 498, 498, 498, 498, 498, 281, 281, 281, 281, 281, 281, 281, 281, 281, 281, 281, 281, 281, 281, 281, 281, 281, 289, 367, 498, 498, 498, 498, 375, 375, 375, 375, 401, 401, 401, 401, 367, 367]) (off := 289) (tgt := 580) (by decide +kernel) (by rw [b127]; decide) (by rw [b127]; decide) (by rw [b127]; rfl) (by decide) hJ) ?_
                                                                                  refine E_blk (lv' := [some (vr (some (11, this))), some (vi v1), some (vi v2), some (vi (0 : Int32)), some (vi (0 : Int32)), some (vi (0 : Int32)), none]) (st' := [vi (2147483647 : Int32), vi (-2147483648 : Int32), vr (some (11, this))]) (M1 := (sI M 11 this 43 ((mI M 11 this 43) + (1 : Int32)))) (pc' := 587) (tb_Model hγ) [.aload_n 0, .ldc_w 616, .ldc_w 617] (by decide +kernel) rfl rfl trivial ?_
                                                                                  refine E_callX (κ' := k_Model_numberIn) (As := [vi (-2147483648 : Int32), vi (2147483647 : Int32)]) (st := []) mv_Model_numberIn (Or.inl (tbk_mem (j := 15) (k := 60) rfl)) rfl (by decide +kernel) (Nat.le_of_ble_eq_true rfl) (Nat.le_of_ble_eq_true rfl) rfl (by decide) rfl (lk_Model_numberIn hγ this (-2147483648 : Int32) (2147483647 : Int32) _ _ (sI M 11 this 43 ((mI M 11 this 43) + (1 : Int32))) h) (fun _ _ => Qi_r) (fun _ h => h) (fun v M217 hp => Qi_k (R := fun st => E γ k_Model_codeLine 7 590 [some (vr (some (11, this))), some (vi v1), some (vi v2), some (vi (0 : Int32)), some (vi (0 : Int32)), some (vi (0 : Int32)), none] st M217 (Qx (14, 0) (Qv Q) X)) hp (fun r218 h => ?_))
                                                                                  refine E_blk (lv' := [some (vr (some (11, this))), some (vi v1), some (vi v2), some (vi r218), some (vi (0 : Int32)), some (vi (0 : Int32)), none]) (st' := [vr (mR M217 11 this 45)]) (M1 := M217) (pc' := 595) (tb_Model hγ) [.istore_n 3, .aload_n 0, .getfield 522] (by decide +kernel) rfl rfl trivial ?_
                                                                                  obtain ⟨i219, ei219, h⟩ := h
                                                                                  rw [ei219]
                                                                                  refine E_blk (lv' := [some (vr (some (11, this))), some (vi v1), some (vi v2), some (vi r218), some (vi (mI M217 12 i219 37)), some (vi (0 : Int32)), none]) (st' := [vr (some (11, this)), vr (some (11, this))]) (M1 := M217) (pc' := 602) (tb_Model hγ) [.getfield 474, .istore 4, .aload_n 0, .aload_n 0] (by decide +kernel) rfl rfl trivial ?_
                                                                                  refine E_callX (κ' := k_Model_usedLabel) (As := []) (st := [vr (some (11, this))]) mv_Model_usedLabel (Or.inl (tbk_mem (j := 15) (k := 109) rfl)) rfl (by decide +kernel) (Nat.le_of_ble_eq_true rfl) (Nat.le_of_ble_eq_true rfl) rfl (by decide) rfl (lk_Model_usedLabel hγ this _ _ M217 h) (fun _ _ => Qi_r) (fun _ h => h) (fun v M220 hp => Qi_k (R := fun st => E γ k_Model_codeLine 7 605 [some (vr (some (11, this))), some (vi v1), some (vi v2), some (vi r218), some (vi (mI M217 12 i219 37)), some (vi (0 : Int32)), none] st M220 (Qx (14, 0) (Qv Q) X)) hp (fun r221 h => ?_))
                                                                                  refine E_callV (κ' := k_Model_addList) (As := [vi r221]) (st := []) mv_Model_addList (Or.inl (tbk_mem (j := 15) (k := 113) rfl)) rfl (by decide +kernel) (Nat.le_of_ble_eq_true rfl) (Nat.le_of_ble_eq_true rfl) rfl (by decide) (lk_Model_addList hγ this r221 _ M220 h) (fun _ _ => Qv_r) (fun v M222 hp => Qv_k (R := fun st => E γ k_Model_codeLine 7 608 [some (vr (some (11, this))), some (vi v1), some (vi v2), some (vi r218), some (vi (mI M217 12 i219 37)), some (vi (0 : Int32)), none] st M222 (Qx (14, 0) (Qv Q) X)) hp (fun h => ?_))
                                                                                  obtain ⟨n229, h⟩ := h
                                                                                  refine E_mask [true, true, true, true, true, false, false] rfl ?_
                                                                                  exact lk_Model_codeLine_L608 hγ this Q X n229 v1 v2 r218 (mI M217 12 i219 37) M222 h
                                                                                · rw [if_neg b127] at h
                                                                                  by_cases b128 : v2 = (41 : Int32)
                                                                                  · rw [if_pos b128] at h
                                                                                    refine E.up (fun _ _ hJ => J_tswI (len := 233) (dflt := 498) (lo := 1) (hi := 55) (offs := #[267, 498, 233, 233, 233, 233, 244, 498, 498, 498, 498, 498, 498, 498, 498, 498, 498, 498, 498, 498, 498, 498, 281, 281, 281, 281, 281, 281, 281, 281, 281, 281, 281, 281, 281, 281, 281, 281, 281, 289, 367, 498, 498, 498, 498, 375, 375, 375, 375, 401, 401, 401, 401, 367, 367]) (off := 367) (tgt := 658) (by decide +kernel) (by rw [b128]; decide) (by rw [b128]; decide) (by rw [b128]; rfl) (by decide) hJ) ?_
                                                                                    refine E_blk (lv' := [some (vr (some (11, this))), some (vi v1), some (vi v2), some (vi (0 : Int32)), some (vi (0 : Int32)), some (vi (0 : Int32)), none]) (st' := [vr (some (11, this))]) (M1 := (sI M 11 this 43 ((mI M 11 this 43) + (1 : Int32)))) (pc' := 659) (tb_Model hγ) [.aload_n 0] (by decide +kernel) rfl rfl trivial ?_
                                                                                    refine E_callX (κ' := k_Model_className) (As := []) (st := []) mv_Model_className (Or.inl (tbk_mem (j := 15) (k := 23) rfl)) rfl (by decide +kernel) (Nat.le_of_ble_eq_true rfl) (Nat.le_of_ble_eq_true rfl) rfl (by decide) rfl (lk_Model_className hγ this _ _ (sI M 11 this 43 ((mI M 11 this 43) + (1 : Int32))) h) (fun _ _ => Qi_r) (fun _ h => h) (fun v M215 hp => Qi_k (R := fun st => E γ k_Model_codeLine 7 662 [some (vr (some (11, this))), some (vi v1), some (vi v2), some (vi (0 : Int32)), some (vi (0 : Int32)), some (vi (0 : Int32)), none] st M215 (Qx (14, 0) (Qv Q) X)) hp (fun r216 h => ?_))
                                                                                    refine E_blk (lv' := [some (vr (some (11, this))), some (vi v1), some (vi v2), some (vi r216), some (vi (0 : Int32)), some (vi (0 : Int32)), none]) (st' := []) (M1 := M215) (pc' := 663) (tb_Model hγ) [.istore_n 3] (by decide +kernel) rfl rfl trivial ?_
                                                                                    refine E_goto (off := 126) (tgt := 789) (by decide +kernel) (by decide) ?_
                                                                                    refine E_mask [true, true, true, true, true, true, false] rfl ?_
                                                                                    exact lk_Model_codeLine_j789 hγ this Q X v1 v2 r216 (0 : Int32) (0 : Int32) M215 h
                                                                                  · rw [if_neg b128] at h
                                                                                    by_cases b129 : v2 = (42 : Int32)
                                                                                    · rw [if_pos b129] at h
                                                                                      refine E.up (fun _ _ hJ => J_tswI (len := 233) (dflt := 498) (lo := 1) (hi := 55) (offs := #[267, 498, 233, 233, 233, 233, 244, 498, 498, 498, 498, 498, 498, 498, 498, 498, 498, 498, 498, 498, 498, 498, 281, 281, 281, 281, 281, 281, 281, 281, 281, 281, 281, 281, 281, 281, 281, 281, 281, 289, 367, 498, 498, 498, 498, 375, 375, 375, 375, 401, 401, 401, 401, 367, 367]) (off := 498) (tgt := 789) (by decide +kernel) (by rw [b129]; decide) (by rw [b129]; decide) (by rw [b129]; rfl) (by decide) hJ) ?_
                                                                                      refine E_mask [true, true, true, true, true, true, false] rfl ?_
                                                                                      exact lk_Model_codeLine_j789 hγ this Q X v1 v2 (0 : Int32) (0 : Int32) (0 : Int32) (sI M 11 this 43 ((mI M 11 this 43) + (1 : Int32))) h
                                                                                    · rw [if_neg b129] at h
                                                                                      by_cases b130 : v2 = (43 : Int32)
                                                                                      · rw [if_pos b130] at h
                                                                                        refine E.up (fun _ _ hJ => J_tswI (len := 233) (dflt := 498) (lo := 1) (hi := 55) (offs := #[267, 498, 233, 233, 233, 233, 244, 498, 498, 498, 498, 498, 498, 498, 498, 498, 498, 498, 498, 498, 498, 498, 281, 281, 281, 281, 281, 281, 281, 281, 281, 281, 281, 281, 281, 281, 281, 281, 281, 289, 367, 498, 498, 498, 498, 375, 375, 375, 375, 401, 401, 401, 401, 367, 367]) (off := 498) (tgt := 789) (by decide +kernel) (by rw [b130]; decide) (by rw [b130]; decide) (by rw [b130]; rfl) (by decide) hJ) ?_
                                                                                        refine E_mask [true, true, true, true, true, true, false] rfl ?_
                                                                                        exact lk_Model_codeLine_j789 hγ this Q X v1 v2 (0 : Int32) (0 : Int32) (0 : Int32) (sI M 11 this 43 ((mI M 11 this 43) + (1 : Int32))) h
                                                                                      · rw [if_neg b130] at h
                                                                                        by_cases b131 : v2 = (44 : Int32)
                                                                                        · rw [if_pos b131] at h
                                                                                          refine E.up (fun _ _ hJ => J_tswI (len := 233) (dflt := 498) (lo := 1) (hi := 55) (offs := #[267, 498, 233, 233, 233, 233, 244, 498, 498, 498, 498, 498, 498, 498, 498, 498, 498, 498, 498, 498, 498, 498, 281, 281, 281, 281, 281, 281, 281, 281, 281, 281, 281, 281, 281, 281, 281, 281, 281, 289, 367, 498, 498, 498, 498, 375, 375, 375, 375, 401, 401, 401, 401, 367, 367]) (off := 498) (tgt := 789) (by decide +kernel) (by rw [b131]; decide) (by rw [b131]; decide) (by rw [b131]; rfl) (by decide) hJ) ?_
                                                                                          refine E_mask [true, true, true, true, true, true, false] rfl ?_
                                                                                          exact lk_Model_codeLine_j789 hγ this Q X v1 v2 (0 : Int32) (0 : Int32) (0 : Int32) (sI M 11 this 43 ((mI M 11 this 43) + (1 : Int32))) h
                                                                                        · rw [if_neg b131] at h
                                                                                          by_cases b132 : v2 = (45 : Int32)
                                                                                          · rw [if_pos b132] at h
                                                                                            refine E.up (fun _ _ hJ => J_tswI (len := 233) (dflt := 498) (lo := 1) (hi := 55) (offs := #[267, 498, 233, 233, 233, 233, 244, 498, 498, 498, 498, 498, 498, 498, 498, 498, 498, 498, 498, 498, 498, 498, 281, 281, 281, 281, 281, 281, 281, 281, 281, 281, 281, 281, 281, 281, 281, 281, 281, 289, 367, 498, 498, 498, 498, 375, 375, 375, 375, 401, 401, 401, 401, 367, 367]) (off := 498) (tgt := 789) (by decide +kernel) (by rw [b132]; decide) (by rw [b132]; decide) (by rw [b132]; rfl) (by decide) hJ) ?_
                                                                                            refine E_mask [true, true, true, true, true, true, false] rfl ?_
                                                                                            exact lk_Model_codeLine_j789 hγ this Q X v1 v2 (0 : Int32) (0 : Int32) (0 : Int32) (sI M 11 this 43 ((mI M 11 this 43) + (1 : Int32))) h
                                                                                          · rw [if_neg b132] at h
                                                                                            by_cases b133 : v2 = (46 : Int32)
                                                                                            · rw [if_pos b133] at h
                                                                                              refine E.up (fun _ _ hJ => J_tswI (len := 233) (dflt := 498) (lo := 1) (hi := 55) (offs := #[267, 498, 233, 233, 233, 233, 244, 498, 498, 498, 498, 498, 498, 498, 498, 498, 498, 498, 498, 498, 498, 498, 281, 281, 281, 281, 281, 281, 281, 281, 281, 281, 281, 281, 281, 281, 281, 281, 281, 289, 367, 498, 498, 498, 498, 375, 375, 375, 375, 401, 401, 401, 401, 367, 367]) (off := 375) (tgt := 666) (by decide +kernel) (by rw [b133]; decide) (by rw [b133]; decide) (by rw [b133]; rfl) (by decide) hJ) ?_
                                                                                              refine E_blk (lv' := [some (vr (some (11, this))), some (vi v1), some (vi v2), some (vi (0 : Int32)), some (vi (0 : Int32)), some (vi (0 : Int32)), none]) (st' := [vr (some (11, this))]) (M1 := (sI M 11 this 43 ((mI M 11 this 43) + (1 : Int32)))) (pc' := 667) (tb_Model hγ) [.aload_n 0] (by decide +kernel) rfl rfl trivial ?_
                                                                                              refine E_callX (κ' := k_Model_className) (As := []) (st := []) mv_Model_className (Or.inl (tbk_mem (j := 15) (k := 23) rfl)) rfl (by decide +kernel) (Nat.le_of_ble_eq_true rfl) (Nat.le_of_ble_eq_true rfl) rfl (by decide) rfl (lk_Model_className hγ this _ _ (sI M 11 this 43 ((mI M 11 this 43) + (1 : Int32))) h) (fun _ _ => Qi_r) (fun _ h => h) (fun v M208 hp => Qi_k (R := fun st => E γ k_Model_codeLine 7 670 [some (vr (some (11, this))), some (vi v1), some (vi v2), some (vi (0 : Int32)), some (vi (0 : Int32)), some (vi (0 : Int32)), none] st M208 (Qx (14, 0) (Qv Q) X)) hp (fun r209 h => ?_))
                                                                                              refine E_blk (lv' := [some (vr (some (11, this))), some (vi v1), some (vi v2), some (vi r209), some (vi (0 : Int32)), some (vi (0 : Int32)), none]) (st' := [vi (46 : Int32), vr (some (11, this))]) (M1 := M208) (pc' := 674) (tb_Model hγ) [.istore_n 3, .aload_n 0, .bipush 46] (by decide +kernel) rfl rfl trivial ?_
                                                                                              refine E_callX (κ' := k_Model_need) (As := [vi (46 : Int32)]) (st := []) mv_Model_need (Or.inl (tbk_mem (j := 15) (k := 35) rfl)) rfl (by decide +kernel) (Nat.le_of_ble_eq_true rfl) (Nat.le_of_ble_eq_true rfl) rfl (by decide) rfl (lk_Model_need hγ this (46 : Int32) _ _ M208 h) (fun _ _ => Qv_r) (fun _ h => h) (fun v M210 hp => Qv_k (R := fun st => E γ k_Model_codeLine 7 677 [some (vr (some (11, this))), some (vi v1), some (vi v2), some (vi r209), some (vi (0 : Int32)), some (vi (0 : Int32)), none] st M210 (Qx (14, 0) (Qv Q) X)) hp (fun h => ?_))
                                                                                              refine E_blk (lv' := [some (vr (some (11, this))), some (vi v1), some (vi v2), some (vi r209), some (vi (0 : Int32)), some (vi (0 : Int32)), none]) (st' := [vr (some (11, this))]) (M1 := M210) (pc' := 678) (tb_Model hγ) [.aload_n 0] (by decide +kernel) rfl rfl trivial ?_
                                                                                              refine E_callX (κ' := k_Model_plainName) (As := []) (st := []) mv_Model_plainName (Or.inl (tbk_mem (j := 15) (k := 31) rfl)) rfl (by decide +kernel) (Nat.le_of_ble_eq_true rfl) (Nat.le_of_ble_eq_true rfl) rfl (by decide) rfl (lk_Model_plainName hγ this _ _ M210 h) (fun _ _ => Qi_r) (fun _ h => h) (fun v M211 hp => Qi_k (R := fun st => E γ k_Model_codeLine 7 681 [some (vr (some (11, this))), some (vi v1), some (vi v2), some (vi r209), some (vi (0 : Int32)), some (vi (0 : Int32)), none] st M211 (Qx (14, 0) (Qv Q) X)) hp (fun r212 h => ?_))
                                                                                              refine E_blk (lv' := [some (vr (some (11, this))), some (vi v1), some (vi v2), some (vi r209), some (vi r212), some (vi (0 : Int32)), none]) (st' := [vr (some (11, this))]) (M1 := M211) (pc' := 684) (tb_Model hγ) [.istore 4, .aload_n 0] (by decide +kernel) rfl rfl trivial ?_
                                                                                              refine E_callX (κ' := k_Model_type) (As := []) (st := []) mv_Model_type (Or.inl (tbk_mem (j := 15) (k := 55) rfl)) rfl (by decide +kernel) (Nat.le_of_ble_eq_true rfl) (Nat.le_of_ble_eq_true rfl) rfl (by decide) rfl (lk_Model_type hγ this _ _ M211 h) (fun _ _ => Qi_r) (fun _ h => h) (fun v M213 hp => Qi_k (R := fun st => E γ k_Model_codeLine 7 687 [some (vr (some (11, this))), some (vi v1), some (vi v2), some (vi r209), some (vi r212), some (vi (0 : Int32)), none] st M213 (Qx (14, 0) (Qv Q) X)) hp (fun r214 h => ?_))
                                                                                              refine E_blk (lv' := [some (vr (some (11, this))), some (vi v1), some (vi v2), some (vi r209), some (vi r212), some (vi r214), none]) (st' := []) (M1 := M213) (pc' := 689) (tb_Model hγ) [.istore 5] (by decide +kernel) rfl rfl trivial ?_
                                                                                              refine E_goto (off := 100) (tgt := 789) (by decide +kernel) (by decide) ?_
                                                                                              refine E_mask [true, true, true, true, true, true, false] rfl ?_
                                                                                              exact lk_Model_codeLine_j789 hγ this Q X v1 v2 r209 r212 r214 M213 h
                                                                                            · rw [if_neg b133] at h
                                                                                              by_cases b134 : v2 = (47 : Int32)
                                                                                              · rw [if_pos b134] at h
                                                                                                refine E.up (fun _ _ hJ => J_tswI (len := 233) (dflt := 498) (lo := 1) (hi := 55) (offs := #[267, 498, 233, 233, 233, 233, 244, 498, 498, 498, 498, 498, 498, 498, 498, 498, 498, 498, 498, 498, 498, 498, 281, 281, 281, 281, 281, 281, 281, 281, 281, 281, 281, 281, 281, 281, 281, 281, 281, 289, 367, 498, 498, 498, 498, 375, 375, 375, 375, 401, 401, 401, 401, 367, 367]) (off := 375) (tgt := 666) (by decide +kernel) (by rw [b134]; decide) (by rw [b134]; decide) (by rw [b134]; rfl) (by decide) hJ) ?_
                                                                                                refine E_blk (lv' := [some (vr (some (11, this))), some (vi v1), some (vi v2), some (vi (0 : Int32)), some (vi (0 : Int32)), some (vi (0 : Int32)), none]) (st' := [vr (some (11, this))]) (M1 := (sI M 11 this 43 ((mI M 11 this 43) + (1 : Int32)))) (pc' := 667) (tb_Model hγ) [.aload_n 0] (by decide +kernel) rfl rfl trivial ?_
                                                                                                refine E_callX (κ' := k_Model_className) (As := []) (st := []) mv_Model_className (Or.inl (tbk_mem (j := 15) (k := 23) rfl)) rfl (by decide +kernel) (Nat.le_of_ble_eq_true rfl) (Nat.le_of_ble_eq_true rfl) rfl (by decide) rfl (lk_Model_className hγ this _ _ (sI M 11 this 43 ((mI M 11 this 43) + (1 : Int32))) h) (fun _ _ => Qi_r) (fun _ h => h) (fun v M201 hp => Qi_k (R := fun st => E γ k_Model_codeLine 7 670 [some (vr (some (11, this))), some (vi v1), some (vi v2), some (vi (0 : Int32)), some (vi (0 : Int32)), some (vi (0 : Int32)), none] st M201 (Qx (14, 0) (Qv Q) X)) hp (fun r202 h => ?_))
                                                                                                refine E_blk (lv' := [some (vr (some (11, this))), some (vi v1), some (vi v2), some (vi r202), some (vi (0 : Int32)), some (vi (0 : Int32)), none]) (st' := [vi (46 : Int32), vr (some (11, this))]) (M1 := M201) (pc' := 674) (tb_Model hγ) [.istore_n 3, .aload_n 0, .bipush 46] (by decide +kernel) rfl rfl trivial ?_
                                                                                                refine E_callX (κ' := k_Model_need) (As := [vi (46 : Int32)]) (st := []) mv_Model_need (Or.inl (tbk_mem (j := 15) (k := 35) rfl)) rfl (by decide +kernel) (Nat.le_of_ble_eq_true rfl) (Nat.le_of_ble_eq_true rfl) rfl (by decide) rfl (lk_Model_need hγ this (46 : Int32) _ _ M201 h) (fun _ _ => Qv_r) (fun _ h => h) (fun v M203 hp => Qv_k (R := fun st => E γ k_Model_codeLine 7 677 [some (vr (some (11, this))), some (vi v1), some (vi v2), some (vi r202), some (vi (0 : Int32)), some (vi (0 : Int32)), none] st M203 (Qx (14, 0) (Qv Q) X)) hp (fun h => ?_))
                                                                                                refine E_blk (lv' := [some (vr (some (11, this))), some (vi v1), some (vi v2), some (vi r202), some (vi (0 : Int32)), some (vi (0 : Int32)), none]) (st' := [vr (some (11, this))]) (M1 := M203) (pc' := 678) (tb_Model hγ) [.aload_n 0] (by decide +kernel) rfl rfl trivial ?_
                                                                                                refine E_callX (κ' := k_Model_plainName) (As := []) (st := []) mv_Model_plainName (Or.inl (tbk_mem (j := 15) (k := 31) rfl)) rfl (by decide +kernel) (Nat.le_of_ble_eq_true rfl) (Nat.le_of_ble_eq_true rfl) rfl (by decide) rfl (lk_Model_plainName hγ this _ _ M203 h) (fun _ _ => Qi_r) (fun _ h => h) (fun v M204 hp => Qi_k (R := fun st => E γ k_Model_codeLine 7 681 [some (vr (some (11, this))), some (vi v1), some (vi v2), some (vi r202), some (vi (0 : Int32)), some (vi (0 : Int32)), none] st M204 (Qx (14, 0) (Qv Q) X)) hp (fun r205 h => ?_))
                                                                                                refine E_blk (lv' := [some (vr (some (11, this))), some (vi v1), some (vi v2), some (vi r202), some (vi r205), some (vi (0 : Int32)), none]) (st' := [vr (some (11, this))]) (M1 := M204) (pc' := 684) (tb_Model hγ) [.istore 4, .aload_n 0] (by decide +kernel) rfl rfl trivial ?_
                                                                                                refine E_callX (κ' := k_Model_type) (As := []) (st := []) mv_Model_type (Or.inl (tbk_mem (j := 15) (k := 55) rfl)) rfl (by decide +kernel) (Nat.le_of_ble_eq_true rfl) (Nat.le_of_ble_eq_true rfl) rfl (by decide) rfl (lk_Model_type hγ this _ _ M204 h) (fun _ _ => Qi_r) (fun _ h => h) (fun v M206 hp => Qi_k (R := fun st => E γ k_Model_codeLine 7 687 [some (vr (some (11, this))), some (vi v1), some (vi v2), some (vi r202), some (vi r205), some (vi (0 : Int32)), none] st M206 (Qx (14, 0) (Qv Q) X)) hp (fun r207 h => ?_))
                                                                                                refine E_blk (lv' := [some (vr (some (11, this))), some (vi v1), some (vi v2), some (vi r202), some (vi r205), some (vi r207), none]) (st' := []) (M1 := M206) (pc' := 689) (tb_Model hγ) [.istore 5] (by decide +kernel) rfl rfl trivial ?_
                                                                                                refine E_goto (off := 100) (tgt := 789) (by decide +kernel) (by decide) ?_
                                                                                                refine E_mask [true, true, true, true, true, true, false] rfl ?_
                                                                                                exact lk_Model_codeLine_j789 hγ this Q X v1 v2 r202 r205 r207 M206 h
                                                                                              · rw [if_neg b134] at h
                                                                                                by_cases b135 : v2 = (48 : Int32)
                                                                                                · rw [if_pos b135] at h
                                                                                                  refine E.up (fun _ _ hJ => J_tswI (len := 233) (dflt := 498) (lo := 1) (hi := 55) (offs := #[267, 498, 233, 233, 233, 233, 244, 498, 498, 498, 498, 498, 498, 498, 498, 498, 498, 498, 498, 498, 498, 498, 281, 281, 281, 281, 281, 281, 281, 281, 281, 281, 281, 281, 281, 281, 281, 281, 281, 289, 367, 498, 498, 498, 498, 375, 375, 375, 375, 401, 401, 401, 401, 367, 367]) (off := 375) (tgt := 666) (by decide +kernel) (by rw [b135]; decide) (by rw [b135]; decide) (by rw [b135]; rfl) (by decide) hJ) ?_
                                                                                                  refine E_blk (lv' := [some (vr (some (11, this))), some (vi v1), some (vi v2), some (vi (0 : Int32)), some (vi (0 : Int32)), some (vi (0 : Int32)), none]) (st' := [vr (some (11, this))]) (M1 := (sI M 11 this 43 ((mI M 11 this 43) + (1 : Int32)))) (pc' := 667) (tb_Model hγ) [.aload_n 0] (by decide +kernel) rfl rfl trivial ?_
                                                                                                  refine E_callX (κ' := k_Model_className) (As := []) (st := []) mv_Model_className (Or.inl (tbk_mem (j := 15) (k := 23) rfl)) rfl (by decide +kernel) (Nat.le_of_ble_eq_true rfl) (Nat.le_of_ble_eq_true rfl) rfl (by decide) rfl (lk_Model_className hγ this _ _ (sI M 11 this 43 ((mI M 11 this 43) + (1 : Int32))) h) (fun _ _ => Qi_r) (fun _ h => h) (fun v M194 hp => Qi_k (R := fun st => E γ k_Model_codeLine 7 670 [some (vr (some (11, this))), some (vi v1), some (vi v2), some (vi (0 : Int32)), some (vi (0 : Int32)), some (vi (0 : Int32)), none] st M194 (Qx (14, 0) (Qv Q) X)) hp (fun r195 h => ?_))
                                                                                                  refine E_blk (lv' := [some (vr (some (11, this))), some (vi v1), some (vi v2), some (vi r195), some (vi (0 : Int32)), some (vi (0 : Int32)), none]) (st' := [vi (46 : Int32), vr (some (11, this))]) (M1 := M194) (pc' := 674) (tb_Model hγ) [.istore_n 3, .aload_n 0, .bipush 46] (by decide +kernel) rfl rfl trivial ?_
                                                                                                  refine E_callX (κ' := k_Model_need) (As := [vi (46 : Int32)]) (st := []) mv_Model_need (Or.inl (tbk_mem (j := 15) (k := 35) rfl)) rfl (by decide +kernel) (Nat.le_of_ble_eq_true rfl) (Nat.le_of_ble_eq_true rfl) rfl (by decide) rfl (lk_Model_need hγ this (46 : Int32) _ _ M194 h) (fun _ _ => Qv_r) (fun _ h => h) (fun v M196 hp => Qv_k (R := fun st => E γ k_Model_codeLine 7 677 [some (vr (some (11, this))), some (vi v1), some (vi v2), some (vi r195), some (vi (0 : Int32)), some (vi (0 : Int32)), none] st M196 (Qx (14, 0) (Qv Q) X)) hp (fun h => ?_))
                                                                                                  refine E_blk (lv' := [some (vr (some (11, this))), some (vi v1), some (vi v2), some (vi r195), some (vi (0 : Int32)), some (vi (0 : Int32)), none]) (st' := [vr (some (11, this))]) (M1 := M196) (pc' := 678) (tb_Model hγ) [.aload_n 0] (by decide +kernel) rfl rfl trivial ?_
                                                                                                  refine E_callX (κ' := k_Model_plainName) (As := []) (st := []) mv_Model_plainName (Or.inl (tbk_mem (j := 15) (k := 31) rfl)) rfl (by decide +kernel) (Nat.le_of_ble_eq_true rfl) (Nat.le_of_ble_eq_true rfl) rfl (by decide) rfl (lk_Model_plainName hγ this _ _ M196 h) (fun _ _ => Qi_r) (fun _ h => h) (fun v M197 hp => Qi_k (R := fun st => E γ k_Model_codeLine 7 681 [some (vr (some (11, this))), some (vi v1), some (vi v2), some (vi r195), some (vi (0 : Int32)), some (vi (0 : Int32)), none] st M197 (Qx (14, 0) (Qv Q) X)) hp (fun r198 h => ?_))
                                                                                                  refine E_blk (lv' := [some (vr (some (11, this))), some (vi v1), some (vi v2), some (vi r195), some (vi r198), some (vi (0 : Int32)), none]) (st' := [vr (some (11, this))]) (M1 := M197) (pc' := 684) (tb_Model hγ) [.istore 4, .aload_n 0] (by decide +kernel) rfl rfl trivial ?_
                                                                                                  refine E_callX (κ' := k_Model_type) (As := []) (st := []) mv_Model_type (Or.inl (tbk_mem (j := 15) (k := 55) rfl)) rfl (by decide +kernel) (Nat.le_of_ble_eq_true rfl) (Nat.le_of_ble_eq_true rfl) rfl (by decide) rfl (lk_Model_type hγ this _ _ M197 h) (fun _ _ => Qi_r) (fun _ h => h) (fun v M199 hp => Qi_k (R := fun st => E γ k_Model_codeLine 7 687 [some (vr (some (11, this))), some (vi v1), some (vi v2), some (vi r195), some (vi r198), some (vi (0 : Int32)), none] st M199 (Qx (14, 0) (Qv Q) X)) hp (fun r200 h => ?_))
                                                                                                  refine E_blk (lv' := [some (vr (some (11, this))), some (vi v1), some (vi v2), some (vi r195), some (vi r198), some (vi r200), none]) (st' := []) (M1 := M199) (pc' := 689) (tb_Model hγ) [.istore 5] (by decide +kernel) rfl rfl trivial ?_
                                                                                                  refine E_goto (off := 100) (tgt := 789) (by decide +kernel) (by decide) ?_
                                                                                                  refine E_mask [true, true, true, true, true, true, false] rfl ?_
                                                                                                  exact lk_Model_codeLine_j789 hγ this Q X v1 v2 r195 r198 r200 M199 h
                                                                                                · rw [if_neg b135] at h
                                                                                                  by_cases b136 : v2 = (49 : Int32)
                                                                                                  · rw [if_pos b136] at h
                                                                                                    refine E.up (fun _ _ hJ => J_tswI (len := 233) (dflt := 498) (lo := 1) (hi := 55) (offs := #[267, 498, 233, 233, 233, 233, 244, 498, 498, 498, 498, 498, 498, 498, 498, 498, 498, 498, 498, 498, 498, 498, 281, 281, 281, 281, 281, 281, 281, 281, 281, 281, 281, 281, 281, 281, 281, 281, 281, 289, 367, 498, 498, 498, 498, 375, 375, 375, 375, 401, 401, 401, 401, 367, 367]) (off := 375) (tgt := 666) (by decide +kernel) (by rw [b136]; decide) (by rw [b136]; decide) (by rw [b136]; rfl) (by decide) hJ) ?_
                                                                                                    refine E_blk (lv' := [some (vr (some (11, this))), some (vi v1), some (vi v2), some (vi (0 : Int32)), some (vi (0 : Int32)), some (vi (0 : Int32)), none]) (st' := [vr (some (11, this))]) (M1 := (sI M 11 this 43 ((mI M 11 this 43) + (1 : Int32)))) (pc' := 667) (tb_Model hγ) [.aload_n 0] (by decide +kernel) rfl rfl trivial ?_
                                                                                                    refine E_callX (κ' := k_Model_className) (As := []) (st := []) mv_Model_className (Or.inl (tbk_mem (j := 15) (k := 23) rfl)) rfl (by decide +kernel) (Nat.le_of_ble_eq_true rfl) (Nat.le_of_ble_eq_true rfl) rfl (by decide) rfl (lk_Model_className hγ this _ _ (sI M 11 this 43 ((mI M 11 this 43) + (1 : Int32))) h) (fun _ _ => Qi_r) (fun _ h => h) (fun v M187 hp => Qi_k (R := fun st => E γ k_Model_codeLine 7 670 [some (vr (some (11, this))), some (vi v1), some (vi v2), some (vi (0 : Int32)), some (vi (0 : Int32)), some (vi (0 : Int32)), none] st M187 (Qx (14, 0) (Qv Q) X)) hp (fun r188 h => ?_))
                                                                                                    refine E_blk (lv' := [some (vr (some (11, this))), some (vi v1), some (vi v2), some (vi r188), some (vi (0 : Int32)), some (vi (0 : Int32)), none]) (st' := [vi (46 : Int32), vr (some (11, this))]) (M1 := M187) (pc' := 674) (tb_Model hγ) [.istore_n 3, .aload_n 0, .bipush 46] (by decide +kernel) rfl rfl trivial ?_
                                                                                                    refine E_callX (κ' := k_Model_need) (As := [vi (46 : Int32)]) (st := []) mv_Model_need (Or.inl (tbk_mem (j := 15) (k := 35) rfl)) rfl (by decide +kernel) (Nat.le_of_ble_eq_true rfl) (Nat.le_of_ble_eq_true rfl) rfl (by decide) rfl (lk_Model_need hγ this (46 : Int32) _ _ M187 h) (fun _ _ => Qv_r) (fun _ h => h) (fun v M189 hp => Qv_k (R := fun st => E γ k_Model_codeLine 7 677 [some (vr (some (11, this))), some (vi v1), some (vi v2), some (vi r188), some (vi (0 : Int32)), some (vi (0 : Int32)), none] st M189 (Qx (14, 0) (Qv Q) X)) hp (fun h => ?_))
                                                                                                    refine E_blk (lv' := [some (vr (some (11, this))), some (vi v1), some (vi v2), some (vi r188), some (vi (0 : Int32)), some (vi (0 : Int32)), none]) (st' := [vr (some (11, this))]) (M1 := M189) (pc' := 678) (tb_Model hγ) [.aload_n 0] (by decide +kernel) rfl rfl trivial ?_
                                                                                                    refine E_callX (κ' := k_Model_plainName) (As := []) (st := []) mv_Model_plainName (Or.inl (tbk_mem (j := 15) (k := 31) rfl)) rfl (by decide +kernel) (Nat.le_of_ble_eq_true rfl) (Nat.le_of_ble_eq_true rfl) rfl (by decide) rfl (lk_Model_plainName hγ this _ _ M189 h) (fun _ _ => Qi_r) (fun _ h => h) (fun v M190 hp => Qi_k (R := fun st => E γ k_Model_codeLine 7 681 [some (vr (some (11, this))), some (vi v1), some (vi v2), some (vi r188), some (vi (0 : Int32)), some (vi (0 : Int32)), none] st M190 (Qx (14, 0) (Qv Q) X)) hp (fun r191 h => ?_))
                                                                                                    refine E_blk (lv' := [some (vr (some (11, this))), some (vi v1), some (vi v2), some (vi r188), some (vi r191), some (vi (0 : Int32)), none]) (st' := [vr (some (11, this))]) (M1 := M190) (pc' := 684) (tb_Model hγ) [.istore 4, .aload_n 0] (by decide +kernel) rfl rfl trivial ?_
                                                                                                    refine E_callX (κ' := k_Model_type) (As := []) (st := []) mv_Model_type (Or.inl (tbk_mem (j := 15) (k := 55) rfl)) rfl (by decide +kernel) (Nat.le_of_ble_eq_true rfl) (Nat.le_of_ble_eq_true rfl) rfl (by decide) rfl (lk_Model_type hγ this _ _ M190 h) (fun _ _ => Qi_r) (fun _ h => h) (fun v M192 hp => Qi_k (R := fun st => E γ k_Model_codeLine 7 687 [some (vr (some (11, this))), some (vi v1), some (vi v2), some (vi r188), some (vi r191), some (vi (0 : Int32)), none] st M192 (Qx (14, 0) (Qv Q) X)) hp (fun r193 h => ?_))
                                                                                                    refine E_blk (lv' := [some (vr (some (11, this))), some (vi v1), some (vi v2), some (vi r188), some (vi r191), some (vi r193), none]) (st' := []) (M1 := M192) (pc' := 689) (tb_Model hγ) [.istore 5] (by decide +kernel) rfl rfl trivial ?_
                                                                                                    refine E_goto (off := 100) (tgt := 789) (by decide +kernel) (by decide) ?_
                                                                                                    refine E_mask [true, true, true, true, true, true, false] rfl ?_
                                                                                                    exact lk_Model_codeLine_j789 hγ this Q X v1 v2 r188 r191 r193 M192 h
                                                                                                  · rw [if_neg b136] at h
                                                                                                    by_cases b137 : v2 = (50 : Int32)
                                                                                                    · rw [if_pos b137] at h
                                                                                                      refine E.up (fun _ _ hJ => J_tswI (len := 233) (dflt := 498) (lo := 1) (hi := 55) (offs := #[267, 498, 233, 233, 233, 233, 244, 498, 498, 498, 498, 498, 498, 498, 498, 498, 498, 498, 498, 498, 498, 498, 281, 281, 281, 281, 281, 281, 281, 281, 281, 281, 281, 281, 281, 281, 281, 281, 281, 289, 367, 498, 498, 498, 498, 375, 375, 375, 375, 401, 401, 401, 401, 367, 367]) (off := 401) (tgt := 692) (by decide +kernel) (by rw [b137]; decide) (by rw [b137]; decide) (by rw [b137]; rfl) (by decide) hJ) ?_
                                                                                                      refine E_blk (lv' := [some (vr (some (11, this))), some (vi v1), some (vi v2), some (vi (0 : Int32)), some (vi (0 : Int32)), some (vi (0 : Int32)), none]) (st' := [vr (some (11, this))]) (M1 := (sI M 11 this 43 ((mI M 11 this 43) + (1 : Int32)))) (pc' := 693) (tb_Model hγ) [.aload_n 0] (by decide +kernel) rfl rfl trivial ?_
                                                                                                      refine E_callX (κ' := k_Model_className) (As := []) (st := []) mv_Model_className (Or.inl (tbk_mem (j := 15) (k := 23) rfl)) rfl (by decide +kernel) (Nat.le_of_ble_eq_true rfl) (Nat.le_of_ble_eq_true rfl) rfl (by decide) rfl (lk_Model_className hγ this _ _ (sI M 11 this 43 ((mI M 11 this 43) + (1 : Int32))) h) (fun _ _ => Qi_r) (fun _ h => h) (fun v M179 hp => Qi_k (R := fun st => E γ k_Model_codeLine 7 696 [some (vr (some (11, this))), some (vi v1), some (vi v2), some (vi (0 : Int32)), some (vi (0 : Int32)), some (vi (0 : Int32)), none] st M179 (Qx (14, 0) (Qv Q) X)) hp (fun r180 h => ?_))
                                                                                                      refine E_blk (lv' := [some (vr (some (11, this))), some (vi v1), some (vi v2), some (vi r180), some (vi (0 : Int32)), some (vi (0 : Int32)), none]) (st' := [vi (46 : Int32), vr (some (11, this))]) (M1 := M179) (pc' := 700) (tb_Model hγ) [.istore_n 3, .aload_n 0, .bipush 46] (by decide +kernel) rfl rfl trivial ?_
                                                                                                      refine E_callX (κ' := k_Model_need) (As := [vi (46 : Int32)]) (st := []) mv_Model_need (Or.inl (tbk_mem (j := 15) (k := 35) rfl)) rfl (by decide +kernel) (Nat.le_of_ble_eq_true rfl) (Nat.le_of_ble_eq_true rfl) rfl (by decide) rfl (lk_Model_need hγ this (46 : Int32) _ _ M179 h) (fun _ _ => Qv_r) (fun _ h => h) (fun v M181 hp => Qv_k (R := fun st => E γ k_Model_codeLine 7 703 [some (vr (some (11, this))), some (vi v1), some (vi v2), some (vi r180), some (vi (0 : Int32)), some (vi (0 : Int32)), none] st M181 (Qx (14, 0) (Qv Q) X)) hp (fun h => ?_))
                                                                                                      obtain ⟨c182, h⟩ := h
                                                                                                      refine E_blk (lv' := [some (vr (some (11, this))), some (vi v1), some (vi v2), some (vi r180), some (vi (0 : Int32)), some (vi (0 : Int32)), none]) (st' := [vi (3 : Int32), vi (mI M181 411 this (mI M181 11 this 43).toNatClampNeg)]) (M1 := M181) (pc' := 713) (tb_Model hγ) [.aload_n 0, .getfield 92, .aload_n 0, .getfield 104, .baload, .iconst 3] (by decide +kernel) rfl rfl ⟨c182, trivial⟩ ?_
                                                                                                      refine E_icmp_ne (off := 38) (tgt := 751) (by decide +kernel) (by decide) (fun b183 => ?_) (fun b183 => ?_)
                                                                                                      · rw [if_pos b183] at h
                                                                                                        obtain ⟨c184, h⟩ := h
                                                                                                        refine E_blk (lv' := [some (vr (some (11, this))), some (vi v1), some (vi v2), some (vi r180), some (vi (0 : Int32)), some (vi (0 : Int32)), none]) (st' := [vi (mI M181 11 this 6), vi (mI M181 107 this (mI M181 11 this 43).toNatClampNeg)]) (M1 := M181) (pc' := 729) (tb_Model hγ) [.aload_n 0, .getfield 98, .aload_n 0, .getfield 104, .iaload, .aload_n 0, .getfield 121] (by decide +kernel) rfl rfl ⟨c184, trivial⟩ ?_
                                                                                                        refine E_icmp_ne (off := 22) (tgt := 751) (by decide +kernel) (by decide) (fun b185 => ?_) (fun b185 => ?_)
                                                                                                        · rw [if_pos b185] at h
                                                                                                          refine E_blk (lv' := [some (vr (some (11, this))), some (vi v1), some (vi v2), some (vi r180), some (vi (mI (sI M181 11 this 43 ((mI M181 11 this 43) + (1 : Int32))) 11 this 6)), some (vi (0 : Int32)), none]) (st' := []) (M1 := (sI M181 11 this 43 ((mI M181 11 this 43) + (1 : Int32)))) (pc' := 748) (tb_Model hγ) [.aload_n 0, .dup, .getfield 104, .iconst 1, .iadd, .putfield 104, .aload_n 0, .getfield 121, .istore 4] (by decide +kernel) rfl rfl trivial ?_
                                                                                                          obtain ⟨x186, ex186, h⟩ := h
                                                                                                          rw [← ex186]
                                                                                                          refine E_goto (off := 9) (tgt := 757) (by decide +kernel) (by decide) ?_
                                                                                                          refine E_mask [true, true, true, true, true, false, false] rfl ?_
                                                                                                          exact lk_Model_codeLine_j757 hγ this Q X v1 v2 r180 x186 (sI M181 11 this 43 ((mI M181 11 this 43) + (1 : Int32))) h
                                                                                                        · rw [if_neg b185] at h
                                                                                                          refine E_mask [true, true, true, true, false, false, false] rfl ?_
                                                                                                          exact lk_Model_codeLine_j751 hγ this Q X v1 v2 r180 M181 h
                                                                                                      · rw [if_neg b183] at h
                                                                                                        refine E_mask [true, true, true, true, false, false, false] rfl ?_
                                                                                                        exact lk_Model_codeLine_j751 hγ this Q X v1 v2 r180 M181 h
                                                                                                    · rw [if_neg b137] at h
                                                                                                      by_cases b138 : v2 = (51 : Int32)
                                                                                                      · rw [if_pos b138] at h
                                                                                                        refine E.up (fun _ _ hJ => J_tswI (len := 233) (dflt := 498) (lo := 1) (hi := 55) (offs := #[267, 498, 233, 233, 233, 233, 244, 498, 498, 498, 498, 498, 498, 498, 498, 498, 498, 498, 498, 498, 498, 498, 281, 281, 281, 281, 281, 281, 281, 281, 281, 281, 281, 281, 281, 281, 281, 281, 281, 289, 367, 498, 498, 498, 498, 375, 375, 375, 375, 401, 401, 401, 401, 367, 367]) (off := 401) (tgt := 692) (by decide +kernel) (by rw [b138]; decide) (by rw [b138]; decide) (by rw [b138]; rfl) (by decide) hJ) ?_
                                                                                                        refine E_blk (lv' := [some (vr (some (11, this))), some (vi v1), some (vi v2), some (vi (0 : Int32)), some (vi (0 : Int32)), some (vi (0 : Int32)), none]) (st' := [vr (some (11, this))]) (M1 := (sI M 11 this 43 ((mI M 11 this 43) + (1 : Int32)))) (pc' := 693) (tb_Model hγ) [.aload_n 0] (by decide +kernel) rfl rfl trivial ?_
                                                                                                        refine E_callX (κ' := k_Model_className) (As := []) (st := []) mv_Model_className (Or.inl (tbk_mem (j := 15) (k := 23) rfl)) rfl (by decide +kernel) (Nat.le_of_ble_eq_true rfl) (Nat.le_of_ble_eq_true rfl) rfl (by decide) rfl (lk_Model_className hγ this _ _ (sI M 11 this 43 ((mI M 11 this 43) + (1 : Int32))) h) (fun _ _ => Qi_r) (fun _ h => h) (fun v M171 hp => Qi_k (R := fun st => E γ k_Model_codeLine 7 696 [some (vr (some (11, this))), some (vi v1), some (vi v2), some (vi (0 : Int32)), some (vi (0 : Int32)), some (vi (0 : Int32)), none] st M171 (Qx (14, 0) (Qv Q) X)) hp (fun r172 h => ?_))
                                                                                                        refine E_blk (lv' := [some (vr (some (11, this))), some (vi v1), some (vi v2), some (vi r172), some (vi (0 : Int32)), some (vi (0 : Int32)), none]) (st' := [vi (46 : Int32), vr (some (11, this))]) (M1 := M171) (pc' := 700) (tb_Model hγ) [.istore_n 3, .aload_n 0, .bipush 46] (by decide +kernel) rfl rfl trivial ?_
                                                                                                        refine E_callX (κ' := k_Model_need) (As := [vi (46 : Int32)]) (st := []) mv_Model_need (Or.inl (tbk_mem (j := 15) (k := 35) rfl)) rfl (by decide +kernel) (Nat.le_of_ble_eq_true rfl) (Nat.le_of_ble_eq_true rfl) rfl (by decide) rfl (lk_Model_need hγ this (46 : Int32) _ _ M171 h) (fun _ _ => Qv_r) (fun _ h => h) (fun v M173 hp => Qv_k (R := fun st => E γ k_Model_codeLine 7 703 [some (vr (some (11, this))), some (vi v1), some (vi v2), some (vi r172), some (vi (0 : Int32)), some (vi (0 : Int32)), none] st M173 (Qx (14, 0) (Qv Q) X)) hp (fun h => ?_))
                                                                                                        obtain ⟨c174, h⟩ := h
                                                                                                        refine E_blk (lv' := [some (vr (some (11, this))), some (vi v1), some (vi v2), some (vi r172), some (vi (0 : Int32)), some (vi (0 : Int32)), none]) (st' := [vi (3 : Int32), vi (mI M173 411 this (mI M173 11 this 43).toNatClampNeg)]) (M1 := M173) (pc' := 713) (tb_Model hγ) [.aload_n 0, .getfield 92, .aload_n 0, .getfield 104, .baload, .iconst 3] (by decide +kernel) rfl rfl ⟨c174, trivial⟩ ?_
                                                                                                        refine E_icmp_ne (off := 38) (tgt := 751) (by decide +kernel) (by decide) (fun b175 => ?_) (fun b175 => ?_)
                                                                                                        · rw [if_pos b175] at h
                                                                                                          obtain ⟨c176, h⟩ := h
                                                                                                          refine E_blk (lv' := [some (vr (some (11, this))), some (vi v1), some (vi v2), some (vi r172), some (vi (0 : Int32)), some (vi (0 : Int32)), none]) (st' := [vi (mI M173 11 this 6), vi (mI M173 107 this (mI M173 11 this 43).toNatClampNeg)]) (M1 := M173) (pc' := 729) (tb_Model hγ) [.aload_n 0, .getfield 98, .aload_n 0, .getfield 104, .iaload, .aload_n 0, .getfield 121] (by decide +kernel) rfl rfl ⟨c176, trivial⟩ ?_
                                                                                                          refine E_icmp_ne (off := 22) (tgt := 751) (by decide +kernel) (by decide) (fun b177 => ?_) (fun b177 => ?_)
                                                                                                          · rw [if_pos b177] at h
                                                                                                            refine E_blk (lv' := [some (vr (some (11, this))), some (vi v1), some (vi v2), some (vi r172), some (vi (mI (sI M173 11 this 43 ((mI M173 11 this 43) + (1 : Int32))) 11 this 6)), some (vi (0 : Int32)), none]) (st' := []) (M1 := (sI M173 11 this 43 ((mI M173 11 this 43) + (1 : Int32)))) (pc' := 748) (tb_Model hγ) [.aload_n 0, .dup, .getfield 104, .iconst 1, .iadd, .putfield 104, .aload_n 0, .getfield 121, .istore 4] (by decide +kernel) rfl rfl trivial ?_
                                                                                                            obtain ⟨x178, ex178, h⟩ := h
                                                                                                            rw [← ex178]
                                                                                                            refine E_goto (off := 9) (tgt := 757) (by decide +kernel) (by decide) ?_
                                                                                                            refine E_mask [true, true, true, true, true, false, false] rfl ?_
                                                                                                            exact lk_Model_codeLine_j757 hγ this Q X v1 v2 r172 x178 (sI M173 11 this 43 ((mI M173 11 this 43) + (1 : Int32))) h
                                                                                                          · rw [if_neg b177] at h
                                                                                                            refine E_mask [true, true, true, true, false, false, false] rfl ?_
                                                                                                            exact lk_Model_codeLine_j751 hγ this Q X v1 v2 r172 M173 h
                                                                                                        · rw [if_neg b175] at h
                                                                                                          refine E_mask [true, true, true, true, false, false, false] rfl ?_
                                                                                                          exact lk_Model_codeLine_j751 hγ this Q X v1 v2 r172 M173 h
                                                                                                      · rw [if_neg b138] at h
                                                                                                        by_cases b139 : v2 = (52 : Int32)
                                                                                                        · rw [if_pos b139] at h
                                                                                                          refine E.up (fun _ _ hJ => J_tswI (len := 233) (dflt := 498) (lo := 1) (hi := 55) (offs := #[267, 498, 233, 233, 233, 233, 244, 498, 498, 498, 498, 498, 498, 498, 498, 498, 498, 498, 498, 498, 498, 498, 281, 281, 281, 281, 281, 281, 281, 281, 281, 281, 281, 281, 281, 281, 281, 281, 281, 289, 367, 498, 498, 498, 498, 375, 375, 375, 375, 401, 401, 401, 401, 367, 367]) (off := 401) (tgt := 692) (by decide +kernel) (by rw [b139]; decide) (by rw [b139]; decide) (by rw [b139]; rfl) (by decide) hJ) ?_
                                                                                                          refine E_blk (lv' := [some (vr (some (11, this))), some (vi v1), some (vi v2), some (vi (0 : Int32)), some (vi (0 : Int32)), some (vi (0 : Int32)), none]) (st' := [vr (some (11, this))]) (M1 := (sI M 11 this 43 ((mI M 11 this 43) + (1 : Int32)))) (pc' := 693) (tb_Model hγ) [.aload_n 0] (by decide +kernel) rfl rfl trivial ?_
                                                                                                          refine E_callX (κ' := k_Model_className) (As := []) (st := []) mv_Model_className (Or.inl (tbk_mem (j := 15) (k := 23) rfl)) rfl (by decide +kernel) (Nat.le_of_ble_eq_true rfl) (Nat.le_of_ble_eq_true rfl) rfl (by decide) rfl (lk_Model_className hγ this _ _ (sI M 11 this 43 ((mI M 11 this 43) + (1 : Int32))) h) (fun _ _ => Qi_r) (fun _ h => h) (fun v M163 hp => Qi_k (R := fun st => E γ k_Model_codeLine 7 696 [some (vr (some (11, this))), some (vi v1), some (vi v2), some (vi (0 : Int32)), some (vi (0 : Int32)), some (vi (0 : Int32)), none] st M163 (Qx (14, 0) (Qv Q) X)) hp (fun r164 h => ?_))
                                                                                                          refine E_blk (lv' := [some (vr (some (11, this))), some (vi v1), some (vi v2), some (vi r164), some (vi (0 : Int32)), some (vi (0 : Int32)), none]) (st' := [vi (46 : Int32), vr (some (11, this))]) (M1 := M163) (pc' := 700) (tb_Model hγ) [.istore_n 3, .aload_n 0, .bipush 46] (by decide +kernel) rfl rfl trivial ?_
                                                                                                          refine E_callX (κ' := k_Model_need) (As := [vi (46 : Int32)]) (st := []) mv_Model_need (Or.inl (tbk_mem (j := 15) (k := 35) rfl)) rfl (by decide +kernel) (Nat.le_of_ble_eq_true rfl) (Nat.le_of_ble_eq_true rfl) rfl (by decide) rfl (lk_Model_need hγ this (46 : Int32) _ _ M163 h) (fun _ _ => Qv_r) (fun _ h => h) (fun v M165 hp => Qv_k (R := fun st => E γ k_Model_codeLine 7 703 [some (vr (some (11, this))), some (vi v1), some (vi v2), some (vi r164), some (vi (0 : Int32)), some (vi (0 : Int32)), none] st M165 (Qx (14, 0) (Qv Q) X)) hp (fun h => ?_))
                                                                                                          obtain ⟨c166, h⟩ := h
                                                                                                          refine E_blk (lv' := [some (vr (some (11, this))), some (vi v1), some (vi v2), some (vi r164), some (vi (0 : Int32)), some (vi (0 : Int32)), none]) (st' := [vi (3 : Int32), vi (mI M165 411 this (mI M165 11 this 43).toNatClampNeg)]) (M1 := M165) (pc' := 713) (tb_Model hγ) [.aload_n 0, .getfield 92, .aload_n 0, .getfield 104, .baload, .iconst 3] (by decide +kernel) rfl rfl ⟨c166, trivial⟩ ?_
                                                                                                          refine E_icmp_ne (off := 38) (tgt := 751) (by decide +kernel) (by decide) (fun b167 => ?_) (fun b167 => ?_)
                                                                                                          · rw [if_pos b167] at h
                                                                                                            obtain ⟨c168, h⟩ := h
                                                                                                            refine E_blk (lv' := [some (vr (some (11, this))), some (vi v1), some (vi v2), some (vi r164), some (vi (0 : Int32)), some (vi (0 : Int32)), none]) (st' := [vi (mI M165 11 this 6), vi (mI M165 107 this (mI M165 11 this 43).toNatClampNeg)]) (M1 := M165) (pc' := 729) (tb_Model hγ) [.aload_n 0, .getfield 98, .aload_n 0, .getfield 104, .iaload, .aload_n 0, .getfield 121] (by decide +kernel) rfl rfl ⟨c168, trivial⟩ ?_
                                                                                                            refine E_icmp_ne (off := 22) (tgt := 751) (by decide +kernel) (by decide) (fun b169 => ?_) (fun b169 => ?_)
                                                                                                            · rw [if_pos b169] at h
                                                                                                              refine E_blk (lv' := [some (vr (some (11, this))), some (vi v1), some (vi v2), some (vi r164), some (vi (mI (sI M165 11 this 43 ((mI M165 11 this 43) + (1 : Int32))) 11 this 6)), some (vi (0 : Int32)), none]) (st' := []) (M1 := (sI M165 11 this 43 ((mI M165 11 this 43) + (1 : Int32)))) (pc' := 748) (tb_Model hγ) [.aload_n 0, .dup, .getfield 104, .iconst 1, .iadd, .putfield 104, .aload_n 0, .getfield 121, .istore 4] (by decide +kernel) rfl rfl trivial ?_
                                                                                                              obtain ⟨x170, ex170, h⟩ := h
                                                                                                              rw [← ex170]
                                                                                                              refine E_goto (off := 9) (tgt := 757) (by decide +kernel) (by decide) ?_
                                                                                                              refine E_mask [true, true, true, true, true, false, false] rfl ?_
                                                                                                              exact lk_Model_codeLine_j757 hγ this Q X v1 v2 r164 x170 (sI M165 11 this 43 ((mI M165 11 this 43) + (1 : Int32))) h
                                                                                                            · rw [if_neg b169] at h
                                                                                                              refine E_mask [true, true, true, true, false, false, false] rfl ?_
                                                                                                              exact lk_Model_codeLine_j751 hγ this Q X v1 v2 r164 M165 h
                                                                                                          · rw [if_neg b167] at h
                                                                                                            refine E_mask [true, true, true, true, false, false, false] rfl ?_
                                                                                                            exact lk_Model_codeLine_j751 hγ this Q X v1 v2 r164 M165 h
                                                                                                        · rw [if_neg b139] at h
                                                                                                          by_cases b140 : v2 = (53 : Int32)
                                                                                                          · rw [if_pos b140] at h
                                                                                                            refine E.up (fun _ _ hJ => J_tswI (len := 233) (dflt := 498) (lo := 1) (hi := 55) (offs := #[267, 498, 233, 233, 233, 233, 244, 498, 498, 498, 498, 498, 498, 498, 498, 498, 498, 498, 498, 498, 498, 498, 281, 281, 281, 281, 281, 281, 281, 281, 281, 281, 281, 281, 281, 281, 281, 281, 281, 289, 367, 498, 498, 498, 498, 375, 375, 375, 375, 401, 401, 401, 401, 367, 367]) (off := 401) (tgt := 692) (by decide +kernel) (by rw [b140]; decide) (by rw [b140]; decide) (by rw [b140]; rfl) (by decide) hJ) ?_
                                                                                                            refine E_blk (lv' := [some (vr (some (11, this))), some (vi v1), some (vi v2), some (vi (0 : Int32)), some (vi (0 : Int32)), some (vi (0 : Int32)), none]) (st' := [vr (some (11, this))]) (M1 := (sI M 11 this 43 ((mI M 11 this 43) + (1 : Int32)))) (pc' := 693) (tb_Model hγ) [.aload_n 0] (by decide +kernel) rfl rfl trivial ?_
                                                                                                            refine E_callX (κ' := k_Model_className) (As := []) (st := []) mv_Model_className (Or.inl (tbk_mem (j := 15) (k := 23) rfl)) rfl (by decide +kernel) (Nat.le_of_ble_eq_true rfl) (Nat.le_of_ble_eq_true rfl) rfl (by decide) rfl (lk_Model_className hγ this _ _ (sI M 11 this 43 ((mI M 11 this 43) + (1 : Int32))) h) (fun _ _ => Qi_r) (fun _ h => h) (fun v M147 hp => Qi_k (R := fun st => E γ k_Model_codeLine 7 696 [some (vr (some (11, this))), some (vi v1), some (vi v2), some (vi (0 : Int32)), some (vi (0 : Int32)), some (vi (0 : Int32)), none] st M147 (Qx (14, 0) (Qv Q) X)) hp (fun r148 h => ?_))
                                                                                                            refine E_blk (lv' := [some (vr (some (11, this))), some (vi v1), some (vi v2), some (vi r148), some (vi (0 : Int32)), some (vi (0 : Int32)), none]) (st' := [vi (46 : Int32), vr (some (11, this))]) (M1 := M147) (pc' := 700) (tb_Model hγ) [.istore_n 3, .aload_n 0, .bipush 46] (by decide +kernel) rfl rfl trivial ?_
                                                                                                            refine E_callX (κ' := k_Model_need) (As := [vi (46 : Int32)]) (st := []) mv_Model_need (Or.inl (tbk_mem (j := 15) (k := 35) rfl)) rfl (by decide +kernel) (Nat.le_of_ble_eq_true rfl) (Nat.le_of_ble_eq_true rfl) rfl (by decide) rfl (lk_Model_need hγ this (46 : Int32) _ _ M147 h) (fun _ _ => Qv_r) (fun _ h => h) (fun v M149 hp => Qv_k (R := fun st => E γ k_Model_codeLine 7 703 [some (vr (some (11, this))), some (vi v1), some (vi v2), some (vi r148), some (vi (0 : Int32)), some (vi (0 : Int32)), none] st M149 (Qx (14, 0) (Qv Q) X)) hp (fun h => ?_))
                                                                                                            obtain ⟨c150, h⟩ := h
                                                                                                            refine E_blk (lv' := [some (vr (some (11, this))), some (vi v1), some (vi v2), some (vi r148), some (vi (0 : Int32)), some (vi (0 : Int32)), none]) (st' := [vi (3 : Int32), vi (mI M149 411 this (mI M149 11 this 43).toNatClampNeg)]) (M1 := M149) (pc' := 713) (tb_Model hγ) [.aload_n 0, .getfield 92, .aload_n 0, .getfield 104, .baload, .iconst 3] (by decide +kernel) rfl rfl ⟨c150, trivial⟩ ?_
                                                                                                            refine E_icmp_ne (off := 38) (tgt := 751) (by decide +kernel) (by decide) (fun b151 => ?_) (fun b151 => ?_)
                                                                                                            · rw [if_pos b151] at h
                                                                                                              obtain ⟨c152, h⟩ := h
                                                                                                              refine E_blk (lv' := [some (vr (some (11, this))), some (vi v1), some (vi v2), some (vi r148), some (vi (0 : Int32)), some (vi (0 : Int32)), none]) (st' := [vi (mI M149 11 this 6), vi (mI M149 107 this (mI M149 11 this 43).toNatClampNeg)]) (M1 := M149) (pc' := 729) (tb_Model hγ) [.aload_n 0, .getfield 98, .aload_n 0, .getfield 104, .iaload, .aload_n 0, .getfield 121] (by decide +kernel) rfl rfl ⟨c152, trivial⟩ ?_
                                                                                                              refine E_icmp_ne (off := 22) (tgt := 751) (by decide +kernel) (by decide) (fun b153 => ?_) (fun b153 => ?_)
                                                                                                              · rw [if_pos b153] at h
                                                                                                                refine E_blk (lv' := [some (vr (some (11, this))), some (vi v1), some (vi v2), some (vi r148), some (vi (mI (sI M149 11 this 43 ((mI M149 11 this 43) + (1 : Int32))) 11 this 6)), some (vi (0 : Int32)), none]) (st' := []) (M1 := (sI M149 11 this 43 ((mI M149 11 this 43) + (1 : Int32)))) (pc' := 748) (tb_Model hγ) [.aload_n 0, .dup, .getfield 104, .iconst 1, .iadd, .putfield 104, .aload_n 0, .getfield 121, .istore 4] (by decide +kernel) rfl rfl trivial ?_
                                                                                                                obtain ⟨x154, ex154, h⟩ := h
                                                                                                                rw [← ex154]
                                                                                                                refine E_goto (off := 9) (tgt := 757) (by decide +kernel) (by decide) ?_
                                                                                                                refine E_mask [true, true, true, true, true, false, false] rfl ?_
                                                                                                                exact lk_Model_codeLine_j757 hγ this Q X v1 v2 r148 x154 (sI M149 11 this 43 ((mI M149 11 this 43) + (1 : Int32))) h
                                                                                                              · rw [if_neg b153] at h
                                                                                                                refine E_mask [true, true, true, true, false, false, false] rfl ?_
                                                                                                                exact lk_Model_codeLine_j751 hγ this Q X v1 v2 r148 M149 h
                                                                                                            · rw [if_neg b151] at h
                                                                                                              refine E_mask [true, true, true, true, false, false, false] rfl ?_
                                                                                                              exact lk_Model_codeLine_j751 hγ this Q X v1 v2 r148 M149 h
                                                                                                          · rw [if_neg b140] at h
                                                                                                            by_cases b141 : v2 = (54 : Int32)
                                                                                                            · rw [if_pos b141] at h
                                                                                                              refine E.up (fun _ _ hJ => J_tswI (len := 233) (dflt := 498) (lo := 1) (hi := 55) (offs := #[267, 498, 233, 233, 233, 233, 244, 498, 498, 498, 498, 498, 498, 498, 498, 498, 498, 498, 498, 498, 498, 498, 281, 281, 281, 281, 281, 281, 281, 281, 281, 281, 281, 281, 281, 281, 281, 281, 281, 289, 367, 498, 498, 498, 498, 375, 375, 375, 375, 401, 401, 401, 401, 367, 367]) (off := 367) (tgt := 658) (by decide +kernel) (by rw [b141]; decide) (by rw [b141]; decide) (by rw [b141]; rfl) (by decide) hJ) ?_
                                                                                                              refine E_blk (lv' := [some (vr (some (11, this))), some (vi v1), some (vi v2), some (vi (0 : Int32)), some (vi (0 : Int32)), some (vi (0 : Int32)), none]) (st' := [vr (some (11, this))]) (M1 := (sI M 11 this 43 ((mI M 11 this 43) + (1 : Int32)))) (pc' := 659) (tb_Model hγ) [.aload_n 0] (by decide +kernel) rfl rfl trivial ?_
                                                                                                              refine E_callX (κ' := k_Model_className) (As := []) (st := []) mv_Model_className (Or.inl (tbk_mem (j := 15) (k := 23) rfl)) rfl (by decide +kernel) (Nat.le_of_ble_eq_true rfl) (Nat.le_of_ble_eq_true rfl) rfl (by decide) rfl (lk_Model_className hγ this _ _ (sI M 11 this 43 ((mI M 11 this 43) + (1 : Int32))) h) (fun _ _ => Qi_r) (fun _ h => h) (fun v M145 hp => Qi_k (R := fun st => E γ k_Model_codeLine 7 662 [some (vr (some (11, this))), some (vi v1), some (vi v2), some (vi (0 : Int32)), some (vi (0 : Int32)), some (vi (0 : Int32)), none] st M145 (Qx (14, 0) (Qv Q) X)) hp (fun r146 h => ?_))
                                                                                                              refine E_blk (lv' := [some (vr (some (11, this))), some (vi v1), some (vi v2), some (vi r146), some (vi (0 : Int32)), some (vi (0 : Int32)), none]) (st' := []) (M1 := M145) (pc' := 663) (tb_Model hγ) [.istore_n 3] (by decide +kernel) rfl rfl trivial ?_
                                                                                                              refine E_goto (off := 126) (tgt := 789) (by decide +kernel) (by decide) ?_
                                                                                                              refine E_mask [true, true, true, true, true, true, false] rfl ?_
                                                                                                              exact lk_Model_codeLine_j789 hγ this Q X v1 v2 r146 (0 : Int32) (0 : Int32) M145 h
                                                                                                            · rw [if_neg b141] at h
                                                                                                              by_cases b142 : v2 = (55 : Int32)
                                                                                                              · rw [if_pos b142] at h
                                                                                                                refine E.up (fun _ _ hJ => J_tswI (len := 233) (dflt := 498) (lo := 1) (hi := 55) (offs := #[267, 498, 233, 233, 233, 233, 244, 498, 498, 498, 498, 498, 498, 498, 498, 498, 498, 498, 498, 498, 498, 498, 281, 281, 281, 281, 281, 281, 281, 281, 281, 281, 281, 281, 281, 281, 281, 281, 281, 289, 367, 498, 498, 498, 498, 375, 375, 375, 375, 401, 401, 401, 401, 367, 367]) (off := 367) (tgt := 658) (by decide +kernel) (by rw [b142]; decide) (by rw [b142]; decide) (by rw [b142]; rfl) (by decide) hJ) ?_
                                                                                                                refine E_blk (lv' := [some (vr (some (11, this))), some (vi v1), some (vi v2), some (vi (0 : Int32)), some (vi (0 : Int32)), some (vi (0 : Int32)), none]) (st' := [vr (some (11, this))]) (M1 := (sI M 11 this 43 ((mI M 11 this 43) + (1 : Int32)))) (pc' := 659) (tb_Model hγ) [.aload_n 0] (by decide +kernel) rfl rfl trivial ?_
                                                                                                                refine E_callX (κ' := k_Model_className) (As := []) (st := []) mv_Model_className (Or.inl (tbk_mem (j := 15) (k := 23) rfl)) rfl (by decide +kernel) (Nat.le_of_ble_eq_true rfl) (Nat.le_of_ble_eq_true rfl) rfl (by decide) rfl (lk_Model_className hγ this _ _ (sI M 11 this 43 ((mI M 11 this 43) + (1 : Int32))) h) (fun _ _ => Qi_r) (fun _ h => h) (fun v M143 hp => Qi_k (R := fun st => E γ k_Model_codeLine 7 662 [some (vr (some (11, this))), some (vi v1), some (vi v2), some (vi (0 : Int32)), some (vi (0 : Int32)), some (vi (0 : Int32)), none] st M143 (Qx (14, 0) (Qv Q) X)) hp (fun r144 h => ?_))
                                                                                                                refine E_blk (lv' := [some (vr (some (11, this))), some (vi v1), some (vi v2), some (vi r144), some (vi (0 : Int32)), some (vi (0 : Int32)), none]) (st' := []) (M1 := M143) (pc' := 663) (tb_Model hγ) [.istore_n 3] (by decide +kernel) rfl rfl trivial ?_
                                                                                                                refine E_goto (off := 126) (tgt := 789) (by decide +kernel) (by decide) ?_
                                                                                                                refine E_mask [true, true, true, true, true, true, false] rfl ?_
                                                                                                                exact lk_Model_codeLine_j789 hγ this Q X v1 v2 r144 (0 : Int32) (0 : Int32) M143 h
                                                                                                              · rw [if_neg b142] at h
                                                                                                                refine E.up (fun _ _ hJ => J_tswO (len := 233) (dflt := 498) (lo := 1) (hi := 55) (offs := #[267, 498, 233, 233, 233, 233, 244, 498, 498, 498, 498, 498, 498, 498, 498, 498, 498, 498, 498, 498, 498, 498, 281, 281, 281, 281, 281, 281, 281, 281, 281, 281, 281, 281, 281, 281, 281, 281, 281, 289, 367, 498, 498, 498, 498, 375, 375, 375, 375, 401, 401, 401, 401, 367, 367]) (tgt := 789) (by decide +kernel) ?_ (by decide) hJ) ?_
                                                                                                                · have q := sw0 (x := v2) 1
                                                                                                                  replace q : (v2).toInt < 1 ∨ 2 ≤ (v2).toInt := sw1 q b88 rfl rfl
                                                                                                                  replace q : (v2).toInt < 1 ∨ 3 ≤ (v2).toInt := sw1 q b89 rfl rfl
                                                                                                                  replace q : (v2).toInt < 1 ∨ 4 ≤ (v2).toInt := sw1 q b90 rfl rfl
                                                                                                                  replace q : (v2).toInt < 1 ∨ 5 ≤ (v2).toInt := sw1 q b91 rfl rfl
                                                                                                                  replace q : (v2).toInt < 1 ∨ 6 ≤ (v2).toInt := sw1 q b92 rfl rfl
                                                                                                                  replace q : (v2).toInt < 1 ∨ 7 ≤ (v2).toInt := sw1 q b93 rfl rfl
                                                                                                                  replace q : (v2).toInt < 1 ∨ 8 ≤ (v2).toInt := sw1 q b94 rfl rfl
                                                                                                                  replace q : (v2).toInt < 1 ∨ 9 ≤ (v2).toInt := sw1 q b95 rfl rfl
                                                                                                                  replace q : (v2).toInt < 1 ∨ 10 ≤ (v2).toInt := sw1 q b96 rfl rfl
                                                                                                                  replace q : (v2).toInt < 1 ∨ 11 ≤ (v2).toInt := sw1 q b97 rfl rfl
                                                                                                                  replace q : (v2).toInt < 1 ∨ 12 ≤ (v2).toInt := sw1 q b98 rfl rfl
                                                                                                                  replace q : (v2).toInt < 1 ∨ 13 ≤ (v2).toInt := sw1 q b99 rfl rfl
                                                                                                                  replace q : (v2).toInt < 1 ∨ 14 ≤ (v2).toInt := sw1 q b100 rfl rfl
                                                                                                                  replace q : (v2).toInt < 1 ∨ 15 ≤ (v2).toInt := sw1 q b101 rfl rfl
                                                                                                                  replace q : (v2).toInt < 1 ∨ 16 ≤ (v2).toInt := sw1 q b102 rfl rfl
                                                                                                                  replace q : (v2).toInt < 1 ∨ 17 ≤ (v2).toInt := sw1 q b103 rfl rfl
                                                                                                                  replace q : (v2).toInt < 1 ∨ 18 ≤ (v2).toInt := sw1 q b104 rfl rfl
                                                                                                                  replace q : (v2).toInt < 1 ∨ 19 ≤ (v2).toInt := sw1 q b105 rfl rfl
                                                                                                                  replace q : (v2).toInt < 1 ∨ 20 ≤ (v2).toInt := sw1 q b106 rfl rfl
                                                                                                                  replace q : (v2).toInt < 1 ∨ 21 ≤ (v2).toInt := sw1 q b107 rfl rfl
                                                                                                                  replace q : (v2).toInt < 1 ∨ 22 ≤ (v2).toInt := sw1 q b108 rfl rfl
                                                                                                                  replace q : (v2).toInt < 1 ∨ 23 ≤ (v2).toInt := sw1 q b109 rfl rfl
                                                                                                                  replace q : (v2).toInt < 1 ∨ 24 ≤ (v2).toInt := sw1 q b110 rfl rfl
                                                                                                                  replace q : (v2).toInt < 1 ∨ 25 ≤ (v2).toInt := sw1 q b111 rfl rfl
                                                                                                                  replace q : (v2).toInt < 1 ∨ 26 ≤ (v2).toInt := sw1 q b112 rfl rfl
                                                                                                                  replace q : (v2).toInt < 1 ∨ 27 ≤ (v2).toInt := sw1 q b113 rfl rfl
                                                                                                                  replace q : (v2).toInt < 1 ∨ 28 ≤ (v2).toInt := sw1 q b114 rfl rfl
                                                                                                                  replace q : (v2).toInt < 1 ∨ 29 ≤ (v2).toInt := sw1 q b115 rfl rfl
                                                                                                                  replace q : (v2).toInt < 1 ∨ 30 ≤ (v2).toInt := sw1 q b116 rfl rfl
                                                                                                                  replace q : (v2).toInt < 1 ∨ 31 ≤ (v2).toInt := sw1 q b117 rfl rfl
                                                                                                                  replace q : (v2).toInt < 1 ∨ 32 ≤ (v2).toInt := sw1 q b118 rfl rfl
                                                                                                                  replace q : (v2).toInt < 1 ∨ 33 ≤ (v2).toInt := sw1 q b119 rfl rfl
                                                                                                                  replace q : (v2).toInt < 1 ∨ 34 ≤ (v2).toInt := sw1 q b120 rfl rfl
                                                                                                                  replace q : (v2).toInt < 1 ∨ 35 ≤ (v2).toInt := sw1 q b121 rfl rfl
                                                                                                                  replace q : (v2).toInt < 1 ∨ 36 ≤ (v2).toInt := sw1 q b122 rfl rfl
                                                                                                                  replace q : (v2).toInt < 1 ∨ 37 ≤ (v2).toInt := sw1 q b123 rfl rfl
                                                                                                                  replace q : (v2).toInt < 1 ∨ 38 ≤ (v2).toInt := sw1 q b124 rfl rfl
                                                                                                                  replace q : (v2).toInt < 1 ∨ 39 ≤ (v2).toInt := sw1 q b125 rfl rfl
                                                                                                                  replace q : (v2).toInt < 1 ∨ 40 ≤ (v2).toInt := sw1 q b126 rfl rfl
                                                                                                                  replace q : (v2).toInt < 1 ∨ 41 ≤ (v2).toInt := sw1 q b127 rfl rfl
                                                                                                                  replace q : (v2).toInt < 1 ∨ 42 ≤ (v2).toInt := sw1 q b128 rfl rfl
                                                                                                                  replace q : (v2).toInt < 1 ∨ 43 ≤ (v2).toInt := sw1 q b129 rfl rfl
                                                                                                                  replace q : (v2).toInt < 1 ∨ 44 ≤ (v2).toInt := sw1 q b130 rfl rfl
                                                                                                                  replace q : (v2).toInt < 1 ∨ 45 ≤ (v2).toInt := sw1 q b131 rfl rfl
                                                                                                                  replace q : (v2).toInt < 1 ∨ 46 ≤ (v2).toInt := sw1 q b132 rfl rfl
                                                                                                                  replace q : (v2).toInt < 1 ∨ 47 ≤ (v2).toInt := sw1 q b133 rfl rfl
                                                                                                                  replace q : (v2).toInt < 1 ∨ 48 ≤ (v2).toInt := sw1 q b134 rfl rfl
                                                                                                                  replace q : (v2).toInt < 1 ∨ 49 ≤ (v2).toInt := sw1 q b135 rfl rfl
                                                                                                                  replace q : (v2).toInt < 1 ∨ 50 ≤ (v2).toInt := sw1 q b136 rfl rfl
                                                                                                                  replace q : (v2).toInt < 1 ∨ 51 ≤ (v2).toInt := sw1 q b137 rfl rfl
                                                                                                                  replace q : (v2).toInt < 1 ∨ 52 ≤ (v2).toInt := sw1 q b138 rfl rfl
                                                                                                                  replace q : (v2).toInt < 1 ∨ 53 ≤ (v2).toInt := sw1 q b139 rfl rfl
                                                                                                                  replace q : (v2).toInt < 1 ∨ 54 ≤ (v2).toInt := sw1 q b140 rfl rfl
                                                                                                                  replace q : (v2).toInt < 1 ∨ 55 ≤ (v2).toInt := sw1 q b141 rfl rfl
                                                                                                                  replace q : (v2).toInt < 1 ∨ 56 ≤ (v2).toInt := sw1 q b142 rfl rfl
                                                                                                                  omega
                                                                                                                · refine E_mask [true, true, true, true, true, true, false] rfl ?_
                                                                                                                  exact lk_Model_codeLine_j789 hγ this Q X v1 v2 (0 : Int32) (0 : Int32) (0 : Int32) (sI M 11 this 43 ((mI M 11 this 43) + (1 : Int32))) h
set_option maxRecDepth 4096 in
theorem lk_Model_codeLine_j268 {γ : Gm} (hγ : Gk γ) (this : Nat) (Q : Mem → Prop) (X : Mem → Prop) (v1 : Int32) (v2 : Int32) (M : Mem) (h : w_Model_codeLine_j268 this Q X v1 v2 M) : E γ k_Model_codeLine 7 268 [some (vr (some (11, this))), some (vi v1), some (vi v2), none, none, none, none] [] M (Qx (14, 0) (Qv Q) X) := by
  unfold w_Model_codeLine_j268 at h
  refine E_blk (lv' := [some (vr (some (11, this))), some (vi v1), some (vi v2), none, none, none, none]) (st' := [vr (some (11, this))]) (M1 := M) (pc' := 269) (tb_Model hγ) [.aload_n 0] (by decide +kernel) rfl rfl trivial ?_
  refine E_callX (κ' := k_Model_wrong) (As := []) (st := []) mv_Model_wrong (Or.inl (tbk_mem (j := 15) (k := 19) rfl)) rfl (by decide +kernel) (Nat.le_of_ble_eq_true rfl) (Nat.le_of_ble_eq_true rfl) rfl (by decide) rfl (lk_Model_wrong hγ this _ _ M h) (fun _ _ => Qv_r) (fun _ h => h) (fun v M34 hp => Qv_k (R := fun st => E γ k_Model_codeLine 7 272 [some (vr (some (11, this))), some (vi v1), some (vi v2), none, none, none, none] st M34 (Qx (14, 0) (Qv Q) X)) hp (fun h => ?_))
  refine E_mask [true, true, true, false, false, false, false] rfl ?_
  exact lk_Model_codeLine_j272 hγ this Q X v1 v2 M34 h
set_option maxRecDepth 4096 in
theorem lk_Model_codeLine_j257 {γ : Gm} (hγ : Gk γ) (this : Nat) (Q : Mem → Prop) (X : Mem → Prop) (v1 : Int32) (s0 : Int32) (M : Mem) (h : w_Model_codeLine_j257 this Q X v1 s0 M) : E γ k_Model_codeLine 7 257 [some (vr (some (11, this))), some (vi v1), none, none, none, none, none] [vi s0] M (Qx (14, 0) (Qv Q) X) := by
  unfold w_Model_codeLine_j257 at h
  refine E_blk (lv' := [some (vr (some (11, this))), some (vi v1), some (vi s0), none, none, none, none]) (st' := [vi s0]) (M1 := M) (pc' := 259) (tb_Model hγ) [.istore_n 2, .iload_n 2] (by decide +kernel) rfl rfl trivial ?_
  refine E_if_lt (off := 9) (tgt := 268) (by decide +kernel) (by decide) (fun b33 => ?_) (fun b33 => ?_)
  · rw [if_pos b33] at h
    refine E_mask [true, true, true, false, false, false, false] rfl ?_
    exact lk_Model_codeLine_j268 hγ this Q X v1 s0 M h
  · rw [if_neg b33] at h
    refine E_blk (lv' := [some (vr (some (11, this))), some (vi v1), some (vi s0), none, none, none, none]) (st' := [vi (62 : Int32), vi s0]) (M1 := M) (pc' := 265) (tb_Model hγ) [.iload_n 2, .bipush 62] (by decide +kernel) rfl rfl trivial ?_
    refine E_icmp_lt (off := 7) (tgt := 272) (by decide +kernel) (by decide) (fun b278 => ?_) (fun b278 => ?_)
    · rw [if_pos b278] at h
      refine E_mask [true, true, true, false, false, false, false] rfl ?_
      exact lk_Model_codeLine_j272 hγ this Q X v1 s0 M h
    · rw [if_neg b278] at h
      refine E_mask [true, true, true, false, false, false, false] rfl ?_
      exact lk_Model_codeLine_j268 hγ this Q X v1 s0 M h
set_option maxRecDepth 4096 in
theorem lk_Model_codeLine_j225 {γ : Gm} (hγ : Gk γ) (this : Nat) (Q : Mem → Prop) (X : Mem → Prop) (v1 : Int32) (M : Mem) (h : w_Model_codeLine_j225 this Q X v1 M) : E γ k_Model_codeLine 7 225 [some (vr (some (11, this))), some (vi v1), none, none, none, none, none] [] M (Qx (14, 0) (Qv Q) X) := by
  unfold w_Model_codeLine_j225 at h
  obtain ⟨c30, h⟩ := h
  refine E_blk (lv' := [some (vr (some (11, this))), some (vi v1), none, none, none, none, none]) (st' := [vi (2 : Int32), vi (mI M 411 this (mI M 11 this 43).toNatClampNeg)]) (M1 := M) (pc' := 235) (tb_Model hγ) [.aload_n 0, .getfield 92, .aload_n 0, .getfield 104, .baload, .iconst 2] (by decide +kernel) rfl rfl ⟨c30, trivial⟩ ?_
  refine E_icmp_ne (off := 20) (tgt := 255) (by decide +kernel) (by decide) (fun b31 => ?_) (fun b31 => ?_)
  · rw [if_pos b31] at h
    obtain ⟨c32, h⟩ := h
    refine E_blk (lv' := [some (vr (some (11, this))), some (vi v1), none, none, none, none, none]) (st' := [vi ((mI M 107 this (mI M 11 this 43).toNatClampNeg) - (mI M 11 this 26))]) (M1 := M) (pc' := 252) (tb_Model hγ) [.aload_n 0, .getfield 98, .aload_n 0, .getfield 104, .iaload, .aload_n 0, .getfield 242, .isub] (by decide +kernel) rfl rfl ⟨c32, trivial⟩ ?_
    refine E_goto (off := 5) (tgt := 257) (by decide +kernel) (by decide) ?_
    refine E_mask [true, true, false, false, false, false, false] rfl ?_
    exact lk_Model_codeLine_j257 hγ this Q X v1 ((mI M 107 this (mI M 11 this 43).toNatClampNeg) - (mI M 11 this 26)) M h
  · rw [if_neg b31] at h
    refine E_blk (lv' := [some (vr (some (11, this))), some (vi v1), none, none, none, none, none]) (st' := [vi (62 : Int32)]) (M1 := M) (pc' := 257) (tb_Model hγ) [.bipush 62] (by decide +kernel) rfl rfl trivial ?_
    refine E_mask [true, true, false, false, false, false, false] rfl ?_
    exact lk_Model_codeLine_j257 hγ this Q X v1 (62 : Int32) M h
set_option maxRecDepth 4096 in
theorem lk_Model_codeLine_j205 {γ : Gm} (hγ : Gk γ) (this : Nat) (Q : Mem → Prop) (X : Mem → Prop) (v1 : Int32) (M : Mem) (h : w_Model_codeLine_j205 this Q X v1 M) : E γ k_Model_codeLine 7 205 [some (vr (some (11, this))), some (vi v1), none, none, none, none, none] [] M (Qx (14, 0) (Qv Q) X) := by
  unfold w_Model_codeLine_j205 at h
  refine E_blk (lv' := [some (vr (some (11, this))), some (vi v1), none, none, none, none, none]) (st' := [vi (mI M 11 this 43)]) (M1 := M) (pc' := 209) (tb_Model hγ) [.aload_n 0, .getfield 104] (by decide +kernel) rfl rfl trivial ?_
  refine E_if_le (off := 16) (tgt := 225) (by decide +kernel) (by decide) (fun b29 => ?_) (fun b29 => ?_)
  · rw [if_pos b29] at h
    refine E_mask [true, true, false, false, false, false, false] rfl ?_
    exact lk_Model_codeLine_j225 hγ this Q X v1 M h
  · rw [if_neg b29] at h
    obtain ⟨c279, h⟩ := h
    refine E_blk (lv' := [some (vr (some (11, this))), some (vi v1), none, none, none, none, none]) (st' := [vi (mI M 411 this (mI M 11 this 43).toNatClampNeg)]) (M1 := M) (pc' := 221) (tb_Model hγ) [.aload_n 0, .getfield 92, .aload_n 0, .getfield 104, .baload] (by decide +kernel) rfl rfl ⟨c279, trivial⟩ ?_
    refine E_if_ne (off := 4) (tgt := 225) (by decide +kernel) (by decide) (fun b280 => ?_) (fun b280 => ?_)
    · rw [if_pos b280] at h
      exact (E_vret rfl (by decide +kernel) h).nx
    · rw [if_neg b280] at h
      refine E_mask [true, true, false, false, false, false, false] rfl ?_
      exact lk_Model_codeLine_j225 hγ this Q X v1 M h
set_option maxRecDepth 4096 in
theorem lk_Model_codeLine_L67 {γ : Gm} (hγ : Gk γ) (this : Nat) (Q : Mem → Prop) (X : Mem → Prop) : ∀ (n : Nat) (v1 : Int32) (M : Mem), w_Model_codeLine_L67 this Q X n v1 M → E γ k_Model_codeLine 7 67 [some (vr (some (11, this))), some (vi v1), none, none, none, none, none] [] M (Qx (14, 0) (Qv Q) X) := by
  intro n
  induction n with
  | zero => intro v1 M h; exact h.elim
  | succ n ih =>
    intro v1 M h
    unfold w_Model_codeLine_L67 at h
    obtain ⟨c7, h⟩ := h
    refine E_blk (lv' := [some (vr (some (11, this))), some (vi v1), none, none, none, none, none]) (st' := [vi (2 : Int32), vi (mI M 411 this (mI M 11 this 43).toNatClampNeg)]) (M1 := M) (pc' := 77) (tb_Model hγ) [.aload_n 0, .getfield 92, .aload_n 0, .getfield 104, .baload, .iconst 2] (by decide +kernel) rfl rfl ⟨c7, trivial⟩ ?_
    refine E_icmp_ne (off := 128) (tgt := 205) (by decide +kernel) (by decide) (fun b8 => ?_) (fun b8 => ?_)
    · rw [if_pos b8] at h
      obtain ⟨c9, h⟩ := h
      refine E_blk (lv' := [some (vr (some (11, this))), some (vi v1), none, none, none, none, none]) (st' := [vi (58 : Int32), vi (mI M 411 this ((mI M 11 this 43) + (1 : Int32)).toNatClampNeg)]) (M1 := M) (pc' := 93) (tb_Model hγ) [.aload_n 0, .getfield 92, .aload_n 0, .getfield 104, .iconst 1, .iadd, .baload, .bipush 58] (by decide +kernel) rfl rfl ⟨c9, trivial⟩ ?_
      refine E_icmp_ne (off := 112) (tgt := 205) (by decide +kernel) (by decide) (fun b10 => ?_) (fun b10 => ?_)
      · rw [if_pos b10] at h
        obtain ⟨c11, h⟩ := h
        refine E_blk (lv' := [some (vr (some (11, this))), some (vi v1), none, none, none, none, none]) (st' := [vi (mI M 107 this (mI M 11 this 43).toNatClampNeg), vr (some (11, this))]) (M1 := M) (pc' := 106) (tb_Model hγ) [.aload_n 0, .aload_n 0, .getfield 98, .aload_n 0, .getfield 104, .iaload] (by decide +kernel) rfl rfl ⟨c11, trivial⟩ ?_
        refine E_callV (κ' := k_Model_labelOf) (As := [vi (mI M 107 this (mI M 11 this 43).toNatClampNeg)]) (st := []) mv_Model_labelOf (Or.inl (tbk_mem (j := 14) (k := 238) rfl)) rfl (by decide +kernel) (Nat.le_of_ble_eq_true rfl) (Nat.le_of_ble_eq_true rfl) rfl (by decide) (lk_Model_labelOf hγ this (mI M 107 this (mI M 11 this 43).toNatClampNeg) _ M h) (fun _ _ => Qi_r) (fun v M12 hp => Qi_k (R := fun st => E γ k_Model_codeLine 7 109 [some (vr (some (11, this))), some (vi v1), none, none, none, none, none] st M12 (Qx (14, 0) (Qv Q) X)) hp (fun r13 h => ?_))
        refine E_if_lt (off := 11) (tgt := 120) (by decide +kernel) (by decide) (fun b14 => ?_) (fun b14 => ?_)
        · rw [if_pos b14] at h
          refine E_mask [true, true, false, false, false, false, false] rfl ?_
          exact lk_Model_codeLine_j120 hγ this Q X (w_Model_codeLine_L67 this Q X n) ih v1 M12 h
        · rw [if_neg b14] at h
          refine E_blk (lv' := [some (vr (some (11, this))), some (vi v1), none, none, none, none, none]) (st' := [vi (0 : Int32), vi (-2147483648 : Int32), vr (some (11, this))]) (M1 := M12) (pc' := 117) (tb_Model hγ) [.aload_n 0, .ldc_w 616, .iconst 0] (by decide +kernel) rfl rfl trivial ?_
          refine E_callV (κ' := k_Model_addNine) (As := [vi (-2147483648 : Int32), vi (0 : Int32)]) (st := []) mv_Model_addNine (Or.inl (tbk_mem (j := 15) (k := 100) rfl)) rfl (by decide +kernel) (Nat.le_of_ble_eq_true rfl) (Nat.le_of_ble_eq_true rfl) rfl (by decide) (lk_Model_addNine hγ this (-2147483648 : Int32) (0 : Int32) _ M12 h) (fun _ _ => Qv_r) (fun v M28 hp => Qv_k (R := fun st => E γ k_Model_codeLine 7 120 [some (vr (some (11, this))), some (vi v1), none, none, none, none, none] st M28 (Qx (14, 0) (Qv Q) X)) hp (fun h => ?_))
          refine E_mask [true, true, false, false, false, false, false] rfl ?_
          exact lk_Model_codeLine_j120 hγ this Q X (w_Model_codeLine_L67 this Q X n) ih v1 M28 h
      · rw [if_neg b10] at h
        refine E_mask [true, true, false, false, false, false, false] rfl ?_
        exact lk_Model_codeLine_j205 hγ this Q X v1 M h
    · rw [if_neg b8] at h
      refine E_mask [true, true, false, false, false, false, false] rfl ?_
      exact lk_Model_codeLine_j205 hγ this Q X v1 M h
set_option maxRecDepth 4096 in
theorem lk_Model_codeLine_j54 {γ : Gm} (hγ : Gk γ) (this : Nat) (Q : Mem → Prop) (X : Mem → Prop)  (M : Mem) (h : w_Model_codeLine_j54 this Q X  M) : E γ k_Model_codeLine 7 54 [some (vr (some (11, this))), none, none, none, none, none, none] [] M (Qx (14, 0) (Qv Q) X) := by
  unfold w_Model_codeLine_j54 at h
  refine E_blk (lv' := [some (vr (some (11, this))), none, none, none, none, none, none]) (st' := [vr (mR M 11 this 45)]) (M1 := M) (pc' := 58) (tb_Model hγ) [.aload_n 0, .getfield 522] (by decide +kernel) rfl rfl trivial ?_
  obtain ⟨i5, ei5, h⟩ := h
  rw [ei5]
  obtain ⟨c6, h⟩ := h
  refine E_blk (lv' := [some (vr (some (11, this))), some (vi (mI M 150 i5 (mI M 11 this 54).toNatClampNeg)), none, none, none, none, none]) (st' := []) (M1 := M) (pc' := 67) (tb_Model hγ) [.getfield 465, .aload_n 0, .getfield 642, .iaload, .istore_n 1] (by decide +kernel) rfl rfl ⟨c6, trivial⟩ ?_
  obtain ⟨n281, h⟩ := h
  refine E_mask [true, true, false, false, false, false, false] rfl ?_
  exact lk_Model_codeLine_L67 hγ this Q X n281 (mI M 150 i5 (mI M 11 this 54).toNatClampNeg) M h
set_option maxRecDepth 4096 in
theorem lk_Model_codeLine_j27 {γ : Gm} (hγ : Gk γ) (this : Nat) (Q : Mem → Prop) (X : Mem → Prop)  (M : Mem) (h : w_Model_codeLine_j27 this Q X  M) : E γ k_Model_codeLine 7 27 [some (vr (some (11, this))), none, none, none, none, none, none] [] M (Qx (14, 0) (Qv Q) X) := by
  unfold w_Model_codeLine_j27 at h
  obtain ⟨c3, h⟩ := h
  refine E_blk (lv' := [some (vr (some (11, this))), none, none, none, none, none, none]) (st' := [vi (58 : Int32), vi (mI M 411 this (1 : Int32).toNatClampNeg)]) (M1 := M) (pc' := 35) (tb_Model hγ) [.aload_n 0, .getfield 92, .iconst 1, .baload, .bipush 58] (by decide +kernel) rfl rfl ⟨c3, trivial⟩ ?_
  refine E_icmp_eq (off := 19) (tgt := 54) (by decide +kernel) (by decide) (fun b4 => ?_) (fun b4 => ?_)
  · rw [if_pos b4] at h
    refine E_mask [true, false, false, false, false, false, false] rfl ?_
    exact lk_Model_codeLine_j54 hγ this Q X  M h
  · rw [if_neg b4] at h
    refine E_blk (lv' := [some (vr (some (11, this))), none, none, none, none, none, none]) (st' := [vi (mI M 11 this 18), vr (some (11, this))]) (M1 := M) (pc' := 43) (tb_Model hγ) [.aload_n 0, .aload_n 0, .getfield 202] (by decide +kernel) rfl rfl trivial ?_
    refine E_callV (κ' := k_Model_takes) (As := [vi (mI M 11 this 18)]) (st := []) mv_Model_takes (Or.inl (tbk_mem (j := 15) (k := 15) rfl)) rfl (by decide +kernel) (Nat.le_of_ble_eq_true rfl) (Nat.le_of_ble_eq_true rfl) rfl (by decide) (lk_Model_takes hγ this (mI M 11 this 18) _ M h) (fun _ _ => Qi_r) (fun v M282 hp => Qi_k (R := fun st => E γ k_Model_codeLine 7 46 [some (vr (some (11, this))), none, none, none, none, none, none] st M282 (Qx (14, 0) (Qv Q) X)) hp (fun r283 h => ?_))
    refine E_if_eq (off := 8) (tgt := 54) (by decide +kernel) (by decide) (fun b284 => ?_) (fun b284 => ?_)
    · rw [if_pos b284] at h
      refine E_mask [true, false, false, false, false, false, false] rfl ?_
      exact lk_Model_codeLine_j54 hγ this Q X  M282 h
    · rw [if_neg b284] at h
      refine E_blk (lv' := [some (vr (some (11, this))), none, none, none, none, none, none]) (st' := [vr (some (11, this))]) (M1 := M282) (pc' := 50) (tb_Model hγ) [.aload_n 0] (by decide +kernel) rfl rfl trivial ?_
      refine E_callX (κ' := k_Model_handlerLine) (As := []) (st := []) mv_Model_handlerLine (Or.inl (tbk_mem (j := 15) (k := 104) rfl)) rfl (by decide +kernel) (Nat.le_of_ble_eq_true rfl) (Nat.le_of_ble_eq_true rfl) rfl (by decide) rfl (lk_Model_handlerLine hγ this _ _ M282 h) (fun _ _ => Qv_r) (fun _ h => h) (fun v M285 hp => Qv_k (R := fun st => E γ k_Model_codeLine 7 53 [some (vr (some (11, this))), none, none, none, none, none, none] st M285 (Qx (14, 0) (Qv Q) X)) hp (fun h => ?_))
      exact (E_vret rfl (by decide +kernel) h).nx
set_option maxRecDepth 4096 in
theorem lk_Model_codeLine {γ : Gm} (hγ : Gk γ) (this : Nat) (Q : Mem → Prop) (X : Mem → Prop) (M : Mem) (h : w_Model_codeLine this Q X M) : E γ k_Model_codeLine 7 0 [some (vr (some (11, this))), none, none, none, none, none, none] [] M (Qx (14, 0) (Qv Q) X) := by
  unfold w_Model_codeLine at h
  obtain ⟨c1, h⟩ := h
  refine E_blk (lv' := [some (vr (some (11, this))), none, none, none, none, none, none]) (st' := [vi (58 : Int32), vi (mI M 411 this (1 : Int32).toNatClampNeg)]) (M1 := M) (pc' := 8) (tb_Model hγ) [.aload_n 0, .getfield 92, .iconst 1, .baload, .bipush 58] (by decide +kernel) rfl rfl ⟨c1, trivial⟩ ?_
  refine E_icmp_eq (off := 19) (tgt := 27) (by decide +kernel) (by decide) (fun b2 => ?_) (fun b2 => ?_)
  · rw [if_pos b2] at h
    refine E_mask [true, false, false, false, false, false, false] rfl ?_
    exact lk_Model_codeLine_j27 hγ this Q X  M h
  · rw [if_neg b2] at h
    refine E_blk (lv' := [some (vr (some (11, this))), none, none, none, none, none, none]) (st' := [vi (mI M 11 this 17), vr (some (11, this))]) (M1 := M) (pc' := 16) (tb_Model hγ) [.aload_n 0, .aload_n 0, .getfield 197] (by decide +kernel) rfl rfl trivial ?_
    refine E_callV (κ' := k_Model_takes) (As := [vi (mI M 11 this 17)]) (st := []) mv_Model_takes (Or.inl (tbk_mem (j := 15) (k := 15) rfl)) rfl (by decide +kernel) (Nat.le_of_ble_eq_true rfl) (Nat.le_of_ble_eq_true rfl) rfl (by decide) (lk_Model_takes hγ this (mI M 11 this 17) _ M h) (fun _ _ => Qi_r) (fun v M286 hp => Qi_k (R := fun st => E γ k_Model_codeLine 7 19 [some (vr (some (11, this))), none, none, none, none, none, none] st M286 (Qx (14, 0) (Qv Q) X)) hp (fun r287 h => ?_))
    refine E_if_eq (off := 8) (tgt := 27) (by decide +kernel) (by decide) (fun b288 => ?_) (fun b288 => ?_)
    · rw [if_pos b288] at h
      refine E_mask [true, false, false, false, false, false, false] rfl ?_
      exact lk_Model_codeLine_j27 hγ this Q X  M286 h
    · rw [if_neg b288] at h
      refine E_blk (lv' := [some (vr (some (11, this))), none, none, none, none, none, none]) (st' := [vr (some (11, this))]) (M1 := M286) (pc' := 23) (tb_Model hγ) [.aload_n 0] (by decide +kernel) rfl rfl trivial ?_
      refine E_callX (κ' := k_Model_frameLine) (As := []) (st := []) mv_Model_frameLine (Or.inl (tbk_mem (j := 15) (k := 88) rfl)) rfl (by decide +kernel) (Nat.le_of_ble_eq_true rfl) (Nat.le_of_ble_eq_true rfl) rfl (by decide) rfl (lk_Model_frameLine hγ this _ _ M286 h) (fun _ _ => Qv_r) (fun _ h => h) (fun v M289 hp => Qv_k (R := fun st => E γ k_Model_codeLine 7 26 [some (vr (some (11, this))), none, none, none, none, none, none] st M289 (Qx (14, 0) (Qv Q) X)) hp (fun h => ?_))
      exact (E_vret rfl (by decide +kernel) h).nx
def w_Model_takeLine_j171 (this : Nat) (Q : Mem → Prop) (X : Mem → Prop)  (M : Mem) : Prop :=
  if (99 : Int32) ≤ (mI M 11 this 51) then (Q M) else (vp_in (0 : Int32) (mL M 108 this) ∧ w_Model_refuse this (mI M 11 this 51) (mI M 108 this (0 : Int32).toNatClampNeg) (fun M14 => Q M14) X M)
def w_Model_takeLine_j67 (this : Nat) (Q : Mem → Prop) (X : Mem → Prop)  (M : Mem) : Prop :=
  if (mI M 11 this 52) = (0 : Int32) then (w_Model_classLine this (fun M29 => w_Model_takeLine_j171 this Q X  M29) X M) else (if (mI M 11 this 52) = (1 : Int32) then (w_Model_takes this (mI M 11 this 13) (fun r20 M19 => if r20 = 0 then (w_Model_takes this (mI M19 11 this 14) (fun r23 M22 => if r23 = 0 then (w_Model_needWord this (mI M22 11 this 19) (fun M25 => w_Model_need this (0 : Int32) (fun M26 => w_Model_takeLine_j171 this Q X  (sI M26 11 this 52 (0 : Int32))) X M25) X M22) else (w_Model_methodLine this (fun M27 => w_Model_takeLine_j171 this Q X  M27) X M22)) M19) else (w_Model_fieldLine this (fun M28 => w_Model_takeLine_j171 this Q X  M28) X M19)) M) else (if (mI M 11 this 52) = (2 : Int32) then (w_Model_roomLine this (fun M18 => w_Model_takeLine_j171 this Q X  M18) X M) else (w_Model_codeLine this (fun M11 => w_Model_takeLine_j171 this Q X  M11) X M)))
def w_Model_takeLine_j47 (this : Nat) (Q : Mem → Prop) (X : Mem → Prop)  (M : Mem) : Prop :=
  vp_in (1 : Int32) (mL M 411 this) ∧ if (mI M 411 this (1 : Int32).toNatClampNeg) = (58 : Int32) then (w_Model_takeLine_j67 this Q X  M) else (w_Model_endMethod this (fun M32 => w_Model_takeLine_j67 this Q X  (sI M32 11 this 52 (1 : Int32))) X M)
def w_Model_takeLine (this : Nat) (Q : Mem → Prop) (X : Mem → Prop) (M : Mem) : Prop :=
  if (mI (sI M 11 this 51 (99 : Int32)) 11 this 52) = (3 : Int32) then (w_Model_isWord this (mI (sI M 11 this 51 (99 : Int32)) 11 this 13) (fun r3 M2 => if r3 = 0 then (w_Model_isWord this (mI M2 11 this 14) (fun r6 M5 => if r6 = 0 then (w_Model_isWord this (mI M5 11 this 19) (fun r9 M8 => if r9 = 0 then (w_Model_takeLine_j67 this Q X  M8) else (w_Model_takeLine_j47 this Q X  M8)) M5) else (w_Model_takeLine_j47 this Q X  M5)) M2) else (w_Model_takeLine_j47 this Q X  M2)) (sI M 11 this 51 (99 : Int32))) else (w_Model_takeLine_j67 this Q X  (sI M 11 this 51 (99 : Int32)))
set_option maxRecDepth 4096 in
theorem lk_Model_takeLine_j171 {γ : Gm} (hγ : Gk γ) (this : Nat) (Q : Mem → Prop) (X : Mem → Prop)  (M : Mem) (h : w_Model_takeLine_j171 this Q X  M) : E γ k_Model_takeLine 8 171 [some (vr (some (11, this)))] [] M (Qx (14, 0) (Qv Q) X) := by
  unfold w_Model_takeLine_j171 at h
  refine E_blk (lv' := [some (vr (some (11, this)))]) (st' := [vi (99 : Int32), vi (mI M 11 this 51)]) (M1 := M) (pc' := 177) (tb_Model hγ) [.aload_n 0, .getfield 532, .bipush 99] (by decide +kernel) rfl rfl trivial ?_
  refine E_icmp_ge (off := 17) (tgt := 194) (by decide +kernel) (by decide) (fun b12 => ?_) (fun b12 => ?_)
  · rw [if_pos b12] at h
    exact (E_vret rfl (by decide +kernel) h).nx
  · rw [if_neg b12] at h
    obtain ⟨c13, h⟩ := h
    refine E_blk (lv' := [some (vr (some (11, this)))]) (st' := [vi (mI M 108 this (0 : Int32).toNatClampNeg), vi (mI M 11 this 51), vr (some (11, this))]) (M1 := M) (pc' := 191) (tb_Model hγ) [.aload_n 0, .aload_n 0, .getfield 532, .aload_n 0, .getfield 101, .iconst 0, .iaload] (by decide +kernel) rfl rfl ⟨c13, trivial⟩ ?_
    refine E_callX (κ' := k_Model_refuse) (As := [vi (mI M 11 this 51), vi (mI M 108 this (0 : Int32).toNatClampNeg)]) (st := []) mv_Model_refuse (Or.inl (tbk_mem (j := 15) (k := 3) rfl)) rfl (by decide +kernel) (Nat.le_of_ble_eq_true rfl) (Nat.le_of_ble_eq_true rfl) rfl (by decide) rfl (lk_Model_refuse hγ this (mI M 11 this 51) (mI M 108 this (0 : Int32).toNatClampNeg) _ _ M h) (fun _ _ => Qv_r) (fun _ h => h) (fun v M14 hp => Qv_k (R := fun st => E γ k_Model_takeLine 8 194 [some (vr (some (11, this)))] st M14 (Qx (14, 0) (Qv Q) X)) hp (fun h => ?_))
    exact (E_vret rfl (by decide +kernel) h).nx
set_option maxRecDepth 4096 in
theorem lk_Model_takeLine_j67 {γ : Gm} (hγ : Gk γ) (this : Nat) (Q : Mem → Prop) (X : Mem → Prop)  (M : Mem) (h : w_Model_takeLine_j67 this Q X  M) : E γ k_Model_takeLine 8 67 [some (vr (some (11, this)))] [] M (Qx (14, 0) (Qv Q) X) := by
  unfold w_Model_takeLine_j67 at h
  refine E_blk (lv' := [some (vr (some (11, this)))]) (st' := [vi (mI M 11 this 52)]) (M1 := M) (pc' := 71) (tb_Model hγ) [.aload_n 0, .getfield 566] (by decide +kernel) rfl rfl trivial ?_
  by_cases b15 : (mI M 11 this 52) = (0 : Int32)
  · rw [if_pos b15] at h
    refine E.up (fun _ _ hJ => J_tswI (len := 25) (dflt := 96) (lo := 0) (hi := 2) (offs := #[25, 32, 89]) (off := 25) (tgt := 96) (by decide +kernel) (by rw [b15]; decide) (by rw [b15]; decide) (by rw [b15]; rfl) (by decide) hJ) ?_
    refine E_blk (lv' := [some (vr (some (11, this)))]) (st' := [vr (some (11, this))]) (M1 := M) (pc' := 97) (tb_Model hγ) [.aload_n 0] (by decide +kernel) rfl rfl trivial ?_
    refine E_callX (κ' := k_Model_classLine) (As := []) (st := []) mv_Model_classLine (Or.inl (tbk_mem (j := 15) (k := 7) rfl)) rfl (by decide +kernel) (Nat.le_of_ble_eq_true rfl) (Nat.le_of_ble_eq_true rfl) rfl (by decide) rfl (lk_Model_classLine hγ this _ _ M h) (fun _ _ => Qv_r) (fun _ h => h) (fun v M29 hp => Qv_k (R := fun st => E γ k_Model_takeLine 8 100 [some (vr (some (11, this)))] st M29 (Qx (14, 0) (Qv Q) X)) hp (fun h => ?_))
    refine E_goto (off := 71) (tgt := 171) (by decide +kernel) (by decide) ?_
    refine E_mask [true] rfl ?_
    exact lk_Model_takeLine_j171 hγ this Q X  M29 h
  · rw [if_neg b15] at h
    by_cases b16 : (mI M 11 this 52) = (1 : Int32)
    · rw [if_pos b16] at h
      refine E.up (fun _ _ hJ => J_tswI (len := 25) (dflt := 96) (lo := 0) (hi := 2) (offs := #[25, 32, 89]) (off := 32) (tgt := 103) (by decide +kernel) (by rw [b16]; decide) (by rw [b16]; decide) (by rw [b16]; rfl) (by decide) hJ) ?_
      refine E_blk (lv' := [some (vr (some (11, this)))]) (st' := [vi (mI M 11 this 13), vr (some (11, this))]) (M1 := M) (pc' := 108) (tb_Model hγ) [.aload_n 0, .aload_n 0, .getfield 178] (by decide +kernel) rfl rfl trivial ?_
      refine E_callV (κ' := k_Model_takes) (As := [vi (mI M 11 this 13)]) (st := []) mv_Model_takes (Or.inl (tbk_mem (j := 15) (k := 15) rfl)) rfl (by decide +kernel) (Nat.le_of_ble_eq_true rfl) (Nat.le_of_ble_eq_true rfl) rfl (by decide) (lk_Model_takes hγ this (mI M 11 this 13) _ M h) (fun _ _ => Qi_r) (fun v M19 hp => Qi_k (R := fun st => E γ k_Model_takeLine 8 111 [some (vr (some (11, this)))] st M19 (Qx (14, 0) (Qv Q) X)) hp (fun r20 h => ?_))
      refine E_if_eq (off := 10) (tgt := 121) (by decide +kernel) (by decide) (fun b21 => ?_) (fun b21 => ?_)
      · rw [if_pos b21] at h
        refine E_blk (lv' := [some (vr (some (11, this)))]) (st' := [vi (mI M19 11 this 14), vr (some (11, this))]) (M1 := M19) (pc' := 126) (tb_Model hγ) [.aload_n 0, .aload_n 0, .getfield 183] (by decide +kernel) rfl rfl trivial ?_
        refine E_callV (κ' := k_Model_takes) (As := [vi (mI M19 11 this 14)]) (st := []) mv_Model_takes (Or.inl (tbk_mem (j := 15) (k := 15) rfl)) rfl (by decide +kernel) (Nat.le_of_ble_eq_true rfl) (Nat.le_of_ble_eq_true rfl) rfl (by decide) (lk_Model_takes hγ this (mI M19 11 this 14) _ M19 h) (fun _ _ => Qi_r) (fun v M22 hp => Qi_k (R := fun st => E γ k_Model_takeLine 8 129 [some (vr (some (11, this)))] st M22 (Qx (14, 0) (Qv Q) X)) hp (fun r23 h => ?_))
        refine E_if_eq (off := 10) (tgt := 139) (by decide +kernel) (by decide) (fun b24 => ?_) (fun b24 => ?_)
        · rw [if_pos b24] at h
          refine E_blk (lv' := [some (vr (some (11, this)))]) (st' := [vi (mI M22 11 this 19), vr (some (11, this))]) (M1 := M22) (pc' := 144) (tb_Model hγ) [.aload_n 0, .aload_n 0, .getfield 207] (by decide +kernel) rfl rfl trivial ?_
          refine E_callX (κ' := k_Model_needWord) (As := [vi (mI M22 11 this 19)]) (st := []) mv_Model_needWord (Or.inl (tbk_mem (j := 15) (k := 11) rfl)) rfl (by decide +kernel) (Nat.le_of_ble_eq_true rfl) (Nat.le_of_ble_eq_true rfl) rfl (by decide) rfl (lk_Model_needWord hγ this (mI M22 11 this 19) _ _ M22 h) (fun _ _ => Qv_r) (fun _ h => h) (fun v M25 hp => Qv_k (R := fun st => E γ k_Model_takeLine 8 147 [some (vr (some (11, this)))] st M25 (Qx (14, 0) (Qv Q) X)) hp (fun h => ?_))
          refine E_blk (lv' := [some (vr (some (11, this)))]) (st' := [vi (0 : Int32), vr (some (11, this))]) (M1 := M25) (pc' := 149) (tb_Model hγ) [.aload_n 0, .iconst 0] (by decide +kernel) rfl rfl trivial ?_
          refine E_callX (κ' := k_Model_need) (As := [vi (0 : Int32)]) (st := []) mv_Model_need (Or.inl (tbk_mem (j := 15) (k := 35) rfl)) rfl (by decide +kernel) (Nat.le_of_ble_eq_true rfl) (Nat.le_of_ble_eq_true rfl) rfl (by decide) rfl (lk_Model_need hγ this (0 : Int32) _ _ M25 h) (fun _ _ => Qv_r) (fun _ h => h) (fun v M26 hp => Qv_k (R := fun st => E γ k_Model_takeLine 8 152 [some (vr (some (11, this)))] st M26 (Qx (14, 0) (Qv Q) X)) hp (fun h => ?_))
          refine E_blk (lv' := [some (vr (some (11, this)))]) (st' := []) (M1 := (sI M26 11 this 52 (0 : Int32))) (pc' := 157) (tb_Model hγ) [.aload_n 0, .iconst 0, .putfield 566] (by decide +kernel) rfl rfl trivial ?_
          refine E_goto (off := 14) (tgt := 171) (by decide +kernel) (by decide) ?_
          refine E_mask [true] rfl ?_
          exact lk_Model_takeLine_j171 hγ this Q X  (sI M26 11 this 52 (0 : Int32)) h
        · rw [if_neg b24] at h
          refine E_blk (lv' := [some (vr (some (11, this)))]) (st' := [vr (some (11, this))]) (M1 := M22) (pc' := 133) (tb_Model hγ) [.aload_n 0] (by decide +kernel) rfl rfl trivial ?_
          refine E_callX (κ' := k_Model_methodLine) (As := []) (st := []) mv_Model_methodLine (Or.inl (tbk_mem (j := 15) (k := 64) rfl)) rfl (by decide +kernel) (Nat.le_of_ble_eq_true rfl) (Nat.le_of_ble_eq_true rfl) rfl (by decide) rfl (lk_Model_methodLine hγ this _ _ M22 h) (fun _ _ => Qv_r) (fun _ h => h) (fun v M27 hp => Qv_k (R := fun st => E γ k_Model_takeLine 8 136 [some (vr (some (11, this)))] st M27 (Qx (14, 0) (Qv Q) X)) hp (fun h => ?_))
          refine E_goto (off := 35) (tgt := 171) (by decide +kernel) (by decide) ?_
          refine E_mask [true] rfl ?_
          exact lk_Model_takeLine_j171 hγ this Q X  M27 h
      · rw [if_neg b21] at h
        refine E_blk (lv' := [some (vr (some (11, this)))]) (st' := [vr (some (11, this))]) (M1 := M19) (pc' := 115) (tb_Model hγ) [.aload_n 0] (by decide +kernel) rfl rfl trivial ?_
        refine E_callX (κ' := k_Model_fieldLine) (As := []) (st := []) mv_Model_fieldLine (Or.inl (tbk_mem (j := 15) (k := 51) rfl)) rfl (by decide +kernel) (Nat.le_of_ble_eq_true rfl) (Nat.le_of_ble_eq_true rfl) rfl (by decide) rfl (lk_Model_fieldLine hγ this _ _ M19 h) (fun _ _ => Qv_r) (fun _ h => h) (fun v M28 hp => Qv_k (R := fun st => E γ k_Model_takeLine 8 118 [some (vr (some (11, this)))] st M28 (Qx (14, 0) (Qv Q) X)) hp (fun h => ?_))
        refine E_goto (off := 53) (tgt := 171) (by decide +kernel) (by decide) ?_
        refine E_mask [true] rfl ?_
        exact lk_Model_takeLine_j171 hγ this Q X  M28 h
    · rw [if_neg b16] at h
      by_cases b17 : (mI M 11 this 52) = (2 : Int32)
      · rw [if_pos b17] at h
        refine E.up (fun _ _ hJ => J_tswI (len := 25) (dflt := 96) (lo := 0) (hi := 2) (offs := #[25, 32, 89]) (off := 89) (tgt := 160) (by decide +kernel) (by rw [b17]; decide) (by rw [b17]; decide) (by rw [b17]; rfl) (by decide) hJ) ?_
        refine E_blk (lv' := [some (vr (some (11, this)))]) (st' := [vr (some (11, this))]) (M1 := M) (pc' := 161) (tb_Model hγ) [.aload_n 0] (by decide +kernel) rfl rfl trivial ?_
        refine E_callX (κ' := k_Model_roomLine) (As := []) (st := []) mv_Model_roomLine (Or.inl (tbk_mem (j := 15) (k := 76) rfl)) rfl (by decide +kernel) (Nat.le_of_ble_eq_true rfl) (Nat.le_of_ble_eq_true rfl) rfl (by decide) rfl (lk_Model_roomLine hγ this _ _ M h) (fun _ _ => Qv_r) (fun _ h => h) (fun v M18 hp => Qv_k (R := fun st => E γ k_Model_takeLine 8 164 [some (vr (some (11, this)))] st M18 (Qx (14, 0) (Qv Q) X)) hp (fun h => ?_))
        refine E_goto (off := 7) (tgt := 171) (by decide +kernel) (by decide) ?_
        refine E_mask [true] rfl ?_
        exact lk_Model_takeLine_j171 hγ this Q X  M18 h
      · rw [if_neg b17] at h
        refine E.up (fun _ _ hJ => J_tswO (len := 25) (dflt := 96) (lo := 0) (hi := 2) (offs := #[25, 32, 89]) (tgt := 167) (by decide +kernel) ?_ (by decide) hJ) ?_
        · have q := sw0 (x := (mI M 11 this 52)) 0
          replace q : ((mI M 11 this 52)).toInt < 0 ∨ 1 ≤ ((mI M 11 this 52)).toInt := sw1 q b15 rfl rfl
          replace q : ((mI M 11 this 52)).toInt < 0 ∨ 2 ≤ ((mI M 11 this 52)).toInt := sw1 q b16 rfl rfl
          replace q : ((mI M 11 this 52)).toInt < 0 ∨ 3 ≤ ((mI M 11 this 52)).toInt := sw1 q b17 rfl rfl
          omega
        · refine E_blk (lv' := [some (vr (some (11, this)))]) (st' := [vr (some (11, this))]) (M1 := M) (pc' := 168) (tb_Model hγ) [.aload_n 0] (by decide +kernel) rfl rfl trivial ?_
          refine E_callX (κ' := k_Model_codeLine) (As := []) (st := []) mv_Model_codeLine (Or.inl (tbk_mem (j := 15) (k := 84) rfl)) rfl (by decide +kernel) (Nat.le_of_ble_eq_true rfl) (Nat.le_of_ble_eq_true rfl) rfl (by decide) rfl (lk_Model_codeLine hγ this _ _ M h) (fun _ _ => Qv_r) (fun _ h => h) (fun v M11 hp => Qv_k (R := fun st => E γ k_Model_takeLine 8 171 [some (vr (some (11, this)))] st M11 (Qx (14, 0) (Qv Q) X)) hp (fun h => ?_))
          refine E_mask [true] rfl ?_
          exact lk_Model_takeLine_j171 hγ this Q X  M11 h
set_option maxRecDepth 4096 in
theorem lk_Model_takeLine_j47 {γ : Gm} (hγ : Gk γ) (this : Nat) (Q : Mem → Prop) (X : Mem → Prop)  (M : Mem) (h : w_Model_takeLine_j47 this Q X  M) : E γ k_Model_takeLine 8 47 [some (vr (some (11, this)))] [] M (Qx (14, 0) (Qv Q) X) := by
  unfold w_Model_takeLine_j47 at h
  obtain ⟨c30, h⟩ := h
  refine E_blk (lv' := [some (vr (some (11, this)))]) (st' := [vi (58 : Int32), vi (mI M 411 this (1 : Int32).toNatClampNeg)]) (M1 := M) (pc' := 55) (tb_Model hγ) [.aload_n 0, .getfield 92, .iconst 1, .baload, .bipush 58] (by decide +kernel) rfl rfl ⟨c30, trivial⟩ ?_
  refine E_icmp_eq (off := 12) (tgt := 67) (by decide +kernel) (by decide) (fun b31 => ?_) (fun b31 => ?_)
  · rw [if_pos b31] at h
    refine E_mask [true] rfl ?_
    exact lk_Model_takeLine_j67 hγ this Q X  M h
  · rw [if_neg b31] at h
    refine E_blk (lv' := [some (vr (some (11, this)))]) (st' := [vr (some (11, this))]) (M1 := M) (pc' := 59) (tb_Model hγ) [.aload_n 0] (by decide +kernel) rfl rfl trivial ?_
    refine E_callX (κ' := k_Model_endMethod) (As := []) (st := []) mv_Model_endMethod (Or.inl (tbk_mem (j := 14) (k := 234) rfl)) rfl (by decide +kernel) (Nat.le_of_ble_eq_true rfl) (Nat.le_of_ble_eq_true rfl) rfl (by decide) rfl (lk_Model_endMethod hγ this _ _ M h) (fun _ _ => Qv_r) (fun _ h => h) (fun v M32 hp => Qv_k (R := fun st => E γ k_Model_takeLine 8 62 [some (vr (some (11, this)))] st M32 (Qx (14, 0) (Qv Q) X)) hp (fun h => ?_))
    refine E_blk (lv' := [some (vr (some (11, this)))]) (st' := []) (M1 := (sI M32 11 this 52 (1 : Int32))) (pc' := 67) (tb_Model hγ) [.aload_n 0, .iconst 1, .putfield 566] (by decide +kernel) rfl rfl trivial ?_
    refine E_mask [true] rfl ?_
    exact lk_Model_takeLine_j67 hγ this Q X  (sI M32 11 this 52 (1 : Int32)) h
set_option maxRecDepth 4096 in
theorem lk_Model_takeLine {γ : Gm} (hγ : Gk γ) (this : Nat) (Q : Mem → Prop) (X : Mem → Prop) (M : Mem) (h : w_Model_takeLine this Q X M) : E γ k_Model_takeLine 8 0 [some (vr (some (11, this)))] [] M (Qx (14, 0) (Qv Q) X) := by
  unfold w_Model_takeLine at h
  refine E_blk (lv' := [some (vr (some (11, this)))]) (st' := [vi (3 : Int32), vi (mI (sI M 11 this 51 (99 : Int32)) 11 this 52)]) (M1 := (sI M 11 this 51 (99 : Int32))) (pc' := 11) (tb_Model hγ) [.aload_n 0, .bipush 99, .putfield 532, .aload_n 0, .getfield 566, .iconst 3] (by decide +kernel) rfl rfl trivial ?_
  refine E_icmp_ne (off := 56) (tgt := 67) (by decide +kernel) (by decide) (fun b1 => ?_) (fun b1 => ?_)
  · rw [if_pos b1] at h
    refine E_blk (lv' := [some (vr (some (11, this)))]) (st' := [vi (mI (sI M 11 this 51 (99 : Int32)) 11 this 13), vr (some (11, this))]) (M1 := (sI M 11 this 51 (99 : Int32))) (pc' := 19) (tb_Model hγ) [.aload_n 0, .aload_n 0, .getfield 178] (by decide +kernel) rfl rfl trivial ?_
    refine E_callV (κ' := k_Model_isWord) (As := [vi (mI (sI M 11 this 51 (99 : Int32)) 11 this 13)]) (st := []) mv_Model_isWord (Or.inl (tbk_mem (j := 14) (k := 230) rfl)) rfl (by decide +kernel) (Nat.le_of_ble_eq_true rfl) (Nat.le_of_ble_eq_true rfl) rfl (by decide) (lk_Model_isWord hγ this (mI (sI M 11 this 51 (99 : Int32)) 11 this 13) _ (sI M 11 this 51 (99 : Int32)) h) (fun _ _ => Qi_r) (fun v M2 hp => Qi_k (R := fun st => E γ k_Model_takeLine 8 22 [some (vr (some (11, this)))] st M2 (Qx (14, 0) (Qv Q) X)) hp (fun r3 h => ?_))
    refine E_if_ne (off := 25) (tgt := 47) (by decide +kernel) (by decide) (fun b4 => ?_) (fun b4 => ?_)
    · rw [if_pos b4] at h
      refine E_blk (lv' := [some (vr (some (11, this)))]) (st' := [vi (mI M2 11 this 14), vr (some (11, this))]) (M1 := M2) (pc' := 30) (tb_Model hγ) [.aload_n 0, .aload_n 0, .getfield 183] (by decide +kernel) rfl rfl trivial ?_
      refine E_callV (κ' := k_Model_isWord) (As := [vi (mI M2 11 this 14)]) (st := []) mv_Model_isWord (Or.inl (tbk_mem (j := 14) (k := 230) rfl)) rfl (by decide +kernel) (Nat.le_of_ble_eq_true rfl) (Nat.le_of_ble_eq_true rfl) rfl (by decide) (lk_Model_isWord hγ this (mI M2 11 this 14) _ M2 h) (fun _ _ => Qi_r) (fun v M5 hp => Qi_k (R := fun st => E γ k_Model_takeLine 8 33 [some (vr (some (11, this)))] st M5 (Qx (14, 0) (Qv Q) X)) hp (fun r6 h => ?_))
      refine E_if_ne (off := 14) (tgt := 47) (by decide +kernel) (by decide) (fun b7 => ?_) (fun b7 => ?_)
      · rw [if_pos b7] at h
        refine E_blk (lv' := [some (vr (some (11, this)))]) (st' := [vi (mI M5 11 this 19), vr (some (11, this))]) (M1 := M5) (pc' := 41) (tb_Model hγ) [.aload_n 0, .aload_n 0, .getfield 207] (by decide +kernel) rfl rfl trivial ?_
        refine E_callV (κ' := k_Model_isWord) (As := [vi (mI M5 11 this 19)]) (st := []) mv_Model_isWord (Or.inl (tbk_mem (j := 14) (k := 230) rfl)) rfl (by decide +kernel) (Nat.le_of_ble_eq_true rfl) (Nat.le_of_ble_eq_true rfl) rfl (by decide) (lk_Model_isWord hγ this (mI M5 11 this 19) _ M5 h) (fun _ _ => Qi_r) (fun v M8 hp => Qi_k (R := fun st => E γ k_Model_takeLine 8 44 [some (vr (some (11, this)))] st M8 (Qx (14, 0) (Qv Q) X)) hp (fun r9 h => ?_))
        refine E_if_eq (off := 23) (tgt := 67) (by decide +kernel) (by decide) (fun b10 => ?_) (fun b10 => ?_)
        · rw [if_pos b10] at h
          refine E_mask [true] rfl ?_
          exact lk_Model_takeLine_j67 hγ this Q X  M8 h
        · rw [if_neg b10] at h
          refine E_mask [true] rfl ?_
          exact lk_Model_takeLine_j47 hγ this Q X  M8 h
      · rw [if_neg b7] at h
        refine E_mask [true] rfl ?_
        exact lk_Model_takeLine_j47 hγ this Q X  M5 h
    · rw [if_neg b4] at h
      refine E_mask [true] rfl ?_
      exact lk_Model_takeLine_j47 hγ this Q X  M2 h
  · rw [if_neg b1] at h
    refine E_mask [true] rfl ?_
    exact lk_Model_takeLine_j67 hγ this Q X  (sI M 11 this 51 (99 : Int32)) h
def w_Model_take_j135 (this : Nat) (Q : Int32 → Mem → Prop) (v3 : Int32) (v4 : Int32) (v5 : Int32) (v6 : Int32) (v7 : Int32) (s0 : Nat) (M : Mem) : Prop :=
  ∃ i13, (mR M 11 this 45) = some (12, i13) ∧ ∃ i14, (mR (sI M 12 i13 2 v3) 11 this 45) = some (12, i14) ∧ ∃ i15, (mR (sI (sI M 12 i13 2 v3) 12 i14 35 v4) 11 this 45) = some (12, i15) ∧ ∃ i16, (mR (sI (sI (sI M 12 i13 2 v3) 12 i14 35 v4) 12 i15 37 v5) 11 this 45) = some (12, i16) ∧ ∃ M17, M17 = (sI (sI (sI (sI M 12 i13 2 v3) 12 i14 35 v4) 12 i15 37 v5) 12 i16 41 v6) ∧ ∃ i18, (mR M17 11 this 45) = some (12, i18) ∧ Q ((-10 : Int32) - (mI (sI M17 12 i18 43 v7) 11 this 49)) (sI M17 12 i18 43 v7)
def w_Model_take_j110 (this : Nat) (Q : Int32 → Mem → Prop) (k63 : Nat → Int32 → Int32 → Int32 → Int32 → Int32 → Int32 → Int32 → Mem → Prop) (v1 : Nat) (v2 : Int32) (v3 : Int32) (v4 : Int32) (v5 : Int32) (v6 : Int32) (v7 : Int32) (v9 : Int32) (M : Mem) : Prop :=
  k63 v1 v2 v3 v4 v5 v6 v7 (v9 + (1 : Int32)) M
def w_Model_take_j94 (this : Nat) (Q : Int32 → Mem → Prop) (k63 : Nat → Int32 → Int32 → Int32 → Int32 → Int32 → Int32 → Int32 → Mem → Prop) (v1 : Nat) (v2 : Int32) (v3 : Int32) (v4 : Int32) (v5 : Int32) (v6 : Int32) (v7 : Int32) (v8 : Int32) (v9 : Int32) (M : Mem) : Prop :=
  w_Model_cutLine this v1 v8 v9 (fun r21 M20 => if r21 = 0 then (w_Model_take_j110 this Q k63 v1 v2 v3 v4 v5 v6 v7 v9 M20) else (w_Model_takeLine this (fun M23 => w_Model_take_j110 this Q k63 v1 v2 v3 v4 v5 v6 v7 v9 M23) (fun M24 => w_Model_take_j135 this Q v3 v4 v5 v6 v7 0 M24) M20)) M
def w_Model_take_L73 (this : Nat) (Q : Int32 → Mem → Prop) (k63 : Nat → Int32 → Int32 → Int32 → Int32 → Int32 → Int32 → Int32 → Mem → Prop) : Nat → Nat → Int32 → Int32 → Int32 → Int32 → Int32 → Int32 → Int32 → Int32 → Mem → Prop
  | 0, _, _, _, _, _, _, _, _, _, _ => False
  | n + 1, v1, v2, v3, v4, v5, v6, v7, v8, v9, M => if v2 ≤ v9 then (w_Model_take_j94 this Q k63 v1 v2 v3 v4 v5 v6 v7 v8 v9 M) else (vp_in v9 (mL M 402 v1) ∧ if (mI M 402 v1 v9.toNatClampNeg) = (10 : Int32) then (w_Model_take_j94 this Q k63 v1 v2 v3 v4 v5 v6 v7 v8 v9 M) else ((w_Model_take_L73 this Q k63 n) v1 v2 v3 v4 v5 v6 v7 v8 (v9 + (1 : Int32)) M))
def w_Model_take_L63 (this : Nat) (Q : Int32 → Mem → Prop) : Nat → Nat → Int32 → Int32 → Int32 → Int32 → Int32 → Int32 → Int32 → Mem → Prop
  | 0, _, _, _, _, _, _, _, _, _ => False
  | n + 1, v1, v2, v3, v4, v5, v6, v7, v8, M => if v2 < v8 then (if (mI M 11 this 52) = 0 then (∃ i9, (mR M 11 this 45) = some (12, i9) ∧ Q ((mI M 12 i9 2) - v3) M) else (w_Model_refuse this (1 : Int32) v2 (fun M10 => ∃ i11, (mR M10 11 this 45) = some (12, i11) ∧ Q ((mI M10 12 i11 2) - v3) M10) (fun M12 => w_Model_take_j135 this Q v3 v4 v5 v6 v7 0 M12) M)) else (∃ n27 : Nat, w_Model_take_L73 this Q (w_Model_take_L63 this Q n) n27 v1 v2 v3 v4 v5 v6 v7 v8 v8 M)
def w_Model_take (this : Nat) (a1 : Nat) (a2 : Int32) (Q : Int32 → Mem → Prop) (M : Mem) : Prop :=
  ∃ i1, (mR M 11 this 45) = some (12, i1) ∧ ∃ i2, (mR M 11 this 45) = some (12, i2) ∧ ∃ i3, (mR M 11 this 45) = some (12, i3) ∧ ∃ i4, (mR M 11 this 45) = some (12, i4) ∧ ∃ i5, (mR M 11 this 45) = some (12, i5) ∧ ∃ M6, M6 = (sI (sI (sI M 11 this 49 (0 : Int32)) 11 this 50 (-2 : Int32)) 11 this 52 (0 : Int32)) ∧ ∃ n28 : Nat, w_Model_take_L63 this Q n28 a1 a2 (mI M 12 i1 2) (mI M 12 i2 35) (mI M 12 i3 37) (mI M 12 i4 41) (mI M 12 i5 43) (0 : Int32) M6
set_option maxRecDepth 4096 in
theorem lk_Model_take_j135 {γ : Gm} (hγ : Gk γ) (this : Nat) (Q : Int32 → Mem → Prop) (v3 : Int32) (v4 : Int32) (v5 : Int32) (v6 : Int32) (v7 : Int32) (s0 : Nat) (M : Mem) (h : w_Model_take_j135 this Q v3 v4 v5 v6 v7 s0 M) : E γ k_Model_take 9 135 [some (vr (some (11, this))), none, none, some (vi v3), some (vi v4), some (vi v5), some (vi v6), some (vi v7), none, none] [vr (some (14, s0))] M (Qi Q) := by
  unfold w_Model_take_j135 at h
  refine E_blk (lv' := [some (vr (some (11, this))), none, none, some (vi v3), some (vi v4), some (vi v5), some (vi v6), some (vi v7), some (vr (some (14, s0))), none]) (st' := [vr (mR M 11 this 45)]) (M1 := M) (pc' := 141) (tb_Model hγ) [.astore 8, .aload_n 0, .getfield 522] (by decide +kernel) rfl rfl trivial ?_
  obtain ⟨i13, ei13, h⟩ := h
  rw [ei13]
  refine E_blk (lv' := [some (vr (some (11, this))), none, none, some (vi v3), some (vi v4), some (vi v5), some (vi v6), some (vi v7), some (vr (some (14, s0))), none]) (st' := [vr (mR (sI M 12 i13 2 v3) 11 this 45)]) (M1 := (sI M 12 i13 2 v3)) (pc' := 149) (tb_Model hγ) [.iload_n 3, .putfield 420, .aload_n 0, .getfield 522] (by decide +kernel) rfl rfl trivial ?_
  obtain ⟨i14, ei14, h⟩ := h
  rw [ei14]
  refine E_blk (lv' := [some (vr (some (11, this))), none, none, some (vi v3), some (vi v4), some (vi v5), some (vi v6), some (vi v7), some (vr (some (14, s0))), none]) (st' := [vr (mR (sI (sI M 12 i13 2 v3) 12 i14 35 v4) 11 this 45)]) (M1 := (sI (sI M 12 i13 2 v3) 12 i14 35 v4)) (pc' := 158) (tb_Model hγ) [.iload 4, .putfield 471, .aload_n 0, .getfield 522] (by decide +kernel) rfl rfl trivial ?_
  obtain ⟨i15, ei15, h⟩ := h
  rw [ei15]
  refine E_blk (lv' := [some (vr (some (11, this))), none, none, some (vi v3), some (vi v4), some (vi v5), some (vi v6), some (vi v7), some (vr (some (14, s0))), none]) (st' := [vr (mR (sI (sI (sI M 12 i13 2 v3) 12 i14 35 v4) 12 i15 37 v5) 11 this 45)]) (M1 := (sI (sI (sI M 12 i13 2 v3) 12 i14 35 v4) 12 i15 37 v5)) (pc' := 167) (tb_Model hγ) [.iload 5, .putfield 474, .aload_n 0, .getfield 522] (by decide +kernel) rfl rfl trivial ?_
  obtain ⟨i16, ei16, h⟩ := h
  rw [ei16]
  refine E_blk (lv' := [some (vr (some (11, this))), none, none, some (vi v3), some (vi v4), some (vi v5), some (vi v6), some (vi v7), some (vr (some (14, s0))), none]) (st' := []) (M1 := (sI (sI (sI (sI M 12 i13 2 v3) 12 i14 35 v4) 12 i15 37 v5) 12 i16 41 v6)) (pc' := 172) (tb_Model hγ) [.iload 6, .putfield 477] (by decide +kernel) rfl rfl trivial ?_
  obtain ⟨M17, eM17, h⟩ := h
  rw [← eM17]
  refine E_blk (lv' := [some (vr (some (11, this))), none, none, some (vi v3), some (vi v4), some (vi v5), some (vi v6), some (vi v7), some (vr (some (14, s0))), none]) (st' := [vr (mR M17 11 this 45)]) (M1 := M17) (pc' := 176) (tb_Model hγ) [.aload_n 0, .getfield 522] (by decide +kernel) rfl rfl trivial ?_
  obtain ⟨i18, ei18, h⟩ := h
  rw [ei18]
  refine E_blk (lv' := [some (vr (some (11, this))), none, none, some (vi v3), some (vi v4), some (vi v5), some (vi v6), some (vi v7), some (vr (some (14, s0))), none]) (st' := [vi ((-10 : Int32) - (mI (sI M17 12 i18 43 v7) 11 this 49))]) (M1 := (sI M17 12 i18 43 v7)) (pc' := 188) (tb_Model hγ) [.iload 7, .putfield 480, .bipush (.negSucc 9), .aload_n 0, .getfield 526, .isub] (by decide +kernel) rfl rfl trivial ?_
  exact E_iret rfl (by decide +kernel) h
set_option maxRecDepth 4096 in
theorem lk_Model_take_j110 {γ : Gm} (hγ : Gk γ) (this : Nat) (Q : Int32 → Mem → Prop) (k63 : Nat → Int32 → Int32 → Int32 → Int32 → Int32 → Int32 → Int32 → Mem → Prop) (hk63 : ∀ (v1 : Nat) (v2 : Int32) (v3 : Int32) (v4 : Int32) (v5 : Int32) (v6 : Int32) (v7 : Int32) (v8 : Int32) (M : Mem), k63 v1 v2 v3 v4 v5 v6 v7 v8 M → E γ k_Model_take 9 63 [some (vr (some (11, this))), some (vr (some (402, v1))), some (vi v2), some (vi v3), some (vi v4), some (vi v5), some (vi v6), some (vi v7), some (vi v8), none] [] M (Qi Q)) (v1 : Nat) (v2 : Int32) (v3 : Int32) (v4 : Int32) (v5 : Int32) (v6 : Int32) (v7 : Int32) (v9 : Int32) (M : Mem) (h : w_Model_take_j110 this Q k63 v1 v2 v3 v4 v5 v6 v7 v9 M) : E γ k_Model_take 9 110 [some (vr (some (11, this))), some (vr (some (402, v1))), some (vi v2), some (vi v3), some (vi v4), some (vi v5), some (vi v6), some (vi v7), none, some (vi v9)] [] M (Qi Q) := by
  unfold w_Model_take_j110 at h
  refine E_blk (lv' := [some (vr (some (11, this))), some (vr (some (402, v1))), some (vi v2), some (vi v3), some (vi v4), some (vi v5), some (vi v6), some (vi v7), some (vi (v9 + (1 : Int32))), some (vi v9)]) (st' := []) (M1 := M) (pc' := 116) (tb_Model hγ) [.iload 9, .iconst 1, .iadd, .istore 8] (by decide +kernel) rfl rfl trivial ?_
  refine E_goto (off := -53) (tgt := 63) (by decide +kernel) (by decide) ?_
  refine E_mask [true, true, true, true, true, true, true, true, true, false] rfl ?_
  exact hk63 v1 v2 v3 v4 v5 v6 v7 (v9 + (1 : Int32)) M h
set_option maxRecDepth 4096 in
theorem lk_Model_take_j94 {γ : Gm} (hγ : Gk γ) (this : Nat) (Q : Int32 → Mem → Prop) (k63 : Nat → Int32 → Int32 → Int32 → Int32 → Int32 → Int32 → Int32 → Mem → Prop) (hk63 : ∀ (v1 : Nat) (v2 : Int32) (v3 : Int32) (v4 : Int32) (v5 : Int32) (v6 : Int32) (v7 : Int32) (v8 : Int32) (M : Mem), k63 v1 v2 v3 v4 v5 v6 v7 v8 M → E γ k_Model_take 9 63 [some (vr (some (11, this))), some (vr (some (402, v1))), some (vi v2), some (vi v3), some (vi v4), some (vi v5), some (vi v6), some (vi v7), some (vi v8), none] [] M (Qi Q)) (v1 : Nat) (v2 : Int32) (v3 : Int32) (v4 : Int32) (v5 : Int32) (v6 : Int32) (v7 : Int32) (v8 : Int32) (v9 : Int32) (M : Mem) (h : w_Model_take_j94 this Q k63 v1 v2 v3 v4 v5 v6 v7 v8 v9 M) : E γ k_Model_take 9 94 [some (vr (some (11, this))), some (vr (some (402, v1))), some (vi v2), some (vi v3), some (vi v4), some (vi v5), some (vi v6), some (vi v7), some (vi v8), some (vi v9)] [] M (Qi Q) := by
  unfold w_Model_take_j94 at h
  refine E_blk (lv' := [some (vr (some (11, this))), some (vr (some (402, v1))), some (vi v2), some (vi v3), some (vi v4), some (vi v5), some (vi v6), some (vi v7), some (vi v8), some (vi v9)]) (st' := [vi v9, vi v8, vr (some (402, v1)), vr (some (11, this))]) (M1 := M) (pc' := 100) (tb_Model hγ) [.aload_n 0, .aload_n 1, .iload 8, .iload 9] (by decide +kernel) rfl rfl trivial ?_
  refine E_callV (κ' := k_Model_cutLine) (As := [vr (some (402, v1)), vi v8, vi v9]) (st := []) mv_Model_cutLine (Or.inl (tbk_mem (j := 14) (k := 202) rfl)) rfl (by decide +kernel) (Nat.le_of_ble_eq_true rfl) (Nat.le_of_ble_eq_true rfl) rfl (by decide) (lk_Model_cutLine hγ this v1 v8 v9 _ M h) (fun _ _ => Qi_r) (fun v M20 hp => Qi_k (R := fun st => E γ k_Model_take 9 103 [some (vr (some (11, this))), some (vr (some (402, v1))), some (vi v2), some (vi v3), some (vi v4), some (vi v5), some (vi v6), some (vi v7), some (vi v8), some (vi v9)] st M20 (Qi Q)) hp (fun r21 h => ?_))
  refine E_if_eq (off := 7) (tgt := 110) (by decide +kernel) (by decide) (fun b22 => ?_) (fun b22 => ?_)
  · rw [if_pos b22] at h
    refine E_mask [true, true, true, true, true, true, true, true, false, true] rfl ?_
    exact lk_Model_take_j110 hγ this Q k63 hk63 v1 v2 v3 v4 v5 v6 v7 v9 M20 h
  · rw [if_neg b22] at h
    refine E_blk (lv' := [some (vr (some (11, this))), some (vr (some (402, v1))), some (vi v2), some (vi v3), some (vi v4), some (vi v5), some (vi v6), some (vi v7), some (vi v8), some (vi v9)]) (st' := [vr (some (11, this))]) (M1 := M20) (pc' := 107) (tb_Model hγ) [.aload_n 0] (by decide +kernel) rfl rfl trivial ?_
    refine E_callC (q := (14, 0)) (hp := 135) (ct := 267) (κ' := k_Model_takeLine) (As := []) (st := []) mv_Model_takeLine (Or.inl (tbk_mem (j := 14) (k := 226) rfl)) rfl (by decide +kernel) (Nat.le_of_ble_eq_true rfl) (Nat.le_of_ble_eq_true rfl) rfl (by decide) rfl (Or.inr ⟨by decide, (show (14 : Nat) < 20 by decide), _, rfl, (tbk_mem (j := 11) (k := 103) rfl)⟩) (lk_Model_takeLine hγ this _ _ M20 h) (fun _ _ => Qv_r) (fun M24 h => ?_) (fun v M23 hp => Qv_k (R := fun st => E γ k_Model_take 9 110 [some (vr (some (11, this))), some (vr (some (402, v1))), some (vi v2), some (vi v3), some (vi v4), some (vi v5), some (vi v6), some (vi v7), some (vi v8), some (vi v9)] st M23 (Qi Q)) hp (fun h => ?_))
    · refine E_mask [true, false, false, true, true, true, true, true, false, false] rfl ?_
      exact lk_Model_take_j135 hγ this Q v3 v4 v5 v6 v7 0 M24 h
    · refine E_mask [true, true, true, true, true, true, true, true, false, true] rfl ?_
      exact lk_Model_take_j110 hγ this Q k63 hk63 v1 v2 v3 v4 v5 v6 v7 v9 M23 h
set_option maxRecDepth 4096 in
theorem lk_Model_take_L73 {γ : Gm} (hγ : Gk γ) (this : Nat) (Q : Int32 → Mem → Prop) (k63 : Nat → Int32 → Int32 → Int32 → Int32 → Int32 → Int32 → Int32 → Mem → Prop) (hk63 : ∀ (v1 : Nat) (v2 : Int32) (v3 : Int32) (v4 : Int32) (v5 : Int32) (v6 : Int32) (v7 : Int32) (v8 : Int32) (M : Mem), k63 v1 v2 v3 v4 v5 v6 v7 v8 M → E γ k_Model_take 9 63 [some (vr (some (11, this))), some (vr (some (402, v1))), some (vi v2), some (vi v3), some (vi v4), some (vi v5), some (vi v6), some (vi v7), some (vi v8), none] [] M (Qi Q)) : ∀ (n : Nat) (v1 : Nat) (v2 : Int32) (v3 : Int32) (v4 : Int32) (v5 : Int32) (v6 : Int32) (v7 : Int32) (v8 : Int32) (v9 : Int32) (M : Mem), w_Model_take_L73 this Q k63 n v1 v2 v3 v4 v5 v6 v7 v8 v9 M → E γ k_Model_take 9 73 [some (vr (some (11, this))), some (vr (some (402, v1))), some (vi v2), some (vi v3), some (vi v4), some (vi v5), some (vi v6), some (vi v7), some (vi v8), some (vi v9)] [] M (Qi Q) := by
  intro n
  induction n with
  | zero => intro v1 v2 v3 v4 v5 v6 v7 v8 v9 M h; exact h.elim
  | succ n ih =>
    intro v1 v2 v3 v4 v5 v6 v7 v8 v9 M h
    unfold w_Model_take_L73 at h
    refine E_blk (lv' := [some (vr (some (11, this))), some (vr (some (402, v1))), some (vi v2), some (vi v3), some (vi v4), some (vi v5), some (vi v6), some (vi v7), some (vi v8), some (vi v9)]) (st' := [vi v2, vi v9]) (M1 := M) (pc' := 76) (tb_Model hγ) [.iload 9, .iload_n 2] (by decide +kernel) rfl rfl trivial ?_
    refine E_icmp_ge (off := 18) (tgt := 94) (by decide +kernel) (by decide) (fun b19 => ?_) (fun b19 => ?_)
    · rw [if_pos b19] at h
      refine E_mask [true, true, true, true, true, true, true, true, true, true] rfl ?_
      exact lk_Model_take_j94 hγ this Q k63 hk63 v1 v2 v3 v4 v5 v6 v7 v8 v9 M h
    · rw [if_neg b19] at h
      obtain ⟨c25, h⟩ := h
      refine E_blk (lv' := [some (vr (some (11, this))), some (vr (some (402, v1))), some (vi v2), some (vi v3), some (vi v4), some (vi v5), some (vi v6), some (vi v7), some (vi v8), some (vi v9)]) (st' := [vi (10 : Int32), vi (mI M 402 v1 v9.toNatClampNeg)]) (M1 := M) (pc' := 85) (tb_Model hγ) [.aload_n 1, .iload 9, .baload, .bipush 10] (by decide +kernel) rfl rfl ⟨c25, trivial⟩ ?_
      refine E_icmp_eq (off := 9) (tgt := 94) (by decide +kernel) (by decide) (fun b26 => ?_) (fun b26 => ?_)
      · rw [if_pos b26] at h
        refine E_mask [true, true, true, true, true, true, true, true, true, true] rfl ?_
        exact lk_Model_take_j94 hγ this Q k63 hk63 v1 v2 v3 v4 v5 v6 v7 v8 v9 M h
      · rw [if_neg b26] at h
        refine E_blk (lv' := [some (vr (some (11, this))), some (vr (some (402, v1))), some (vi v2), some (vi v3), some (vi v4), some (vi v5), some (vi v6), some (vi v7), some (vi v8), some (vi (v9 + (1 : Int32)))]) (st' := []) (M1 := M) (pc' := 91) (tb_Model hγ) [.iinc 9 1] (by decide +kernel) rfl rfl trivial ?_
        refine E_goto (off := -18) (tgt := 73) (by decide +kernel) (by decide) ?_
        refine E_mask [true, true, true, true, true, true, true, true, true, true] rfl ?_
        exact ih v1 v2 v3 v4 v5 v6 v7 v8 (v9 + (1 : Int32)) M h
set_option maxRecDepth 4096 in
theorem lk_Model_take_L63 {γ : Gm} (hγ : Gk γ) (this : Nat) (Q : Int32 → Mem → Prop) : ∀ (n : Nat) (v1 : Nat) (v2 : Int32) (v3 : Int32) (v4 : Int32) (v5 : Int32) (v6 : Int32) (v7 : Int32) (v8 : Int32) (M : Mem), w_Model_take_L63 this Q n v1 v2 v3 v4 v5 v6 v7 v8 M → E γ k_Model_take 9 63 [some (vr (some (11, this))), some (vr (some (402, v1))), some (vi v2), some (vi v3), some (vi v4), some (vi v5), some (vi v6), some (vi v7), some (vi v8), none] [] M (Qi Q) := by
  intro n
  induction n with
  | zero => intro v1 v2 v3 v4 v5 v6 v7 v8 M h; exact h.elim
  | succ n ih =>
    intro v1 v2 v3 v4 v5 v6 v7 v8 M h
    unfold w_Model_take_L63 at h
    refine E_blk (lv' := [some (vr (some (11, this))), some (vr (some (402, v1))), some (vi v2), some (vi v3), some (vi v4), some (vi v5), some (vi v6), some (vi v7), some (vi v8), none]) (st' := [vi v2, vi v8]) (M1 := M) (pc' := 66) (tb_Model hγ) [.iload 8, .iload_n 2] (by decide +kernel) rfl rfl trivial ?_
    refine E_icmp_gt (off := 53) (tgt := 119) (by decide +kernel) (by decide) (fun b7 => ?_) (fun b7 => ?_)
    · rw [if_pos b7] at h
      refine E_blk (lv' := [some (vr (some (11, this))), some (vr (some (402, v1))), some (vi v2), some (vi v3), some (vi v4), some (vi v5), some (vi v6), some (vi v7), some (vi v8), none]) (st' := [vi (mI M 11 this 52)]) (M1 := M) (pc' := 123) (tb_Model hγ) [.aload_n 0, .getfield 566] (by decide +kernel) rfl rfl trivial ?_
      refine E_if_eq (off := 9) (tgt := 132) (by decide +kernel) (by decide) (fun b8 => ?_) (fun b8 => ?_)
      · rw [if_pos b8] at h
        refine E_goto (off := 57) (tgt := 189) (by decide +kernel) (by decide) ?_
        refine E_blk (lv' := [some (vr (some (11, this))), some (vr (some (402, v1))), some (vi v2), some (vi v3), some (vi v4), some (vi v5), some (vi v6), some (vi v7), some (vi v8), none]) (st' := [vr (mR M 11 this 45)]) (M1 := M) (pc' := 193) (tb_Model hγ) [.aload_n 0, .getfield 522] (by decide +kernel) rfl rfl trivial ?_
        obtain ⟨i9, ei9, h⟩ := h
        rw [ei9]
        refine E_blk (lv' := [some (vr (some (11, this))), some (vr (some (402, v1))), some (vi v2), some (vi v3), some (vi v4), some (vi v5), some (vi v6), some (vi v7), some (vi v8), none]) (st' := [vi ((mI M 12 i9 2) - v3)]) (M1 := M) (pc' := 198) (tb_Model hγ) [.getfield 420, .iload_n 3, .isub] (by decide +kernel) rfl rfl trivial ?_
        exact E_iret rfl (by decide +kernel) h
      · rw [if_neg b8] at h
        refine E_blk (lv' := [some (vr (some (11, this))), some (vr (some (402, v1))), some (vi v2), some (vi v3), some (vi v4), some (vi v5), some (vi v6), some (vi v7), some (vi v8), none]) (st' := [vi v2, vi (1 : Int32), vr (some (11, this))]) (M1 := M) (pc' := 129) (tb_Model hγ) [.aload_n 0, .iconst 1, .iload_n 2] (by decide +kernel) rfl rfl trivial ?_
        refine E_callC (q := (14, 0)) (hp := 135) (ct := 267) (κ' := k_Model_refuse) (As := [vi (1 : Int32), vi v2]) (st := []) mv_Model_refuse (Or.inl (tbk_mem (j := 15) (k := 3) rfl)) rfl (by decide +kernel) (Nat.le_of_ble_eq_true rfl) (Nat.le_of_ble_eq_true rfl) rfl (by decide) rfl (Or.inr ⟨by decide, (show (14 : Nat) < 20 by decide), _, rfl, (tbk_mem (j := 11) (k := 103) rfl)⟩) (lk_Model_refuse hγ this (1 : Int32) v2 _ _ M h) (fun _ _ => Qv_r) (fun M12 h => ?_) (fun v M10 hp => Qv_k (R := fun st => E γ k_Model_take 9 132 [some (vr (some (11, this))), some (vr (some (402, v1))), some (vi v2), some (vi v3), some (vi v4), some (vi v5), some (vi v6), some (vi v7), some (vi v8), none] st M10 (Qi Q)) hp (fun h => ?_))
        · refine E_mask [true, false, false, true, true, true, true, true, false, false] rfl ?_
          exact lk_Model_take_j135 hγ this Q v3 v4 v5 v6 v7 0 M12 h
        · refine E_goto (off := 57) (tgt := 189) (by decide +kernel) (by decide) ?_
          refine E_blk (lv' := [some (vr (some (11, this))), some (vr (some (402, v1))), some (vi v2), some (vi v3), some (vi v4), some (vi v5), some (vi v6), some (vi v7), some (vi v8), none]) (st' := [vr (mR M10 11 this 45)]) (M1 := M10) (pc' := 193) (tb_Model hγ) [.aload_n 0, .getfield 522] (by decide +kernel) rfl rfl trivial ?_
          obtain ⟨i11, ei11, h⟩ := h
          rw [ei11]
          refine E_blk (lv' := [some (vr (some (11, this))), some (vr (some (402, v1))), some (vi v2), some (vi v3), some (vi v4), some (vi v5), some (vi v6), some (vi v7), some (vi v8), none]) (st' := [vi ((mI M10 12 i11 2) - v3)]) (M1 := M10) (pc' := 198) (tb_Model hγ) [.getfield 420, .iload_n 3, .isub] (by decide +kernel) rfl rfl trivial ?_
          exact E_iret rfl (by decide +kernel) h
    · rw [if_neg b7] at h
      refine E_blk (lv' := [some (vr (some (11, this))), some (vr (some (402, v1))), some (vi v2), some (vi v3), some (vi v4), some (vi v5), some (vi v6), some (vi v7), some (vi v8), some (vi v8)]) (st' := []) (M1 := M) (pc' := 73) (tb_Model hγ) [.iload 8, .istore 9] (by decide +kernel) rfl rfl trivial ?_
      obtain ⟨n27, h⟩ := h
      refine E_mask [true, true, true, true, true, true, true, true, true, true] rfl ?_
      exact lk_Model_take_L73 hγ this Q (w_Model_take_L63 this Q n) ih n27 v1 v2 v3 v4 v5 v6 v7 v8 v8 M h
set_option maxRecDepth 4096 in
theorem lk_Model_take {γ : Gm} (hγ : Gk γ) (this : Nat) (a1 : Nat) (a2 : Int32) (Q : Int32 → Mem → Prop) (M : Mem) (h : w_Model_take this a1 a2 Q M) : E γ k_Model_take 9 0 [some (vr (some (11, this))), some (vr (some (402, a1))), some (vi a2), none, none, none, none, none, none, none] [] M (Qi Q) := by
  unfold w_Model_take at h
  refine E_blk (lv' := [some (vr (some (11, this))), some (vr (some (402, a1))), some (vi a2), none, none, none, none, none, none, none]) (st' := [vr (mR M 11 this 45)]) (M1 := M) (pc' := 4) (tb_Model hγ) [.aload_n 0, .getfield 522] (by decide +kernel) rfl rfl trivial ?_
  obtain ⟨i1, ei1, h⟩ := h
  rw [ei1]
  refine E_blk (lv' := [some (vr (some (11, this))), some (vr (some (402, a1))), some (vi a2), some (vi (mI M 12 i1 2)), none, none, none, none, none, none]) (st' := [vr (mR M 11 this 45)]) (M1 := M) (pc' := 12) (tb_Model hγ) [.getfield 420, .istore_n 3, .aload_n 0, .getfield 522] (by decide +kernel) rfl rfl trivial ?_
  obtain ⟨i2, ei2, h⟩ := h
  rw [ei2]
  refine E_blk (lv' := [some (vr (some (11, this))), some (vr (some (402, a1))), some (vi a2), some (vi (mI M 12 i1 2)), some (vi (mI M 12 i2 35)), none, none, none, none, none]) (st' := [vr (mR M 11 this 45)]) (M1 := M) (pc' := 21) (tb_Model hγ) [.getfield 471, .istore 4, .aload_n 0, .getfield 522] (by decide +kernel) rfl rfl trivial ?_
  obtain ⟨i3, ei3, h⟩ := h
  rw [ei3]
  refine E_blk (lv' := [some (vr (some (11, this))), some (vr (some (402, a1))), some (vi a2), some (vi (mI M 12 i1 2)), some (vi (mI M 12 i2 35)), some (vi (mI M 12 i3 37)), none, none, none, none]) (st' := [vr (mR M 11 this 45)]) (M1 := M) (pc' := 30) (tb_Model hγ) [.getfield 474, .istore 5, .aload_n 0, .getfield 522] (by decide +kernel) rfl rfl trivial ?_
  obtain ⟨i4, ei4, h⟩ := h
  rw [ei4]
  refine E_blk (lv' := [some (vr (some (11, this))), some (vr (some (402, a1))), some (vi a2), some (vi (mI M 12 i1 2)), some (vi (mI M 12 i2 35)), some (vi (mI M 12 i3 37)), some (vi (mI M 12 i4 41)), none, none, none]) (st' := [vr (mR M 11 this 45)]) (M1 := M) (pc' := 39) (tb_Model hγ) [.getfield 477, .istore 6, .aload_n 0, .getfield 522] (by decide +kernel) rfl rfl trivial ?_
  obtain ⟨i5, ei5, h⟩ := h
  rw [ei5]
  refine E_blk (lv' := [some (vr (some (11, this))), some (vr (some (402, a1))), some (vi a2), some (vi (mI M 12 i1 2)), some (vi (mI M 12 i2 35)), some (vi (mI M 12 i3 37)), some (vi (mI M 12 i4 41)), some (vi (mI M 12 i5 43)), none, none]) (st' := []) (M1 := (sI (sI (sI M 11 this 49 (0 : Int32)) 11 this 50 (-2 : Int32)) 11 this 52 (0 : Int32))) (pc' := 60) (tb_Model hγ) [.getfield 480, .istore 7, .aload_n 0, .iconst 0, .putfield 526, .aload_n 0, .bipush (.negSucc 1), .putfield 529, .aload_n 0, .iconst 0, .putfield 566] (by decide +kernel) rfl rfl trivial ?_
  obtain ⟨M6, eM6, h⟩ := h
  rw [← eM6]
  refine E_blk (lv' := [some (vr (some (11, this))), some (vr (some (402, a1))), some (vi a2), some (vi (mI M 12 i1 2)), some (vi (mI M 12 i2 35)), some (vi (mI M 12 i3 37)), some (vi (mI M 12 i4 41)), some (vi (mI M 12 i5 43)), some (vi (0 : Int32)), none]) (st' := []) (M1 := M6) (pc' := 63) (tb_Model hγ) [.iconst 0, .istore 8] (by decide +kernel) rfl rfl trivial ?_
  obtain ⟨n28, h⟩ := h
  refine E_mask [true, true, true, true, true, true, true, true, true, false] rfl ?_
  exact lk_Model_take_L63 hγ this Q n28 a1 a2 (mI M 12 i1 2) (mI M 12 i2 35) (mI M 12 i3 37) (mI M 12 i4 41) (mI M 12 i5 43) (0 : Int32) M6 h
def w_Model_parentOf (this : Nat) (a1 : Int32) (Q : Int32 → Mem → Prop) (M : Mem) : Prop :=
  if a1 = 0 then (Q (-2 : Int32) M) else (∃ i2, (mR M 11 this 45) = some (12, i2) ∧ vp_in a1 (mL M 132 i2) ∧ if ((mI M 132 i2 a1.toNatClampNeg) &&& (4 : Int32)) = 0 then (∃ i5, (mR M 11 this 45) = some (12, i5) ∧ vp_in a1 (mL M 131 i5) ∧ w_Model_classOf this (mI M 131 i5 a1.toNatClampNeg) (fun r8 M7 => Q r8 M7) M) else (Q (0 : Int32) M))
set_option maxRecDepth 4096 in
theorem lk_Model_parentOf {γ : Gm} (hγ : Gk γ) (this : Nat) (a1 : Int32) (Q : Int32 → Mem → Prop) (M : Mem) (h : w_Model_parentOf this a1 Q M) : E γ k_Model_parentOf 1 0 [some (vr (some (11, this))), some (vi a1)] [] M (Qi Q) := by
  unfold w_Model_parentOf at h
  refine E_blk (lv' := [some (vr (some (11, this))), some (vi a1)]) (st' := [vi a1]) (M1 := M) (pc' := 1) (tb_Model hγ) [.iload_n 1] (by decide +kernel) rfl rfl trivial ?_
  refine E_if_ne (off := 8) (tgt := 9) (by decide +kernel) (by decide) (fun b1 => ?_) (fun b1 => ?_)
  · rw [if_pos b1] at h
    refine E_blk (lv' := [some (vr (some (11, this))), some (vi a1)]) (st' := [vi (-2 : Int32)]) (M1 := M) (pc' := 6) (tb_Model hγ) [.bipush (.negSucc 1)] (by decide +kernel) rfl rfl trivial ?_
    refine E_goto (off := 34) (tgt := 40) (by decide +kernel) (by decide) ?_
    exact E_iret rfl (by decide +kernel) h
  · rw [if_neg b1] at h
    refine E_blk (lv' := [some (vr (some (11, this))), some (vi a1)]) (st' := [vr (mR M 11 this 45)]) (M1 := M) (pc' := 13) (tb_Model hγ) [.aload_n 0, .getfield 522] (by decide +kernel) rfl rfl trivial ?_
    obtain ⟨i2, ei2, h⟩ := h
    rw [ei2]
    obtain ⟨c3, h⟩ := h
    refine E_blk (lv' := [some (vr (some (11, this))), some (vi a1)]) (st' := [vi ((mI M 132 i2 a1.toNatClampNeg) &&& (4 : Int32))]) (M1 := M) (pc' := 20) (tb_Model hγ) [.getfield 429, .iload_n 1, .iaload, .iconst 4, .iand] (by decide +kernel) rfl rfl ⟨c3, trivial⟩ ?_
    refine E_if_eq (off := 7) (tgt := 27) (by decide +kernel) (by decide) (fun b4 => ?_) (fun b4 => ?_)
    · rw [if_pos b4] at h
      refine E_blk (lv' := [some (vr (some (11, this))), some (vi a1)]) (st' := [vr (mR M 11 this 45), vr (some (11, this))]) (M1 := M) (pc' := 32) (tb_Model hγ) [.aload_n 0, .aload_n 0, .getfield 522] (by decide +kernel) rfl rfl trivial ?_
      obtain ⟨i5, ei5, h⟩ := h
      rw [ei5]
      obtain ⟨c6, h⟩ := h
      refine E_blk (lv' := [some (vr (some (11, this))), some (vi a1)]) (st' := [vi (mI M 131 i5 a1.toNatClampNeg), vr (some (11, this))]) (M1 := M) (pc' := 37) (tb_Model hγ) [.getfield 426, .iload_n 1, .iaload] (by decide +kernel) rfl rfl ⟨c6, trivial⟩ ?_
      refine E_callV (κ' := k_Model_classOf) (As := [vi (mI M 131 i5 a1.toNatClampNeg)]) (st := []) mv_Model_classOf (Or.inl (tbk_mem (j := 15) (k := 39) rfl)) rfl (by decide +kernel) (Nat.le_of_ble_eq_true rfl) (Nat.le_of_ble_eq_true rfl) rfl (by decide) (lk_Model_classOf hγ this (mI M 131 i5 a1.toNatClampNeg) _ M h) (fun _ _ => Qi_r) (fun v M7 hp => Qi_k (R := fun st => E γ k_Model_parentOf 1 40 [some (vr (some (11, this))), some (vi a1)] st M7 (Qi Q)) hp (fun r8 h => ?_))
      exact E_iret rfl (by decide +kernel) h
    · rw [if_neg b4] at h
      refine E_blk (lv' := [some (vr (some (11, this))), some (vi a1)]) (st' := [vi (0 : Int32)]) (M1 := M) (pc' := 24) (tb_Model hγ) [.iconst 0] (by decide +kernel) rfl rfl trivial ?_
      refine E_goto (off := 16) (tgt := 40) (by decide +kernel) (by decide) ?_
      exact E_iret rfl (by decide +kernel) h
def w_Model_directs_j91 (this : Nat) (Q : Int64 → Mem → Prop) (k42 : Int32 → Int64 → Int32 → Mem → Prop) (v1 : Int32) (v6 : Int32) (s0 : Int64) (s1 : Int64) (M : Mem) : Prop :=
  k42 v1 (s1 ||| s0) (v6 + (1 : Int32)) M
def w_Model_directs_L42 (this : Nat) (Q : Int64 → Mem → Prop) : Nat → Int32 → Int64 → Int32 → Mem → Prop
  | 0, _, _, _, _ => False
  | n + 1, v1, v4, v6, M => ∃ i5, (mR M 11 this 45) = some (12, i5) ∧ vp_in v1 (mL M 134 i5) ∧ if (mI M 134 i5 v1.toNatClampNeg) ≤ v6 then (Q v4 M) else (∃ i8, (mR M 11 this 45) = some (12, i8) ∧ vp_in (((4 : Int32) * v1) + v6) (mL M 133 i8) ∧ w_Model_classOf this (mI M 133 i8 (((4 : Int32) * v1) + v6).toNatClampNeg) (fun r11 M10 => if r11 < 0 then (w_Model_directs_j91 this Q (w_Model_directs_L42 this Q n) v1 v6 (0 : Int64) v4 M10) else (w_Model_directs_j91 this Q (w_Model_directs_L42 this Q n) v1 v6 ((1 : Int64) <<< (r11.toInt64 &&& 63)) v4 M10)) M)
def w_Model_directs_j37 (this : Nat) (Q : Int64 → Mem → Prop) (v1 : Int32) (s0 : Int64) (M : Mem) : Prop :=
  ∃ n13 : Nat, w_Model_directs_L42 this Q n13 v1 s0 (0 : Int32) M
def w_Model_directs_j25 (this : Nat) (Q : Int64 → Mem → Prop) (v1 : Int32) (s0 : Int32) (M : Mem) : Prop :=
  if s0 < 0 then (w_Model_directs_j37 this Q v1 (0 : Int64) M) else (w_Model_directs_j37 this Q v1 ((1 : Int64) <<< (s0.toInt64 &&& 63)) M)
def w_Model_directs (this : Nat) (a1 : Int32) (a2 : Int32) (Q : Int64 → Mem → Prop) (M : Mem) : Prop :=
  if a2 = 0 then (w_Model_parentOf this a1 (fun r3 M2 => w_Model_directs_j25 this Q a1 r3 M2) M) else (∃ i14, (mR M 11 this 45) = some (12, i14) ∧ vp_in a1 (mL M 131 i14) ∧ w_Model_classOf this (mI M 131 i14 a1.toNatClampNeg) (fun r17 M16 => w_Model_directs_j25 this Q a1 r17 M16) M)
set_option maxRecDepth 4096 in
theorem lk_Model_directs_j91 {γ : Gm} (hγ : Gk γ) (this : Nat) (Q : Int64 → Mem → Prop) (k42 : Int32 → Int64 → Int32 → Mem → Prop) (hk42 : ∀ (v1 : Int32) (v4 : Int64) (v6 : Int32) (M : Mem), k42 v1 v4 v6 M → E γ k_Model_directs 2 42 [some (vr (some (11, this))), some (vi v1), none, none, some (vl v4), none, some (vi v6), none] [] M (Ql Q)) (v1 : Int32) (v6 : Int32) (s0 : Int64) (s1 : Int64) (M : Mem) (h : w_Model_directs_j91 this Q k42 v1 v6 s0 s1 M) : E γ k_Model_directs 2 91 [some (vr (some (11, this))), some (vi v1), none, none, none, none, some (vi v6), none] [vl s0, vl s1] M (Ql Q) := by
  unfold w_Model_directs_j91 at h
  refine E_blk (lv' := [some (vr (some (11, this))), some (vi v1), none, none, some (vl (s1 ||| s0)), none, some (vi (v6 + (1 : Int32))), none]) (st' := []) (M1 := M) (pc' := 97) (tb_Model hγ) [.lor, .lstore 4, .iinc 6 1] (by decide +kernel) rfl rfl trivial ?_
  refine E_goto (off := -55) (tgt := 42) (by decide +kernel) (by decide) ?_
  refine E_mask [true, true, false, false, true, false, true, false] rfl ?_
  exact hk42 v1 (s1 ||| s0) (v6 + (1 : Int32)) M h
set_option maxRecDepth 4096 in
theorem lk_Model_directs_L42 {γ : Gm} (hγ : Gk γ) (this : Nat) (Q : Int64 → Mem → Prop) : ∀ (n : Nat) (v1 : Int32) (v4 : Int64) (v6 : Int32) (M : Mem), w_Model_directs_L42 this Q n v1 v4 v6 M → E γ k_Model_directs 2 42 [some (vr (some (11, this))), some (vi v1), none, none, some (vl v4), none, some (vi v6), none] [] M (Ql Q) := by
  intro n
  induction n with
  | zero => intro v1 v4 v6 M h; exact h.elim
  | succ n ih =>
    intro v1 v4 v6 M h
    unfold w_Model_directs_L42 at h
    refine E_blk (lv' := [some (vr (some (11, this))), some (vi v1), none, none, some (vl v4), none, some (vi v6), none]) (st' := [vr (mR M 11 this 45), vi v6]) (M1 := M) (pc' := 48) (tb_Model hγ) [.iload 6, .aload_n 0, .getfield 522] (by decide +kernel) rfl rfl trivial ?_
    obtain ⟨i5, ei5, h⟩ := h
    rw [ei5]
    obtain ⟨c6, h⟩ := h
    refine E_blk (lv' := [some (vr (some (11, this))), some (vi v1), none, none, some (vl v4), none, some (vi v6), none]) (st' := [vi (mI M 134 i5 v1.toNatClampNeg), vi v6]) (M1 := M) (pc' := 53) (tb_Model hγ) [.getfield 432, .iload_n 1, .iaload] (by decide +kernel) rfl rfl ⟨c6, trivial⟩ ?_
    refine E_icmp_ge (off := 47) (tgt := 100) (by decide +kernel) (by decide) (fun b7 => ?_) (fun b7 => ?_)
    · rw [if_pos b7] at h
      refine E_blk (lv' := [some (vr (some (11, this))), some (vi v1), none, none, some (vl v4), none, some (vi v6), none]) (st' := [vl v4]) (M1 := M) (pc' := 102) (tb_Model hγ) [.lload 4] (by decide +kernel) rfl rfl trivial ?_
      exact E_lret rfl (by decide +kernel) h
    · rw [if_neg b7] at h
      refine E_blk (lv' := [some (vr (some (11, this))), some (vi v1), none, none, some (vl v4), none, some (vi v6), none]) (st' := [vr (mR M 11 this 45), vr (some (11, this))]) (M1 := M) (pc' := 61) (tb_Model hγ) [.aload_n 0, .aload_n 0, .getfield 522] (by decide +kernel) rfl rfl trivial ?_
      obtain ⟨i8, ei8, h⟩ := h
      rw [ei8]
      obtain ⟨c9, h⟩ := h
      refine E_blk (lv' := [some (vr (some (11, this))), some (vi v1), none, none, some (vl v4), none, some (vi v6), none]) (st' := [vi (mI M 133 i8 (((4 : Int32) * v1) + v6).toNatClampNeg), vr (some (11, this))]) (M1 := M) (pc' := 71) (tb_Model hγ) [.getfield 612, .iconst 4, .iload_n 1, .imul, .iload 6, .iadd, .iaload] (by decide +kernel) rfl rfl ⟨c9, trivial⟩ ?_
      refine E_callV (κ' := k_Model_classOf) (As := [vi (mI M 133 i8 (((4 : Int32) * v1) + v6).toNatClampNeg)]) (st := []) mv_Model_classOf (Or.inl (tbk_mem (j := 15) (k := 39) rfl)) rfl (by decide +kernel) (Nat.le_of_ble_eq_true rfl) (Nat.le_of_ble_eq_true rfl) rfl (by decide) (lk_Model_classOf hγ this (mI M 133 i8 (((4 : Int32) * v1) + v6).toNatClampNeg) _ M h) (fun _ _ => Qi_r) (fun v M10 hp => Qi_k (R := fun st => E γ k_Model_directs 2 74 [some (vr (some (11, this))), some (vi v1), none, none, some (vl v4), none, some (vi v6), none] st M10 (Ql Q)) hp (fun r11 h => ?_))
      refine E_blk (lv' := [some (vr (some (11, this))), some (vi v1), none, none, some (vl v4), none, some (vi v6), some (vi r11)]) (st' := [vi r11, vl v4]) (M1 := M10) (pc' := 80) (tb_Model hγ) [.istore 7, .lload 4, .iload 7] (by decide +kernel) rfl rfl trivial ?_
      refine E_if_lt (off := 10) (tgt := 90) (by decide +kernel) (by decide) (fun b12 => ?_) (fun b12 => ?_)
      · rw [if_pos b12] at h
        refine E_blk (lv' := [some (vr (some (11, this))), some (vi v1), none, none, some (vl v4), none, some (vi v6), some (vi r11)]) (st' := [vl (0 : Int64), vl v4]) (M1 := M10) (pc' := 91) (tb_Model hγ) [.lconst 0] (by decide +kernel) rfl rfl trivial ?_
        refine E_mask [true, true, false, false, false, false, true, false] rfl ?_
        exact lk_Model_directs_j91 hγ this Q (w_Model_directs_L42 this Q n) ih v1 v6 (0 : Int64) v4 M10 h
      · rw [if_neg b12] at h
        refine E_blk (lv' := [some (vr (some (11, this))), some (vi v1), none, none, some (vl v4), none, some (vi v6), some (vi r11)]) (st' := [vl ((1 : Int64) <<< (r11.toInt64 &&& 63)), vl v4]) (M1 := M10) (pc' := 87) (tb_Model hγ) [.lconst 1, .iload 7, .lshl] (by decide +kernel) rfl rfl trivial ?_
        refine E_goto (off := 4) (tgt := 91) (by decide +kernel) (by decide) ?_
        refine E_mask [true, true, false, false, false, false, true, false] rfl ?_
        exact lk_Model_directs_j91 hγ this Q (w_Model_directs_L42 this Q n) ih v1 v6 ((1 : Int64) <<< (r11.toInt64 &&& 63)) v4 M10 h
set_option maxRecDepth 4096 in
theorem lk_Model_directs_j37 {γ : Gm} (hγ : Gk γ) (this : Nat) (Q : Int64 → Mem → Prop) (v1 : Int32) (s0 : Int64) (M : Mem) (h : w_Model_directs_j37 this Q v1 s0 M) : E γ k_Model_directs 2 37 [some (vr (some (11, this))), some (vi v1), none, none, none, none, none, none] [vl s0] M (Ql Q) := by
  unfold w_Model_directs_j37 at h
  refine E_blk (lv' := [some (vr (some (11, this))), some (vi v1), none, none, some (vl s0), none, some (vi (0 : Int32)), none]) (st' := []) (M1 := M) (pc' := 42) (tb_Model hγ) [.lstore 4, .iconst 0, .istore 6] (by decide +kernel) rfl rfl trivial ?_
  obtain ⟨n13, h⟩ := h
  refine E_mask [true, true, false, false, true, false, true, false] rfl ?_
  exact lk_Model_directs_L42 hγ this Q n13 v1 s0 (0 : Int32) M h
set_option maxRecDepth 4096 in
theorem lk_Model_directs_j25 {γ : Gm} (hγ : Gk γ) (this : Nat) (Q : Int64 → Mem → Prop) (v1 : Int32) (s0 : Int32) (M : Mem) (h : w_Model_directs_j25 this Q v1 s0 M) : E γ k_Model_directs 2 25 [some (vr (some (11, this))), some (vi v1), none, none, none, none, none, none] [vi s0] M (Ql Q) := by
  unfold w_Model_directs_j25 at h
  refine E_blk (lv' := [some (vr (some (11, this))), some (vi v1), none, some (vi s0), none, none, none, none]) (st' := [vi s0]) (M1 := M) (pc' := 27) (tb_Model hγ) [.istore_n 3, .iload_n 3] (by decide +kernel) rfl rfl trivial ?_
  refine E_if_lt (off := 9) (tgt := 36) (by decide +kernel) (by decide) (fun b4 => ?_) (fun b4 => ?_)
  · rw [if_pos b4] at h
    refine E_blk (lv' := [some (vr (some (11, this))), some (vi v1), none, some (vi s0), none, none, none, none]) (st' := [vl (0 : Int64)]) (M1 := M) (pc' := 37) (tb_Model hγ) [.lconst 0] (by decide +kernel) rfl rfl trivial ?_
    refine E_mask [true, true, false, false, false, false, false, false] rfl ?_
    exact lk_Model_directs_j37 hγ this Q v1 (0 : Int64) M h
  · rw [if_neg b4] at h
    refine E_blk (lv' := [some (vr (some (11, this))), some (vi v1), none, some (vi s0), none, none, none, none]) (st' := [vl ((1 : Int64) <<< (s0.toInt64 &&& 63))]) (M1 := M) (pc' := 33) (tb_Model hγ) [.lconst 1, .iload_n 3, .lshl] (by decide +kernel) rfl rfl trivial ?_
    refine E_goto (off := 4) (tgt := 37) (by decide +kernel) (by decide) ?_
    refine E_mask [true, true, false, false, false, false, false, false] rfl ?_
    exact lk_Model_directs_j37 hγ this Q v1 ((1 : Int64) <<< (s0.toInt64 &&& 63)) M h
set_option maxRecDepth 4096 in
theorem lk_Model_directs {γ : Gm} (hγ : Gk γ) (this : Nat) (a1 : Int32) (a2 : Int32) (Q : Int64 → Mem → Prop) (M : Mem) (h : w_Model_directs this a1 a2 Q M) : E γ k_Model_directs 2 0 [some (vr (some (11, this))), some (vi a1), some (vi a2), none, none, none, none, none] [] M (Ql Q) := by
  unfold w_Model_directs at h
  refine E_blk (lv' := [some (vr (some (11, this))), some (vi a1), some (vi a2), none, none, none, none, none]) (st' := [vi a2]) (M1 := M) (pc' := 1) (tb_Model hγ) [.iload_n 2] (by decide +kernel) rfl rfl trivial ?_
  refine E_if_eq (off := 19) (tgt := 20) (by decide +kernel) (by decide) (fun b1 => ?_) (fun b1 => ?_)
  · rw [if_pos b1] at h
    refine E_blk (lv' := [some (vr (some (11, this))), some (vi a1), some (vi a2), none, none, none, none, none]) (st' := [vi a1, vr (some (11, this))]) (M1 := M) (pc' := 22) (tb_Model hγ) [.aload_n 0, .iload_n 1] (by decide +kernel) rfl rfl trivial ?_
    refine E_callV (κ' := k_Model_parentOf) (As := [vi a1]) (st := []) mv_Model_parentOf (Or.inl (tbk_mem (j := 15) (k := 157) rfl)) rfl (by decide +kernel) (Nat.le_of_ble_eq_true rfl) (Nat.le_of_ble_eq_true rfl) rfl (by decide) (lk_Model_parentOf hγ this a1 _ M h) (fun _ _ => Qi_r) (fun v M2 hp => Qi_k (R := fun st => E γ k_Model_directs 2 25 [some (vr (some (11, this))), some (vi a1), some (vi a2), none, none, none, none, none] st M2 (Ql Q)) hp (fun r3 h => ?_))
    refine E_mask [true, true, false, false, false, false, false, false] rfl ?_
    exact lk_Model_directs_j25 hγ this Q a1 r3 M2 h
  · rw [if_neg b1] at h
    refine E_blk (lv' := [some (vr (some (11, this))), some (vi a1), some (vi a2), none, none, none, none, none]) (st' := [vr (mR M 11 this 45), vr (some (11, this))]) (M1 := M) (pc' := 9) (tb_Model hγ) [.aload_n 0, .aload_n 0, .getfield 522] (by decide +kernel) rfl rfl trivial ?_
    obtain ⟨i14, ei14, h⟩ := h
    rw [ei14]
    obtain ⟨c15, h⟩ := h
    refine E_blk (lv' := [some (vr (some (11, this))), some (vi a1), some (vi a2), none, none, none, none, none]) (st' := [vi (mI M 131 i14 a1.toNatClampNeg), vr (some (11, this))]) (M1 := M) (pc' := 14) (tb_Model hγ) [.getfield 426, .iload_n 1, .iaload] (by decide +kernel) rfl rfl ⟨c15, trivial⟩ ?_
    refine E_callV (κ' := k_Model_classOf) (As := [vi (mI M 131 i14 a1.toNatClampNeg)]) (st := []) mv_Model_classOf (Or.inl (tbk_mem (j := 15) (k := 39) rfl)) rfl (by decide +kernel) (Nat.le_of_ble_eq_true rfl) (Nat.le_of_ble_eq_true rfl) rfl (by decide) (lk_Model_classOf hγ this (mI M 131 i14 a1.toNatClampNeg) _ M h) (fun _ _ => Qi_r) (fun v M16 hp => Qi_k (R := fun st => E γ k_Model_directs 2 17 [some (vr (some (11, this))), some (vi a1), some (vi a2), none, none, none, none, none] st M16 (Ql Q)) hp (fun r17 h => ?_))
    refine E_goto (off := 8) (tgt := 25) (by decide +kernel) (by decide) ?_
    refine E_mask [true, true, false, false, false, false, false, false] rfl ?_
    exact lk_Model_directs_j25 hγ this Q a1 r17 M16 h
def w_Model_upFrom_j77 (this : Nat) (Q : Int64 → Mem → Prop) (k6 : Int32 → Int64 → Int32 → Mem → Prop) (v3 : Int32) (v7 : Int64) (s0 : Int32) (M : Mem) : Prop :=
  k6 v3 v7 s0 M
def w_Model_upFrom_j55 (this : Nat) (Q : Int64 → Mem → Prop) (k6 : Int32 → Int64 → Int32 → Mem → Prop) (k18 : Int32 → Int64 → Int64 → Int32 → Mem → Prop) (v3 : Int32) (v4 : Int64) (v9 : Int32) (s0 : Int64) (s1 : Int64) (M : Mem) : Prop :=
  k18 v3 v4 (s1 ||| s0) (v9 + (1 : Int32)) M
def w_Model_upFrom_L18 (this : Nat) (Q : Int64 → Mem → Prop) (k6 : Int32 → Int64 → Int32 → Mem → Prop) : Nat → Int32 → Int64 → Int64 → Int32 → Mem → Prop
  | 0, _, _, _, _, _ => False
  | n + 1, v3, v4, v7, v9, M => ∃ i2, (mR M 11 this 45) = some (12, i2) ∧ if (mI M 12 i2 2) ≤ v9 then (if (lg_cmp v7 v4) = 0 then (w_Model_upFrom_j77 this Q k6 v3 v7 (0 : Int32) M) else (w_Model_upFrom_j77 this Q k6 v3 v7 (1 : Int32) M)) else (if (lg_cmp ((v4 >>> (v9.toInt64 &&& 63)) &&& (1 : Int64)) (1 : Int64)) = 0 then (w_Model_directs this v9 v3 (fun r7 M6 => w_Model_upFrom_j55 this Q k6 (w_Model_upFrom_L18 this Q k6 n) v3 v4 v9 r7 v7 M6) M) else (w_Model_upFrom_j55 this Q k6 (w_Model_upFrom_L18 this Q k6 n) v3 v4 v9 (0 : Int64) v7 M))
def w_Model_upFrom_L6 (this : Nat) (Q : Int64 → Mem → Prop) : Nat → Int32 → Int64 → Int32 → Mem → Prop
  | 0, _, _, _, _ => False
  | n + 1, v3, v4, v6, M => if v6 = 0 then (Q v4 M) else (∃ n8 : Nat, w_Model_upFrom_L18 this Q (w_Model_upFrom_L6 this Q n) n8 v3 v4 v4 (0 : Int32) M)
def w_Model_upFrom (this : Nat) (a1 : Int64) (a2 : Int32) (Q : Int64 → Mem → Prop) (M : Mem) : Prop :=
  ∃ n9 : Nat, w_Model_upFrom_L6 this Q n9 a2 a1 (1 : Int32) M
set_option maxRecDepth 4096 in
theorem lk_Model_upFrom_j77 {γ : Gm} (hγ : Gk γ) (this : Nat) (Q : Int64 → Mem → Prop) (k6 : Int32 → Int64 → Int32 → Mem → Prop) (hk6 : ∀ (v3 : Int32) (v4 : Int64) (v6 : Int32) (M : Mem), k6 v3 v4 v6 M → E γ k_Model_upFrom 3 6 [some (vr (some (11, this))), none, none, some (vi v3), some (vl v4), none, some (vi v6), none, none, none] [] M (Ql Q)) (v3 : Int32) (v7 : Int64) (s0 : Int32) (M : Mem) (h : w_Model_upFrom_j77 this Q k6 v3 v7 s0 M) : E γ k_Model_upFrom 3 77 [some (vr (some (11, this))), none, none, some (vi v3), none, none, none, some (vl v7), none, none] [vi s0] M (Ql Q) := by
  unfold w_Model_upFrom_j77 at h
  refine E_blk (lv' := [some (vr (some (11, this))), none, none, some (vi v3), some (vl v7), none, some (vi s0), some (vl v7), none, none]) (st' := []) (M1 := M) (pc' := 83) (tb_Model hγ) [.istore 6, .lload 7, .lstore 4] (by decide +kernel) rfl rfl trivial ?_
  refine E_goto (off := -77) (tgt := 6) (by decide +kernel) (by decide) ?_
  refine E_mask [true, false, false, true, true, false, true, false, false, false] rfl ?_
  exact hk6 v3 v7 s0 M h
set_option maxRecDepth 4096 in
theorem lk_Model_upFrom_j55 {γ : Gm} (hγ : Gk γ) (this : Nat) (Q : Int64 → Mem → Prop) (k6 : Int32 → Int64 → Int32 → Mem → Prop) (k18 : Int32 → Int64 → Int64 → Int32 → Mem → Prop) (hk6 : ∀ (v3 : Int32) (v4 : Int64) (v6 : Int32) (M : Mem), k6 v3 v4 v6 M → E γ k_Model_upFrom 3 6 [some (vr (some (11, this))), none, none, some (vi v3), some (vl v4), none, some (vi v6), none, none, none] [] M (Ql Q)) (hk18 : ∀ (v3 : Int32) (v4 : Int64) (v7 : Int64) (v9 : Int32) (M : Mem), k18 v3 v4 v7 v9 M → E γ k_Model_upFrom 3 18 [some (vr (some (11, this))), none, none, some (vi v3), some (vl v4), none, none, some (vl v7), none, some (vi v9)] [] M (Ql Q)) (v3 : Int32) (v4 : Int64) (v9 : Int32) (s0 : Int64) (s1 : Int64) (M : Mem) (h : w_Model_upFrom_j55 this Q k6 k18 v3 v4 v9 s0 s1 M) : E γ k_Model_upFrom 3 55 [some (vr (some (11, this))), none, none, some (vi v3), some (vl v4), none, none, none, none, some (vi v9)] [vl s0, vl s1] M (Ql Q) := by
  unfold w_Model_upFrom_j55 at h
  refine E_blk (lv' := [some (vr (some (11, this))), none, none, some (vi v3), some (vl v4), none, none, some (vl (s1 ||| s0)), none, some (vi (v9 + (1 : Int32)))]) (st' := []) (M1 := M) (pc' := 61) (tb_Model hγ) [.lor, .lstore 7, .iinc 9 1] (by decide +kernel) rfl rfl trivial ?_
  refine E_goto (off := -43) (tgt := 18) (by decide +kernel) (by decide) ?_
  refine E_mask [true, false, false, true, true, false, false, true, false, true] rfl ?_
  exact hk18 v3 v4 (s1 ||| s0) (v9 + (1 : Int32)) M h
set_option maxRecDepth 4096 in
theorem lk_Model_upFrom_L18 {γ : Gm} (hγ : Gk γ) (this : Nat) (Q : Int64 → Mem → Prop) (k6 : Int32 → Int64 → Int32 → Mem → Prop) (hk6 : ∀ (v3 : Int32) (v4 : Int64) (v6 : Int32) (M : Mem), k6 v3 v4 v6 M → E γ k_Model_upFrom 3 6 [some (vr (some (11, this))), none, none, some (vi v3), some (vl v4), none, some (vi v6), none, none, none] [] M (Ql Q)) : ∀ (n : Nat) (v3 : Int32) (v4 : Int64) (v7 : Int64) (v9 : Int32) (M : Mem), w_Model_upFrom_L18 this Q k6 n v3 v4 v7 v9 M → E γ k_Model_upFrom 3 18 [some (vr (some (11, this))), none, none, some (vi v3), some (vl v4), none, none, some (vl v7), none, some (vi v9)] [] M (Ql Q) := by
  intro n
  induction n with
  | zero => intro v3 v4 v7 v9 M h; exact h.elim
  | succ n ih =>
    intro v3 v4 v7 v9 M h
    unfold w_Model_upFrom_L18 at h
    refine E_blk (lv' := [some (vr (some (11, this))), none, none, some (vi v3), some (vl v4), none, none, some (vl v7), none, some (vi v9)]) (st' := [vr (mR M 11 this 45), vi v9]) (M1 := M) (pc' := 24) (tb_Model hγ) [.iload 9, .aload_n 0, .getfield 522] (by decide +kernel) rfl rfl trivial ?_
    obtain ⟨i2, ei2, h⟩ := h
    rw [ei2]
    refine E_blk (lv' := [some (vr (some (11, this))), none, none, some (vi v3), some (vl v4), none, none, some (vl v7), none, some (vi v9)]) (st' := [vi (mI M 12 i2 2), vi v9]) (M1 := M) (pc' := 27) (tb_Model hγ) [.getfield 420] (by decide +kernel) rfl rfl trivial ?_
    refine E_icmp_ge (off := 37) (tgt := 64) (by decide +kernel) (by decide) (fun b3 => ?_) (fun b3 => ?_)
    · rw [if_pos b3] at h
      refine E_blk (lv' := [some (vr (some (11, this))), none, none, some (vi v3), some (vl v4), none, none, some (vl v7), none, some (vi v9)]) (st' := [vi (lg_cmp v7 v4)]) (M1 := M) (pc' := 69) (tb_Model hγ) [.lload 7, .lload 4, .lcmp] (by decide +kernel) rfl rfl trivial ?_
      refine E_if_eq (off := 7) (tgt := 76) (by decide +kernel) (by decide) (fun b4 => ?_) (fun b4 => ?_)
      · rw [if_pos b4] at h
        refine E_blk (lv' := [some (vr (some (11, this))), none, none, some (vi v3), some (vl v4), none, none, some (vl v7), none, some (vi v9)]) (st' := [vi (0 : Int32)]) (M1 := M) (pc' := 77) (tb_Model hγ) [.iconst 0] (by decide +kernel) rfl rfl trivial ?_
        refine E_mask [true, false, false, true, false, false, false, true, false, false] rfl ?_
        exact lk_Model_upFrom_j77 hγ this Q k6 hk6 v3 v7 (0 : Int32) M h
      · rw [if_neg b4] at h
        refine E_blk (lv' := [some (vr (some (11, this))), none, none, some (vi v3), some (vl v4), none, none, some (vl v7), none, some (vi v9)]) (st' := [vi (1 : Int32)]) (M1 := M) (pc' := 73) (tb_Model hγ) [.iconst 1] (by decide +kernel) rfl rfl trivial ?_
        refine E_goto (off := 4) (tgt := 77) (by decide +kernel) (by decide) ?_
        refine E_mask [true, false, false, true, false, false, false, true, false, false] rfl ?_
        exact lk_Model_upFrom_j77 hγ this Q k6 hk6 v3 v7 (1 : Int32) M h
    · rw [if_neg b3] at h
      refine E_blk (lv' := [some (vr (some (11, this))), none, none, some (vi v3), some (vl v4), none, none, some (vl v7), none, some (vi v9)]) (st' := [vi (lg_cmp ((v4 >>> (v9.toInt64 &&& 63)) &&& (1 : Int64)) (1 : Int64)), vl v7]) (M1 := M) (pc' := 41) (tb_Model hγ) [.lload 7, .lload 4, .iload 9, .lshr, .lconst 1, .land, .lconst 1, .lcmp] (by decide +kernel) rfl rfl trivial ?_
      refine E_if_ne (off := 13) (tgt := 54) (by decide +kernel) (by decide) (fun b5 => ?_) (fun b5 => ?_)
      · rw [if_pos b5] at h
        refine E_blk (lv' := [some (vr (some (11, this))), none, none, some (vi v3), some (vl v4), none, none, some (vl v7), none, some (vi v9)]) (st' := [vi v3, vi v9, vr (some (11, this)), vl v7]) (M1 := M) (pc' := 48) (tb_Model hγ) [.aload_n 0, .iload 9, .iload_n 3] (by decide +kernel) rfl rfl trivial ?_
        refine E_callV (κ' := k_Model_directs) (As := [vi v9, vi v3]) (st := [vl v7]) mv_Model_directs (Or.inl (tbk_mem (j := 15) (k := 153) rfl)) rfl (by decide +kernel) (Nat.le_of_ble_eq_true rfl) (Nat.le_of_ble_eq_true rfl) rfl (by decide) (lk_Model_directs hγ this v9 v3 _ M h) (fun _ _ => Ql_r) (fun v M6 hp => Ql_k (R := fun st => E γ k_Model_upFrom 3 51 [some (vr (some (11, this))), none, none, some (vi v3), some (vl v4), none, none, some (vl v7), none, some (vi v9)] st M6 (Ql Q)) hp (fun r7 h => ?_))
        refine E_goto (off := 4) (tgt := 55) (by decide +kernel) (by decide) ?_
        refine E_mask [true, false, false, true, true, false, false, false, false, true] rfl ?_
        exact lk_Model_upFrom_j55 hγ this Q k6 (w_Model_upFrom_L18 this Q k6 n) hk6 ih v3 v4 v9 r7 v7 M6 h
      · rw [if_neg b5] at h
        refine E_blk (lv' := [some (vr (some (11, this))), none, none, some (vi v3), some (vl v4), none, none, some (vl v7), none, some (vi v9)]) (st' := [vl (0 : Int64), vl v7]) (M1 := M) (pc' := 55) (tb_Model hγ) [.lconst 0] (by decide +kernel) rfl rfl trivial ?_
        refine E_mask [true, false, false, true, true, false, false, false, false, true] rfl ?_
        exact lk_Model_upFrom_j55 hγ this Q k6 (w_Model_upFrom_L18 this Q k6 n) hk6 ih v3 v4 v9 (0 : Int64) v7 M h
set_option maxRecDepth 4096 in
theorem lk_Model_upFrom_L6 {γ : Gm} (hγ : Gk γ) (this : Nat) (Q : Int64 → Mem → Prop) : ∀ (n : Nat) (v3 : Int32) (v4 : Int64) (v6 : Int32) (M : Mem), w_Model_upFrom_L6 this Q n v3 v4 v6 M → E γ k_Model_upFrom 3 6 [some (vr (some (11, this))), none, none, some (vi v3), some (vl v4), none, some (vi v6), none, none, none] [] M (Ql Q) := by
  intro n
  induction n with
  | zero => intro v3 v4 v6 M h; exact h.elim
  | succ n ih =>
    intro v3 v4 v6 M h
    unfold w_Model_upFrom_L6 at h
    refine E_blk (lv' := [some (vr (some (11, this))), none, none, some (vi v3), some (vl v4), none, some (vi v6), none, none, none]) (st' := [vi v6]) (M1 := M) (pc' := 8) (tb_Model hγ) [.iload 6] (by decide +kernel) rfl rfl trivial ?_
    refine E_if_eq (off := 78) (tgt := 86) (by decide +kernel) (by decide) (fun b1 => ?_) (fun b1 => ?_)
    · rw [if_pos b1] at h
      refine E_blk (lv' := [some (vr (some (11, this))), none, none, some (vi v3), some (vl v4), none, some (vi v6), none, none, none]) (st' := [vl v4]) (M1 := M) (pc' := 88) (tb_Model hγ) [.lload 4] (by decide +kernel) rfl rfl trivial ?_
      exact E_lret rfl (by decide +kernel) h
    · rw [if_neg b1] at h
      refine E_blk (lv' := [some (vr (some (11, this))), none, none, some (vi v3), some (vl v4), none, some (vi v6), some (vl v4), none, some (vi (0 : Int32))]) (st' := []) (M1 := M) (pc' := 18) (tb_Model hγ) [.lload 4, .lstore 7, .iconst 0, .istore 9] (by decide +kernel) rfl rfl trivial ?_
      obtain ⟨n8, h⟩ := h
      refine E_mask [true, false, false, true, true, false, false, true, false, true] rfl ?_
      exact lk_Model_upFrom_L18 hγ this Q (w_Model_upFrom_L6 this Q n) ih n8 v3 v4 v4 (0 : Int32) M h
set_option maxRecDepth 4096 in
theorem lk_Model_upFrom {γ : Gm} (hγ : Gk γ) (this : Nat) (a1 : Int64) (a2 : Int32) (Q : Int64 → Mem → Prop) (M : Mem) (h : w_Model_upFrom this a1 a2 Q M) : E γ k_Model_upFrom 3 0 [some (vr (some (11, this))), some (vl a1), none, some (vi a2), none, none, none, none, none, none] [] M (Ql Q) := by
  unfold w_Model_upFrom at h
  refine E_blk (lv' := [some (vr (some (11, this))), some (vl a1), none, some (vi a2), some (vl a1), none, some (vi (1 : Int32)), none, none, none]) (st' := []) (M1 := M) (pc' := 6) (tb_Model hγ) [.lload_n 1, .lstore 4, .iconst 1, .istore 6] (by decide +kernel) rfl rfl trivial ?_
  obtain ⟨n9, h⟩ := h
  refine E_mask [true, false, false, true, true, false, true, false, false, false] rfl ?_
  exact lk_Model_upFrom_L6 hγ this Q n9 a2 a1 (1 : Int32) M h
def w_Model_isBelow (this : Nat) (a1 : Int32) (a2 : Int32) (Q : Int32 → Mem → Prop) (M : Mem) : Prop :=
  if a1 = a2 then (Q (1 : Int32) M) else (w_Model_upFrom this ((1 : Int64) <<< (a1.toInt64 &&& 63)) (0 : Int32) (fun r3 M2 => if (lg_cmp ((r3 >>> (a2.toInt64 &&& 63)) &&& (1 : Int64)) (1 : Int64)) = 0 then (Q (1 : Int32) M2) else (Q (0 : Int32) M2)) M)
set_option maxRecDepth 4096 in
theorem lk_Model_isBelow {γ : Gm} (hγ : Gk γ) (this : Nat) (a1 : Int32) (a2 : Int32) (Q : Int32 → Mem → Prop) (M : Mem) (h : w_Model_isBelow this a1 a2 Q M) : E γ k_Model_isBelow 4 0 [some (vr (some (11, this))), some (vi a1), some (vi a2)] [] M (Qi Q) := by
  unfold w_Model_isBelow at h
  refine E_blk (lv' := [some (vr (some (11, this))), some (vi a1), some (vi a2)]) (st' := [vi a2, vi a1]) (M1 := M) (pc' := 2) (tb_Model hγ) [.iload_n 1, .iload_n 2] (by decide +kernel) rfl rfl trivial ?_
  refine E_icmp_eq (off := 20) (tgt := 22) (by decide +kernel) (by decide) (fun b1 => ?_) (fun b1 => ?_)
  · rw [if_pos b1] at h
    refine E_blk (lv' := [some (vr (some (11, this))), some (vi a1), some (vi a2)]) (st' := [vi (1 : Int32)]) (M1 := M) (pc' := 23) (tb_Model hγ) [.iconst 1] (by decide +kernel) rfl rfl trivial ?_
    refine E_goto (off := 4) (tgt := 27) (by decide +kernel) (by decide) ?_
    exact E_zret rfl (Or.inr rfl) (by decide +kernel) h
  · rw [if_neg b1] at h
    refine E_blk (lv' := [some (vr (some (11, this))), some (vi a1), some (vi a2)]) (st' := [vi (0 : Int32), vl ((1 : Int64) <<< (a1.toInt64 &&& 63)), vr (some (11, this))]) (M1 := M) (pc' := 10) (tb_Model hγ) [.aload_n 0, .lconst 1, .iload_n 1, .lshl, .iconst 0] (by decide +kernel) rfl rfl trivial ?_
    refine E_callV (κ' := k_Model_upFrom) (As := [vl ((1 : Int64) <<< (a1.toInt64 &&& 63)), vi (0 : Int32)]) (st := []) mv_Model_upFrom (Or.inl (tbk_mem (j := 15) (k := 161) rfl)) rfl (by decide +kernel) (Nat.le_of_ble_eq_true rfl) (Nat.le_of_ble_eq_true rfl) rfl (by decide) (lk_Model_upFrom hγ this ((1 : Int64) <<< (a1.toInt64 &&& 63)) (0 : Int32) _ M h) (fun _ _ => Ql_r) (fun v M2 hp => Ql_k (R := fun st => E γ k_Model_isBelow 4 13 [some (vr (some (11, this))), some (vi a1), some (vi a2)] st M2 (Qi Q)) hp (fun r3 h => ?_))
    refine E_blk (lv' := [some (vr (some (11, this))), some (vi a1), some (vi a2)]) (st' := [vi (lg_cmp ((r3 >>> (a2.toInt64 &&& 63)) &&& (1 : Int64)) (1 : Int64))]) (M1 := M2) (pc' := 19) (tb_Model hγ) [.iload_n 2, .lshr, .lconst 1, .land, .lconst 1, .lcmp] (by decide +kernel) rfl rfl trivial ?_
    refine E_if_ne (off := 7) (tgt := 26) (by decide +kernel) (by decide) (fun b4 => ?_) (fun b4 => ?_)
    · rw [if_pos b4] at h
      refine E_blk (lv' := [some (vr (some (11, this))), some (vi a1), some (vi a2)]) (st' := [vi (1 : Int32)]) (M1 := M2) (pc' := 23) (tb_Model hγ) [.iconst 1] (by decide +kernel) rfl rfl trivial ?_
      refine E_goto (off := 4) (tgt := 27) (by decide +kernel) (by decide) ?_
      exact E_zret rfl (Or.inr rfl) (by decide +kernel) h
    · rw [if_neg b4] at h
      refine E_blk (lv' := [some (vr (some (11, this))), some (vi a1), some (vi a2)]) (st' := [vi (0 : Int32)]) (M1 := M2) (pc' := 27) (tb_Model hγ) [.iconst 0] (by decide +kernel) rfl rfl trivial ?_
      exact E_zret rfl (Or.inl rfl) (by decide +kernel) h
def w_Model_parentName (this : Nat) (a1 : Int32) (Q : Int32 → Mem → Prop) (M : Mem) : Prop :=
  ∃ i1, (mR M 11 this 45) = some (12, i1) ∧ vp_in a1 (mL M 132 i1) ∧ if ((mI M 132 i1 a1.toNatClampNeg) &&& (4 : Int32)) = 0 then (∃ i4, (mR M 11 this 45) = some (12, i4) ∧ vp_in a1 (mL M 131 i4) ∧ Q (mI M 131 i4 a1.toNatClampNeg) M) else (Q (mI M 11 this 8) M)
set_option maxRecDepth 4096 in
theorem lk_Model_parentName {γ : Gm} (hγ : Gk γ) (this : Nat) (a1 : Int32) (Q : Int32 → Mem → Prop) (M : Mem) (h : w_Model_parentName this a1 Q M) : E γ k_Model_parentName 0 0 [some (vr (some (11, this))), some (vi a1)] [] M (Qi Q) := by
  unfold w_Model_parentName at h
  refine E_blk (lv' := [some (vr (some (11, this))), some (vi a1)]) (st' := [vr (mR M 11 this 45)]) (M1 := M) (pc' := 4) (tb_Model hγ) [.aload_n 0, .getfield 522] (by decide +kernel) rfl rfl trivial ?_
  obtain ⟨i1, ei1, h⟩ := h
  rw [ei1]
  obtain ⟨c2, h⟩ := h
  refine E_blk (lv' := [some (vr (some (11, this))), some (vi a1)]) (st' := [vi ((mI M 132 i1 a1.toNatClampNeg) &&& (4 : Int32))]) (M1 := M) (pc' := 11) (tb_Model hγ) [.getfield 429, .iload_n 1, .iaload, .iconst 4, .iand] (by decide +kernel) rfl rfl ⟨c2, trivial⟩ ?_
  refine E_if_eq (off := 10) (tgt := 21) (by decide +kernel) (by decide) (fun b3 => ?_) (fun b3 => ?_)
  · rw [if_pos b3] at h
    refine E_blk (lv' := [some (vr (some (11, this))), some (vi a1)]) (st' := [vr (mR M 11 this 45)]) (M1 := M) (pc' := 25) (tb_Model hγ) [.aload_n 0, .getfield 522] (by decide +kernel) rfl rfl trivial ?_
    obtain ⟨i4, ei4, h⟩ := h
    rw [ei4]
    obtain ⟨c5, h⟩ := h
    refine E_blk (lv' := [some (vr (some (11, this))), some (vi a1)]) (st' := [vi (mI M 131 i4 a1.toNatClampNeg)]) (M1 := M) (pc' := 30) (tb_Model hγ) [.getfield 426, .iload_n 1, .iaload] (by decide +kernel) rfl rfl ⟨c5, trivial⟩ ?_
    exact E_iret rfl (by decide +kernel) h
  · rw [if_neg b3] at h
    refine E_blk (lv' := [some (vr (some (11, this))), some (vi a1)]) (st' := [vi (mI M 11 this 8)]) (M1 := M) (pc' := 18) (tb_Model hγ) [.aload_n 0, .getfield 153] (by decide +kernel) rfl rfl trivial ?_
    refine E_goto (off := 12) (tgt := 30) (by decide +kernel) (by decide) ?_
    exact E_iret rfl (by decide +kernel) h
def wk_Model_listOwn_j87 (K : Nat → Int32 → (Mem → Prop) → Mem → Prop) (this : Nat) (Q : Mem → Prop) (k2 : Int32 → Int32 → Mem → Prop) (v1 : Int32) (v2 : Int32) (M : Mem) : Prop :=
  k2 v1 (v2 + (1 : Int32)) M
def wk_Model_listOwn_L2 (K : Nat → Int32 → (Mem → Prop) → Mem → Prop) (this : Nat) (Q : Mem → Prop) : Nat → Int32 → Int32 → Mem → Prop
  | 0, _, _, _ => False
  | n + 1, v1, v2, M => ∃ i1, (mR M 11 this 45) = some (12, i1) ∧ vp_in v1 (mL M 134 i1) ∧ if (mI M 134 i1 v1.toNatClampNeg) ≤ v2 then (Q M) else (∃ i4, (mR M 11 this 45) = some (12, i4) ∧ vp_in (((4 : Int32) * v1) + v2) (mL M 133 i4) ∧ w_Model_classOf this (mI M 133 i4 (((4 : Int32) * v1) + v2).toNatClampNeg) (fun r7 M6 => if r7 < 0 then (wk_Model_listOwn_j87 K this Q (wk_Model_listOwn_L2 K this Q n) v1 v2 M6) else (if (lg_cmp (((mJ M6 11 this 69) >>> (r7.toInt64 &&& 63)) &&& (1 : Int64)) (0 : Int64)) = 0 then (∃ M10, M10 = (sJ M6 11 this 69 ((mJ M6 11 this 69) ||| ((1 : Int64) <<< (r7.toInt64 &&& 63)))) ∧ vp_in (mI M10 11 this 68) (mL M10 110 this) ∧ ∃ M12, M12 = (sI (sI M10 110 this (mI M10 11 this 68).toNatClampNeg r7) 11 this 68 ((mI (sI M10 110 this (mI M10 11 this 68).toNatClampNeg r7) 11 this 68) + (1 : Int32))) ∧ K this r7 (fun M13 => wk_Model_listOwn_j87 K this Q (wk_Model_listOwn_L2 K this Q n) v1 v2 M13) M12) else (wk_Model_listOwn_j87 K this Q (wk_Model_listOwn_L2 K this Q n) v1 v2 M6))) M)
def wk_Model_listOwn (K : Nat → Int32 → (Mem → Prop) → Mem → Prop) (this : Nat) (a1 : Int32) (Q : Mem → Prop) (M : Mem) : Prop :=
  ∃ n14 : Nat, wk_Model_listOwn_L2 K this Q n14 a1 (0 : Int32) M
def wr_Model_listOwn : Nat → Nat → Int32 → (Mem → Prop) → Mem → Prop
  | 0 => fun _ _ _ _ => False
  | n + 1 => wk_Model_listOwn (wr_Model_listOwn n)
def w_Model_listOwn (this : Nat) (a1 : Int32) (Q : Mem → Prop) (M : Mem) : Prop := ∃ n : Nat, n ≤ 60 ∧ wr_Model_listOwn n this a1 Q M
set_option maxRecDepth 4096 in
theorem lkk_Model_listOwn_j87 {γ : Gm} (hγ : Gk γ) {d0 d : Nat} (K : Nat → Int32 → (Mem → Prop) → Mem → Prop) (hK : ∀ (this : Nat) (a1 : Int32) (Q : Mem → Prop) (M : Mem), K this a1 Q M → ∀ d, d0 ≤ d → E γ k_Model_listOwn d 0 [some (vr (some (11, this))), some (vi a1), none, none] [] M (Qv Q)) (hd : d0 ≤ d) (hb : 1 ≤ d) (this : Nat) (Q : Mem → Prop) (k2 : Int32 → Int32 → Mem → Prop) (hk2 : ∀ (v1 : Int32) (v2 : Int32) (M : Mem), k2 v1 v2 M → E γ k_Model_listOwn (d + 1) 2 [some (vr (some (11, this))), some (vi v1), some (vi v2), none] [] M (Qv Q)) (v1 : Int32) (v2 : Int32) (M : Mem) (h : wk_Model_listOwn_j87 K this Q k2 v1 v2 M) : E γ k_Model_listOwn (d + 1) 87 [some (vr (some (11, this))), some (vi v1), some (vi v2), none] [] M (Qv Q) := by
  unfold wk_Model_listOwn_j87 at h
  refine E_blk (lv' := [some (vr (some (11, this))), some (vi v1), some (vi (v2 + (1 : Int32))), none]) (st' := []) (M1 := M) (pc' := 90) (tb_Model hγ) [.iinc 2 1] (by decide +kernel) rfl rfl trivial ?_
  refine E_goto (off := -88) (tgt := 2) (by decide +kernel) (by decide) ?_
  refine E_mask [true, true, true, false] rfl ?_
  exact hk2 v1 (v2 + (1 : Int32)) M h
set_option maxRecDepth 4096 in
theorem lkk_Model_listOwn_L2 {γ : Gm} (hγ : Gk γ) {d0 d : Nat} (K : Nat → Int32 → (Mem → Prop) → Mem → Prop) (hK : ∀ (this : Nat) (a1 : Int32) (Q : Mem → Prop) (M : Mem), K this a1 Q M → ∀ d, d0 ≤ d → E γ k_Model_listOwn d 0 [some (vr (some (11, this))), some (vi a1), none, none] [] M (Qv Q)) (hd : d0 ≤ d) (hb : 1 ≤ d) (this : Nat) (Q : Mem → Prop) : ∀ (n : Nat) (v1 : Int32) (v2 : Int32) (M : Mem), wk_Model_listOwn_L2 K this Q n v1 v2 M → E γ k_Model_listOwn (d + 1) 2 [some (vr (some (11, this))), some (vi v1), some (vi v2), none] [] M (Qv Q) := by
  intro n
  induction n with
  | zero => intro v1 v2 M h; exact h.elim
  | succ n ih =>
    intro v1 v2 M h
    unfold wk_Model_listOwn_L2 at h
    refine E_blk (lv' := [some (vr (some (11, this))), some (vi v1), some (vi v2), none]) (st' := [vr (mR M 11 this 45), vi v2]) (M1 := M) (pc' := 7) (tb_Model hγ) [.iload_n 2, .aload_n 0, .getfield 522] (by decide +kernel) rfl rfl trivial ?_
    obtain ⟨i1, ei1, h⟩ := h
    rw [ei1]
    obtain ⟨c2, h⟩ := h
    refine E_blk (lv' := [some (vr (some (11, this))), some (vi v1), some (vi v2), none]) (st' := [vi (mI M 134 i1 v1.toNatClampNeg), vi v2]) (M1 := M) (pc' := 12) (tb_Model hγ) [.getfield 432, .iload_n 1, .iaload] (by decide +kernel) rfl rfl ⟨c2, trivial⟩ ?_
    refine E_icmp_ge (off := 81) (tgt := 93) (by decide +kernel) (by decide) (fun b3 => ?_) (fun b3 => ?_)
    · rw [if_pos b3] at h
      exact E_vret rfl (by decide +kernel) h
    · rw [if_neg b3] at h
      refine E_blk (lv' := [some (vr (some (11, this))), some (vi v1), some (vi v2), none]) (st' := [vr (mR M 11 this 45), vr (some (11, this))]) (M1 := M) (pc' := 20) (tb_Model hγ) [.aload_n 0, .aload_n 0, .getfield 522] (by decide +kernel) rfl rfl trivial ?_
      obtain ⟨i4, ei4, h⟩ := h
      rw [ei4]
      obtain ⟨c5, h⟩ := h
      refine E_blk (lv' := [some (vr (some (11, this))), some (vi v1), some (vi v2), none]) (st' := [vi (mI M 133 i4 (((4 : Int32) * v1) + v2).toNatClampNeg), vr (some (11, this))]) (M1 := M) (pc' := 29) (tb_Model hγ) [.getfield 612, .iconst 4, .iload_n 1, .imul, .iload_n 2, .iadd, .iaload] (by decide +kernel) rfl rfl ⟨c5, trivial⟩ ?_
      refine E_callV (κ' := k_Model_classOf) (As := [vi (mI M 133 i4 (((4 : Int32) * v1) + v2).toNatClampNeg)]) (st := []) mv_Model_classOf (Or.inl (tbk_mem (j := 15) (k := 39) rfl)) rfl (by decide +kernel) (Nat.le_of_ble_eq_true rfl) (Nat.le_of_ble_eq_true rfl) rfl (by omega) (lk_Model_classOf hγ this (mI M 133 i4 (((4 : Int32) * v1) + v2).toNatClampNeg) _ M h) (fun _ _ => Qi_r) (fun v M6 hp => Qi_k (R := fun st => E γ k_Model_listOwn (d + 1) 32 [some (vr (some (11, this))), some (vi v1), some (vi v2), none] st M6 (Qv Q)) hp (fun r7 h => ?_))
      refine E_blk (lv' := [some (vr (some (11, this))), some (vi v1), some (vi v2), some (vi r7)]) (st' := [vi r7]) (M1 := M6) (pc' := 34) (tb_Model hγ) [.istore_n 3, .iload_n 3] (by decide +kernel) rfl rfl trivial ?_
      refine E_if_lt (off := 53) (tgt := 87) (by decide +kernel) (by decide) (fun b8 => ?_) (fun b8 => ?_)
      · rw [if_pos b8] at h
        refine E_mask [true, true, true, false] rfl ?_
        exact lkk_Model_listOwn_j87 hγ K hK hd hb this Q (wk_Model_listOwn_L2 K this Q n) ih v1 v2 M6 h
      · rw [if_neg b8] at h
        refine E_blk (lv' := [some (vr (some (11, this))), some (vi v1), some (vi v2), some (vi r7)]) (st' := [vi (lg_cmp (((mJ M6 11 this 69) >>> (r7.toInt64 &&& 63)) &&& (1 : Int64)) (0 : Int64))]) (M1 := M6) (pc' := 47) (tb_Model hγ) [.aload_n 0, .getfield 739, .iload_n 3, .lshr, .lconst 1, .land, .lconst 0, .lcmp] (by decide +kernel) rfl rfl trivial ?_
        refine E_if_ne (off := 40) (tgt := 87) (by decide +kernel) (by decide) (fun b9 => ?_) (fun b9 => ?_)
        · rw [if_pos b9] at h
          refine E_blk (lv' := [some (vr (some (11, this))), some (vi v1), some (vi v2), some (vi r7)]) (st' := []) (M1 := (sJ M6 11 this 69 ((mJ M6 11 this 69) ||| ((1 : Int64) <<< (r7.toInt64 &&& 63))))) (pc' := 62) (tb_Model hγ) [.aload_n 0, .dup, .getfield 739, .lconst 1, .iload_n 3, .lshl, .lor, .putfield 739] (by decide +kernel) rfl rfl trivial ?_
          obtain ⟨M10, eM10, h⟩ := h
          rw [← eM10]
          obtain ⟨c11, h⟩ := h
          refine E_blk (lv' := [some (vr (some (11, this))), some (vi v1), some (vi v2), some (vi r7)]) (st' := []) (M1 := (sI (sI M10 110 this (mI M10 11 this 68).toNatClampNeg r7) 11 this 68 ((mI (sI M10 110 this (mI M10 11 this 68).toNatClampNeg r7) 11 this 68) + (1 : Int32)))) (pc' := 82) (tb_Model hγ) [.aload_n 0, .getfield 302, .aload_n 0, .getfield 736, .iload_n 3, .iastore, .aload_n 0, .dup, .getfield 736, .iconst 1, .iadd, .putfield 736] (by decide +kernel) rfl rfl ⟨c11, trivial⟩ ?_
          obtain ⟨M12, eM12, h⟩ := h
          rw [← eM12]
          refine E_blk (lv' := [some (vr (some (11, this))), some (vi v1), some (vi v2), some (vi r7)]) (st' := [vi r7, vr (some (11, this))]) (M1 := M12) (pc' := 84) (tb_Model hγ) [.aload_n 0, .iload_n 3] (by decide +kernel) rfl rfl trivial ?_
          refine E_callV (κ' := k_Model_listOwn) (As := [vi r7]) (st := []) mv_Model_listOwn (Or.inl (tbk_mem (j := 16) (k := 99) rfl)) rfl (by decide +kernel) (Nat.le_of_ble_eq_true rfl) (Nat.le_of_ble_eq_true rfl) rfl (by omega) (hK this r7 _ M12 h (d + 0) (by omega)) (fun _ _ => Qv_r) (fun v M13 hp => Qv_k (R := fun st => E γ k_Model_listOwn (d + 1) 87 [some (vr (some (11, this))), some (vi v1), some (vi v2), some (vi r7)] st M13 (Qv Q)) hp (fun h => ?_))
          refine E_mask [true, true, true, false] rfl ?_
          exact lkk_Model_listOwn_j87 hγ K hK hd hb this Q (wk_Model_listOwn_L2 K this Q n) ih v1 v2 M13 h
        · rw [if_neg b9] at h
          refine E_mask [true, true, true, false] rfl ?_
          exact lkk_Model_listOwn_j87 hγ K hK hd hb this Q (wk_Model_listOwn_L2 K this Q n) ih v1 v2 M6 h
set_option maxRecDepth 4096 in
theorem lkk_Model_listOwn {γ : Gm} (hγ : Gk γ) {d0 d : Nat} (K : Nat → Int32 → (Mem → Prop) → Mem → Prop) (hK : ∀ (this : Nat) (a1 : Int32) (Q : Mem → Prop) (M : Mem), K this a1 Q M → ∀ d, d0 ≤ d → E γ k_Model_listOwn d 0 [some (vr (some (11, this))), some (vi a1), none, none] [] M (Qv Q)) (hd : d0 ≤ d) (hb : 1 ≤ d) (this : Nat) (a1 : Int32) (Q : Mem → Prop) (M : Mem) (h : wk_Model_listOwn K this a1 Q M) : E γ k_Model_listOwn (d + 1) 0 [some (vr (some (11, this))), some (vi a1), none, none] [] M (Qv Q) := by
  unfold wk_Model_listOwn at h
  refine E_blk (lv' := [some (vr (some (11, this))), some (vi a1), some (vi (0 : Int32)), none]) (st' := []) (M1 := M) (pc' := 2) (tb_Model hγ) [.iconst 0, .istore_n 2] (by decide +kernel) rfl rfl trivial ?_
  obtain ⟨n14, h⟩ := h
  refine E_mask [true, true, true, false] rfl ?_
  exact lkk_Model_listOwn_L2 hγ K hK hd hb this Q n14 a1 (0 : Int32) M h
theorem lkr_Model_listOwn {γ : Gm} (hγ : Gk γ) : ∀ (n : Nat) (this : Nat) (a1 : Int32) (Q : Mem → Prop) (M : Mem), wr_Model_listOwn n this a1 Q M → ∀ d, 1 + 1 * n ≤ d → E γ k_Model_listOwn d 0 [some (vr (some (11, this))), some (vi a1), none, none] [] M (Qv Q) := by
  intro n
  induction n with
  | zero => intro this a1 Q M h; exact h.elim
  | succ n ih =>
    intro this a1 Q M h d hd
    obtain ⟨e, rfl⟩ : ∃ e, d = e + 1 := ⟨d - 1, by omega⟩
    exact lkk_Model_listOwn hγ (d0 := 1 + 1 * n) (d := e) (wr_Model_listOwn n) ih (by omega) (by omega) this a1 Q M h
theorem lk_Model_listOwn {γ : Gm} (hγ : Gk γ) (this : Nat) (a1 : Int32) (Q : Mem → Prop) (M : Mem) (h : w_Model_listOwn this a1 Q M) : E γ k_Model_listOwn 61 0 [some (vr (some (11, this))), some (vi a1), none, none] [] M (Qv Q) := by
  obtain ⟨n, hn, h⟩ := h
  exact lkr_Model_listOwn hγ n this a1 Q M h _ (by omega)
def w_Model_listFaces_L14 (this : Nat) (Q : Mem → Prop) : Nat → Int32 → Int32 → Mem → Prop
  | 0, _, _, _ => False
  | n + 1, v2, v3, M => if v2 < 0 then (Q M) else (if (51 : Int32) ≤ v3 then (Q M) else (w_Model_listOwn this v2 (fun M3 => w_Model_parentOf this v2 (fun r5 M4 => (w_Model_listFaces_L14 this Q n) r5 (v3 + (1 : Int32)) M4) M3) M))
def w_Model_listFaces (this : Nat) (a1 : Int32) (Q : Mem → Prop) (M : Mem) : Prop :=
  ∃ n6 : Nat, w_Model_listFaces_L14 this Q n6 a1 (0 : Int32) (sJ (sI M 11 this 68 (0 : Int32)) 11 this 69 (0 : Int64))
set_option maxRecDepth 4096 in
theorem lk_Model_listFaces_L14 {γ : Gm} (hγ : Gk γ) (this : Nat) (Q : Mem → Prop) : ∀ (n : Nat) (v2 : Int32) (v3 : Int32) (M : Mem), w_Model_listFaces_L14 this Q n v2 v3 M → E γ k_Model_listFaces 62 14 [some (vr (some (11, this))), none, some (vi v2), some (vi v3)] [] M (Qv Q) := by
  intro n
  induction n with
  | zero => intro v2 v3 M h; exact h.elim
  | succ n ih =>
    intro v2 v3 M h
    unfold w_Model_listFaces_L14 at h
    refine E_blk (lv' := [some (vr (some (11, this))), none, some (vi v2), some (vi v3)]) (st' := [vi v2]) (M1 := M) (pc' := 15) (tb_Model hγ) [.iload_n 2] (by decide +kernel) rfl rfl trivial ?_
    refine E_if_lt (off := 26) (tgt := 41) (by decide +kernel) (by decide) (fun b1 => ?_) (fun b1 => ?_)
    · rw [if_pos b1] at h
      exact E_vret rfl (by decide +kernel) h
    · rw [if_neg b1] at h
      refine E_blk (lv' := [some (vr (some (11, this))), none, some (vi v2), some (vi v3)]) (st' := [vi (51 : Int32), vi v3]) (M1 := M) (pc' := 21) (tb_Model hγ) [.iload_n 3, .bipush 51] (by decide +kernel) rfl rfl trivial ?_
      refine E_icmp_ge (off := 20) (tgt := 41) (by decide +kernel) (by decide) (fun b2 => ?_) (fun b2 => ?_)
      · rw [if_pos b2] at h
        exact E_vret rfl (by decide +kernel) h
      · rw [if_neg b2] at h
        refine E_blk (lv' := [some (vr (some (11, this))), none, some (vi v2), some (vi v3)]) (st' := [vi v2, vr (some (11, this))]) (M1 := M) (pc' := 26) (tb_Model hγ) [.aload_n 0, .iload_n 2] (by decide +kernel) rfl rfl trivial ?_
        refine E_callV (κ' := k_Model_listOwn) (As := [vi v2]) (st := []) mv_Model_listOwn (Or.inl (tbk_mem (j := 16) (k := 99) rfl)) rfl (by decide +kernel) (Nat.le_of_ble_eq_true rfl) (Nat.le_of_ble_eq_true rfl) rfl (by decide) (lk_Model_listOwn hγ this v2 _ M h) (fun _ _ => Qv_r) (fun v M3 hp => Qv_k (R := fun st => E γ k_Model_listFaces 62 29 [some (vr (some (11, this))), none, some (vi v2), some (vi v3)] st M3 (Qv Q)) hp (fun h => ?_))
        refine E_blk (lv' := [some (vr (some (11, this))), none, some (vi v2), some (vi v3)]) (st' := [vi v2, vr (some (11, this))]) (M1 := M3) (pc' := 31) (tb_Model hγ) [.aload_n 0, .iload_n 2] (by decide +kernel) rfl rfl trivial ?_
        refine E_callV (κ' := k_Model_parentOf) (As := [vi v2]) (st := []) mv_Model_parentOf (Or.inl (tbk_mem (j := 15) (k := 157) rfl)) rfl (by decide +kernel) (Nat.le_of_ble_eq_true rfl) (Nat.le_of_ble_eq_true rfl) rfl (by decide) (lk_Model_parentOf hγ this v2 _ M3 h) (fun _ _ => Qi_r) (fun v M4 hp => Qi_k (R := fun st => E γ k_Model_listFaces 62 34 [some (vr (some (11, this))), none, some (vi v2), some (vi v3)] st M4 (Qv Q)) hp (fun r5 h => ?_))
        refine E_blk (lv' := [some (vr (some (11, this))), none, some (vi r5), some (vi (v3 + (1 : Int32)))]) (st' := []) (M1 := M4) (pc' := 38) (tb_Model hγ) [.istore_n 2, .iinc 3 1] (by decide +kernel) rfl rfl trivial ?_
        refine E_goto (off := -24) (tgt := 14) (by decide +kernel) (by decide) ?_
        refine E_mask [true, false, true, true] rfl ?_
        exact ih r5 (v3 + (1 : Int32)) M4 h
set_option maxRecDepth 4096 in
theorem lk_Model_listFaces {γ : Gm} (hγ : Gk γ) (this : Nat) (a1 : Int32) (Q : Mem → Prop) (M : Mem) (h : w_Model_listFaces this a1 Q M) : E γ k_Model_listFaces 62 0 [some (vr (some (11, this))), some (vi a1), none, none] [] M (Qv Q) := by
  unfold w_Model_listFaces at h
  refine E_blk (lv' := [some (vr (some (11, this))), some (vi a1), some (vi a1), some (vi (0 : Int32))]) (st' := []) (M1 := (sJ (sI M 11 this 68 (0 : Int32)) 11 this 69 (0 : Int64))) (pc' := 14) (tb_Model hγ) [.aload_n 0, .iconst 0, .putfield 736, .aload_n 0, .lconst 0, .putfield 739, .iload_n 1, .istore_n 2, .iconst 0, .istore_n 3] (by decide +kernel) rfl rfl trivial ?_
  obtain ⟨n6, h⟩ := h
  refine E_mask [true, false, true, true] rfl ?_
  exact lk_Model_listFaces_L14 hγ this Q n6 a1 (0 : Int32) (sJ (sI M 11 this 68 (0 : Int32)) 11 this 69 (0 : Int64)) h
def w_Model_methodIn_j56 (this : Nat) (Q : Int32 → Mem → Prop) (k6 : Int32 → Int32 → Int32 → Int32 → Mem → Prop) (v1 : Int32) (v2 : Int32) (v3 : Int32) (v4 : Int32) (M : Mem) : Prop :=
  k6 v1 v2 v3 (v4 + (1 : Int32)) M
def w_Model_methodIn_L6 (this : Nat) (Q : Int32 → Mem → Prop) : Nat → Int32 → Int32 → Int32 → Int32 → Mem → Prop
  | 0, _, _, _, _, _ => False
  | n + 1, v1, v2, v3, v4, M => ∃ i1, (mR M 11 this 45) = some (12, i1) ∧ vp_in v1 (mL M 136 i1) ∧ if (((12 : Int32) * v1) + (mI M 136 i1 v1.toNatClampNeg)) ≤ v4 then (Q (-2 : Int32) M) else (∃ i4, (mR M 11 this 45) = some (12, i4) ∧ vp_in v4 (mL M 144 i4) ∧ if (mI M 144 i4 v4.toNatClampNeg) = v2 then (∃ i7, (mR M 11 this 45) = some (12, i7) ∧ vp_in v4 (mL M 145 i7) ∧ if (mI M 145 i7 v4.toNatClampNeg) = v3 then (Q v4 M) else (w_Model_methodIn_j56 this Q (w_Model_methodIn_L6 this Q n) v1 v2 v3 v4 M)) else (w_Model_methodIn_j56 this Q (w_Model_methodIn_L6 this Q n) v1 v2 v3 v4 M))
def w_Model_methodIn (this : Nat) (a1 : Int32) (a2 : Int32) (a3 : Int32) (Q : Int32 → Mem → Prop) (M : Mem) : Prop :=
  ∃ n10 : Nat, w_Model_methodIn_L6 this Q n10 a1 a2 a3 ((12 : Int32) * a1) M
set_option maxRecDepth 4096 in
theorem lk_Model_methodIn_j56 {γ : Gm} (hγ : Gk γ) (this : Nat) (Q : Int32 → Mem → Prop) (k6 : Int32 → Int32 → Int32 → Int32 → Mem → Prop) (hk6 : ∀ (v1 : Int32) (v2 : Int32) (v3 : Int32) (v4 : Int32) (M : Mem), k6 v1 v2 v3 v4 M → E γ k_Model_methodIn 0 6 [some (vr (some (11, this))), some (vi v1), some (vi v2), some (vi v3), some (vi v4)] [] M (Qi Q)) (v1 : Int32) (v2 : Int32) (v3 : Int32) (v4 : Int32) (M : Mem) (h : w_Model_methodIn_j56 this Q k6 v1 v2 v3 v4 M) : E γ k_Model_methodIn 0 56 [some (vr (some (11, this))), some (vi v1), some (vi v2), some (vi v3), some (vi v4)] [] M (Qi Q) := by
  unfold w_Model_methodIn_j56 at h
  refine E_blk (lv' := [some (vr (some (11, this))), some (vi v1), some (vi v2), some (vi v3), some (vi (v4 + (1 : Int32)))]) (st' := []) (M1 := M) (pc' := 59) (tb_Model hγ) [.iinc 4 1] (by decide +kernel) rfl rfl trivial ?_
  refine E_goto (off := -53) (tgt := 6) (by decide +kernel) (by decide) ?_
  refine E_mask [true, true, true, true, true] rfl ?_
  exact hk6 v1 v2 v3 (v4 + (1 : Int32)) M h
set_option maxRecDepth 4096 in
theorem lk_Model_methodIn_L6 {γ : Gm} (hγ : Gk γ) (this : Nat) (Q : Int32 → Mem → Prop) : ∀ (n : Nat) (v1 : Int32) (v2 : Int32) (v3 : Int32) (v4 : Int32) (M : Mem), w_Model_methodIn_L6 this Q n v1 v2 v3 v4 M → E γ k_Model_methodIn 0 6 [some (vr (some (11, this))), some (vi v1), some (vi v2), some (vi v3), some (vi v4)] [] M (Qi Q) := by
  intro n
  induction n with
  | zero => intro v1 v2 v3 v4 M h; exact h.elim
  | succ n ih =>
    intro v1 v2 v3 v4 M h
    unfold w_Model_methodIn_L6 at h
    refine E_blk (lv' := [some (vr (some (11, this))), some (vi v1), some (vi v2), some (vi v3), some (vi v4)]) (st' := [vr (mR M 11 this 45), vi ((12 : Int32) * v1), vi v4]) (M1 := M) (pc' := 16) (tb_Model hγ) [.iload 4, .bipush 12, .iload_n 1, .imul, .aload_n 0, .getfield 522] (by decide +kernel) rfl rfl trivial ?_
    obtain ⟨i1, ei1, h⟩ := h
    rw [ei1]
    obtain ⟨c2, h⟩ := h
    refine E_blk (lv' := [some (vr (some (11, this))), some (vi v1), some (vi v2), some (vi v3), some (vi v4)]) (st' := [vi (((12 : Int32) * v1) + (mI M 136 i1 v1.toNatClampNeg)), vi v4]) (M1 := M) (pc' := 22) (tb_Model hγ) [.getfield 438, .iload_n 1, .iaload, .iadd] (by decide +kernel) rfl rfl ⟨c2, trivial⟩ ?_
    refine E_icmp_ge (off := 40) (tgt := 62) (by decide +kernel) (by decide) (fun b3 => ?_) (fun b3 => ?_)
    · rw [if_pos b3] at h
      refine E_blk (lv' := [some (vr (some (11, this))), some (vi v1), some (vi v2), some (vi v3), some (vi v4)]) (st' := [vi (-2 : Int32)]) (M1 := M) (pc' := 64) (tb_Model hγ) [.bipush (.negSucc 1)] (by decide +kernel) rfl rfl trivial ?_
      exact E_iret rfl (by decide +kernel) h
    · rw [if_neg b3] at h
      refine E_blk (lv' := [some (vr (some (11, this))), some (vi v1), some (vi v2), some (vi v3), some (vi v4)]) (st' := [vr (mR M 11 this 45)]) (M1 := M) (pc' := 29) (tb_Model hγ) [.aload_n 0, .getfield 522] (by decide +kernel) rfl rfl trivial ?_
      obtain ⟨i4, ei4, h⟩ := h
      rw [ei4]
      obtain ⟨c5, h⟩ := h
      refine E_blk (lv' := [some (vr (some (11, this))), some (vi v1), some (vi v2), some (vi v3), some (vi v4)]) (st' := [vi v2, vi (mI M 144 i4 v4.toNatClampNeg)]) (M1 := M) (pc' := 36) (tb_Model hγ) [.getfield 447, .iload 4, .iaload, .iload_n 2] (by decide +kernel) rfl rfl ⟨c5, trivial⟩ ?_
      refine E_icmp_ne (off := 20) (tgt := 56) (by decide +kernel) (by decide) (fun b6 => ?_) (fun b6 => ?_)
      · rw [if_pos b6] at h
        refine E_blk (lv' := [some (vr (some (11, this))), some (vi v1), some (vi v2), some (vi v3), some (vi v4)]) (st' := [vr (mR M 11 this 45)]) (M1 := M) (pc' := 43) (tb_Model hγ) [.aload_n 0, .getfield 522] (by decide +kernel) rfl rfl trivial ?_
        obtain ⟨i7, ei7, h⟩ := h
        rw [ei7]
        obtain ⟨c8, h⟩ := h
        refine E_blk (lv' := [some (vr (some (11, this))), some (vi v1), some (vi v2), some (vi v3), some (vi v4)]) (st' := [vi v3, vi (mI M 145 i7 v4.toNatClampNeg)]) (M1 := M) (pc' := 50) (tb_Model hγ) [.getfield 450, .iload 4, .iaload, .iload_n 3] (by decide +kernel) rfl rfl ⟨c8, trivial⟩ ?_
        refine E_icmp_ne (off := 6) (tgt := 56) (by decide +kernel) (by decide) (fun b9 => ?_) (fun b9 => ?_)
        · rw [if_pos b9] at h
          refine E_blk (lv' := [some (vr (some (11, this))), some (vi v1), some (vi v2), some (vi v3), some (vi v4)]) (st' := [vi v4]) (M1 := M) (pc' := 55) (tb_Model hγ) [.iload 4] (by decide +kernel) rfl rfl trivial ?_
          exact E_iret rfl (by decide +kernel) h
        · rw [if_neg b9] at h
          refine E_mask [true, true, true, true, true] rfl ?_
          exact lk_Model_methodIn_j56 hγ this Q (w_Model_methodIn_L6 this Q n) ih v1 v2 v3 v4 M h
      · rw [if_neg b6] at h
        refine E_mask [true, true, true, true, true] rfl ?_
        exact lk_Model_methodIn_j56 hγ this Q (w_Model_methodIn_L6 this Q n) ih v1 v2 v3 v4 M h
set_option maxRecDepth 4096 in
theorem lk_Model_methodIn {γ : Gm} (hγ : Gk γ) (this : Nat) (a1 : Int32) (a2 : Int32) (a3 : Int32) (Q : Int32 → Mem → Prop) (M : Mem) (h : w_Model_methodIn this a1 a2 a3 Q M) : E γ k_Model_methodIn 0 0 [some (vr (some (11, this))), some (vi a1), some (vi a2), some (vi a3), none] [] M (Qi Q) := by
  unfold w_Model_methodIn at h
  refine E_blk (lv' := [some (vr (some (11, this))), some (vi a1), some (vi a2), some (vi a3), some (vi ((12 : Int32) * a1))]) (st' := []) (M1 := M) (pc' := 6) (tb_Model hγ) [.bipush 12, .iload_n 1, .imul, .istore 4] (by decide +kernel) rfl rfl trivial ?_
  obtain ⟨n10, h⟩ := h
  refine E_mask [true, true, true, true, true] rfl ?_
  exact lk_Model_methodIn_L6 hγ this Q n10 a1 a2 a3 ((12 : Int32) * a1) M h
def w_Model_begin_L149 (this : Nat) (Q : Mem → Prop) : Nat → Int32 → Int32 → Mem → Prop
  | 0, _, _, _ => False
  | n + 1, v3, v6, M => if v3 ≤ v6 then (Q M) else (vp_in v6 (mL M 111 this) ∧ (w_Model_begin_L149 this Q n) v3 (v6 + (1 : Int32)) (sI M 111 this v6.toNatClampNeg (4 : Int32)))
def w_Model_begin_L102 (this : Nat) (Q : Mem → Prop) : Nat → Int32 → Int32 → Int32 → Int32 → Mem → Prop
  | 0, _, _, _, _, _ => False
  | n + 1, v3, v4, v5, v6, M => ∃ i14, (mR M 11 this 31) = some (300, i14) ∧ vp_in v5 (mL M 300 i14) ∧ if (mI M 300 i14 v5.toNatClampNeg) ≤ v6 then (∃ n19 : Nat, w_Model_begin_L149 this Q n19 v3 v4 M) else (∃ i20, (mR M 11 this 35) = some (300, i20) ∧ ∃ i21, (mR M 11 this 30) = some (300, i21) ∧ vp_in v5 (mL M 300 i21) ∧ vp_in ((mI M 300 i21 v5.toNatClampNeg) + v6) (mL M 300 i20) ∧ vp_in v4 (mL M 111 this) ∧ ∃ M25, M25 = (sI M 111 this v4.toNatClampNeg (mI M 300 i20 ((mI M 300 i21 v5.toNatClampNeg) + v6).toNatClampNeg)) ∧ (w_Model_begin_L102 this Q n) v3 (v4 + (1 : Int32)) v5 (v6 + (1 : Int32)) M25)
def w_Model_begin_j88 (this : Nat) (Q : Mem → Prop) (v2 : Int32) (v3 : Int32) (v4 : Int32) (M : Mem) : Prop :=
  ∃ i12, (mR M 11 this 45) = some (12, i12) ∧ vp_in v2 (mL M 145 i12) ∧ ∃ n26 : Nat, w_Model_begin_L102 this Q n26 v3 v4 (mI M 145 i12 v2.toNatClampNeg) (0 : Int32) M
def w_Model_begin_j84 (this : Nat) (Q : Mem → Prop) (v2 : Int32) (v3 : Int32) (s0 : Int32) (s1 : Int32) (M : Mem) : Prop :=
  vp_in s1 (mL M 111 this) ∧ w_Model_begin_j88 this Q v2 v3 (1 : Int32) (sI M 111 this s1.toNatClampNeg s0)
def w_Model_begin (this : Nat) (a1 : Int32) (a2 : Int32) (Q : Mem → Prop) (M : Mem) : Prop :=
  ((1 : Int32) = 0 ∨ (1 : Int32) = 1) ∧ ∃ M2, M2 = (sI (sI (sI (sI M 11 this 76 a1) 11 this 75 a2) 11 this 72 (0 : Int32)) 11 this 73 (1 : Int32)) ∧ ∃ i3, (mR M2 11 this 45) = some (12, i3) ∧ vp_in a2 (mL M2 148 i3) ∧ ∃ i5, (mR M2 11 this 45) = some (12, i5) ∧ vp_in a2 (mL M2 146 i5) ∧ if ((mI M2 146 i5 a2.toNatClampNeg) &&& (1 : Int32)) = 0 then (∃ i8, (mR M2 11 this 45) = some (12, i8) ∧ vp_in a2 (mL M2 144 i8) ∧ if (mI M2 144 i8 a2.toNatClampNeg) = (mI M2 11 this 6) then (w_Model_begin_j84 this Q a2 (mI M2 148 i3 a2.toNatClampNeg) (5 : Int32) (0 : Int32) M2) else (∃ i27, (mR M2 11 this 45) = some (12, i27) ∧ vp_in a1 (mL M2 130 i27) ∧ w_Model_begin_j84 this Q a2 (mI M2 148 i3 a2.toNatClampNeg) ((16 : Int32) + (mI M2 130 i27 a1.toNatClampNeg)) (0 : Int32) M2)) else (w_Model_begin_j88 this Q a2 (mI M2 148 i3 a2.toNatClampNeg) (0 : Int32) M2)
set_option maxRecDepth 4096 in
theorem lk_Model_begin_L149 {γ : Gm} (hγ : Gk γ) (this : Nat) (Q : Mem → Prop) : ∀ (n : Nat) (v3 : Int32) (v6 : Int32) (M : Mem), w_Model_begin_L149 this Q n v3 v6 M → E γ k_Model_begin 0 149 [some (vr (some (11, this))), none, none, some (vi v3), none, none, some (vi v6)] [] M (Qv Q) := by
  intro n
  induction n with
  | zero => intro v3 v6 M h; exact h.elim
  | succ n ih =>
    intro v3 v6 M h
    unfold w_Model_begin_L149 at h
    refine E_blk (lv' := [some (vr (some (11, this))), none, none, some (vi v3), none, none, some (vi v6)]) (st' := [vi v3, vi v6]) (M1 := M) (pc' := 152) (tb_Model hγ) [.iload 6, .iload_n 3] (by decide +kernel) rfl rfl trivial ?_
    refine E_icmp_ge (off := 17) (tgt := 169) (by decide +kernel) (by decide) (fun b17 => ?_) (fun b17 => ?_)
    · rw [if_pos b17] at h
      exact E_vret rfl (by decide +kernel) h
    · rw [if_neg b17] at h
      obtain ⟨c18, h⟩ := h
      refine E_blk (lv' := [some (vr (some (11, this))), none, none, some (vi v3), none, none, some (vi (v6 + (1 : Int32)))]) (st' := []) (M1 := (sI M 111 this v6.toNatClampNeg (4 : Int32))) (pc' := 166) (tb_Model hγ) [.aload_n 0, .getfield 305, .iload 6, .iconst 4, .iastore, .iinc 6 1] (by decide +kernel) rfl rfl ⟨c18, trivial⟩ ?_
      refine E_goto (off := -17) (tgt := 149) (by decide +kernel) (by decide) ?_
      refine E_mask [true, false, false, true, false, false, true] rfl ?_
      exact ih v3 (v6 + (1 : Int32)) (sI M 111 this v6.toNatClampNeg (4 : Int32)) h
set_option maxRecDepth 4096 in
theorem lk_Model_begin_L102 {γ : Gm} (hγ : Gk γ) (this : Nat) (Q : Mem → Prop) : ∀ (n : Nat) (v3 : Int32) (v4 : Int32) (v5 : Int32) (v6 : Int32) (M : Mem), w_Model_begin_L102 this Q n v3 v4 v5 v6 M → E γ k_Model_begin 0 102 [some (vr (some (11, this))), none, none, some (vi v3), some (vi v4), some (vi v5), some (vi v6)] [] M (Qv Q) := by
  intro n
  induction n with
  | zero => intro v3 v4 v5 v6 M h; exact h.elim
  | succ n ih =>
    intro v3 v4 v5 v6 M h
    unfold w_Model_begin_L102 at h
    refine E_blk (lv' := [some (vr (some (11, this))), none, none, some (vi v3), some (vi v4), some (vi v5), some (vi v6)]) (st' := [vr (mR M 11 this 31), vi v6]) (M1 := M) (pc' := 108) (tb_Model hγ) [.iload 6, .aload_n 0, .getfield 80] (by decide +kernel) rfl rfl trivial ?_
    obtain ⟨i14, ei14, h⟩ := h
    rw [ei14]
    obtain ⟨c15, h⟩ := h
    refine E_blk (lv' := [some (vr (some (11, this))), none, none, some (vi v3), some (vi v4), some (vi v5), some (vi v6)]) (st' := [vi (mI M 300 i14 v5.toNatClampNeg), vi v6]) (M1 := M) (pc' := 111) (tb_Model hγ) [.iload 5, .iaload] (by decide +kernel) rfl rfl ⟨c15, trivial⟩ ?_
    refine E_icmp_ge (off := 34) (tgt := 145) (by decide +kernel) (by decide) (fun b16 => ?_) (fun b16 => ?_)
    · rw [if_pos b16] at h
      refine E_blk (lv' := [some (vr (some (11, this))), none, none, some (vi v3), some (vi v4), some (vi v5), some (vi v4)]) (st' := []) (M1 := M) (pc' := 149) (tb_Model hγ) [.iload 4, .istore 6] (by decide +kernel) rfl rfl trivial ?_
      obtain ⟨n19, h⟩ := h
      refine E_mask [true, false, false, true, false, false, true] rfl ?_
      exact lk_Model_begin_L149 hγ this Q n19 v3 v4 M h
    · rw [if_neg b16] at h
      refine E_blk (lv' := [some (vr (some (11, this))), none, none, some (vi v3), some (vi v4), some (vi v5), some (vi v6)]) (st' := [vr (mR M 11 this 35), vi v4, vr (some (111, this))]) (M1 := M) (pc' := 124) (tb_Model hγ) [.aload_n 0, .getfield 305, .iload 4, .aload_n 0, .getfield 86] (by decide +kernel) rfl rfl trivial ?_
      obtain ⟨i20, ei20, h⟩ := h
      rw [ei20]
      refine E_blk (lv' := [some (vr (some (11, this))), none, none, some (vi v3), some (vi v4), some (vi v5), some (vi v6)]) (st' := [vr (mR M 11 this 30), vr (some (300, i20)), vi v4, vr (some (111, this))]) (M1 := M) (pc' := 128) (tb_Model hγ) [.aload_n 0, .getfield 74] (by decide +kernel) rfl rfl trivial ?_
      obtain ⟨i21, ei21, h⟩ := h
      rw [ei21]
      obtain ⟨c22, c23, c24, h⟩ := h
      refine E_blk (lv' := [some (vr (some (11, this))), none, none, some (vi v3), some (vi v4), some (vi v5), some (vi v6)]) (st' := []) (M1 := (sI M 111 this v4.toNatClampNeg (mI M 300 i20 ((mI M 300 i21 v5.toNatClampNeg) + v6).toNatClampNeg))) (pc' := 136) (tb_Model hγ) [.iload 5, .iaload, .iload 6, .iadd, .iaload, .iastore] (by decide +kernel) rfl rfl ⟨c22, c23, c24, trivial⟩ ?_
      obtain ⟨M25, eM25, h⟩ := h
      rw [← eM25]
      refine E_blk (lv' := [some (vr (some (11, this))), none, none, some (vi v3), some (vi (v4 + (1 : Int32))), some (vi v5), some (vi (v6 + (1 : Int32)))]) (st' := []) (M1 := M25) (pc' := 142) (tb_Model hγ) [.iinc 4 1, .iinc 6 1] (by decide +kernel) rfl rfl trivial ?_
      refine E_goto (off := -40) (tgt := 102) (by decide +kernel) (by decide) ?_
      refine E_mask [true, false, false, true, true, true, true] rfl ?_
      exact ih v3 (v4 + (1 : Int32)) v5 (v6 + (1 : Int32)) M25 h
set_option maxRecDepth 4096 in
theorem lk_Model_begin_j88 {γ : Gm} (hγ : Gk γ) (this : Nat) (Q : Mem → Prop) (v2 : Int32) (v3 : Int32) (v4 : Int32) (M : Mem) (h : w_Model_begin_j88 this Q v2 v3 v4 M) : E γ k_Model_begin 0 88 [some (vr (some (11, this))), none, some (vi v2), some (vi v3), some (vi v4), none, none] [] M (Qv Q) := by
  unfold w_Model_begin_j88 at h
  refine E_blk (lv' := [some (vr (some (11, this))), none, some (vi v2), some (vi v3), some (vi v4), none, none]) (st' := [vr (mR M 11 this 45)]) (M1 := M) (pc' := 92) (tb_Model hγ) [.aload_n 0, .getfield 522] (by decide +kernel) rfl rfl trivial ?_
  obtain ⟨i12, ei12, h⟩ := h
  rw [ei12]
  obtain ⟨c13, h⟩ := h
  refine E_blk (lv' := [some (vr (some (11, this))), none, some (vi v2), some (vi v3), some (vi v4), some (vi (mI M 145 i12 v2.toNatClampNeg)), some (vi (0 : Int32))]) (st' := []) (M1 := M) (pc' := 102) (tb_Model hγ) [.getfield 450, .iload_n 2, .iaload, .istore 5, .iconst 0, .istore 6] (by decide +kernel) rfl rfl ⟨c13, trivial⟩ ?_
  obtain ⟨n26, h⟩ := h
  refine E_mask [true, false, false, true, true, true, true] rfl ?_
  exact lk_Model_begin_L102 hγ this Q n26 v3 v4 (mI M 145 i12 v2.toNatClampNeg) (0 : Int32) M h
set_option maxRecDepth 4096 in
theorem lk_Model_begin_j84 {γ : Gm} (hγ : Gk γ) (this : Nat) (Q : Mem → Prop) (v2 : Int32) (v3 : Int32) (s0 : Int32) (s1 : Int32) (M : Mem) (h : w_Model_begin_j84 this Q v2 v3 s0 s1 M) : E γ k_Model_begin 0 84 [some (vr (some (11, this))), none, some (vi v2), some (vi v3), none, none, none] [vi s0, vi s1, vr (some (111, this))] M (Qv Q) := by
  unfold w_Model_begin_j84 at h
  obtain ⟨c11, h⟩ := h
  refine E_blk (lv' := [some (vr (some (11, this))), none, some (vi v2), some (vi v3), some (vi (1 : Int32)), none, none]) (st' := []) (M1 := (sI M 111 this s1.toNatClampNeg s0)) (pc' := 88) (tb_Model hγ) [.iastore, .iconst 1, .istore 4] (by decide +kernel) rfl rfl ⟨c11, trivial⟩ ?_
  refine E_mask [true, false, true, true, true, false, false] rfl ?_
  exact lk_Model_begin_j88 hγ this Q v2 v3 (1 : Int32) (sI M 111 this s1.toNatClampNeg s0) h
set_option maxRecDepth 4096 in
theorem lk_Model_begin {γ : Gm} (hγ : Gk γ) (this : Nat) (a1 : Int32) (a2 : Int32) (Q : Mem → Prop) (M : Mem) (h : w_Model_begin this a1 a2 Q M) : E γ k_Model_begin 0 0 [some (vr (some (11, this))), some (vi a1), some (vi a2), none, none, none, none] [] M (Qv Q) := by
  unfold w_Model_begin at h
  obtain ⟨c1, h⟩ := h
  refine E_blk (lv' := [some (vr (some (11, this))), some (vi a1), some (vi a2), none, none, none, none]) (st' := []) (M1 := (sI (sI (sI (sI M 11 this 76 a1) 11 this 75 a2) 11 this 72 (0 : Int32)) 11 this 73 (1 : Int32))) (pc' := 20) (tb_Model hγ) [.aload_n 0, .iload_n 1, .putfield 789, .aload_n 0, .iload_n 2, .putfield 768, .aload_n 0, .iconst 0, .putfield 780, .aload_n 0, .iconst 1, .putfield 792] (by decide +kernel) rfl rfl ⟨c1, trivial⟩ ?_
  obtain ⟨M2, eM2, h⟩ := h
  rw [← eM2]
  refine E_blk (lv' := [some (vr (some (11, this))), some (vi a1), some (vi a2), none, none, none, none]) (st' := [vr (mR M2 11 this 45)]) (M1 := M2) (pc' := 24) (tb_Model hγ) [.aload_n 0, .getfield 522] (by decide +kernel) rfl rfl trivial ?_
  obtain ⟨i3, ei3, h⟩ := h
  rw [ei3]
  obtain ⟨c4, h⟩ := h
  refine E_blk (lv' := [some (vr (some (11, this))), some (vi a1), some (vi a2), some (vi (mI M2 148 i3 a2.toNatClampNeg)), some (vi (0 : Int32)), none, none]) (st' := [vr (mR M2 11 this 45)]) (M1 := M2) (pc' := 37) (tb_Model hγ) [.getfield 459, .iload_n 2, .iaload, .istore_n 3, .iconst 0, .istore 4, .aload_n 0, .getfield 522] (by decide +kernel) rfl rfl ⟨c4, trivial⟩ ?_
  obtain ⟨i5, ei5, h⟩ := h
  rw [ei5]
  obtain ⟨c6, h⟩ := h
  refine E_blk (lv' := [some (vr (some (11, this))), some (vi a1), some (vi a2), some (vi (mI M2 148 i3 a2.toNatClampNeg)), some (vi (0 : Int32)), none, none]) (st' := [vi ((mI M2 146 i5 a2.toNatClampNeg) &&& (1 : Int32))]) (M1 := M2) (pc' := 44) (tb_Model hγ) [.getfield 453, .iload_n 2, .iaload, .iconst 1, .iand] (by decide +kernel) rfl rfl ⟨c6, trivial⟩ ?_
  refine E_if_ne (off := 44) (tgt := 88) (by decide +kernel) (by decide) (fun b7 => ?_) (fun b7 => ?_)
  · rw [if_pos b7] at h
    refine E_blk (lv' := [some (vr (some (11, this))), some (vi a1), some (vi a2), some (vi (mI M2 148 i3 a2.toNatClampNeg)), some (vi (0 : Int32)), none, none]) (st' := [vr (mR M2 11 this 45), vi (0 : Int32), vr (some (111, this))]) (M1 := M2) (pc' := 56) (tb_Model hγ) [.aload_n 0, .getfield 305, .iconst 0, .aload_n 0, .getfield 522] (by decide +kernel) rfl rfl trivial ?_
    obtain ⟨i8, ei8, h⟩ := h
    rw [ei8]
    obtain ⟨c9, h⟩ := h
    refine E_blk (lv' := [some (vr (some (11, this))), some (vi a1), some (vi a2), some (vi (mI M2 148 i3 a2.toNatClampNeg)), some (vi (0 : Int32)), none, none]) (st' := [vi (mI M2 11 this 6), vi (mI M2 144 i8 a2.toNatClampNeg), vi (0 : Int32), vr (some (111, this))]) (M1 := M2) (pc' := 65) (tb_Model hγ) [.getfield 447, .iload_n 2, .iaload, .aload_n 0, .getfield 121] (by decide +kernel) rfl rfl ⟨c9, trivial⟩ ?_
    refine E_icmp_ne (off := 7) (tgt := 72) (by decide +kernel) (by decide) (fun b10 => ?_) (fun b10 => ?_)
    · rw [if_pos b10] at h
      refine E_blk (lv' := [some (vr (some (11, this))), some (vi a1), some (vi a2), some (vi (mI M2 148 i3 a2.toNatClampNeg)), some (vi (0 : Int32)), none, none]) (st' := [vi (5 : Int32), vi (0 : Int32), vr (some (111, this))]) (M1 := M2) (pc' := 69) (tb_Model hγ) [.iconst 5] (by decide +kernel) rfl rfl trivial ?_
      refine E_goto (off := 15) (tgt := 84) (by decide +kernel) (by decide) ?_
      refine E_mask [true, false, true, true, false, false, false] rfl ?_
      exact lk_Model_begin_j84 hγ this Q a2 (mI M2 148 i3 a2.toNatClampNeg) (5 : Int32) (0 : Int32) M2 h
    · rw [if_neg b10] at h
      refine E_blk (lv' := [some (vr (some (11, this))), some (vi a1), some (vi a2), some (vi (mI M2 148 i3 a2.toNatClampNeg)), some (vi (0 : Int32)), none, none]) (st' := [vr (mR M2 11 this 45), vi (16 : Int32), vi (0 : Int32), vr (some (111, this))]) (M1 := M2) (pc' := 78) (tb_Model hγ) [.bipush 16, .aload_n 0, .getfield 522] (by decide +kernel) rfl rfl trivial ?_
      obtain ⟨i27, ei27, h⟩ := h
      rw [ei27]
      obtain ⟨c28, h⟩ := h
      refine E_blk (lv' := [some (vr (some (11, this))), some (vi a1), some (vi a2), some (vi (mI M2 148 i3 a2.toNatClampNeg)), some (vi (0 : Int32)), none, none]) (st' := [vi ((16 : Int32) + (mI M2 130 i27 a1.toNatClampNeg)), vi (0 : Int32), vr (some (111, this))]) (M1 := M2) (pc' := 84) (tb_Model hγ) [.getfield 423, .iload_n 1, .iaload, .iadd] (by decide +kernel) rfl rfl ⟨c28, trivial⟩ ?_
      refine E_mask [true, false, true, true, false, false, false] rfl ?_
      exact lk_Model_begin_j84 hγ this Q a2 (mI M2 148 i3 a2.toNatClampNeg) ((16 : Int32) + (mI M2 130 i27 a1.toNatClampNeg)) (0 : Int32) M2 h
  · rw [if_neg b7] at h
    refine E_mask [true, false, true, true, true, false, false] rfl ?_
    exact lk_Model_begin_j88 hγ this Q a2 (mI M2 148 i3 a2.toNatClampNeg) (0 : Int32) M2 h
def w_Model_frameKind (this : Nat) (a1 : Int32) (a2 : Int32) (Q : Int32 → Mem → Prop) (M : Mem) : Prop :=
  ∃ i1, (mR M 11 this 45) = some (12, i1) ∧ ∃ i2, (mR M 12 i1 42) = some (300, i2) ∧ ∃ i3, (mR M 11 this 45) = some (12, i3) ∧ ∃ i4, (mR M 12 i3 40) = some (300, i4) ∧ vp_in a1 (mL M 300 i4) ∧ vp_in ((mI M 300 i4 a1.toNatClampNeg) + a2) (mL M 300 i2) ∧ Q (mI M 300 i2 ((mI M 300 i4 a1.toNatClampNeg) + a2).toNatClampNeg) M
set_option maxRecDepth 4096 in
theorem lk_Model_frameKind {γ : Gm} (hγ : Gk γ) (this : Nat) (a1 : Int32) (a2 : Int32) (Q : Int32 → Mem → Prop) (M : Mem) (h : w_Model_frameKind this a1 a2 Q M) : E γ k_Model_frameKind 0 0 [some (vr (some (11, this))), some (vi a1), some (vi a2)] [] M (Qi Q) := by
  unfold w_Model_frameKind at h
  refine E_blk (lv' := [some (vr (some (11, this))), some (vi a1), some (vi a2)]) (st' := [vr (mR M 11 this 45)]) (M1 := M) (pc' := 4) (tb_Model hγ) [.aload_n 0, .getfield 522] (by decide +kernel) rfl rfl trivial ?_
  obtain ⟨i1, ei1, h⟩ := h
  rw [ei1]
  refine E_blk (lv' := [some (vr (some (11, this))), some (vi a1), some (vi a2)]) (st' := [vr (mR M 12 i1 42)]) (M1 := M) (pc' := 7) (tb_Model hγ) [.getfield 692] (by decide +kernel) rfl rfl trivial ?_
  obtain ⟨i2, ei2, h⟩ := h
  rw [ei2]
  refine E_blk (lv' := [some (vr (some (11, this))), some (vi a1), some (vi a2)]) (st' := [vr (mR M 11 this 45), vr (some (300, i2))]) (M1 := M) (pc' := 11) (tb_Model hγ) [.aload_n 0, .getfield 522] (by decide +kernel) rfl rfl trivial ?_
  obtain ⟨i3, ei3, h⟩ := h
  rw [ei3]
  refine E_blk (lv' := [some (vr (some (11, this))), some (vi a1), some (vi a2)]) (st' := [vr (mR M 12 i3 40), vr (some (300, i2))]) (M1 := M) (pc' := 14) (tb_Model hγ) [.getfield 698] (by decide +kernel) rfl rfl trivial ?_
  obtain ⟨i4, ei4, h⟩ := h
  rw [ei4]
  obtain ⟨c5, c6, h⟩ := h
  refine E_blk (lv' := [some (vr (some (11, this))), some (vi a1), some (vi a2)]) (st' := [vi (mI M 300 i2 ((mI M 300 i4 a1.toNatClampNeg) + a2).toNatClampNeg)]) (M1 := M) (pc' := 19) (tb_Model hγ) [.iload_n 1, .iaload, .iload_n 2, .iadd, .iaload] (by decide +kernel) rfl rfl ⟨c5, c6, trivial⟩ ?_
  exact E_iret rfl (by decide +kernel) h
def w_Model_isWrongFrame_j134 (this : Nat) (Q : Int32 → Mem → Prop) (k72 : Int32 → Int32 → Int32 → Int32 → Int32 → Mem → Prop) (v1 : Int32) (v2 : Int32) (v3 : Int32) (v5 : Int32) (s0 : Int32) (M : Mem) : Prop :=
  k72 v1 v2 v3 s0 (v5 + (1 : Int32)) M
def w_Model_isWrongFrame_j129 (this : Nat) (Q : Int32 → Mem → Prop) (k72 : Int32 → Int32 → Int32 → Int32 → Int32 → Mem → Prop) (v1 : Int32) (v2 : Int32) (v3 : Int32) (v5 : Int32) (M : Mem) : Prop :=
  w_Model_isWrongFrame_j134 this Q k72 v1 v2 v3 v5 (1 : Int32) M
def w_Model_isWrongFrame_j133 (this : Nat) (Q : Int32 → Mem → Prop) (k72 : Int32 → Int32 → Int32 → Int32 → Int32 → Mem → Prop) (v1 : Int32) (v2 : Int32) (v3 : Int32) (v5 : Int32) (M : Mem) : Prop :=
  w_Model_isWrongFrame_j134 this Q k72 v1 v2 v3 v5 (0 : Int32) M
def w_Model_isWrongFrame_j104 (this : Nat) (Q : Int32 → Mem → Prop) (k72 : Int32 → Int32 → Int32 → Int32 → Int32 → Mem → Prop) (v1 : Int32) (v2 : Int32) (v3 : Int32) (v5 : Int32) (v6 : Int32) (M : Mem) : Prop :=
  if v6 = (5 : Int32) then (∃ i18, (mR M 11 this 45) = some (12, i18) ∧ vp_in (mI M 11 this 75) (mL M 144 i18) ∧ if (mI M 144 i18 (mI M 11 this 75).toNatClampNeg) = (mI M 11 this 6) then (w_Model_isWrongFrame_j133 this Q k72 v1 v2 v3 v5 M) else (w_Model_isWrongFrame_j129 this Q k72 v1 v2 v3 v5 M)) else (w_Model_isWrongFrame_j133 this Q k72 v1 v2 v3 v5 M)
def w_Model_isWrongFrame_L72 (this : Nat) (Q : Int32 → Mem → Prop) : Nat → Int32 → Int32 → Int32 → Int32 → Int32 → Mem → Prop
  | 0, _, _, _, _, _, _ => False
  | n + 1, v1, v2, v3, v4, v5, M => if v3 ≤ v5 then ((v4 = 0 ∨ v4 = 1) ∧ Q v4 M) else (if v4 = 0 then (w_Model_frameKind this v1 v5 (fun r14 M13 => if r14 = (4 : Int32) then (if v2 ≤ v5 then (w_Model_isWrongFrame_j129 this Q (w_Model_isWrongFrame_L72 this Q n) v1 v2 v3 v5 M13) else (w_Model_isWrongFrame_j104 this Q (w_Model_isWrongFrame_L72 this Q n) v1 v2 v3 v5 r14 M13)) else (w_Model_isWrongFrame_j104 this Q (w_Model_isWrongFrame_L72 this Q n) v1 v2 v3 v5 r14 M13)) M) else ((v4 = 0 ∨ v4 = 1) ∧ Q v4 M))
def w_Model_isWrongFrame_j67 (this : Nat) (Q : Int32 → Mem → Prop) (v1 : Int32) (v2 : Int32) (v3 : Int32) (s0 : Int32) (M : Mem) : Prop :=
  ∃ n21 : Nat, w_Model_isWrongFrame_L72 this Q n21 v1 v2 v3 s0 (0 : Int32) M
def w_Model_isWrongFrame_j62 (this : Nat) (Q : Int32 → Mem → Prop) (v1 : Int32) (v2 : Int32) (v3 : Int32) (M : Mem) : Prop :=
  w_Model_isWrongFrame_j67 this Q v1 v2 v3 (1 : Int32) M
def w_Model_isWrongFrame (this : Nat) (a1 : Int32) (Q : Int32 → Mem → Prop) (M : Mem) : Prop :=
  ∃ i1, (mR M 11 this 45) = some (12, i1) ∧ ∃ i2, (mR M 12 i1 38) = some (300, i2) ∧ vp_in a1 (mL M 300 i2) ∧ ∃ i4, (mR M 11 this 45) = some (12, i4) ∧ ∃ i5, (mR M 12 i4 39) = some (300, i5) ∧ vp_in a1 (mL M 300 i5) ∧ ∃ x7 : Int32, x7 = ((mI M 300 i2 a1.toNatClampNeg) + (mI M 300 i5 a1.toNatClampNeg)) ∧ ∃ i8, (mR M 11 this 45) = some (12, i8) ∧ vp_in (mI M 11 this 75) (mL M 148 i8) ∧ if (mI M 148 i8 (mI M 11 this 75).toNatClampNeg) < (mI M 300 i2 a1.toNatClampNeg) then (w_Model_isWrongFrame_j62 this Q a1 (mI M 300 i2 a1.toNatClampNeg) x7 M) else (∃ i22, (mR M 11 this 45) = some (12, i22) ∧ ∃ i23, (mR M 12 i22 39) = some (300, i23) ∧ vp_in a1 (mL M 300 i23) ∧ ∃ i25, (mR M 11 this 45) = some (12, i25) ∧ vp_in (mI M 11 this 75) (mL M 147 i25) ∧ if (mI M 300 i23 a1.toNatClampNeg) ≤ (mI M 147 i25 (mI M 11 this 75).toNatClampNeg) then (w_Model_isWrongFrame_j67 this Q a1 (mI M 300 i2 a1.toNatClampNeg) x7 (0 : Int32) M) else (w_Model_isWrongFrame_j62 this Q a1 (mI M 300 i2 a1.toNatClampNeg) x7 M))
set_option maxRecDepth 4096 in
theorem lk_Model_isWrongFrame_j134 {γ : Gm} (hγ : Gk γ) (this : Nat) (Q : Int32 → Mem → Prop) (k72 : Int32 → Int32 → Int32 → Int32 → Int32 → Mem → Prop) (hk72 : ∀ (v1 : Int32) (v2 : Int32) (v3 : Int32) (v4 : Int32) (v5 : Int32) (M : Mem), k72 v1 v2 v3 v4 v5 M → E γ k_Model_isWrongFrame 1 72 [some (vr (some (11, this))), some (vi v1), some (vi v2), some (vi v3), some (vi v4), some (vi v5), none] [] M (Qi Q)) (v1 : Int32) (v2 : Int32) (v3 : Int32) (v5 : Int32) (s0 : Int32) (M : Mem) (h : w_Model_isWrongFrame_j134 this Q k72 v1 v2 v3 v5 s0 M) : E γ k_Model_isWrongFrame 1 134 [some (vr (some (11, this))), some (vi v1), some (vi v2), some (vi v3), none, some (vi v5), none] [vi s0] M (Qi Q) := by
  unfold w_Model_isWrongFrame_j134 at h
  refine E_blk (lv' := [some (vr (some (11, this))), some (vi v1), some (vi v2), some (vi v3), some (vi s0), some (vi (v5 + (1 : Int32))), none]) (st' := []) (M1 := M) (pc' := 139) (tb_Model hγ) [.istore 4, .iinc 5 1] (by decide +kernel) rfl rfl trivial ?_
  refine E_goto (off := -67) (tgt := 72) (by decide +kernel) (by decide) ?_
  refine E_mask [true, true, true, true, true, true, false] rfl ?_
  exact hk72 v1 v2 v3 s0 (v5 + (1 : Int32)) M h
set_option maxRecDepth 4096 in
theorem lk_Model_isWrongFrame_j129 {γ : Gm} (hγ : Gk γ) (this : Nat) (Q : Int32 → Mem → Prop) (k72 : Int32 → Int32 → Int32 → Int32 → Int32 → Mem → Prop) (hk72 : ∀ (v1 : Int32) (v2 : Int32) (v3 : Int32) (v4 : Int32) (v5 : Int32) (M : Mem), k72 v1 v2 v3 v4 v5 M → E γ k_Model_isWrongFrame 1 72 [some (vr (some (11, this))), some (vi v1), some (vi v2), some (vi v3), some (vi v4), some (vi v5), none] [] M (Qi Q)) (v1 : Int32) (v2 : Int32) (v3 : Int32) (v5 : Int32) (M : Mem) (h : w_Model_isWrongFrame_j129 this Q k72 v1 v2 v3 v5 M) : E γ k_Model_isWrongFrame 1 129 [some (vr (some (11, this))), some (vi v1), some (vi v2), some (vi v3), none, some (vi v5), none] [] M (Qi Q) := by
  unfold w_Model_isWrongFrame_j129 at h
  refine E_blk (lv' := [some (vr (some (11, this))), some (vi v1), some (vi v2), some (vi v3), none, some (vi v5), none]) (st' := [vi (1 : Int32)]) (M1 := M) (pc' := 130) (tb_Model hγ) [.iconst 1] (by decide +kernel) rfl rfl trivial ?_
  refine E_goto (off := 4) (tgt := 134) (by decide +kernel) (by decide) ?_
  refine E_mask [true, true, true, true, false, true, false] rfl ?_
  exact lk_Model_isWrongFrame_j134 hγ this Q k72 hk72 v1 v2 v3 v5 (1 : Int32) M h
set_option maxRecDepth 4096 in
theorem lk_Model_isWrongFrame_j133 {γ : Gm} (hγ : Gk γ) (this : Nat) (Q : Int32 → Mem → Prop) (k72 : Int32 → Int32 → Int32 → Int32 → Int32 → Mem → Prop) (hk72 : ∀ (v1 : Int32) (v2 : Int32) (v3 : Int32) (v4 : Int32) (v5 : Int32) (M : Mem), k72 v1 v2 v3 v4 v5 M → E γ k_Model_isWrongFrame 1 72 [some (vr (some (11, this))), some (vi v1), some (vi v2), some (vi v3), some (vi v4), some (vi v5), none] [] M (Qi Q)) (v1 : Int32) (v2 : Int32) (v3 : Int32) (v5 : Int32) (M : Mem) (h : w_Model_isWrongFrame_j133 this Q k72 v1 v2 v3 v5 M) : E γ k_Model_isWrongFrame 1 133 [some (vr (some (11, this))), some (vi v1), some (vi v2), some (vi v3), none, some (vi v5), none] [] M (Qi Q) := by
  unfold w_Model_isWrongFrame_j133 at h
  refine E_blk (lv' := [some (vr (some (11, this))), some (vi v1), some (vi v2), some (vi v3), none, some (vi v5), none]) (st' := [vi (0 : Int32)]) (M1 := M) (pc' := 134) (tb_Model hγ) [.iconst 0] (by decide +kernel) rfl rfl trivial ?_
  refine E_mask [true, true, true, true, false, true, false] rfl ?_
  exact lk_Model_isWrongFrame_j134 hγ this Q k72 hk72 v1 v2 v3 v5 (0 : Int32) M h
set_option maxRecDepth 4096 in
theorem lk_Model_isWrongFrame_j104 {γ : Gm} (hγ : Gk γ) (this : Nat) (Q : Int32 → Mem → Prop) (k72 : Int32 → Int32 → Int32 → Int32 → Int32 → Mem → Prop) (hk72 : ∀ (v1 : Int32) (v2 : Int32) (v3 : Int32) (v4 : Int32) (v5 : Int32) (M : Mem), k72 v1 v2 v3 v4 v5 M → E γ k_Model_isWrongFrame 1 72 [some (vr (some (11, this))), some (vi v1), some (vi v2), some (vi v3), some (vi v4), some (vi v5), none] [] M (Qi Q)) (v1 : Int32) (v2 : Int32) (v3 : Int32) (v5 : Int32) (v6 : Int32) (M : Mem) (h : w_Model_isWrongFrame_j104 this Q k72 v1 v2 v3 v5 v6 M) : E γ k_Model_isWrongFrame 1 104 [some (vr (some (11, this))), some (vi v1), some (vi v2), some (vi v3), none, some (vi v5), some (vi v6)] [] M (Qi Q) := by
  unfold w_Model_isWrongFrame_j104 at h
  refine E_blk (lv' := [some (vr (some (11, this))), some (vi v1), some (vi v2), some (vi v3), none, some (vi v5), some (vi v6)]) (st' := [vi (5 : Int32), vi v6]) (M1 := M) (pc' := 107) (tb_Model hγ) [.iload 6, .iconst 5] (by decide +kernel) rfl rfl trivial ?_
  refine E_icmp_ne (off := 26) (tgt := 133) (by decide +kernel) (by decide) (fun b17 => ?_) (fun b17 => ?_)
  · rw [if_pos b17] at h
    refine E_blk (lv' := [some (vr (some (11, this))), some (vi v1), some (vi v2), some (vi v3), none, some (vi v5), some (vi v6)]) (st' := [vr (mR M 11 this 45)]) (M1 := M) (pc' := 114) (tb_Model hγ) [.aload_n 0, .getfield 522] (by decide +kernel) rfl rfl trivial ?_
    obtain ⟨i18, ei18, h⟩ := h
    rw [ei18]
    obtain ⟨c19, h⟩ := h
    refine E_blk (lv' := [some (vr (some (11, this))), some (vi v1), some (vi v2), some (vi v3), none, some (vi v5), some (vi v6)]) (st' := [vi (mI M 11 this 6), vi (mI M 144 i18 (mI M 11 this 75).toNatClampNeg)]) (M1 := M) (pc' := 126) (tb_Model hγ) [.getfield 447, .aload_n 0, .getfield 768, .iaload, .aload_n 0, .getfield 121] (by decide +kernel) rfl rfl ⟨c19, trivial⟩ ?_
    refine E_icmp_eq (off := 7) (tgt := 133) (by decide +kernel) (by decide) (fun b20 => ?_) (fun b20 => ?_)
    · rw [if_pos b20] at h
      refine E_mask [true, true, true, true, false, true, false] rfl ?_
      exact lk_Model_isWrongFrame_j133 hγ this Q k72 hk72 v1 v2 v3 v5 M h
    · rw [if_neg b20] at h
      refine E_mask [true, true, true, true, false, true, false] rfl ?_
      exact lk_Model_isWrongFrame_j129 hγ this Q k72 hk72 v1 v2 v3 v5 M h
  · rw [if_neg b17] at h
    refine E_mask [true, true, true, true, false, true, false] rfl ?_
    exact lk_Model_isWrongFrame_j133 hγ this Q k72 hk72 v1 v2 v3 v5 M h
set_option maxRecDepth 4096 in
theorem lk_Model_isWrongFrame_L72 {γ : Gm} (hγ : Gk γ) (this : Nat) (Q : Int32 → Mem → Prop) : ∀ (n : Nat) (v1 : Int32) (v2 : Int32) (v3 : Int32) (v4 : Int32) (v5 : Int32) (M : Mem), w_Model_isWrongFrame_L72 this Q n v1 v2 v3 v4 v5 M → E γ k_Model_isWrongFrame 1 72 [some (vr (some (11, this))), some (vi v1), some (vi v2), some (vi v3), some (vi v4), some (vi v5), none] [] M (Qi Q) := by
  intro n
  induction n with
  | zero => intro v1 v2 v3 v4 v5 M h; exact h.elim
  | succ n ih =>
    intro v1 v2 v3 v4 v5 M h
    unfold w_Model_isWrongFrame_L72 at h
    refine E_blk (lv' := [some (vr (some (11, this))), some (vi v1), some (vi v2), some (vi v3), some (vi v4), some (vi v5), none]) (st' := [vi v3, vi v5]) (M1 := M) (pc' := 75) (tb_Model hγ) [.iload 5, .iload_n 3] (by decide +kernel) rfl rfl trivial ?_
    refine E_icmp_ge (off := 67) (tgt := 142) (by decide +kernel) (by decide) (fun b11 => ?_) (fun b11 => ?_)
    · rw [if_pos b11] at h
      refine E_blk (lv' := [some (vr (some (11, this))), some (vi v1), some (vi v2), some (vi v3), some (vi v4), some (vi v5), none]) (st' := [vi v4]) (M1 := M) (pc' := 144) (tb_Model hγ) [.iload 4] (by decide +kernel) rfl rfl trivial ?_
      exact E_zret rfl h.1 (by decide +kernel) h.2
    · rw [if_neg b11] at h
      refine E_blk (lv' := [some (vr (some (11, this))), some (vi v1), some (vi v2), some (vi v3), some (vi v4), some (vi v5), none]) (st' := [vi v4]) (M1 := M) (pc' := 80) (tb_Model hγ) [.iload 4] (by decide +kernel) rfl rfl trivial ?_
      refine E_if_ne (off := 62) (tgt := 142) (by decide +kernel) (by decide) (fun b12 => ?_) (fun b12 => ?_)
      · rw [if_pos b12] at h
        refine E_blk (lv' := [some (vr (some (11, this))), some (vi v1), some (vi v2), some (vi v3), some (vi v4), some (vi v5), none]) (st' := [vi v5, vi v1, vr (some (11, this))]) (M1 := M) (pc' := 87) (tb_Model hγ) [.aload_n 0, .iload_n 1, .iload 5] (by decide +kernel) rfl rfl trivial ?_
        refine E_callV (κ' := k_Model_frameKind) (As := [vi v1, vi v5]) (st := []) mv_Model_frameKind (Or.inl (tbk_mem (j := 15) (k := 185) rfl)) rfl (by decide +kernel) (Nat.le_of_ble_eq_true rfl) (Nat.le_of_ble_eq_true rfl) rfl (by decide) (lk_Model_frameKind hγ this v1 v5 _ M h) (fun _ _ => Qi_r) (fun v M13 hp => Qi_k (R := fun st => E γ k_Model_isWrongFrame 1 90 [some (vr (some (11, this))), some (vi v1), some (vi v2), some (vi v3), some (vi v4), some (vi v5), none] st M13 (Qi Q)) hp (fun r14 h => ?_))
        refine E_blk (lv' := [some (vr (some (11, this))), some (vi v1), some (vi v2), some (vi v3), some (vi v4), some (vi v5), some (vi r14)]) (st' := [vi (4 : Int32), vi r14]) (M1 := M13) (pc' := 95) (tb_Model hγ) [.istore 6, .iload 6, .iconst 4] (by decide +kernel) rfl rfl trivial ?_
        refine E_icmp_ne (off := 9) (tgt := 104) (by decide +kernel) (by decide) (fun b15 => ?_) (fun b15 => ?_)
        · rw [if_pos b15] at h
          refine E_blk (lv' := [some (vr (some (11, this))), some (vi v1), some (vi v2), some (vi v3), some (vi v4), some (vi v5), some (vi r14)]) (st' := [vi v2, vi v5]) (M1 := M13) (pc' := 101) (tb_Model hγ) [.iload 5, .iload_n 2] (by decide +kernel) rfl rfl trivial ?_
          refine E_icmp_ge (off := 28) (tgt := 129) (by decide +kernel) (by decide) (fun b16 => ?_) (fun b16 => ?_)
          · rw [if_pos b16] at h
            refine E_mask [true, true, true, true, false, true, false] rfl ?_
            exact lk_Model_isWrongFrame_j129 hγ this Q (w_Model_isWrongFrame_L72 this Q n) ih v1 v2 v3 v5 M13 h
          · rw [if_neg b16] at h
            refine E_mask [true, true, true, true, false, true, true] rfl ?_
            exact lk_Model_isWrongFrame_j104 hγ this Q (w_Model_isWrongFrame_L72 this Q n) ih v1 v2 v3 v5 r14 M13 h
        · rw [if_neg b15] at h
          refine E_mask [true, true, true, true, false, true, true] rfl ?_
          exact lk_Model_isWrongFrame_j104 hγ this Q (w_Model_isWrongFrame_L72 this Q n) ih v1 v2 v3 v5 r14 M13 h
      · rw [if_neg b12] at h
        refine E_blk (lv' := [some (vr (some (11, this))), some (vi v1), some (vi v2), some (vi v3), some (vi v4), some (vi v5), none]) (st' := [vi v4]) (M1 := M) (pc' := 144) (tb_Model hγ) [.iload 4] (by decide +kernel) rfl rfl trivial ?_
        exact E_zret rfl h.1 (by decide +kernel) h.2
set_option maxRecDepth 4096 in
theorem lk_Model_isWrongFrame_j67 {γ : Gm} (hγ : Gk γ) (this : Nat) (Q : Int32 → Mem → Prop) (v1 : Int32) (v2 : Int32) (v3 : Int32) (s0 : Int32) (M : Mem) (h : w_Model_isWrongFrame_j67 this Q v1 v2 v3 s0 M) : E γ k_Model_isWrongFrame 1 67 [some (vr (some (11, this))), some (vi v1), some (vi v2), some (vi v3), none, none, none] [vi s0] M (Qi Q) := by
  unfold w_Model_isWrongFrame_j67 at h
  refine E_blk (lv' := [some (vr (some (11, this))), some (vi v1), some (vi v2), some (vi v3), some (vi s0), some (vi (0 : Int32)), none]) (st' := []) (M1 := M) (pc' := 72) (tb_Model hγ) [.istore 4, .iconst 0, .istore 5] (by decide +kernel) rfl rfl trivial ?_
  obtain ⟨n21, h⟩ := h
  refine E_mask [true, true, true, true, true, true, false] rfl ?_
  exact lk_Model_isWrongFrame_L72 hγ this Q n21 v1 v2 v3 s0 (0 : Int32) M h
set_option maxRecDepth 4096 in
theorem lk_Model_isWrongFrame_j62 {γ : Gm} (hγ : Gk γ) (this : Nat) (Q : Int32 → Mem → Prop) (v1 : Int32) (v2 : Int32) (v3 : Int32) (M : Mem) (h : w_Model_isWrongFrame_j62 this Q v1 v2 v3 M) : E γ k_Model_isWrongFrame 1 62 [some (vr (some (11, this))), some (vi v1), some (vi v2), some (vi v3), none, none, none] [] M (Qi Q) := by
  unfold w_Model_isWrongFrame_j62 at h
  refine E_blk (lv' := [some (vr (some (11, this))), some (vi v1), some (vi v2), some (vi v3), none, none, none]) (st' := [vi (1 : Int32)]) (M1 := M) (pc' := 63) (tb_Model hγ) [.iconst 1] (by decide +kernel) rfl rfl trivial ?_
  refine E_goto (off := 4) (tgt := 67) (by decide +kernel) (by decide) ?_
  refine E_mask [true, true, true, true, false, false, false] rfl ?_
  exact lk_Model_isWrongFrame_j67 hγ this Q v1 v2 v3 (1 : Int32) M h
set_option maxRecDepth 4096 in
theorem lk_Model_isWrongFrame {γ : Gm} (hγ : Gk γ) (this : Nat) (a1 : Int32) (Q : Int32 → Mem → Prop) (M : Mem) (h : w_Model_isWrongFrame this a1 Q M) : E γ k_Model_isWrongFrame 1 0 [some (vr (some (11, this))), some (vi a1), none, none, none, none, none] [] M (Qi Q) := by
  unfold w_Model_isWrongFrame at h
  refine E_blk (lv' := [some (vr (some (11, this))), some (vi a1), none, none, none, none, none]) (st' := [vr (mR M 11 this 45)]) (M1 := M) (pc' := 4) (tb_Model hγ) [.aload_n 0, .getfield 522] (by decide +kernel) rfl rfl trivial ?_
  obtain ⟨i1, ei1, h⟩ := h
  rw [ei1]
  refine E_blk (lv' := [some (vr (some (11, this))), some (vi a1), none, none, none, none, none]) (st' := [vr (mR M 12 i1 38)]) (M1 := M) (pc' := 7) (tb_Model hγ) [.getfield 701] (by decide +kernel) rfl rfl trivial ?_
  obtain ⟨i2, ei2, h⟩ := h
  rw [ei2]
  obtain ⟨c3, h⟩ := h
  refine E_blk (lv' := [some (vr (some (11, this))), some (vi a1), some (vi (mI M 300 i2 a1.toNatClampNeg)), none, none, none, none]) (st' := [vr (mR M 11 this 45), vi (mI M 300 i2 a1.toNatClampNeg)]) (M1 := M) (pc' := 15) (tb_Model hγ) [.iload_n 1, .iaload, .istore_n 2, .iload_n 2, .aload_n 0, .getfield 522] (by decide +kernel) rfl rfl ⟨c3, trivial⟩ ?_
  obtain ⟨i4, ei4, h⟩ := h
  rw [ei4]
  refine E_blk (lv' := [some (vr (some (11, this))), some (vi a1), some (vi (mI M 300 i2 a1.toNatClampNeg)), none, none, none, none]) (st' := [vr (mR M 12 i4 39), vi (mI M 300 i2 a1.toNatClampNeg)]) (M1 := M) (pc' := 18) (tb_Model hγ) [.getfield 704] (by decide +kernel) rfl rfl trivial ?_
  obtain ⟨i5, ei5, h⟩ := h
  rw [ei5]
  obtain ⟨c6, h⟩ := h
  refine E_blk (lv' := [some (vr (some (11, this))), some (vi a1), some (vi (mI M 300 i2 a1.toNatClampNeg)), some (vi ((mI M 300 i2 a1.toNatClampNeg) + (mI M 300 i5 a1.toNatClampNeg))), none, none, none]) (st' := []) (M1 := M) (pc' := 22) (tb_Model hγ) [.iload_n 1, .iaload, .iadd, .istore_n 3] (by decide +kernel) rfl rfl ⟨c6, trivial⟩ ?_
  obtain ⟨x7, ex7, h⟩ := h
  rw [← ex7]
  refine E_blk (lv' := [some (vr (some (11, this))), some (vi a1), some (vi (mI M 300 i2 a1.toNatClampNeg)), some (vi x7), none, none, none]) (st' := [vr (mR M 11 this 45), vi (mI M 300 i2 a1.toNatClampNeg)]) (M1 := M) (pc' := 27) (tb_Model hγ) [.iload_n 2, .aload_n 0, .getfield 522] (by decide +kernel) rfl rfl trivial ?_
  obtain ⟨i8, ei8, h⟩ := h
  rw [ei8]
  obtain ⟨c9, h⟩ := h
  refine E_blk (lv' := [some (vr (some (11, this))), some (vi a1), some (vi (mI M 300 i2 a1.toNatClampNeg)), some (vi x7), none, none, none]) (st' := [vi (mI M 148 i8 (mI M 11 this 75).toNatClampNeg), vi (mI M 300 i2 a1.toNatClampNeg)]) (M1 := M) (pc' := 35) (tb_Model hγ) [.getfield 459, .aload_n 0, .getfield 768, .iaload] (by decide +kernel) rfl rfl ⟨c9, trivial⟩ ?_
  refine E_icmp_gt (off := 27) (tgt := 62) (by decide +kernel) (by decide) (fun b10 => ?_) (fun b10 => ?_)
  · rw [if_pos b10] at h
    refine E_mask [true, true, true, true, false, false, false] rfl ?_
    exact lk_Model_isWrongFrame_j62 hγ this Q a1 (mI M 300 i2 a1.toNatClampNeg) x7 M h
  · rw [if_neg b10] at h
    refine E_blk (lv' := [some (vr (some (11, this))), some (vi a1), some (vi (mI M 300 i2 a1.toNatClampNeg)), some (vi x7), none, none, none]) (st' := [vr (mR M 11 this 45)]) (M1 := M) (pc' := 42) (tb_Model hγ) [.aload_n 0, .getfield 522] (by decide +kernel) rfl rfl trivial ?_
    obtain ⟨i22, ei22, h⟩ := h
    rw [ei22]
    refine E_blk (lv' := [some (vr (some (11, this))), some (vi a1), some (vi (mI M 300 i2 a1.toNatClampNeg)), some (vi x7), none, none, none]) (st' := [vr (mR M 12 i22 39)]) (M1 := M) (pc' := 45) (tb_Model hγ) [.getfield 704] (by decide +kernel) rfl rfl trivial ?_
    obtain ⟨i23, ei23, h⟩ := h
    rw [ei23]
    obtain ⟨c24, h⟩ := h
    refine E_blk (lv' := [some (vr (some (11, this))), some (vi a1), some (vi (mI M 300 i2 a1.toNatClampNeg)), some (vi x7), none, none, none]) (st' := [vr (mR M 11 this 45), vi (mI M 300 i23 a1.toNatClampNeg)]) (M1 := M) (pc' := 51) (tb_Model hγ) [.iload_n 1, .iaload, .aload_n 0, .getfield 522] (by decide +kernel) rfl rfl ⟨c24, trivial⟩ ?_
    obtain ⟨i25, ei25, h⟩ := h
    rw [ei25]
    obtain ⟨c26, h⟩ := h
    refine E_blk (lv' := [some (vr (some (11, this))), some (vi a1), some (vi (mI M 300 i2 a1.toNatClampNeg)), some (vi x7), none, none, none]) (st' := [vi (mI M 147 i25 (mI M 11 this 75).toNatClampNeg), vi (mI M 300 i23 a1.toNatClampNeg)]) (M1 := M) (pc' := 59) (tb_Model hγ) [.getfield 456, .aload_n 0, .getfield 768, .iaload] (by decide +kernel) rfl rfl ⟨c26, trivial⟩ ?_
    refine E_icmp_le (off := 7) (tgt := 66) (by decide +kernel) (by decide) (fun b27 => ?_) (fun b27 => ?_)
    · rw [if_pos b27] at h
      refine E_blk (lv' := [some (vr (some (11, this))), some (vi a1), some (vi (mI M 300 i2 a1.toNatClampNeg)), some (vi x7), none, none, none]) (st' := [vi (0 : Int32)]) (M1 := M) (pc' := 67) (tb_Model hγ) [.iconst 0] (by decide +kernel) rfl rfl trivial ?_
      refine E_mask [true, true, true, true, false, false, false] rfl ?_
      exact lk_Model_isWrongFrame_j67 hγ this Q a1 (mI M 300 i2 a1.toNatClampNeg) x7 (0 : Int32) M h
    · rw [if_neg b27] at h
      refine E_mask [true, true, true, true, false, false, false] rfl ?_
      exact lk_Model_isWrongFrame_j62 hγ this Q a1 (mI M 300 i2 a1.toNatClampNeg) x7 M h
def w_Model_fitClass_L45 (this : Nat) (Q : Int32 → Mem → Prop) : Nat → Int32 → Int32 → Int32 → Mem → Prop
  | 0, _, _, _, _ => False
  | n + 1, v2, v4, v5, M => if (51 : Int32) < v5 then (Q (37 : Int32) M) else (if v4 = v2 then (Q (0 : Int32) M) else (w_Model_classOf this v4 (fun r11 M10 => if 0 < r11 then (w_Model_parentName this r11 (fun r14 M13 => (w_Model_fitClass_L45 this Q n) v2 r14 (v5 + (1 : Int32)) M13) M10) else (if 0 ≤ r11 then (Q (37 : Int32) M10) else (Q (43 : Int32) M10))) M))
def w_Model_fitClass (this : Nat) (a1 : Int32) (a2 : Int32) (Q : Int32 → Mem → Prop) (M : Mem) : Prop :=
  if a2 = (mI M 11 this 8) then (Q (0 : Int32) M) else (w_Model_classOf this a2 (fun r3 M2 => if 0 ≤ r3 then (∃ i5, (mR M2 11 this 45) = some (12, i5) ∧ vp_in r3 (mL M2 132 i5) ∧ if ((mI M2 132 i5 r3.toNatClampNeg) &&& (4 : Int32)) = 0 then (∃ n16 : Nat, w_Model_fitClass_L45 this Q n16 a2 a1 (0 : Int32) M2) else (Q (0 : Int32) M2)) else (Q (43 : Int32) M2)) M)
set_option maxRecDepth 4096 in
theorem lk_Model_fitClass_L45 {γ : Gm} (hγ : Gk γ) (this : Nat) (Q : Int32 → Mem → Prop) : ∀ (n : Nat) (v2 : Int32) (v4 : Int32) (v5 : Int32) (M : Mem), w_Model_fitClass_L45 this Q n v2 v4 v5 M → E γ k_Model_fitClass 1 45 [some (vr (some (11, this))), none, some (vi v2), none, some (vi v4), some (vi v5), none] [] M (Qi Q) := by
  intro n
  induction n with
  | zero => intro v2 v4 v5 M h; exact h.elim
  | succ n ih =>
    intro v2 v4 v5 M h
    unfold w_Model_fitClass_L45 at h
    refine E_blk (lv' := [some (vr (some (11, this))), none, some (vi v2), none, some (vi v4), some (vi v5), none]) (st' := [vi (51 : Int32), vi v5]) (M1 := M) (pc' := 49) (tb_Model hγ) [.iload 5, .bipush 51] (by decide +kernel) rfl rfl trivial ?_
    refine E_icmp_gt (off := 51) (tgt := 100) (by decide +kernel) (by decide) (fun b8 => ?_) (fun b8 => ?_)
    · rw [if_pos b8] at h
      refine E_blk (lv' := [some (vr (some (11, this))), none, some (vi v2), none, some (vi v4), some (vi v5), none]) (st' := [vi (37 : Int32)]) (M1 := M) (pc' := 102) (tb_Model hγ) [.bipush 37] (by decide +kernel) rfl rfl trivial ?_
      exact E_iret rfl (by decide +kernel) h
    · rw [if_neg b8] at h
      refine E_blk (lv' := [some (vr (some (11, this))), none, some (vi v2), none, some (vi v4), some (vi v5), none]) (st' := [vi v2, vi v4]) (M1 := M) (pc' := 55) (tb_Model hγ) [.iload 4, .iload_n 2] (by decide +kernel) rfl rfl trivial ?_
      refine E_icmp_ne (off := 5) (tgt := 60) (by decide +kernel) (by decide) (fun b9 => ?_) (fun b9 => ?_)
      · rw [if_pos b9] at h
        refine E_blk (lv' := [some (vr (some (11, this))), none, some (vi v2), none, some (vi v4), some (vi v5), none]) (st' := [vi (0 : Int32)]) (M1 := M) (pc' := 59) (tb_Model hγ) [.iconst 0] (by decide +kernel) rfl rfl trivial ?_
        exact E_iret rfl (by decide +kernel) h
      · rw [if_neg b9] at h
        refine E_blk (lv' := [some (vr (some (11, this))), none, some (vi v2), none, some (vi v4), some (vi v5), none]) (st' := [vi v4, vr (some (11, this))]) (M1 := M) (pc' := 63) (tb_Model hγ) [.aload_n 0, .iload 4] (by decide +kernel) rfl rfl trivial ?_
        refine E_callV (κ' := k_Model_classOf) (As := [vi v4]) (st := []) mv_Model_classOf (Or.inl (tbk_mem (j := 15) (k := 39) rfl)) rfl (by decide +kernel) (Nat.le_of_ble_eq_true rfl) (Nat.le_of_ble_eq_true rfl) rfl (by decide) (lk_Model_classOf hγ this v4 _ M h) (fun _ _ => Qi_r) (fun v M10 hp => Qi_k (R := fun st => E γ k_Model_fitClass 1 66 [some (vr (some (11, this))), none, some (vi v2), none, some (vi v4), some (vi v5), none] st M10 (Qi Q)) hp (fun r11 h => ?_))
        refine E_blk (lv' := [some (vr (some (11, this))), none, some (vi v2), none, some (vi v4), some (vi v5), some (vi r11)]) (st' := [vi r11]) (M1 := M10) (pc' := 70) (tb_Model hγ) [.istore 6, .iload 6] (by decide +kernel) rfl rfl trivial ?_
        refine E_if_gt (off := 16) (tgt := 86) (by decide +kernel) (by decide) (fun b12 => ?_) (fun b12 => ?_)
        · rw [if_pos b12] at h
          refine E_blk (lv' := [some (vr (some (11, this))), none, some (vi v2), none, some (vi v4), some (vi v5), some (vi r11)]) (st' := [vi r11, vr (some (11, this))]) (M1 := M10) (pc' := 89) (tb_Model hγ) [.aload_n 0, .iload 6] (by decide +kernel) rfl rfl trivial ?_
          refine E_callV (κ' := k_Model_parentName) (As := [vi r11]) (st := []) mv_Model_parentName (Or.inl (tbk_mem (j := 15) (k := 205) rfl)) rfl (by decide +kernel) (Nat.le_of_ble_eq_true rfl) (Nat.le_of_ble_eq_true rfl) rfl (by decide) (lk_Model_parentName hγ this r11 _ M10 h) (fun _ _ => Qi_r) (fun v M13 hp => Qi_k (R := fun st => E γ k_Model_fitClass 1 92 [some (vr (some (11, this))), none, some (vi v2), none, some (vi v4), some (vi v5), some (vi r11)] st M13 (Qi Q)) hp (fun r14 h => ?_))
          refine E_blk (lv' := [some (vr (some (11, this))), none, some (vi v2), none, some (vi r14), some (vi (v5 + (1 : Int32))), some (vi r11)]) (st' := []) (M1 := M13) (pc' := 97) (tb_Model hγ) [.istore 4, .iinc 5 1] (by decide +kernel) rfl rfl trivial ?_
          refine E_goto (off := -52) (tgt := 45) (by decide +kernel) (by decide) ?_
          refine E_mask [true, false, true, false, true, true, false] rfl ?_
          exact ih v2 r14 (v5 + (1 : Int32)) M13 h
        · rw [if_neg b12] at h
          refine E_blk (lv' := [some (vr (some (11, this))), none, some (vi v2), none, some (vi v4), some (vi v5), some (vi r11)]) (st' := [vi r11]) (M1 := M10) (pc' := 75) (tb_Model hγ) [.iload 6] (by decide +kernel) rfl rfl trivial ?_
          refine E_if_ge (off := 8) (tgt := 83) (by decide +kernel) (by decide) (fun b15 => ?_) (fun b15 => ?_)
          · rw [if_pos b15] at h
            refine E_blk (lv' := [some (vr (some (11, this))), none, some (vi v2), none, some (vi v4), some (vi v5), some (vi r11)]) (st' := [vi (37 : Int32)]) (M1 := M10) (pc' := 85) (tb_Model hγ) [.bipush 37] (by decide +kernel) rfl rfl trivial ?_
            exact E_iret rfl (by decide +kernel) h
          · rw [if_neg b15] at h
            refine E_blk (lv' := [some (vr (some (11, this))), none, some (vi v2), none, some (vi v4), some (vi v5), some (vi r11)]) (st' := [vi (43 : Int32)]) (M1 := M10) (pc' := 80) (tb_Model hγ) [.bipush 43] (by decide +kernel) rfl rfl trivial ?_
            refine E_goto (off := 5) (tgt := 85) (by decide +kernel) (by decide) ?_
            exact E_iret rfl (by decide +kernel) h
set_option maxRecDepth 4096 in
theorem lk_Model_fitClass {γ : Gm} (hγ : Gk γ) (this : Nat) (a1 : Int32) (a2 : Int32) (Q : Int32 → Mem → Prop) (M : Mem) (h : w_Model_fitClass this a1 a2 Q M) : E γ k_Model_fitClass 1 0 [some (vr (some (11, this))), some (vi a1), some (vi a2), none, none, none, none] [] M (Qi Q) := by
  unfold w_Model_fitClass at h
  refine E_blk (lv' := [some (vr (some (11, this))), some (vi a1), some (vi a2), none, none, none, none]) (st' := [vi (mI M 11 this 8), vi a2]) (M1 := M) (pc' := 5) (tb_Model hγ) [.iload_n 2, .aload_n 0, .getfield 153] (by decide +kernel) rfl rfl trivial ?_
  refine E_icmp_ne (off := 5) (tgt := 10) (by decide +kernel) (by decide) (fun b1 => ?_) (fun b1 => ?_)
  · rw [if_pos b1] at h
    refine E_blk (lv' := [some (vr (some (11, this))), some (vi a1), some (vi a2), none, none, none, none]) (st' := [vi (0 : Int32)]) (M1 := M) (pc' := 9) (tb_Model hγ) [.iconst 0] (by decide +kernel) rfl rfl trivial ?_
    exact E_iret rfl (by decide +kernel) h
  · rw [if_neg b1] at h
    refine E_blk (lv' := [some (vr (some (11, this))), some (vi a1), some (vi a2), none, none, none, none]) (st' := [vi a2, vr (some (11, this))]) (M1 := M) (pc' := 12) (tb_Model hγ) [.aload_n 0, .iload_n 2] (by decide +kernel) rfl rfl trivial ?_
    refine E_callV (κ' := k_Model_classOf) (As := [vi a2]) (st := []) mv_Model_classOf (Or.inl (tbk_mem (j := 15) (k := 39) rfl)) rfl (by decide +kernel) (Nat.le_of_ble_eq_true rfl) (Nat.le_of_ble_eq_true rfl) rfl (by decide) (lk_Model_classOf hγ this a2 _ M h) (fun _ _ => Qi_r) (fun v M2 hp => Qi_k (R := fun st => E γ k_Model_fitClass 1 15 [some (vr (some (11, this))), some (vi a1), some (vi a2), none, none, none, none] st M2 (Qi Q)) hp (fun r3 h => ?_))
    refine E_blk (lv' := [some (vr (some (11, this))), some (vi a1), some (vi a2), some (vi r3), none, none, none]) (st' := [vi r3]) (M1 := M2) (pc' := 17) (tb_Model hγ) [.istore_n 3, .iload_n 3] (by decide +kernel) rfl rfl trivial ?_
    refine E_if_ge (off := 6) (tgt := 23) (by decide +kernel) (by decide) (fun b4 => ?_) (fun b4 => ?_)
    · rw [if_pos b4] at h
      refine E_blk (lv' := [some (vr (some (11, this))), some (vi a1), some (vi a2), some (vi r3), none, none, none]) (st' := [vr (mR M2 11 this 45)]) (M1 := M2) (pc' := 27) (tb_Model hγ) [.aload_n 0, .getfield 522] (by decide +kernel) rfl rfl trivial ?_
      obtain ⟨i5, ei5, h⟩ := h
      rw [ei5]
      obtain ⟨c6, h⟩ := h
      refine E_blk (lv' := [some (vr (some (11, this))), some (vi a1), some (vi a2), some (vi r3), none, none, none]) (st' := [vi ((mI M2 132 i5 r3.toNatClampNeg) &&& (4 : Int32))]) (M1 := M2) (pc' := 34) (tb_Model hγ) [.getfield 429, .iload_n 3, .iaload, .iconst 4, .iand] (by decide +kernel) rfl rfl ⟨c6, trivial⟩ ?_
      refine E_if_eq (off := 5) (tgt := 39) (by decide +kernel) (by decide) (fun b7 => ?_) (fun b7 => ?_)
      · rw [if_pos b7] at h
        refine E_blk (lv' := [some (vr (some (11, this))), some (vi a1), some (vi a2), some (vi r3), some (vi a1), some (vi (0 : Int32)), none]) (st' := []) (M1 := M2) (pc' := 45) (tb_Model hγ) [.iload_n 1, .istore 4, .iconst 0, .istore 5] (by decide +kernel) rfl rfl trivial ?_
        obtain ⟨n16, h⟩ := h
        refine E_mask [true, false, true, false, true, true, false] rfl ?_
        exact lk_Model_fitClass_L45 hγ this Q n16 a2 a1 (0 : Int32) M2 h
      · rw [if_neg b7] at h
        refine E_blk (lv' := [some (vr (some (11, this))), some (vi a1), some (vi a2), some (vi r3), none, none, none]) (st' := [vi (0 : Int32)]) (M1 := M2) (pc' := 38) (tb_Model hγ) [.iconst 0] (by decide +kernel) rfl rfl trivial ?_
        exact E_iret rfl (by decide +kernel) h
    · rw [if_neg b4] at h
      refine E_blk (lv' := [some (vr (some (11, this))), some (vi a1), some (vi a2), some (vi r3), none, none, none]) (st' := [vi (43 : Int32)]) (M1 := M2) (pc' := 22) (tb_Model hγ) [.bipush 43] (by decide +kernel) rfl rfl trivial ?_
      exact E_iret rfl (by decide +kernel) h
def w_Model_fit (this : Nat) (a1 : Int32) (a2 : Int32) (Q : Int32 → Mem → Prop) (M : Mem) : Prop :=
  if a2 = (4 : Int32) then (Q (0 : Int32) M) else (if a1 = a2 then (Q (0 : Int32) M) else (if a1 = (3 : Int32) then (if a2 = (2 : Int32) then (Q (0 : Int32) M) else (if a2 < (16 : Int32) then (Q (37 : Int32) M) else (Q (0 : Int32) M))) else (if a1 = (2 : Int32) then (if a2 = ((16 : Int32) + (mI M 11 this 8)) then (Q (0 : Int32) M) else (Q (37 : Int32) M)) else (if a1 < (16 : Int32) then (Q (37 : Int32) M) else (if a2 < (16 : Int32) then (Q (37 : Int32) M) else (w_Model_fitClass this (a1 - (16 : Int32)) (a2 - (16 : Int32)) (fun r11 M10 => Q r11 M10) M))))))
set_option maxRecDepth 4096 in
theorem lk_Model_fit {γ : Gm} (hγ : Gk γ) (this : Nat) (a1 : Int32) (a2 : Int32) (Q : Int32 → Mem → Prop) (M : Mem) (h : w_Model_fit this a1 a2 Q M) : E γ k_Model_fit 2 0 [some (vr (some (11, this))), some (vi a1), some (vi a2)] [] M (Qi Q) := by
  unfold w_Model_fit at h
  refine E_blk (lv' := [some (vr (some (11, this))), some (vi a1), some (vi a2)]) (st' := [vi (4 : Int32), vi a2]) (M1 := M) (pc' := 2) (tb_Model hγ) [.iload_n 2, .iconst 4] (by decide +kernel) rfl rfl trivial ?_
  refine E_icmp_eq (off := 8) (tgt := 10) (by decide +kernel) (by decide) (fun b1 => ?_) (fun b1 => ?_)
  · rw [if_pos b1] at h
    refine E_blk (lv' := [some (vr (some (11, this))), some (vi a1), some (vi a2)]) (st' := [vi (0 : Int32)]) (M1 := M) (pc' := 11) (tb_Model hγ) [.iconst 0] (by decide +kernel) rfl rfl trivial ?_
    exact E_iret rfl (by decide +kernel) h
  · rw [if_neg b1] at h
    refine E_blk (lv' := [some (vr (some (11, this))), some (vi a1), some (vi a2)]) (st' := [vi a2, vi a1]) (M1 := M) (pc' := 7) (tb_Model hγ) [.iload_n 1, .iload_n 2] (by decide +kernel) rfl rfl trivial ?_
    refine E_icmp_ne (off := 5) (tgt := 12) (by decide +kernel) (by decide) (fun b2 => ?_) (fun b2 => ?_)
    · rw [if_pos b2] at h
      refine E_blk (lv' := [some (vr (some (11, this))), some (vi a1), some (vi a2)]) (st' := [vi (0 : Int32)]) (M1 := M) (pc' := 11) (tb_Model hγ) [.iconst 0] (by decide +kernel) rfl rfl trivial ?_
      exact E_iret rfl (by decide +kernel) h
    · rw [if_neg b2] at h
      refine E_blk (lv' := [some (vr (some (11, this))), some (vi a1), some (vi a2)]) (st' := [vi (3 : Int32), vi a1]) (M1 := M) (pc' := 14) (tb_Model hγ) [.iload_n 1, .iconst 3] (by decide +kernel) rfl rfl trivial ?_
      refine E_icmp_ne (off := 21) (tgt := 35) (by decide +kernel) (by decide) (fun b3 => ?_) (fun b3 => ?_)
      · rw [if_pos b3] at h
        refine E_blk (lv' := [some (vr (some (11, this))), some (vi a1), some (vi a2)]) (st' := [vi (2 : Int32), vi a2]) (M1 := M) (pc' := 19) (tb_Model hγ) [.iload_n 2, .iconst 2] (by decide +kernel) rfl rfl trivial ?_
        refine E_icmp_eq (off := 9) (tgt := 28) (by decide +kernel) (by decide) (fun b4 => ?_) (fun b4 => ?_)
        · rw [if_pos b4] at h
          refine E_blk (lv' := [some (vr (some (11, this))), some (vi a1), some (vi a2)]) (st' := [vi (0 : Int32)]) (M1 := M) (pc' := 29) (tb_Model hγ) [.iconst 0] (by decide +kernel) rfl rfl trivial ?_
          refine E_goto (off := 5) (tgt := 34) (by decide +kernel) (by decide) ?_
          exact E_iret rfl (by decide +kernel) h
        · rw [if_neg b4] at h
          refine E_blk (lv' := [some (vr (some (11, this))), some (vi a1), some (vi a2)]) (st' := [vi (16 : Int32), vi a2]) (M1 := M) (pc' := 25) (tb_Model hγ) [.iload_n 2, .bipush 16] (by decide +kernel) rfl rfl trivial ?_
          refine E_icmp_lt (off := 7) (tgt := 32) (by decide +kernel) (by decide) (fun b5 => ?_) (fun b5 => ?_)
          · rw [if_pos b5] at h
            refine E_blk (lv' := [some (vr (some (11, this))), some (vi a1), some (vi a2)]) (st' := [vi (37 : Int32)]) (M1 := M) (pc' := 34) (tb_Model hγ) [.bipush 37] (by decide +kernel) rfl rfl trivial ?_
            exact E_iret rfl (by decide +kernel) h
          · rw [if_neg b5] at h
            refine E_blk (lv' := [some (vr (some (11, this))), some (vi a1), some (vi a2)]) (st' := [vi (0 : Int32)]) (M1 := M) (pc' := 29) (tb_Model hγ) [.iconst 0] (by decide +kernel) rfl rfl trivial ?_
            refine E_goto (off := 5) (tgt := 34) (by decide +kernel) (by decide) ?_
            exact E_iret rfl (by decide +kernel) h
      · rw [if_neg b3] at h
        refine E_blk (lv' := [some (vr (some (11, this))), some (vi a1), some (vi a2)]) (st' := [vi (2 : Int32), vi a1]) (M1 := M) (pc' := 37) (tb_Model hγ) [.iload_n 1, .iconst 2] (by decide +kernel) rfl rfl trivial ?_
        refine E_icmp_ne (off := 21) (tgt := 58) (by decide +kernel) (by decide) (fun b6 => ?_) (fun b6 => ?_)
        · rw [if_pos b6] at h
          refine E_blk (lv' := [some (vr (some (11, this))), some (vi a1), some (vi a2)]) (st' := [vi ((16 : Int32) + (mI M 11 this 8)), vi a2]) (M1 := M) (pc' := 48) (tb_Model hγ) [.iload_n 2, .bipush 16, .aload_n 0, .getfield 153, .iadd] (by decide +kernel) rfl rfl trivial ?_
          refine E_icmp_ne (off := 7) (tgt := 55) (by decide +kernel) (by decide) (fun b7 => ?_) (fun b7 => ?_)
          · rw [if_pos b7] at h
            refine E_blk (lv' := [some (vr (some (11, this))), some (vi a1), some (vi a2)]) (st' := [vi (0 : Int32)]) (M1 := M) (pc' := 52) (tb_Model hγ) [.iconst 0] (by decide +kernel) rfl rfl trivial ?_
            refine E_goto (off := 5) (tgt := 57) (by decide +kernel) (by decide) ?_
            exact E_iret rfl (by decide +kernel) h
          · rw [if_neg b7] at h
            refine E_blk (lv' := [some (vr (some (11, this))), some (vi a1), some (vi a2)]) (st' := [vi (37 : Int32)]) (M1 := M) (pc' := 57) (tb_Model hγ) [.bipush 37] (by decide +kernel) rfl rfl trivial ?_
            exact E_iret rfl (by decide +kernel) h
        · rw [if_neg b6] at h
          refine E_blk (lv' := [some (vr (some (11, this))), some (vi a1), some (vi a2)]) (st' := [vi (16 : Int32), vi a1]) (M1 := M) (pc' := 61) (tb_Model hγ) [.iload_n 1, .bipush 16] (by decide +kernel) rfl rfl trivial ?_
          refine E_icmp_lt (off := 24) (tgt := 85) (by decide +kernel) (by decide) (fun b8 => ?_) (fun b8 => ?_)
          · rw [if_pos b8] at h
            refine E_blk (lv' := [some (vr (some (11, this))), some (vi a1), some (vi a2)]) (st' := [vi (37 : Int32)]) (M1 := M) (pc' := 87) (tb_Model hγ) [.bipush 37] (by decide +kernel) rfl rfl trivial ?_
            exact E_iret rfl (by decide +kernel) h
          · rw [if_neg b8] at h
            refine E_blk (lv' := [some (vr (some (11, this))), some (vi a1), some (vi a2)]) (st' := [vi (16 : Int32), vi a2]) (M1 := M) (pc' := 67) (tb_Model hγ) [.iload_n 2, .bipush 16] (by decide +kernel) rfl rfl trivial ?_
            refine E_icmp_lt (off := 18) (tgt := 85) (by decide +kernel) (by decide) (fun b9 => ?_) (fun b9 => ?_)
            · rw [if_pos b9] at h
              refine E_blk (lv' := [some (vr (some (11, this))), some (vi a1), some (vi a2)]) (st' := [vi (37 : Int32)]) (M1 := M) (pc' := 87) (tb_Model hγ) [.bipush 37] (by decide +kernel) rfl rfl trivial ?_
              exact E_iret rfl (by decide +kernel) h
            · rw [if_neg b9] at h
              refine E_blk (lv' := [some (vr (some (11, this))), some (vi a1), some (vi a2)]) (st' := [vi (a2 - (16 : Int32)), vi (a1 - (16 : Int32)), vr (some (11, this))]) (M1 := M) (pc' := 79) (tb_Model hγ) [.aload_n 0, .iload_n 1, .bipush 16, .isub, .iload_n 2, .bipush 16, .isub] (by decide +kernel) rfl rfl trivial ?_
              refine E_callV (κ' := k_Model_fitClass) (As := [vi (a1 - (16 : Int32)), vi (a2 - (16 : Int32))]) (st := []) mv_Model_fitClass (Or.inl (tbk_mem (j := 15) (k := 201) rfl)) rfl (by decide +kernel) (Nat.le_of_ble_eq_true rfl) (Nat.le_of_ble_eq_true rfl) rfl (by decide) (lk_Model_fitClass hγ this (a1 - (16 : Int32)) (a2 - (16 : Int32)) _ M h) (fun _ _ => Qi_r) (fun v M10 hp => Qi_k (R := fun st => E γ k_Model_fit 2 82 [some (vr (some (11, this))), some (vi a1), some (vi a2)] st M10 (Qi Q)) hp (fun r11 h => ?_))
              refine E_goto (off := 5) (tgt := 87) (by decide +kernel) (by decide) ?_
              exact E_iret rfl (by decide +kernel) h
def w_Model_fitLocals_j48 (this : Nat) (Q : Int32 → Mem → Prop) (k2 : Int32 → Int32 → Mem → Prop) (v1 : Int32) (v2 : Int32) (s0 : Int32) (s1 : Int32) (M : Mem) : Prop :=
  w_Model_fit this s1 s0 (fun r10 M9 => if r10 ≤ 0 then (k2 v1 (v2 + (1 : Int32)) M9) else (Q r10 M9)) M
def w_Model_fitLocals_L2 (this : Nat) (Q : Int32 → Mem → Prop) : Nat → Int32 → Int32 → Mem → Prop
  | 0, _, _, _ => False
  | n + 1, v1, v2, M => ∃ i1, (mR M 11 this 45) = some (12, i1) ∧ vp_in (mI M 11 this 75) (mL M 148 i1) ∧ if (mI M 148 i1 (mI M 11 this 75).toNatClampNeg) ≤ v2 then (Q (0 : Int32) M) else (vp_in v2 (mL M 111 this) ∧ ∃ i5, (mR M 11 this 45) = some (12, i5) ∧ ∃ i6, (mR M 12 i5 38) = some (300, i6) ∧ vp_in v1 (mL M 300 i6) ∧ if (mI M 300 i6 v1.toNatClampNeg) ≤ v2 then (w_Model_fitLocals_j48 this Q (w_Model_fitLocals_L2 this Q n) v1 v2 (4 : Int32) (mI M 111 this v2.toNatClampNeg) M) else (w_Model_frameKind this v1 v2 (fun r13 M12 => w_Model_fitLocals_j48 this Q (w_Model_fitLocals_L2 this Q n) v1 v2 r13 (mI M 111 this v2.toNatClampNeg) M12) M))
def w_Model_fitLocals (this : Nat) (a1 : Int32) (Q : Int32 → Mem → Prop) (M : Mem) : Prop :=
  ∃ n14 : Nat, w_Model_fitLocals_L2 this Q n14 a1 (0 : Int32) M
set_option maxRecDepth 4096 in
theorem lk_Model_fitLocals_j48 {γ : Gm} (hγ : Gk γ) (this : Nat) (Q : Int32 → Mem → Prop) (k2 : Int32 → Int32 → Mem → Prop) (hk2 : ∀ (v1 : Int32) (v2 : Int32) (M : Mem), k2 v1 v2 M → E γ k_Model_fitLocals 3 2 [some (vr (some (11, this))), some (vi v1), some (vi v2), none] [] M (Qi Q)) (v1 : Int32) (v2 : Int32) (s0 : Int32) (s1 : Int32) (M : Mem) (h : w_Model_fitLocals_j48 this Q k2 v1 v2 s0 s1 M) : E γ k_Model_fitLocals 3 48 [some (vr (some (11, this))), some (vi v1), some (vi v2), none] [vi s0, vi s1, vr (some (11, this))] M (Qi Q) := by
  unfold w_Model_fitLocals_j48 at h
  refine E_callV (κ' := k_Model_fit) (As := [vi s1, vi s0]) (st := []) mv_Model_fit (Or.inl (tbk_mem (j := 15) (k := 197) rfl)) rfl (by decide +kernel) (Nat.le_of_ble_eq_true rfl) (Nat.le_of_ble_eq_true rfl) rfl (by decide) (lk_Model_fit hγ this s1 s0 _ M h) (fun _ _ => Qi_r) (fun v M9 hp => Qi_k (R := fun st => E γ k_Model_fitLocals 3 51 [some (vr (some (11, this))), some (vi v1), some (vi v2), none] st M9 (Qi Q)) hp (fun r10 h => ?_))
  refine E_blk (lv' := [some (vr (some (11, this))), some (vi v1), some (vi v2), some (vi r10)]) (st' := [vi r10]) (M1 := M9) (pc' := 53) (tb_Model hγ) [.istore_n 3, .iload_n 3] (by decide +kernel) rfl rfl trivial ?_
  refine E_if_le (off := 5) (tgt := 58) (by decide +kernel) (by decide) (fun b11 => ?_) (fun b11 => ?_)
  · rw [if_pos b11] at h
    refine E_blk (lv' := [some (vr (some (11, this))), some (vi v1), some (vi (v2 + (1 : Int32))), some (vi r10)]) (st' := []) (M1 := M9) (pc' := 61) (tb_Model hγ) [.iinc 2 1] (by decide +kernel) rfl rfl trivial ?_
    refine E_goto (off := -59) (tgt := 2) (by decide +kernel) (by decide) ?_
    refine E_mask [true, true, true, false] rfl ?_
    exact hk2 v1 (v2 + (1 : Int32)) M9 h
  · rw [if_neg b11] at h
    refine E_blk (lv' := [some (vr (some (11, this))), some (vi v1), some (vi v2), some (vi r10)]) (st' := [vi r10]) (M1 := M9) (pc' := 57) (tb_Model hγ) [.iload_n 3] (by decide +kernel) rfl rfl trivial ?_
    exact E_iret rfl (by decide +kernel) h
set_option maxRecDepth 4096 in
theorem lk_Model_fitLocals_L2 {γ : Gm} (hγ : Gk γ) (this : Nat) (Q : Int32 → Mem → Prop) : ∀ (n : Nat) (v1 : Int32) (v2 : Int32) (M : Mem), w_Model_fitLocals_L2 this Q n v1 v2 M → E γ k_Model_fitLocals 3 2 [some (vr (some (11, this))), some (vi v1), some (vi v2), none] [] M (Qi Q) := by
  intro n
  induction n with
  | zero => intro v1 v2 M h; exact h.elim
  | succ n ih =>
    intro v1 v2 M h
    unfold w_Model_fitLocals_L2 at h
    refine E_blk (lv' := [some (vr (some (11, this))), some (vi v1), some (vi v2), none]) (st' := [vr (mR M 11 this 45), vi v2]) (M1 := M) (pc' := 7) (tb_Model hγ) [.iload_n 2, .aload_n 0, .getfield 522] (by decide +kernel) rfl rfl trivial ?_
    obtain ⟨i1, ei1, h⟩ := h
    rw [ei1]
    obtain ⟨c2, h⟩ := h
    refine E_blk (lv' := [some (vr (some (11, this))), some (vi v1), some (vi v2), none]) (st' := [vi (mI M 148 i1 (mI M 11 this 75).toNatClampNeg), vi v2]) (M1 := M) (pc' := 15) (tb_Model hγ) [.getfield 459, .aload_n 0, .getfield 768, .iaload] (by decide +kernel) rfl rfl ⟨c2, trivial⟩ ?_
    refine E_icmp_ge (off := 49) (tgt := 64) (by decide +kernel) (by decide) (fun b3 => ?_) (fun b3 => ?_)
    · rw [if_pos b3] at h
      refine E_blk (lv' := [some (vr (some (11, this))), some (vi v1), some (vi v2), none]) (st' := [vi (0 : Int32)]) (M1 := M) (pc' := 65) (tb_Model hγ) [.iconst 0] (by decide +kernel) rfl rfl trivial ?_
      exact E_iret rfl (by decide +kernel) h
    · rw [if_neg b3] at h
      obtain ⟨c4, h⟩ := h
      refine E_blk (lv' := [some (vr (some (11, this))), some (vi v1), some (vi v2), none]) (st' := [vr (mR M 11 this 45), vi v2, vi (mI M 111 this v2.toNatClampNeg), vr (some (11, this))]) (M1 := M) (pc' := 30) (tb_Model hγ) [.aload_n 0, .aload_n 0, .getfield 305, .iload_n 2, .iaload, .iload_n 2, .aload_n 0, .getfield 522] (by decide +kernel) rfl rfl ⟨c4, trivial⟩ ?_
      obtain ⟨i5, ei5, h⟩ := h
      rw [ei5]
      refine E_blk (lv' := [some (vr (some (11, this))), some (vi v1), some (vi v2), none]) (st' := [vr (mR M 12 i5 38), vi v2, vi (mI M 111 this v2.toNatClampNeg), vr (some (11, this))]) (M1 := M) (pc' := 33) (tb_Model hγ) [.getfield 701] (by decide +kernel) rfl rfl trivial ?_
      obtain ⟨i6, ei6, h⟩ := h
      rw [ei6]
      obtain ⟨c7, h⟩ := h
      refine E_blk (lv' := [some (vr (some (11, this))), some (vi v1), some (vi v2), none]) (st' := [vi (mI M 300 i6 v1.toNatClampNeg), vi v2, vi (mI M 111 this v2.toNatClampNeg), vr (some (11, this))]) (M1 := M) (pc' := 35) (tb_Model hγ) [.iload_n 1, .iaload] (by decide +kernel) rfl rfl ⟨c7, trivial⟩ ?_
      refine E_icmp_ge (off := 12) (tgt := 47) (by decide +kernel) (by decide) (fun b8 => ?_) (fun b8 => ?_)
      · rw [if_pos b8] at h
        refine E_blk (lv' := [some (vr (some (11, this))), some (vi v1), some (vi v2), none]) (st' := [vi (4 : Int32), vi (mI M 111 this v2.toNatClampNeg), vr (some (11, this))]) (M1 := M) (pc' := 48) (tb_Model hγ) [.iconst 4] (by decide +kernel) rfl rfl trivial ?_
        refine E_mask [true, true, true, false] rfl ?_
        exact lk_Model_fitLocals_j48 hγ this Q (w_Model_fitLocals_L2 this Q n) ih v1 v2 (4 : Int32) (mI M 111 this v2.toNatClampNeg) M h
      · rw [if_neg b8] at h
        refine E_blk (lv' := [some (vr (some (11, this))), some (vi v1), some (vi v2), none]) (st' := [vi v2, vi v1, vr (some (11, this)), vi (mI M 111 this v2.toNatClampNeg), vr (some (11, this))]) (M1 := M) (pc' := 41) (tb_Model hγ) [.aload_n 0, .iload_n 1, .iload_n 2] (by decide +kernel) rfl rfl trivial ?_
        refine E_callV (κ' := k_Model_frameKind) (As := [vi v1, vi v2]) (st := [vi (mI M 111 this v2.toNatClampNeg), vr (some (11, this))]) mv_Model_frameKind (Or.inl (tbk_mem (j := 15) (k := 185) rfl)) rfl (by decide +kernel) (Nat.le_of_ble_eq_true rfl) (Nat.le_of_ble_eq_true rfl) rfl (by decide) (lk_Model_frameKind hγ this v1 v2 _ M h) (fun _ _ => Qi_r) (fun v M12 hp => Qi_k (R := fun st => E γ k_Model_fitLocals 3 44 [some (vr (some (11, this))), some (vi v1), some (vi v2), none] st M12 (Qi Q)) hp (fun r13 h => ?_))
        refine E_goto (off := 4) (tgt := 48) (by decide +kernel) (by decide) ?_
        refine E_mask [true, true, true, false] rfl ?_
        exact lk_Model_fitLocals_j48 hγ this Q (w_Model_fitLocals_L2 this Q n) ih v1 v2 r13 (mI M 111 this v2.toNatClampNeg) M12 h
set_option maxRecDepth 4096 in
theorem lk_Model_fitLocals {γ : Gm} (hγ : Gk γ) (this : Nat) (a1 : Int32) (Q : Int32 → Mem → Prop) (M : Mem) (h : w_Model_fitLocals this a1 Q M) : E γ k_Model_fitLocals 3 0 [some (vr (some (11, this))), some (vi a1), none, none] [] M (Qi Q) := by
  unfold w_Model_fitLocals at h
  refine E_blk (lv' := [some (vr (some (11, this))), some (vi a1), some (vi (0 : Int32)), none]) (st' := []) (M1 := M) (pc' := 2) (tb_Model hγ) [.iconst 0, .istore_n 2] (by decide +kernel) rfl rfl trivial ?_
  obtain ⟨n14, h⟩ := h
  refine E_mask [true, true, true, false] rfl ?_
  exact lk_Model_fitLocals_L2 hγ this Q n14 a1 (0 : Int32) M h
def w_Model_fitState_L33 (this : Nat) (Q : Int32 → Mem → Prop) : Nat → Int32 → Int32 → Int32 → Mem → Prop
  | 0, _, _, _, _ => False
  | n + 1, v1, v2, v3, M => if (mI M 11 this 72) ≤ v3 then (Q v2 M) else (if v2 = 0 then (vp_in v3 (mL M 212 0) ∧ ∃ i11, (mR M 11 this 45) = some (12, i11) ∧ ∃ i12, (mR M 12 i11 38) = some (300, i12) ∧ vp_in v1 (mL M 300 i12) ∧ w_Model_frameKind this v1 ((mI M 300 i12 v1.toNatClampNeg) + v3) (fun r15 M14 => w_Model_fit this (mI M 212 0 v3.toNatClampNeg) r15 (fun r17 M16 => (w_Model_fitState_L33 this Q n) v1 r17 (v3 + (1 : Int32)) M16) M14) M) else (Q v2 M))
def w_Model_fitState (this : Nat) (a1 : Int32) (Q : Int32 → Mem → Prop) (M : Mem) : Prop :=
  w_Model_fitLocals this a1 (fun r2 M1 => if r2 ≤ 0 then (∃ i4, (mR M1 11 this 45) = some (12, i4) ∧ ∃ i5, (mR M1 12 i4 39) = some (300, i5) ∧ vp_in a1 (mL M1 300 i5) ∧ if (mI M1 11 this 72) = (mI M1 300 i5 a1.toNatClampNeg) then (∃ n18 : Nat, w_Model_fitState_L33 this Q n18 a1 r2 (0 : Int32) M1) else (Q (37 : Int32) M1)) else (Q r2 M1)) M
set_option maxRecDepth 4096 in
theorem lk_Model_fitState_L33 {γ : Gm} (hγ : Gk γ) (this : Nat) (Q : Int32 → Mem → Prop) : ∀ (n : Nat) (v1 : Int32) (v2 : Int32) (v3 : Int32) (M : Mem), w_Model_fitState_L33 this Q n v1 v2 v3 M → E γ k_Model_fitState 4 33 [some (vr (some (11, this))), some (vi v1), some (vi v2), some (vi v3)] [] M (Qi Q) := by
  intro n
  induction n with
  | zero => intro v1 v2 v3 M h; exact h.elim
  | succ n ih =>
    intro v1 v2 v3 M h
    unfold w_Model_fitState_L33 at h
    refine E_blk (lv' := [some (vr (some (11, this))), some (vi v1), some (vi v2), some (vi v3)]) (st' := [vi (mI M 11 this 72), vi v3]) (M1 := M) (pc' := 38) (tb_Model hγ) [.iload_n 3, .aload_n 0, .getfield 780] (by decide +kernel) rfl rfl trivial ?_
    refine E_icmp_ge (off := 40) (tgt := 78) (by decide +kernel) (by decide) (fun b8 => ?_) (fun b8 => ?_)
    · rw [if_pos b8] at h
      refine E_blk (lv' := [some (vr (some (11, this))), some (vi v1), some (vi v2), some (vi v3)]) (st' := [vi v2]) (M1 := M) (pc' := 79) (tb_Model hγ) [.iload_n 2] (by decide +kernel) rfl rfl trivial ?_
      exact E_iret rfl (by decide +kernel) h
    · rw [if_neg b8] at h
      refine E_blk (lv' := [some (vr (some (11, this))), some (vi v1), some (vi v2), some (vi v3)]) (st' := [vi v2]) (M1 := M) (pc' := 42) (tb_Model hγ) [.iload_n 2] (by decide +kernel) rfl rfl trivial ?_
      refine E_if_ne (off := 36) (tgt := 78) (by decide +kernel) (by decide) (fun b9 => ?_) (fun b9 => ?_)
      · rw [if_pos b9] at h
        obtain ⟨c10, h⟩ := h
        refine E_blk (lv' := [some (vr (some (11, this))), some (vi v1), some (vi v2), some (vi v3)]) (st' := [vr (mR M 11 this 45), vi v1, vr (some (11, this)), vi (mI M 212 0 v3.toNatClampNeg), vr (some (11, this))]) (M1 := M) (pc' := 58) (tb_Model hγ) [.aload_n 0, .aload_n 0, .getfield 308, .iload_n 3, .iaload, .aload_n 0, .iload_n 1, .aload_n 0, .getfield 522] (by decide +kernel) rfl rfl ⟨c10, trivial⟩ ?_
        obtain ⟨i11, ei11, h⟩ := h
        rw [ei11]
        refine E_blk (lv' := [some (vr (some (11, this))), some (vi v1), some (vi v2), some (vi v3)]) (st' := [vr (mR M 12 i11 38), vi v1, vr (some (11, this)), vi (mI M 212 0 v3.toNatClampNeg), vr (some (11, this))]) (M1 := M) (pc' := 61) (tb_Model hγ) [.getfield 701] (by decide +kernel) rfl rfl trivial ?_
        obtain ⟨i12, ei12, h⟩ := h
        rw [ei12]
        obtain ⟨c13, h⟩ := h
        refine E_blk (lv' := [some (vr (some (11, this))), some (vi v1), some (vi v2), some (vi v3)]) (st' := [vi ((mI M 300 i12 v1.toNatClampNeg) + v3), vi v1, vr (some (11, this)), vi (mI M 212 0 v3.toNatClampNeg), vr (some (11, this))]) (M1 := M) (pc' := 65) (tb_Model hγ) [.iload_n 1, .iaload, .iload_n 3, .iadd] (by decide +kernel) rfl rfl ⟨c13, trivial⟩ ?_
        refine E_callV (κ' := k_Model_frameKind) (As := [vi v1, vi ((mI M 300 i12 v1.toNatClampNeg) + v3)]) (st := [vi (mI M 212 0 v3.toNatClampNeg), vr (some (11, this))]) mv_Model_frameKind (Or.inl (tbk_mem (j := 15) (k := 185) rfl)) rfl (by decide +kernel) (Nat.le_of_ble_eq_true rfl) (Nat.le_of_ble_eq_true rfl) rfl (by decide) (lk_Model_frameKind hγ this v1 ((mI M 300 i12 v1.toNatClampNeg) + v3) _ M h) (fun _ _ => Qi_r) (fun v M14 hp => Qi_k (R := fun st => E γ k_Model_fitState 4 68 [some (vr (some (11, this))), some (vi v1), some (vi v2), some (vi v3)] st M14 (Qi Q)) hp (fun r15 h => ?_))
        refine E_callV (κ' := k_Model_fit) (As := [vi (mI M 212 0 v3.toNatClampNeg), vi r15]) (st := []) mv_Model_fit (Or.inl (tbk_mem (j := 15) (k := 197) rfl)) rfl (by decide +kernel) (Nat.le_of_ble_eq_true rfl) (Nat.le_of_ble_eq_true rfl) rfl (by decide) (lk_Model_fit hγ this (mI M 212 0 v3.toNatClampNeg) r15 _ M14 h) (fun _ _ => Qi_r) (fun v M16 hp => Qi_k (R := fun st => E γ k_Model_fitState 4 71 [some (vr (some (11, this))), some (vi v1), some (vi v2), some (vi v3)] st M16 (Qi Q)) hp (fun r17 h => ?_))
        refine E_blk (lv' := [some (vr (some (11, this))), some (vi v1), some (vi r17), some (vi (v3 + (1 : Int32)))]) (st' := []) (M1 := M16) (pc' := 75) (tb_Model hγ) [.istore_n 2, .iinc 3 1] (by decide +kernel) rfl rfl trivial ?_
        refine E_goto (off := -42) (tgt := 33) (by decide +kernel) (by decide) ?_
        refine E_mask [true, true, true, true] rfl ?_
        exact ih v1 r17 (v3 + (1 : Int32)) M16 h
      · rw [if_neg b9] at h
        refine E_blk (lv' := [some (vr (some (11, this))), some (vi v1), some (vi v2), some (vi v3)]) (st' := [vi v2]) (M1 := M) (pc' := 79) (tb_Model hγ) [.iload_n 2] (by decide +kernel) rfl rfl trivial ?_
        exact E_iret rfl (by decide +kernel) h
set_option maxRecDepth 4096 in
theorem lk_Model_fitState {γ : Gm} (hγ : Gk γ) (this : Nat) (a1 : Int32) (Q : Int32 → Mem → Prop) (M : Mem) (h : w_Model_fitState this a1 Q M) : E γ k_Model_fitState 4 0 [some (vr (some (11, this))), some (vi a1), none, none] [] M (Qi Q) := by
  unfold w_Model_fitState at h
  refine E_blk (lv' := [some (vr (some (11, this))), some (vi a1), none, none]) (st' := [vi a1, vr (some (11, this))]) (M1 := M) (pc' := 2) (tb_Model hγ) [.aload_n 0, .iload_n 1] (by decide +kernel) rfl rfl trivial ?_
  refine E_callV (κ' := k_Model_fitLocals) (As := [vi a1]) (st := []) mv_Model_fitLocals (Or.inl (tbk_mem (j := 15) (k := 193) rfl)) rfl (by decide +kernel) (Nat.le_of_ble_eq_true rfl) (Nat.le_of_ble_eq_true rfl) rfl (by decide) (lk_Model_fitLocals hγ this a1 _ M h) (fun _ _ => Qi_r) (fun v M1 hp => Qi_k (R := fun st => E γ k_Model_fitState 4 5 [some (vr (some (11, this))), some (vi a1), none, none] st M1 (Qi Q)) hp (fun r2 h => ?_))
  refine E_blk (lv' := [some (vr (some (11, this))), some (vi a1), some (vi r2), none]) (st' := [vi r2]) (M1 := M1) (pc' := 7) (tb_Model hγ) [.istore_n 2, .iload_n 2] (by decide +kernel) rfl rfl trivial ?_
  refine E_if_le (off := 5) (tgt := 12) (by decide +kernel) (by decide) (fun b3 => ?_) (fun b3 => ?_)
  · rw [if_pos b3] at h
    refine E_blk (lv' := [some (vr (some (11, this))), some (vi a1), some (vi r2), none]) (st' := [vr (mR M1 11 this 45), vi (mI M1 11 this 72)]) (M1 := M1) (pc' := 20) (tb_Model hγ) [.aload_n 0, .getfield 780, .aload_n 0, .getfield 522] (by decide +kernel) rfl rfl trivial ?_
    obtain ⟨i4, ei4, h⟩ := h
    rw [ei4]
    refine E_blk (lv' := [some (vr (some (11, this))), some (vi a1), some (vi r2), none]) (st' := [vr (mR M1 12 i4 39), vi (mI M1 11 this 72)]) (M1 := M1) (pc' := 23) (tb_Model hγ) [.getfield 704] (by decide +kernel) rfl rfl trivial ?_
    obtain ⟨i5, ei5, h⟩ := h
    rw [ei5]
    obtain ⟨c6, h⟩ := h
    refine E_blk (lv' := [some (vr (some (11, this))), some (vi a1), some (vi r2), none]) (st' := [vi (mI M1 300 i5 a1.toNatClampNeg), vi (mI M1 11 this 72)]) (M1 := M1) (pc' := 25) (tb_Model hγ) [.iload_n 1, .iaload] (by decide +kernel) rfl rfl ⟨c6, trivial⟩ ?_
    refine E_icmp_eq (off := 6) (tgt := 31) (by decide +kernel) (by decide) (fun b7 => ?_) (fun b7 => ?_)
    · rw [if_pos b7] at h
      refine E_blk (lv' := [some (vr (some (11, this))), some (vi a1), some (vi r2), some (vi (0 : Int32))]) (st' := []) (M1 := M1) (pc' := 33) (tb_Model hγ) [.iconst 0, .istore_n 3] (by decide +kernel) rfl rfl trivial ?_
      obtain ⟨n18, h⟩ := h
      refine E_mask [true, true, true, true] rfl ?_
      exact lk_Model_fitState_L33 hγ this Q n18 a1 r2 (0 : Int32) M1 h
    · rw [if_neg b7] at h
      refine E_blk (lv' := [some (vr (some (11, this))), some (vi a1), some (vi r2), none]) (st' := [vi (37 : Int32)]) (M1 := M1) (pc' := 30) (tb_Model hγ) [.bipush 37] (by decide +kernel) rfl rfl trivial ?_
      exact E_iret rfl (by decide +kernel) h
  · rw [if_neg b3] at h
    refine E_blk (lv' := [some (vr (some (11, this))), some (vi a1), some (vi r2), none]) (st' := [vi r2]) (M1 := M1) (pc' := 11) (tb_Model hγ) [.iload_n 2] (by decide +kernel) rfl rfl trivial ?_
    exact E_iret rfl (by decide +kernel) h
def w_Model_record (this : Nat) (a1 : Int32) (Q : Mem → Prop) (M : Mem) : Prop :=
  vp_in a1 (mL M 519 this) ∧ vp_in a1 (mL (sI M 519 this a1.toNatClampNeg ((1 : Int32) &&& 1)) 114 this) ∧ ∃ M3, M3 = (sI (sI M 519 this a1.toNatClampNeg ((1 : Int32) &&& 1)) 114 this a1.toNatClampNeg (mI (sI M 519 this a1.toNatClampNeg ((1 : Int32) &&& 1)) 11 this 72)) ∧ ¬ (0 : Int32) < 0 ∧ ¬ ((20 : Int32) * a1) < 0 ∧ ¬ (mI M3 11 this 102) < 0 ∧ (0 : Int32).toNatClampNeg + (mI M3 11 this 102).toNatClampNeg ≤ mL M3 111 this ∧ ((20 : Int32) * a1).toNatClampNeg + (mI M3 11 this 102).toNatClampNeg ≤ mL M3 115 this ∧ ∃ M4, M4 = cpI M3 111 this (0 : Int32).toNatClampNeg 115 this ((20 : Int32) * a1).toNatClampNeg (mI M3 11 this 102).toNatClampNeg ∧ ¬ (0 : Int32) < 0 ∧ ¬ ((28 : Int32) * a1) < 0 ∧ ¬ (mI M4 11 this 72) < 0 ∧ (0 : Int32).toNatClampNeg + (mI M4 11 this 72).toNatClampNeg ≤ mL M4 212 0 ∧ ((28 : Int32) * a1).toNatClampNeg + (mI M4 11 this 72).toNatClampNeg ≤ mL M4 116 this ∧ ∃ M10, M10 = cpI M4 212 0 (0 : Int32).toNatClampNeg 116 this ((28 : Int32) * a1).toNatClampNeg (mI M4 11 this 72).toNatClampNeg ∧ Q M10
set_option maxRecDepth 4096 in
theorem lk_Model_record {γ : Gm} (hγ : Gk γ) (this : Nat) (a1 : Int32) (Q : Mem → Prop) (M : Mem) (h : w_Model_record this a1 Q M) : E γ k_Model_record 1 0 [some (vr (some (11, this))), some (vi a1)] [] M (Qv Q) := by
  unfold w_Model_record at h
  obtain ⟨c1, c2, h⟩ := h
  refine E_blk (lv' := [some (vr (some (11, this))), some (vi a1)]) (st' := []) (M1 := (sI (sI M 519 this a1.toNatClampNeg ((1 : Int32) &&& 1)) 114 this a1.toNatClampNeg (mI (sI M 519 this a1.toNatClampNeg ((1 : Int32) &&& 1)) 11 this 72))) (pc' := 17) (tb_Model hγ) [.aload_n 0, .getfield 329, .iload_n 1, .iconst 1, .bastore, .aload_n 0, .getfield 332, .iload_n 1, .aload_n 0, .getfield 780, .iastore] (by decide +kernel) rfl rfl ⟨c1, c2, trivial⟩ ?_
  obtain ⟨M3, eM3, h⟩ := h
  rw [← eM3]
  refine E_blk (lv' := [some (vr (some (11, this))), some (vi a1)]) (st' := [vi (mI M3 11 this 102), vi ((20 : Int32) * a1), vr (some (115, this)), vi (0 : Int32), vr (some (111, this))]) (M1 := M3) (pc' := 34) (tb_Model hγ) [.aload_n 0, .getfield 305, .iconst 0, .aload_n 0, .getfield 335, .bipush 20, .iload_n 1, .imul, .aload_n 0, .getfield 1254] (by decide +kernel) rfl rfl trivial ?_
  obtain ⟨c5, c6, c7, c8, c9, M4, eM4, h⟩ := h
  refine E_copy (pc := 34) (κ := k_Model_record) (f := 111) (i := this) (g := 115) (j := this) (sp := (0 : Int32)) (dp := ((20 : Int32) * a1)) (n := (mI M3 11 this 102)) (idx := 11) (st := []) c5 c6 c7 c8 c9 (by decide) (by decide) rfl (by decide) (tbk_mem (j := 11) (k := 65) rfl) (by decide +kernel) (Nat.le_of_ble_eq_true rfl) ?_
  rw [← eM4]
  refine E_blk (lv' := [some (vr (some (11, this))), some (vi a1)]) (st' := [vi (mI M4 11 this 72), vi ((28 : Int32) * a1), vr (some (116, this)), vi (0 : Int32), vr (some (212, 0))]) (M1 := M4) (pc' := 54) (tb_Model hγ) [.aload_n 0, .getfield 308, .iconst 0, .aload_n 0, .getfield 338, .bipush 28, .iload_n 1, .imul, .aload_n 0, .getfield 780] (by decide +kernel) rfl rfl trivial ?_
  obtain ⟨c11, c12, c13, c14, c15, M10, eM10, h⟩ := h
  refine E_copy (pc := 54) (κ := k_Model_record) (f := 212) (i := 0) (g := 116) (j := this) (sp := (0 : Int32)) (dp := ((28 : Int32) * a1)) (n := (mI M4 11 this 72)) (idx := 11) (st := []) c11 c12 c13 c14 c15 (by decide) (by decide) rfl (by decide) (tbk_mem (j := 11) (k := 65) rfl) (by decide +kernel) (Nat.le_of_ble_eq_true rfl) ?_
  rw [← eM10]
  exact E_vret rfl (by decide +kernel) h
def w_Model_askHandlers_j211 (this : Nat) (Q : Int32 → Mem → Prop) (k8 : Int32 → Int32 → Mem → Prop) (v1 : Int32) (v2 : Int32) (M : Mem) : Prop :=
  k8 v1 (v2 + (1 : Int32)) M
def w_Model_askHandlers_j203 (this : Nat) (Q : Int32 → Mem → Prop) (k8 : Int32 → Int32 → Mem → Prop) (v1 : Int32) (v2 : Int32) (v4 : Int32) (M : Mem) : Prop :=
  if v4 ≤ 0 then (w_Model_askHandlers_j211 this Q k8 v1 v2 M) else (Q v4 M)
def w_Model_askHandlers_j176 (this : Nat) (Q : Int32 → Mem → Prop) (k8 : Int32 → Int32 → Mem → Prop) (v1 : Int32) (v2 : Int32) (v3 : Int32) (s0 : Int32) (M : Mem) : Prop :=
  ∃ i34, (mR M 11 this 45) = some (12, i34) ∧ ∃ i35, (mR M 12 i34 38) = some (300, i35) ∧ vp_in v3 (mL M 300 i35) ∧ w_Model_frameKind this v3 (mI M 300 i35 v3.toNatClampNeg) (fun r38 M37 => w_Model_fit this ((16 : Int32) + s0) r38 (fun r40 M39 => w_Model_askHandlers_j203 this Q k8 v1 v2 r40 M39) M37) M
def w_Model_askHandlers_j139 (this : Nat) (Q : Int32 → Mem → Prop) (k8 : Int32 → Int32 → Mem → Prop) (v1 : Int32) (v2 : Int32) (v3 : Int32) (s0 : Int32) (M : Mem) : Prop :=
  if s0 = 0 then (∃ i29, (mR M 11 this 45) = some (12, i29) ∧ vp_in v2 (mL M 155 i29) ∧ if 0 ≤ (mI M 155 i29 v2.toNatClampNeg) then (∃ i32, (mR M 11 this 45) = some (12, i32) ∧ vp_in v2 (mL M 155 i32) ∧ w_Model_askHandlers_j176 this Q k8 v1 v2 v3 (mI M 155 i32 v2.toNatClampNeg) M) else (w_Model_askHandlers_j176 this Q k8 v1 v2 v3 ((mI M 11 this 8) + (1 : Int32)) M)) else (w_Model_askHandlers_j203 this Q k8 v1 v2 s0 M)
def w_Model_askHandlers_L8 (this : Nat) (Q : Int32 → Mem → Prop) : Nat → Int32 → Int32 → Mem → Prop
  | 0, _, _, _ => False
  | n + 1, v1, v2, M => ∃ i1, (mR M 11 this 45) = some (12, i1) ∧ vp_in (mI M 11 this 75) (mL M 151 i1) ∧ if (((8 : Int32) * (mI M 11 this 75)) + (mI M 151 i1 (mI M 11 this 75).toNatClampNeg)) ≤ v2 then (Q (0 : Int32) M) else (∃ i4, (mR M 11 this 45) = some (12, i4) ∧ vp_in v2 (mL M 152 i4) ∧ if v1 < (mI M 152 i4 v2.toNatClampNeg) then (w_Model_askHandlers_j211 this Q (w_Model_askHandlers_L8 this Q n) v1 v2 M) else (∃ i7, (mR M 11 this 45) = some (12, i7) ∧ vp_in v2 (mL M 153 i7) ∧ if v1 < (mI M 153 i7 v2.toNatClampNeg) then (∃ i10, (mR M 11 this 45) = some (12, i10) ∧ ∃ i11, (mR M 12 i10 34) = some (300, i11) ∧ ∃ i12, (mR M 11 this 45) = some (12, i12) ∧ vp_in (mI M 11 this 75) (mL M 149 i12) ∧ ∃ i14, (mR M 11 this 45) = some (12, i14) ∧ vp_in v2 (mL M 154 i14) ∧ vp_in ((mI M 149 i12 (mI M 11 this 75).toNatClampNeg) + (mI M 154 i14 v2.toNatClampNeg)) (mL M 300 i11) ∧ ∃ x17 : Int32, x17 = ((mI M 300 i11 ((mI M 149 i12 (mI M 11 this 75).toNatClampNeg) + (mI M 154 i14 v2.toNatClampNeg)).toNatClampNeg) - (1 : Int32)) ∧ if 0 ≤ x17 then (w_Model_isWrongFrame this x17 (fun r20 M19 => if r20 = 0 then (∃ i22, (mR M19 11 this 45) = some (12, i22) ∧ ∃ i23, (mR M19 12 i22 39) = some (300, i23) ∧ vp_in x17 (mL M19 300 i23) ∧ if (mI M19 300 i23 x17.toNatClampNeg) = (1 : Int32) then (w_Model_fitLocals this x17 (fun r27 M26 => w_Model_askHandlers_j139 this Q (w_Model_askHandlers_L8 this Q n) v1 v2 x17 r27 M26) M19) else (w_Model_askHandlers_j139 this Q (w_Model_askHandlers_L8 this Q n) v1 v2 x17 (37 : Int32) M19)) else (w_Model_askHandlers_j139 this Q (w_Model_askHandlers_L8 this Q n) v1 v2 x17 (38 : Int32) M19)) M) else (w_Model_askHandlers_j139 this Q (w_Model_askHandlers_L8 this Q n) v1 v2 x17 (36 : Int32) M)) else (w_Model_askHandlers_j211 this Q (w_Model_askHandlers_L8 this Q n) v1 v2 M)))
def w_Model_askHandlers (this : Nat) (a1 : Int32) (Q : Int32 → Mem → Prop) (M : Mem) : Prop :=
  ∃ n42 : Nat, w_Model_askHandlers_L8 this Q n42 a1 ((8 : Int32) * (mI M 11 this 75)) M
set_option maxRecDepth 4096 in
theorem lk_Model_askHandlers_j211 {γ : Gm} (hγ : Gk γ) (this : Nat) (Q : Int32 → Mem → Prop) (k8 : Int32 → Int32 → Mem → Prop) (hk8 : ∀ (v1 : Int32) (v2 : Int32) (M : Mem), k8 v1 v2 M → E γ k_Model_askHandlers 4 8 [some (vr (some (11, this))), some (vi v1), some (vi v2), none, none, none] [] M (Qi Q)) (v1 : Int32) (v2 : Int32) (M : Mem) (h : w_Model_askHandlers_j211 this Q k8 v1 v2 M) : E γ k_Model_askHandlers 4 211 [some (vr (some (11, this))), some (vi v1), some (vi v2), none, none, none] [] M (Qi Q) := by
  unfold w_Model_askHandlers_j211 at h
  refine E_blk (lv' := [some (vr (some (11, this))), some (vi v1), some (vi (v2 + (1 : Int32))), none, none, none]) (st' := []) (M1 := M) (pc' := 214) (tb_Model hγ) [.iinc 2 1] (by decide +kernel) rfl rfl trivial ?_
  refine E_goto (off := -206) (tgt := 8) (by decide +kernel) (by decide) ?_
  refine E_mask [true, true, true, false, false, false] rfl ?_
  exact hk8 v1 (v2 + (1 : Int32)) M h
set_option maxRecDepth 4096 in
theorem lk_Model_askHandlers_j203 {γ : Gm} (hγ : Gk γ) (this : Nat) (Q : Int32 → Mem → Prop) (k8 : Int32 → Int32 → Mem → Prop) (hk8 : ∀ (v1 : Int32) (v2 : Int32) (M : Mem), k8 v1 v2 M → E γ k_Model_askHandlers 4 8 [some (vr (some (11, this))), some (vi v1), some (vi v2), none, none, none] [] M (Qi Q)) (v1 : Int32) (v2 : Int32) (v4 : Int32) (M : Mem) (h : w_Model_askHandlers_j203 this Q k8 v1 v2 v4 M) : E γ k_Model_askHandlers 4 203 [some (vr (some (11, this))), some (vi v1), some (vi v2), none, some (vi v4), none] [] M (Qi Q) := by
  unfold w_Model_askHandlers_j203 at h
  refine E_blk (lv' := [some (vr (some (11, this))), some (vi v1), some (vi v2), none, some (vi v4), none]) (st' := [vi v4]) (M1 := M) (pc' := 205) (tb_Model hγ) [.iload 4] (by decide +kernel) rfl rfl trivial ?_
  refine E_if_le (off := 6) (tgt := 211) (by decide +kernel) (by decide) (fun b41 => ?_) (fun b41 => ?_)
  · rw [if_pos b41] at h
    refine E_mask [true, true, true, false, false, false] rfl ?_
    exact lk_Model_askHandlers_j211 hγ this Q k8 hk8 v1 v2 M h
  · rw [if_neg b41] at h
    refine E_blk (lv' := [some (vr (some (11, this))), some (vi v1), some (vi v2), none, some (vi v4), none]) (st' := [vi v4]) (M1 := M) (pc' := 210) (tb_Model hγ) [.iload 4] (by decide +kernel) rfl rfl trivial ?_
    exact E_iret rfl (by decide +kernel) h
set_option maxRecDepth 4096 in
theorem lk_Model_askHandlers_j176 {γ : Gm} (hγ : Gk γ) (this : Nat) (Q : Int32 → Mem → Prop) (k8 : Int32 → Int32 → Mem → Prop) (hk8 : ∀ (v1 : Int32) (v2 : Int32) (M : Mem), k8 v1 v2 M → E γ k_Model_askHandlers 4 8 [some (vr (some (11, this))), some (vi v1), some (vi v2), none, none, none] [] M (Qi Q)) (v1 : Int32) (v2 : Int32) (v3 : Int32) (s0 : Int32) (M : Mem) (h : w_Model_askHandlers_j176 this Q k8 v1 v2 v3 s0 M) : E γ k_Model_askHandlers 4 176 [some (vr (some (11, this))), some (vi v1), some (vi v2), some (vi v3), none, none] [vi s0] M (Qi Q) := by
  unfold w_Model_askHandlers_j176 at h
  refine E_blk (lv' := [some (vr (some (11, this))), some (vi v1), some (vi v2), some (vi v3), none, some (vi s0)]) (st' := [vr (mR M 11 this 45), vi v3, vr (some (11, this)), vi ((16 : Int32) + s0), vr (some (11, this))]) (M1 := M) (pc' := 190) (tb_Model hγ) [.istore 5, .aload_n 0, .bipush 16, .iload 5, .iadd, .aload_n 0, .iload_n 3, .aload_n 0, .getfield 522] (by decide +kernel) rfl rfl trivial ?_
  obtain ⟨i34, ei34, h⟩ := h
  rw [ei34]
  refine E_blk (lv' := [some (vr (some (11, this))), some (vi v1), some (vi v2), some (vi v3), none, some (vi s0)]) (st' := [vr (mR M 12 i34 38), vi v3, vr (some (11, this)), vi ((16 : Int32) + s0), vr (some (11, this))]) (M1 := M) (pc' := 193) (tb_Model hγ) [.getfield 701] (by decide +kernel) rfl rfl trivial ?_
  obtain ⟨i35, ei35, h⟩ := h
  rw [ei35]
  obtain ⟨c36, h⟩ := h
  refine E_blk (lv' := [some (vr (some (11, this))), some (vi v1), some (vi v2), some (vi v3), none, some (vi s0)]) (st' := [vi (mI M 300 i35 v3.toNatClampNeg), vi v3, vr (some (11, this)), vi ((16 : Int32) + s0), vr (some (11, this))]) (M1 := M) (pc' := 195) (tb_Model hγ) [.iload_n 3, .iaload] (by decide +kernel) rfl rfl ⟨c36, trivial⟩ ?_
  refine E_callV (κ' := k_Model_frameKind) (As := [vi v3, vi (mI M 300 i35 v3.toNatClampNeg)]) (st := [vi ((16 : Int32) + s0), vr (some (11, this))]) mv_Model_frameKind (Or.inl (tbk_mem (j := 15) (k := 185) rfl)) rfl (by decide +kernel) (Nat.le_of_ble_eq_true rfl) (Nat.le_of_ble_eq_true rfl) rfl (by decide) (lk_Model_frameKind hγ this v3 (mI M 300 i35 v3.toNatClampNeg) _ M h) (fun _ _ => Qi_r) (fun v M37 hp => Qi_k (R := fun st => E γ k_Model_askHandlers 4 198 [some (vr (some (11, this))), some (vi v1), some (vi v2), some (vi v3), none, some (vi s0)] st M37 (Qi Q)) hp (fun r38 h => ?_))
  refine E_callV (κ' := k_Model_fit) (As := [vi ((16 : Int32) + s0), vi r38]) (st := []) mv_Model_fit (Or.inl (tbk_mem (j := 15) (k := 197) rfl)) rfl (by decide +kernel) (Nat.le_of_ble_eq_true rfl) (Nat.le_of_ble_eq_true rfl) rfl (by decide) (lk_Model_fit hγ this ((16 : Int32) + s0) r38 _ M37 h) (fun _ _ => Qi_r) (fun v M39 hp => Qi_k (R := fun st => E γ k_Model_askHandlers 4 201 [some (vr (some (11, this))), some (vi v1), some (vi v2), some (vi v3), none, some (vi s0)] st M39 (Qi Q)) hp (fun r40 h => ?_))
  refine E_blk (lv' := [some (vr (some (11, this))), some (vi v1), some (vi v2), some (vi v3), some (vi r40), some (vi s0)]) (st' := []) (M1 := M39) (pc' := 203) (tb_Model hγ) [.istore 4] (by decide +kernel) rfl rfl trivial ?_
  refine E_mask [true, true, true, false, true, false] rfl ?_
  exact lk_Model_askHandlers_j203 hγ this Q k8 hk8 v1 v2 r40 M39 h
set_option maxRecDepth 4096 in
theorem lk_Model_askHandlers_j139 {γ : Gm} (hγ : Gk γ) (this : Nat) (Q : Int32 → Mem → Prop) (k8 : Int32 → Int32 → Mem → Prop) (hk8 : ∀ (v1 : Int32) (v2 : Int32) (M : Mem), k8 v1 v2 M → E γ k_Model_askHandlers 4 8 [some (vr (some (11, this))), some (vi v1), some (vi v2), none, none, none] [] M (Qi Q)) (v1 : Int32) (v2 : Int32) (v3 : Int32) (s0 : Int32) (M : Mem) (h : w_Model_askHandlers_j139 this Q k8 v1 v2 v3 s0 M) : E γ k_Model_askHandlers 4 139 [some (vr (some (11, this))), some (vi v1), some (vi v2), some (vi v3), none, none] [vi s0] M (Qi Q) := by
  unfold w_Model_askHandlers_j139 at h
  refine E_blk (lv' := [some (vr (some (11, this))), some (vi v1), some (vi v2), some (vi v3), some (vi s0), none]) (st' := [vi s0]) (M1 := M) (pc' := 143) (tb_Model hγ) [.istore 4, .iload 4] (by decide +kernel) rfl rfl trivial ?_
  refine E_if_ne (off := 60) (tgt := 203) (by decide +kernel) (by decide) (fun b28 => ?_) (fun b28 => ?_)
  · rw [if_pos b28] at h
    refine E_blk (lv' := [some (vr (some (11, this))), some (vi v1), some (vi v2), some (vi v3), some (vi s0), none]) (st' := [vr (mR M 11 this 45)]) (M1 := M) (pc' := 150) (tb_Model hγ) [.aload_n 0, .getfield 522] (by decide +kernel) rfl rfl trivial ?_
    obtain ⟨i29, ei29, h⟩ := h
    rw [ei29]
    obtain ⟨c30, h⟩ := h
    refine E_blk (lv' := [some (vr (some (11, this))), some (vi v1), some (vi v2), some (vi v3), some (vi s0), none]) (st' := [vi (mI M 155 i29 v2.toNatClampNeg)]) (M1 := M) (pc' := 155) (tb_Model hγ) [.getfield 722, .iload_n 2, .iaload] (by decide +kernel) rfl rfl ⟨c30, trivial⟩ ?_
    refine E_if_ge (off := 12) (tgt := 167) (by decide +kernel) (by decide) (fun b31 => ?_) (fun b31 => ?_)
    · rw [if_pos b31] at h
      refine E_blk (lv' := [some (vr (some (11, this))), some (vi v1), some (vi v2), some (vi v3), some (vi s0), none]) (st' := [vr (mR M 11 this 45)]) (M1 := M) (pc' := 171) (tb_Model hγ) [.aload_n 0, .getfield 522] (by decide +kernel) rfl rfl trivial ?_
      obtain ⟨i32, ei32, h⟩ := h
      rw [ei32]
      obtain ⟨c33, h⟩ := h
      refine E_blk (lv' := [some (vr (some (11, this))), some (vi v1), some (vi v2), some (vi v3), some (vi s0), none]) (st' := [vi (mI M 155 i32 v2.toNatClampNeg)]) (M1 := M) (pc' := 176) (tb_Model hγ) [.getfield 722, .iload_n 2, .iaload] (by decide +kernel) rfl rfl ⟨c33, trivial⟩ ?_
      refine E_mask [true, true, true, true, false, false] rfl ?_
      exact lk_Model_askHandlers_j176 hγ this Q k8 hk8 v1 v2 v3 (mI M 155 i32 v2.toNatClampNeg) M h
    · rw [if_neg b31] at h
      refine E_blk (lv' := [some (vr (some (11, this))), some (vi v1), some (vi v2), some (vi v3), some (vi s0), none]) (st' := [vi ((mI M 11 this 8) + (1 : Int32))]) (M1 := M) (pc' := 164) (tb_Model hγ) [.aload_n 0, .getfield 153, .iconst 1, .iadd] (by decide +kernel) rfl rfl trivial ?_
      refine E_goto (off := 12) (tgt := 176) (by decide +kernel) (by decide) ?_
      refine E_mask [true, true, true, true, false, false] rfl ?_
      exact lk_Model_askHandlers_j176 hγ this Q k8 hk8 v1 v2 v3 ((mI M 11 this 8) + (1 : Int32)) M h
  · rw [if_neg b28] at h
    refine E_mask [true, true, true, false, true, false] rfl ?_
    exact lk_Model_askHandlers_j203 hγ this Q k8 hk8 v1 v2 s0 M h
set_option maxRecDepth 4096 in
theorem lk_Model_askHandlers_L8 {γ : Gm} (hγ : Gk γ) (this : Nat) (Q : Int32 → Mem → Prop) : ∀ (n : Nat) (v1 : Int32) (v2 : Int32) (M : Mem), w_Model_askHandlers_L8 this Q n v1 v2 M → E γ k_Model_askHandlers 4 8 [some (vr (some (11, this))), some (vi v1), some (vi v2), none, none, none] [] M (Qi Q) := by
  intro n
  induction n with
  | zero => intro v1 v2 M h; exact h.elim
  | succ n ih =>
    intro v1 v2 M h
    unfold w_Model_askHandlers_L8 at h
    refine E_blk (lv' := [some (vr (some (11, this))), some (vi v1), some (vi v2), none, none, none]) (st' := [vr (mR M 11 this 45), vi ((8 : Int32) * (mI M 11 this 75)), vi v2]) (M1 := M) (pc' := 20) (tb_Model hγ) [.iload_n 2, .bipush 8, .aload_n 0, .getfield 768, .imul, .aload_n 0, .getfield 522] (by decide +kernel) rfl rfl trivial ?_
    obtain ⟨i1, ei1, h⟩ := h
    rw [ei1]
    obtain ⟨c2, h⟩ := h
    refine E_blk (lv' := [some (vr (some (11, this))), some (vi v1), some (vi v2), none, none, none]) (st' := [vi (((8 : Int32) * (mI M 11 this 75)) + (mI M 151 i1 (mI M 11 this 75).toNatClampNeg)), vi v2]) (M1 := M) (pc' := 29) (tb_Model hγ) [.getfield 468, .aload_n 0, .getfield 768, .iaload, .iadd] (by decide +kernel) rfl rfl ⟨c2, trivial⟩ ?_
    refine E_icmp_ge (off := 188) (tgt := 217) (by decide +kernel) (by decide) (fun b3 => ?_) (fun b3 => ?_)
    · rw [if_pos b3] at h
      refine E_blk (lv' := [some (vr (some (11, this))), some (vi v1), some (vi v2), none, none, none]) (st' := [vi (0 : Int32)]) (M1 := M) (pc' := 218) (tb_Model hγ) [.iconst 0] (by decide +kernel) rfl rfl trivial ?_
      exact E_iret rfl (by decide +kernel) h
    · rw [if_neg b3] at h
      refine E_blk (lv' := [some (vr (some (11, this))), some (vi v1), some (vi v2), none, none, none]) (st' := [vr (mR M 11 this 45), vi v1]) (M1 := M) (pc' := 37) (tb_Model hγ) [.iload_n 1, .aload_n 0, .getfield 522] (by decide +kernel) rfl rfl trivial ?_
      obtain ⟨i4, ei4, h⟩ := h
      rw [ei4]
      obtain ⟨c5, h⟩ := h
      refine E_blk (lv' := [some (vr (some (11, this))), some (vi v1), some (vi v2), none, none, none]) (st' := [vi (mI M 152 i4 v2.toNatClampNeg), vi v1]) (M1 := M) (pc' := 42) (tb_Model hγ) [.getfield 713, .iload_n 2, .iaload] (by decide +kernel) rfl rfl ⟨c5, trivial⟩ ?_
      refine E_icmp_lt (off := 169) (tgt := 211) (by decide +kernel) (by decide) (fun b6 => ?_) (fun b6 => ?_)
      · rw [if_pos b6] at h
        refine E_mask [true, true, true, false, false, false] rfl ?_
        exact lk_Model_askHandlers_j211 hγ this Q (w_Model_askHandlers_L8 this Q n) ih v1 v2 M h
      · rw [if_neg b6] at h
        refine E_blk (lv' := [some (vr (some (11, this))), some (vi v1), some (vi v2), none, none, none]) (st' := [vr (mR M 11 this 45), vi v1]) (M1 := M) (pc' := 50) (tb_Model hγ) [.iload_n 1, .aload_n 0, .getfield 522] (by decide +kernel) rfl rfl trivial ?_
        obtain ⟨i7, ei7, h⟩ := h
        rw [ei7]
        obtain ⟨c8, h⟩ := h
        refine E_blk (lv' := [some (vr (some (11, this))), some (vi v1), some (vi v2), none, none, none]) (st' := [vi (mI M 153 i7 v2.toNatClampNeg), vi v1]) (M1 := M) (pc' := 55) (tb_Model hγ) [.getfield 716, .iload_n 2, .iaload] (by decide +kernel) rfl rfl ⟨c8, trivial⟩ ?_
        refine E_icmp_lt (off := 6) (tgt := 61) (by decide +kernel) (by decide) (fun b9 => ?_) (fun b9 => ?_)
        · rw [if_pos b9] at h
          refine E_blk (lv' := [some (vr (some (11, this))), some (vi v1), some (vi v2), none, none, none]) (st' := [vr (mR M 11 this 45)]) (M1 := M) (pc' := 65) (tb_Model hγ) [.aload_n 0, .getfield 522] (by decide +kernel) rfl rfl trivial ?_
          obtain ⟨i10, ei10, h⟩ := h
          rw [ei10]
          refine E_blk (lv' := [some (vr (some (11, this))), some (vi v1), some (vi v2), none, none, none]) (st' := [vr (mR M 12 i10 34)]) (M1 := M) (pc' := 68) (tb_Model hγ) [.getfield 686] (by decide +kernel) rfl rfl trivial ?_
          obtain ⟨i11, ei11, h⟩ := h
          rw [ei11]
          refine E_blk (lv' := [some (vr (some (11, this))), some (vi v1), some (vi v2), none, none, none]) (st' := [vr (mR M 11 this 45), vr (some (300, i11))]) (M1 := M) (pc' := 72) (tb_Model hγ) [.aload_n 0, .getfield 522] (by decide +kernel) rfl rfl trivial ?_
          obtain ⟨i12, ei12, h⟩ := h
          rw [ei12]
          obtain ⟨c13, h⟩ := h
          refine E_blk (lv' := [some (vr (some (11, this))), some (vi v1), some (vi v2), none, none, none]) (st' := [vr (mR M 11 this 45), vi (mI M 149 i12 (mI M 11 this 75).toNatClampNeg), vr (some (300, i11))]) (M1 := M) (pc' := 84) (tb_Model hγ) [.getfield 462, .aload_n 0, .getfield 768, .iaload, .aload_n 0, .getfield 522] (by decide +kernel) rfl rfl ⟨c13, trivial⟩ ?_
          obtain ⟨i14, ei14, h⟩ := h
          rw [ei14]
          obtain ⟨c15, c16, h⟩ := h
          refine E_blk (lv' := [some (vr (some (11, this))), some (vi v1), some (vi v2), some (vi ((mI M 300 i11 ((mI M 149 i12 (mI M 11 this 75).toNatClampNeg) + (mI M 154 i14 v2.toNatClampNeg)).toNatClampNeg) - (1 : Int32))), none, none]) (st' := []) (M1 := M) (pc' := 94) (tb_Model hγ) [.getfield 719, .iload_n 2, .iaload, .iadd, .iaload, .iconst 1, .isub, .istore_n 3] (by decide +kernel) rfl rfl ⟨c15, c16, trivial⟩ ?_
          obtain ⟨x17, ex17, h⟩ := h
          rw [← ex17]
          refine E_blk (lv' := [some (vr (some (11, this))), some (vi v1), some (vi v2), some (vi x17), none, none]) (st' := [vi x17]) (M1 := M) (pc' := 95) (tb_Model hγ) [.iload_n 3] (by decide +kernel) rfl rfl trivial ?_
          refine E_if_ge (off := 8) (tgt := 103) (by decide +kernel) (by decide) (fun b18 => ?_) (fun b18 => ?_)
          · rw [if_pos b18] at h
            refine E_blk (lv' := [some (vr (some (11, this))), some (vi v1), some (vi v2), some (vi x17), none, none]) (st' := [vi x17, vr (some (11, this))]) (M1 := M) (pc' := 105) (tb_Model hγ) [.aload_n 0, .iload_n 3] (by decide +kernel) rfl rfl trivial ?_
            refine E_callV (κ' := k_Model_isWrongFrame) (As := [vi x17]) (st := []) mv_Model_isWrongFrame (Or.inl (tbk_mem (j := 15) (k := 181) rfl)) rfl (by decide +kernel) (Nat.le_of_ble_eq_true rfl) (Nat.le_of_ble_eq_true rfl) rfl (by decide) (lk_Model_isWrongFrame hγ this x17 _ M h) (fun _ _ => Qi_r) (fun v M19 hp => Qi_k (R := fun st => E γ k_Model_askHandlers 4 108 [some (vr (some (11, this))), some (vi v1), some (vi v2), some (vi x17), none, none] st M19 (Qi Q)) hp (fun r20 h => ?_))
            refine E_if_eq (off := 8) (tgt := 116) (by decide +kernel) (by decide) (fun b21 => ?_) (fun b21 => ?_)
            · rw [if_pos b21] at h
              refine E_blk (lv' := [some (vr (some (11, this))), some (vi v1), some (vi v2), some (vi x17), none, none]) (st' := [vr (mR M19 11 this 45)]) (M1 := M19) (pc' := 120) (tb_Model hγ) [.aload_n 0, .getfield 522] (by decide +kernel) rfl rfl trivial ?_
              obtain ⟨i22, ei22, h⟩ := h
              rw [ei22]
              refine E_blk (lv' := [some (vr (some (11, this))), some (vi v1), some (vi v2), some (vi x17), none, none]) (st' := [vr (mR M19 12 i22 39)]) (M1 := M19) (pc' := 123) (tb_Model hγ) [.getfield 704] (by decide +kernel) rfl rfl trivial ?_
              obtain ⟨i23, ei23, h⟩ := h
              rw [ei23]
              obtain ⟨c24, h⟩ := h
              refine E_blk (lv' := [some (vr (some (11, this))), some (vi v1), some (vi v2), some (vi x17), none, none]) (st' := [vi (1 : Int32), vi (mI M19 300 i23 x17.toNatClampNeg)]) (M1 := M19) (pc' := 126) (tb_Model hγ) [.iload_n 3, .iaload, .iconst 1] (by decide +kernel) rfl rfl ⟨c24, trivial⟩ ?_
              refine E_icmp_eq (off := 8) (tgt := 134) (by decide +kernel) (by decide) (fun b25 => ?_) (fun b25 => ?_)
              · rw [if_pos b25] at h
                refine E_blk (lv' := [some (vr (some (11, this))), some (vi v1), some (vi v2), some (vi x17), none, none]) (st' := [vi x17, vr (some (11, this))]) (M1 := M19) (pc' := 136) (tb_Model hγ) [.aload_n 0, .iload_n 3] (by decide +kernel) rfl rfl trivial ?_
                refine E_callV (κ' := k_Model_fitLocals) (As := [vi x17]) (st := []) mv_Model_fitLocals (Or.inl (tbk_mem (j := 15) (k := 193) rfl)) rfl (by decide +kernel) (Nat.le_of_ble_eq_true rfl) (Nat.le_of_ble_eq_true rfl) rfl (by decide) (lk_Model_fitLocals hγ this x17 _ M19 h) (fun _ _ => Qi_r) (fun v M26 hp => Qi_k (R := fun st => E γ k_Model_askHandlers 4 139 [some (vr (some (11, this))), some (vi v1), some (vi v2), some (vi x17), none, none] st M26 (Qi Q)) hp (fun r27 h => ?_))
                refine E_mask [true, true, true, true, false, false] rfl ?_
                exact lk_Model_askHandlers_j139 hγ this Q (w_Model_askHandlers_L8 this Q n) ih v1 v2 x17 r27 M26 h
              · rw [if_neg b25] at h
                refine E_blk (lv' := [some (vr (some (11, this))), some (vi v1), some (vi v2), some (vi x17), none, none]) (st' := [vi (37 : Int32)]) (M1 := M19) (pc' := 131) (tb_Model hγ) [.bipush 37] (by decide +kernel) rfl rfl trivial ?_
                refine E_goto (off := 8) (tgt := 139) (by decide +kernel) (by decide) ?_
                refine E_mask [true, true, true, true, false, false] rfl ?_
                exact lk_Model_askHandlers_j139 hγ this Q (w_Model_askHandlers_L8 this Q n) ih v1 v2 x17 (37 : Int32) M19 h
            · rw [if_neg b21] at h
              refine E_blk (lv' := [some (vr (some (11, this))), some (vi v1), some (vi v2), some (vi x17), none, none]) (st' := [vi (38 : Int32)]) (M1 := M19) (pc' := 113) (tb_Model hγ) [.bipush 38] (by decide +kernel) rfl rfl trivial ?_
              refine E_goto (off := 26) (tgt := 139) (by decide +kernel) (by decide) ?_
              refine E_mask [true, true, true, true, false, false] rfl ?_
              exact lk_Model_askHandlers_j139 hγ this Q (w_Model_askHandlers_L8 this Q n) ih v1 v2 x17 (38 : Int32) M19 h
          · rw [if_neg b18] at h
            refine E_blk (lv' := [some (vr (some (11, this))), some (vi v1), some (vi v2), some (vi x17), none, none]) (st' := [vi (36 : Int32)]) (M1 := M) (pc' := 100) (tb_Model hγ) [.bipush 36] (by decide +kernel) rfl rfl trivial ?_
            refine E_goto (off := 39) (tgt := 139) (by decide +kernel) (by decide) ?_
            refine E_mask [true, true, true, true, false, false] rfl ?_
            exact lk_Model_askHandlers_j139 hγ this Q (w_Model_askHandlers_L8 this Q n) ih v1 v2 x17 (36 : Int32) M h
        · rw [if_neg b9] at h
          refine E_goto (off := 153) (tgt := 211) (by decide +kernel) (by decide) ?_
          refine E_mask [true, true, true, false, false, false] rfl ?_
          exact lk_Model_askHandlers_j211 hγ this Q (w_Model_askHandlers_L8 this Q n) ih v1 v2 M h
set_option maxRecDepth 4096 in
theorem lk_Model_askHandlers {γ : Gm} (hγ : Gk γ) (this : Nat) (a1 : Int32) (Q : Int32 → Mem → Prop) (M : Mem) (h : w_Model_askHandlers this a1 Q M) : E γ k_Model_askHandlers 4 0 [some (vr (some (11, this))), some (vi a1), none, none, none, none] [] M (Qi Q) := by
  unfold w_Model_askHandlers at h
  refine E_blk (lv' := [some (vr (some (11, this))), some (vi a1), some (vi ((8 : Int32) * (mI M 11 this 75))), none, none, none]) (st' := []) (M1 := M) (pc' := 8) (tb_Model hγ) [.bipush 8, .aload_n 0, .getfield 768, .imul, .istore_n 2] (by decide +kernel) rfl rfl trivial ?_
  obtain ⟨n42, h⟩ := h
  refine E_mask [true, true, true, false, false, false] rfl ?_
  exact lk_Model_askHandlers_L8 hγ this Q n42 a1 ((8 : Int32) * (mI M 11 this 75)) M h
def w_Model_want (this : Nat) (a1 : Int32) (Q : Mem → Prop) (M : Mem) : Prop :=
  vp_in (mI M 11 this 79) (mL M 112 this) ∧ ∃ M2, M2 = (sI (sI M 112 this (mI M 11 this 79).toNatClampNeg a1) 11 this 79 ((mI (sI M 112 this (mI M 11 this 79).toNatClampNeg a1) 11 this 79) + (1 : Int32))) ∧ Q M2
set_option maxRecDepth 4096 in
theorem lk_Model_want {γ : Gm} (hγ : Gk γ) (this : Nat) (a1 : Int32) (Q : Mem → Prop) (M : Mem) (h : w_Model_want this a1 Q M) : E γ k_Model_want 0 0 [some (vr (some (11, this))), some (vi a1)] [] M (Qv Q) := by
  unfold w_Model_want at h
  obtain ⟨c1, h⟩ := h
  refine E_blk (lv' := [some (vr (some (11, this))), some (vi a1)]) (st' := []) (M1 := (sI (sI M 112 this (mI M 11 this 79).toNatClampNeg a1) 11 this 79 ((mI (sI M 112 this (mI M 11 this 79).toNatClampNeg a1) 11 this 79) + (1 : Int32)))) (pc' := 20) (tb_Model hγ) [.aload_n 0, .getfield 311, .aload_n 0, .getfield 823, .iload_n 1, .iastore, .aload_n 0, .dup, .getfield 823, .iconst 1, .iadd, .putfield 823] (by decide +kernel) rfl rfl ⟨c1, trivial⟩ ?_
  obtain ⟨M2, eM2, h⟩ := h
  rw [← eM2]
  exact E_vret rfl (by decide +kernel) h
