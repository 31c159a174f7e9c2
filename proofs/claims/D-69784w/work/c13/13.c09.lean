def k_Model_nameIn : Kp := (⟨"ClassWorksModel", "nameIn", "([BII)I"⟩, prog_13_method_3_code, 7, some (.int), [])
theorem mv_Model_nameIn : MV k_Model_nameIn 11 3 := ⟨⟨_, rfl, rfl⟩, by decide, (tbk_mem (j := 11) (k := 55) rfl), Or.inr ⟨(tbk_mem (j := 11) (k := 54) rfl), 131, (tbk_mem (j := 11) (k := 41) rfl)⟩, Or.inl ⟨rfl, (tbk_mem (j := 11) (k := 56) rfl)⟩, ⟨by decide, by decide⟩, by decide +kernel, by decide +kernel, by decide⟩
def k_Model_key : Kp := (⟨"ClassWorksModel", "key", "(Ljava/lang/String;)I"⟩, prog_13_method_5_code, 3, some (.int), [])
theorem mv_Model_key : MV k_Model_key 11 1 := ⟨⟨_, rfl, rfl⟩, by decide, (tbk_mem (j := 11) (k := 49) rfl), Or.inr ⟨(tbk_mem (j := 11) (k := 48) rfl), 131, (tbk_mem (j := 11) (k := 41) rfl)⟩, Or.inl ⟨rfl, (tbk_mem (j := 11) (k := 50) rfl)⟩, ⟨by decide, by decide⟩, by decide +kernel, by decide +kernel, by decide⟩
def k_Model_keys : Kp := (⟨"ClassWorksModel", "keys", "(Ljava/lang/String;)I"⟩, prog_13_method_6_code, 7, some (.int), [])
theorem mv_Model_keys : MV k_Model_keys 11 1 := ⟨⟨_, rfl, rfl⟩, by decide, (tbk_mem (j := 11) (k := 73) rfl), Or.inr ⟨(tbk_mem (j := 11) (k := 72) rfl), 131, (tbk_mem (j := 11) (k := 41) rfl)⟩, Or.inl ⟨rfl, (tbk_mem (j := 11) (k := 74) rfl)⟩, ⟨by decide, by decide⟩, by decide +kernel, by decide +kernel, by decide⟩
def k_Model_isSignature : Kp := (⟨"ClassWorksModel", "isSignature", "(I[III)Z"⟩, prog_13_method_8_code, 7, some (.boolean), [])
theorem mv_Model_isSignature : MV k_Model_isSignature 11 4 := ⟨⟨_, rfl, rfl⟩, by decide, (tbk_mem (j := 11) (k := 99) rfl), Or.inr ⟨(tbk_mem (j := 11) (k := 98) rfl), 131, (tbk_mem (j := 11) (k := 41) rfl)⟩, Or.inl ⟨rfl, (tbk_mem (j := 11) (k := 100) rfl)⟩, ⟨by decide, by decide⟩, by decide +kernel, by decide +kernel, by decide⟩
def k_Model_signature : Kp := (⟨"ClassWorksModel", "signature", "([III)I"⟩, prog_13_method_7_code, 7, some (.int), [])
theorem mv_Model_signature : MV k_Model_signature 11 3 := ⟨⟨_, rfl, rfl⟩, by decide, (tbk_mem (j := 11) (k := 95) rfl), Or.inr ⟨(tbk_mem (j := 11) (k := 94) rfl), 131, (tbk_mem (j := 11) (k := 41) rfl)⟩, Or.inl ⟨rfl, (tbk_mem (j := 11) (k := 96) rfl)⟩, ⟨by decide, by decide⟩, by decide +kernel, by decide +kernel, by decide⟩
def k_Model_isDigit : Kp := (⟨"ClassWorksModel", "isDigit", "(I)Z"⟩, prog_13_method_9_code, 1, some (.boolean), [])
theorem ms_Model_isDigit : MSt k_Model_isDigit 1 := ⟨(tbk_mem (j := 14) (k := 210) rfl), (tbk_mem (j := 1) (k := 21) rfl), Or.inl ⟨rfl, (tbk_mem (j := 14) (k := 211) rfl)⟩, ⟨by decide, by decide⟩, by decide +kernel, by decide +kernel, by decide⟩
def k_Model_isLetter : Kp := (⟨"ClassWorksModel", "isLetter", "(I)Z"⟩, prog_13_method_10_code, 1, some (.boolean), [])
theorem ms_Model_isLetter : MSt k_Model_isLetter 1 := ⟨(tbk_mem (j := 14) (k := 207) rfl), (tbk_mem (j := 1) (k := 21) rfl), Or.inl ⟨rfl, (tbk_mem (j := 14) (k := 208) rfl)⟩, ⟨by decide, by decide⟩, by decide +kernel, by decide +kernel, by decide⟩
def k_Model_addWord : Kp := (⟨"ClassWorksModel", "addWord", "(III)V"⟩, prog_13_method_11_code, 4, none, [])
theorem mv_Model_addWord : MV k_Model_addWord 11 3 := ⟨⟨_, rfl, rfl⟩, by decide, (tbk_mem (j := 14) (k := 214) rfl), Or.inr ⟨(tbk_mem (j := 14) (k := 213) rfl), 131, (tbk_mem (j := 11) (k := 41) rfl)⟩, Or.inl ⟨rfl, (tbk_mem (j := 14) (k := 215) rfl)⟩, ⟨by decide, by decide⟩, by decide +kernel, by decide +kernel, by decide⟩
def k_Model_number : Kp := (⟨"ClassWorksModel", "number", "([BII)I"⟩, prog_13_method_14_code, 12, some (.int), [])
theorem mv_Model_number : MV k_Model_number 11 3 := ⟨⟨_, rfl, rfl⟩, by decide, (tbk_mem (j := 14) (k := 218) rfl), Or.inr ⟨(tbk_mem (j := 14) (k := 217) rfl), 131, (tbk_mem (j := 11) (k := 41) rfl)⟩, Or.inl ⟨rfl, (tbk_mem (j := 14) (k := 219) rfl)⟩, ⟨by decide, by decide⟩, by decide +kernel, by decide +kernel, by decide⟩
def k_Model_isTag : Kp := (⟨"ClassWorksModel", "isTag", "(I[BII)Z"⟩, prog_13_method_13_code, 5, some (.boolean), [])
theorem mv_Model_isTag : MV k_Model_isTag 11 4 := ⟨⟨_, rfl, rfl⟩, by decide, (tbk_mem (j := 14) (k := 224) rfl), Or.inr ⟨(tbk_mem (j := 14) (k := 223) rfl), 131, (tbk_mem (j := 11) (k := 41) rfl)⟩, Or.inl ⟨rfl, (tbk_mem (j := 14) (k := 225) rfl)⟩, ⟨by decide, by decide⟩, by decide +kernel, by decide +kernel, by decide⟩
def k_Model_cutLine : Kp := (⟨"ClassWorksModel", "cutLine", "([BII)Z"⟩, prog_13_method_12_code, 8, some (.boolean), [])
theorem mv_Model_cutLine : MV k_Model_cutLine 11 3 := ⟨⟨_, rfl, rfl⟩, by decide, (tbk_mem (j := 14) (k := 204) rfl), Or.inr ⟨(tbk_mem (j := 14) (k := 203) rfl), 131, (tbk_mem (j := 11) (k := 41) rfl)⟩, Or.inl ⟨rfl, (tbk_mem (j := 14) (k := 205) rfl)⟩, ⟨by decide, by decide⟩, by decide +kernel, by decide +kernel, by decide⟩
def k_MWorld_init : Kp := (⟨"ClassWorksModel$World", "<init>", "()V"⟩, prog_15_method_1_code, 1, none, [])
theorem mi_MWorld_init : MI k_MWorld_init 0 := ⟨rfl, (tbk_mem (j := 11) (k := 130) rfl), ⟨rfl, rfl, (tbk_mem (j := 11) (k := 131) rfl)⟩, ⟨by decide, by decide⟩, by decide +kernel, by decide +kernel, by decide⟩
def k_Run_init : Kp := (⟨"ClassWorksModel$Run", "<init>", "()V"⟩, prog_14_method_1_code, 1, none, [])
theorem mi_Run_init : MI k_Run_init 0 := ⟨rfl, (tbk_mem (j := 12) (k := 172) rfl), ⟨rfl, rfl, (tbk_mem (j := 12) (k := 173) rfl)⟩, ⟨by decide, by decide⟩, by decide +kernel, by decide +kernel, by decide⟩
def k_Model_beginWorld : Kp := (⟨"ClassWorksModel", "beginWorld", "(LClassWorksModel$World;I)V"⟩, prog_13_method_16_code, 5, none, [])
theorem mv_Model_beginWorld : MV k_Model_beginWorld 11 2 := ⟨⟨_, rfl, rfl⟩, by decide, (tbk_mem (j := 14) (k := 184) rfl), Or.inr ⟨(tbk_mem (j := 14) (k := 183) rfl), 131, (tbk_mem (j := 11) (k := 41) rfl)⟩, Or.inl ⟨rfl, (tbk_mem (j := 14) (k := 185) rfl)⟩, ⟨by decide, by decide⟩, by decide +kernel, by decide +kernel, by decide⟩
def k_Model_classOf : Kp := (⟨"ClassWorksModel", "classOf", "(I)I"⟩, prog_13_method_17_code, 3, some (.int), [])
theorem mv_Model_classOf : MV k_Model_classOf 11 1 := ⟨⟨_, rfl, rfl⟩, by decide, (tbk_mem (j := 15) (k := 41) rfl), Or.inr ⟨(tbk_mem (j := 15) (k := 40) rfl), 131, (tbk_mem (j := 11) (k := 41) rfl)⟩, Or.inl ⟨rfl, (tbk_mem (j := 15) (k := 42) rfl)⟩, ⟨by decide, by decide⟩, by decide +kernel, by decide +kernel, by decide⟩
def k_Model_isOff : Kp := (⟨"ClassWorksModel", "isOff", "(I)Z"⟩, prog_13_method_18_code, 2, some (.boolean), [])
theorem mv_Model_isOff : MV k_Model_isOff 11 1 := ⟨⟨_, rfl, rfl⟩, by decide, (tbk_mem (j := 15) (k := 49) rfl), Or.inr ⟨(tbk_mem (j := 15) (k := 48) rfl), 131, (tbk_mem (j := 11) (k := 41) rfl)⟩, Or.inl ⟨rfl, (tbk_mem (j := 15) (k := 50) rfl)⟩, ⟨by decide, by decide⟩, by decide +kernel, by decide +kernel, by decide⟩
def k_Model_wrong : Kp := (⟨"ClassWorksModel", "wrong", "()V"⟩, prog_13_method_19_code, 1, none, [])
theorem mv_Model_wrong : MV k_Model_wrong 11 0 := ⟨⟨_, rfl, rfl⟩, by decide, (tbk_mem (j := 15) (k := 21) rfl), Or.inr ⟨(tbk_mem (j := 15) (k := 20) rfl), 131, (tbk_mem (j := 11) (k := 41) rfl)⟩, Or.inl ⟨rfl, (tbk_mem (j := 15) (k := 22) rfl)⟩, ⟨by decide, by decide⟩, by decide +kernel, by decide +kernel, by decide⟩
def k_Model_refuse : Kp := (⟨"ClassWorksModel", "refuse", "(II)V"⟩, prog_13_method_20_code, 3, none, [])
theorem mv_Model_refuse : MV k_Model_refuse 11 2 := ⟨⟨_, rfl, rfl⟩, by decide, (tbk_mem (j := 15) (k := 5) rfl), Or.inr ⟨(tbk_mem (j := 15) (k := 4) rfl), 131, (tbk_mem (j := 11) (k := 41) rfl)⟩, Or.inl ⟨rfl, (tbk_mem (j := 15) (k := 6) rfl)⟩, ⟨by decide, by decide⟩, by decide +kernel, by decide +kernel, by decide⟩
def k_Model_asks : Kp := (⟨"ClassWorksModel", "asks", "(IZ)V"⟩, prog_13_method_21_code, 3, none, [])
theorem mv_Model_asks : MV k_Model_asks 11 2 := ⟨⟨_, rfl, rfl⟩, by decide, (tbk_mem (j := 15) (k := 45) rfl), Or.inr ⟨(tbk_mem (j := 15) (k := 44) rfl), 131, (tbk_mem (j := 11) (k := 41) rfl)⟩, Or.inl ⟨rfl, (tbk_mem (j := 15) (k := 46) rfl)⟩, ⟨by decide, by decide⟩, by decide +kernel, by decide +kernel, by decide⟩
def k_Model_need : Kp := (⟨"ClassWorksModel", "need", "(I)V"⟩, prog_13_method_22_code, 2, none, [])
theorem mv_Model_need : MV k_Model_need 11 1 := ⟨⟨_, rfl, rfl⟩, by decide, (tbk_mem (j := 15) (k := 37) rfl), Or.inr ⟨(tbk_mem (j := 15) (k := 36) rfl), 131, (tbk_mem (j := 11) (k := 41) rfl)⟩, Or.inl ⟨rfl, (tbk_mem (j := 15) (k := 38) rfl)⟩, ⟨by decide, by decide⟩, by decide +kernel, by decide +kernel, by decide⟩
def k_Model_isWord : Kp := (⟨"ClassWorksModel", "isWord", "(I)Z"⟩, prog_13_method_23_code, 2, some (.boolean), [])
theorem mv_Model_isWord : MV k_Model_isWord 11 1 := ⟨⟨_, rfl, rfl⟩, by decide, (tbk_mem (j := 14) (k := 232) rfl), Or.inr ⟨(tbk_mem (j := 14) (k := 231) rfl), 131, (tbk_mem (j := 11) (k := 41) rfl)⟩, Or.inl ⟨rfl, (tbk_mem (j := 14) (k := 233) rfl)⟩, ⟨by decide, by decide⟩, by decide +kernel, by decide +kernel, by decide⟩
def k_Model_takes : Kp := (⟨"ClassWorksModel", "takes", "(I)Z"⟩, prog_13_method_24_code, 3, some (.boolean), [])
theorem mv_Model_takes : MV k_Model_takes 11 1 := ⟨⟨_, rfl, rfl⟩, by decide, (tbk_mem (j := 15) (k := 17) rfl), Or.inr ⟨(tbk_mem (j := 15) (k := 16) rfl), 131, (tbk_mem (j := 11) (k := 41) rfl)⟩, Or.inl ⟨rfl, (tbk_mem (j := 15) (k := 18) rfl)⟩, ⟨by decide, by decide⟩, by decide +kernel, by decide +kernel, by decide⟩
def k_Model_needWord : Kp := (⟨"ClassWorksModel", "needWord", "(I)V"⟩, prog_13_method_25_code, 2, none, [])
theorem mv_Model_needWord : MV k_Model_needWord 11 1 := ⟨⟨_, rfl, rfl⟩, by decide, (tbk_mem (j := 15) (k := 13) rfl), Or.inr ⟨(tbk_mem (j := 15) (k := 12) rfl), 131, (tbk_mem (j := 11) (k := 41) rfl)⟩, Or.inl ⟨rfl, (tbk_mem (j := 15) (k := 14) rfl)⟩, ⟨by decide, by decide⟩, by decide +kernel, by decide +kernel, by decide⟩
def k_Model_plainName : Kp := (⟨"ClassWorksModel", "plainName", "()I"⟩, prog_13_method_26_code, 2, some (.int), [])
theorem mv_Model_plainName : MV k_Model_plainName 11 0 := ⟨⟨_, rfl, rfl⟩, by decide, (tbk_mem (j := 15) (k := 33) rfl), Or.inr ⟨(tbk_mem (j := 15) (k := 32) rfl), 131, (tbk_mem (j := 11) (k := 41) rfl)⟩, Or.inl ⟨rfl, (tbk_mem (j := 15) (k := 34) rfl)⟩, ⟨by decide, by decide⟩, by decide +kernel, by decide +kernel, by decide⟩
def k_Model_isClassName : Kp := (⟨"ClassWorksModel", "isClassName", "(I)Z"⟩, prog_13_method_27_code, 2, some (.boolean), [])
theorem mv_Model_isClassName : MV k_Model_isClassName 11 1 := ⟨⟨_, rfl, rfl⟩, by decide, (tbk_mem (j := 15) (k := 29) rfl), Or.inr ⟨(tbk_mem (j := 15) (k := 28) rfl), 131, (tbk_mem (j := 11) (k := 41) rfl)⟩, Or.inl ⟨rfl, (tbk_mem (j := 15) (k := 30) rfl)⟩, ⟨by decide, by decide⟩, by decide +kernel, by decide +kernel, by decide⟩
def k_Model_className : Kp := (⟨"ClassWorksModel", "className", "()I"⟩, prog_13_method_28_code, 1, some (.int), [])
theorem mv_Model_className : MV k_Model_className 11 0 := ⟨⟨_, rfl, rfl⟩, by decide, (tbk_mem (j := 15) (k := 25) rfl), Or.inr ⟨(tbk_mem (j := 15) (k := 24) rfl), 131, (tbk_mem (j := 11) (k := 41) rfl)⟩, Or.inl ⟨rfl, (tbk_mem (j := 15) (k := 26) rfl)⟩, ⟨by decide, by decide⟩, by decide +kernel, by decide +kernel, by decide⟩
def k_Model_type : Kp := (⟨"ClassWorksModel", "type", "()I"⟩, prog_13_method_29_code, 1, some (.int), [])
theorem mv_Model_type : MV k_Model_type 11 0 := ⟨⟨_, rfl, rfl⟩, by decide, (tbk_mem (j := 15) (k := 57) rfl), Or.inr ⟨(tbk_mem (j := 15) (k := 56) rfl), 131, (tbk_mem (j := 11) (k := 41) rfl)⟩, Or.inl ⟨rfl, (tbk_mem (j := 15) (k := 58) rfl)⟩, ⟨by decide, by decide⟩, by decide +kernel, by decide +kernel, by decide⟩
def k_Model_addType : Kp := (⟨"ClassWorksModel", "addType", "()V"⟩, prog_13_method_31_code, 1, none, [])
theorem mv_Model_addType : MV k_Model_addType 11 0 := ⟨⟨_, rfl, rfl⟩, by decide, (tbk_mem (j := 15) (k := 74) rfl), Or.inr ⟨(tbk_mem (j := 15) (k := 73) rfl), 131, (tbk_mem (j := 11) (k := 41) rfl)⟩, Or.inl ⟨rfl, (tbk_mem (j := 15) (k := 75) rfl)⟩, ⟨by decide, by decide⟩, by decide +kernel, by decide +kernel, by decide⟩
def k_Model_wholeSignature : Kp := (⟨"ClassWorksModel", "wholeSignature", "()I"⟩, prog_13_method_30_code, 1, some (.int), [])
theorem mv_Model_wholeSignature : MV k_Model_wholeSignature 11 0 := ⟨⟨_, rfl, rfl⟩, by decide, (tbk_mem (j := 15) (k := 70) rfl), Or.inr ⟨(tbk_mem (j := 15) (k := 69) rfl), 131, (tbk_mem (j := 11) (k := 41) rfl)⟩, Or.inl ⟨rfl, (tbk_mem (j := 15) (k := 71) rfl)⟩, ⟨by decide, by decide⟩, by decide +kernel, by decide +kernel, by decide⟩
def k_Model_numberIn : Kp := (⟨"ClassWorksModel", "numberIn", "(II)I"⟩, prog_13_method_32_code, 3, some (.int), [])
theorem mv_Model_numberIn : MV k_Model_numberIn 11 2 := ⟨⟨_, rfl, rfl⟩, by decide, (tbk_mem (j := 15) (k := 62) rfl), Or.inr ⟨(tbk_mem (j := 15) (k := 61) rfl), 131, (tbk_mem (j := 11) (k := 41) rfl)⟩, Or.inl ⟨rfl, (tbk_mem (j := 15) (k := 63) rfl)⟩, ⟨by decide, by decide⟩, by decide +kernel, by decide +kernel, by decide⟩
def k_Model_labelOf : Kp := (⟨"ClassWorksModel", "labelOf", "(I)I"⟩, prog_13_method_40_code, 3, some (.int), [])
theorem mv_Model_labelOf : MV k_Model_labelOf 11 1 := ⟨⟨_, rfl, rfl⟩, by decide, (tbk_mem (j := 15) (k := 0) rfl), Or.inr ⟨(tbk_mem (j := 14) (k := 239) rfl), 131, (tbk_mem (j := 11) (k := 41) rfl)⟩, Or.inl ⟨rfl, (tbk_mem (j := 15) (k := 1) rfl)⟩, ⟨by decide, by decide⟩, by decide +kernel, by decide +kernel, by decide⟩
def w_Model_nameIn_L150 (this : Nat) (Q : Int32 → Mem → Prop) : Nat → Nat → Int32 → Int32 → Int32 → Int32 → Mem → Prop
  | 0, _, _, _, _, _, _ => False
  | n + 1, v1, v2, v3, v5, v6, M => if v3 ≤ v6 then (∃ i15, (mR M 11 this 1) = some (401, i15) ∧ vp_in (mI M 11 this 4) (mL M 401 i15) ∧ ∃ M17, M17 = (sI M 401 i15 (mI M 11 this 4).toNatClampNeg v3.toInt8.toInt32.toInt8.toInt32) ∧ ∃ i18, (mR M17 11 this 2) = some (300, i18) ∧ vp_in v5 (mL M17 105 this) ∧ vp_in (mI M17 11 this 4) (mL M17 300 i18) ∧ ∃ M21, M21 = (sI M17 300 i18 (mI M17 11 this 4).toNatClampNeg (mI M17 105 this v5.toNatClampNeg)) ∧ vp_in v5 (mL (sI M21 11 this 4 ((mI M21 11 this 4) + (1 : Int32))) 105 this) ∧ ∃ M23, M23 = (sI (sI M21 11 this 4 ((mI M21 11 this 4) + (1 : Int32))) 105 this v5.toNatClampNeg (mI (sI M21 11 this 4 ((mI M21 11 this 4) + (1 : Int32))) 11 this 4)) ∧ Q ((mI M23 11 this 4) - (1 : Int32)) M23) else (∃ i24, (mR M 11 this 0) = some (401, i24) ∧ vp_in (v2 + v6) (mL M 402 v1) ∧ vp_in (((12 : Int32) * (mI M 11 this 4)) + v6) (mL M 401 i24) ∧ ∃ M27, M27 = (sI M 401 i24 (((12 : Int32) * (mI M 11 this 4)) + v6).toNatClampNeg ((mI M 402 v1 (v2 + v6).toNatClampNeg).toInt8.toInt32)) ∧ (w_Model_nameIn_L150 this Q n) v1 v2 v3 v5 (v6 + (1 : Int32)) M27)
def w_Model_nameIn_L55 (this : Nat) (Q : Int32 → Mem → Prop) : Nat → Nat → Int32 → Int32 → Int32 → Int32 → Mem → Prop
  | 0, _, _, _, _, _, _ => False
  | n + 1, v1, v2, v3, v5, v6, M => if v6 ≤ 0 then (∃ i5, (mR M 11 this 0) = some (401, i5) ∧ w_Model_roomy i5 ((12 : Int32) * ((mI M 11 this 4) + (1 : Int32))) (fun i7 M6 => ∃ i8, (mR (sR M6 11 this 0 (some (401, i7))) 11 this 1) = some (401, i8) ∧ w_Model_roomy i8 ((mI (sR M6 11 this 0 (some (401, i7))) 11 this 4) + (1 : Int32)) (fun i10 M9 => ∃ i11, (mR (sR M9 11 this 1 (some (401, i10))) 11 this 2) = some (300, i11) ∧ w_Model_room i11 ((mI (sR M9 11 this 1 (some (401, i10))) 11 this 4) + (1 : Int32)) (fun i13 M12 => ∃ n28 : Nat, w_Model_nameIn_L150 this Q n28 v1 v2 v3 v5 (0 : Int32) (sR M12 11 this 2 (some (300, i13)))) (sR M9 11 this 1 (some (401, i10)))) (sR M6 11 this 0 (some (401, i7)))) M) else (w_Model_isName this (v6 - (1 : Int32)) v1 v2 v3 (fun r30 M29 => if r30 = 0 then (∃ i32, (mR M29 11 this 2) = some (300, i32) ∧ vp_in (v6 - (1 : Int32)) (mL M29 300 i32) ∧ (w_Model_nameIn_L55 this Q n) v1 v2 v3 v5 (mI M29 300 i32 (v6 - (1 : Int32)).toNatClampNeg) M29) else (Q (v6 - (1 : Int32)) M29)) M)
def w_Model_nameIn_L6 (this : Nat) (Q : Int32 → Mem → Prop) : Nat → Nat → Int32 → Int32 → Int32 → Int32 → Mem → Prop
  | 0, _, _, _, _, _, _ => False
  | n + 1, v1, v2, v3, v4, v5, M => if v3 ≤ v5 then (∃ x2 : Int32, x2 = ((v4 ^^^ (v4.toUInt32 >>> ((13 : Int32).toUInt32 &&& Int32.toUInt32 31)).toInt32) &&& (4095 : Int32)) ∧ vp_in x2 (mL M 105 this) ∧ ∃ n34 : Nat, w_Model_nameIn_L55 this Q n34 v1 v2 v3 x2 (mI M 105 this x2.toNatClampNeg) M) else (vp_in (v2 + v5) (mL M 402 v1) ∧ ∃ x36 : Int32, x36 = (((31 : Int32) * v4) + (mI M 402 v1 (v2 + v5).toNatClampNeg)) ∧ (w_Model_nameIn_L6 this Q n) v1 v2 v3 x36 (v5 + (1 : Int32)) M)
def w_Model_nameIn (this : Nat) (a1 : Nat) (a2 : Int32) (a3 : Int32) (Q : Int32 → Mem → Prop) (M : Mem) : Prop :=
  ∃ n37 : Nat, w_Model_nameIn_L6 this Q n37 a1 a2 a3 a3 (0 : Int32) M
set_option maxRecDepth 4096 in
theorem lk_Model_nameIn_L150 {γ : Gm} (hγ : Gk γ) (this : Nat) (Q : Int32 → Mem → Prop) : ∀ (n : Nat) (v1 : Nat) (v2 : Int32) (v3 : Int32) (v5 : Int32) (v6 : Int32) (M : Mem), w_Model_nameIn_L150 this Q n v1 v2 v3 v5 v6 M → E γ k_Model_nameIn 2 150 [some (vr (some (11, this))), some (vr (some (402, v1))), some (vi v2), some (vi v3), none, some (vi v5), some (vi v6)] [] M (Qi Q) := by
  intro n
  induction n with
  | zero => intro v1 v2 v3 v5 v6 M h; exact h.elim
  | succ n ih =>
    intro v1 v2 v3 v5 v6 M h
    unfold w_Model_nameIn_L150 at h
    refine E_blk (lv' := [some (vr (some (11, this))), some (vr (some (402, v1))), some (vi v2), some (vi v3), none, some (vi v5), some (vi v6)]) (st' := [vi v3, vi v6]) (M1 := M) (pc' := 153) (tb_Model hγ) [.iload 6, .iload_n 3] (by decide +kernel) rfl rfl trivial ?_
    refine E_icmp_ge (off := 30) (tgt := 183) (by decide +kernel) (by decide) (fun b14 => ?_) (fun b14 => ?_)
    · rw [if_pos b14] at h
      refine E_blk (lv' := [some (vr (some (11, this))), some (vr (some (402, v1))), some (vi v2), some (vi v3), none, some (vi v5), some (vi v6)]) (st' := [vr (mR M 11 this 1)]) (M1 := M) (pc' := 187) (tb_Model hγ) [.aload_n 0, .getfield 40] (by decide +kernel) rfl rfl trivial ?_
      obtain ⟨i15, ei15, h⟩ := h
      rw [ei15]
      obtain ⟨c16, h⟩ := h
      refine E_blk (lv' := [some (vr (some (11, this))), some (vr (some (402, v1))), some (vi v2), some (vi v3), none, some (vi v5), some (vi v6)]) (st' := []) (M1 := (sI M 401 i15 (mI M 11 this 4).toNatClampNeg v3.toInt8.toInt32.toInt8.toInt32)) (pc' := 194) (tb_Model hγ) [.aload_n 0, .getfield 32, .iload_n 3, .i2b, .bastore] (by decide +kernel) rfl rfl ⟨c16, trivial⟩ ?_
      obtain ⟨M17, eM17, h⟩ := h
      rw [← eM17]
      refine E_blk (lv' := [some (vr (some (11, this))), some (vr (some (402, v1))), some (vi v2), some (vi v3), none, some (vi v5), some (vi v6)]) (st' := [vr (mR M17 11 this 2)]) (M1 := M17) (pc' := 198) (tb_Model hγ) [.aload_n 0, .getfield 25] (by decide +kernel) rfl rfl trivial ?_
      obtain ⟨i18, ei18, h⟩ := h
      rw [ei18]
      obtain ⟨c19, c20, h⟩ := h
      refine E_blk (lv' := [some (vr (some (11, this))), some (vr (some (402, v1))), some (vi v2), some (vi v3), none, some (vi v5), some (vi v6)]) (st' := []) (M1 := (sI M17 300 i18 (mI M17 11 this 4).toNatClampNeg (mI M17 105 this v5.toNatClampNeg))) (pc' := 210) (tb_Model hγ) [.aload_n 0, .getfield 32, .aload_n 0, .getfield 17, .iload 5, .iaload, .iastore] (by decide +kernel) rfl rfl ⟨c19, c20, trivial⟩ ?_
      obtain ⟨M21, eM21, h⟩ := h
      rw [← eM21]
      obtain ⟨c22, h⟩ := h
      refine E_blk (lv' := [some (vr (some (11, this))), some (vr (some (402, v1))), some (vi v2), some (vi v3), none, some (vi v5), some (vi v6)]) (st' := []) (M1 := (sI (sI M21 11 this 4 ((mI M21 11 this 4) + (1 : Int32))) 105 this v5.toNatClampNeg (mI (sI M21 11 this 4 ((mI M21 11 this 4) + (1 : Int32))) 11 this 4))) (pc' := 231) (tb_Model hγ) [.aload_n 0, .dup, .getfield 32, .iconst 1, .iadd, .putfield 32, .aload_n 0, .getfield 17, .iload 5, .aload_n 0, .getfield 32, .iastore] (by decide +kernel) rfl rfl ⟨c22, trivial⟩ ?_
      obtain ⟨M23, eM23, h⟩ := h
      rw [← eM23]
      refine E_blk (lv' := [some (vr (some (11, this))), some (vr (some (402, v1))), some (vi v2), some (vi v3), none, some (vi v5), some (vi v6)]) (st' := [vi ((mI M23 11 this 4) - (1 : Int32))]) (M1 := M23) (pc' := 237) (tb_Model hγ) [.aload_n 0, .getfield 32, .iconst 1, .isub] (by decide +kernel) rfl rfl trivial ?_
      exact E_iret rfl (by decide +kernel) h
    · rw [if_neg b14] at h
      refine E_blk (lv' := [some (vr (some (11, this))), some (vr (some (402, v1))), some (vi v2), some (vi v3), none, some (vi v5), some (vi v6)]) (st' := [vr (mR M 11 this 0)]) (M1 := M) (pc' := 160) (tb_Model hγ) [.aload_n 0, .getfield 28] (by decide +kernel) rfl rfl trivial ?_
      obtain ⟨i24, ei24, h⟩ := h
      rw [ei24]
      obtain ⟨c25, c26, h⟩ := h
      refine E_blk (lv' := [some (vr (some (11, this))), some (vr (some (402, v1))), some (vi v2), some (vi v3), none, some (vi v5), some (vi v6)]) (st' := []) (M1 := (sI M 401 i24 (((12 : Int32) * (mI M 11 this 4)) + v6).toNatClampNeg ((mI M 402 v1 (v2 + v6).toNatClampNeg).toInt8.toInt32))) (pc' := 177) (tb_Model hγ) [.bipush 12, .aload_n 0, .getfield 32, .imul, .iload 6, .iadd, .aload_n 1, .iload_n 2, .iload 6, .iadd, .baload, .bastore] (by decide +kernel) rfl rfl ⟨c25, c26, trivial⟩ ?_
      obtain ⟨M27, eM27, h⟩ := h
      rw [← eM27]
      refine E_blk (lv' := [some (vr (some (11, this))), some (vr (some (402, v1))), some (vi v2), some (vi v3), none, some (vi v5), some (vi (v6 + (1 : Int32)))]) (st' := []) (M1 := M27) (pc' := 180) (tb_Model hγ) [.iinc 6 1] (by decide +kernel) rfl rfl trivial ?_
      refine E_goto (off := -30) (tgt := 150) (by decide +kernel) (by decide) ?_
      refine E_mask [true, true, true, true, false, true, true] rfl ?_
      exact ih v1 v2 v3 v5 (v6 + (1 : Int32)) M27 h
set_option maxRecDepth 4096 in
theorem lk_Model_nameIn_L55 {γ : Gm} (hγ : Gk γ) (this : Nat) (Q : Int32 → Mem → Prop) : ∀ (n : Nat) (v1 : Nat) (v2 : Int32) (v3 : Int32) (v5 : Int32) (v6 : Int32) (M : Mem), w_Model_nameIn_L55 this Q n v1 v2 v3 v5 v6 M → E γ k_Model_nameIn 2 55 [some (vr (some (11, this))), some (vr (some (402, v1))), some (vi v2), some (vi v3), none, some (vi v5), some (vi v6)] [] M (Qi Q) := by
  intro n
  induction n with
  | zero => intro v1 v2 v3 v5 v6 M h; exact h.elim
  | succ n ih =>
    intro v1 v2 v3 v5 v6 M h
    unfold w_Model_nameIn_L55 at h
    refine E_blk (lv' := [some (vr (some (11, this))), some (vr (some (402, v1))), some (vi v2), some (vi v3), none, some (vi v5), some (vi v6)]) (st' := [vi v6]) (M1 := M) (pc' := 57) (tb_Model hγ) [.iload 6] (by decide +kernel) rfl rfl trivial ?_
    refine E_if_le (off := 36) (tgt := 93) (by decide +kernel) (by decide) (fun b4 => ?_) (fun b4 => ?_)
    · rw [if_pos b4] at h
      refine E_blk (lv' := [some (vr (some (11, this))), some (vr (some (402, v1))), some (vi v2), some (vi v3), none, some (vi v5), some (vi v6)]) (st' := [vr (mR M 11 this 0), vr (some (11, this))]) (M1 := M) (pc' := 98) (tb_Model hγ) [.aload_n 0, .aload_n 0, .getfield 28] (by decide +kernel) rfl rfl trivial ?_
      obtain ⟨i5, ei5, h⟩ := h
      rw [ei5]
      refine E_blk (lv' := [some (vr (some (11, this))), some (vr (some (402, v1))), some (vi v2), some (vi v3), none, some (vi v5), some (vi v6)]) (st' := [vi ((12 : Int32) * ((mI M 11 this 4) + (1 : Int32))), vr (some (401, i5)), vr (some (11, this))]) (M1 := M) (pc' := 107) (tb_Model hγ) [.bipush 12, .aload_n 0, .getfield 32, .iconst 1, .iadd, .imul] (by decide +kernel) rfl rfl trivial ?_
      refine E_callS (κ' := k_Model_roomy) (As := [vr (some (401, i5)), vi ((12 : Int32) * ((mI M 11 this 4) + (1 : Int32)))]) (st := [vr (some (11, this))]) ms_Model_roomy (Or.inl (tbk_mem (j := 11) (k := 61) rfl)) rfl (by decide +kernel) (Nat.le_of_ble_eq_true rfl) (Nat.le_of_ble_eq_true rfl) rfl (by decide) (lk_Model_roomy hγ i5 ((12 : Int32) * ((mI M 11 this 4) + (1 : Int32))) _ M h) (fun _ _ => Qr_r) (fun v M6 hp => Qr_k (R := fun st => E γ k_Model_nameIn 2 110 [some (vr (some (11, this))), some (vr (some (402, v1))), some (vi v2), some (vi v3), none, some (vi v5), some (vi v6)] st M6 (Qi Q)) hp (fun i7 h => ?_))
      refine E_blk (lv' := [some (vr (some (11, this))), some (vr (some (402, v1))), some (vi v2), some (vi v3), none, some (vi v5), some (vi v6)]) (st' := [vr (mR (sR M6 11 this 0 (some (401, i7))) 11 this 1), vr (some (11, this))]) (M1 := (sR M6 11 this 0 (some (401, i7)))) (pc' := 118) (tb_Model hγ) [.putfield 28, .aload_n 0, .aload_n 0, .getfield 40] (by decide +kernel) rfl rfl trivial ?_
      obtain ⟨i8, ei8, h⟩ := h
      rw [ei8]
      refine E_blk (lv' := [some (vr (some (11, this))), some (vr (some (402, v1))), some (vi v2), some (vi v3), none, some (vi v5), some (vi v6)]) (st' := [vi ((mI (sR M6 11 this 0 (some (401, i7))) 11 this 4) + (1 : Int32)), vr (some (401, i8)), vr (some (11, this))]) (M1 := (sR M6 11 this 0 (some (401, i7)))) (pc' := 124) (tb_Model hγ) [.aload_n 0, .getfield 32, .iconst 1, .iadd] (by decide +kernel) rfl rfl trivial ?_
      refine E_callS (κ' := k_Model_roomy) (As := [vr (some (401, i8)), vi ((mI (sR M6 11 this 0 (some (401, i7))) 11 this 4) + (1 : Int32))]) (st := [vr (some (11, this))]) ms_Model_roomy (Or.inl (tbk_mem (j := 11) (k := 61) rfl)) rfl (by decide +kernel) (Nat.le_of_ble_eq_true rfl) (Nat.le_of_ble_eq_true rfl) rfl (by decide) (lk_Model_roomy hγ i8 ((mI (sR M6 11 this 0 (some (401, i7))) 11 this 4) + (1 : Int32)) _ (sR M6 11 this 0 (some (401, i7))) h) (fun _ _ => Qr_r) (fun v M9 hp => Qr_k (R := fun st => E γ k_Model_nameIn 2 127 [some (vr (some (11, this))), some (vr (some (402, v1))), some (vi v2), some (vi v3), none, some (vi v5), some (vi v6)] st M9 (Qi Q)) hp (fun i10 h => ?_))
      refine E_blk (lv' := [some (vr (some (11, this))), some (vr (some (402, v1))), some (vi v2), some (vi v3), none, some (vi v5), some (vi v6)]) (st' := [vr (mR (sR M9 11 this 1 (some (401, i10))) 11 this 2), vr (some (11, this))]) (M1 := (sR M9 11 this 1 (some (401, i10)))) (pc' := 135) (tb_Model hγ) [.putfield 40, .aload_n 0, .aload_n 0, .getfield 25] (by decide +kernel) rfl rfl trivial ?_
      obtain ⟨i11, ei11, h⟩ := h
      rw [ei11]
      refine E_blk (lv' := [some (vr (some (11, this))), some (vr (some (402, v1))), some (vi v2), some (vi v3), none, some (vi v5), some (vi v6)]) (st' := [vi ((mI (sR M9 11 this 1 (some (401, i10))) 11 this 4) + (1 : Int32)), vr (some (300, i11)), vr (some (11, this))]) (M1 := (sR M9 11 this 1 (some (401, i10)))) (pc' := 141) (tb_Model hγ) [.aload_n 0, .getfield 32, .iconst 1, .iadd] (by decide +kernel) rfl rfl trivial ?_
      refine E_callS (κ' := k_Model_room) (As := [vr (some (300, i11)), vi ((mI (sR M9 11 this 1 (some (401, i10))) 11 this 4) + (1 : Int32))]) (st := [vr (some (11, this))]) ms_Model_room (Or.inl (tbk_mem (j := 11) (k := 66) rfl)) rfl (by decide +kernel) (Nat.le_of_ble_eq_true rfl) (Nat.le_of_ble_eq_true rfl) rfl (by decide) (lk_Model_room hγ i11 ((mI (sR M9 11 this 1 (some (401, i10))) 11 this 4) + (1 : Int32)) _ (sR M9 11 this 1 (some (401, i10))) h) (fun _ _ => Qr_r) (fun v M12 hp => Qr_k (R := fun st => E γ k_Model_nameIn 2 144 [some (vr (some (11, this))), some (vr (some (402, v1))), some (vi v2), some (vi v3), none, some (vi v5), some (vi v6)] st M12 (Qi Q)) hp (fun i13 h => ?_))
      refine E_blk (lv' := [some (vr (some (11, this))), some (vr (some (402, v1))), some (vi v2), some (vi v3), none, some (vi v5), some (vi (0 : Int32))]) (st' := []) (M1 := (sR M12 11 this 2 (some (300, i13)))) (pc' := 150) (tb_Model hγ) [.putfield 25, .iconst 0, .istore 6] (by decide +kernel) rfl rfl trivial ?_
      obtain ⟨n28, h⟩ := h
      refine E_mask [true, true, true, true, false, true, true] rfl ?_
      exact lk_Model_nameIn_L150 hγ this Q n28 v1 v2 v3 v5 (0 : Int32) (sR M12 11 this 2 (some (300, i13))) h
    · rw [if_neg b4] at h
      refine E_blk (lv' := [some (vr (some (11, this))), some (vr (some (402, v1))), some (vi v2), some (vi v3), none, some (vi v5), some (vi v6)]) (st' := [vi v3, vi v2, vr (some (402, v1)), vi (v6 - (1 : Int32)), vr (some (11, this))]) (M1 := M) (pc' := 68) (tb_Model hγ) [.aload_n 0, .iload 6, .iconst 1, .isub, .aload_n 1, .iload_n 2, .iload_n 3] (by decide +kernel) rfl rfl trivial ?_
      refine E_callV (κ' := k_Model_isName) (As := [vi (v6 - (1 : Int32)), vr (some (402, v1)), vi v2, vi v3]) (st := []) mv_Model_isName (Or.inl (tbk_mem (j := 11) (k := 57) rfl)) rfl (by decide +kernel) (Nat.le_of_ble_eq_true rfl) (Nat.le_of_ble_eq_true rfl) rfl (by decide) (lk_Model_isName hγ this (v6 - (1 : Int32)) v1 v2 v3 _ M h) (fun _ _ => Qi_r) (fun v M29 hp => Qi_k (R := fun st => E γ k_Model_nameIn 2 71 [some (vr (some (11, this))), some (vr (some (402, v1))), some (vi v2), some (vi v3), none, some (vi v5), some (vi v6)] st M29 (Qi Q)) hp (fun r30 h => ?_))
      refine E_if_eq (off := 8) (tgt := 79) (by decide +kernel) (by decide) (fun b31 => ?_) (fun b31 => ?_)
      · rw [if_pos b31] at h
        refine E_blk (lv' := [some (vr (some (11, this))), some (vr (some (402, v1))), some (vi v2), some (vi v3), none, some (vi v5), some (vi v6)]) (st' := [vr (mR M29 11 this 2)]) (M1 := M29) (pc' := 83) (tb_Model hγ) [.aload_n 0, .getfield 25] (by decide +kernel) rfl rfl trivial ?_
        obtain ⟨i32, ei32, h⟩ := h
        rw [ei32]
        obtain ⟨c33, h⟩ := h
        refine E_blk (lv' := [some (vr (some (11, this))), some (vr (some (402, v1))), some (vi v2), some (vi v3), none, some (vi v5), some (vi (mI M29 300 i32 (v6 - (1 : Int32)).toNatClampNeg))]) (st' := []) (M1 := M29) (pc' := 90) (tb_Model hγ) [.iload 6, .iconst 1, .isub, .iaload, .istore 6] (by decide +kernel) rfl rfl ⟨c33, trivial⟩ ?_
        refine E_goto (off := -35) (tgt := 55) (by decide +kernel) (by decide) ?_
        refine E_mask [true, true, true, true, false, true, true] rfl ?_
        exact ih v1 v2 v3 v5 (mI M29 300 i32 (v6 - (1 : Int32)).toNatClampNeg) M29 h
      · rw [if_neg b31] at h
        refine E_blk (lv' := [some (vr (some (11, this))), some (vr (some (402, v1))), some (vi v2), some (vi v3), none, some (vi v5), some (vi v6)]) (st' := [vi (v6 - (1 : Int32))]) (M1 := M29) (pc' := 78) (tb_Model hγ) [.iload 6, .iconst 1, .isub] (by decide +kernel) rfl rfl trivial ?_
        exact E_iret rfl (by decide +kernel) h
set_option maxRecDepth 4096 in
theorem lk_Model_nameIn_L6 {γ : Gm} (hγ : Gk γ) (this : Nat) (Q : Int32 → Mem → Prop) : ∀ (n : Nat) (v1 : Nat) (v2 : Int32) (v3 : Int32) (v4 : Int32) (v5 : Int32) (M : Mem), w_Model_nameIn_L6 this Q n v1 v2 v3 v4 v5 M → E γ k_Model_nameIn 2 6 [some (vr (some (11, this))), some (vr (some (402, v1))), some (vi v2), some (vi v3), some (vi v4), some (vi v5), none] [] M (Qi Q) := by
  intro n
  induction n with
  | zero => intro v1 v2 v3 v4 v5 M h; exact h.elim
  | succ n ih =>
    intro v1 v2 v3 v4 v5 M h
    unfold w_Model_nameIn_L6 at h
    refine E_blk (lv' := [some (vr (some (11, this))), some (vr (some (402, v1))), some (vi v2), some (vi v3), some (vi v4), some (vi v5), none]) (st' := [vi v3, vi v5]) (M1 := M) (pc' := 9) (tb_Model hγ) [.iload 5, .iload_n 3] (by decide +kernel) rfl rfl trivial ?_
    refine E_icmp_ge (off := 23) (tgt := 32) (by decide +kernel) (by decide) (fun b1 => ?_) (fun b1 => ?_)
    · rw [if_pos b1] at h
      refine E_blk (lv' := [some (vr (some (11, this))), some (vr (some (402, v1))), some (vi v2), some (vi v3), some (vi v4), some (vi ((v4 ^^^ (v4.toUInt32 >>> ((13 : Int32).toUInt32 &&& Int32.toUInt32 31)).toInt32) &&& (4095 : Int32))), none]) (st' := []) (M1 := M) (pc' := 46) (tb_Model hγ) [.iload 4, .iload 4, .bipush 13, .iushr, .ixor, .sipush 4095, .iand, .istore 5] (by decide +kernel) rfl rfl trivial ?_
      obtain ⟨x2, ex2, h⟩ := h
      rw [← ex2]
      obtain ⟨c3, h⟩ := h
      refine E_blk (lv' := [some (vr (some (11, this))), some (vr (some (402, v1))), some (vi v2), some (vi v3), some (vi v4), some (vi x2), some (vi (mI M 105 this x2.toNatClampNeg))]) (st' := []) (M1 := M) (pc' := 55) (tb_Model hγ) [.aload_n 0, .getfield 17, .iload 5, .iaload, .istore 6] (by decide +kernel) rfl rfl ⟨c3, trivial⟩ ?_
      obtain ⟨n34, h⟩ := h
      refine E_mask [true, true, true, true, false, true, true] rfl ?_
      exact lk_Model_nameIn_L55 hγ this Q n34 v1 v2 v3 x2 (mI M 105 this x2.toNatClampNeg) M h
    · rw [if_neg b1] at h
      obtain ⟨c35, h⟩ := h
      refine E_blk (lv' := [some (vr (some (11, this))), some (vr (some (402, v1))), some (vi v2), some (vi v3), some (vi (((31 : Int32) * v4) + (mI M 402 v1 (v2 + v5).toNatClampNeg))), some (vi v5), none]) (st' := []) (M1 := M) (pc' := 26) (tb_Model hγ) [.bipush 31, .iload 4, .imul, .aload_n 1, .iload_n 2, .iload 5, .iadd, .baload, .iadd, .istore 4] (by decide +kernel) rfl rfl ⟨c35, trivial⟩ ?_
      obtain ⟨x36, ex36, h⟩ := h
      rw [← ex36]
      refine E_blk (lv' := [some (vr (some (11, this))), some (vr (some (402, v1))), some (vi v2), some (vi v3), some (vi x36), some (vi (v5 + (1 : Int32))), none]) (st' := []) (M1 := M) (pc' := 29) (tb_Model hγ) [.iinc 5 1] (by decide +kernel) rfl rfl trivial ?_
      refine E_goto (off := -23) (tgt := 6) (by decide +kernel) (by decide) ?_
      refine E_mask [true, true, true, true, true, true, false] rfl ?_
      exact ih v1 v2 v3 x36 (v5 + (1 : Int32)) M h
set_option maxRecDepth 4096 in
theorem lk_Model_nameIn {γ : Gm} (hγ : Gk γ) (this : Nat) (a1 : Nat) (a2 : Int32) (a3 : Int32) (Q : Int32 → Mem → Prop) (M : Mem) (h : w_Model_nameIn this a1 a2 a3 Q M) : E γ k_Model_nameIn 2 0 [some (vr (some (11, this))), some (vr (some (402, a1))), some (vi a2), some (vi a3), none, none, none] [] M (Qi Q) := by
  unfold w_Model_nameIn at h
  refine E_blk (lv' := [some (vr (some (11, this))), some (vr (some (402, a1))), some (vi a2), some (vi a3), some (vi a3), some (vi (0 : Int32)), none]) (st' := []) (M1 := M) (pc' := 6) (tb_Model hγ) [.iload_n 3, .istore 4, .iconst 0, .istore 5] (by decide +kernel) rfl rfl trivial ?_
  obtain ⟨n37, h⟩ := h
  refine E_mask [true, true, true, true, true, true, false] rfl ?_
  exact lk_Model_nameIn_L6 hγ this Q n37 a1 a2 a3 a3 (0 : Int32) M h
set_option maxRecDepth 4096 in
theorem lk0_Model_nameIn_L150 {γ : Gm} (hγ : G0 γ) (this : Nat) (Q : Int32 → Mem → Prop) : ∀ (n : Nat) (v1 : Nat) (v2 : Int32) (v3 : Int32) (v5 : Int32) (v6 : Int32) (M : Mem), w_Model_nameIn_L150 this Q n v1 v2 v3 v5 v6 M → E γ k_Model_nameIn 2 150 [some (vr (some (11, this))), some (vr (some (402, v1))), some (vi v2), some (vi v3), none, some (vi v5), some (vi v6)] [] M (Qi Q) := by
  intro n
  induction n with
  | zero => intro v1 v2 v3 v5 v6 M h; exact h.elim
  | succ n ih =>
    intro v1 v2 v3 v5 v6 M h
    unfold w_Model_nameIn_L150 at h
    refine E_blk (lv' := [some (vr (some (11, this))), some (vr (some (402, v1))), some (vi v2), some (vi v3), none, some (vi v5), some (vi v6)]) (st' := [vi v3, vi v6]) (M1 := M) (pc' := 153) (tb0_Model hγ) [.iload 6, .iload_n 3] (by decide +kernel) rfl rfl trivial ?_
    refine E_icmp_ge (off := 30) (tgt := 183) (by decide +kernel) (by decide) (fun b14 => ?_) (fun b14 => ?_)
    · rw [if_pos b14] at h
      refine E_blk (lv' := [some (vr (some (11, this))), some (vr (some (402, v1))), some (vi v2), some (vi v3), none, some (vi v5), some (vi v6)]) (st' := [vr (mR M 11 this 1)]) (M1 := M) (pc' := 187) (tb0_Model hγ) [.aload_n 0, .getfield 40] (by decide +kernel) rfl rfl trivial ?_
      obtain ⟨i15, ei15, h⟩ := h
      rw [ei15]
      obtain ⟨c16, h⟩ := h
      refine E_blk (lv' := [some (vr (some (11, this))), some (vr (some (402, v1))), some (vi v2), some (vi v3), none, some (vi v5), some (vi v6)]) (st' := []) (M1 := (sI M 401 i15 (mI M 11 this 4).toNatClampNeg v3.toInt8.toInt32.toInt8.toInt32)) (pc' := 194) (tb0_Model hγ) [.aload_n 0, .getfield 32, .iload_n 3, .i2b, .bastore] (by decide +kernel) rfl rfl ⟨c16, trivial⟩ ?_
      obtain ⟨M17, eM17, h⟩ := h
      rw [← eM17]
      refine E_blk (lv' := [some (vr (some (11, this))), some (vr (some (402, v1))), some (vi v2), some (vi v3), none, some (vi v5), some (vi v6)]) (st' := [vr (mR M17 11 this 2)]) (M1 := M17) (pc' := 198) (tb0_Model hγ) [.aload_n 0, .getfield 25] (by decide +kernel) rfl rfl trivial ?_
      obtain ⟨i18, ei18, h⟩ := h
      rw [ei18]
      obtain ⟨c19, c20, h⟩ := h
      refine E_blk (lv' := [some (vr (some (11, this))), some (vr (some (402, v1))), some (vi v2), some (vi v3), none, some (vi v5), some (vi v6)]) (st' := []) (M1 := (sI M17 300 i18 (mI M17 11 this 4).toNatClampNeg (mI M17 105 this v5.toNatClampNeg))) (pc' := 210) (tb0_Model hγ) [.aload_n 0, .getfield 32, .aload_n 0, .getfield 17, .iload 5, .iaload, .iastore] (by decide +kernel) rfl rfl ⟨c19, c20, trivial⟩ ?_
      obtain ⟨M21, eM21, h⟩ := h
      rw [← eM21]
      obtain ⟨c22, h⟩ := h
      refine E_blk (lv' := [some (vr (some (11, this))), some (vr (some (402, v1))), some (vi v2), some (vi v3), none, some (vi v5), some (vi v6)]) (st' := []) (M1 := (sI (sI M21 11 this 4 ((mI M21 11 this 4) + (1 : Int32))) 105 this v5.toNatClampNeg (mI (sI M21 11 this 4 ((mI M21 11 this 4) + (1 : Int32))) 11 this 4))) (pc' := 231) (tb0_Model hγ) [.aload_n 0, .dup, .getfield 32, .iconst 1, .iadd, .putfield 32, .aload_n 0, .getfield 17, .iload 5, .aload_n 0, .getfield 32, .iastore] (by decide +kernel) rfl rfl ⟨c22, trivial⟩ ?_
      obtain ⟨M23, eM23, h⟩ := h
      rw [← eM23]
      refine E_blk (lv' := [some (vr (some (11, this))), some (vr (some (402, v1))), some (vi v2), some (vi v3), none, some (vi v5), some (vi v6)]) (st' := [vi ((mI M23 11 this 4) - (1 : Int32))]) (M1 := M23) (pc' := 237) (tb0_Model hγ) [.aload_n 0, .getfield 32, .iconst 1, .isub] (by decide +kernel) rfl rfl trivial ?_
      exact E_iret rfl (by decide +kernel) h
    · rw [if_neg b14] at h
      refine E_blk (lv' := [some (vr (some (11, this))), some (vr (some (402, v1))), some (vi v2), some (vi v3), none, some (vi v5), some (vi v6)]) (st' := [vr (mR M 11 this 0)]) (M1 := M) (pc' := 160) (tb0_Model hγ) [.aload_n 0, .getfield 28] (by decide +kernel) rfl rfl trivial ?_
      obtain ⟨i24, ei24, h⟩ := h
      rw [ei24]
      obtain ⟨c25, c26, h⟩ := h
      refine E_blk (lv' := [some (vr (some (11, this))), some (vr (some (402, v1))), some (vi v2), some (vi v3), none, some (vi v5), some (vi v6)]) (st' := []) (M1 := (sI M 401 i24 (((12 : Int32) * (mI M 11 this 4)) + v6).toNatClampNeg ((mI M 402 v1 (v2 + v6).toNatClampNeg).toInt8.toInt32))) (pc' := 177) (tb0_Model hγ) [.bipush 12, .aload_n 0, .getfield 32, .imul, .iload 6, .iadd, .aload_n 1, .iload_n 2, .iload 6, .iadd, .baload, .bastore] (by decide +kernel) rfl rfl ⟨c25, c26, trivial⟩ ?_
      obtain ⟨M27, eM27, h⟩ := h
      rw [← eM27]
      refine E_blk (lv' := [some (vr (some (11, this))), some (vr (some (402, v1))), some (vi v2), some (vi v3), none, some (vi v5), some (vi (v6 + (1 : Int32)))]) (st' := []) (M1 := M27) (pc' := 180) (tb0_Model hγ) [.iinc 6 1] (by decide +kernel) rfl rfl trivial ?_
      refine E_goto (off := -30) (tgt := 150) (by decide +kernel) (by decide) ?_
      refine E_mask [true, true, true, true, false, true, true] rfl ?_
      exact ih v1 v2 v3 v5 (v6 + (1 : Int32)) M27 h
set_option maxRecDepth 4096 in
theorem lk0_Model_nameIn_L55 {γ : Gm} (hγ : G0 γ) (this : Nat) (Q : Int32 → Mem → Prop) : ∀ (n : Nat) (v1 : Nat) (v2 : Int32) (v3 : Int32) (v5 : Int32) (v6 : Int32) (M : Mem), w_Model_nameIn_L55 this Q n v1 v2 v3 v5 v6 M → E γ k_Model_nameIn 2 55 [some (vr (some (11, this))), some (vr (some (402, v1))), some (vi v2), some (vi v3), none, some (vi v5), some (vi v6)] [] M (Qi Q) := by
  intro n
  induction n with
  | zero => intro v1 v2 v3 v5 v6 M h; exact h.elim
  | succ n ih =>
    intro v1 v2 v3 v5 v6 M h
    unfold w_Model_nameIn_L55 at h
    refine E_blk (lv' := [some (vr (some (11, this))), some (vr (some (402, v1))), some (vi v2), some (vi v3), none, some (vi v5), some (vi v6)]) (st' := [vi v6]) (M1 := M) (pc' := 57) (tb0_Model hγ) [.iload 6] (by decide +kernel) rfl rfl trivial ?_
    refine E_if_le (off := 36) (tgt := 93) (by decide +kernel) (by decide) (fun b4 => ?_) (fun b4 => ?_)
    · rw [if_pos b4] at h
      refine E_blk (lv' := [some (vr (some (11, this))), some (vr (some (402, v1))), some (vi v2), some (vi v3), none, some (vi v5), some (vi v6)]) (st' := [vr (mR M 11 this 0), vr (some (11, this))]) (M1 := M) (pc' := 98) (tb0_Model hγ) [.aload_n 0, .aload_n 0, .getfield 28] (by decide +kernel) rfl rfl trivial ?_
      obtain ⟨i5, ei5, h⟩ := h
      rw [ei5]
      refine E_blk (lv' := [some (vr (some (11, this))), some (vr (some (402, v1))), some (vi v2), some (vi v3), none, some (vi v5), some (vi v6)]) (st' := [vi ((12 : Int32) * ((mI M 11 this 4) + (1 : Int32))), vr (some (401, i5)), vr (some (11, this))]) (M1 := M) (pc' := 107) (tb0_Model hγ) [.bipush 12, .aload_n 0, .getfield 32, .iconst 1, .iadd, .imul] (by decide +kernel) rfl rfl trivial ?_
      refine E_callS (κ' := k_Model_roomy) (As := [vr (some (401, i5)), vi ((12 : Int32) * ((mI M 11 this 4) + (1 : Int32)))]) (st := [vr (some (11, this))]) ms_Model_roomy (Or.inl (tbk_mem (j := 11) (k := 61) rfl)) rfl (by decide +kernel) (Nat.le_of_ble_eq_true rfl) (Nat.le_of_ble_eq_true rfl) rfl (by decide) (lk0_Model_roomy hγ i5 ((12 : Int32) * ((mI M 11 this 4) + (1 : Int32))) _ M h) (fun _ _ => Qr_r) (fun v M6 hp => Qr_k (R := fun st => E γ k_Model_nameIn 2 110 [some (vr (some (11, this))), some (vr (some (402, v1))), some (vi v2), some (vi v3), none, some (vi v5), some (vi v6)] st M6 (Qi Q)) hp (fun i7 h => ?_))
      refine E_blk (lv' := [some (vr (some (11, this))), some (vr (some (402, v1))), some (vi v2), some (vi v3), none, some (vi v5), some (vi v6)]) (st' := [vr (mR (sR M6 11 this 0 (some (401, i7))) 11 this 1), vr (some (11, this))]) (M1 := (sR M6 11 this 0 (some (401, i7)))) (pc' := 118) (tb0_Model hγ) [.putfield 28, .aload_n 0, .aload_n 0, .getfield 40] (by decide +kernel) rfl rfl trivial ?_
      obtain ⟨i8, ei8, h⟩ := h
      rw [ei8]
      refine E_blk (lv' := [some (vr (some (11, this))), some (vr (some (402, v1))), some (vi v2), some (vi v3), none, some (vi v5), some (vi v6)]) (st' := [vi ((mI (sR M6 11 this 0 (some (401, i7))) 11 this 4) + (1 : Int32)), vr (some (401, i8)), vr (some (11, this))]) (M1 := (sR M6 11 this 0 (some (401, i7)))) (pc' := 124) (tb0_Model hγ) [.aload_n 0, .getfield 32, .iconst 1, .iadd] (by decide +kernel) rfl rfl trivial ?_
      refine E_callS (κ' := k_Model_roomy) (As := [vr (some (401, i8)), vi ((mI (sR M6 11 this 0 (some (401, i7))) 11 this 4) + (1 : Int32))]) (st := [vr (some (11, this))]) ms_Model_roomy (Or.inl (tbk_mem (j := 11) (k := 61) rfl)) rfl (by decide +kernel) (Nat.le_of_ble_eq_true rfl) (Nat.le_of_ble_eq_true rfl) rfl (by decide) (lk0_Model_roomy hγ i8 ((mI (sR M6 11 this 0 (some (401, i7))) 11 this 4) + (1 : Int32)) _ (sR M6 11 this 0 (some (401, i7))) h) (fun _ _ => Qr_r) (fun v M9 hp => Qr_k (R := fun st => E γ k_Model_nameIn 2 127 [some (vr (some (11, this))), some (vr (some (402, v1))), some (vi v2), some (vi v3), none, some (vi v5), some (vi v6)] st M9 (Qi Q)) hp (fun i10 h => ?_))
      refine E_blk (lv' := [some (vr (some (11, this))), some (vr (some (402, v1))), some (vi v2), some (vi v3), none, some (vi v5), some (vi v6)]) (st' := [vr (mR (sR M9 11 this 1 (some (401, i10))) 11 this 2), vr (some (11, this))]) (M1 := (sR M9 11 this 1 (some (401, i10)))) (pc' := 135) (tb0_Model hγ) [.putfield 40, .aload_n 0, .aload_n 0, .getfield 25] (by decide +kernel) rfl rfl trivial ?_
      obtain ⟨i11, ei11, h⟩ := h
      rw [ei11]
      refine E_blk (lv' := [some (vr (some (11, this))), some (vr (some (402, v1))), some (vi v2), some (vi v3), none, some (vi v5), some (vi v6)]) (st' := [vi ((mI (sR M9 11 this 1 (some (401, i10))) 11 this 4) + (1 : Int32)), vr (some (300, i11)), vr (some (11, this))]) (M1 := (sR M9 11 this 1 (some (401, i10)))) (pc' := 141) (tb0_Model hγ) [.aload_n 0, .getfield 32, .iconst 1, .iadd] (by decide +kernel) rfl rfl trivial ?_
      refine E_callS (κ' := k_Model_room) (As := [vr (some (300, i11)), vi ((mI (sR M9 11 this 1 (some (401, i10))) 11 this 4) + (1 : Int32))]) (st := [vr (some (11, this))]) ms_Model_room (Or.inl (tbk_mem (j := 11) (k := 66) rfl)) rfl (by decide +kernel) (Nat.le_of_ble_eq_true rfl) (Nat.le_of_ble_eq_true rfl) rfl (by decide) (lk0_Model_room hγ i11 ((mI (sR M9 11 this 1 (some (401, i10))) 11 this 4) + (1 : Int32)) _ (sR M9 11 this 1 (some (401, i10))) h) (fun _ _ => Qr_r) (fun v M12 hp => Qr_k (R := fun st => E γ k_Model_nameIn 2 144 [some (vr (some (11, this))), some (vr (some (402, v1))), some (vi v2), some (vi v3), none, some (vi v5), some (vi v6)] st M12 (Qi Q)) hp (fun i13 h => ?_))
      refine E_blk (lv' := [some (vr (some (11, this))), some (vr (some (402, v1))), some (vi v2), some (vi v3), none, some (vi v5), some (vi (0 : Int32))]) (st' := []) (M1 := (sR M12 11 this 2 (some (300, i13)))) (pc' := 150) (tb0_Model hγ) [.putfield 25, .iconst 0, .istore 6] (by decide +kernel) rfl rfl trivial ?_
      obtain ⟨n28, h⟩ := h
      refine E_mask [true, true, true, true, false, true, true] rfl ?_
      exact lk0_Model_nameIn_L150 hγ this Q n28 v1 v2 v3 v5 (0 : Int32) (sR M12 11 this 2 (some (300, i13))) h
    · rw [if_neg b4] at h
      refine E_blk (lv' := [some (vr (some (11, this))), some (vr (some (402, v1))), some (vi v2), some (vi v3), none, some (vi v5), some (vi v6)]) (st' := [vi v3, vi v2, vr (some (402, v1)), vi (v6 - (1 : Int32)), vr (some (11, this))]) (M1 := M) (pc' := 68) (tb0_Model hγ) [.aload_n 0, .iload 6, .iconst 1, .isub, .aload_n 1, .iload_n 2, .iload_n 3] (by decide +kernel) rfl rfl trivial ?_
      refine E_callV (κ' := k_Model_isName) (As := [vi (v6 - (1 : Int32)), vr (some (402, v1)), vi v2, vi v3]) (st := []) mv_Model_isName (Or.inl (tbk_mem (j := 11) (k := 57) rfl)) rfl (by decide +kernel) (Nat.le_of_ble_eq_true rfl) (Nat.le_of_ble_eq_true rfl) rfl (by decide) (lk0_Model_isName hγ this (v6 - (1 : Int32)) v1 v2 v3 _ M h) (fun _ _ => Qi_r) (fun v M29 hp => Qi_k (R := fun st => E γ k_Model_nameIn 2 71 [some (vr (some (11, this))), some (vr (some (402, v1))), some (vi v2), some (vi v3), none, some (vi v5), some (vi v6)] st M29 (Qi Q)) hp (fun r30 h => ?_))
      refine E_if_eq (off := 8) (tgt := 79) (by decide +kernel) (by decide) (fun b31 => ?_) (fun b31 => ?_)
      · rw [if_pos b31] at h
        refine E_blk (lv' := [some (vr (some (11, this))), some (vr (some (402, v1))), some (vi v2), some (vi v3), none, some (vi v5), some (vi v6)]) (st' := [vr (mR M29 11 this 2)]) (M1 := M29) (pc' := 83) (tb0_Model hγ) [.aload_n 0, .getfield 25] (by decide +kernel) rfl rfl trivial ?_
        obtain ⟨i32, ei32, h⟩ := h
        rw [ei32]
        obtain ⟨c33, h⟩ := h
        refine E_blk (lv' := [some (vr (some (11, this))), some (vr (some (402, v1))), some (vi v2), some (vi v3), none, some (vi v5), some (vi (mI M29 300 i32 (v6 - (1 : Int32)).toNatClampNeg))]) (st' := []) (M1 := M29) (pc' := 90) (tb0_Model hγ) [.iload 6, .iconst 1, .isub, .iaload, .istore 6] (by decide +kernel) rfl rfl ⟨c33, trivial⟩ ?_
        refine E_goto (off := -35) (tgt := 55) (by decide +kernel) (by decide) ?_
        refine E_mask [true, true, true, true, false, true, true] rfl ?_
        exact ih v1 v2 v3 v5 (mI M29 300 i32 (v6 - (1 : Int32)).toNatClampNeg) M29 h
      · rw [if_neg b31] at h
        refine E_blk (lv' := [some (vr (some (11, this))), some (vr (some (402, v1))), some (vi v2), some (vi v3), none, some (vi v5), some (vi v6)]) (st' := [vi (v6 - (1 : Int32))]) (M1 := M29) (pc' := 78) (tb0_Model hγ) [.iload 6, .iconst 1, .isub] (by decide +kernel) rfl rfl trivial ?_
        exact E_iret rfl (by decide +kernel) h
set_option maxRecDepth 4096 in
theorem lk0_Model_nameIn_L6 {γ : Gm} (hγ : G0 γ) (this : Nat) (Q : Int32 → Mem → Prop) : ∀ (n : Nat) (v1 : Nat) (v2 : Int32) (v3 : Int32) (v4 : Int32) (v5 : Int32) (M : Mem), w_Model_nameIn_L6 this Q n v1 v2 v3 v4 v5 M → E γ k_Model_nameIn 2 6 [some (vr (some (11, this))), some (vr (some (402, v1))), some (vi v2), some (vi v3), some (vi v4), some (vi v5), none] [] M (Qi Q) := by
  intro n
  induction n with
  | zero => intro v1 v2 v3 v4 v5 M h; exact h.elim
  | succ n ih =>
    intro v1 v2 v3 v4 v5 M h
    unfold w_Model_nameIn_L6 at h
    refine E_blk (lv' := [some (vr (some (11, this))), some (vr (some (402, v1))), some (vi v2), some (vi v3), some (vi v4), some (vi v5), none]) (st' := [vi v3, vi v5]) (M1 := M) (pc' := 9) (tb0_Model hγ) [.iload 5, .iload_n 3] (by decide +kernel) rfl rfl trivial ?_
    refine E_icmp_ge (off := 23) (tgt := 32) (by decide +kernel) (by decide) (fun b1 => ?_) (fun b1 => ?_)
    · rw [if_pos b1] at h
      refine E_blk (lv' := [some (vr (some (11, this))), some (vr (some (402, v1))), some (vi v2), some (vi v3), some (vi v4), some (vi ((v4 ^^^ (v4.toUInt32 >>> ((13 : Int32).toUInt32 &&& Int32.toUInt32 31)).toInt32) &&& (4095 : Int32))), none]) (st' := []) (M1 := M) (pc' := 46) (tb0_Model hγ) [.iload 4, .iload 4, .bipush 13, .iushr, .ixor, .sipush 4095, .iand, .istore 5] (by decide +kernel) rfl rfl trivial ?_
      obtain ⟨x2, ex2, h⟩ := h
      rw [← ex2]
      obtain ⟨c3, h⟩ := h
      refine E_blk (lv' := [some (vr (some (11, this))), some (vr (some (402, v1))), some (vi v2), some (vi v3), some (vi v4), some (vi x2), some (vi (mI M 105 this x2.toNatClampNeg))]) (st' := []) (M1 := M) (pc' := 55) (tb0_Model hγ) [.aload_n 0, .getfield 17, .iload 5, .iaload, .istore 6] (by decide +kernel) rfl rfl ⟨c3, trivial⟩ ?_
      obtain ⟨n34, h⟩ := h
      refine E_mask [true, true, true, true, false, true, true] rfl ?_
      exact lk0_Model_nameIn_L55 hγ this Q n34 v1 v2 v3 x2 (mI M 105 this x2.toNatClampNeg) M h
    · rw [if_neg b1] at h
      obtain ⟨c35, h⟩ := h
      refine E_blk (lv' := [some (vr (some (11, this))), some (vr (some (402, v1))), some (vi v2), some (vi v3), some (vi (((31 : Int32) * v4) + (mI M 402 v1 (v2 + v5).toNatClampNeg))), some (vi v5), none]) (st' := []) (M1 := M) (pc' := 26) (tb0_Model hγ) [.bipush 31, .iload 4, .imul, .aload_n 1, .iload_n 2, .iload 5, .iadd, .baload, .iadd, .istore 4] (by decide +kernel) rfl rfl ⟨c35, trivial⟩ ?_
      obtain ⟨x36, ex36, h⟩ := h
      rw [← ex36]
      refine E_blk (lv' := [some (vr (some (11, this))), some (vr (some (402, v1))), some (vi v2), some (vi v3), some (vi x36), some (vi (v5 + (1 : Int32))), none]) (st' := []) (M1 := M) (pc' := 29) (tb0_Model hγ) [.iinc 5 1] (by decide +kernel) rfl rfl trivial ?_
      refine E_goto (off := -23) (tgt := 6) (by decide +kernel) (by decide) ?_
      refine E_mask [true, true, true, true, true, true, false] rfl ?_
      exact ih v1 v2 v3 x36 (v5 + (1 : Int32)) M h
set_option maxRecDepth 4096 in
theorem lk0_Model_nameIn {γ : Gm} (hγ : G0 γ) (this : Nat) (a1 : Nat) (a2 : Int32) (a3 : Int32) (Q : Int32 → Mem → Prop) (M : Mem) (h : w_Model_nameIn this a1 a2 a3 Q M) : E γ k_Model_nameIn 2 0 [some (vr (some (11, this))), some (vr (some (402, a1))), some (vi a2), some (vi a3), none, none, none] [] M (Qi Q) := by
  unfold w_Model_nameIn at h
  refine E_blk (lv' := [some (vr (some (11, this))), some (vr (some (402, a1))), some (vi a2), some (vi a3), some (vi a3), some (vi (0 : Int32)), none]) (st' := []) (M1 := M) (pc' := 6) (tb0_Model hγ) [.iload_n 3, .istore 4, .iconst 0, .istore 5] (by decide +kernel) rfl rfl trivial ?_
  obtain ⟨n37, h⟩ := h
  refine E_mask [true, true, true, true, true, true, false] rfl ?_
  exact lk0_Model_nameIn_L6 hγ this Q n37 a1 a2 a3 a3 (0 : Int32) M h
def w_Model_key_L2 (this : Nat) (Q : Int32 → Mem → Prop) : Nat → Nat → Int32 → Mem → Prop
  | 0, _, _, _ => False
  | n + 1, v1, v2, M => v1 < nStr ∧ w_JString_length v1 (fun r2 M1 => if r2 ≤ v2 then (v1 < nStr ∧ w_JString_length v1 (fun r5 M4 => w_Model_nameIn this 0 (0 : Int32) r5 (fun r7 M6 => Q r7 M6) M4) M1) else (v1 < nStr ∧ w_JString_charAt v1 v2 (fun r10 M9 => vp_in v2 (mL M9 402 0) ∧ (w_Model_key_L2 this Q n) v1 (v2 + (1 : Int32)) (sI M9 402 0 v2.toNatClampNeg r10.toInt8.toInt32.toInt8.toInt32)) M1)) M
def w_Model_key (this : Nat) (a1 : Nat) (Q : Int32 → Mem → Prop) (M : Mem) : Prop :=
  ∃ n14 : Nat, w_Model_key_L2 this Q n14 a1 (0 : Int32) M
set_option maxRecDepth 4096 in
theorem lk_Model_key_L2 {γ : Gm} (hγ : Gk γ) (this : Nat) (Q : Int32 → Mem → Prop) : ∀ (n : Nat) (v1 : Nat) (v2 : Int32) (M : Mem), w_Model_key_L2 this Q n v1 v2 M → E γ k_Model_key 4 2 [some (vr (some (11, this))), some (vr (some (0, v1))), some (vi v2)] [] M (Qi Q) := by
  intro n
  induction n with
  | zero => intro v1 v2 M h; exact h.elim
  | succ n ih =>
    intro v1 v2 M h
    unfold w_Model_key_L2 at h
    refine E_blk (lv' := [some (vr (some (11, this))), some (vr (some (0, v1))), some (vi v2)]) (st' := [vr (some (0, v1)), vi v2]) (M1 := M) (pc' := 4) (tb_Model hγ) [.iload_n 2, .aload_n 1] (by decide +kernel) rfl rfl trivial ?_
    obtain ⟨c13, h⟩ := h
    refine E_callN (κ' := k_JString_length) (i := v1) (As := []) (st := [vi v2]) hγ.2.2.2 c13 mvs_JString_length (tbk_mem (j := 11) (k := 51) rfl) rfl (by decide +kernel) (Nat.le_of_ble_eq_true rfl) (Nat.le_of_ble_eq_true rfl) rfl (by decide) (lk_JString_length hγ v1 _ M h) (fun _ _ => Qi_r) (fun v M1 hp => Qi_k (R := fun st => E γ k_Model_key 4 7 [some (vr (some (11, this))), some (vr (some (0, v1))), some (vi v2)] st M1 (Qi Q)) hp (fun r2 h => ?_))
    refine E_icmp_ge (off := 21) (tgt := 28) (by decide +kernel) (by decide) (fun b3 => ?_) (fun b3 => ?_)
    · rw [if_pos b3] at h
      refine E_blk (lv' := [some (vr (some (11, this))), some (vr (some (0, v1))), some (vi v2)]) (st' := [vr (some (0, v1)), vi (0 : Int32), vr (some (402, 0)), vr (some (11, this))]) (M1 := M1) (pc' := 35) (tb_Model hγ) [.aload_n 0, .aload_n 0, .getfield 53, .iconst 0, .aload_n 1] (by decide +kernel) rfl rfl trivial ?_
      obtain ⟨c8, h⟩ := h
      refine E_callN (κ' := k_JString_length) (i := v1) (As := []) (st := [vi (0 : Int32), vr (some (402, 0)), vr (some (11, this))]) hγ.2.2.2 c8 mvs_JString_length (tbk_mem (j := 11) (k := 51) rfl) rfl (by decide +kernel) (Nat.le_of_ble_eq_true rfl) (Nat.le_of_ble_eq_true rfl) rfl (by decide) (lk_JString_length hγ v1 _ M1 h) (fun _ _ => Qi_r) (fun v M4 hp => Qi_k (R := fun st => E γ k_Model_key 4 38 [some (vr (some (11, this))), some (vr (some (0, v1))), some (vi v2)] st M4 (Qi Q)) hp (fun r5 h => ?_))
      refine E_callV (κ' := k_Model_nameIn) (As := [vr (some (402, 0)), vi (0 : Int32), vi r5]) (st := []) mv_Model_nameIn (Or.inl (tbk_mem (j := 11) (k := 53) rfl)) rfl (by decide +kernel) (Nat.le_of_ble_eq_true rfl) (Nat.le_of_ble_eq_true rfl) rfl (by decide) (lk_Model_nameIn hγ this 0 (0 : Int32) r5 _ M4 h) (fun _ _ => Qi_r) (fun v M6 hp => Qi_k (R := fun st => E γ k_Model_key 4 41 [some (vr (some (11, this))), some (vr (some (0, v1))), some (vi v2)] st M6 (Qi Q)) hp (fun r7 h => ?_))
      exact E_iret rfl (by decide +kernel) h
    · rw [if_neg b3] at h
      refine E_blk (lv' := [some (vr (some (11, this))), some (vr (some (0, v1))), some (vi v2)]) (st' := [vi v2, vr (some (0, v1)), vi v2, vr (some (402, 0))]) (M1 := M1) (pc' := 17) (tb_Model hγ) [.aload_n 0, .getfield 53, .iload_n 2, .aload_n 1, .iload_n 2] (by decide +kernel) rfl rfl trivial ?_
      obtain ⟨c12, h⟩ := h
      refine E_callN (κ' := k_JString_charAt) (i := v1) (As := [vi v2]) (st := [vi v2, vr (some (402, 0))]) hγ.2.2.2 c12 mvs_JString_charAt (tbk_mem (j := 11) (k := 52) rfl) rfl (by decide +kernel) (Nat.le_of_ble_eq_true rfl) (Nat.le_of_ble_eq_true rfl) rfl (by decide) (lk_JString_charAt hγ v1 v2 _ M1 h) (fun _ _ => Qi_r) (fun v M9 hp => Qi_k (R := fun st => E γ k_Model_key 4 20 [some (vr (some (11, this))), some (vr (some (0, v1))), some (vi v2)] st M9 (Qi Q)) hp (fun r10 h => ?_))
      obtain ⟨c11, h⟩ := h
      refine E_blk (lv' := [some (vr (some (11, this))), some (vr (some (0, v1))), some (vi (v2 + (1 : Int32)))]) (st' := []) (M1 := (sI M9 402 0 v2.toNatClampNeg r10.toInt8.toInt32.toInt8.toInt32)) (pc' := 25) (tb_Model hγ) [.i2b, .bastore, .iinc 2 1] (by decide +kernel) rfl rfl ⟨c11, trivial⟩ ?_
      refine E_goto (off := -23) (tgt := 2) (by decide +kernel) (by decide) ?_
      refine E_mask [true, true, true] rfl ?_
      exact ih v1 (v2 + (1 : Int32)) (sI M9 402 0 v2.toNatClampNeg r10.toInt8.toInt32.toInt8.toInt32) h
set_option maxRecDepth 4096 in
theorem lk_Model_key {γ : Gm} (hγ : Gk γ) (this : Nat) (a1 : Nat) (Q : Int32 → Mem → Prop) (M : Mem) (h : w_Model_key this a1 Q M) : E γ k_Model_key 4 0 [some (vr (some (11, this))), some (vr (some (0, a1))), none] [] M (Qi Q) := by
  unfold w_Model_key at h
  refine E_blk (lv' := [some (vr (some (11, this))), some (vr (some (0, a1))), some (vi (0 : Int32))]) (st' := []) (M1 := M) (pc' := 2) (tb_Model hγ) [.iconst 0, .istore_n 2] (by decide +kernel) rfl rfl trivial ?_
  obtain ⟨n14, h⟩ := h
  refine E_mask [true, true, true] rfl ?_
  exact lk_Model_key_L2 hγ this Q n14 a1 (0 : Int32) M h
set_option maxRecDepth 4096 in
theorem lk0_Model_key_L2 {γ : Gm} (hγ : G0 γ) (this : Nat) (Q : Int32 → Mem → Prop) : ∀ (n : Nat) (v1 : Nat) (v2 : Int32) (M : Mem), w_Model_key_L2 this Q n v1 v2 M → E γ k_Model_key 4 2 [some (vr (some (11, this))), some (vr (some (0, v1))), some (vi v2)] [] M (Qi Q) := by
  intro n
  induction n with
  | zero => intro v1 v2 M h; exact h.elim
  | succ n ih =>
    intro v1 v2 M h
    unfold w_Model_key_L2 at h
    refine E_blk (lv' := [some (vr (some (11, this))), some (vr (some (0, v1))), some (vi v2)]) (st' := [vr (some (0, v1)), vi v2]) (M1 := M) (pc' := 4) (tb0_Model hγ) [.iload_n 2, .aload_n 1] (by decide +kernel) rfl rfl trivial ?_
    obtain ⟨c13, h⟩ := h
    refine E_callN (κ' := k_JString_length) (i := v1) (As := []) (st := [vi v2]) hγ.2.2.2 c13 mvs_JString_length (tbk_mem (j := 11) (k := 51) rfl) rfl (by decide +kernel) (Nat.le_of_ble_eq_true rfl) (Nat.le_of_ble_eq_true rfl) rfl (by decide) (lk0_JString_length hγ v1 _ M h) (fun _ _ => Qi_r) (fun v M1 hp => Qi_k (R := fun st => E γ k_Model_key 4 7 [some (vr (some (11, this))), some (vr (some (0, v1))), some (vi v2)] st M1 (Qi Q)) hp (fun r2 h => ?_))
    refine E_icmp_ge (off := 21) (tgt := 28) (by decide +kernel) (by decide) (fun b3 => ?_) (fun b3 => ?_)
    · rw [if_pos b3] at h
      refine E_blk (lv' := [some (vr (some (11, this))), some (vr (some (0, v1))), some (vi v2)]) (st' := [vr (some (0, v1)), vi (0 : Int32), vr (some (402, 0)), vr (some (11, this))]) (M1 := M1) (pc' := 35) (tb0_Model hγ) [.aload_n 0, .aload_n 0, .getfield 53, .iconst 0, .aload_n 1] (by decide +kernel) rfl rfl trivial ?_
      obtain ⟨c8, h⟩ := h
      refine E_callN (κ' := k_JString_length) (i := v1) (As := []) (st := [vi (0 : Int32), vr (some (402, 0)), vr (some (11, this))]) hγ.2.2.2 c8 mvs_JString_length (tbk_mem (j := 11) (k := 51) rfl) rfl (by decide +kernel) (Nat.le_of_ble_eq_true rfl) (Nat.le_of_ble_eq_true rfl) rfl (by decide) (lk0_JString_length hγ v1 _ M1 h) (fun _ _ => Qi_r) (fun v M4 hp => Qi_k (R := fun st => E γ k_Model_key 4 38 [some (vr (some (11, this))), some (vr (some (0, v1))), some (vi v2)] st M4 (Qi Q)) hp (fun r5 h => ?_))
      refine E_callV (κ' := k_Model_nameIn) (As := [vr (some (402, 0)), vi (0 : Int32), vi r5]) (st := []) mv_Model_nameIn (Or.inl (tbk_mem (j := 11) (k := 53) rfl)) rfl (by decide +kernel) (Nat.le_of_ble_eq_true rfl) (Nat.le_of_ble_eq_true rfl) rfl (by decide) (lk0_Model_nameIn hγ this 0 (0 : Int32) r5 _ M4 h) (fun _ _ => Qi_r) (fun v M6 hp => Qi_k (R := fun st => E γ k_Model_key 4 41 [some (vr (some (11, this))), some (vr (some (0, v1))), some (vi v2)] st M6 (Qi Q)) hp (fun r7 h => ?_))
      exact E_iret rfl (by decide +kernel) h
    · rw [if_neg b3] at h
      refine E_blk (lv' := [some (vr (some (11, this))), some (vr (some (0, v1))), some (vi v2)]) (st' := [vi v2, vr (some (0, v1)), vi v2, vr (some (402, 0))]) (M1 := M1) (pc' := 17) (tb0_Model hγ) [.aload_n 0, .getfield 53, .iload_n 2, .aload_n 1, .iload_n 2] (by decide +kernel) rfl rfl trivial ?_
      obtain ⟨c12, h⟩ := h
      refine E_callN (κ' := k_JString_charAt) (i := v1) (As := [vi v2]) (st := [vi v2, vr (some (402, 0))]) hγ.2.2.2 c12 mvs_JString_charAt (tbk_mem (j := 11) (k := 52) rfl) rfl (by decide +kernel) (Nat.le_of_ble_eq_true rfl) (Nat.le_of_ble_eq_true rfl) rfl (by decide) (lk0_JString_charAt hγ v1 v2 _ M1 h) (fun _ _ => Qi_r) (fun v M9 hp => Qi_k (R := fun st => E γ k_Model_key 4 20 [some (vr (some (11, this))), some (vr (some (0, v1))), some (vi v2)] st M9 (Qi Q)) hp (fun r10 h => ?_))
      obtain ⟨c11, h⟩ := h
      refine E_blk (lv' := [some (vr (some (11, this))), some (vr (some (0, v1))), some (vi (v2 + (1 : Int32)))]) (st' := []) (M1 := (sI M9 402 0 v2.toNatClampNeg r10.toInt8.toInt32.toInt8.toInt32)) (pc' := 25) (tb0_Model hγ) [.i2b, .bastore, .iinc 2 1] (by decide +kernel) rfl rfl ⟨c11, trivial⟩ ?_
      refine E_goto (off := -23) (tgt := 2) (by decide +kernel) (by decide) ?_
      refine E_mask [true, true, true] rfl ?_
      exact ih v1 (v2 + (1 : Int32)) (sI M9 402 0 v2.toNatClampNeg r10.toInt8.toInt32.toInt8.toInt32) h
set_option maxRecDepth 4096 in
theorem lk0_Model_key {γ : Gm} (hγ : G0 γ) (this : Nat) (a1 : Nat) (Q : Int32 → Mem → Prop) (M : Mem) (h : w_Model_key this a1 Q M) : E γ k_Model_key 4 0 [some (vr (some (11, this))), some (vr (some (0, a1))), none] [] M (Qi Q) := by
  unfold w_Model_key at h
  refine E_blk (lv' := [some (vr (some (11, this))), some (vr (some (0, a1))), some (vi (0 : Int32))]) (st' := []) (M1 := M) (pc' := 2) (tb0_Model hγ) [.iconst 0, .istore_n 2] (by decide +kernel) rfl rfl trivial ?_
  obtain ⟨n14, h⟩ := h
  refine E_mask [true, true, true] rfl ?_
  exact lk0_Model_key_L2 hγ this Q n14 a1 (0 : Int32) M h
def w_Model_keys_j71 (this : Nat) (Q : Int32 → Mem → Prop) (k7 : Nat → Int32 → Int32 → Int32 → Mem → Prop) (v1 : Nat) (v2 : Int32) (v3 : Int32) (v4 : Int32) (M : Mem) : Prop :=
  k7 v1 v2 v3 (v4 + (1 : Int32)) M
def w_Model_keys_j68 (this : Nat) (Q : Int32 → Mem → Prop) (k7 : Nat → Int32 → Int32 → Int32 → Mem → Prop) (v1 : Nat) (v4 : Int32) (s0 : Int32) (M : Mem) : Prop :=
  w_Model_keys_j71 this Q k7 v1 s0 (0 : Int32) v4 M
def w_Model_keys_L7 (this : Nat) (Q : Int32 → Mem → Prop) : Nat → Nat → Int32 → Int32 → Int32 → Mem → Prop
  | 0, _, _, _, _, _ => False
  | n + 1, v1, v2, v3, v4, M => v1 < nStr ∧ w_JString_length v1 (fun r2 M1 => if r2 ≤ v4 then (Q v2 M1) else (v1 < nStr ∧ w_JString_charAt v1 v4 (fun r5 M4 => if r5 = (32 : Int32) then (w_Model_nameIn this 0 (0 : Int32) v3 (fun r8 M7 => if 0 ≤ v2 then (w_Model_keys_j68 this Q (w_Model_keys_L7 this Q n) v1 v4 v2 M7) else (w_Model_keys_j68 this Q (w_Model_keys_L7 this Q n) v1 v4 r8 M7)) M4) else (vp_in v3 (mL M4 402 0) ∧ w_Model_keys_j71 this Q (w_Model_keys_L7 this Q n) v1 v2 (v3 + (1 : Int32)) v4 (sI M4 402 0 v3.toNatClampNeg r5.toInt8.toInt32.toInt8.toInt32))) M1)) M
def w_Model_keys (this : Nat) (a1 : Nat) (Q : Int32 → Mem → Prop) (M : Mem) : Prop :=
  ∃ n13 : Nat, w_Model_keys_L7 this Q n13 a1 (-1 : Int32) (0 : Int32) (0 : Int32) M
set_option maxRecDepth 4096 in
theorem lk_Model_keys_j71 {γ : Gm} (hγ : Gk γ) (this : Nat) (Q : Int32 → Mem → Prop) (k7 : Nat → Int32 → Int32 → Int32 → Mem → Prop) (hk7 : ∀ (v1 : Nat) (v2 : Int32) (v3 : Int32) (v4 : Int32) (M : Mem), k7 v1 v2 v3 v4 M → E γ k_Model_keys 4 7 [some (vr (some (11, this))), some (vr (some (0, v1))), some (vi v2), some (vi v3), some (vi v4), none, none] [] M (Qi Q)) (v1 : Nat) (v2 : Int32) (v3 : Int32) (v4 : Int32) (M : Mem) (h : w_Model_keys_j71 this Q k7 v1 v2 v3 v4 M) : E γ k_Model_keys 4 71 [some (vr (some (11, this))), some (vr (some (0, v1))), some (vi v2), some (vi v3), some (vi v4), none, none] [] M (Qi Q) := by
  unfold w_Model_keys_j71 at h
  refine E_blk (lv' := [some (vr (some (11, this))), some (vr (some (0, v1))), some (vi v2), some (vi v3), some (vi (v4 + (1 : Int32))), none, none]) (st' := []) (M1 := M) (pc' := 74) (tb_Model hγ) [.iinc 4 1] (by decide +kernel) rfl rfl trivial ?_
  refine E_goto (off := -67) (tgt := 7) (by decide +kernel) (by decide) ?_
  refine E_mask [true, true, true, true, true, false, false] rfl ?_
  exact hk7 v1 v2 v3 (v4 + (1 : Int32)) M h
set_option maxRecDepth 4096 in
theorem lk_Model_keys_j68 {γ : Gm} (hγ : Gk γ) (this : Nat) (Q : Int32 → Mem → Prop) (k7 : Nat → Int32 → Int32 → Int32 → Mem → Prop) (hk7 : ∀ (v1 : Nat) (v2 : Int32) (v3 : Int32) (v4 : Int32) (M : Mem), k7 v1 v2 v3 v4 M → E γ k_Model_keys 4 7 [some (vr (some (11, this))), some (vr (some (0, v1))), some (vi v2), some (vi v3), some (vi v4), none, none] [] M (Qi Q)) (v1 : Nat) (v4 : Int32) (s0 : Int32) (M : Mem) (h : w_Model_keys_j68 this Q k7 v1 v4 s0 M) : E γ k_Model_keys 4 68 [some (vr (some (11, this))), some (vr (some (0, v1))), none, none, some (vi v4), none, none] [vi s0] M (Qi Q) := by
  unfold w_Model_keys_j68 at h
  refine E_blk (lv' := [some (vr (some (11, this))), some (vr (some (0, v1))), some (vi s0), some (vi (0 : Int32)), some (vi v4), none, none]) (st' := []) (M1 := M) (pc' := 71) (tb_Model hγ) [.istore_n 2, .iconst 0, .istore_n 3] (by decide +kernel) rfl rfl trivial ?_
  refine E_mask [true, true, true, true, true, false, false] rfl ?_
  exact lk_Model_keys_j71 hγ this Q k7 hk7 v1 s0 (0 : Int32) v4 M h
set_option maxRecDepth 4096 in
theorem lk_Model_keys_L7 {γ : Gm} (hγ : Gk γ) (this : Nat) (Q : Int32 → Mem → Prop) : ∀ (n : Nat) (v1 : Nat) (v2 : Int32) (v3 : Int32) (v4 : Int32) (M : Mem), w_Model_keys_L7 this Q n v1 v2 v3 v4 M → E γ k_Model_keys 4 7 [some (vr (some (11, this))), some (vr (some (0, v1))), some (vi v2), some (vi v3), some (vi v4), none, none] [] M (Qi Q) := by
  intro n
  induction n with
  | zero => intro v1 v2 v3 v4 M h; exact h.elim
  | succ n ih =>
    intro v1 v2 v3 v4 M h
    unfold w_Model_keys_L7 at h
    refine E_blk (lv' := [some (vr (some (11, this))), some (vr (some (0, v1))), some (vi v2), some (vi v3), some (vi v4), none, none]) (st' := [vr (some (0, v1)), vi v4]) (M1 := M) (pc' := 10) (tb_Model hγ) [.iload 4, .aload_n 1] (by decide +kernel) rfl rfl trivial ?_
    obtain ⟨c12, h⟩ := h
    refine E_callN (κ' := k_JString_length) (i := v1) (As := []) (st := [vi v4]) hγ.2.2.2 c12 mvs_JString_length (tbk_mem (j := 11) (k := 51) rfl) rfl (by decide +kernel) (Nat.le_of_ble_eq_true rfl) (Nat.le_of_ble_eq_true rfl) rfl (by decide) (lk_JString_length hγ v1 _ M h) (fun _ _ => Qi_r) (fun v M1 hp => Qi_k (R := fun st => E γ k_Model_keys 4 13 [some (vr (some (11, this))), some (vr (some (0, v1))), some (vi v2), some (vi v3), some (vi v4), none, none] st M1 (Qi Q)) hp (fun r2 h => ?_))
    refine E_icmp_ge (off := 64) (tgt := 77) (by decide +kernel) (by decide) (fun b3 => ?_) (fun b3 => ?_)
    · rw [if_pos b3] at h
      refine E_blk (lv' := [some (vr (some (11, this))), some (vr (some (0, v1))), some (vi v2), some (vi v3), some (vi v4), none, none]) (st' := [vi v2]) (M1 := M1) (pc' := 78) (tb_Model hγ) [.iload_n 2] (by decide +kernel) rfl rfl trivial ?_
      exact E_iret rfl (by decide +kernel) h
    · rw [if_neg b3] at h
      refine E_blk (lv' := [some (vr (some (11, this))), some (vr (some (0, v1))), some (vi v2), some (vi v3), some (vi v4), none, none]) (st' := [vi v4, vr (some (0, v1))]) (M1 := M1) (pc' := 19) (tb_Model hγ) [.aload_n 1, .iload 4] (by decide +kernel) rfl rfl trivial ?_
      obtain ⟨c11, h⟩ := h
      refine E_callN (κ' := k_JString_charAt) (i := v1) (As := [vi v4]) (st := []) hγ.2.2.2 c11 mvs_JString_charAt (tbk_mem (j := 11) (k := 52) rfl) rfl (by decide +kernel) (Nat.le_of_ble_eq_true rfl) (Nat.le_of_ble_eq_true rfl) rfl (by decide) (lk_JString_charAt hγ v1 v4 _ M1 h) (fun _ _ => Qi_r) (fun v M4 hp => Qi_k (R := fun st => E γ k_Model_keys 4 22 [some (vr (some (11, this))), some (vr (some (0, v1))), some (vi v2), some (vi v3), some (vi v4), none, none] st M4 (Qi Q)) hp (fun r5 h => ?_))
      refine E_blk (lv' := [some (vr (some (11, this))), some (vr (some (0, v1))), some (vi v2), some (vi v3), some (vi v4), some (vi r5), none]) (st' := [vi (32 : Int32), vi r5]) (M1 := M4) (pc' := 28) (tb_Model hγ) [.istore 5, .iload 5, .bipush 32] (by decide +kernel) rfl rfl trivial ?_
      refine E_icmp_eq (off := 18) (tgt := 46) (by decide +kernel) (by decide) (fun b6 => ?_) (fun b6 => ?_)
      · rw [if_pos b6] at h
        refine E_blk (lv' := [some (vr (some (11, this))), some (vr (some (0, v1))), some (vi v2), some (vi v3), some (vi v4), some (vi r5), none]) (st' := [vi v3, vi (0 : Int32), vr (some (402, 0)), vr (some (11, this))]) (M1 := M4) (pc' := 53) (tb_Model hγ) [.aload_n 0, .aload_n 0, .getfield 53, .iconst 0, .iload_n 3] (by decide +kernel) rfl rfl trivial ?_
        refine E_callV (κ' := k_Model_nameIn) (As := [vr (some (402, 0)), vi (0 : Int32), vi v3]) (st := []) mv_Model_nameIn (Or.inl (tbk_mem (j := 11) (k := 53) rfl)) rfl (by decide +kernel) (Nat.le_of_ble_eq_true rfl) (Nat.le_of_ble_eq_true rfl) rfl (by decide) (lk_Model_nameIn hγ this 0 (0 : Int32) v3 _ M4 h) (fun _ _ => Qi_r) (fun v M7 hp => Qi_k (R := fun st => E γ k_Model_keys 4 56 [some (vr (some (11, this))), some (vr (some (0, v1))), some (vi v2), some (vi v3), some (vi v4), some (vi r5), none] st M7 (Qi Q)) hp (fun r8 h => ?_))
        refine E_blk (lv' := [some (vr (some (11, this))), some (vr (some (0, v1))), some (vi v2), some (vi v3), some (vi v4), some (vi r5), some (vi r8)]) (st' := [vi v2]) (M1 := M7) (pc' := 59) (tb_Model hγ) [.istore 6, .iload_n 2] (by decide +kernel) rfl rfl trivial ?_
        refine E_if_ge (off := 8) (tgt := 67) (by decide +kernel) (by decide) (fun b9 => ?_) (fun b9 => ?_)
        · rw [if_pos b9] at h
          refine E_blk (lv' := [some (vr (some (11, this))), some (vr (some (0, v1))), some (vi v2), some (vi v3), some (vi v4), some (vi r5), some (vi r8)]) (st' := [vi v2]) (M1 := M7) (pc' := 68) (tb_Model hγ) [.iload_n 2] (by decide +kernel) rfl rfl trivial ?_
          refine E_mask [true, true, false, false, true, false, false] rfl ?_
          exact lk_Model_keys_j68 hγ this Q (w_Model_keys_L7 this Q n) ih v1 v4 v2 M7 h
        · rw [if_neg b9] at h
          refine E_blk (lv' := [some (vr (some (11, this))), some (vr (some (0, v1))), some (vi v2), some (vi v3), some (vi v4), some (vi r5), some (vi r8)]) (st' := [vi r8]) (M1 := M7) (pc' := 64) (tb_Model hγ) [.iload 6] (by decide +kernel) rfl rfl trivial ?_
          refine E_goto (off := 4) (tgt := 68) (by decide +kernel) (by decide) ?_
          refine E_mask [true, true, false, false, true, false, false] rfl ?_
          exact lk_Model_keys_j68 hγ this Q (w_Model_keys_L7 this Q n) ih v1 v4 r8 M7 h
      · rw [if_neg b6] at h
        obtain ⟨c10, h⟩ := h
        refine E_blk (lv' := [some (vr (some (11, this))), some (vr (some (0, v1))), some (vi v2), some (vi (v3 + (1 : Int32))), some (vi v4), some (vi r5), none]) (st' := []) (M1 := (sI M4 402 0 v3.toNatClampNeg r5.toInt8.toInt32.toInt8.toInt32)) (pc' := 43) (tb_Model hγ) [.aload_n 0, .getfield 53, .iload_n 3, .iload 5, .i2b, .bastore, .iinc 3 1] (by decide +kernel) rfl rfl ⟨c10, trivial⟩ ?_
        refine E_goto (off := 28) (tgt := 71) (by decide +kernel) (by decide) ?_
        refine E_mask [true, true, true, true, true, false, false] rfl ?_
        exact lk_Model_keys_j71 hγ this Q (w_Model_keys_L7 this Q n) ih v1 v2 (v3 + (1 : Int32)) v4 (sI M4 402 0 v3.toNatClampNeg r5.toInt8.toInt32.toInt8.toInt32) h
set_option maxRecDepth 4096 in
theorem lk_Model_keys {γ : Gm} (hγ : Gk γ) (this : Nat) (a1 : Nat) (Q : Int32 → Mem → Prop) (M : Mem) (h : w_Model_keys this a1 Q M) : E γ k_Model_keys 4 0 [some (vr (some (11, this))), some (vr (some (0, a1))), none, none, none, none, none] [] M (Qi Q) := by
  unfold w_Model_keys at h
  refine E_blk (lv' := [some (vr (some (11, this))), some (vr (some (0, a1))), some (vi (-1 : Int32)), some (vi (0 : Int32)), some (vi (0 : Int32)), none, none]) (st' := []) (M1 := M) (pc' := 7) (tb_Model hγ) [.iconst (.negSucc 0), .istore_n 2, .iconst 0, .istore_n 3, .iconst 0, .istore 4] (by decide +kernel) rfl rfl trivial ?_
  obtain ⟨n13, h⟩ := h
  refine E_mask [true, true, true, true, true, false, false] rfl ?_
  exact lk_Model_keys_L7 hγ this Q n13 a1 (-1 : Int32) (0 : Int32) (0 : Int32) M h
set_option maxRecDepth 4096 in
theorem lk0_Model_keys_j71 {γ : Gm} (hγ : G0 γ) (this : Nat) (Q : Int32 → Mem → Prop) (k7 : Nat → Int32 → Int32 → Int32 → Mem → Prop) (hk7 : ∀ (v1 : Nat) (v2 : Int32) (v3 : Int32) (v4 : Int32) (M : Mem), k7 v1 v2 v3 v4 M → E γ k_Model_keys 4 7 [some (vr (some (11, this))), some (vr (some (0, v1))), some (vi v2), some (vi v3), some (vi v4), none, none] [] M (Qi Q)) (v1 : Nat) (v2 : Int32) (v3 : Int32) (v4 : Int32) (M : Mem) (h : w_Model_keys_j71 this Q k7 v1 v2 v3 v4 M) : E γ k_Model_keys 4 71 [some (vr (some (11, this))), some (vr (some (0, v1))), some (vi v2), some (vi v3), some (vi v4), none, none] [] M (Qi Q) := by
  unfold w_Model_keys_j71 at h
  refine E_blk (lv' := [some (vr (some (11, this))), some (vr (some (0, v1))), some (vi v2), some (vi v3), some (vi (v4 + (1 : Int32))), none, none]) (st' := []) (M1 := M) (pc' := 74) (tb0_Model hγ) [.iinc 4 1] (by decide +kernel) rfl rfl trivial ?_
  refine E_goto (off := -67) (tgt := 7) (by decide +kernel) (by decide) ?_
  refine E_mask [true, true, true, true, true, false, false] rfl ?_
  exact hk7 v1 v2 v3 (v4 + (1 : Int32)) M h
set_option maxRecDepth 4096 in
theorem lk0_Model_keys_j68 {γ : Gm} (hγ : G0 γ) (this : Nat) (Q : Int32 → Mem → Prop) (k7 : Nat → Int32 → Int32 → Int32 → Mem → Prop) (hk7 : ∀ (v1 : Nat) (v2 : Int32) (v3 : Int32) (v4 : Int32) (M : Mem), k7 v1 v2 v3 v4 M → E γ k_Model_keys 4 7 [some (vr (some (11, this))), some (vr (some (0, v1))), some (vi v2), some (vi v3), some (vi v4), none, none] [] M (Qi Q)) (v1 : Nat) (v4 : Int32) (s0 : Int32) (M : Mem) (h : w_Model_keys_j68 this Q k7 v1 v4 s0 M) : E γ k_Model_keys 4 68 [some (vr (some (11, this))), some (vr (some (0, v1))), none, none, some (vi v4), none, none] [vi s0] M (Qi Q) := by
  unfold w_Model_keys_j68 at h
  refine E_blk (lv' := [some (vr (some (11, this))), some (vr (some (0, v1))), some (vi s0), some (vi (0 : Int32)), some (vi v4), none, none]) (st' := []) (M1 := M) (pc' := 71) (tb0_Model hγ) [.istore_n 2, .iconst 0, .istore_n 3] (by decide +kernel) rfl rfl trivial ?_
  refine E_mask [true, true, true, true, true, false, false] rfl ?_
  exact lk0_Model_keys_j71 hγ this Q k7 hk7 v1 s0 (0 : Int32) v4 M h
set_option maxRecDepth 4096 in
theorem lk0_Model_keys_L7 {γ : Gm} (hγ : G0 γ) (this : Nat) (Q : Int32 → Mem → Prop) : ∀ (n : Nat) (v1 : Nat) (v2 : Int32) (v3 : Int32) (v4 : Int32) (M : Mem), w_Model_keys_L7 this Q n v1 v2 v3 v4 M → E γ k_Model_keys 4 7 [some (vr (some (11, this))), some (vr (some (0, v1))), some (vi v2), some (vi v3), some (vi v4), none, none] [] M (Qi Q) := by
  intro n
  induction n with
  | zero => intro v1 v2 v3 v4 M h; exact h.elim
  | succ n ih =>
    intro v1 v2 v3 v4 M h
    unfold w_Model_keys_L7 at h
    refine E_blk (lv' := [some (vr (some (11, this))), some (vr (some (0, v1))), some (vi v2), some (vi v3), some (vi v4), none, none]) (st' := [vr (some (0, v1)), vi v4]) (M1 := M) (pc' := 10) (tb0_Model hγ) [.iload 4, .aload_n 1] (by decide +kernel) rfl rfl trivial ?_
    obtain ⟨c12, h⟩ := h
    refine E_callN (κ' := k_JString_length) (i := v1) (As := []) (st := [vi v4]) hγ.2.2.2 c12 mvs_JString_length (tbk_mem (j := 11) (k := 51) rfl) rfl (by decide +kernel) (Nat.le_of_ble_eq_true rfl) (Nat.le_of_ble_eq_true rfl) rfl (by decide) (lk0_JString_length hγ v1 _ M h) (fun _ _ => Qi_r) (fun v M1 hp => Qi_k (R := fun st => E γ k_Model_keys 4 13 [some (vr (some (11, this))), some (vr (some (0, v1))), some (vi v2), some (vi v3), some (vi v4), none, none] st M1 (Qi Q)) hp (fun r2 h => ?_))
    refine E_icmp_ge (off := 64) (tgt := 77) (by decide +kernel) (by decide) (fun b3 => ?_) (fun b3 => ?_)
    · rw [if_pos b3] at h
      refine E_blk (lv' := [some (vr (some (11, this))), some (vr (some (0, v1))), some (vi v2), some (vi v3), some (vi v4), none, none]) (st' := [vi v2]) (M1 := M1) (pc' := 78) (tb0_Model hγ) [.iload_n 2] (by decide +kernel) rfl rfl trivial ?_
      exact E_iret rfl (by decide +kernel) h
    · rw [if_neg b3] at h
      refine E_blk (lv' := [some (vr (some (11, this))), some (vr (some (0, v1))), some (vi v2), some (vi v3), some (vi v4), none, none]) (st' := [vi v4, vr (some (0, v1))]) (M1 := M1) (pc' := 19) (tb0_Model hγ) [.aload_n 1, .iload 4] (by decide +kernel) rfl rfl trivial ?_
      obtain ⟨c11, h⟩ := h
      refine E_callN (κ' := k_JString_charAt) (i := v1) (As := [vi v4]) (st := []) hγ.2.2.2 c11 mvs_JString_charAt (tbk_mem (j := 11) (k := 52) rfl) rfl (by decide +kernel) (Nat.le_of_ble_eq_true rfl) (Nat.le_of_ble_eq_true rfl) rfl (by decide) (lk0_JString_charAt hγ v1 v4 _ M1 h) (fun _ _ => Qi_r) (fun v M4 hp => Qi_k (R := fun st => E γ k_Model_keys 4 22 [some (vr (some (11, this))), some (vr (some (0, v1))), some (vi v2), some (vi v3), some (vi v4), none, none] st M4 (Qi Q)) hp (fun r5 h => ?_))
      refine E_blk (lv' := [some (vr (some (11, this))), some (vr (some (0, v1))), some (vi v2), some (vi v3), some (vi v4), some (vi r5), none]) (st' := [vi (32 : Int32), vi r5]) (M1 := M4) (pc' := 28) (tb0_Model hγ) [.istore 5, .iload 5, .bipush 32] (by decide +kernel) rfl rfl trivial ?_
      refine E_icmp_eq (off := 18) (tgt := 46) (by decide +kernel) (by decide) (fun b6 => ?_) (fun b6 => ?_)
      · rw [if_pos b6] at h
        refine E_blk (lv' := [some (vr (some (11, this))), some (vr (some (0, v1))), some (vi v2), some (vi v3), some (vi v4), some (vi r5), none]) (st' := [vi v3, vi (0 : Int32), vr (some (402, 0)), vr (some (11, this))]) (M1 := M4) (pc' := 53) (tb0_Model hγ) [.aload_n 0, .aload_n 0, .getfield 53, .iconst 0, .iload_n 3] (by decide +kernel) rfl rfl trivial ?_
        refine E_callV (κ' := k_Model_nameIn) (As := [vr (some (402, 0)), vi (0 : Int32), vi v3]) (st := []) mv_Model_nameIn (Or.inl (tbk_mem (j := 11) (k := 53) rfl)) rfl (by decide +kernel) (Nat.le_of_ble_eq_true rfl) (Nat.le_of_ble_eq_true rfl) rfl (by decide) (lk0_Model_nameIn hγ this 0 (0 : Int32) v3 _ M4 h) (fun _ _ => Qi_r) (fun v M7 hp => Qi_k (R := fun st => E γ k_Model_keys 4 56 [some (vr (some (11, this))), some (vr (some (0, v1))), some (vi v2), some (vi v3), some (vi v4), some (vi r5), none] st M7 (Qi Q)) hp (fun r8 h => ?_))
        refine E_blk (lv' := [some (vr (some (11, this))), some (vr (some (0, v1))), some (vi v2), some (vi v3), some (vi v4), some (vi r5), some (vi r8)]) (st' := [vi v2]) (M1 := M7) (pc' := 59) (tb0_Model hγ) [.istore 6, .iload_n 2] (by decide +kernel) rfl rfl trivial ?_
        refine E_if_ge (off := 8) (tgt := 67) (by decide +kernel) (by decide) (fun b9 => ?_) (fun b9 => ?_)
        · rw [if_pos b9] at h
          refine E_blk (lv' := [some (vr (some (11, this))), some (vr (some (0, v1))), some (vi v2), some (vi v3), some (vi v4), some (vi r5), some (vi r8)]) (st' := [vi v2]) (M1 := M7) (pc' := 68) (tb0_Model hγ) [.iload_n 2] (by decide +kernel) rfl rfl trivial ?_
          refine E_mask [true, true, false, false, true, false, false] rfl ?_
          exact lk0_Model_keys_j68 hγ this Q (w_Model_keys_L7 this Q n) ih v1 v4 v2 M7 h
        · rw [if_neg b9] at h
          refine E_blk (lv' := [some (vr (some (11, this))), some (vr (some (0, v1))), some (vi v2), some (vi v3), some (vi v4), some (vi r5), some (vi r8)]) (st' := [vi r8]) (M1 := M7) (pc' := 64) (tb0_Model hγ) [.iload 6] (by decide +kernel) rfl rfl trivial ?_
          refine E_goto (off := 4) (tgt := 68) (by decide +kernel) (by decide) ?_
          refine E_mask [true, true, false, false, true, false, false] rfl ?_
          exact lk0_Model_keys_j68 hγ this Q (w_Model_keys_L7 this Q n) ih v1 v4 r8 M7 h
      · rw [if_neg b6] at h
        obtain ⟨c10, h⟩ := h
        refine E_blk (lv' := [some (vr (some (11, this))), some (vr (some (0, v1))), some (vi v2), some (vi (v3 + (1 : Int32))), some (vi v4), some (vi r5), none]) (st' := []) (M1 := (sI M4 402 0 v3.toNatClampNeg r5.toInt8.toInt32.toInt8.toInt32)) (pc' := 43) (tb0_Model hγ) [.aload_n 0, .getfield 53, .iload_n 3, .iload 5, .i2b, .bastore, .iinc 3 1] (by decide +kernel) rfl rfl ⟨c10, trivial⟩ ?_
        refine E_goto (off := 28) (tgt := 71) (by decide +kernel) (by decide) ?_
        refine E_mask [true, true, true, true, true, false, false] rfl ?_
        exact lk0_Model_keys_j71 hγ this Q (w_Model_keys_L7 this Q n) ih v1 v2 (v3 + (1 : Int32)) v4 (sI M4 402 0 v3.toNatClampNeg r5.toInt8.toInt32.toInt8.toInt32) h
set_option maxRecDepth 4096 in
theorem lk0_Model_keys {γ : Gm} (hγ : G0 γ) (this : Nat) (a1 : Nat) (Q : Int32 → Mem → Prop) (M : Mem) (h : w_Model_keys this a1 Q M) : E γ k_Model_keys 4 0 [some (vr (some (11, this))), some (vr (some (0, a1))), none, none, none, none, none] [] M (Qi Q) := by
  unfold w_Model_keys at h
  refine E_blk (lv' := [some (vr (some (11, this))), some (vr (some (0, a1))), some (vi (-1 : Int32)), some (vi (0 : Int32)), some (vi (0 : Int32)), none, none]) (st' := []) (M1 := M) (pc' := 7) (tb0_Model hγ) [.iconst (.negSucc 0), .istore_n 2, .iconst 0, .istore_n 3, .iconst 0, .istore 4] (by decide +kernel) rfl rfl trivial ?_
  obtain ⟨n13, h⟩ := h
  refine E_mask [true, true, true, true, true, false, false] rfl ?_
  exact lk0_Model_keys_L7 hγ this Q n13 a1 (-1 : Int32) (0 : Int32) (0 : Int32) M h
def w_Model_isSignature_j68 (this : Nat) (Q : Int32 → Mem → Prop) (k31 : Int32 → Nat → Int32 → Int32 → Int32 → Mem → Prop) (v1 : Int32) (v2 : Nat) (v3 : Int32) (v6 : Int32) (s0 : Int32) (M : Mem) : Prop :=
  k31 v1 v2 v3 s0 (v6 + (1 : Int32)) M
def w_Model_isSignature_L31 (this : Nat) (Q : Int32 → Mem → Prop) : Nat → Int32 → Nat → Int32 → Int32 → Int32 → Mem → Prop
  | 0, _, _, _, _, _, _ => False
  | n + 1, v1, v2, v3, v5, v6, M => if v3 ≤ v6 then ((v5 = 0 ∨ v5 = 1) ∧ Q v5 M) else (if v5 = 0 then ((v5 = 0 ∨ v5 = 1) ∧ Q v5 M) else (∃ i9, (mR M 11 this 35) = some (300, i9) ∧ ∃ i10, (mR M 11 this 30) = some (300, i10) ∧ vp_in v1 (mL M 300 i10) ∧ vp_in ((mI M 300 i10 v1.toNatClampNeg) + v6) (mL M 300 i9) ∧ vp_in v6 (mL M 300 v2) ∧ if (mI M 300 i9 ((mI M 300 i10 v1.toNatClampNeg) + v6).toNatClampNeg) = (mI M 300 v2 v6.toNatClampNeg) then (w_Model_isSignature_j68 this Q (w_Model_isSignature_L31 this Q n) v1 v2 v3 v6 (1 : Int32) M) else (w_Model_isSignature_j68 this Q (w_Model_isSignature_L31 this Q n) v1 v2 v3 v6 (0 : Int32) M)))
def w_Model_isSignature_j26 (this : Nat) (Q : Int32 → Mem → Prop) (v1 : Int32) (v2 : Nat) (v3 : Int32) (s0 : Int32) (M : Mem) : Prop :=
  ∃ n15 : Nat, w_Model_isSignature_L31 this Q n15 v1 v2 v3 s0 (0 : Int32) M
def w_Model_isSignature_j25 (this : Nat) (Q : Int32 → Mem → Prop) (v1 : Int32) (v2 : Nat) (v3 : Int32) (M : Mem) : Prop :=
  w_Model_isSignature_j26 this Q v1 v2 v3 (0 : Int32) M
def w_Model_isSignature (this : Nat) (a1 : Int32) (a2 : Nat) (a3 : Int32) (a4 : Int32) (Q : Int32 → Mem → Prop) (M : Mem) : Prop :=
  ∃ i1, (mR M 11 this 31) = some (300, i1) ∧ vp_in a1 (mL M 300 i1) ∧ if (mI M 300 i1 a1.toNatClampNeg) = a3 then (∃ i4, (mR M 11 this 32) = some (300, i4) ∧ vp_in a1 (mL M 300 i4) ∧ if (mI M 300 i4 a1.toNatClampNeg) = a4 then (w_Model_isSignature_j26 this Q a1 a2 a3 (1 : Int32) M) else (w_Model_isSignature_j25 this Q a1 a2 a3 M)) else (w_Model_isSignature_j25 this Q a1 a2 a3 M)
set_option maxRecDepth 4096 in
theorem lk_Model_isSignature_j68 {γ : Gm} (hγ : Gk γ) (this : Nat) (Q : Int32 → Mem → Prop) (k31 : Int32 → Nat → Int32 → Int32 → Int32 → Mem → Prop) (hk31 : ∀ (v1 : Int32) (v2 : Nat) (v3 : Int32) (v5 : Int32) (v6 : Int32) (M : Mem), k31 v1 v2 v3 v5 v6 M → E γ k_Model_isSignature 0 31 [some (vr (some (11, this))), some (vi v1), some (vr (some (300, v2))), some (vi v3), none, some (vi v5), some (vi v6)] [] M (Qi Q)) (v1 : Int32) (v2 : Nat) (v3 : Int32) (v6 : Int32) (s0 : Int32) (M : Mem) (h : w_Model_isSignature_j68 this Q k31 v1 v2 v3 v6 s0 M) : E γ k_Model_isSignature 0 68 [some (vr (some (11, this))), some (vi v1), some (vr (some (300, v2))), some (vi v3), none, none, some (vi v6)] [vi s0] M (Qi Q) := by
  unfold w_Model_isSignature_j68 at h
  refine E_blk (lv' := [some (vr (some (11, this))), some (vi v1), some (vr (some (300, v2))), some (vi v3), none, some (vi s0), some (vi (v6 + (1 : Int32)))]) (st' := []) (M1 := M) (pc' := 73) (tb_Model hγ) [.istore 5, .iinc 6 1] (by decide +kernel) rfl rfl trivial ?_
  refine E_goto (off := -42) (tgt := 31) (by decide +kernel) (by decide) ?_
  refine E_mask [true, true, true, true, false, true, true] rfl ?_
  exact hk31 v1 v2 v3 s0 (v6 + (1 : Int32)) M h
set_option maxRecDepth 4096 in
theorem lk_Model_isSignature_L31 {γ : Gm} (hγ : Gk γ) (this : Nat) (Q : Int32 → Mem → Prop) : ∀ (n : Nat) (v1 : Int32) (v2 : Nat) (v3 : Int32) (v5 : Int32) (v6 : Int32) (M : Mem), w_Model_isSignature_L31 this Q n v1 v2 v3 v5 v6 M → E γ k_Model_isSignature 0 31 [some (vr (some (11, this))), some (vi v1), some (vr (some (300, v2))), some (vi v3), none, some (vi v5), some (vi v6)] [] M (Qi Q) := by
  intro n
  induction n with
  | zero => intro v1 v2 v3 v5 v6 M h; exact h.elim
  | succ n ih =>
    intro v1 v2 v3 v5 v6 M h
    unfold w_Model_isSignature_L31 at h
    refine E_blk (lv' := [some (vr (some (11, this))), some (vi v1), some (vr (some (300, v2))), some (vi v3), none, some (vi v5), some (vi v6)]) (st' := [vi v3, vi v6]) (M1 := M) (pc' := 34) (tb_Model hγ) [.iload 6, .iload_n 3] (by decide +kernel) rfl rfl trivial ?_
    refine E_icmp_ge (off := 42) (tgt := 76) (by decide +kernel) (by decide) (fun b7 => ?_) (fun b7 => ?_)
    · rw [if_pos b7] at h
      refine E_blk (lv' := [some (vr (some (11, this))), some (vi v1), some (vr (some (300, v2))), some (vi v3), none, some (vi v5), some (vi v6)]) (st' := [vi v5]) (M1 := M) (pc' := 78) (tb_Model hγ) [.iload 5] (by decide +kernel) rfl rfl trivial ?_
      exact E_zret rfl h.1 (by decide +kernel) h.2
    · rw [if_neg b7] at h
      refine E_blk (lv' := [some (vr (some (11, this))), some (vi v1), some (vr (some (300, v2))), some (vi v3), none, some (vi v5), some (vi v6)]) (st' := [vi v5]) (M1 := M) (pc' := 39) (tb_Model hγ) [.iload 5] (by decide +kernel) rfl rfl trivial ?_
      refine E_if_eq (off := 37) (tgt := 76) (by decide +kernel) (by decide) (fun b8 => ?_) (fun b8 => ?_)
      · rw [if_pos b8] at h
        refine E_blk (lv' := [some (vr (some (11, this))), some (vi v1), some (vr (some (300, v2))), some (vi v3), none, some (vi v5), some (vi v6)]) (st' := [vi v5]) (M1 := M) (pc' := 78) (tb_Model hγ) [.iload 5] (by decide +kernel) rfl rfl trivial ?_
        exact E_zret rfl h.1 (by decide +kernel) h.2
      · rw [if_neg b8] at h
        refine E_blk (lv' := [some (vr (some (11, this))), some (vi v1), some (vr (some (300, v2))), some (vi v3), none, some (vi v5), some (vi v6)]) (st' := [vr (mR M 11 this 35)]) (M1 := M) (pc' := 46) (tb_Model hγ) [.aload_n 0, .getfield 86] (by decide +kernel) rfl rfl trivial ?_
        obtain ⟨i9, ei9, h⟩ := h
        rw [ei9]
        refine E_blk (lv' := [some (vr (some (11, this))), some (vi v1), some (vr (some (300, v2))), some (vi v3), none, some (vi v5), some (vi v6)]) (st' := [vr (mR M 11 this 30), vr (some (300, i9))]) (M1 := M) (pc' := 50) (tb_Model hγ) [.aload_n 0, .getfield 74] (by decide +kernel) rfl rfl trivial ?_
        obtain ⟨i10, ei10, h⟩ := h
        rw [ei10]
        obtain ⟨c11, c12, c13, h⟩ := h
        refine E_blk (lv' := [some (vr (some (11, this))), some (vi v1), some (vr (some (300, v2))), some (vi v3), none, some (vi v5), some (vi v6)]) (st' := [vi (mI M 300 v2 v6.toNatClampNeg), vi (mI M 300 i9 ((mI M 300 i10 v1.toNatClampNeg) + v6).toNatClampNeg)]) (M1 := M) (pc' := 60) (tb_Model hγ) [.iload_n 1, .iaload, .iload 6, .iadd, .iaload, .aload_n 2, .iload 6, .iaload] (by decide +kernel) rfl rfl ⟨c11, c12, c13, trivial⟩ ?_
        refine E_icmp_ne (off := 7) (tgt := 67) (by decide +kernel) (by decide) (fun b14 => ?_) (fun b14 => ?_)
        · rw [if_pos b14] at h
          refine E_blk (lv' := [some (vr (some (11, this))), some (vi v1), some (vr (some (300, v2))), some (vi v3), none, some (vi v5), some (vi v6)]) (st' := [vi (1 : Int32)]) (M1 := M) (pc' := 64) (tb_Model hγ) [.iconst 1] (by decide +kernel) rfl rfl trivial ?_
          refine E_goto (off := 4) (tgt := 68) (by decide +kernel) (by decide) ?_
          refine E_mask [true, true, true, true, false, false, true] rfl ?_
          exact lk_Model_isSignature_j68 hγ this Q (w_Model_isSignature_L31 this Q n) ih v1 v2 v3 v6 (1 : Int32) M h
        · rw [if_neg b14] at h
          refine E_blk (lv' := [some (vr (some (11, this))), some (vi v1), some (vr (some (300, v2))), some (vi v3), none, some (vi v5), some (vi v6)]) (st' := [vi (0 : Int32)]) (M1 := M) (pc' := 68) (tb_Model hγ) [.iconst 0] (by decide +kernel) rfl rfl trivial ?_
          refine E_mask [true, true, true, true, false, false, true] rfl ?_
          exact lk_Model_isSignature_j68 hγ this Q (w_Model_isSignature_L31 this Q n) ih v1 v2 v3 v6 (0 : Int32) M h
set_option maxRecDepth 4096 in
theorem lk_Model_isSignature_j26 {γ : Gm} (hγ : Gk γ) (this : Nat) (Q : Int32 → Mem → Prop) (v1 : Int32) (v2 : Nat) (v3 : Int32) (s0 : Int32) (M : Mem) (h : w_Model_isSignature_j26 this Q v1 v2 v3 s0 M) : E γ k_Model_isSignature 0 26 [some (vr (some (11, this))), some (vi v1), some (vr (some (300, v2))), some (vi v3), none, none, none] [vi s0] M (Qi Q) := by
  unfold w_Model_isSignature_j26 at h
  refine E_blk (lv' := [some (vr (some (11, this))), some (vi v1), some (vr (some (300, v2))), some (vi v3), none, some (vi s0), some (vi (0 : Int32))]) (st' := []) (M1 := M) (pc' := 31) (tb_Model hγ) [.istore 5, .iconst 0, .istore 6] (by decide +kernel) rfl rfl trivial ?_
  obtain ⟨n15, h⟩ := h
  refine E_mask [true, true, true, true, false, true, true] rfl ?_
  exact lk_Model_isSignature_L31 hγ this Q n15 v1 v2 v3 s0 (0 : Int32) M h
set_option maxRecDepth 4096 in
theorem lk_Model_isSignature_j25 {γ : Gm} (hγ : Gk γ) (this : Nat) (Q : Int32 → Mem → Prop) (v1 : Int32) (v2 : Nat) (v3 : Int32) (M : Mem) (h : w_Model_isSignature_j25 this Q v1 v2 v3 M) : E γ k_Model_isSignature 0 25 [some (vr (some (11, this))), some (vi v1), some (vr (some (300, v2))), some (vi v3), none, none, none] [] M (Qi Q) := by
  unfold w_Model_isSignature_j25 at h
  refine E_blk (lv' := [some (vr (some (11, this))), some (vi v1), some (vr (some (300, v2))), some (vi v3), none, none, none]) (st' := [vi (0 : Int32)]) (M1 := M) (pc' := 26) (tb_Model hγ) [.iconst 0] (by decide +kernel) rfl rfl trivial ?_
  refine E_mask [true, true, true, true, false, false, false] rfl ?_
  exact lk_Model_isSignature_j26 hγ this Q v1 v2 v3 (0 : Int32) M h
set_option maxRecDepth 4096 in
theorem lk_Model_isSignature {γ : Gm} (hγ : Gk γ) (this : Nat) (a1 : Int32) (a2 : Nat) (a3 : Int32) (a4 : Int32) (Q : Int32 → Mem → Prop) (M : Mem) (h : w_Model_isSignature this a1 a2 a3 a4 Q M) : E γ k_Model_isSignature 0 0 [some (vr (some (11, this))), some (vi a1), some (vr (some (300, a2))), some (vi a3), some (vi a4), none, none] [] M (Qi Q) := by
  unfold w_Model_isSignature at h
  refine E_blk (lv' := [some (vr (some (11, this))), some (vi a1), some (vr (some (300, a2))), some (vi a3), some (vi a4), none, none]) (st' := [vr (mR M 11 this 31)]) (M1 := M) (pc' := 4) (tb_Model hγ) [.aload_n 0, .getfield 80] (by decide +kernel) rfl rfl trivial ?_
  obtain ⟨i1, ei1, h⟩ := h
  rw [ei1]
  obtain ⟨c2, h⟩ := h
  refine E_blk (lv' := [some (vr (some (11, this))), some (vi a1), some (vr (some (300, a2))), some (vi a3), some (vi a4), none, none]) (st' := [vi a3, vi (mI M 300 i1 a1.toNatClampNeg)]) (M1 := M) (pc' := 7) (tb_Model hγ) [.iload_n 1, .iaload, .iload_n 3] (by decide +kernel) rfl rfl ⟨c2, trivial⟩ ?_
  refine E_icmp_ne (off := 18) (tgt := 25) (by decide +kernel) (by decide) (fun b3 => ?_) (fun b3 => ?_)
  · rw [if_pos b3] at h
    refine E_blk (lv' := [some (vr (some (11, this))), some (vi a1), some (vr (some (300, a2))), some (vi a3), some (vi a4), none, none]) (st' := [vr (mR M 11 this 32)]) (M1 := M) (pc' := 14) (tb_Model hγ) [.aload_n 0, .getfield 83] (by decide +kernel) rfl rfl trivial ?_
    obtain ⟨i4, ei4, h⟩ := h
    rw [ei4]
    obtain ⟨c5, h⟩ := h
    refine E_blk (lv' := [some (vr (some (11, this))), some (vi a1), some (vr (some (300, a2))), some (vi a3), some (vi a4), none, none]) (st' := [vi a4, vi (mI M 300 i4 a1.toNatClampNeg)]) (M1 := M) (pc' := 18) (tb_Model hγ) [.iload_n 1, .iaload, .iload 4] (by decide +kernel) rfl rfl ⟨c5, trivial⟩ ?_
    refine E_icmp_ne (off := 7) (tgt := 25) (by decide +kernel) (by decide) (fun b6 => ?_) (fun b6 => ?_)
    · rw [if_pos b6] at h
      refine E_blk (lv' := [some (vr (some (11, this))), some (vi a1), some (vr (some (300, a2))), some (vi a3), some (vi a4), none, none]) (st' := [vi (1 : Int32)]) (M1 := M) (pc' := 22) (tb_Model hγ) [.iconst 1] (by decide +kernel) rfl rfl trivial ?_
      refine E_goto (off := 4) (tgt := 26) (by decide +kernel) (by decide) ?_
      refine E_mask [true, true, true, true, false, false, false] rfl ?_
      exact lk_Model_isSignature_j26 hγ this Q a1 a2 a3 (1 : Int32) M h
    · rw [if_neg b6] at h
      refine E_mask [true, true, true, true, false, false, false] rfl ?_
      exact lk_Model_isSignature_j25 hγ this Q a1 a2 a3 M h
  · rw [if_neg b3] at h
    refine E_mask [true, true, true, true, false, false, false] rfl ?_
    exact lk_Model_isSignature_j25 hγ this Q a1 a2 a3 M h
set_option maxRecDepth 4096 in
theorem lk1_Model_isSignature_j68 {γ : Gm} (hγ : G1 γ) (this : Nat) (Q : Int32 → Mem → Prop) (k31 : Int32 → Nat → Int32 → Int32 → Int32 → Mem → Prop) (hk31 : ∀ (v1 : Int32) (v2 : Nat) (v3 : Int32) (v5 : Int32) (v6 : Int32) (M : Mem), k31 v1 v2 v3 v5 v6 M → E γ k_Model_isSignature 0 31 [some (vr (some (11, this))), some (vi v1), some (vr (some (300, v2))), some (vi v3), none, some (vi v5), some (vi v6)] [] M (Qi Q)) (v1 : Int32) (v2 : Nat) (v3 : Int32) (v6 : Int32) (s0 : Int32) (M : Mem) (h : w_Model_isSignature_j68 this Q k31 v1 v2 v3 v6 s0 M) : E γ k_Model_isSignature 0 68 [some (vr (some (11, this))), some (vi v1), some (vr (some (300, v2))), some (vi v3), none, none, some (vi v6)] [vi s0] M (Qi Q) := by
  unfold w_Model_isSignature_j68 at h
  refine E_blk (lv' := [some (vr (some (11, this))), some (vi v1), some (vr (some (300, v2))), some (vi v3), none, some (vi s0), some (vi (v6 + (1 : Int32)))]) (st' := []) (M1 := M) (pc' := 73) (tb1_Model hγ) [.istore 5, .iinc 6 1] (by decide +kernel) rfl rfl trivial ?_
  refine E_goto (off := -42) (tgt := 31) (by decide +kernel) (by decide) ?_
  refine E_mask [true, true, true, true, false, true, true] rfl ?_
  exact hk31 v1 v2 v3 s0 (v6 + (1 : Int32)) M h
set_option maxRecDepth 4096 in
theorem lk1_Model_isSignature_L31 {γ : Gm} (hγ : G1 γ) (this : Nat) (Q : Int32 → Mem → Prop) : ∀ (n : Nat) (v1 : Int32) (v2 : Nat) (v3 : Int32) (v5 : Int32) (v6 : Int32) (M : Mem), w_Model_isSignature_L31 this Q n v1 v2 v3 v5 v6 M → E γ k_Model_isSignature 0 31 [some (vr (some (11, this))), some (vi v1), some (vr (some (300, v2))), some (vi v3), none, some (vi v5), some (vi v6)] [] M (Qi Q) := by
  intro n
  induction n with
  | zero => intro v1 v2 v3 v5 v6 M h; exact h.elim
  | succ n ih =>
    intro v1 v2 v3 v5 v6 M h
    unfold w_Model_isSignature_L31 at h
    refine E_blk (lv' := [some (vr (some (11, this))), some (vi v1), some (vr (some (300, v2))), some (vi v3), none, some (vi v5), some (vi v6)]) (st' := [vi v3, vi v6]) (M1 := M) (pc' := 34) (tb1_Model hγ) [.iload 6, .iload_n 3] (by decide +kernel) rfl rfl trivial ?_
    refine E_icmp_ge (off := 42) (tgt := 76) (by decide +kernel) (by decide) (fun b7 => ?_) (fun b7 => ?_)
    · rw [if_pos b7] at h
      refine E_blk (lv' := [some (vr (some (11, this))), some (vi v1), some (vr (some (300, v2))), some (vi v3), none, some (vi v5), some (vi v6)]) (st' := [vi v5]) (M1 := M) (pc' := 78) (tb1_Model hγ) [.iload 5] (by decide +kernel) rfl rfl trivial ?_
      exact E_zret rfl h.1 (by decide +kernel) h.2
    · rw [if_neg b7] at h
      refine E_blk (lv' := [some (vr (some (11, this))), some (vi v1), some (vr (some (300, v2))), some (vi v3), none, some (vi v5), some (vi v6)]) (st' := [vi v5]) (M1 := M) (pc' := 39) (tb1_Model hγ) [.iload 5] (by decide +kernel) rfl rfl trivial ?_
      refine E_if_eq (off := 37) (tgt := 76) (by decide +kernel) (by decide) (fun b8 => ?_) (fun b8 => ?_)
      · rw [if_pos b8] at h
        refine E_blk (lv' := [some (vr (some (11, this))), some (vi v1), some (vr (some (300, v2))), some (vi v3), none, some (vi v5), some (vi v6)]) (st' := [vi v5]) (M1 := M) (pc' := 78) (tb1_Model hγ) [.iload 5] (by decide +kernel) rfl rfl trivial ?_
        exact E_zret rfl h.1 (by decide +kernel) h.2
      · rw [if_neg b8] at h
        refine E_blk (lv' := [some (vr (some (11, this))), some (vi v1), some (vr (some (300, v2))), some (vi v3), none, some (vi v5), some (vi v6)]) (st' := [vr (mR M 11 this 35)]) (M1 := M) (pc' := 46) (tb1_Model hγ) [.aload_n 0, .getfield 86] (by decide +kernel) rfl rfl trivial ?_
        obtain ⟨i9, ei9, h⟩ := h
        rw [ei9]
        refine E_blk (lv' := [some (vr (some (11, this))), some (vi v1), some (vr (some (300, v2))), some (vi v3), none, some (vi v5), some (vi v6)]) (st' := [vr (mR M 11 this 30), vr (some (300, i9))]) (M1 := M) (pc' := 50) (tb1_Model hγ) [.aload_n 0, .getfield 74] (by decide +kernel) rfl rfl trivial ?_
        obtain ⟨i10, ei10, h⟩ := h
        rw [ei10]
        obtain ⟨c11, c12, c13, h⟩ := h
        refine E_blk (lv' := [some (vr (some (11, this))), some (vi v1), some (vr (some (300, v2))), some (vi v3), none, some (vi v5), some (vi v6)]) (st' := [vi (mI M 300 v2 v6.toNatClampNeg), vi (mI M 300 i9 ((mI M 300 i10 v1.toNatClampNeg) + v6).toNatClampNeg)]) (M1 := M) (pc' := 60) (tb1_Model hγ) [.iload_n 1, .iaload, .iload 6, .iadd, .iaload, .aload_n 2, .iload 6, .iaload] (by decide +kernel) rfl rfl ⟨c11, c12, c13, trivial⟩ ?_
        refine E_icmp_ne (off := 7) (tgt := 67) (by decide +kernel) (by decide) (fun b14 => ?_) (fun b14 => ?_)
        · rw [if_pos b14] at h
          refine E_blk (lv' := [some (vr (some (11, this))), some (vi v1), some (vr (some (300, v2))), some (vi v3), none, some (vi v5), some (vi v6)]) (st' := [vi (1 : Int32)]) (M1 := M) (pc' := 64) (tb1_Model hγ) [.iconst 1] (by decide +kernel) rfl rfl trivial ?_
          refine E_goto (off := 4) (tgt := 68) (by decide +kernel) (by decide) ?_
          refine E_mask [true, true, true, true, false, false, true] rfl ?_
          exact lk1_Model_isSignature_j68 hγ this Q (w_Model_isSignature_L31 this Q n) ih v1 v2 v3 v6 (1 : Int32) M h
        · rw [if_neg b14] at h
          refine E_blk (lv' := [some (vr (some (11, this))), some (vi v1), some (vr (some (300, v2))), some (vi v3), none, some (vi v5), some (vi v6)]) (st' := [vi (0 : Int32)]) (M1 := M) (pc' := 68) (tb1_Model hγ) [.iconst 0] (by decide +kernel) rfl rfl trivial ?_
          refine E_mask [true, true, true, true, false, false, true] rfl ?_
          exact lk1_Model_isSignature_j68 hγ this Q (w_Model_isSignature_L31 this Q n) ih v1 v2 v3 v6 (0 : Int32) M h
set_option maxRecDepth 4096 in
theorem lk1_Model_isSignature_j26 {γ : Gm} (hγ : G1 γ) (this : Nat) (Q : Int32 → Mem → Prop) (v1 : Int32) (v2 : Nat) (v3 : Int32) (s0 : Int32) (M : Mem) (h : w_Model_isSignature_j26 this Q v1 v2 v3 s0 M) : E γ k_Model_isSignature 0 26 [some (vr (some (11, this))), some (vi v1), some (vr (some (300, v2))), some (vi v3), none, none, none] [vi s0] M (Qi Q) := by
  unfold w_Model_isSignature_j26 at h
  refine E_blk (lv' := [some (vr (some (11, this))), some (vi v1), some (vr (some (300, v2))), some (vi v3), none, some (vi s0), some (vi (0 : Int32))]) (st' := []) (M1 := M) (pc' := 31) (tb1_Model hγ) [.istore 5, .iconst 0, .istore 6] (by decide +kernel) rfl rfl trivial ?_
  obtain ⟨n15, h⟩ := h
  refine E_mask [true, true, true, true, false, true, true] rfl ?_
  exact lk1_Model_isSignature_L31 hγ this Q n15 v1 v2 v3 s0 (0 : Int32) M h
set_option maxRecDepth 4096 in
theorem lk1_Model_isSignature_j25 {γ : Gm} (hγ : G1 γ) (this : Nat) (Q : Int32 → Mem → Prop) (v1 : Int32) (v2 : Nat) (v3 : Int32) (M : Mem) (h : w_Model_isSignature_j25 this Q v1 v2 v3 M) : E γ k_Model_isSignature 0 25 [some (vr (some (11, this))), some (vi v1), some (vr (some (300, v2))), some (vi v3), none, none, none] [] M (Qi Q) := by
  unfold w_Model_isSignature_j25 at h
  refine E_blk (lv' := [some (vr (some (11, this))), some (vi v1), some (vr (some (300, v2))), some (vi v3), none, none, none]) (st' := [vi (0 : Int32)]) (M1 := M) (pc' := 26) (tb1_Model hγ) [.iconst 0] (by decide +kernel) rfl rfl trivial ?_
  refine E_mask [true, true, true, true, false, false, false] rfl ?_
  exact lk1_Model_isSignature_j26 hγ this Q v1 v2 v3 (0 : Int32) M h
set_option maxRecDepth 4096 in
theorem lk1_Model_isSignature {γ : Gm} (hγ : G1 γ) (this : Nat) (a1 : Int32) (a2 : Nat) (a3 : Int32) (a4 : Int32) (Q : Int32 → Mem → Prop) (M : Mem) (h : w_Model_isSignature this a1 a2 a3 a4 Q M) : E γ k_Model_isSignature 0 0 [some (vr (some (11, this))), some (vi a1), some (vr (some (300, a2))), some (vi a3), some (vi a4), none, none] [] M (Qi Q) := by
  unfold w_Model_isSignature at h
  refine E_blk (lv' := [some (vr (some (11, this))), some (vi a1), some (vr (some (300, a2))), some (vi a3), some (vi a4), none, none]) (st' := [vr (mR M 11 this 31)]) (M1 := M) (pc' := 4) (tb1_Model hγ) [.aload_n 0, .getfield 80] (by decide +kernel) rfl rfl trivial ?_
  obtain ⟨i1, ei1, h⟩ := h
  rw [ei1]
  obtain ⟨c2, h⟩ := h
  refine E_blk (lv' := [some (vr (some (11, this))), some (vi a1), some (vr (some (300, a2))), some (vi a3), some (vi a4), none, none]) (st' := [vi a3, vi (mI M 300 i1 a1.toNatClampNeg)]) (M1 := M) (pc' := 7) (tb1_Model hγ) [.iload_n 1, .iaload, .iload_n 3] (by decide +kernel) rfl rfl ⟨c2, trivial⟩ ?_
  refine E_icmp_ne (off := 18) (tgt := 25) (by decide +kernel) (by decide) (fun b3 => ?_) (fun b3 => ?_)
  · rw [if_pos b3] at h
    refine E_blk (lv' := [some (vr (some (11, this))), some (vi a1), some (vr (some (300, a2))), some (vi a3), some (vi a4), none, none]) (st' := [vr (mR M 11 this 32)]) (M1 := M) (pc' := 14) (tb1_Model hγ) [.aload_n 0, .getfield 83] (by decide +kernel) rfl rfl trivial ?_
    obtain ⟨i4, ei4, h⟩ := h
    rw [ei4]
    obtain ⟨c5, h⟩ := h
    refine E_blk (lv' := [some (vr (some (11, this))), some (vi a1), some (vr (some (300, a2))), some (vi a3), some (vi a4), none, none]) (st' := [vi a4, vi (mI M 300 i4 a1.toNatClampNeg)]) (M1 := M) (pc' := 18) (tb1_Model hγ) [.iload_n 1, .iaload, .iload 4] (by decide +kernel) rfl rfl ⟨c5, trivial⟩ ?_
    refine E_icmp_ne (off := 7) (tgt := 25) (by decide +kernel) (by decide) (fun b6 => ?_) (fun b6 => ?_)
    · rw [if_pos b6] at h
      refine E_blk (lv' := [some (vr (some (11, this))), some (vi a1), some (vr (some (300, a2))), some (vi a3), some (vi a4), none, none]) (st' := [vi (1 : Int32)]) (M1 := M) (pc' := 22) (tb1_Model hγ) [.iconst 1] (by decide +kernel) rfl rfl trivial ?_
      refine E_goto (off := 4) (tgt := 26) (by decide +kernel) (by decide) ?_
      refine E_mask [true, true, true, true, false, false, false] rfl ?_
      exact lk1_Model_isSignature_j26 hγ this Q a1 a2 a3 (1 : Int32) M h
    · rw [if_neg b6] at h
      refine E_mask [true, true, true, true, false, false, false] rfl ?_
      exact lk1_Model_isSignature_j25 hγ this Q a1 a2 a3 M h
  · rw [if_neg b3] at h
    refine E_mask [true, true, true, true, false, false, false] rfl ?_
    exact lk1_Model_isSignature_j25 hγ this Q a1 a2 a3 M h
def w_Model_signature_L58 (this : Nat) (Q : Int32 → Mem → Prop) : Nat → Nat → Int32 → Int32 → Int32 → Int32 → Mem → Prop
  | 0, _, _, _, _, _, _ => False
  | n + 1, v1, v2, v3, v5, v6, M => if v6 ≤ 0 then (∃ i5, (mR M 11 this 30) = some (300, i5) ∧ w_Model_room i5 ((mI M 11 this 36) + (1 : Int32)) (fun i7 M6 => ∃ i8, (mR (sR M6 11 this 30 (some (300, i7))) 11 this 31) = some (300, i8) ∧ w_Model_room i8 ((mI (sR M6 11 this 30 (some (300, i7))) 11 this 36) + (1 : Int32)) (fun i10 M9 => ∃ i11, (mR (sR M9 11 this 31 (some (300, i10))) 11 this 32) = some (300, i11) ∧ w_Model_room i11 ((mI (sR M9 11 this 31 (some (300, i10))) 11 this 36) + (1 : Int32)) (fun i13 M12 => ∃ i14, (mR (sR M12 11 this 32 (some (300, i13))) 11 this 33) = some (300, i14) ∧ w_Model_room i14 ((mI (sR M12 11 this 32 (some (300, i13))) 11 this 36) + (1 : Int32)) (fun i16 M15 => ∃ i17, (mR (sR M15 11 this 33 (some (300, i16))) 11 this 35) = some (300, i17) ∧ w_Model_room i17 ((mI (sR M15 11 this 33 (some (300, i16))) 11 this 37) + v2) (fun i19 M18 => ∃ i20, (mR (sR M18 11 this 35 (some (300, i19))) 11 this 35) = some (300, i20) ∧ ¬ (0 : Int32) < 0 ∧ ¬ (mI (sR M18 11 this 35 (some (300, i19))) 11 this 37) < 0 ∧ ¬ v2 < 0 ∧ (0 : Int32).toNatClampNeg + v2.toNatClampNeg ≤ mL (sR M18 11 this 35 (some (300, i19))) 300 v1 ∧ (mI (sR M18 11 this 35 (some (300, i19))) 11 this 37).toNatClampNeg + v2.toNatClampNeg ≤ mL (sR M18 11 this 35 (some (300, i19))) 300 i20 ∧ ∃ M21, M21 = cpI (sR M18 11 this 35 (some (300, i19))) 300 v1 (0 : Int32).toNatClampNeg 300 i20 (mI (sR M18 11 this 35 (some (300, i19))) 11 this 37).toNatClampNeg v2.toNatClampNeg ∧ ∃ i27, (mR M21 11 this 30) = some (300, i27) ∧ vp_in (mI M21 11 this 36) (mL M21 300 i27) ∧ ∃ i29, (mR (sI M21 300 i27 (mI M21 11 this 36).toNatClampNeg (mI M21 11 this 37)) 11 this 31) = some (300, i29) ∧ vp_in (mI (sI M21 300 i27 (mI M21 11 this 36).toNatClampNeg (mI M21 11 this 37)) 11 this 36) (mL (sI M21 300 i27 (mI M21 11 this 36).toNatClampNeg (mI M21 11 this 37)) 300 i29) ∧ ∃ M31, M31 = (sI (sI M21 300 i27 (mI M21 11 this 36).toNatClampNeg (mI M21 11 this 37)) 300 i29 (mI (sI M21 300 i27 (mI M21 11 this 36).toNatClampNeg (mI M21 11 this 37)) 11 this 36).toNatClampNeg v2) ∧ ∃ i32, (mR M31 11 this 32) = some (300, i32) ∧ vp_in (mI M31 11 this 36) (mL M31 300 i32) ∧ ∃ i34, (mR (sI M31 300 i32 (mI M31 11 this 36).toNatClampNeg v3) 11 this 33) = some (300, i34) ∧ vp_in v5 (mL (sI M31 300 i32 (mI M31 11 this 36).toNatClampNeg v3) 106 this) ∧ vp_in (mI (sI M31 300 i32 (mI M31 11 this 36).toNatClampNeg v3) 11 this 36) (mL (sI M31 300 i32 (mI M31 11 this 36).toNatClampNeg v3) 300 i34) ∧ ∃ M37, M37 = (sI (sI M31 300 i32 (mI M31 11 this 36).toNatClampNeg v3) 300 i34 (mI (sI M31 300 i32 (mI M31 11 this 36).toNatClampNeg v3) 11 this 36).toNatClampNeg (mI (sI M31 300 i32 (mI M31 11 this 36).toNatClampNeg v3) 106 this v5.toNatClampNeg)) ∧ ∃ M38, M38 = (sI (sI M37 11 this 37 ((mI M37 11 this 37) + v2)) 11 this 36 ((mI (sI M37 11 this 37 ((mI M37 11 this 37) + v2)) 11 this 36) + (1 : Int32))) ∧ vp_in v5 (mL M38 106 this) ∧ Q ((mI (sI M38 106 this v5.toNatClampNeg (mI M38 11 this 36)) 11 this 36) - (1 : Int32)) (sI M38 106 this v5.toNatClampNeg (mI M38 11 this 36))) (sR M15 11 this 33 (some (300, i16)))) (sR M12 11 this 32 (some (300, i13)))) (sR M9 11 this 31 (some (300, i10)))) (sR M6 11 this 30 (some (300, i7)))) M) else (w_Model_isSignature this (v6 - (1 : Int32)) v1 v2 v3 (fun r41 M40 => if r41 = 0 then (∃ i43, (mR M40 11 this 33) = some (300, i43) ∧ vp_in (v6 - (1 : Int32)) (mL M40 300 i43) ∧ (w_Model_signature_L58 this Q n) v1 v2 v3 v5 (mI M40 300 i43 (v6 - (1 : Int32)).toNatClampNeg) M40) else (Q (v6 - (1 : Int32)) M40)) M)
def w_Model_signature_L11 (this : Nat) (Q : Int32 → Mem → Prop) : Nat → Nat → Int32 → Int32 → Int32 → Int32 → Mem → Prop
  | 0, _, _, _, _, _, _ => False
  | n + 1, v1, v2, v3, v4, v5, M => if v2 ≤ v5 then (∃ x2 : Int32, x2 = ((v4 ^^^ (v4.toUInt32 >>> ((11 : Int32).toUInt32 &&& Int32.toUInt32 31)).toInt32) &&& (1023 : Int32)) ∧ vp_in x2 (mL M 106 this) ∧ ∃ n45 : Nat, w_Model_signature_L58 this Q n45 v1 v2 v3 x2 (mI M 106 this x2.toNatClampNeg) M) else (vp_in v5 (mL M 300 v1) ∧ (w_Model_signature_L11 this Q n) v1 v2 v3 (((31 : Int32) * v4) + (mI M 300 v1 v5.toNatClampNeg)) (v5 + (1 : Int32)) M)
def w_Model_signature (this : Nat) (a1 : Nat) (a2 : Int32) (a3 : Int32) (Q : Int32 → Mem → Prop) (M : Mem) : Prop :=
  ∃ n47 : Nat, w_Model_signature_L11 this Q n47 a1 a2 a3 (((31 : Int32) * a2) + a3) (0 : Int32) M
set_option maxRecDepth 4096 in
theorem lk_Model_signature_L58 {γ : Gm} (hγ : Gk γ) (this : Nat) (Q : Int32 → Mem → Prop) : ∀ (n : Nat) (v1 : Nat) (v2 : Int32) (v3 : Int32) (v5 : Int32) (v6 : Int32) (M : Mem), w_Model_signature_L58 this Q n v1 v2 v3 v5 v6 M → E γ k_Model_signature 2 58 [some (vr (some (11, this))), some (vr (some (300, v1))), some (vi v2), some (vi v3), none, some (vi v5), some (vi v6)] [] M (Qi Q) := by
  intro n
  induction n with
  | zero => intro v1 v2 v3 v5 v6 M h; exact h.elim
  | succ n ih =>
    intro v1 v2 v3 v5 v6 M h
    unfold w_Model_signature_L58 at h
    refine E_blk (lv' := [some (vr (some (11, this))), some (vr (some (300, v1))), some (vi v2), some (vi v3), none, some (vi v5), some (vi v6)]) (st' := [vi v6]) (M1 := M) (pc' := 60) (tb_Model hγ) [.iload 6] (by decide +kernel) rfl rfl trivial ?_
    refine E_if_le (off := 36) (tgt := 96) (by decide +kernel) (by decide) (fun b4 => ?_) (fun b4 => ?_)
    · rw [if_pos b4] at h
      refine E_blk (lv' := [some (vr (some (11, this))), some (vr (some (300, v1))), some (vi v2), some (vi v3), none, some (vi v5), some (vi v6)]) (st' := [vr (mR M 11 this 30), vr (some (11, this))]) (M1 := M) (pc' := 101) (tb_Model hγ) [.aload_n 0, .aload_n 0, .getfield 74] (by decide +kernel) rfl rfl trivial ?_
      obtain ⟨i5, ei5, h⟩ := h
      rw [ei5]
      refine E_blk (lv' := [some (vr (some (11, this))), some (vr (some (300, v1))), some (vi v2), some (vi v3), none, some (vi v5), some (vi v6)]) (st' := [vi ((mI M 11 this 36) + (1 : Int32)), vr (some (300, i5)), vr (some (11, this))]) (M1 := M) (pc' := 107) (tb_Model hγ) [.aload_n 0, .getfield 77, .iconst 1, .iadd] (by decide +kernel) rfl rfl trivial ?_
      refine E_callS (κ' := k_Model_room) (As := [vr (some (300, i5)), vi ((mI M 11 this 36) + (1 : Int32))]) (st := [vr (some (11, this))]) ms_Model_room (Or.inl (tbk_mem (j := 11) (k := 66) rfl)) rfl (by decide +kernel) (Nat.le_of_ble_eq_true rfl) (Nat.le_of_ble_eq_true rfl) rfl (by decide) (lk_Model_room hγ i5 ((mI M 11 this 36) + (1 : Int32)) _ M h) (fun _ _ => Qr_r) (fun v M6 hp => Qr_k (R := fun st => E γ k_Model_signature 2 110 [some (vr (some (11, this))), some (vr (some (300, v1))), some (vi v2), some (vi v3), none, some (vi v5), some (vi v6)] st M6 (Qi Q)) hp (fun i7 h => ?_))
      refine E_blk (lv' := [some (vr (some (11, this))), some (vr (some (300, v1))), some (vi v2), some (vi v3), none, some (vi v5), some (vi v6)]) (st' := [vr (mR (sR M6 11 this 30 (some (300, i7))) 11 this 31), vr (some (11, this))]) (M1 := (sR M6 11 this 30 (some (300, i7)))) (pc' := 118) (tb_Model hγ) [.putfield 74, .aload_n 0, .aload_n 0, .getfield 80] (by decide +kernel) rfl rfl trivial ?_
      obtain ⟨i8, ei8, h⟩ := h
      rw [ei8]
      refine E_blk (lv' := [some (vr (some (11, this))), some (vr (some (300, v1))), some (vi v2), some (vi v3), none, some (vi v5), some (vi v6)]) (st' := [vi ((mI (sR M6 11 this 30 (some (300, i7))) 11 this 36) + (1 : Int32)), vr (some (300, i8)), vr (some (11, this))]) (M1 := (sR M6 11 this 30 (some (300, i7)))) (pc' := 124) (tb_Model hγ) [.aload_n 0, .getfield 77, .iconst 1, .iadd] (by decide +kernel) rfl rfl trivial ?_
      refine E_callS (κ' := k_Model_room) (As := [vr (some (300, i8)), vi ((mI (sR M6 11 this 30 (some (300, i7))) 11 this 36) + (1 : Int32))]) (st := [vr (some (11, this))]) ms_Model_room (Or.inl (tbk_mem (j := 11) (k := 66) rfl)) rfl (by decide +kernel) (Nat.le_of_ble_eq_true rfl) (Nat.le_of_ble_eq_true rfl) rfl (by decide) (lk_Model_room hγ i8 ((mI (sR M6 11 this 30 (some (300, i7))) 11 this 36) + (1 : Int32)) _ (sR M6 11 this 30 (some (300, i7))) h) (fun _ _ => Qr_r) (fun v M9 hp => Qr_k (R := fun st => E γ k_Model_signature 2 127 [some (vr (some (11, this))), some (vr (some (300, v1))), some (vi v2), some (vi v3), none, some (vi v5), some (vi v6)] st M9 (Qi Q)) hp (fun i10 h => ?_))
      refine E_blk (lv' := [some (vr (some (11, this))), some (vr (some (300, v1))), some (vi v2), some (vi v3), none, some (vi v5), some (vi v6)]) (st' := [vr (mR (sR M9 11 this 31 (some (300, i10))) 11 this 32), vr (some (11, this))]) (M1 := (sR M9 11 this 31 (some (300, i10)))) (pc' := 135) (tb_Model hγ) [.putfield 80, .aload_n 0, .aload_n 0, .getfield 83] (by decide +kernel) rfl rfl trivial ?_
      obtain ⟨i11, ei11, h⟩ := h
      rw [ei11]
      refine E_blk (lv' := [some (vr (some (11, this))), some (vr (some (300, v1))), some (vi v2), some (vi v3), none, some (vi v5), some (vi v6)]) (st' := [vi ((mI (sR M9 11 this 31 (some (300, i10))) 11 this 36) + (1 : Int32)), vr (some (300, i11)), vr (some (11, this))]) (M1 := (sR M9 11 this 31 (some (300, i10)))) (pc' := 141) (tb_Model hγ) [.aload_n 0, .getfield 77, .iconst 1, .iadd] (by decide +kernel) rfl rfl trivial ?_
      refine E_callS (κ' := k_Model_room) (As := [vr (some (300, i11)), vi ((mI (sR M9 11 this 31 (some (300, i10))) 11 this 36) + (1 : Int32))]) (st := [vr (some (11, this))]) ms_Model_room (Or.inl (tbk_mem (j := 11) (k := 66) rfl)) rfl (by decide +kernel) (Nat.le_of_ble_eq_true rfl) (Nat.le_of_ble_eq_true rfl) rfl (by decide) (lk_Model_room hγ i11 ((mI (sR M9 11 this 31 (some (300, i10))) 11 this 36) + (1 : Int32)) _ (sR M9 11 this 31 (some (300, i10))) h) (fun _ _ => Qr_r) (fun v M12 hp => Qr_k (R := fun st => E γ k_Model_signature 2 144 [some (vr (some (11, this))), some (vr (some (300, v1))), some (vi v2), some (vi v3), none, some (vi v5), some (vi v6)] st M12 (Qi Q)) hp (fun i13 h => ?_))
      refine E_blk (lv' := [some (vr (some (11, this))), some (vr (some (300, v1))), some (vi v2), some (vi v3), none, some (vi v5), some (vi v6)]) (st' := [vr (mR (sR M12 11 this 32 (some (300, i13))) 11 this 33), vr (some (11, this))]) (M1 := (sR M12 11 this 32 (some (300, i13)))) (pc' := 152) (tb_Model hγ) [.putfield 83, .aload_n 0, .aload_n 0, .getfield 71] (by decide +kernel) rfl rfl trivial ?_
      obtain ⟨i14, ei14, h⟩ := h
      rw [ei14]
      refine E_blk (lv' := [some (vr (some (11, this))), some (vr (some (300, v1))), some (vi v2), some (vi v3), none, some (vi v5), some (vi v6)]) (st' := [vi ((mI (sR M12 11 this 32 (some (300, i13))) 11 this 36) + (1 : Int32)), vr (some (300, i14)), vr (some (11, this))]) (M1 := (sR M12 11 this 32 (some (300, i13)))) (pc' := 158) (tb_Model hγ) [.aload_n 0, .getfield 77, .iconst 1, .iadd] (by decide +kernel) rfl rfl trivial ?_
      refine E_callS (κ' := k_Model_room) (As := [vr (some (300, i14)), vi ((mI (sR M12 11 this 32 (some (300, i13))) 11 this 36) + (1 : Int32))]) (st := [vr (some (11, this))]) ms_Model_room (Or.inl (tbk_mem (j := 11) (k := 66) rfl)) rfl (by decide +kernel) (Nat.le_of_ble_eq_true rfl) (Nat.le_of_ble_eq_true rfl) rfl (by decide) (lk_Model_room hγ i14 ((mI (sR M12 11 this 32 (some (300, i13))) 11 this 36) + (1 : Int32)) _ (sR M12 11 this 32 (some (300, i13))) h) (fun _ _ => Qr_r) (fun v M15 hp => Qr_k (R := fun st => E γ k_Model_signature 2 161 [some (vr (some (11, this))), some (vr (some (300, v1))), some (vi v2), some (vi v3), none, some (vi v5), some (vi v6)] st M15 (Qi Q)) hp (fun i16 h => ?_))
      refine E_blk (lv' := [some (vr (some (11, this))), some (vr (some (300, v1))), some (vi v2), some (vi v3), none, some (vi v5), some (vi v6)]) (st' := [vr (mR (sR M15 11 this 33 (some (300, i16))) 11 this 35), vr (some (11, this))]) (M1 := (sR M15 11 this 33 (some (300, i16)))) (pc' := 169) (tb_Model hγ) [.putfield 71, .aload_n 0, .aload_n 0, .getfield 86] (by decide +kernel) rfl rfl trivial ?_
      obtain ⟨i17, ei17, h⟩ := h
      rw [ei17]
      refine E_blk (lv' := [some (vr (some (11, this))), some (vr (some (300, v1))), some (vi v2), some (vi v3), none, some (vi v5), some (vi v6)]) (st' := [vi ((mI (sR M15 11 this 33 (some (300, i16))) 11 this 37) + v2), vr (some (300, i17)), vr (some (11, this))]) (M1 := (sR M15 11 this 33 (some (300, i16)))) (pc' := 175) (tb_Model hγ) [.aload_n 0, .getfield 89, .iload_n 2, .iadd] (by decide +kernel) rfl rfl trivial ?_
      refine E_callS (κ' := k_Model_room) (As := [vr (some (300, i17)), vi ((mI (sR M15 11 this 33 (some (300, i16))) 11 this 37) + v2)]) (st := [vr (some (11, this))]) ms_Model_room (Or.inl (tbk_mem (j := 11) (k := 66) rfl)) rfl (by decide +kernel) (Nat.le_of_ble_eq_true rfl) (Nat.le_of_ble_eq_true rfl) rfl (by decide) (lk_Model_room hγ i17 ((mI (sR M15 11 this 33 (some (300, i16))) 11 this 37) + v2) _ (sR M15 11 this 33 (some (300, i16))) h) (fun _ _ => Qr_r) (fun v M18 hp => Qr_k (R := fun st => E γ k_Model_signature 2 178 [some (vr (some (11, this))), some (vr (some (300, v1))), some (vi v2), some (vi v3), none, some (vi v5), some (vi v6)] st M18 (Qi Q)) hp (fun i19 h => ?_))
      refine E_blk (lv' := [some (vr (some (11, this))), some (vr (some (300, v1))), some (vi v2), some (vi v3), none, some (vi v5), some (vi v6)]) (st' := [vr (mR (sR M18 11 this 35 (some (300, i19))) 11 this 35), vi (0 : Int32), vr (some (300, v1))]) (M1 := (sR M18 11 this 35 (some (300, i19)))) (pc' := 187) (tb_Model hγ) [.putfield 86, .aload_n 1, .iconst 0, .aload_n 0, .getfield 86] (by decide +kernel) rfl rfl trivial ?_
      obtain ⟨i20, ei20, h⟩ := h
      rw [ei20]
      refine E_blk (lv' := [some (vr (some (11, this))), some (vr (some (300, v1))), some (vi v2), some (vi v3), none, some (vi v5), some (vi v6)]) (st' := [vi v2, vi (mI (sR M18 11 this 35 (some (300, i19))) 11 this 37), vr (some (300, i20)), vi (0 : Int32), vr (some (300, v1))]) (M1 := (sR M18 11 this 35 (some (300, i19)))) (pc' := 192) (tb_Model hγ) [.aload_n 0, .getfield 89, .iload_n 2] (by decide +kernel) rfl rfl trivial ?_
      obtain ⟨c22, c23, c24, c25, c26, M21, eM21, h⟩ := h
      refine E_copy (pc := 192) (κ := k_Model_signature) (f := 300) (i := v1) (g := 300) (j := i20) (sp := (0 : Int32)) (dp := (mI (sR M18 11 this 35 (some (300, i19))) 11 this 37)) (n := v2) (idx := 11) (st := []) c22 c23 c24 c25 c26 (by decide) (by decide) rfl (by decide) (tbk_mem (j := 11) (k := 65) rfl) (by decide +kernel) (Nat.le_of_ble_eq_true rfl) ?_
      rw [← eM21]
      refine E_blk (lv' := [some (vr (some (11, this))), some (vr (some (300, v1))), some (vi v2), some (vi v3), none, some (vi v5), some (vi v6)]) (st' := [vr (mR M21 11 this 30)]) (M1 := M21) (pc' := 199) (tb_Model hγ) [.aload_n 0, .getfield 74] (by decide +kernel) rfl rfl trivial ?_
      obtain ⟨i27, ei27, h⟩ := h
      rw [ei27]
      obtain ⟨c28, h⟩ := h
      refine E_blk (lv' := [some (vr (some (11, this))), some (vr (some (300, v1))), some (vi v2), some (vi v3), none, some (vi v5), some (vi v6)]) (st' := [vr (mR (sI M21 300 i27 (mI M21 11 this 36).toNatClampNeg (mI M21 11 this 37)) 11 this 31)]) (M1 := (sI M21 300 i27 (mI M21 11 this 36).toNatClampNeg (mI M21 11 this 37))) (pc' := 212) (tb_Model hγ) [.aload_n 0, .getfield 77, .aload_n 0, .getfield 89, .iastore, .aload_n 0, .getfield 80] (by decide +kernel) rfl rfl ⟨c28, trivial⟩ ?_
      obtain ⟨i29, ei29, h⟩ := h
      rw [ei29]
      obtain ⟨c30, h⟩ := h
      refine E_blk (lv' := [some (vr (some (11, this))), some (vr (some (300, v1))), some (vi v2), some (vi v3), none, some (vi v5), some (vi v6)]) (st' := []) (M1 := (sI (sI M21 300 i27 (mI M21 11 this 36).toNatClampNeg (mI M21 11 this 37)) 300 i29 (mI (sI M21 300 i27 (mI M21 11 this 36).toNatClampNeg (mI M21 11 this 37)) 11 this 36).toNatClampNeg v2)) (pc' := 218) (tb_Model hγ) [.aload_n 0, .getfield 77, .iload_n 2, .iastore] (by decide +kernel) rfl rfl ⟨c30, trivial⟩ ?_
      obtain ⟨M31, eM31, h⟩ := h
      rw [← eM31]
      refine E_blk (lv' := [some (vr (some (11, this))), some (vr (some (300, v1))), some (vi v2), some (vi v3), none, some (vi v5), some (vi v6)]) (st' := [vr (mR M31 11 this 32)]) (M1 := M31) (pc' := 222) (tb_Model hγ) [.aload_n 0, .getfield 83] (by decide +kernel) rfl rfl trivial ?_
      obtain ⟨i32, ei32, h⟩ := h
      rw [ei32]
      obtain ⟨c33, h⟩ := h
      refine E_blk (lv' := [some (vr (some (11, this))), some (vr (some (300, v1))), some (vi v2), some (vi v3), none, some (vi v5), some (vi v6)]) (st' := [vr (mR (sI M31 300 i32 (mI M31 11 this 36).toNatClampNeg v3) 11 this 33)]) (M1 := (sI M31 300 i32 (mI M31 11 this 36).toNatClampNeg v3)) (pc' := 232) (tb_Model hγ) [.aload_n 0, .getfield 77, .iload_n 3, .iastore, .aload_n 0, .getfield 71] (by decide +kernel) rfl rfl ⟨c33, trivial⟩ ?_
      obtain ⟨i34, ei34, h⟩ := h
      rw [ei34]
      obtain ⟨c35, c36, h⟩ := h
      refine E_blk (lv' := [some (vr (some (11, this))), some (vr (some (300, v1))), some (vi v2), some (vi v3), none, some (vi v5), some (vi v6)]) (st' := []) (M1 := (sI (sI M31 300 i32 (mI M31 11 this 36).toNatClampNeg v3) 300 i34 (mI (sI M31 300 i32 (mI M31 11 this 36).toNatClampNeg v3) 11 this 36).toNatClampNeg (mI (sI M31 300 i32 (mI M31 11 this 36).toNatClampNeg v3) 106 this v5.toNatClampNeg))) (pc' := 244) (tb_Model hγ) [.aload_n 0, .getfield 77, .aload_n 0, .getfield 64, .iload 5, .iaload, .iastore] (by decide +kernel) rfl rfl ⟨c35, c36, trivial⟩ ?_
      obtain ⟨M37, eM37, h⟩ := h
      rw [← eM37]
      refine E_blk (lv' := [some (vr (some (11, this))), some (vr (some (300, v1))), some (vi v2), some (vi v3), none, some (vi v5), some (vi v6)]) (st' := []) (M1 := (sI (sI M37 11 this 37 ((mI M37 11 this 37) + v2)) 11 this 36 ((mI (sI M37 11 this 37 ((mI M37 11 this 37) + v2)) 11 this 36) + (1 : Int32)))) (pc' := 264) (tb_Model hγ) [.aload_n 0, .dup, .getfield 89, .iload_n 2, .iadd, .putfield 89, .aload_n 0, .dup, .getfield 77, .iconst 1, .iadd, .putfield 77] (by decide +kernel) rfl rfl trivial ?_
      obtain ⟨M38, eM38, h⟩ := h
      rw [← eM38]
      obtain ⟨c39, h⟩ := h
      refine E_blk (lv' := [some (vr (some (11, this))), some (vr (some (300, v1))), some (vi v2), some (vi v3), none, some (vi v5), some (vi v6)]) (st' := [vi ((mI (sI M38 106 this v5.toNatClampNeg (mI M38 11 this 36)) 11 this 36) - (1 : Int32))]) (M1 := (sI M38 106 this v5.toNatClampNeg (mI M38 11 this 36))) (pc' := 281) (tb_Model hγ) [.aload_n 0, .getfield 64, .iload 5, .aload_n 0, .getfield 77, .iastore, .aload_n 0, .getfield 77, .iconst 1, .isub] (by decide +kernel) rfl rfl ⟨c39, trivial⟩ ?_
      exact E_iret rfl (by decide +kernel) h
    · rw [if_neg b4] at h
      refine E_blk (lv' := [some (vr (some (11, this))), some (vr (some (300, v1))), some (vi v2), some (vi v3), none, some (vi v5), some (vi v6)]) (st' := [vi v3, vi v2, vr (some (300, v1)), vi (v6 - (1 : Int32)), vr (some (11, this))]) (M1 := M) (pc' := 71) (tb_Model hγ) [.aload_n 0, .iload 6, .iconst 1, .isub, .aload_n 1, .iload_n 2, .iload_n 3] (by decide +kernel) rfl rfl trivial ?_
      refine E_callV (κ' := k_Model_isSignature) (As := [vi (v6 - (1 : Int32)), vr (some (300, v1)), vi v2, vi v3]) (st := []) mv_Model_isSignature (Or.inl (tbk_mem (j := 11) (k := 97) rfl)) rfl (by decide +kernel) (Nat.le_of_ble_eq_true rfl) (Nat.le_of_ble_eq_true rfl) rfl (by decide) (lk_Model_isSignature hγ this (v6 - (1 : Int32)) v1 v2 v3 _ M h) (fun _ _ => Qi_r) (fun v M40 hp => Qi_k (R := fun st => E γ k_Model_signature 2 74 [some (vr (some (11, this))), some (vr (some (300, v1))), some (vi v2), some (vi v3), none, some (vi v5), some (vi v6)] st M40 (Qi Q)) hp (fun r41 h => ?_))
      refine E_if_eq (off := 8) (tgt := 82) (by decide +kernel) (by decide) (fun b42 => ?_) (fun b42 => ?_)
      · rw [if_pos b42] at h
        refine E_blk (lv' := [some (vr (some (11, this))), some (vr (some (300, v1))), some (vi v2), some (vi v3), none, some (vi v5), some (vi v6)]) (st' := [vr (mR M40 11 this 33)]) (M1 := M40) (pc' := 86) (tb_Model hγ) [.aload_n 0, .getfield 71] (by decide +kernel) rfl rfl trivial ?_
        obtain ⟨i43, ei43, h⟩ := h
        rw [ei43]
        obtain ⟨c44, h⟩ := h
        refine E_blk (lv' := [some (vr (some (11, this))), some (vr (some (300, v1))), some (vi v2), some (vi v3), none, some (vi v5), some (vi (mI M40 300 i43 (v6 - (1 : Int32)).toNatClampNeg))]) (st' := []) (M1 := M40) (pc' := 93) (tb_Model hγ) [.iload 6, .iconst 1, .isub, .iaload, .istore 6] (by decide +kernel) rfl rfl ⟨c44, trivial⟩ ?_
        refine E_goto (off := -35) (tgt := 58) (by decide +kernel) (by decide) ?_
        refine E_mask [true, true, true, true, false, true, true] rfl ?_
        exact ih v1 v2 v3 v5 (mI M40 300 i43 (v6 - (1 : Int32)).toNatClampNeg) M40 h
      · rw [if_neg b42] at h
        refine E_blk (lv' := [some (vr (some (11, this))), some (vr (some (300, v1))), some (vi v2), some (vi v3), none, some (vi v5), some (vi v6)]) (st' := [vi (v6 - (1 : Int32))]) (M1 := M40) (pc' := 81) (tb_Model hγ) [.iload 6, .iconst 1, .isub] (by decide +kernel) rfl rfl trivial ?_
        exact E_iret rfl (by decide +kernel) h
set_option maxRecDepth 4096 in
theorem lk_Model_signature_L11 {γ : Gm} (hγ : Gk γ) (this : Nat) (Q : Int32 → Mem → Prop) : ∀ (n : Nat) (v1 : Nat) (v2 : Int32) (v3 : Int32) (v4 : Int32) (v5 : Int32) (M : Mem), w_Model_signature_L11 this Q n v1 v2 v3 v4 v5 M → E γ k_Model_signature 2 11 [some (vr (some (11, this))), some (vr (some (300, v1))), some (vi v2), some (vi v3), some (vi v4), some (vi v5), none] [] M (Qi Q) := by
  intro n
  induction n with
  | zero => intro v1 v2 v3 v4 v5 M h; exact h.elim
  | succ n ih =>
    intro v1 v2 v3 v4 v5 M h
    unfold w_Model_signature_L11 at h
    refine E_blk (lv' := [some (vr (some (11, this))), some (vr (some (300, v1))), some (vi v2), some (vi v3), some (vi v4), some (vi v5), none]) (st' := [vi v2, vi v5]) (M1 := M) (pc' := 14) (tb_Model hγ) [.iload 5, .iload_n 2] (by decide +kernel) rfl rfl trivial ?_
    refine E_icmp_ge (off := 21) (tgt := 35) (by decide +kernel) (by decide) (fun b1 => ?_) (fun b1 => ?_)
    · rw [if_pos b1] at h
      refine E_blk (lv' := [some (vr (some (11, this))), some (vr (some (300, v1))), some (vi v2), some (vi v3), some (vi v4), some (vi ((v4 ^^^ (v4.toUInt32 >>> ((11 : Int32).toUInt32 &&& Int32.toUInt32 31)).toInt32) &&& (1023 : Int32))), none]) (st' := []) (M1 := M) (pc' := 49) (tb_Model hγ) [.iload 4, .iload 4, .bipush 11, .iushr, .ixor, .sipush 1023, .iand, .istore 5] (by decide +kernel) rfl rfl trivial ?_
      obtain ⟨x2, ex2, h⟩ := h
      rw [← ex2]
      obtain ⟨c3, h⟩ := h
      refine E_blk (lv' := [some (vr (some (11, this))), some (vr (some (300, v1))), some (vi v2), some (vi v3), some (vi v4), some (vi x2), some (vi (mI M 106 this x2.toNatClampNeg))]) (st' := []) (M1 := M) (pc' := 58) (tb_Model hγ) [.aload_n 0, .getfield 64, .iload 5, .iaload, .istore 6] (by decide +kernel) rfl rfl ⟨c3, trivial⟩ ?_
      obtain ⟨n45, h⟩ := h
      refine E_mask [true, true, true, true, false, true, true] rfl ?_
      exact lk_Model_signature_L58 hγ this Q n45 v1 v2 v3 x2 (mI M 106 this x2.toNatClampNeg) M h
    · rw [if_neg b1] at h
      obtain ⟨c46, h⟩ := h
      refine E_blk (lv' := [some (vr (some (11, this))), some (vr (some (300, v1))), some (vi v2), some (vi v3), some (vi (((31 : Int32) * v4) + (mI M 300 v1 v5.toNatClampNeg))), some (vi (v5 + (1 : Int32))), none]) (st' := []) (M1 := M) (pc' := 32) (tb_Model hγ) [.bipush 31, .iload 4, .imul, .aload_n 1, .iload 5, .iaload, .iadd, .istore 4, .iinc 5 1] (by decide +kernel) rfl rfl ⟨c46, trivial⟩ ?_
      refine E_goto (off := -21) (tgt := 11) (by decide +kernel) (by decide) ?_
      refine E_mask [true, true, true, true, true, true, false] rfl ?_
      exact ih v1 v2 v3 (((31 : Int32) * v4) + (mI M 300 v1 v5.toNatClampNeg)) (v5 + (1 : Int32)) M h
set_option maxRecDepth 4096 in
theorem lk_Model_signature {γ : Gm} (hγ : Gk γ) (this : Nat) (a1 : Nat) (a2 : Int32) (a3 : Int32) (Q : Int32 → Mem → Prop) (M : Mem) (h : w_Model_signature this a1 a2 a3 Q M) : E γ k_Model_signature 2 0 [some (vr (some (11, this))), some (vr (some (300, a1))), some (vi a2), some (vi a3), none, none, none] [] M (Qi Q) := by
  unfold w_Model_signature at h
  refine E_blk (lv' := [some (vr (some (11, this))), some (vr (some (300, a1))), some (vi a2), some (vi a3), some (vi (((31 : Int32) * a2) + a3)), some (vi (0 : Int32)), none]) (st' := []) (M1 := M) (pc' := 11) (tb_Model hγ) [.bipush 31, .iload_n 2, .imul, .iload_n 3, .iadd, .istore 4, .iconst 0, .istore 5] (by decide +kernel) rfl rfl trivial ?_
  obtain ⟨n47, h⟩ := h
  refine E_mask [true, true, true, true, true, true, false] rfl ?_
  exact lk_Model_signature_L11 hγ this Q n47 a1 a2 a3 (((31 : Int32) * a2) + a3) (0 : Int32) M h
set_option maxRecDepth 4096 in
theorem lk1_Model_signature_L58 {γ : Gm} (hγ : G1 γ) (this : Nat) (Q : Int32 → Mem → Prop) : ∀ (n : Nat) (v1 : Nat) (v2 : Int32) (v3 : Int32) (v5 : Int32) (v6 : Int32) (M : Mem), w_Model_signature_L58 this Q n v1 v2 v3 v5 v6 M → E γ k_Model_signature 2 58 [some (vr (some (11, this))), some (vr (some (300, v1))), some (vi v2), some (vi v3), none, some (vi v5), some (vi v6)] [] M (Qi Q) := by
  intro n
  induction n with
  | zero => intro v1 v2 v3 v5 v6 M h; exact h.elim
  | succ n ih =>
    intro v1 v2 v3 v5 v6 M h
    unfold w_Model_signature_L58 at h
    refine E_blk (lv' := [some (vr (some (11, this))), some (vr (some (300, v1))), some (vi v2), some (vi v3), none, some (vi v5), some (vi v6)]) (st' := [vi v6]) (M1 := M) (pc' := 60) (tb1_Model hγ) [.iload 6] (by decide +kernel) rfl rfl trivial ?_
    refine E_if_le (off := 36) (tgt := 96) (by decide +kernel) (by decide) (fun b4 => ?_) (fun b4 => ?_)
    · rw [if_pos b4] at h
      refine E_blk (lv' := [some (vr (some (11, this))), some (vr (some (300, v1))), some (vi v2), some (vi v3), none, some (vi v5), some (vi v6)]) (st' := [vr (mR M 11 this 30), vr (some (11, this))]) (M1 := M) (pc' := 101) (tb1_Model hγ) [.aload_n 0, .aload_n 0, .getfield 74] (by decide +kernel) rfl rfl trivial ?_
      obtain ⟨i5, ei5, h⟩ := h
      rw [ei5]
      refine E_blk (lv' := [some (vr (some (11, this))), some (vr (some (300, v1))), some (vi v2), some (vi v3), none, some (vi v5), some (vi v6)]) (st' := [vi ((mI M 11 this 36) + (1 : Int32)), vr (some (300, i5)), vr (some (11, this))]) (M1 := M) (pc' := 107) (tb1_Model hγ) [.aload_n 0, .getfield 77, .iconst 1, .iadd] (by decide +kernel) rfl rfl trivial ?_
      refine E_callS (κ' := k_Model_room) (As := [vr (some (300, i5)), vi ((mI M 11 this 36) + (1 : Int32))]) (st := [vr (some (11, this))]) ms_Model_room (Or.inl (tbk_mem (j := 11) (k := 66) rfl)) rfl (by decide +kernel) (Nat.le_of_ble_eq_true rfl) (Nat.le_of_ble_eq_true rfl) rfl (by decide) (lk1_Model_room hγ i5 ((mI M 11 this 36) + (1 : Int32)) _ M h) (fun _ _ => Qr_r) (fun v M6 hp => Qr_k (R := fun st => E γ k_Model_signature 2 110 [some (vr (some (11, this))), some (vr (some (300, v1))), some (vi v2), some (vi v3), none, some (vi v5), some (vi v6)] st M6 (Qi Q)) hp (fun i7 h => ?_))
      refine E_blk (lv' := [some (vr (some (11, this))), some (vr (some (300, v1))), some (vi v2), some (vi v3), none, some (vi v5), some (vi v6)]) (st' := [vr (mR (sR M6 11 this 30 (some (300, i7))) 11 this 31), vr (some (11, this))]) (M1 := (sR M6 11 this 30 (some (300, i7)))) (pc' := 118) (tb1_Model hγ) [.putfield 74, .aload_n 0, .aload_n 0, .getfield 80] (by decide +kernel) rfl rfl trivial ?_
      obtain ⟨i8, ei8, h⟩ := h
      rw [ei8]
      refine E_blk (lv' := [some (vr (some (11, this))), some (vr (some (300, v1))), some (vi v2), some (vi v3), none, some (vi v5), some (vi v6)]) (st' := [vi ((mI (sR M6 11 this 30 (some (300, i7))) 11 this 36) + (1 : Int32)), vr (some (300, i8)), vr (some (11, this))]) (M1 := (sR M6 11 this 30 (some (300, i7)))) (pc' := 124) (tb1_Model hγ) [.aload_n 0, .getfield 77, .iconst 1, .iadd] (by decide +kernel) rfl rfl trivial ?_
      refine E_callS (κ' := k_Model_room) (As := [vr (some (300, i8)), vi ((mI (sR M6 11 this 30 (some (300, i7))) 11 this 36) + (1 : Int32))]) (st := [vr (some (11, this))]) ms_Model_room (Or.inl (tbk_mem (j := 11) (k := 66) rfl)) rfl (by decide +kernel) (Nat.le_of_ble_eq_true rfl) (Nat.le_of_ble_eq_true rfl) rfl (by decide) (lk1_Model_room hγ i8 ((mI (sR M6 11 this 30 (some (300, i7))) 11 this 36) + (1 : Int32)) _ (sR M6 11 this 30 (some (300, i7))) h) (fun _ _ => Qr_r) (fun v M9 hp => Qr_k (R := fun st => E γ k_Model_signature 2 127 [some (vr (some (11, this))), some (vr (some (300, v1))), some (vi v2), some (vi v3), none, some (vi v5), some (vi v6)] st M9 (Qi Q)) hp (fun i10 h => ?_))
      refine E_blk (lv' := [some (vr (some (11, this))), some (vr (some (300, v1))), some (vi v2), some (vi v3), none, some (vi v5), some (vi v6)]) (st' := [vr (mR (sR M9 11 this 31 (some (300, i10))) 11 this 32), vr (some (11, this))]) (M1 := (sR M9 11 this 31 (some (300, i10)))) (pc' := 135) (tb1_Model hγ) [.putfield 80, .aload_n 0, .aload_n 0, .getfield 83] (by decide +kernel) rfl rfl trivial ?_
      obtain ⟨i11, ei11, h⟩ := h
      rw [ei11]
      refine E_blk (lv' := [some (vr (some (11, this))), some (vr (some (300, v1))), some (vi v2), some (vi v3), none, some (vi v5), some (vi v6)]) (st' := [vi ((mI (sR M9 11 this 31 (some (300, i10))) 11 this 36) + (1 : Int32)), vr (some (300, i11)), vr (some (11, this))]) (M1 := (sR M9 11 this 31 (some (300, i10)))) (pc' := 141) (tb1_Model hγ) [.aload_n 0, .getfield 77, .iconst 1, .iadd] (by decide +kernel) rfl rfl trivial ?_
      refine E_callS (κ' := k_Model_room) (As := [vr (some (300, i11)), vi ((mI (sR M9 11 this 31 (some (300, i10))) 11 this 36) + (1 : Int32))]) (st := [vr (some (11, this))]) ms_Model_room (Or.inl (tbk_mem (j := 11) (k := 66) rfl)) rfl (by decide +kernel) (Nat.le_of_ble_eq_true rfl) (Nat.le_of_ble_eq_true rfl) rfl (by decide) (lk1_Model_room hγ i11 ((mI (sR M9 11 this 31 (some (300, i10))) 11 this 36) + (1 : Int32)) _ (sR M9 11 this 31 (some (300, i10))) h) (fun _ _ => Qr_r) (fun v M12 hp => Qr_k (R := fun st => E γ k_Model_signature 2 144 [some (vr (some (11, this))), some (vr (some (300, v1))), some (vi v2), some (vi v3), none, some (vi v5), some (vi v6)] st M12 (Qi Q)) hp (fun i13 h => ?_))
      refine E_blk (lv' := [some (vr (some (11, this))), some (vr (some (300, v1))), some (vi v2), some (vi v3), none, some (vi v5), some (vi v6)]) (st' := [vr (mR (sR M12 11 this 32 (some (300, i13))) 11 this 33), vr (some (11, this))]) (M1 := (sR M12 11 this 32 (some (300, i13)))) (pc' := 152) (tb1_Model hγ) [.putfield 83, .aload_n 0, .aload_n 0, .getfield 71] (by decide +kernel) rfl rfl trivial ?_
      obtain ⟨i14, ei14, h⟩ := h
      rw [ei14]
      refine E_blk (lv' := [some (vr (some (11, this))), some (vr (some (300, v1))), some (vi v2), some (vi v3), none, some (vi v5), some (vi v6)]) (st' := [vi ((mI (sR M12 11 this 32 (some (300, i13))) 11 this 36) + (1 : Int32)), vr (some (300, i14)), vr (some (11, this))]) (M1 := (sR M12 11 this 32 (some (300, i13)))) (pc' := 158) (tb1_Model hγ) [.aload_n 0, .getfield 77, .iconst 1, .iadd] (by decide +kernel) rfl rfl trivial ?_
      refine E_callS (κ' := k_Model_room) (As := [vr (some (300, i14)), vi ((mI (sR M12 11 this 32 (some (300, i13))) 11 this 36) + (1 : Int32))]) (st := [vr (some (11, this))]) ms_Model_room (Or.inl (tbk_mem (j := 11) (k := 66) rfl)) rfl (by decide +kernel) (Nat.le_of_ble_eq_true rfl) (Nat.le_of_ble_eq_true rfl) rfl (by decide) (lk1_Model_room hγ i14 ((mI (sR M12 11 this 32 (some (300, i13))) 11 this 36) + (1 : Int32)) _ (sR M12 11 this 32 (some (300, i13))) h) (fun _ _ => Qr_r) (fun v M15 hp => Qr_k (R := fun st => E γ k_Model_signature 2 161 [some (vr (some (11, this))), some (vr (some (300, v1))), some (vi v2), some (vi v3), none, some (vi v5), some (vi v6)] st M15 (Qi Q)) hp (fun i16 h => ?_))
      refine E_blk (lv' := [some (vr (some (11, this))), some (vr (some (300, v1))), some (vi v2), some (vi v3), none, some (vi v5), some (vi v6)]) (st' := [vr (mR (sR M15 11 this 33 (some (300, i16))) 11 this 35), vr (some (11, this))]) (M1 := (sR M15 11 this 33 (some (300, i16)))) (pc' := 169) (tb1_Model hγ) [.putfield 71, .aload_n 0, .aload_n 0, .getfield 86] (by decide +kernel) rfl rfl trivial ?_
      obtain ⟨i17, ei17, h⟩ := h
      rw [ei17]
      refine E_blk (lv' := [some (vr (some (11, this))), some (vr (some (300, v1))), some (vi v2), some (vi v3), none, some (vi v5), some (vi v6)]) (st' := [vi ((mI (sR M15 11 this 33 (some (300, i16))) 11 this 37) + v2), vr (some (300, i17)), vr (some (11, this))]) (M1 := (sR M15 11 this 33 (some (300, i16)))) (pc' := 175) (tb1_Model hγ) [.aload_n 0, .getfield 89, .iload_n 2, .iadd] (by decide +kernel) rfl rfl trivial ?_
      refine E_callS (κ' := k_Model_room) (As := [vr (some (300, i17)), vi ((mI (sR M15 11 this 33 (some (300, i16))) 11 this 37) + v2)]) (st := [vr (some (11, this))]) ms_Model_room (Or.inl (tbk_mem (j := 11) (k := 66) rfl)) rfl (by decide +kernel) (Nat.le_of_ble_eq_true rfl) (Nat.le_of_ble_eq_true rfl) rfl (by decide) (lk1_Model_room hγ i17 ((mI (sR M15 11 this 33 (some (300, i16))) 11 this 37) + v2) _ (sR M15 11 this 33 (some (300, i16))) h) (fun _ _ => Qr_r) (fun v M18 hp => Qr_k (R := fun st => E γ k_Model_signature 2 178 [some (vr (some (11, this))), some (vr (some (300, v1))), some (vi v2), some (vi v3), none, some (vi v5), some (vi v6)] st M18 (Qi Q)) hp (fun i19 h => ?_))
      refine E_blk (lv' := [some (vr (some (11, this))), some (vr (some (300, v1))), some (vi v2), some (vi v3), none, some (vi v5), some (vi v6)]) (st' := [vr (mR (sR M18 11 this 35 (some (300, i19))) 11 this 35), vi (0 : Int32), vr (some (300, v1))]) (M1 := (sR M18 11 this 35 (some (300, i19)))) (pc' := 187) (tb1_Model hγ) [.putfield 86, .aload_n 1, .iconst 0, .aload_n 0, .getfield 86] (by decide +kernel) rfl rfl trivial ?_
      obtain ⟨i20, ei20, h⟩ := h
      rw [ei20]
      refine E_blk (lv' := [some (vr (some (11, this))), some (vr (some (300, v1))), some (vi v2), some (vi v3), none, some (vi v5), some (vi v6)]) (st' := [vi v2, vi (mI (sR M18 11 this 35 (some (300, i19))) 11 this 37), vr (some (300, i20)), vi (0 : Int32), vr (some (300, v1))]) (M1 := (sR M18 11 this 35 (some (300, i19)))) (pc' := 192) (tb1_Model hγ) [.aload_n 0, .getfield 89, .iload_n 2] (by decide +kernel) rfl rfl trivial ?_
      obtain ⟨c22, c23, c24, c25, c26, M21, eM21, h⟩ := h
      refine E_copy (pc := 192) (κ := k_Model_signature) (f := 300) (i := v1) (g := 300) (j := i20) (sp := (0 : Int32)) (dp := (mI (sR M18 11 this 35 (some (300, i19))) 11 this 37)) (n := v2) (idx := 11) (st := []) c22 c23 c24 c25 c26 (by decide) (by decide) rfl (by decide) (tbk_mem (j := 11) (k := 65) rfl) (by decide +kernel) (Nat.le_of_ble_eq_true rfl) ?_
      rw [← eM21]
      refine E_blk (lv' := [some (vr (some (11, this))), some (vr (some (300, v1))), some (vi v2), some (vi v3), none, some (vi v5), some (vi v6)]) (st' := [vr (mR M21 11 this 30)]) (M1 := M21) (pc' := 199) (tb1_Model hγ) [.aload_n 0, .getfield 74] (by decide +kernel) rfl rfl trivial ?_
      obtain ⟨i27, ei27, h⟩ := h
      rw [ei27]
      obtain ⟨c28, h⟩ := h
      refine E_blk (lv' := [some (vr (some (11, this))), some (vr (some (300, v1))), some (vi v2), some (vi v3), none, some (vi v5), some (vi v6)]) (st' := [vr (mR (sI M21 300 i27 (mI M21 11 this 36).toNatClampNeg (mI M21 11 this 37)) 11 this 31)]) (M1 := (sI M21 300 i27 (mI M21 11 this 36).toNatClampNeg (mI M21 11 this 37))) (pc' := 212) (tb1_Model hγ) [.aload_n 0, .getfield 77, .aload_n 0, .getfield 89, .iastore, .aload_n 0, .getfield 80] (by decide +kernel) rfl rfl ⟨c28, trivial⟩ ?_
      obtain ⟨i29, ei29, h⟩ := h
      rw [ei29]
      obtain ⟨c30, h⟩ := h
      refine E_blk (lv' := [some (vr (some (11, this))), some (vr (some (300, v1))), some (vi v2), some (vi v3), none, some (vi v5), some (vi v6)]) (st' := []) (M1 := (sI (sI M21 300 i27 (mI M21 11 this 36).toNatClampNeg (mI M21 11 this 37)) 300 i29 (mI (sI M21 300 i27 (mI M21 11 this 36).toNatClampNeg (mI M21 11 this 37)) 11 this 36).toNatClampNeg v2)) (pc' := 218) (tb1_Model hγ) [.aload_n 0, .getfield 77, .iload_n 2, .iastore] (by decide +kernel) rfl rfl ⟨c30, trivial⟩ ?_
      obtain ⟨M31, eM31, h⟩ := h
      rw [← eM31]
      refine E_blk (lv' := [some (vr (some (11, this))), some (vr (some (300, v1))), some (vi v2), some (vi v3), none, some (vi v5), some (vi v6)]) (st' := [vr (mR M31 11 this 32)]) (M1 := M31) (pc' := 222) (tb1_Model hγ) [.aload_n 0, .getfield 83] (by decide +kernel) rfl rfl trivial ?_
      obtain ⟨i32, ei32, h⟩ := h
      rw [ei32]
      obtain ⟨c33, h⟩ := h
      refine E_blk (lv' := [some (vr (some (11, this))), some (vr (some (300, v1))), some (vi v2), some (vi v3), none, some (vi v5), some (vi v6)]) (st' := [vr (mR (sI M31 300 i32 (mI M31 11 this 36).toNatClampNeg v3) 11 this 33)]) (M1 := (sI M31 300 i32 (mI M31 11 this 36).toNatClampNeg v3)) (pc' := 232) (tb1_Model hγ) [.aload_n 0, .getfield 77, .iload_n 3, .iastore, .aload_n 0, .getfield 71] (by decide +kernel) rfl rfl ⟨c33, trivial⟩ ?_
      obtain ⟨i34, ei34, h⟩ := h
      rw [ei34]
      obtain ⟨c35, c36, h⟩ := h
      refine E_blk (lv' := [some (vr (some (11, this))), some (vr (some (300, v1))), some (vi v2), some (vi v3), none, some (vi v5), some (vi v6)]) (st' := []) (M1 := (sI (sI M31 300 i32 (mI M31 11 this 36).toNatClampNeg v3) 300 i34 (mI (sI M31 300 i32 (mI M31 11 this 36).toNatClampNeg v3) 11 this 36).toNatClampNeg (mI (sI M31 300 i32 (mI M31 11 this 36).toNatClampNeg v3) 106 this v5.toNatClampNeg))) (pc' := 244) (tb1_Model hγ) [.aload_n 0, .getfield 77, .aload_n 0, .getfield 64, .iload 5, .iaload, .iastore] (by decide +kernel) rfl rfl ⟨c35, c36, trivial⟩ ?_
      obtain ⟨M37, eM37, h⟩ := h
      rw [← eM37]
      refine E_blk (lv' := [some (vr (some (11, this))), some (vr (some (300, v1))), some (vi v2), some (vi v3), none, some (vi v5), some (vi v6)]) (st' := []) (M1 := (sI (sI M37 11 this 37 ((mI M37 11 this 37) + v2)) 11 this 36 ((mI (sI M37 11 this 37 ((mI M37 11 this 37) + v2)) 11 this 36) + (1 : Int32)))) (pc' := 264) (tb1_Model hγ) [.aload_n 0, .dup, .getfield 89, .iload_n 2, .iadd, .putfield 89, .aload_n 0, .dup, .getfield 77, .iconst 1, .iadd, .putfield 77] (by decide +kernel) rfl rfl trivial ?_
      obtain ⟨M38, eM38, h⟩ := h
      rw [← eM38]
      obtain ⟨c39, h⟩ := h
      refine E_blk (lv' := [some (vr (some (11, this))), some (vr (some (300, v1))), some (vi v2), some (vi v3), none, some (vi v5), some (vi v6)]) (st' := [vi ((mI (sI M38 106 this v5.toNatClampNeg (mI M38 11 this 36)) 11 this 36) - (1 : Int32))]) (M1 := (sI M38 106 this v5.toNatClampNeg (mI M38 11 this 36))) (pc' := 281) (tb1_Model hγ) [.aload_n 0, .getfield 64, .iload 5, .aload_n 0, .getfield 77, .iastore, .aload_n 0, .getfield 77, .iconst 1, .isub] (by decide +kernel) rfl rfl ⟨c39, trivial⟩ ?_
      exact E_iret rfl (by decide +kernel) h
    · rw [if_neg b4] at h
      refine E_blk (lv' := [some (vr (some (11, this))), some (vr (some (300, v1))), some (vi v2), some (vi v3), none, some (vi v5), some (vi v6)]) (st' := [vi v3, vi v2, vr (some (300, v1)), vi (v6 - (1 : Int32)), vr (some (11, this))]) (M1 := M) (pc' := 71) (tb1_Model hγ) [.aload_n 0, .iload 6, .iconst 1, .isub, .aload_n 1, .iload_n 2, .iload_n 3] (by decide +kernel) rfl rfl trivial ?_
      refine E_callV (κ' := k_Model_isSignature) (As := [vi (v6 - (1 : Int32)), vr (some (300, v1)), vi v2, vi v3]) (st := []) mv_Model_isSignature (Or.inl (tbk_mem (j := 11) (k := 97) rfl)) rfl (by decide +kernel) (Nat.le_of_ble_eq_true rfl) (Nat.le_of_ble_eq_true rfl) rfl (by decide) (lk1_Model_isSignature hγ this (v6 - (1 : Int32)) v1 v2 v3 _ M h) (fun _ _ => Qi_r) (fun v M40 hp => Qi_k (R := fun st => E γ k_Model_signature 2 74 [some (vr (some (11, this))), some (vr (some (300, v1))), some (vi v2), some (vi v3), none, some (vi v5), some (vi v6)] st M40 (Qi Q)) hp (fun r41 h => ?_))
      refine E_if_eq (off := 8) (tgt := 82) (by decide +kernel) (by decide) (fun b42 => ?_) (fun b42 => ?_)
      · rw [if_pos b42] at h
        refine E_blk (lv' := [some (vr (some (11, this))), some (vr (some (300, v1))), some (vi v2), some (vi v3), none, some (vi v5), some (vi v6)]) (st' := [vr (mR M40 11 this 33)]) (M1 := M40) (pc' := 86) (tb1_Model hγ) [.aload_n 0, .getfield 71] (by decide +kernel) rfl rfl trivial ?_
        obtain ⟨i43, ei43, h⟩ := h
        rw [ei43]
        obtain ⟨c44, h⟩ := h
        refine E_blk (lv' := [some (vr (some (11, this))), some (vr (some (300, v1))), some (vi v2), some (vi v3), none, some (vi v5), some (vi (mI M40 300 i43 (v6 - (1 : Int32)).toNatClampNeg))]) (st' := []) (M1 := M40) (pc' := 93) (tb1_Model hγ) [.iload 6, .iconst 1, .isub, .iaload, .istore 6] (by decide +kernel) rfl rfl ⟨c44, trivial⟩ ?_
        refine E_goto (off := -35) (tgt := 58) (by decide +kernel) (by decide) ?_
        refine E_mask [true, true, true, true, false, true, true] rfl ?_
        exact ih v1 v2 v3 v5 (mI M40 300 i43 (v6 - (1 : Int32)).toNatClampNeg) M40 h
      · rw [if_neg b42] at h
        refine E_blk (lv' := [some (vr (some (11, this))), some (vr (some (300, v1))), some (vi v2), some (vi v3), none, some (vi v5), some (vi v6)]) (st' := [vi (v6 - (1 : Int32))]) (M1 := M40) (pc' := 81) (tb1_Model hγ) [.iload 6, .iconst 1, .isub] (by decide +kernel) rfl rfl trivial ?_
        exact E_iret rfl (by decide +kernel) h
set_option maxRecDepth 4096 in
theorem lk1_Model_signature_L11 {γ : Gm} (hγ : G1 γ) (this : Nat) (Q : Int32 → Mem → Prop) : ∀ (n : Nat) (v1 : Nat) (v2 : Int32) (v3 : Int32) (v4 : Int32) (v5 : Int32) (M : Mem), w_Model_signature_L11 this Q n v1 v2 v3 v4 v5 M → E γ k_Model_signature 2 11 [some (vr (some (11, this))), some (vr (some (300, v1))), some (vi v2), some (vi v3), some (vi v4), some (vi v5), none] [] M (Qi Q) := by
  intro n
  induction n with
  | zero => intro v1 v2 v3 v4 v5 M h; exact h.elim
  | succ n ih =>
    intro v1 v2 v3 v4 v5 M h
    unfold w_Model_signature_L11 at h
    refine E_blk (lv' := [some (vr (some (11, this))), some (vr (some (300, v1))), some (vi v2), some (vi v3), some (vi v4), some (vi v5), none]) (st' := [vi v2, vi v5]) (M1 := M) (pc' := 14) (tb1_Model hγ) [.iload 5, .iload_n 2] (by decide +kernel) rfl rfl trivial ?_
    refine E_icmp_ge (off := 21) (tgt := 35) (by decide +kernel) (by decide) (fun b1 => ?_) (fun b1 => ?_)
    · rw [if_pos b1] at h
      refine E_blk (lv' := [some (vr (some (11, this))), some (vr (some (300, v1))), some (vi v2), some (vi v3), some (vi v4), some (vi ((v4 ^^^ (v4.toUInt32 >>> ((11 : Int32).toUInt32 &&& Int32.toUInt32 31)).toInt32) &&& (1023 : Int32))), none]) (st' := []) (M1 := M) (pc' := 49) (tb1_Model hγ) [.iload 4, .iload 4, .bipush 11, .iushr, .ixor, .sipush 1023, .iand, .istore 5] (by decide +kernel) rfl rfl trivial ?_
      obtain ⟨x2, ex2, h⟩ := h
      rw [← ex2]
      obtain ⟨c3, h⟩ := h
      refine E_blk (lv' := [some (vr (some (11, this))), some (vr (some (300, v1))), some (vi v2), some (vi v3), some (vi v4), some (vi x2), some (vi (mI M 106 this x2.toNatClampNeg))]) (st' := []) (M1 := M) (pc' := 58) (tb1_Model hγ) [.aload_n 0, .getfield 64, .iload 5, .iaload, .istore 6] (by decide +kernel) rfl rfl ⟨c3, trivial⟩ ?_
      obtain ⟨n45, h⟩ := h
      refine E_mask [true, true, true, true, false, true, true] rfl ?_
      exact lk1_Model_signature_L58 hγ this Q n45 v1 v2 v3 x2 (mI M 106 this x2.toNatClampNeg) M h
    · rw [if_neg b1] at h
      obtain ⟨c46, h⟩ := h
      refine E_blk (lv' := [some (vr (some (11, this))), some (vr (some (300, v1))), some (vi v2), some (vi v3), some (vi (((31 : Int32) * v4) + (mI M 300 v1 v5.toNatClampNeg))), some (vi (v5 + (1 : Int32))), none]) (st' := []) (M1 := M) (pc' := 32) (tb1_Model hγ) [.bipush 31, .iload 4, .imul, .aload_n 1, .iload 5, .iaload, .iadd, .istore 4, .iinc 5 1] (by decide +kernel) rfl rfl ⟨c46, trivial⟩ ?_
      refine E_goto (off := -21) (tgt := 11) (by decide +kernel) (by decide) ?_
      refine E_mask [true, true, true, true, true, true, false] rfl ?_
      exact ih v1 v2 v3 (((31 : Int32) * v4) + (mI M 300 v1 v5.toNatClampNeg)) (v5 + (1 : Int32)) M h
set_option maxRecDepth 4096 in
theorem lk1_Model_signature {γ : Gm} (hγ : G1 γ) (this : Nat) (a1 : Nat) (a2 : Int32) (a3 : Int32) (Q : Int32 → Mem → Prop) (M : Mem) (h : w_Model_signature this a1 a2 a3 Q M) : E γ k_Model_signature 2 0 [some (vr (some (11, this))), some (vr (some (300, a1))), some (vi a2), some (vi a3), none, none, none] [] M (Qi Q) := by
  unfold w_Model_signature at h
  refine E_blk (lv' := [some (vr (some (11, this))), some (vr (some (300, a1))), some (vi a2), some (vi a3), some (vi (((31 : Int32) * a2) + a3)), some (vi (0 : Int32)), none]) (st' := []) (M1 := M) (pc' := 11) (tb1_Model hγ) [.bipush 31, .iload_n 2, .imul, .iload_n 3, .iadd, .istore 4, .iconst 0, .istore 5] (by decide +kernel) rfl rfl trivial ?_
  obtain ⟨n47, h⟩ := h
  refine E_mask [true, true, true, true, true, true, false] rfl ?_
  exact lk1_Model_signature_L11 hγ this Q n47 a1 a2 a3 (((31 : Int32) * a2) + a3) (0 : Int32) M h
def w_Model_isDigit (a1 : Int32) (Q : Int32 → Mem → Prop) (M : Mem) : Prop :=
  if a1 < (48 : Int32) then (Q (0 : Int32) M) else (if (57 : Int32) < a1 then (Q (0 : Int32) M) else (Q (1 : Int32) M))
set_option maxRecDepth 4096 in
theorem lk_Model_isDigit {γ : Gm} (hγ : Gk γ) (a1 : Int32) (Q : Int32 → Mem → Prop) (M : Mem) (h : w_Model_isDigit a1 Q M) : E γ k_Model_isDigit 0 0 [some (vi a1)] [] M (Qi Q) := by
  unfold w_Model_isDigit at h
  refine E_blk (lv' := [some (vi a1)]) (st' := [vi (48 : Int32), vi a1]) (M1 := M) (pc' := 3) (tb_Model hγ) [.iload_n 0, .bipush 48] (by decide +kernel) rfl rfl trivial ?_
  refine E_icmp_lt (off := 13) (tgt := 16) (by decide +kernel) (by decide) (fun b1 => ?_) (fun b1 => ?_)
  · rw [if_pos b1] at h
    refine E_blk (lv' := [some (vi a1)]) (st' := [vi (0 : Int32)]) (M1 := M) (pc' := 17) (tb_Model hγ) [.iconst 0] (by decide +kernel) rfl rfl trivial ?_
    exact E_zret rfl (Or.inl rfl) (by decide +kernel) h
  · rw [if_neg b1] at h
    refine E_blk (lv' := [some (vi a1)]) (st' := [vi (57 : Int32), vi a1]) (M1 := M) (pc' := 9) (tb_Model hγ) [.iload_n 0, .bipush 57] (by decide +kernel) rfl rfl trivial ?_
    refine E_icmp_gt (off := 7) (tgt := 16) (by decide +kernel) (by decide) (fun b2 => ?_) (fun b2 => ?_)
    · rw [if_pos b2] at h
      refine E_blk (lv' := [some (vi a1)]) (st' := [vi (0 : Int32)]) (M1 := M) (pc' := 17) (tb_Model hγ) [.iconst 0] (by decide +kernel) rfl rfl trivial ?_
      exact E_zret rfl (Or.inl rfl) (by decide +kernel) h
    · rw [if_neg b2] at h
      refine E_blk (lv' := [some (vi a1)]) (st' := [vi (1 : Int32)]) (M1 := M) (pc' := 13) (tb_Model hγ) [.iconst 1] (by decide +kernel) rfl rfl trivial ?_
      refine E_goto (off := 4) (tgt := 17) (by decide +kernel) (by decide) ?_
      exact E_zret rfl (Or.inr rfl) (by decide +kernel) h
def w_Model_isLetter_j24 (Q : Int32 → Mem → Prop) (v0 : Int32) (M : Mem) : Prop :=
  if v0 = (95 : Int32) then (Q (1 : Int32) M) else (Q (0 : Int32) M)
def w_Model_isLetter_j12 (Q : Int32 → Mem → Prop) (v0 : Int32) (M : Mem) : Prop :=
  if v0 < (65 : Int32) then (w_Model_isLetter_j24 Q v0 M) else (if v0 ≤ (90 : Int32) then (Q (1 : Int32) M) else (w_Model_isLetter_j24 Q v0 M))
def w_Model_isLetter (a1 : Int32) (Q : Int32 → Mem → Prop) (M : Mem) : Prop :=
  if a1 < (97 : Int32) then (w_Model_isLetter_j12 Q a1 M) else (if a1 ≤ (122 : Int32) then (Q (1 : Int32) M) else (w_Model_isLetter_j12 Q a1 M))
set_option maxRecDepth 4096 in
theorem lk_Model_isLetter_j24 {γ : Gm} (hγ : Gk γ) (Q : Int32 → Mem → Prop) (v0 : Int32) (M : Mem) (h : w_Model_isLetter_j24 Q v0 M) : E γ k_Model_isLetter 0 24 [some (vi v0)] [] M (Qi Q) := by
  unfold w_Model_isLetter_j24 at h
  refine E_blk (lv' := [some (vi v0)]) (st' := [vi (95 : Int32), vi v0]) (M1 := M) (pc' := 27) (tb_Model hγ) [.iload_n 0, .bipush 95] (by decide +kernel) rfl rfl trivial ?_
  refine E_icmp_ne (off := 7) (tgt := 34) (by decide +kernel) (by decide) (fun b3 => ?_) (fun b3 => ?_)
  · rw [if_pos b3] at h
    refine E_blk (lv' := [some (vi v0)]) (st' := [vi (1 : Int32)]) (M1 := M) (pc' := 31) (tb_Model hγ) [.iconst 1] (by decide +kernel) rfl rfl trivial ?_
    refine E_goto (off := 4) (tgt := 35) (by decide +kernel) (by decide) ?_
    exact E_zret rfl (Or.inr rfl) (by decide +kernel) h
  · rw [if_neg b3] at h
    refine E_blk (lv' := [some (vi v0)]) (st' := [vi (0 : Int32)]) (M1 := M) (pc' := 35) (tb_Model hγ) [.iconst 0] (by decide +kernel) rfl rfl trivial ?_
    exact E_zret rfl (Or.inl rfl) (by decide +kernel) h
set_option maxRecDepth 4096 in
theorem lk_Model_isLetter_j12 {γ : Gm} (hγ : Gk γ) (Q : Int32 → Mem → Prop) (v0 : Int32) (M : Mem) (h : w_Model_isLetter_j12 Q v0 M) : E γ k_Model_isLetter 0 12 [some (vi v0)] [] M (Qi Q) := by
  unfold w_Model_isLetter_j12 at h
  refine E_blk (lv' := [some (vi v0)]) (st' := [vi (65 : Int32), vi v0]) (M1 := M) (pc' := 15) (tb_Model hγ) [.iload_n 0, .bipush 65] (by decide +kernel) rfl rfl trivial ?_
  refine E_icmp_lt (off := 9) (tgt := 24) (by decide +kernel) (by decide) (fun b2 => ?_) (fun b2 => ?_)
  · rw [if_pos b2] at h
    refine E_mask [true] rfl ?_
    exact lk_Model_isLetter_j24 hγ Q v0 M h
  · rw [if_neg b2] at h
    refine E_blk (lv' := [some (vi v0)]) (st' := [vi (90 : Int32), vi v0]) (M1 := M) (pc' := 21) (tb_Model hγ) [.iload_n 0, .bipush 90] (by decide +kernel) rfl rfl trivial ?_
    refine E_icmp_le (off := 9) (tgt := 30) (by decide +kernel) (by decide) (fun b4 => ?_) (fun b4 => ?_)
    · rw [if_pos b4] at h
      refine E_blk (lv' := [some (vi v0)]) (st' := [vi (1 : Int32)]) (M1 := M) (pc' := 31) (tb_Model hγ) [.iconst 1] (by decide +kernel) rfl rfl trivial ?_
      refine E_goto (off := 4) (tgt := 35) (by decide +kernel) (by decide) ?_
      exact E_zret rfl (Or.inr rfl) (by decide +kernel) h
    · rw [if_neg b4] at h
      refine E_mask [true] rfl ?_
      exact lk_Model_isLetter_j24 hγ Q v0 M h
set_option maxRecDepth 4096 in
theorem lk_Model_isLetter {γ : Gm} (hγ : Gk γ) (a1 : Int32) (Q : Int32 → Mem → Prop) (M : Mem) (h : w_Model_isLetter a1 Q M) : E γ k_Model_isLetter 0 0 [some (vi a1)] [] M (Qi Q) := by
  unfold w_Model_isLetter at h
  refine E_blk (lv' := [some (vi a1)]) (st' := [vi (97 : Int32), vi a1]) (M1 := M) (pc' := 3) (tb_Model hγ) [.iload_n 0, .bipush 97] (by decide +kernel) rfl rfl trivial ?_
  refine E_icmp_lt (off := 9) (tgt := 12) (by decide +kernel) (by decide) (fun b1 => ?_) (fun b1 => ?_)
  · rw [if_pos b1] at h
    refine E_mask [true] rfl ?_
    exact lk_Model_isLetter_j12 hγ Q a1 M h
  · rw [if_neg b1] at h
    refine E_blk (lv' := [some (vi a1)]) (st' := [vi (122 : Int32), vi a1]) (M1 := M) (pc' := 9) (tb_Model hγ) [.iload_n 0, .bipush 122] (by decide +kernel) rfl rfl trivial ?_
    refine E_icmp_le (off := 21) (tgt := 30) (by decide +kernel) (by decide) (fun b5 => ?_) (fun b5 => ?_)
    · rw [if_pos b5] at h
      refine E_blk (lv' := [some (vi a1)]) (st' := [vi (1 : Int32)]) (M1 := M) (pc' := 31) (tb_Model hγ) [.iconst 1] (by decide +kernel) rfl rfl trivial ?_
      refine E_goto (off := 4) (tgt := 35) (by decide +kernel) (by decide) ?_
      exact E_zret rfl (Or.inr rfl) (by decide +kernel) h
    · rw [if_neg b5] at h
      refine E_mask [true] rfl ?_
      exact lk_Model_isLetter_j12 hγ Q a1 M h
def w_Model_addWord (this : Nat) (a1 : Int32) (a2 : Int32) (a3 : Int32) (Q : Mem → Prop) (M : Mem) : Prop :=
  vp_in (mI M 11 this 42) (mL M 411 this) ∧ ∃ M2, M2 = (sI M 411 this (mI M 11 this 42).toNatClampNeg a1.toInt8.toInt32.toInt8.toInt32) ∧ vp_in (mI M2 11 this 42) (mL M2 107 this) ∧ vp_in (mI (sI M2 107 this (mI M2 11 this 42).toNatClampNeg a2) 11 this 42) (mL (sI M2 107 this (mI M2 11 this 42).toNatClampNeg a2) 108 this) ∧ ∃ M5, M5 = (sI (sI M2 107 this (mI M2 11 this 42).toNatClampNeg a2) 108 this (mI (sI M2 107 this (mI M2 11 this 42).toNatClampNeg a2) 11 this 42).toNatClampNeg a3) ∧ Q (sI M5 11 this 42 ((mI M5 11 this 42) + (1 : Int32)))
set_option maxRecDepth 4096 in
theorem lk_Model_addWord {γ : Gm} (hγ : Gk γ) (this : Nat) (a1 : Int32) (a2 : Int32) (a3 : Int32) (Q : Mem → Prop) (M : Mem) (h : w_Model_addWord this a1 a2 a3 Q M) : E γ k_Model_addWord 0 0 [some (vr (some (11, this))), some (vi a1), some (vi a2), some (vi a3)] [] M (Qv Q) := by
  unfold w_Model_addWord at h
  obtain ⟨c1, h⟩ := h
  refine E_blk (lv' := [some (vr (some (11, this))), some (vi a1), some (vi a2), some (vi a3)]) (st' := []) (M1 := (sI M 411 this (mI M 11 this 42).toNatClampNeg a1.toInt8.toInt32.toInt8.toInt32)) (pc' := 11) (tb_Model hγ) [.aload_n 0, .getfield 92, .aload_n 0, .getfield 95, .iload_n 1, .i2b, .bastore] (by decide +kernel) rfl rfl ⟨c1, trivial⟩ ?_
  obtain ⟨M2, eM2, h⟩ := h
  rw [← eM2]
  obtain ⟨c3, c4, h⟩ := h
  refine E_blk (lv' := [some (vr (some (11, this))), some (vi a1), some (vi a2), some (vi a3)]) (st' := []) (M1 := (sI (sI M2 107 this (mI M2 11 this 42).toNatClampNeg a2) 108 this (mI (sI M2 107 this (mI M2 11 this 42).toNatClampNeg a2) 11 this 42).toNatClampNeg a3)) (pc' := 31) (tb_Model hγ) [.aload_n 0, .getfield 98, .aload_n 0, .getfield 95, .iload_n 2, .iastore, .aload_n 0, .getfield 101, .aload_n 0, .getfield 95, .iload_n 3, .iastore] (by decide +kernel) rfl rfl ⟨c3, c4, trivial⟩ ?_
  obtain ⟨M5, eM5, h⟩ := h
  rw [← eM5]
  refine E_blk (lv' := [some (vr (some (11, this))), some (vi a1), some (vi a2), some (vi a3)]) (st' := []) (M1 := (sI M5 11 this 42 ((mI M5 11 this 42) + (1 : Int32)))) (pc' := 41) (tb_Model hγ) [.aload_n 0, .dup, .getfield 95, .iconst 1, .iadd, .putfield 95] (by decide +kernel) rfl rfl trivial ?_
  exact E_vret rfl (by decide +kernel) h
def w_Model_number_j144 (this : Nat) (Q : Int32 → Mem → Prop) (v2 : Int32) (v6 : Int32) (v9 : Int64) (s0 : Int32) (M : Mem) : Prop :=
  w_Model_addWord this s0 v9.toInt32 v2 (fun M8 => Q v6 M8) M
def w_Model_number_j131 (this : Nat) (Q : Int32 → Mem → Prop) (v2 : Int32) (v6 : Int32) (v9 : Int64) (s0 : Int32) (M : Mem) : Prop :=
  if s0 = 0 then (w_Model_number_j144 this Q v2 v6 v9 (1 : Int32) M) else (w_Model_number_j144 this Q v2 v6 v9 (4 : Int32) M)
def w_Model_number_j130 (this : Nat) (Q : Int32 → Mem → Prop) (v2 : Int32) (v6 : Int32) (v9 : Int64) (M : Mem) : Prop :=
  w_Model_number_j131 this Q v2 v6 v9 (0 : Int32) M
def w_Model_number_j104 (this : Nat) (Q : Int32 → Mem → Prop) (v2 : Int32) (v5 : Int32) (v6 : Int32) (s0 : Int64) (M : Mem) : Prop :=
  if (10 : Int32) < (v6 - v5) then (w_Model_number_j130 this Q v2 v6 s0 M) else (if (lg_cmp s0 s0.toInt32.toInt64) = 0 then (w_Model_number_j131 this Q v2 v6 s0 (1 : Int32) M) else (w_Model_number_j130 this Q v2 v6 s0 M))
def w_Model_number_j91 (this : Nat) (Q : Int32 → Mem → Prop) (v2 : Int32) (v4 : Int32) (v5 : Int32) (v6 : Int32) (v7 : Int64) (M : Mem) : Prop :=
  if v4 = 0 then (w_Model_number_j104 this Q v2 v5 v6 v7 M) else (w_Model_number_j104 this Q v2 v5 v6 (-v7) M)
def w_Model_number_j83 (this : Nat) (Q : Int32 → Mem → Prop) (k36 : Nat → Int32 → Int32 → Int32 → Int32 → Int32 → Int64 → Mem → Prop) (v1 : Nat) (v2 : Int32) (v3 : Int32) (v4 : Int32) (v5 : Int32) (v6 : Int32) (s0 : Int64) (M : Mem) : Prop :=
  k36 v1 v2 v3 v4 v5 (v6 + (1 : Int32)) s0 M
def w_Model_number_L36 (this : Nat) (Q : Int32 → Mem → Prop) : Nat → Nat → Int32 → Int32 → Int32 → Int32 → Int32 → Int64 → Mem → Prop
  | 0, _, _, _, _, _, _, _, _ => False
  | n + 1, v1, v2, v3, v4, v5, v6, v7, M => if v3 ≤ v6 then (w_Model_number_j91 this Q v2 v4 v5 v6 v7 M) else (vp_in v6 (mL M 402 v1) ∧ w_Model_isDigit (mI M 402 v1 v6.toNatClampNeg) (fun r12 M11 => if r12 = 0 then (w_Model_number_j91 this Q v2 v4 v5 v6 v7 M11) else (if (10 : Int32) ≤ (v6 - v5) then (w_Model_number_j83 this Q (w_Model_number_L36 this Q n) v1 v2 v3 v4 v5 v6 v7 M11) else (vp_in v6 (mL M11 402 v1) ∧ w_Model_number_j83 this Q (w_Model_number_L36 this Q n) v1 v2 v3 v4 v5 v6 ((((10 : Int64) * v7) + (mI M11 402 v1 v6.toNatClampNeg).toInt64) - (48 : Int64)) M11))) M)
def w_Model_number_j27 (this : Nat) (Q : Int32 → Mem → Prop) (v1 : Nat) (v2 : Int32) (v3 : Int32) (v4 : Int32) (s0 : Int32) (M : Mem) : Prop :=
  ∃ n16 : Nat, w_Model_number_L36 this Q n16 v1 v2 v3 v4 s0 s0 (0 : Int64) M
def w_Model_number_j13 (this : Nat) (Q : Int32 → Mem → Prop) (v1 : Nat) (v2 : Int32) (v3 : Int32) (s0 : Int32) (M : Mem) : Prop :=
  if s0 = 0 then (w_Model_number_j27 this Q v1 v2 v3 s0 v2 M) else (w_Model_number_j27 this Q v1 v2 v3 s0 (v2 + (1 : Int32)) M)
def w_Model_number (this : Nat) (a1 : Nat) (a2 : Int32) (a3 : Int32) (Q : Int32 → Mem → Prop) (M : Mem) : Prop :=
  vp_in a2 (mL M 402 a1) ∧ if (mI M 402 a1 a2.toNatClampNeg) = (45 : Int32) then (w_Model_number_j13 this Q a1 a2 a3 (1 : Int32) M) else (w_Model_number_j13 this Q a1 a2 a3 (0 : Int32) M)
set_option maxRecDepth 4096 in
theorem lk_Model_number_j144 {γ : Gm} (hγ : Gk γ) (this : Nat) (Q : Int32 → Mem → Prop) (v2 : Int32) (v6 : Int32) (v9 : Int64) (s0 : Int32) (M : Mem) (h : w_Model_number_j144 this Q v2 v6 v9 s0 M) : E γ k_Model_number 1 144 [none, none, some (vi v2), none, none, none, some (vi v6), none, none, some (vl v9), none, none] [vi s0, vr (some (11, this))] M (Qi Q) := by
  unfold w_Model_number_j144 at h
  refine E_blk (lv' := [none, none, some (vi v2), none, none, none, some (vi v6), none, none, some (vl v9), none, none]) (st' := [vi v2, vi v9.toInt32, vi s0, vr (some (11, this))]) (M1 := M) (pc' := 148) (tb_Model hγ) [.lload 9, .l2i, .iload_n 2] (by decide +kernel) rfl rfl trivial ?_
  refine E_callV (κ' := k_Model_addWord) (As := [vi s0, vi v9.toInt32, vi v2]) (st := []) mv_Model_addWord (Or.inl (tbk_mem (j := 14) (k := 212) rfl)) rfl (by decide +kernel) (Nat.le_of_ble_eq_true rfl) (Nat.le_of_ble_eq_true rfl) rfl (by decide) (lk_Model_addWord hγ this s0 v9.toInt32 v2 _ M h) (fun _ _ => Qv_r) (fun v M8 hp => Qv_k (R := fun st => E γ k_Model_number 1 151 [none, none, some (vi v2), none, none, none, some (vi v6), none, none, some (vl v9), none, none] st M8 (Qi Q)) hp (fun h => ?_))
  refine E_blk (lv' := [none, none, some (vi v2), none, none, none, some (vi v6), none, none, some (vl v9), none, none]) (st' := [vi v6]) (M1 := M8) (pc' := 153) (tb_Model hγ) [.iload 6] (by decide +kernel) rfl rfl trivial ?_
  exact E_iret rfl (by decide +kernel) h
set_option maxRecDepth 4096 in
theorem lk_Model_number_j131 {γ : Gm} (hγ : Gk γ) (this : Nat) (Q : Int32 → Mem → Prop) (v2 : Int32) (v6 : Int32) (v9 : Int64) (s0 : Int32) (M : Mem) (h : w_Model_number_j131 this Q v2 v6 v9 s0 M) : E γ k_Model_number 1 131 [some (vr (some (11, this))), none, some (vi v2), none, none, none, some (vi v6), none, none, some (vl v9), none, none] [vi s0] M (Qi Q) := by
  unfold w_Model_number_j131 at h
  refine E_blk (lv' := [some (vr (some (11, this))), none, some (vi v2), none, none, none, some (vi v6), none, none, some (vl v9), none, some (vi s0)]) (st' := [vi s0, vr (some (11, this))]) (M1 := M) (pc' := 136) (tb_Model hγ) [.istore 11, .aload_n 0, .iload 11] (by decide +kernel) rfl rfl trivial ?_
  refine E_if_eq (off := 7) (tgt := 143) (by decide +kernel) (by decide) (fun b7 => ?_) (fun b7 => ?_)
  · rw [if_pos b7] at h
    refine E_blk (lv' := [some (vr (some (11, this))), none, some (vi v2), none, none, none, some (vi v6), none, none, some (vl v9), none, some (vi s0)]) (st' := [vi (1 : Int32), vr (some (11, this))]) (M1 := M) (pc' := 144) (tb_Model hγ) [.iconst 1] (by decide +kernel) rfl rfl trivial ?_
    refine E_mask [false, false, true, false, false, false, true, false, false, true, false, false] rfl ?_
    exact lk_Model_number_j144 hγ this Q v2 v6 v9 (1 : Int32) M h
  · rw [if_neg b7] at h
    refine E_blk (lv' := [some (vr (some (11, this))), none, some (vi v2), none, none, none, some (vi v6), none, none, some (vl v9), none, some (vi s0)]) (st' := [vi (4 : Int32), vr (some (11, this))]) (M1 := M) (pc' := 140) (tb_Model hγ) [.iconst 4] (by decide +kernel) rfl rfl trivial ?_
    refine E_goto (off := 4) (tgt := 144) (by decide +kernel) (by decide) ?_
    refine E_mask [false, false, true, false, false, false, true, false, false, true, false, false] rfl ?_
    exact lk_Model_number_j144 hγ this Q v2 v6 v9 (4 : Int32) M h
set_option maxRecDepth 4096 in
theorem lk_Model_number_j130 {γ : Gm} (hγ : Gk γ) (this : Nat) (Q : Int32 → Mem → Prop) (v2 : Int32) (v6 : Int32) (v9 : Int64) (M : Mem) (h : w_Model_number_j130 this Q v2 v6 v9 M) : E γ k_Model_number 1 130 [some (vr (some (11, this))), none, some (vi v2), none, none, none, some (vi v6), none, none, some (vl v9), none, none] [] M (Qi Q) := by
  unfold w_Model_number_j130 at h
  refine E_blk (lv' := [some (vr (some (11, this))), none, some (vi v2), none, none, none, some (vi v6), none, none, some (vl v9), none, none]) (st' := [vi (0 : Int32)]) (M1 := M) (pc' := 131) (tb_Model hγ) [.iconst 0] (by decide +kernel) rfl rfl trivial ?_
  refine E_mask [true, false, true, false, false, false, true, false, false, true, false, false] rfl ?_
  exact lk_Model_number_j131 hγ this Q v2 v6 v9 (0 : Int32) M h
set_option maxRecDepth 4096 in
theorem lk_Model_number_j104 {γ : Gm} (hγ : Gk γ) (this : Nat) (Q : Int32 → Mem → Prop) (v2 : Int32) (v5 : Int32) (v6 : Int32) (s0 : Int64) (M : Mem) (h : w_Model_number_j104 this Q v2 v5 v6 s0 M) : E γ k_Model_number 1 104 [some (vr (some (11, this))), none, some (vi v2), none, none, some (vi v5), some (vi v6), none, none, none, none, none] [vl s0] M (Qi Q) := by
  unfold w_Model_number_j104 at h
  refine E_blk (lv' := [some (vr (some (11, this))), none, some (vi v2), none, none, some (vi v5), some (vi v6), none, none, some (vl s0), none, none]) (st' := [vi (10 : Int32), vi (v6 - v5)]) (M1 := M) (pc' := 113) (tb_Model hγ) [.lstore 9, .iload 6, .iload 5, .isub, .bipush 10] (by decide +kernel) rfl rfl trivial ?_
  refine E_icmp_gt (off := 17) (tgt := 130) (by decide +kernel) (by decide) (fun b6 => ?_) (fun b6 => ?_)
  · rw [if_pos b6] at h
    refine E_mask [true, false, true, false, false, false, true, false, false, true, false, false] rfl ?_
    exact lk_Model_number_j130 hγ this Q v2 v6 s0 M h
  · rw [if_neg b6] at h
    refine E_blk (lv' := [some (vr (some (11, this))), none, some (vi v2), none, none, some (vi v5), some (vi v6), none, none, some (vl s0), none, none]) (st' := [vi (lg_cmp s0 s0.toInt32.toInt64)]) (M1 := M) (pc' := 123) (tb_Model hγ) [.lload 9, .lload 9, .l2i, .i2l, .lcmp] (by decide +kernel) rfl rfl trivial ?_
    refine E_if_ne (off := 7) (tgt := 130) (by decide +kernel) (by decide) (fun b9 => ?_) (fun b9 => ?_)
    · rw [if_pos b9] at h
      refine E_blk (lv' := [some (vr (some (11, this))), none, some (vi v2), none, none, some (vi v5), some (vi v6), none, none, some (vl s0), none, none]) (st' := [vi (1 : Int32)]) (M1 := M) (pc' := 127) (tb_Model hγ) [.iconst 1] (by decide +kernel) rfl rfl trivial ?_
      refine E_goto (off := 4) (tgt := 131) (by decide +kernel) (by decide) ?_
      refine E_mask [true, false, true, false, false, false, true, false, false, true, false, false] rfl ?_
      exact lk_Model_number_j131 hγ this Q v2 v6 s0 (1 : Int32) M h
    · rw [if_neg b9] at h
      refine E_mask [true, false, true, false, false, false, true, false, false, true, false, false] rfl ?_
      exact lk_Model_number_j130 hγ this Q v2 v6 s0 M h
set_option maxRecDepth 4096 in
theorem lk_Model_number_j91 {γ : Gm} (hγ : Gk γ) (this : Nat) (Q : Int32 → Mem → Prop) (v2 : Int32) (v4 : Int32) (v5 : Int32) (v6 : Int32) (v7 : Int64) (M : Mem) (h : w_Model_number_j91 this Q v2 v4 v5 v6 v7 M) : E γ k_Model_number 1 91 [some (vr (some (11, this))), none, some (vi v2), none, some (vi v4), some (vi v5), some (vi v6), some (vl v7), none, none, none, none] [] M (Qi Q) := by
  unfold w_Model_number_j91 at h
  refine E_blk (lv' := [some (vr (some (11, this))), none, some (vi v2), none, some (vi v4), some (vi v5), some (vi v6), some (vl v7), none, none, none, none]) (st' := [vi v4]) (M1 := M) (pc' := 93) (tb_Model hγ) [.iload 4] (by decide +kernel) rfl rfl trivial ?_
  refine E_if_eq (off := 9) (tgt := 102) (by decide +kernel) (by decide) (fun b5 => ?_) (fun b5 => ?_)
  · rw [if_pos b5] at h
    refine E_blk (lv' := [some (vr (some (11, this))), none, some (vi v2), none, some (vi v4), some (vi v5), some (vi v6), some (vl v7), none, none, none, none]) (st' := [vl v7]) (M1 := M) (pc' := 104) (tb_Model hγ) [.lload 7] (by decide +kernel) rfl rfl trivial ?_
    refine E_mask [true, false, true, false, false, true, true, false, false, false, false, false] rfl ?_
    exact lk_Model_number_j104 hγ this Q v2 v5 v6 v7 M h
  · rw [if_neg b5] at h
    refine E_blk (lv' := [some (vr (some (11, this))), none, some (vi v2), none, some (vi v4), some (vi v5), some (vi v6), some (vl v7), none, none, none, none]) (st' := [vl (-v7)]) (M1 := M) (pc' := 99) (tb_Model hγ) [.lload 7, .lneg] (by decide +kernel) rfl rfl trivial ?_
    refine E_goto (off := 5) (tgt := 104) (by decide +kernel) (by decide) ?_
    refine E_mask [true, false, true, false, false, true, true, false, false, false, false, false] rfl ?_
    exact lk_Model_number_j104 hγ this Q v2 v5 v6 (-v7) M h
set_option maxRecDepth 4096 in
theorem lk_Model_number_j83 {γ : Gm} (hγ : Gk γ) (this : Nat) (Q : Int32 → Mem → Prop) (k36 : Nat → Int32 → Int32 → Int32 → Int32 → Int32 → Int64 → Mem → Prop) (hk36 : ∀ (v1 : Nat) (v2 : Int32) (v3 : Int32) (v4 : Int32) (v5 : Int32) (v6 : Int32) (v7 : Int64) (M : Mem), k36 v1 v2 v3 v4 v5 v6 v7 M → E γ k_Model_number 1 36 [some (vr (some (11, this))), some (vr (some (402, v1))), some (vi v2), some (vi v3), some (vi v4), some (vi v5), some (vi v6), some (vl v7), none, none, none, none] [] M (Qi Q)) (v1 : Nat) (v2 : Int32) (v3 : Int32) (v4 : Int32) (v5 : Int32) (v6 : Int32) (s0 : Int64) (M : Mem) (h : w_Model_number_j83 this Q k36 v1 v2 v3 v4 v5 v6 s0 M) : E γ k_Model_number 1 83 [some (vr (some (11, this))), some (vr (some (402, v1))), some (vi v2), some (vi v3), some (vi v4), some (vi v5), some (vi v6), none, none, none, none, none] [vl s0] M (Qi Q) := by
  unfold w_Model_number_j83 at h
  refine E_blk (lv' := [some (vr (some (11, this))), some (vr (some (402, v1))), some (vi v2), some (vi v3), some (vi v4), some (vi v5), some (vi (v6 + (1 : Int32))), some (vl s0), none, none, none, none]) (st' := []) (M1 := M) (pc' := 88) (tb_Model hγ) [.lstore 7, .iinc 6 1] (by decide +kernel) rfl rfl trivial ?_
  refine E_goto (off := -52) (tgt := 36) (by decide +kernel) (by decide) ?_
  refine E_mask [true, true, true, true, true, true, true, true, false, false, false, false] rfl ?_
  exact hk36 v1 v2 v3 v4 v5 (v6 + (1 : Int32)) s0 M h
set_option maxRecDepth 4096 in
theorem lk_Model_number_L36 {γ : Gm} (hγ : Gk γ) (this : Nat) (Q : Int32 → Mem → Prop) : ∀ (n : Nat) (v1 : Nat) (v2 : Int32) (v3 : Int32) (v4 : Int32) (v5 : Int32) (v6 : Int32) (v7 : Int64) (M : Mem), w_Model_number_L36 this Q n v1 v2 v3 v4 v5 v6 v7 M → E γ k_Model_number 1 36 [some (vr (some (11, this))), some (vr (some (402, v1))), some (vi v2), some (vi v3), some (vi v4), some (vi v5), some (vi v6), some (vl v7), none, none, none, none] [] M (Qi Q) := by
  intro n
  induction n with
  | zero => intro v1 v2 v3 v4 v5 v6 v7 M h; exact h.elim
  | succ n ih =>
    intro v1 v2 v3 v4 v5 v6 v7 M h
    unfold w_Model_number_L36 at h
    refine E_blk (lv' := [some (vr (some (11, this))), some (vr (some (402, v1))), some (vi v2), some (vi v3), some (vi v4), some (vi v5), some (vi v6), some (vl v7), none, none, none, none]) (st' := [vi v3, vi v6]) (M1 := M) (pc' := 39) (tb_Model hγ) [.iload 6, .iload_n 3] (by decide +kernel) rfl rfl trivial ?_
    refine E_icmp_ge (off := 52) (tgt := 91) (by decide +kernel) (by decide) (fun b4 => ?_) (fun b4 => ?_)
    · rw [if_pos b4] at h
      refine E_mask [true, false, true, false, true, true, true, true, false, false, false, false] rfl ?_
      exact lk_Model_number_j91 hγ this Q v2 v4 v5 v6 v7 M h
    · rw [if_neg b4] at h
      obtain ⟨c10, h⟩ := h
      refine E_blk (lv' := [some (vr (some (11, this))), some (vr (some (402, v1))), some (vi v2), some (vi v3), some (vi v4), some (vi v5), some (vi v6), some (vl v7), none, none, none, none]) (st' := [vi (mI M 402 v1 v6.toNatClampNeg)]) (M1 := M) (pc' := 46) (tb_Model hγ) [.aload_n 1, .iload 6, .baload] (by decide +kernel) rfl rfl ⟨c10, trivial⟩ ?_
      refine E_callS (κ' := k_Model_isDigit) (As := [vi (mI M 402 v1 v6.toNatClampNeg)]) (st := []) ms_Model_isDigit (Or.inl (tbk_mem (j := 14) (k := 209) rfl)) rfl (by decide +kernel) (Nat.le_of_ble_eq_true rfl) (Nat.le_of_ble_eq_true rfl) rfl (by decide) (lk_Model_isDigit hγ (mI M 402 v1 v6.toNatClampNeg) _ M h) (fun _ _ => Qi_r) (fun v M11 hp => Qi_k (R := fun st => E γ k_Model_number 1 49 [some (vr (some (11, this))), some (vr (some (402, v1))), some (vi v2), some (vi v3), some (vi v4), some (vi v5), some (vi v6), some (vl v7), none, none, none, none] st M11 (Qi Q)) hp (fun r12 h => ?_))
      refine E_if_eq (off := 42) (tgt := 91) (by decide +kernel) (by decide) (fun b13 => ?_) (fun b13 => ?_)
      · rw [if_pos b13] at h
        refine E_mask [true, false, true, false, true, true, true, true, false, false, false, false] rfl ?_
        exact lk_Model_number_j91 hγ this Q v2 v4 v5 v6 v7 M11 h
      · rw [if_neg b13] at h
        refine E_blk (lv' := [some (vr (some (11, this))), some (vr (some (402, v1))), some (vi v2), some (vi v3), some (vi v4), some (vi v5), some (vi v6), some (vl v7), none, none, none, none]) (st' := [vi (10 : Int32), vi (v6 - v5)]) (M1 := M11) (pc' := 59) (tb_Model hγ) [.iload 6, .iload 5, .isub, .bipush 10] (by decide +kernel) rfl rfl trivial ?_
        refine E_icmp_ge (off := 22) (tgt := 81) (by decide +kernel) (by decide) (fun b14 => ?_) (fun b14 => ?_)
        · rw [if_pos b14] at h
          refine E_blk (lv' := [some (vr (some (11, this))), some (vr (some (402, v1))), some (vi v2), some (vi v3), some (vi v4), some (vi v5), some (vi v6), some (vl v7), none, none, none, none]) (st' := [vl v7]) (M1 := M11) (pc' := 83) (tb_Model hγ) [.lload 7] (by decide +kernel) rfl rfl trivial ?_
          refine E_mask [true, true, true, true, true, true, true, false, false, false, false, false] rfl ?_
          exact lk_Model_number_j83 hγ this Q (w_Model_number_L36 this Q n) ih v1 v2 v3 v4 v5 v6 v7 M11 h
        · rw [if_neg b14] at h
          obtain ⟨c15, h⟩ := h
          refine E_blk (lv' := [some (vr (some (11, this))), some (vr (some (402, v1))), some (vi v2), some (vi v3), some (vi v4), some (vi v5), some (vi v6), some (vl v7), none, none, none, none]) (st' := [vl ((((10 : Int64) * v7) + (mI M11 402 v1 v6.toNatClampNeg).toInt64) - (48 : Int64))]) (M1 := M11) (pc' := 78) (tb_Model hγ) [.ldc2_w 130, .lload 7, .lmul, .aload_n 1, .iload 6, .baload, .i2l, .ladd, .ldc2_w 132, .lsub] (by decide +kernel) rfl rfl ⟨c15, trivial⟩ ?_
          refine E_goto (off := 5) (tgt := 83) (by decide +kernel) (by decide) ?_
          refine E_mask [true, true, true, true, true, true, true, false, false, false, false, false] rfl ?_
          exact lk_Model_number_j83 hγ this Q (w_Model_number_L36 this Q n) ih v1 v2 v3 v4 v5 v6 ((((10 : Int64) * v7) + (mI M11 402 v1 v6.toNatClampNeg).toInt64) - (48 : Int64)) M11 h
set_option maxRecDepth 4096 in
theorem lk_Model_number_j27 {γ : Gm} (hγ : Gk γ) (this : Nat) (Q : Int32 → Mem → Prop) (v1 : Nat) (v2 : Int32) (v3 : Int32) (v4 : Int32) (s0 : Int32) (M : Mem) (h : w_Model_number_j27 this Q v1 v2 v3 v4 s0 M) : E γ k_Model_number 1 27 [some (vr (some (11, this))), some (vr (some (402, v1))), some (vi v2), some (vi v3), some (vi v4), none, none, none, none, none, none, none] [vi s0] M (Qi Q) := by
  unfold w_Model_number_j27 at h
  refine E_blk (lv' := [some (vr (some (11, this))), some (vr (some (402, v1))), some (vi v2), some (vi v3), some (vi v4), some (vi s0), some (vi s0), some (vl (0 : Int64)), none, none, none, none]) (st' := []) (M1 := M) (pc' := 36) (tb_Model hγ) [.istore 5, .iload 5, .istore 6, .lconst 0, .lstore 7] (by decide +kernel) rfl rfl trivial ?_
  obtain ⟨n16, h⟩ := h
  refine E_mask [true, true, true, true, true, true, true, true, false, false, false, false] rfl ?_
  exact lk_Model_number_L36 hγ this Q n16 v1 v2 v3 v4 s0 s0 (0 : Int64) M h
set_option maxRecDepth 4096 in
theorem lk_Model_number_j13 {γ : Gm} (hγ : Gk γ) (this : Nat) (Q : Int32 → Mem → Prop) (v1 : Nat) (v2 : Int32) (v3 : Int32) (s0 : Int32) (M : Mem) (h : w_Model_number_j13 this Q v1 v2 v3 s0 M) : E γ k_Model_number 1 13 [some (vr (some (11, this))), some (vr (some (402, v1))), some (vi v2), some (vi v3), none, none, none, none, none, none, none, none] [vi s0] M (Qi Q) := by
  unfold w_Model_number_j13 at h
  refine E_blk (lv' := [some (vr (some (11, this))), some (vr (some (402, v1))), some (vi v2), some (vi v3), some (vi s0), none, none, none, none, none, none, none]) (st' := [vi s0]) (M1 := M) (pc' := 17) (tb_Model hγ) [.istore 4, .iload 4] (by decide +kernel) rfl rfl trivial ?_
  refine E_if_eq (off := 9) (tgt := 26) (by decide +kernel) (by decide) (fun b3 => ?_) (fun b3 => ?_)
  · rw [if_pos b3] at h
    refine E_blk (lv' := [some (vr (some (11, this))), some (vr (some (402, v1))), some (vi v2), some (vi v3), some (vi s0), none, none, none, none, none, none, none]) (st' := [vi v2]) (M1 := M) (pc' := 27) (tb_Model hγ) [.iload_n 2] (by decide +kernel) rfl rfl trivial ?_
    refine E_mask [true, true, true, true, true, false, false, false, false, false, false, false] rfl ?_
    exact lk_Model_number_j27 hγ this Q v1 v2 v3 s0 v2 M h
  · rw [if_neg b3] at h
    refine E_blk (lv' := [some (vr (some (11, this))), some (vr (some (402, v1))), some (vi v2), some (vi v3), some (vi s0), none, none, none, none, none, none, none]) (st' := [vi (v2 + (1 : Int32))]) (M1 := M) (pc' := 23) (tb_Model hγ) [.iload_n 2, .iconst 1, .iadd] (by decide +kernel) rfl rfl trivial ?_
    refine E_goto (off := 4) (tgt := 27) (by decide +kernel) (by decide) ?_
    refine E_mask [true, true, true, true, true, false, false, false, false, false, false, false] rfl ?_
    exact lk_Model_number_j27 hγ this Q v1 v2 v3 s0 (v2 + (1 : Int32)) M h
set_option maxRecDepth 4096 in
theorem lk_Model_number {γ : Gm} (hγ : Gk γ) (this : Nat) (a1 : Nat) (a2 : Int32) (a3 : Int32) (Q : Int32 → Mem → Prop) (M : Mem) (h : w_Model_number this a1 a2 a3 Q M) : E γ k_Model_number 1 0 [some (vr (some (11, this))), some (vr (some (402, a1))), some (vi a2), some (vi a3), none, none, none, none, none, none, none, none] [] M (Qi Q) := by
  unfold w_Model_number at h
  obtain ⟨c1, h⟩ := h
  refine E_blk (lv' := [some (vr (some (11, this))), some (vr (some (402, a1))), some (vi a2), some (vi a3), none, none, none, none, none, none, none, none]) (st' := [vi (45 : Int32), vi (mI M 402 a1 a2.toNatClampNeg)]) (M1 := M) (pc' := 5) (tb_Model hγ) [.aload_n 1, .iload_n 2, .baload, .bipush 45] (by decide +kernel) rfl rfl ⟨c1, trivial⟩ ?_
  refine E_icmp_ne (off := 7) (tgt := 12) (by decide +kernel) (by decide) (fun b2 => ?_) (fun b2 => ?_)
  · rw [if_pos b2] at h
    refine E_blk (lv' := [some (vr (some (11, this))), some (vr (some (402, a1))), some (vi a2), some (vi a3), none, none, none, none, none, none, none, none]) (st' := [vi (1 : Int32)]) (M1 := M) (pc' := 9) (tb_Model hγ) [.iconst 1] (by decide +kernel) rfl rfl trivial ?_
    refine E_goto (off := 4) (tgt := 13) (by decide +kernel) (by decide) ?_
    refine E_mask [true, true, true, true, false, false, false, false, false, false, false, false] rfl ?_
    exact lk_Model_number_j13 hγ this Q a1 a2 a3 (1 : Int32) M h
  · rw [if_neg b2] at h
    refine E_blk (lv' := [some (vr (some (11, this))), some (vr (some (402, a1))), some (vi a2), some (vi a3), none, none, none, none, none, none, none, none]) (st' := [vi (0 : Int32)]) (M1 := M) (pc' := 13) (tb_Model hγ) [.iconst 0] (by decide +kernel) rfl rfl trivial ?_
    refine E_mask [true, true, true, true, false, false, false, false, false, false, false, false] rfl ?_
    exact lk_Model_number_j13 hγ this Q a1 a2 a3 (0 : Int32) M h
def w_Model_isTag (this : Nat) (a1 : Int32) (a2 : Nat) (a3 : Int32) (a4 : Int32) (Q : Int32 → Mem → Prop) (M : Mem) : Prop :=
  ∃ i1, (mR M 11 this 1) = some (401, i1) ∧ vp_in a1 (mL M 401 i1) ∧ if a4 < (a3 + (mI M 401 i1 a1.toNatClampNeg)) then (Q (0 : Int32) M) else (∃ i4, (mR M 11 this 1) = some (401, i4) ∧ vp_in a1 (mL M 401 i4) ∧ w_Model_isName this a1 a2 a3 (mI M 401 i4 a1.toNatClampNeg) (fun r7 M6 => if r7 = 0 then (Q (0 : Int32) M6) else (Q (1 : Int32) M6)) M)
set_option maxRecDepth 4096 in
theorem lk_Model_isTag {γ : Gm} (hγ : Gk γ) (this : Nat) (a1 : Int32) (a2 : Nat) (a3 : Int32) (a4 : Int32) (Q : Int32 → Mem → Prop) (M : Mem) (h : w_Model_isTag this a1 a2 a3 a4 Q M) : E γ k_Model_isTag 1 0 [some (vr (some (11, this))), some (vi a1), some (vr (some (402, a2))), some (vi a3), some (vi a4)] [] M (Qi Q) := by
  unfold w_Model_isTag at h
  refine E_blk (lv' := [some (vr (some (11, this))), some (vi a1), some (vr (some (402, a2))), some (vi a3), some (vi a4)]) (st' := [vr (mR M 11 this 1), vi a3]) (M1 := M) (pc' := 5) (tb_Model hγ) [.iload_n 3, .aload_n 0, .getfield 40] (by decide +kernel) rfl rfl trivial ?_
  obtain ⟨i1, ei1, h⟩ := h
  rw [ei1]
  obtain ⟨c2, h⟩ := h
  refine E_blk (lv' := [some (vr (some (11, this))), some (vi a1), some (vr (some (402, a2))), some (vi a3), some (vi a4)]) (st' := [vi a4, vi (a3 + (mI M 401 i1 a1.toNatClampNeg))]) (M1 := M) (pc' := 10) (tb_Model hγ) [.iload_n 1, .baload, .iadd, .iload 4] (by decide +kernel) rfl rfl ⟨c2, trivial⟩ ?_
  refine E_icmp_gt (off := 23) (tgt := 33) (by decide +kernel) (by decide) (fun b3 => ?_) (fun b3 => ?_)
  · rw [if_pos b3] at h
    refine E_blk (lv' := [some (vr (some (11, this))), some (vi a1), some (vr (some (402, a2))), some (vi a3), some (vi a4)]) (st' := [vi (0 : Int32)]) (M1 := M) (pc' := 34) (tb_Model hγ) [.iconst 0] (by decide +kernel) rfl rfl trivial ?_
    exact E_zret rfl (Or.inl rfl) (by decide +kernel) h
  · rw [if_neg b3] at h
    refine E_blk (lv' := [some (vr (some (11, this))), some (vi a1), some (vr (some (402, a2))), some (vi a3), some (vi a4)]) (st' := [vr (mR M 11 this 1), vi a3, vr (some (402, a2)), vi a1, vr (some (11, this))]) (M1 := M) (pc' := 21) (tb_Model hγ) [.aload_n 0, .iload_n 1, .aload_n 2, .iload_n 3, .aload_n 0, .getfield 40] (by decide +kernel) rfl rfl trivial ?_
    obtain ⟨i4, ei4, h⟩ := h
    rw [ei4]
    obtain ⟨c5, h⟩ := h
    refine E_blk (lv' := [some (vr (some (11, this))), some (vi a1), some (vr (some (402, a2))), some (vi a3), some (vi a4)]) (st' := [vi (mI M 401 i4 a1.toNatClampNeg), vi a3, vr (some (402, a2)), vi a1, vr (some (11, this))]) (M1 := M) (pc' := 23) (tb_Model hγ) [.iload_n 1, .baload] (by decide +kernel) rfl rfl ⟨c5, trivial⟩ ?_
    refine E_callV (κ' := k_Model_isName) (As := [vi a1, vr (some (402, a2)), vi a3, vi (mI M 401 i4 a1.toNatClampNeg)]) (st := []) mv_Model_isName (Or.inl (tbk_mem (j := 11) (k := 57) rfl)) rfl (by decide +kernel) (Nat.le_of_ble_eq_true rfl) (Nat.le_of_ble_eq_true rfl) rfl (by decide) (lk_Model_isName hγ this a1 a2 a3 (mI M 401 i4 a1.toNatClampNeg) _ M h) (fun _ _ => Qi_r) (fun v M6 hp => Qi_k (R := fun st => E γ k_Model_isTag 1 26 [some (vr (some (11, this))), some (vi a1), some (vr (some (402, a2))), some (vi a3), some (vi a4)] st M6 (Qi Q)) hp (fun r7 h => ?_))
    refine E_if_eq (off := 7) (tgt := 33) (by decide +kernel) (by decide) (fun b8 => ?_) (fun b8 => ?_)
    · rw [if_pos b8] at h
      refine E_blk (lv' := [some (vr (some (11, this))), some (vi a1), some (vr (some (402, a2))), some (vi a3), some (vi a4)]) (st' := [vi (0 : Int32)]) (M1 := M6) (pc' := 34) (tb_Model hγ) [.iconst 0] (by decide +kernel) rfl rfl trivial ?_
      exact E_zret rfl (Or.inl rfl) (by decide +kernel) h
    · rw [if_neg b8] at h
      refine E_blk (lv' := [some (vr (some (11, this))), some (vi a1), some (vr (some (402, a2))), some (vi a3), some (vi a4)]) (st' := [vi (1 : Int32)]) (M1 := M6) (pc' := 30) (tb_Model hγ) [.iconst 1] (by decide +kernel) rfl rfl trivial ?_
      refine E_goto (off := 4) (tgt := 34) (by decide +kernel) (by decide) ?_
      exact E_zret rfl (Or.inr rfl) (by decide +kernel) h
def w_Model_cutLine_j395 (this : Nat) (Q : Int32 → Mem → Prop) (v3 : Int32) (s0 : Int32) (M : Mem) : Prop :=
  w_Model_addWord this (0 : Int32) (0 : Int32) v3 (fun M3 => (s0 = 0 ∨ s0 = 1) ∧ Q s0 M3) M
def w_Model_cutLine_j383 (this : Nat) (Q : Int32 → Mem → Prop) (v3 : Int32) (M : Mem) : Prop :=
  if (mI M 11 this 42) ≤ 0 then (w_Model_cutLine_j395 this Q v3 (0 : Int32) M) else (w_Model_cutLine_j395 this Q v3 (1 : Int32) M)
def w_Model_cutLine_j376 (this : Nat) (Q : Int32 → Mem → Prop) (k16 : Nat → Int32 → Int32 → Int32 → Mem → Prop) (v1 : Nat) (v3 : Int32) (v5 : Int32) (v7 : Int32) (M : Mem) : Prop :=
  k16 v1 v3 v7 v5 M
def w_Model_cutLine_j260 (this : Nat) (Q : Int32 → Mem → Prop) (k16 : Nat → Int32 → Int32 → Int32 → Mem → Prop) (v1 : Nat) (v3 : Int32) (v4 : Int32) (v5 : Int32) (v6 : Int32) (v7 : Int32) (M : Mem) : Prop :=
  w_Model_addWord this v6 (0 : Int32) v4 (fun M17 => w_Model_cutLine_j376 this Q k16 v1 v3 v5 v7 M17) M
def w_Model_cutLine_j358 (this : Nat) (Q : Int32 → Mem → Prop) (k16 : Nat → Int32 → Int32 → Int32 → Mem → Prop) (v1 : Nat) (v3 : Int32) (v4 : Int32) (v5 : Int32) (v6 : Int32) (v7 : Int32) (M : Mem) : Prop :=
  if v6 = (32 : Int32) then (w_Model_cutLine_j376 this Q k16 v1 v3 v5 v7 M) else (w_Model_addWord this (1 : Int32) (0 : Int32) v4 (fun M33 => w_Model_cutLine_j376 this Q k16 v1 v3 (0 : Int32) v7 M33) M)
def w_Model_cutLine_j315 (this : Nat) (Q : Int32 → Mem → Prop) (k16 : Nat → Int32 → Int32 → Int32 → Mem → Prop) (v1 : Nat) (v3 : Int32) (v4 : Int32) (v5 : Int32) (v6 : Int32) (v7 : Int32) (M : Mem) : Prop :=
  if v6 = (60 : Int32) then (w_Model_isTag this (mI M 11 this 7) v1 v4 v3 (fun r30 M29 => if r30 = 0 then (w_Model_cutLine_j358 this Q k16 v1 v3 v4 v5 v6 v7 M29) else (w_Model_addWord this (3 : Int32) (mI M29 11 this 7) v4 (fun M34 => w_Model_cutLine_j376 this Q k16 v1 v3 v5 (v4 + (7 : Int32)) M34) M29)) M) else (w_Model_cutLine_j358 this Q k16 v1 v3 v4 v5 v6 v7 M)
def w_Model_cutLine_j211 (this : Nat) (Q : Int32 → Mem → Prop) (k16 : Nat → Int32 → Int32 → Int32 → Mem → Prop) (v1 : Nat) (v3 : Int32) (v4 : Int32) (v5 : Int32) (v6 : Int32) (v7 : Int32) (M : Mem) : Prop :=
  if v6 = (58 : Int32) then (w_Model_cutLine_j260 this Q k16 v1 v3 v4 v5 v6 v7 M) else (if v6 = (44 : Int32) then (w_Model_cutLine_j260 this Q k16 v1 v3 v4 v5 v6 v7 M) else (if v6 = (59 : Int32) then (w_Model_cutLine_j260 this Q k16 v1 v3 v4 v5 v6 v7 M) else (if v6 = (40 : Int32) then (w_Model_cutLine_j260 this Q k16 v1 v3 v4 v5 v6 v7 M) else (if v6 = (41 : Int32) then (w_Model_cutLine_j260 this Q k16 v1 v3 v4 v5 v6 v7 M) else (if v6 = (46 : Int32) then (w_Model_cutLine_j260 this Q k16 v1 v3 v4 v5 v6 v7 M) else (if v6 = (61 : Int32) then (w_Model_cutLine_j260 this Q k16 v1 v3 v4 v5 v6 v7 M) else (if v6 = (60 : Int32) then (w_Model_isTag this (mI M 11 this 6) v1 v4 v3 (fun r26 M25 => if r26 = 0 then (w_Model_cutLine_j315 this Q k16 v1 v3 v4 v5 v6 v7 M25) else (w_Model_addWord this (3 : Int32) (mI M25 11 this 6) v4 (fun M35 => w_Model_cutLine_j376 this Q k16 v1 v3 v5 (v4 + (6 : Int32)) M35) M25)) M) else (w_Model_cutLine_j315 this Q k16 v1 v3 v4 v5 v6 v7 M))))))))
def w_Model_cutLine_j206 (this : Nat) (Q : Int32 → Mem → Prop) (k16 : Nat → Int32 → Int32 → Int32 → Mem → Prop) (v1 : Nat) (v3 : Int32) (v7 : Int32) (s0 : Int32) (M : Mem) : Prop :=
  w_Model_cutLine_j376 this Q k16 v1 v3 s0 v7 M
def w_Model_cutLine_j176 (this : Nat) (Q : Int32 → Mem → Prop) (k16 : Nat → Int32 → Int32 → Int32 → Mem → Prop) (v1 : Nat) (v3 : Int32) (v4 : Int32) (M : Mem) : Prop :=
  w_Model_number this v1 v4 v3 (fun r41 M40 => vp_in ((mI M40 11 this 42) - (1 : Int32)) (mL M40 411 this) ∧ if (mI M40 411 this ((mI M40 11 this 42) - (1 : Int32)).toNatClampNeg) = (1 : Int32) then (w_Model_cutLine_j206 this Q k16 v1 v3 r41 (0 : Int32) M40) else (w_Model_cutLine_j206 this Q k16 v1 v3 r41 (1 : Int32) M40)) M
def w_Model_cutLine_j137 (this : Nat) (Q : Int32 → Mem → Prop) (k16 : Nat → Int32 → Int32 → Int32 → Mem → Prop) (v1 : Nat) (v3 : Int32) (v4 : Int32) (v5 : Int32) (v7 : Int32) (s0 : Int32) (s1 : Int32) (M : Mem) : Prop :=
  w_Model_addWord this s1 s0 v4 (fun M48 => w_Model_cutLine_j376 this Q k16 v1 v3 v5 v7 M48) M
def w_Model_cutLine_j116 (this : Nat) (Q : Int32 → Mem → Prop) (k16 : Nat → Int32 → Int32 → Int32 → Mem → Prop) (v1 : Nat) (v3 : Int32) (v4 : Int32) (v5 : Int32) (v7 : Int32) (s0 : Int32) (M : Mem) : Prop :=
  if v5 = 0 then (w_Model_cutLine_j137 this Q k16 v1 v3 v4 v5 v7 (0 : Int32) s0 M) else (w_Model_nameIn this v1 v4 (v7 - v4) (fun r50 M49 => w_Model_cutLine_j137 this Q k16 v1 v3 v4 v5 v7 r50 s0 M49) M)
def w_Model_cutLine_j103 (this : Nat) (Q : Int32 → Mem → Prop) (k16 : Nat → Int32 → Int32 → Int32 → Mem → Prop) (v1 : Nat) (v3 : Int32) (v4 : Int32) (v7 : Int32) (s0 : Int32) (M : Mem) : Prop :=
  if s0 = 0 then (w_Model_cutLine_j116 this Q k16 v1 v3 v4 s0 v7 (1 : Int32) M) else (w_Model_cutLine_j116 this Q k16 v1 v3 v4 s0 v7 (2 : Int32) M)
def w_Model_cutLine_j88 (this : Nat) (Q : Int32 → Mem → Prop) (k16 : Nat → Int32 → Int32 → Int32 → Mem → Prop) (v1 : Nat) (v3 : Int32) (v4 : Int32) (v7 : Int32) (M : Mem) : Prop :=
  if (12 : Int32) < (v7 - v4) then (w_Model_cutLine_j103 this Q k16 v1 v3 v4 v7 (0 : Int32) M) else (w_Model_cutLine_j103 this Q k16 v1 v3 v4 v7 (1 : Int32) M)
def w_Model_cutLine_j82 (this : Nat) (Q : Int32 → Mem → Prop) (k16 : Nat → Int32 → Int32 → Int32 → Mem → Prop) (k56 : Nat → Int32 → Int32 → Int32 → Mem → Prop) (v1 : Nat) (v3 : Int32) (v4 : Int32) (v7 : Int32) (M : Mem) : Prop :=
  k56 v1 v3 v4 (v7 + (1 : Int32)) M
def w_Model_cutLine_L56 (this : Nat) (Q : Int32 → Mem → Prop) (k16 : Nat → Int32 → Int32 → Int32 → Mem → Prop) : Nat → Nat → Int32 → Int32 → Int32 → Mem → Prop
  | 0, _, _, _, _, _ => False
  | n + 1, v1, v3, v4, v7, M => if v3 ≤ v7 then (w_Model_cutLine_j88 this Q k16 v1 v3 v4 v7 M) else (vp_in v7 (mL M 402 v1) ∧ w_Model_isLetter (mI M 402 v1 v7.toNatClampNeg) (fun r53 M52 => if r53 = 0 then (vp_in v7 (mL M52 402 v1) ∧ w_Model_isDigit (mI M52 402 v1 v7.toNatClampNeg) (fun r57 M56 => if r57 = 0 then (w_Model_cutLine_j88 this Q k16 v1 v3 v4 v7 M56) else (w_Model_cutLine_j82 this Q k16 (w_Model_cutLine_L56 this Q k16 n) v1 v3 v4 v7 M56)) M52) else (w_Model_cutLine_j82 this Q k16 (w_Model_cutLine_L56 this Q k16 n) v1 v3 v4 v7 M52)) M)
def w_Model_cutLine_L16 (this : Nat) (Q : Int32 → Mem → Prop) : Nat → Nat → Int32 → Int32 → Int32 → Mem → Prop
  | 0, _, _, _, _, _ => False
  | n + 1, v1, v3, v4, v5, M => if v5 = 0 then (w_Model_cutLine_j383 this Q v3 M) else (if v3 ≤ v4 then (w_Model_cutLine_j383 this Q v3 M) else (vp_in v4 (mL M 402 v1) ∧ if (mI M 402 v1 v4.toNatClampNeg) = (35 : Int32) then (w_Model_cutLine_j383 this Q v3 M) else (vp_in v4 (mL M 402 v1) ∧ w_Model_isLetter (mI M 402 v1 v4.toNatClampNeg) (fun r9 M8 => if r9 = 0 then (w_Model_isDigit (mI M 402 v1 v4.toNatClampNeg) (fun r12 M11 => if r12 = 0 then (if (mI M 402 v1 v4.toNatClampNeg) = (45 : Int32) then (if v3 ≤ (v4 + (1 : Int32)) then (w_Model_cutLine_j211 this Q (w_Model_cutLine_L16 this Q n) v1 v3 v4 v5 (mI M 402 v1 v4.toNatClampNeg) (v4 + (1 : Int32)) M11) else (vp_in (v4 + (1 : Int32)) (mL M11 402 v1) ∧ w_Model_isDigit (mI M11 402 v1 (v4 + (1 : Int32)).toNatClampNeg) (fun r38 M37 => if r38 = 0 then (w_Model_cutLine_j211 this Q (w_Model_cutLine_L16 this Q n) v1 v3 v4 v5 (mI M 402 v1 v4.toNatClampNeg) (v4 + (1 : Int32)) M37) else (w_Model_cutLine_j176 this Q (w_Model_cutLine_L16 this Q n) v1 v3 v4 M37)) M11)) else (w_Model_cutLine_j211 this Q (w_Model_cutLine_L16 this Q n) v1 v3 v4 v5 (mI M 402 v1 v4.toNatClampNeg) (v4 + (1 : Int32)) M11)) else (w_Model_cutLine_j176 this Q (w_Model_cutLine_L16 this Q n) v1 v3 v4 M11)) M8) else (∃ n59 : Nat, w_Model_cutLine_L56 this Q (w_Model_cutLine_L16 this Q n) n59 v1 v3 v4 (v4 + (1 : Int32)) M8)) M)))
def w_Model_cutLine (this : Nat) (a1 : Nat) (a2 : Int32) (a3 : Int32) (Q : Int32 → Mem → Prop) (M : Mem) : Prop :=
  ∃ n60 : Nat, w_Model_cutLine_L16 this Q n60 a1 a3 a2 (1 : Int32) (sI (sI M 11 this 42 (0 : Int32)) 11 this 43 (0 : Int32))
set_option maxRecDepth 4096 in
theorem lk_Model_cutLine_j395 {γ : Gm} (hγ : Gk γ) (this : Nat) (Q : Int32 → Mem → Prop) (v3 : Int32) (s0 : Int32) (M : Mem) (h : w_Model_cutLine_j395 this Q v3 s0 M) : E γ k_Model_cutLine 3 395 [some (vr (some (11, this))), none, none, some (vi v3), none, none, none, none] [vi s0] M (Qi Q) := by
  unfold w_Model_cutLine_j395 at h
  refine E_blk (lv' := [some (vr (some (11, this))), none, none, some (vi v3), none, none, some (vi s0), none]) (st' := [vi v3, vi (0 : Int32), vi (0 : Int32), vr (some (11, this))]) (M1 := M) (pc' := 401) (tb_Model hγ) [.istore 6, .aload_n 0, .iconst 0, .iconst 0, .iload_n 3] (by decide +kernel) rfl rfl trivial ?_
  refine E_callV (κ' := k_Model_addWord) (As := [vi (0 : Int32), vi (0 : Int32), vi v3]) (st := []) mv_Model_addWord (Or.inl (tbk_mem (j := 14) (k := 212) rfl)) rfl (by decide +kernel) (Nat.le_of_ble_eq_true rfl) (Nat.le_of_ble_eq_true rfl) rfl (by decide) (lk_Model_addWord hγ this (0 : Int32) (0 : Int32) v3 _ M h) (fun _ _ => Qv_r) (fun v M3 hp => Qv_k (R := fun st => E γ k_Model_cutLine 3 404 [some (vr (some (11, this))), none, none, some (vi v3), none, none, some (vi s0), none] st M3 (Qi Q)) hp (fun h => ?_))
  refine E_blk (lv' := [some (vr (some (11, this))), none, none, some (vi v3), none, none, some (vi s0), none]) (st' := [vi s0]) (M1 := M3) (pc' := 406) (tb_Model hγ) [.iload 6] (by decide +kernel) rfl rfl trivial ?_
  exact E_zret rfl h.1 (by decide +kernel) h.2
set_option maxRecDepth 4096 in
theorem lk_Model_cutLine_j383 {γ : Gm} (hγ : Gk γ) (this : Nat) (Q : Int32 → Mem → Prop) (v3 : Int32) (M : Mem) (h : w_Model_cutLine_j383 this Q v3 M) : E γ k_Model_cutLine 3 383 [some (vr (some (11, this))), none, none, some (vi v3), none, none, none, none] [] M (Qi Q) := by
  unfold w_Model_cutLine_j383 at h
  refine E_blk (lv' := [some (vr (some (11, this))), none, none, some (vi v3), none, none, none, none]) (st' := [vi (mI M 11 this 42)]) (M1 := M) (pc' := 387) (tb_Model hγ) [.aload_n 0, .getfield 95] (by decide +kernel) rfl rfl trivial ?_
  refine E_if_le (off := 7) (tgt := 394) (by decide +kernel) (by decide) (fun b2 => ?_) (fun b2 => ?_)
  · rw [if_pos b2] at h
    refine E_blk (lv' := [some (vr (some (11, this))), none, none, some (vi v3), none, none, none, none]) (st' := [vi (0 : Int32)]) (M1 := M) (pc' := 395) (tb_Model hγ) [.iconst 0] (by decide +kernel) rfl rfl trivial ?_
    refine E_mask [true, false, false, true, false, false, false, false] rfl ?_
    exact lk_Model_cutLine_j395 hγ this Q v3 (0 : Int32) M h
  · rw [if_neg b2] at h
    refine E_blk (lv' := [some (vr (some (11, this))), none, none, some (vi v3), none, none, none, none]) (st' := [vi (1 : Int32)]) (M1 := M) (pc' := 391) (tb_Model hγ) [.iconst 1] (by decide +kernel) rfl rfl trivial ?_
    refine E_goto (off := 4) (tgt := 395) (by decide +kernel) (by decide) ?_
    refine E_mask [true, false, false, true, false, false, false, false] rfl ?_
    exact lk_Model_cutLine_j395 hγ this Q v3 (1 : Int32) M h
set_option maxRecDepth 4096 in
theorem lk_Model_cutLine_j376 {γ : Gm} (hγ : Gk γ) (this : Nat) (Q : Int32 → Mem → Prop) (k16 : Nat → Int32 → Int32 → Int32 → Mem → Prop) (hk16 : ∀ (v1 : Nat) (v3 : Int32) (v4 : Int32) (v5 : Int32) (M : Mem), k16 v1 v3 v4 v5 M → E γ k_Model_cutLine 3 16 [some (vr (some (11, this))), some (vr (some (402, v1))), none, some (vi v3), some (vi v4), some (vi v5), none, none] [] M (Qi Q)) (v1 : Nat) (v3 : Int32) (v5 : Int32) (v7 : Int32) (M : Mem) (h : w_Model_cutLine_j376 this Q k16 v1 v3 v5 v7 M) : E γ k_Model_cutLine 3 376 [some (vr (some (11, this))), some (vr (some (402, v1))), none, some (vi v3), none, some (vi v5), none, some (vi v7)] [] M (Qi Q) := by
  unfold w_Model_cutLine_j376 at h
  refine E_blk (lv' := [some (vr (some (11, this))), some (vr (some (402, v1))), none, some (vi v3), some (vi v7), some (vi v5), none, some (vi v7)]) (st' := []) (M1 := M) (pc' := 380) (tb_Model hγ) [.iload 7, .istore 4] (by decide +kernel) rfl rfl trivial ?_
  refine E_goto (off := -364) (tgt := 16) (by decide +kernel) (by decide) ?_
  refine E_mask [true, true, false, true, true, true, false, false] rfl ?_
  exact hk16 v1 v3 v7 v5 M h
set_option maxRecDepth 4096 in
theorem lk_Model_cutLine_j260 {γ : Gm} (hγ : Gk γ) (this : Nat) (Q : Int32 → Mem → Prop) (k16 : Nat → Int32 → Int32 → Int32 → Mem → Prop) (hk16 : ∀ (v1 : Nat) (v3 : Int32) (v4 : Int32) (v5 : Int32) (M : Mem), k16 v1 v3 v4 v5 M → E γ k_Model_cutLine 3 16 [some (vr (some (11, this))), some (vr (some (402, v1))), none, some (vi v3), some (vi v4), some (vi v5), none, none] [] M (Qi Q)) (v1 : Nat) (v3 : Int32) (v4 : Int32) (v5 : Int32) (v6 : Int32) (v7 : Int32) (M : Mem) (h : w_Model_cutLine_j260 this Q k16 v1 v3 v4 v5 v6 v7 M) : E γ k_Model_cutLine 3 260 [some (vr (some (11, this))), some (vr (some (402, v1))), none, some (vi v3), some (vi v4), some (vi v5), some (vi v6), some (vi v7)] [] M (Qi Q) := by
  unfold w_Model_cutLine_j260 at h
  refine E_blk (lv' := [some (vr (some (11, this))), some (vr (some (402, v1))), none, some (vi v3), some (vi v4), some (vi v5), some (vi v6), some (vi v7)]) (st' := [vi v4, vi (0 : Int32), vi v6, vr (some (11, this))]) (M1 := M) (pc' := 266) (tb_Model hγ) [.aload_n 0, .iload 6, .iconst 0, .iload 4] (by decide +kernel) rfl rfl trivial ?_
  refine E_callV (κ' := k_Model_addWord) (As := [vi v6, vi (0 : Int32), vi v4]) (st := []) mv_Model_addWord (Or.inl (tbk_mem (j := 14) (k := 212) rfl)) rfl (by decide +kernel) (Nat.le_of_ble_eq_true rfl) (Nat.le_of_ble_eq_true rfl) rfl (by decide) (lk_Model_addWord hγ this v6 (0 : Int32) v4 _ M h) (fun _ _ => Qv_r) (fun v M17 hp => Qv_k (R := fun st => E γ k_Model_cutLine 3 269 [some (vr (some (11, this))), some (vr (some (402, v1))), none, some (vi v3), some (vi v4), some (vi v5), some (vi v6), some (vi v7)] st M17 (Qi Q)) hp (fun h => ?_))
  refine E_goto (off := 107) (tgt := 376) (by decide +kernel) (by decide) ?_
  refine E_mask [true, true, false, true, false, true, false, true] rfl ?_
  exact lk_Model_cutLine_j376 hγ this Q k16 hk16 v1 v3 v5 v7 M17 h
set_option maxRecDepth 4096 in
theorem lk_Model_cutLine_j358 {γ : Gm} (hγ : Gk γ) (this : Nat) (Q : Int32 → Mem → Prop) (k16 : Nat → Int32 → Int32 → Int32 → Mem → Prop) (hk16 : ∀ (v1 : Nat) (v3 : Int32) (v4 : Int32) (v5 : Int32) (M : Mem), k16 v1 v3 v4 v5 M → E γ k_Model_cutLine 3 16 [some (vr (some (11, this))), some (vr (some (402, v1))), none, some (vi v3), some (vi v4), some (vi v5), none, none] [] M (Qi Q)) (v1 : Nat) (v3 : Int32) (v4 : Int32) (v5 : Int32) (v6 : Int32) (v7 : Int32) (M : Mem) (h : w_Model_cutLine_j358 this Q k16 v1 v3 v4 v5 v6 v7 M) : E γ k_Model_cutLine 3 358 [some (vr (some (11, this))), some (vr (some (402, v1))), none, some (vi v3), some (vi v4), some (vi v5), some (vi v6), some (vi v7)] [] M (Qi Q) := by
  unfold w_Model_cutLine_j358 at h
  refine E_blk (lv' := [some (vr (some (11, this))), some (vr (some (402, v1))), none, some (vi v3), some (vi v4), some (vi v5), some (vi v6), some (vi v7)]) (st' := [vi (32 : Int32), vi v6]) (M1 := M) (pc' := 362) (tb_Model hγ) [.iload 6, .bipush 32] (by decide +kernel) rfl rfl trivial ?_
  refine E_icmp_eq (off := 14) (tgt := 376) (by decide +kernel) (by decide) (fun b32 => ?_) (fun b32 => ?_)
  · rw [if_pos b32] at h
    refine E_mask [true, true, false, true, false, true, false, true] rfl ?_
    exact lk_Model_cutLine_j376 hγ this Q k16 hk16 v1 v3 v5 v7 M h
  · rw [if_neg b32] at h
    refine E_blk (lv' := [some (vr (some (11, this))), some (vr (some (402, v1))), none, some (vi v3), some (vi v4), some (vi v5), some (vi v6), some (vi v7)]) (st' := [vi v4, vi (0 : Int32), vi (1 : Int32), vr (some (11, this))]) (M1 := M) (pc' := 370) (tb_Model hγ) [.aload_n 0, .iconst 1, .iconst 0, .iload 4] (by decide +kernel) rfl rfl trivial ?_
    refine E_callV (κ' := k_Model_addWord) (As := [vi (1 : Int32), vi (0 : Int32), vi v4]) (st := []) mv_Model_addWord (Or.inl (tbk_mem (j := 14) (k := 212) rfl)) rfl (by decide +kernel) (Nat.le_of_ble_eq_true rfl) (Nat.le_of_ble_eq_true rfl) rfl (by decide) (lk_Model_addWord hγ this (1 : Int32) (0 : Int32) v4 _ M h) (fun _ _ => Qv_r) (fun v M33 hp => Qv_k (R := fun st => E γ k_Model_cutLine 3 373 [some (vr (some (11, this))), some (vr (some (402, v1))), none, some (vi v3), some (vi v4), some (vi v5), some (vi v6), some (vi v7)] st M33 (Qi Q)) hp (fun h => ?_))
    refine E_blk (lv' := [some (vr (some (11, this))), some (vr (some (402, v1))), none, some (vi v3), some (vi v4), some (vi (0 : Int32)), some (vi v6), some (vi v7)]) (st' := []) (M1 := M33) (pc' := 376) (tb_Model hγ) [.iconst 0, .istore 5] (by decide +kernel) rfl rfl trivial ?_
    refine E_mask [true, true, false, true, false, true, false, true] rfl ?_
    exact lk_Model_cutLine_j376 hγ this Q k16 hk16 v1 v3 (0 : Int32) v7 M33 h
set_option maxRecDepth 4096 in
theorem lk_Model_cutLine_j315 {γ : Gm} (hγ : Gk γ) (this : Nat) (Q : Int32 → Mem → Prop) (k16 : Nat → Int32 → Int32 → Int32 → Mem → Prop) (hk16 : ∀ (v1 : Nat) (v3 : Int32) (v4 : Int32) (v5 : Int32) (M : Mem), k16 v1 v3 v4 v5 M → E γ k_Model_cutLine 3 16 [some (vr (some (11, this))), some (vr (some (402, v1))), none, some (vi v3), some (vi v4), some (vi v5), none, none] [] M (Qi Q)) (v1 : Nat) (v3 : Int32) (v4 : Int32) (v5 : Int32) (v6 : Int32) (v7 : Int32) (M : Mem) (h : w_Model_cutLine_j315 this Q k16 v1 v3 v4 v5 v6 v7 M) : E γ k_Model_cutLine 3 315 [some (vr (some (11, this))), some (vr (some (402, v1))), none, some (vi v3), some (vi v4), some (vi v5), some (vi v6), some (vi v7)] [] M (Qi Q) := by
  unfold w_Model_cutLine_j315 at h
  refine E_blk (lv' := [some (vr (some (11, this))), some (vr (some (402, v1))), none, some (vi v3), some (vi v4), some (vi v5), some (vi v6), some (vi v7)]) (st' := [vi (60 : Int32), vi v6]) (M1 := M) (pc' := 319) (tb_Model hγ) [.iload 6, .bipush 60] (by decide +kernel) rfl rfl trivial ?_
  refine E_icmp_ne (off := 39) (tgt := 358) (by decide +kernel) (by decide) (fun b28 => ?_) (fun b28 => ?_)
  · rw [if_pos b28] at h
    refine E_blk (lv' := [some (vr (some (11, this))), some (vr (some (402, v1))), none, some (vi v3), some (vi v4), some (vi v5), some (vi v6), some (vi v7)]) (st' := [vi v3, vi v4, vr (some (402, v1)), vi (mI M 11 this 7), vr (some (11, this))]) (M1 := M) (pc' := 331) (tb_Model hγ) [.aload_n 0, .aload_n 0, .getfield 127, .aload_n 1, .iload 4, .iload_n 3] (by decide +kernel) rfl rfl trivial ?_
    refine E_callV (κ' := k_Model_isTag) (As := [vi (mI M 11 this 7), vr (some (402, v1)), vi v4, vi v3]) (st := []) mv_Model_isTag (Or.inl (tbk_mem (j := 14) (k := 222) rfl)) rfl (by decide +kernel) (Nat.le_of_ble_eq_true rfl) (Nat.le_of_ble_eq_true rfl) rfl (by decide) (lk_Model_isTag hγ this (mI M 11 this 7) v1 v4 v3 _ M h) (fun _ _ => Qi_r) (fun v M29 hp => Qi_k (R := fun st => E γ k_Model_cutLine 3 334 [some (vr (some (11, this))), some (vr (some (402, v1))), none, some (vi v3), some (vi v4), some (vi v5), some (vi v6), some (vi v7)] st M29 (Qi Q)) hp (fun r30 h => ?_))
    refine E_if_eq (off := 24) (tgt := 358) (by decide +kernel) (by decide) (fun b31 => ?_) (fun b31 => ?_)
    · rw [if_pos b31] at h
      refine E_mask [true, true, false, true, true, true, true, true] rfl ?_
      exact lk_Model_cutLine_j358 hγ this Q k16 hk16 v1 v3 v4 v5 v6 v7 M29 h
    · rw [if_neg b31] at h
      refine E_blk (lv' := [some (vr (some (11, this))), some (vr (some (402, v1))), none, some (vi v3), some (vi v4), some (vi v5), some (vi v6), some (vi v7)]) (st' := [vi v4, vi (mI M29 11 this 7), vi (3 : Int32), vr (some (11, this))]) (M1 := M29) (pc' := 345) (tb_Model hγ) [.aload_n 0, .iconst 3, .aload_n 0, .getfield 127, .iload 4] (by decide +kernel) rfl rfl trivial ?_
      refine E_callV (κ' := k_Model_addWord) (As := [vi (3 : Int32), vi (mI M29 11 this 7), vi v4]) (st := []) mv_Model_addWord (Or.inl (tbk_mem (j := 14) (k := 212) rfl)) rfl (by decide +kernel) (Nat.le_of_ble_eq_true rfl) (Nat.le_of_ble_eq_true rfl) rfl (by decide) (lk_Model_addWord hγ this (3 : Int32) (mI M29 11 this 7) v4 _ M29 h) (fun _ _ => Qv_r) (fun v M34 hp => Qv_k (R := fun st => E γ k_Model_cutLine 3 348 [some (vr (some (11, this))), some (vr (some (402, v1))), none, some (vi v3), some (vi v4), some (vi v5), some (vi v6), some (vi v7)] st M34 (Qi Q)) hp (fun h => ?_))
      refine E_blk (lv' := [some (vr (some (11, this))), some (vr (some (402, v1))), none, some (vi v3), some (vi v4), some (vi v5), some (vi v6), some (vi (v4 + (7 : Int32)))]) (st' := []) (M1 := M34) (pc' := 355) (tb_Model hγ) [.iload 4, .bipush 7, .iadd, .istore 7] (by decide +kernel) rfl rfl trivial ?_
      refine E_goto (off := 21) (tgt := 376) (by decide +kernel) (by decide) ?_
      refine E_mask [true, true, false, true, false, true, false, true] rfl ?_
      exact lk_Model_cutLine_j376 hγ this Q k16 hk16 v1 v3 v5 (v4 + (7 : Int32)) M34 h
  · rw [if_neg b28] at h
    refine E_mask [true, true, false, true, true, true, true, true] rfl ?_
    exact lk_Model_cutLine_j358 hγ this Q k16 hk16 v1 v3 v4 v5 v6 v7 M h
set_option maxRecDepth 4096 in
theorem lk_Model_cutLine_j211 {γ : Gm} (hγ : Gk γ) (this : Nat) (Q : Int32 → Mem → Prop) (k16 : Nat → Int32 → Int32 → Int32 → Mem → Prop) (hk16 : ∀ (v1 : Nat) (v3 : Int32) (v4 : Int32) (v5 : Int32) (M : Mem), k16 v1 v3 v4 v5 M → E γ k_Model_cutLine 3 16 [some (vr (some (11, this))), some (vr (some (402, v1))), none, some (vi v3), some (vi v4), some (vi v5), none, none] [] M (Qi Q)) (v1 : Nat) (v3 : Int32) (v4 : Int32) (v5 : Int32) (v6 : Int32) (v7 : Int32) (M : Mem) (h : w_Model_cutLine_j211 this Q k16 v1 v3 v4 v5 v6 v7 M) : E γ k_Model_cutLine 3 211 [some (vr (some (11, this))), some (vr (some (402, v1))), none, some (vi v3), some (vi v4), some (vi v5), some (vi v6), some (vi v7)] [] M (Qi Q) := by
  unfold w_Model_cutLine_j211 at h
  refine E_blk (lv' := [some (vr (some (11, this))), some (vr (some (402, v1))), none, some (vi v3), some (vi v4), some (vi v5), some (vi v6), some (vi v7)]) (st' := [vi (58 : Int32), vi v6]) (M1 := M) (pc' := 215) (tb_Model hγ) [.iload 6, .bipush 58] (by decide +kernel) rfl rfl trivial ?_
  refine E_icmp_eq (off := 45) (tgt := 260) (by decide +kernel) (by decide) (fun b16 => ?_) (fun b16 => ?_)
  · rw [if_pos b16] at h
    refine E_mask [true, true, false, true, true, true, true, true] rfl ?_
    exact lk_Model_cutLine_j260 hγ this Q k16 hk16 v1 v3 v4 v5 v6 v7 M h
  · rw [if_neg b16] at h
    refine E_blk (lv' := [some (vr (some (11, this))), some (vr (some (402, v1))), none, some (vi v3), some (vi v4), some (vi v5), some (vi v6), some (vi v7)]) (st' := [vi (44 : Int32), vi v6]) (M1 := M) (pc' := 222) (tb_Model hγ) [.iload 6, .bipush 44] (by decide +kernel) rfl rfl trivial ?_
    refine E_icmp_eq (off := 38) (tgt := 260) (by decide +kernel) (by decide) (fun b18 => ?_) (fun b18 => ?_)
    · rw [if_pos b18] at h
      refine E_mask [true, true, false, true, true, true, true, true] rfl ?_
      exact lk_Model_cutLine_j260 hγ this Q k16 hk16 v1 v3 v4 v5 v6 v7 M h
    · rw [if_neg b18] at h
      refine E_blk (lv' := [some (vr (some (11, this))), some (vr (some (402, v1))), none, some (vi v3), some (vi v4), some (vi v5), some (vi v6), some (vi v7)]) (st' := [vi (59 : Int32), vi v6]) (M1 := M) (pc' := 229) (tb_Model hγ) [.iload 6, .bipush 59] (by decide +kernel) rfl rfl trivial ?_
      refine E_icmp_eq (off := 31) (tgt := 260) (by decide +kernel) (by decide) (fun b19 => ?_) (fun b19 => ?_)
      · rw [if_pos b19] at h
        refine E_mask [true, true, false, true, true, true, true, true] rfl ?_
        exact lk_Model_cutLine_j260 hγ this Q k16 hk16 v1 v3 v4 v5 v6 v7 M h
      · rw [if_neg b19] at h
        refine E_blk (lv' := [some (vr (some (11, this))), some (vr (some (402, v1))), none, some (vi v3), some (vi v4), some (vi v5), some (vi v6), some (vi v7)]) (st' := [vi (40 : Int32), vi v6]) (M1 := M) (pc' := 236) (tb_Model hγ) [.iload 6, .bipush 40] (by decide +kernel) rfl rfl trivial ?_
        refine E_icmp_eq (off := 24) (tgt := 260) (by decide +kernel) (by decide) (fun b20 => ?_) (fun b20 => ?_)
        · rw [if_pos b20] at h
          refine E_mask [true, true, false, true, true, true, true, true] rfl ?_
          exact lk_Model_cutLine_j260 hγ this Q k16 hk16 v1 v3 v4 v5 v6 v7 M h
        · rw [if_neg b20] at h
          refine E_blk (lv' := [some (vr (some (11, this))), some (vr (some (402, v1))), none, some (vi v3), some (vi v4), some (vi v5), some (vi v6), some (vi v7)]) (st' := [vi (41 : Int32), vi v6]) (M1 := M) (pc' := 243) (tb_Model hγ) [.iload 6, .bipush 41] (by decide +kernel) rfl rfl trivial ?_
          refine E_icmp_eq (off := 17) (tgt := 260) (by decide +kernel) (by decide) (fun b21 => ?_) (fun b21 => ?_)
          · rw [if_pos b21] at h
            refine E_mask [true, true, false, true, true, true, true, true] rfl ?_
            exact lk_Model_cutLine_j260 hγ this Q k16 hk16 v1 v3 v4 v5 v6 v7 M h
          · rw [if_neg b21] at h
            refine E_blk (lv' := [some (vr (some (11, this))), some (vr (some (402, v1))), none, some (vi v3), some (vi v4), some (vi v5), some (vi v6), some (vi v7)]) (st' := [vi (46 : Int32), vi v6]) (M1 := M) (pc' := 250) (tb_Model hγ) [.iload 6, .bipush 46] (by decide +kernel) rfl rfl trivial ?_
            refine E_icmp_eq (off := 10) (tgt := 260) (by decide +kernel) (by decide) (fun b22 => ?_) (fun b22 => ?_)
            · rw [if_pos b22] at h
              refine E_mask [true, true, false, true, true, true, true, true] rfl ?_
              exact lk_Model_cutLine_j260 hγ this Q k16 hk16 v1 v3 v4 v5 v6 v7 M h
            · rw [if_neg b22] at h
              refine E_blk (lv' := [some (vr (some (11, this))), some (vr (some (402, v1))), none, some (vi v3), some (vi v4), some (vi v5), some (vi v6), some (vi v7)]) (st' := [vi (61 : Int32), vi v6]) (M1 := M) (pc' := 257) (tb_Model hγ) [.iload 6, .bipush 61] (by decide +kernel) rfl rfl trivial ?_
              refine E_icmp_ne (off := 15) (tgt := 272) (by decide +kernel) (by decide) (fun b23 => ?_) (fun b23 => ?_)
              · rw [if_pos b23] at h
                refine E_mask [true, true, false, true, true, true, true, true] rfl ?_
                exact lk_Model_cutLine_j260 hγ this Q k16 hk16 v1 v3 v4 v5 v6 v7 M h
              · rw [if_neg b23] at h
                refine E_blk (lv' := [some (vr (some (11, this))), some (vr (some (402, v1))), none, some (vi v3), some (vi v4), some (vi v5), some (vi v6), some (vi v7)]) (st' := [vi (60 : Int32), vi v6]) (M1 := M) (pc' := 276) (tb_Model hγ) [.iload 6, .bipush 60] (by decide +kernel) rfl rfl trivial ?_
                refine E_icmp_ne (off := 39) (tgt := 315) (by decide +kernel) (by decide) (fun b24 => ?_) (fun b24 => ?_)
                · rw [if_pos b24] at h
                  refine E_blk (lv' := [some (vr (some (11, this))), some (vr (some (402, v1))), none, some (vi v3), some (vi v4), some (vi v5), some (vi v6), some (vi v7)]) (st' := [vi v3, vi v4, vr (some (402, v1)), vi (mI M 11 this 6), vr (some (11, this))]) (M1 := M) (pc' := 288) (tb_Model hγ) [.aload_n 0, .aload_n 0, .getfield 121, .aload_n 1, .iload 4, .iload_n 3] (by decide +kernel) rfl rfl trivial ?_
                  refine E_callV (κ' := k_Model_isTag) (As := [vi (mI M 11 this 6), vr (some (402, v1)), vi v4, vi v3]) (st := []) mv_Model_isTag (Or.inl (tbk_mem (j := 14) (k := 222) rfl)) rfl (by decide +kernel) (Nat.le_of_ble_eq_true rfl) (Nat.le_of_ble_eq_true rfl) rfl (by decide) (lk_Model_isTag hγ this (mI M 11 this 6) v1 v4 v3 _ M h) (fun _ _ => Qi_r) (fun v M25 hp => Qi_k (R := fun st => E γ k_Model_cutLine 3 291 [some (vr (some (11, this))), some (vr (some (402, v1))), none, some (vi v3), some (vi v4), some (vi v5), some (vi v6), some (vi v7)] st M25 (Qi Q)) hp (fun r26 h => ?_))
                  refine E_if_eq (off := 24) (tgt := 315) (by decide +kernel) (by decide) (fun b27 => ?_) (fun b27 => ?_)
                  · rw [if_pos b27] at h
                    refine E_mask [true, true, false, true, true, true, true, true] rfl ?_
                    exact lk_Model_cutLine_j315 hγ this Q k16 hk16 v1 v3 v4 v5 v6 v7 M25 h
                  · rw [if_neg b27] at h
                    refine E_blk (lv' := [some (vr (some (11, this))), some (vr (some (402, v1))), none, some (vi v3), some (vi v4), some (vi v5), some (vi v6), some (vi v7)]) (st' := [vi v4, vi (mI M25 11 this 6), vi (3 : Int32), vr (some (11, this))]) (M1 := M25) (pc' := 302) (tb_Model hγ) [.aload_n 0, .iconst 3, .aload_n 0, .getfield 121, .iload 4] (by decide +kernel) rfl rfl trivial ?_
                    refine E_callV (κ' := k_Model_addWord) (As := [vi (3 : Int32), vi (mI M25 11 this 6), vi v4]) (st := []) mv_Model_addWord (Or.inl (tbk_mem (j := 14) (k := 212) rfl)) rfl (by decide +kernel) (Nat.le_of_ble_eq_true rfl) (Nat.le_of_ble_eq_true rfl) rfl (by decide) (lk_Model_addWord hγ this (3 : Int32) (mI M25 11 this 6) v4 _ M25 h) (fun _ _ => Qv_r) (fun v M35 hp => Qv_k (R := fun st => E γ k_Model_cutLine 3 305 [some (vr (some (11, this))), some (vr (some (402, v1))), none, some (vi v3), some (vi v4), some (vi v5), some (vi v6), some (vi v7)] st M35 (Qi Q)) hp (fun h => ?_))
                    refine E_blk (lv' := [some (vr (some (11, this))), some (vr (some (402, v1))), none, some (vi v3), some (vi v4), some (vi v5), some (vi v6), some (vi (v4 + (6 : Int32)))]) (st' := []) (M1 := M35) (pc' := 312) (tb_Model hγ) [.iload 4, .bipush 6, .iadd, .istore 7] (by decide +kernel) rfl rfl trivial ?_
                    refine E_goto (off := 64) (tgt := 376) (by decide +kernel) (by decide) ?_
                    refine E_mask [true, true, false, true, false, true, false, true] rfl ?_
                    exact lk_Model_cutLine_j376 hγ this Q k16 hk16 v1 v3 v5 (v4 + (6 : Int32)) M35 h
                · rw [if_neg b24] at h
                  refine E_mask [true, true, false, true, true, true, true, true] rfl ?_
                  exact lk_Model_cutLine_j315 hγ this Q k16 hk16 v1 v3 v4 v5 v6 v7 M h
set_option maxRecDepth 4096 in
theorem lk_Model_cutLine_j206 {γ : Gm} (hγ : Gk γ) (this : Nat) (Q : Int32 → Mem → Prop) (k16 : Nat → Int32 → Int32 → Int32 → Mem → Prop) (hk16 : ∀ (v1 : Nat) (v3 : Int32) (v4 : Int32) (v5 : Int32) (M : Mem), k16 v1 v3 v4 v5 M → E γ k_Model_cutLine 3 16 [some (vr (some (11, this))), some (vr (some (402, v1))), none, some (vi v3), some (vi v4), some (vi v5), none, none] [] M (Qi Q)) (v1 : Nat) (v3 : Int32) (v7 : Int32) (s0 : Int32) (M : Mem) (h : w_Model_cutLine_j206 this Q k16 v1 v3 v7 s0 M) : E γ k_Model_cutLine 3 206 [some (vr (some (11, this))), some (vr (some (402, v1))), none, some (vi v3), none, none, none, some (vi v7)] [vi s0] M (Qi Q) := by
  unfold w_Model_cutLine_j206 at h
  refine E_blk (lv' := [some (vr (some (11, this))), some (vr (some (402, v1))), none, some (vi v3), none, some (vi s0), none, some (vi v7)]) (st' := []) (M1 := M) (pc' := 208) (tb_Model hγ) [.istore 5] (by decide +kernel) rfl rfl trivial ?_
  refine E_goto (off := 168) (tgt := 376) (by decide +kernel) (by decide) ?_
  refine E_mask [true, true, false, true, false, true, false, true] rfl ?_
  exact lk_Model_cutLine_j376 hγ this Q k16 hk16 v1 v3 s0 v7 M h
set_option maxRecDepth 4096 in
theorem lk_Model_cutLine_j176 {γ : Gm} (hγ : Gk γ) (this : Nat) (Q : Int32 → Mem → Prop) (k16 : Nat → Int32 → Int32 → Int32 → Mem → Prop) (hk16 : ∀ (v1 : Nat) (v3 : Int32) (v4 : Int32) (v5 : Int32) (M : Mem), k16 v1 v3 v4 v5 M → E γ k_Model_cutLine 3 16 [some (vr (some (11, this))), some (vr (some (402, v1))), none, some (vi v3), some (vi v4), some (vi v5), none, none] [] M (Qi Q)) (v1 : Nat) (v3 : Int32) (v4 : Int32) (M : Mem) (h : w_Model_cutLine_j176 this Q k16 v1 v3 v4 M) : E γ k_Model_cutLine 3 176 [some (vr (some (11, this))), some (vr (some (402, v1))), none, some (vi v3), some (vi v4), none, none, none] [] M (Qi Q) := by
  unfold w_Model_cutLine_j176 at h
  refine E_blk (lv' := [some (vr (some (11, this))), some (vr (some (402, v1))), none, some (vi v3), some (vi v4), none, none, none]) (st' := [vi v3, vi v4, vr (some (402, v1)), vr (some (11, this))]) (M1 := M) (pc' := 181) (tb_Model hγ) [.aload_n 0, .aload_n 1, .iload 4, .iload_n 3] (by decide +kernel) rfl rfl trivial ?_
  refine E_callV (κ' := k_Model_number) (As := [vr (some (402, v1)), vi v4, vi v3]) (st := []) mv_Model_number (Or.inl (tbk_mem (j := 14) (k := 216) rfl)) rfl (by decide +kernel) (Nat.le_of_ble_eq_true rfl) (Nat.le_of_ble_eq_true rfl) rfl (by decide) (lk_Model_number hγ this v1 v4 v3 _ M h) (fun _ _ => Qi_r) (fun v M40 hp => Qi_k (R := fun st => E γ k_Model_cutLine 3 184 [some (vr (some (11, this))), some (vr (some (402, v1))), none, some (vi v3), some (vi v4), none, none, none] st M40 (Qi Q)) hp (fun r41 h => ?_))
  obtain ⟨c42, h⟩ := h
  refine E_blk (lv' := [some (vr (some (11, this))), some (vr (some (402, v1))), none, some (vi v3), some (vi v4), none, none, some (vi r41)]) (st' := [vi (1 : Int32), vi (mI M40 411 this ((mI M40 11 this 42) - (1 : Int32)).toNatClampNeg)]) (M1 := M40) (pc' := 198) (tb_Model hγ) [.istore 7, .aload_n 0, .getfield 92, .aload_n 0, .getfield 95, .iconst 1, .isub, .baload, .iconst 1] (by decide +kernel) rfl rfl ⟨c42, trivial⟩ ?_
  refine E_icmp_eq (off := 7) (tgt := 205) (by decide +kernel) (by decide) (fun b43 => ?_) (fun b43 => ?_)
  · rw [if_pos b43] at h
    refine E_blk (lv' := [some (vr (some (11, this))), some (vr (some (402, v1))), none, some (vi v3), some (vi v4), none, none, some (vi r41)]) (st' := [vi (0 : Int32)]) (M1 := M40) (pc' := 206) (tb_Model hγ) [.iconst 0] (by decide +kernel) rfl rfl trivial ?_
    refine E_mask [true, true, false, true, false, false, false, true] rfl ?_
    exact lk_Model_cutLine_j206 hγ this Q k16 hk16 v1 v3 r41 (0 : Int32) M40 h
  · rw [if_neg b43] at h
    refine E_blk (lv' := [some (vr (some (11, this))), some (vr (some (402, v1))), none, some (vi v3), some (vi v4), none, none, some (vi r41)]) (st' := [vi (1 : Int32)]) (M1 := M40) (pc' := 202) (tb_Model hγ) [.iconst 1] (by decide +kernel) rfl rfl trivial ?_
    refine E_goto (off := 4) (tgt := 206) (by decide +kernel) (by decide) ?_
    refine E_mask [true, true, false, true, false, false, false, true] rfl ?_
    exact lk_Model_cutLine_j206 hγ this Q k16 hk16 v1 v3 r41 (1 : Int32) M40 h
set_option maxRecDepth 4096 in
theorem lk_Model_cutLine_j137 {γ : Gm} (hγ : Gk γ) (this : Nat) (Q : Int32 → Mem → Prop) (k16 : Nat → Int32 → Int32 → Int32 → Mem → Prop) (hk16 : ∀ (v1 : Nat) (v3 : Int32) (v4 : Int32) (v5 : Int32) (M : Mem), k16 v1 v3 v4 v5 M → E γ k_Model_cutLine 3 16 [some (vr (some (11, this))), some (vr (some (402, v1))), none, some (vi v3), some (vi v4), some (vi v5), none, none] [] M (Qi Q)) (v1 : Nat) (v3 : Int32) (v4 : Int32) (v5 : Int32) (v7 : Int32) (s0 : Int32) (s1 : Int32) (M : Mem) (h : w_Model_cutLine_j137 this Q k16 v1 v3 v4 v5 v7 s0 s1 M) : E γ k_Model_cutLine 3 137 [some (vr (some (11, this))), some (vr (some (402, v1))), none, some (vi v3), some (vi v4), some (vi v5), none, some (vi v7)] [vi s0, vi s1, vr (some (11, this))] M (Qi Q) := by
  unfold w_Model_cutLine_j137 at h
  refine E_blk (lv' := [some (vr (some (11, this))), some (vr (some (402, v1))), none, some (vi v3), some (vi v4), some (vi v5), none, some (vi v7)]) (st' := [vi v4, vi s0, vi s1, vr (some (11, this))]) (M1 := M) (pc' := 139) (tb_Model hγ) [.iload 4] (by decide +kernel) rfl rfl trivial ?_
  refine E_callV (κ' := k_Model_addWord) (As := [vi s1, vi s0, vi v4]) (st := []) mv_Model_addWord (Or.inl (tbk_mem (j := 14) (k := 212) rfl)) rfl (by decide +kernel) (Nat.le_of_ble_eq_true rfl) (Nat.le_of_ble_eq_true rfl) rfl (by decide) (lk_Model_addWord hγ this s1 s0 v4 _ M h) (fun _ _ => Qv_r) (fun v M48 hp => Qv_k (R := fun st => E γ k_Model_cutLine 3 142 [some (vr (some (11, this))), some (vr (some (402, v1))), none, some (vi v3), some (vi v4), some (vi v5), none, some (vi v7)] st M48 (Qi Q)) hp (fun h => ?_))
  refine E_goto (off := 234) (tgt := 376) (by decide +kernel) (by decide) ?_
  refine E_mask [true, true, false, true, false, true, false, true] rfl ?_
  exact lk_Model_cutLine_j376 hγ this Q k16 hk16 v1 v3 v5 v7 M48 h
set_option maxRecDepth 4096 in
theorem lk_Model_cutLine_j116 {γ : Gm} (hγ : Gk γ) (this : Nat) (Q : Int32 → Mem → Prop) (k16 : Nat → Int32 → Int32 → Int32 → Mem → Prop) (hk16 : ∀ (v1 : Nat) (v3 : Int32) (v4 : Int32) (v5 : Int32) (M : Mem), k16 v1 v3 v4 v5 M → E γ k_Model_cutLine 3 16 [some (vr (some (11, this))), some (vr (some (402, v1))), none, some (vi v3), some (vi v4), some (vi v5), none, none] [] M (Qi Q)) (v1 : Nat) (v3 : Int32) (v4 : Int32) (v5 : Int32) (v7 : Int32) (s0 : Int32) (M : Mem) (h : w_Model_cutLine_j116 this Q k16 v1 v3 v4 v5 v7 s0 M) : E γ k_Model_cutLine 3 116 [some (vr (some (11, this))), some (vr (some (402, v1))), none, some (vi v3), some (vi v4), some (vi v5), none, some (vi v7)] [vi s0, vr (some (11, this))] M (Qi Q) := by
  unfold w_Model_cutLine_j116 at h
  refine E_blk (lv' := [some (vr (some (11, this))), some (vr (some (402, v1))), none, some (vi v3), some (vi v4), some (vi v5), none, some (vi v7)]) (st' := [vi v5, vi s0, vr (some (11, this))]) (M1 := M) (pc' := 118) (tb_Model hγ) [.iload 5] (by decide +kernel) rfl rfl trivial ?_
  refine E_if_eq (off := 18) (tgt := 136) (by decide +kernel) (by decide) (fun b47 => ?_) (fun b47 => ?_)
  · rw [if_pos b47] at h
    refine E_blk (lv' := [some (vr (some (11, this))), some (vr (some (402, v1))), none, some (vi v3), some (vi v4), some (vi v5), none, some (vi v7)]) (st' := [vi (0 : Int32), vi s0, vr (some (11, this))]) (M1 := M) (pc' := 137) (tb_Model hγ) [.iconst 0] (by decide +kernel) rfl rfl trivial ?_
    refine E_mask [true, true, false, true, true, true, false, true] rfl ?_
    exact lk_Model_cutLine_j137 hγ this Q k16 hk16 v1 v3 v4 v5 v7 (0 : Int32) s0 M h
  · rw [if_neg b47] at h
    refine E_blk (lv' := [some (vr (some (11, this))), some (vr (some (402, v1))), none, some (vi v3), some (vi v4), some (vi v5), none, some (vi v7)]) (st' := [vi (v7 - v4), vi v4, vr (some (402, v1)), vr (some (11, this)), vi s0, vr (some (11, this))]) (M1 := M) (pc' := 130) (tb_Model hγ) [.aload_n 0, .aload_n 1, .iload 4, .iload 7, .iload 4, .isub] (by decide +kernel) rfl rfl trivial ?_
    refine E_callV (κ' := k_Model_nameIn) (As := [vr (some (402, v1)), vi v4, vi (v7 - v4)]) (st := [vi s0, vr (some (11, this))]) mv_Model_nameIn (Or.inl (tbk_mem (j := 11) (k := 53) rfl)) rfl (by decide +kernel) (Nat.le_of_ble_eq_true rfl) (Nat.le_of_ble_eq_true rfl) rfl (by decide) (lk_Model_nameIn hγ this v1 v4 (v7 - v4) _ M h) (fun _ _ => Qi_r) (fun v M49 hp => Qi_k (R := fun st => E γ k_Model_cutLine 3 133 [some (vr (some (11, this))), some (vr (some (402, v1))), none, some (vi v3), some (vi v4), some (vi v5), none, some (vi v7)] st M49 (Qi Q)) hp (fun r50 h => ?_))
    refine E_goto (off := 4) (tgt := 137) (by decide +kernel) (by decide) ?_
    refine E_mask [true, true, false, true, true, true, false, true] rfl ?_
    exact lk_Model_cutLine_j137 hγ this Q k16 hk16 v1 v3 v4 v5 v7 r50 s0 M49 h
set_option maxRecDepth 4096 in
theorem lk_Model_cutLine_j103 {γ : Gm} (hγ : Gk γ) (this : Nat) (Q : Int32 → Mem → Prop) (k16 : Nat → Int32 → Int32 → Int32 → Mem → Prop) (hk16 : ∀ (v1 : Nat) (v3 : Int32) (v4 : Int32) (v5 : Int32) (M : Mem), k16 v1 v3 v4 v5 M → E γ k_Model_cutLine 3 16 [some (vr (some (11, this))), some (vr (some (402, v1))), none, some (vi v3), some (vi v4), some (vi v5), none, none] [] M (Qi Q)) (v1 : Nat) (v3 : Int32) (v4 : Int32) (v7 : Int32) (s0 : Int32) (M : Mem) (h : w_Model_cutLine_j103 this Q k16 v1 v3 v4 v7 s0 M) : E γ k_Model_cutLine 3 103 [some (vr (some (11, this))), some (vr (some (402, v1))), none, some (vi v3), some (vi v4), none, none, some (vi v7)] [vi s0] M (Qi Q) := by
  unfold w_Model_cutLine_j103 at h
  refine E_blk (lv' := [some (vr (some (11, this))), some (vr (some (402, v1))), none, some (vi v3), some (vi v4), some (vi s0), none, some (vi v7)]) (st' := [vi s0, vr (some (11, this))]) (M1 := M) (pc' := 108) (tb_Model hγ) [.istore 5, .aload_n 0, .iload 5] (by decide +kernel) rfl rfl trivial ?_
  refine E_if_eq (off := 7) (tgt := 115) (by decide +kernel) (by decide) (fun b46 => ?_) (fun b46 => ?_)
  · rw [if_pos b46] at h
    refine E_blk (lv' := [some (vr (some (11, this))), some (vr (some (402, v1))), none, some (vi v3), some (vi v4), some (vi s0), none, some (vi v7)]) (st' := [vi (1 : Int32), vr (some (11, this))]) (M1 := M) (pc' := 116) (tb_Model hγ) [.iconst 1] (by decide +kernel) rfl rfl trivial ?_
    refine E_mask [true, true, false, true, true, true, false, true] rfl ?_
    exact lk_Model_cutLine_j116 hγ this Q k16 hk16 v1 v3 v4 s0 v7 (1 : Int32) M h
  · rw [if_neg b46] at h
    refine E_blk (lv' := [some (vr (some (11, this))), some (vr (some (402, v1))), none, some (vi v3), some (vi v4), some (vi s0), none, some (vi v7)]) (st' := [vi (2 : Int32), vr (some (11, this))]) (M1 := M) (pc' := 112) (tb_Model hγ) [.iconst 2] (by decide +kernel) rfl rfl trivial ?_
    refine E_goto (off := 4) (tgt := 116) (by decide +kernel) (by decide) ?_
    refine E_mask [true, true, false, true, true, true, false, true] rfl ?_
    exact lk_Model_cutLine_j116 hγ this Q k16 hk16 v1 v3 v4 s0 v7 (2 : Int32) M h
set_option maxRecDepth 4096 in
theorem lk_Model_cutLine_j88 {γ : Gm} (hγ : Gk γ) (this : Nat) (Q : Int32 → Mem → Prop) (k16 : Nat → Int32 → Int32 → Int32 → Mem → Prop) (hk16 : ∀ (v1 : Nat) (v3 : Int32) (v4 : Int32) (v5 : Int32) (M : Mem), k16 v1 v3 v4 v5 M → E γ k_Model_cutLine 3 16 [some (vr (some (11, this))), some (vr (some (402, v1))), none, some (vi v3), some (vi v4), some (vi v5), none, none] [] M (Qi Q)) (v1 : Nat) (v3 : Int32) (v4 : Int32) (v7 : Int32) (M : Mem) (h : w_Model_cutLine_j88 this Q k16 v1 v3 v4 v7 M) : E γ k_Model_cutLine 3 88 [some (vr (some (11, this))), some (vr (some (402, v1))), none, some (vi v3), some (vi v4), none, none, some (vi v7)] [] M (Qi Q) := by
  unfold w_Model_cutLine_j88 at h
  refine E_blk (lv' := [some (vr (some (11, this))), some (vr (some (402, v1))), none, some (vi v3), some (vi v4), none, none, some (vi v7)]) (st' := [vi (12 : Int32), vi (v7 - v4)]) (M1 := M) (pc' := 95) (tb_Model hγ) [.iload 7, .iload 4, .isub, .bipush 12] (by decide +kernel) rfl rfl trivial ?_
  refine E_icmp_gt (off := 7) (tgt := 102) (by decide +kernel) (by decide) (fun b45 => ?_) (fun b45 => ?_)
  · rw [if_pos b45] at h
    refine E_blk (lv' := [some (vr (some (11, this))), some (vr (some (402, v1))), none, some (vi v3), some (vi v4), none, none, some (vi v7)]) (st' := [vi (0 : Int32)]) (M1 := M) (pc' := 103) (tb_Model hγ) [.iconst 0] (by decide +kernel) rfl rfl trivial ?_
    refine E_mask [true, true, false, true, true, false, false, true] rfl ?_
    exact lk_Model_cutLine_j103 hγ this Q k16 hk16 v1 v3 v4 v7 (0 : Int32) M h
  · rw [if_neg b45] at h
    refine E_blk (lv' := [some (vr (some (11, this))), some (vr (some (402, v1))), none, some (vi v3), some (vi v4), none, none, some (vi v7)]) (st' := [vi (1 : Int32)]) (M1 := M) (pc' := 99) (tb_Model hγ) [.iconst 1] (by decide +kernel) rfl rfl trivial ?_
    refine E_goto (off := 4) (tgt := 103) (by decide +kernel) (by decide) ?_
    refine E_mask [true, true, false, true, true, false, false, true] rfl ?_
    exact lk_Model_cutLine_j103 hγ this Q k16 hk16 v1 v3 v4 v7 (1 : Int32) M h
set_option maxRecDepth 4096 in
theorem lk_Model_cutLine_j82 {γ : Gm} (hγ : Gk γ) (this : Nat) (Q : Int32 → Mem → Prop) (k16 : Nat → Int32 → Int32 → Int32 → Mem → Prop) (k56 : Nat → Int32 → Int32 → Int32 → Mem → Prop) (hk16 : ∀ (v1 : Nat) (v3 : Int32) (v4 : Int32) (v5 : Int32) (M : Mem), k16 v1 v3 v4 v5 M → E γ k_Model_cutLine 3 16 [some (vr (some (11, this))), some (vr (some (402, v1))), none, some (vi v3), some (vi v4), some (vi v5), none, none] [] M (Qi Q)) (hk56 : ∀ (v1 : Nat) (v3 : Int32) (v4 : Int32) (v7 : Int32) (M : Mem), k56 v1 v3 v4 v7 M → E γ k_Model_cutLine 3 56 [some (vr (some (11, this))), some (vr (some (402, v1))), none, some (vi v3), some (vi v4), none, none, some (vi v7)] [] M (Qi Q)) (v1 : Nat) (v3 : Int32) (v4 : Int32) (v7 : Int32) (M : Mem) (h : w_Model_cutLine_j82 this Q k16 k56 v1 v3 v4 v7 M) : E γ k_Model_cutLine 3 82 [some (vr (some (11, this))), some (vr (some (402, v1))), none, some (vi v3), some (vi v4), none, none, some (vi v7)] [] M (Qi Q) := by
  unfold w_Model_cutLine_j82 at h
  refine E_blk (lv' := [some (vr (some (11, this))), some (vr (some (402, v1))), none, some (vi v3), some (vi v4), none, none, some (vi (v7 + (1 : Int32)))]) (st' := []) (M1 := M) (pc' := 85) (tb_Model hγ) [.iinc 7 1] (by decide +kernel) rfl rfl trivial ?_
  refine E_goto (off := -29) (tgt := 56) (by decide +kernel) (by decide) ?_
  refine E_mask [true, true, false, true, true, false, false, true] rfl ?_
  exact hk56 v1 v3 v4 (v7 + (1 : Int32)) M h
set_option maxRecDepth 4096 in
theorem lk_Model_cutLine_L56 {γ : Gm} (hγ : Gk γ) (this : Nat) (Q : Int32 → Mem → Prop) (k16 : Nat → Int32 → Int32 → Int32 → Mem → Prop) (hk16 : ∀ (v1 : Nat) (v3 : Int32) (v4 : Int32) (v5 : Int32) (M : Mem), k16 v1 v3 v4 v5 M → E γ k_Model_cutLine 3 16 [some (vr (some (11, this))), some (vr (some (402, v1))), none, some (vi v3), some (vi v4), some (vi v5), none, none] [] M (Qi Q)) : ∀ (n : Nat) (v1 : Nat) (v3 : Int32) (v4 : Int32) (v7 : Int32) (M : Mem), w_Model_cutLine_L56 this Q k16 n v1 v3 v4 v7 M → E γ k_Model_cutLine 3 56 [some (vr (some (11, this))), some (vr (some (402, v1))), none, some (vi v3), some (vi v4), none, none, some (vi v7)] [] M (Qi Q) := by
  intro n
  induction n with
  | zero => intro v1 v3 v4 v7 M h; exact h.elim
  | succ n ih =>
    intro v1 v3 v4 v7 M h
    unfold w_Model_cutLine_L56 at h
    refine E_blk (lv' := [some (vr (some (11, this))), some (vr (some (402, v1))), none, some (vi v3), some (vi v4), none, none, some (vi v7)]) (st' := [vi v3, vi v7]) (M1 := M) (pc' := 59) (tb_Model hγ) [.iload 7, .iload_n 3] (by decide +kernel) rfl rfl trivial ?_
    refine E_icmp_ge (off := 29) (tgt := 88) (by decide +kernel) (by decide) (fun b44 => ?_) (fun b44 => ?_)
    · rw [if_pos b44] at h
      refine E_mask [true, true, false, true, true, false, false, true] rfl ?_
      exact lk_Model_cutLine_j88 hγ this Q k16 hk16 v1 v3 v4 v7 M h
    · rw [if_neg b44] at h
      obtain ⟨c51, h⟩ := h
      refine E_blk (lv' := [some (vr (some (11, this))), some (vr (some (402, v1))), none, some (vi v3), some (vi v4), none, none, some (vi v7)]) (st' := [vi (mI M 402 v1 v7.toNatClampNeg)]) (M1 := M) (pc' := 66) (tb_Model hγ) [.aload_n 1, .iload 7, .baload] (by decide +kernel) rfl rfl ⟨c51, trivial⟩ ?_
      refine E_callS (κ' := k_Model_isLetter) (As := [vi (mI M 402 v1 v7.toNatClampNeg)]) (st := []) ms_Model_isLetter (Or.inl (tbk_mem (j := 14) (k := 206) rfl)) rfl (by decide +kernel) (Nat.le_of_ble_eq_true rfl) (Nat.le_of_ble_eq_true rfl) rfl (by decide) (lk_Model_isLetter hγ (mI M 402 v1 v7.toNatClampNeg) _ M h) (fun _ _ => Qi_r) (fun v M52 hp => Qi_k (R := fun st => E γ k_Model_cutLine 3 69 [some (vr (some (11, this))), some (vr (some (402, v1))), none, some (vi v3), some (vi v4), none, none, some (vi v7)] st M52 (Qi Q)) hp (fun r53 h => ?_))
      refine E_if_ne (off := 13) (tgt := 82) (by decide +kernel) (by decide) (fun b54 => ?_) (fun b54 => ?_)
      · rw [if_pos b54] at h
        obtain ⟨c55, h⟩ := h
        refine E_blk (lv' := [some (vr (some (11, this))), some (vr (some (402, v1))), none, some (vi v3), some (vi v4), none, none, some (vi v7)]) (st' := [vi (mI M52 402 v1 v7.toNatClampNeg)]) (M1 := M52) (pc' := 76) (tb_Model hγ) [.aload_n 1, .iload 7, .baload] (by decide +kernel) rfl rfl ⟨c55, trivial⟩ ?_
        refine E_callS (κ' := k_Model_isDigit) (As := [vi (mI M52 402 v1 v7.toNatClampNeg)]) (st := []) ms_Model_isDigit (Or.inl (tbk_mem (j := 14) (k := 209) rfl)) rfl (by decide +kernel) (Nat.le_of_ble_eq_true rfl) (Nat.le_of_ble_eq_true rfl) rfl (by decide) (lk_Model_isDigit hγ (mI M52 402 v1 v7.toNatClampNeg) _ M52 h) (fun _ _ => Qi_r) (fun v M56 hp => Qi_k (R := fun st => E γ k_Model_cutLine 3 79 [some (vr (some (11, this))), some (vr (some (402, v1))), none, some (vi v3), some (vi v4), none, none, some (vi v7)] st M56 (Qi Q)) hp (fun r57 h => ?_))
        refine E_if_eq (off := 9) (tgt := 88) (by decide +kernel) (by decide) (fun b58 => ?_) (fun b58 => ?_)
        · rw [if_pos b58] at h
          refine E_mask [true, true, false, true, true, false, false, true] rfl ?_
          exact lk_Model_cutLine_j88 hγ this Q k16 hk16 v1 v3 v4 v7 M56 h
        · rw [if_neg b58] at h
          refine E_mask [true, true, false, true, true, false, false, true] rfl ?_
          exact lk_Model_cutLine_j82 hγ this Q k16 (w_Model_cutLine_L56 this Q k16 n) hk16 ih v1 v3 v4 v7 M56 h
      · rw [if_neg b54] at h
        refine E_mask [true, true, false, true, true, false, false, true] rfl ?_
        exact lk_Model_cutLine_j82 hγ this Q k16 (w_Model_cutLine_L56 this Q k16 n) hk16 ih v1 v3 v4 v7 M52 h
set_option maxRecDepth 4096 in
theorem lk_Model_cutLine_L16 {γ : Gm} (hγ : Gk γ) (this : Nat) (Q : Int32 → Mem → Prop) : ∀ (n : Nat) (v1 : Nat) (v3 : Int32) (v4 : Int32) (v5 : Int32) (M : Mem), w_Model_cutLine_L16 this Q n v1 v3 v4 v5 M → E γ k_Model_cutLine 3 16 [some (vr (some (11, this))), some (vr (some (402, v1))), none, some (vi v3), some (vi v4), some (vi v5), none, none] [] M (Qi Q) := by
  intro n
  induction n with
  | zero => intro v1 v3 v4 v5 M h; exact h.elim
  | succ n ih =>
    intro v1 v3 v4 v5 M h
    unfold w_Model_cutLine_L16 at h
    refine E_blk (lv' := [some (vr (some (11, this))), some (vr (some (402, v1))), none, some (vi v3), some (vi v4), some (vi v5), none, none]) (st' := [vi v5]) (M1 := M) (pc' := 18) (tb_Model hγ) [.iload 5] (by decide +kernel) rfl rfl trivial ?_
    refine E_if_eq (off := 365) (tgt := 383) (by decide +kernel) (by decide) (fun b1 => ?_) (fun b1 => ?_)
    · rw [if_pos b1] at h
      refine E_mask [true, false, false, true, false, false, false, false] rfl ?_
      exact lk_Model_cutLine_j383 hγ this Q v3 M h
    · rw [if_neg b1] at h
      refine E_blk (lv' := [some (vr (some (11, this))), some (vr (some (402, v1))), none, some (vi v3), some (vi v4), some (vi v5), none, none]) (st' := [vi v3, vi v4]) (M1 := M) (pc' := 24) (tb_Model hγ) [.iload 4, .iload_n 3] (by decide +kernel) rfl rfl trivial ?_
      refine E_icmp_ge (off := 359) (tgt := 383) (by decide +kernel) (by decide) (fun b4 => ?_) (fun b4 => ?_)
      · rw [if_pos b4] at h
        refine E_mask [true, false, false, true, false, false, false, false] rfl ?_
        exact lk_Model_cutLine_j383 hγ this Q v3 M h
      · rw [if_neg b4] at h
        obtain ⟨c5, h⟩ := h
        refine E_blk (lv' := [some (vr (some (11, this))), some (vr (some (402, v1))), none, some (vi v3), some (vi v4), some (vi v5), none, none]) (st' := [vi (35 : Int32), vi (mI M 402 v1 v4.toNatClampNeg)]) (M1 := M) (pc' := 33) (tb_Model hγ) [.aload_n 1, .iload 4, .baload, .bipush 35] (by decide +kernel) rfl rfl ⟨c5, trivial⟩ ?_
        refine E_icmp_eq (off := 350) (tgt := 383) (by decide +kernel) (by decide) (fun b6 => ?_) (fun b6 => ?_)
        · rw [if_pos b6] at h
          refine E_mask [true, false, false, true, false, false, false, false] rfl ?_
          exact lk_Model_cutLine_j383 hγ this Q v3 M h
        · rw [if_neg b6] at h
          obtain ⟨c7, h⟩ := h
          refine E_blk (lv' := [some (vr (some (11, this))), some (vr (some (402, v1))), none, some (vi v3), some (vi v4), some (vi v5), some (vi (mI M 402 v1 v4.toNatClampNeg)), some (vi (v4 + (1 : Int32)))]) (st' := [vi (mI M 402 v1 v4.toNatClampNeg)]) (M1 := M) (pc' := 50) (tb_Model hγ) [.aload_n 1, .iload 4, .baload, .istore 6, .iload 4, .iconst 1, .iadd, .istore 7, .iload 6] (by decide +kernel) rfl rfl ⟨c7, trivial⟩ ?_
          refine E_callS (κ' := k_Model_isLetter) (As := [vi (mI M 402 v1 v4.toNatClampNeg)]) (st := []) ms_Model_isLetter (Or.inl (tbk_mem (j := 14) (k := 206) rfl)) rfl (by decide +kernel) (Nat.le_of_ble_eq_true rfl) (Nat.le_of_ble_eq_true rfl) rfl (by decide) (lk_Model_isLetter hγ (mI M 402 v1 v4.toNatClampNeg) _ M h) (fun _ _ => Qi_r) (fun v M8 hp => Qi_k (R := fun st => E γ k_Model_cutLine 3 53 [some (vr (some (11, this))), some (vr (some (402, v1))), none, some (vi v3), some (vi v4), some (vi v5), some (vi (mI M 402 v1 v4.toNatClampNeg)), some (vi (v4 + (1 : Int32)))] st M8 (Qi Q)) hp (fun r9 h => ?_))
          refine E_if_eq (off := 92) (tgt := 145) (by decide +kernel) (by decide) (fun b10 => ?_) (fun b10 => ?_)
          · rw [if_pos b10] at h
            refine E_blk (lv' := [some (vr (some (11, this))), some (vr (some (402, v1))), none, some (vi v3), some (vi v4), some (vi v5), some (vi (mI M 402 v1 v4.toNatClampNeg)), some (vi (v4 + (1 : Int32)))]) (st' := [vi (mI M 402 v1 v4.toNatClampNeg)]) (M1 := M8) (pc' := 147) (tb_Model hγ) [.iload 6] (by decide +kernel) rfl rfl trivial ?_
            refine E_callS (κ' := k_Model_isDigit) (As := [vi (mI M 402 v1 v4.toNatClampNeg)]) (st := []) ms_Model_isDigit (Or.inl (tbk_mem (j := 14) (k := 209) rfl)) rfl (by decide +kernel) (Nat.le_of_ble_eq_true rfl) (Nat.le_of_ble_eq_true rfl) rfl (by decide) (lk_Model_isDigit hγ (mI M 402 v1 v4.toNatClampNeg) _ M8 h) (fun _ _ => Qi_r) (fun v M11 hp => Qi_k (R := fun st => E γ k_Model_cutLine 3 150 [some (vr (some (11, this))), some (vr (some (402, v1))), none, some (vi v3), some (vi v4), some (vi v5), some (vi (mI M 402 v1 v4.toNatClampNeg)), some (vi (v4 + (1 : Int32)))] st M11 (Qi Q)) hp (fun r12 h => ?_))
            refine E_if_ne (off := 26) (tgt := 176) (by decide +kernel) (by decide) (fun b13 => ?_) (fun b13 => ?_)
            · rw [if_pos b13] at h
              refine E_blk (lv' := [some (vr (some (11, this))), some (vr (some (402, v1))), none, some (vi v3), some (vi v4), some (vi v5), some (vi (mI M 402 v1 v4.toNatClampNeg)), some (vi (v4 + (1 : Int32)))]) (st' := [vi (45 : Int32), vi (mI M 402 v1 v4.toNatClampNeg)]) (M1 := M11) (pc' := 157) (tb_Model hγ) [.iload 6, .bipush 45] (by decide +kernel) rfl rfl trivial ?_
              refine E_icmp_ne (off := 54) (tgt := 211) (by decide +kernel) (by decide) (fun b14 => ?_) (fun b14 => ?_)
              · rw [if_pos b14] at h
                refine E_blk (lv' := [some (vr (some (11, this))), some (vr (some (402, v1))), none, some (vi v3), some (vi v4), some (vi v5), some (vi (mI M 402 v1 v4.toNatClampNeg)), some (vi (v4 + (1 : Int32)))]) (st' := [vi v3, vi (v4 + (1 : Int32))]) (M1 := M11) (pc' := 163) (tb_Model hγ) [.iload 7, .iload_n 3] (by decide +kernel) rfl rfl trivial ?_
                refine E_icmp_ge (off := 48) (tgt := 211) (by decide +kernel) (by decide) (fun b15 => ?_) (fun b15 => ?_)
                · rw [if_pos b15] at h
                  refine E_mask [true, true, false, true, true, true, true, true] rfl ?_
                  exact lk_Model_cutLine_j211 hγ this Q (w_Model_cutLine_L16 this Q n) ih v1 v3 v4 v5 (mI M 402 v1 v4.toNatClampNeg) (v4 + (1 : Int32)) M11 h
                · rw [if_neg b15] at h
                  obtain ⟨c36, h⟩ := h
                  refine E_blk (lv' := [some (vr (some (11, this))), some (vr (some (402, v1))), none, some (vi v3), some (vi v4), some (vi v5), some (vi (mI M 402 v1 v4.toNatClampNeg)), some (vi (v4 + (1 : Int32)))]) (st' := [vi (mI M11 402 v1 (v4 + (1 : Int32)).toNatClampNeg)]) (M1 := M11) (pc' := 170) (tb_Model hγ) [.aload_n 1, .iload 7, .baload] (by decide +kernel) rfl rfl ⟨c36, trivial⟩ ?_
                  refine E_callS (κ' := k_Model_isDigit) (As := [vi (mI M11 402 v1 (v4 + (1 : Int32)).toNatClampNeg)]) (st := []) ms_Model_isDigit (Or.inl (tbk_mem (j := 14) (k := 209) rfl)) rfl (by decide +kernel) (Nat.le_of_ble_eq_true rfl) (Nat.le_of_ble_eq_true rfl) rfl (by decide) (lk_Model_isDigit hγ (mI M11 402 v1 (v4 + (1 : Int32)).toNatClampNeg) _ M11 h) (fun _ _ => Qi_r) (fun v M37 hp => Qi_k (R := fun st => E γ k_Model_cutLine 3 173 [some (vr (some (11, this))), some (vr (some (402, v1))), none, some (vi v3), some (vi v4), some (vi v5), some (vi (mI M 402 v1 v4.toNatClampNeg)), some (vi (v4 + (1 : Int32)))] st M37 (Qi Q)) hp (fun r38 h => ?_))
                  refine E_if_eq (off := 38) (tgt := 211) (by decide +kernel) (by decide) (fun b39 => ?_) (fun b39 => ?_)
                  · rw [if_pos b39] at h
                    refine E_mask [true, true, false, true, true, true, true, true] rfl ?_
                    exact lk_Model_cutLine_j211 hγ this Q (w_Model_cutLine_L16 this Q n) ih v1 v3 v4 v5 (mI M 402 v1 v4.toNatClampNeg) (v4 + (1 : Int32)) M37 h
                  · rw [if_neg b39] at h
                    refine E_mask [true, true, false, true, true, false, false, false] rfl ?_
                    exact lk_Model_cutLine_j176 hγ this Q (w_Model_cutLine_L16 this Q n) ih v1 v3 v4 M37 h
              · rw [if_neg b14] at h
                refine E_mask [true, true, false, true, true, true, true, true] rfl ?_
                exact lk_Model_cutLine_j211 hγ this Q (w_Model_cutLine_L16 this Q n) ih v1 v3 v4 v5 (mI M 402 v1 v4.toNatClampNeg) (v4 + (1 : Int32)) M11 h
            · rw [if_neg b13] at h
              refine E_mask [true, true, false, true, true, false, false, false] rfl ?_
              exact lk_Model_cutLine_j176 hγ this Q (w_Model_cutLine_L16 this Q n) ih v1 v3 v4 M11 h
          · rw [if_neg b10] at h
            obtain ⟨n59, h⟩ := h
            refine E_mask [true, true, false, true, true, false, false, true] rfl ?_
            exact lk_Model_cutLine_L56 hγ this Q (w_Model_cutLine_L16 this Q n) ih n59 v1 v3 v4 (v4 + (1 : Int32)) M8 h
set_option maxRecDepth 4096 in
theorem lk_Model_cutLine {γ : Gm} (hγ : Gk γ) (this : Nat) (a1 : Nat) (a2 : Int32) (a3 : Int32) (Q : Int32 → Mem → Prop) (M : Mem) (h : w_Model_cutLine this a1 a2 a3 Q M) : E γ k_Model_cutLine 3 0 [some (vr (some (11, this))), some (vr (some (402, a1))), some (vi a2), some (vi a3), none, none, none, none] [] M (Qi Q) := by
  unfold w_Model_cutLine at h
  refine E_blk (lv' := [some (vr (some (11, this))), some (vr (some (402, a1))), some (vi a2), some (vi a3), some (vi a2), some (vi (1 : Int32)), none, none]) (st' := []) (M1 := (sI (sI M 11 this 42 (0 : Int32)) 11 this 43 (0 : Int32))) (pc' := 16) (tb_Model hγ) [.aload_n 0, .iconst 0, .putfield 95, .aload_n 0, .iconst 0, .putfield 104, .iload_n 2, .istore 4, .iconst 1, .istore 5] (by decide +kernel) rfl rfl trivial ?_
  obtain ⟨n60, h⟩ := h
  refine E_mask [true, true, false, true, true, true, false, false] rfl ?_
  exact lk_Model_cutLine_L16 hγ this Q n60 a1 a3 a2 (1 : Int32) (sI (sI M 11 this 42 (0 : Int32)) 11 this 43 (0 : Int32)) h
def w_MWorld_init_j478 (this : Nat) (Q : Mem → Prop)  (M : Mem) : Prop :=
  ¬ (400 : Int32) < 0 ∧ (400 : Int32).toNatClampNeg ≤ 60000000 ∧ ∃ i318, (168, i318) ∉ mN M ∧ ∃ M317, M317 = mk M 168 i318 (400 : Int32).toNatClampNeg ∧ ∃ M322, M322 = sR M317 12 this 69 (some (168, i318)) ∧ ¬ (62 : Int32) < 0 ∧ (62 : Int32).toNatClampNeg ≤ 60000000 ∧ ∃ i324, (169, i324) ∉ mN M322 ∧ ∃ M323, M323 = mk M322 169 i324 (62 : Int32).toNatClampNeg ∧ ∃ M328, M328 = sR M323 12 this 71 (some (169, i324)) ∧ Q M328
def w_MWorld_init_j410 (this : Nat) (Q : Mem → Prop)  (M : Mem) : Prop :=
  ¬ (801 : Int32) < 0 ∧ (801 : Int32).toNatClampNeg ≤ 60000000 ∧ ∃ i271, (162, i271) ∉ mN M ∧ ∃ M270, M270 = mk M 162 i271 (801 : Int32).toNatClampNeg ∧ ∃ M275, M275 = sR M270 12 this 57 (some (162, i271)) ∧ ¬ (64 : Int32) < 0 ∧ (64 : Int32).toNatClampNeg ≤ 60000000 ∧ ∃ i277, (300, i277) ∉ mN M275 ∧ ∃ M276, M276 = mk M275 300 i277 (64 : Int32).toNatClampNeg ∧ ¬ (51 : Int32) < 0 ∧ (51 : Int32).toNatClampNeg ≤ 60000000 ∧ ∃ i282, (163, i282) ∉ mN (sR M276 12 this 58 (some (300, i277))) ∧ ∃ M281, M281 = mk (sR M276 12 this 58 (some (300, i277))) 163 i282 (51 : Int32).toNatClampNeg ∧ ∃ M286, M286 = sR M281 12 this 59 (some (163, i282)) ∧ ¬ (51 : Int32) < 0 ∧ (51 : Int32).toNatClampNeg ≤ 60000000 ∧ ∃ i288, (164, i288) ∉ mN M286 ∧ ∃ M287, M287 = mk M286 164 i288 (51 : Int32).toNatClampNeg ∧ ∃ M292, M292 = sR M287 12 this 61 (some (164, i288)) ∧ ¬ (3 : Int32) < 0 ∧ (3 : Int32).toNatClampNeg ≤ 60000000 ∧ ∃ i294, (704, i294) ∉ mN M292 ∧ ∃ M293, M293 = mk M292 704 i294 (3 : Int32).toNatClampNeg ∧ ∃ M298, M298 = sR M293 12 this 62 (some (704, i294)) ∧ ¬ (400 : Int32) < 0 ∧ (400 : Int32).toNatClampNeg ≤ 60000000 ∧ ∃ i300, (165, i300) ∉ mN M298 ∧ ∃ M299, M299 = mk M298 165 i300 (400 : Int32).toNatClampNeg ∧ ∃ M304, M304 = sR M299 12 this 66 (some (165, i300)) ∧ ¬ (400 : Int32) < 0 ∧ (400 : Int32).toNatClampNeg ≤ 60000000 ∧ ∃ i306, (166, i306) ∉ mN M304 ∧ ∃ M305, M305 = mk M304 166 i306 (400 : Int32).toNatClampNeg ∧ ∃ M310, M310 = sR M305 12 this 67 (some (166, i306)) ∧ ¬ (400 : Int32) < 0 ∧ (400 : Int32).toNatClampNeg ≤ 60000000 ∧ ∃ i312, (167, i312) ∉ mN M310 ∧ ∃ M311, M311 = mk M310 167 i312 (400 : Int32).toNatClampNeg ∧ ∃ M316, M316 = sR M311 12 this 68 (some (167, i312)) ∧ w_MWorld_init_j478 this Q  M316
def w_MWorld_init_j341 (this : Nat) (Q : Mem → Prop)  (M : Mem) : Prop :=
  ¬ (801 : Int32) < 0 ∧ (801 : Int32).toNatClampNeg ≤ 60000000 ∧ ∃ i226, (158, i226) ∉ mN M ∧ ∃ M225, M225 = mk M 158 i226 (801 : Int32).toNatClampNeg ∧ ∃ M230, M230 = sR M225 12 this 46 (some (158, i226)) ∧ ¬ (801 : Int32) < 0 ∧ (801 : Int32).toNatClampNeg ≤ 60000000 ∧ ∃ i232, (159, i232) ∉ mN M230 ∧ ∃ M231, M231 = mk M230 159 i232 (801 : Int32).toNatClampNeg ∧ ∃ M236, M236 = sR M231 12 this 47 (some (159, i232)) ∧ ¬ (801 : Int32) < 0 ∧ (801 : Int32).toNatClampNeg ≤ 60000000 ∧ ∃ i238, (160, i238) ∉ mN M236 ∧ ∃ M237, M237 = mk M236 160 i238 (801 : Int32).toNatClampNeg ∧ ∃ M242, M242 = sR M237 12 this 48 (some (160, i238)) ∧ ¬ (801 : Int32) < 0 ∧ (801 : Int32).toNatClampNeg ≤ 60000000 ∧ ∃ i244, (524, i244) ∉ mN M242 ∧ ∃ M243, M243 = mk M242 524 i244 (801 : Int32).toNatClampNeg ∧ ∃ M248, M248 = sR M243 12 this 49 (some (524, i244)) ∧ ¬ (4000 : Int32) < 0 ∧ (4000 : Int32).toNatClampNeg ≤ 60000000 ∧ ∃ i250, (161, i250) ∉ mN M248 ∧ ∃ M249, M249 = mk M248 161 i250 (4000 : Int32).toNatClampNeg ∧ ∃ M254, M254 = sR M249 12 this 51 (some (161, i250)) ∧ ¬ (64 : Int32) < 0 ∧ (64 : Int32).toNatClampNeg ≤ 60000000 ∧ ∃ i256, (300, i256) ∉ mN M254 ∧ ∃ M255, M255 = mk M254 300 i256 (64 : Int32).toNatClampNeg ∧ ¬ (64 : Int32) < 0 ∧ (64 : Int32).toNatClampNeg ≤ 60000000 ∧ ∃ i261, (300, i261) ∉ mN (sR M255 12 this 53 (some (300, i256))) ∧ ∃ M260, M260 = mk (sR M255 12 this 53 (some (300, i256))) 300 i261 (64 : Int32).toNatClampNeg ∧ ¬ (64 : Int32) < 0 ∧ (64 : Int32).toNatClampNeg ≤ 60000000 ∧ ∃ i266, (300, i266) ∉ mN (sR M260 12 this 54 (some (300, i261))) ∧ ∃ M265, M265 = mk (sR M260 12 this 54 (some (300, i261))) 300 i266 (64 : Int32).toNatClampNeg ∧ w_MWorld_init_j410 this Q  (sR M265 12 this 55 (some (300, i266)))
def w_MWorld_init_j275 (this : Nat) (Q : Mem → Prop)  (M : Mem) : Prop :=
  ¬ (256 : Int32) < 0 ∧ (256 : Int32).toNatClampNeg ≤ 60000000 ∧ ∃ i184, (300, i184) ∉ mN M ∧ ∃ M183, M183 = mk M 300 i184 (256 : Int32).toNatClampNeg ∧ ¬ (64 : Int32) < 0 ∧ (64 : Int32).toNatClampNeg ≤ 60000000 ∧ ∃ i189, (300, i189) ∉ mN (sR M183 12 this 34 (some (300, i184))) ∧ ∃ M188, M188 = mk (sR M183 12 this 34 (some (300, i184))) 300 i189 (64 : Int32).toNatClampNeg ∧ ¬ (64 : Int32) < 0 ∧ (64 : Int32).toNatClampNeg ≤ 60000000 ∧ ∃ i194, (300, i194) ∉ mN (sR M188 12 this 36 (some (300, i189))) ∧ ∃ M193, M193 = mk (sR M188 12 this 36 (some (300, i189))) 300 i194 (64 : Int32).toNatClampNeg ∧ ¬ (64 : Int32) < 0 ∧ (64 : Int32).toNatClampNeg ≤ 60000000 ∧ ∃ i199, (300, i199) ∉ mN (sR M193 12 this 38 (some (300, i194))) ∧ ∃ M198, M198 = mk (sR M193 12 this 38 (some (300, i194))) 300 i199 (64 : Int32).toNatClampNeg ∧ ¬ (64 : Int32) < 0 ∧ (64 : Int32).toNatClampNeg ≤ 60000000 ∧ ∃ i204, (300, i204) ∉ mN (sR M198 12 this 39 (some (300, i199))) ∧ ∃ M203, M203 = mk (sR M198 12 this 39 (some (300, i199))) 300 i204 (64 : Int32).toNatClampNeg ∧ ¬ (256 : Int32) < 0 ∧ (256 : Int32).toNatClampNeg ≤ 60000000 ∧ ∃ i209, (300, i209) ∉ mN (sR M203 12 this 40 (some (300, i204))) ∧ ∃ M208, M208 = mk (sR M203 12 this 40 (some (300, i204))) 300 i209 (256 : Int32).toNatClampNeg ∧ ¬ (3 : Int32) < 0 ∧ (3 : Int32).toNatClampNeg ≤ 60000000 ∧ ∃ i214, (156, i214) ∉ mN (sR M208 12 this 42 (some (300, i209))) ∧ ∃ M213, M213 = mk (sR M208 12 this 42 (some (300, i209))) 156 i214 (3 : Int32).toNatClampNeg ∧ ∃ M218, M218 = sR M213 12 this 44 (some (156, i214)) ∧ ¬ (801 : Int32) < 0 ∧ (801 : Int32).toNatClampNeg ≤ 60000000 ∧ ∃ i220, (157, i220) ∉ mN M218 ∧ ∃ M219, M219 = mk M218 157 i220 (801 : Int32).toNatClampNeg ∧ ∃ M224, M224 = sR M219 12 this 45 (some (157, i220)) ∧ w_MWorld_init_j341 this Q  M224
def w_MWorld_init_j203 (this : Nat) (Q : Mem → Prop)  (M : Mem) : Prop :=
  ¬ (4896 : Int32) < 0 ∧ (4896 : Int32).toNatClampNeg ≤ 60000000 ∧ ∃ i140, (152, i140) ∉ mN M ∧ ∃ M139, M139 = mk M 152 i140 (4896 : Int32).toNatClampNeg ∧ ∃ M144, M144 = sR M139 12 this 26 (some (152, i140)) ∧ ¬ (4896 : Int32) < 0 ∧ (4896 : Int32).toNatClampNeg ≤ 60000000 ∧ ∃ i146, (153, i146) ∉ mN M144 ∧ ∃ M145, M145 = mk M144 153 i146 (4896 : Int32).toNatClampNeg ∧ ∃ M150, M150 = sR M145 12 this 27 (some (153, i146)) ∧ ¬ (4896 : Int32) < 0 ∧ (4896 : Int32).toNatClampNeg ≤ 60000000 ∧ ∃ i152, (154, i152) ∉ mN M150 ∧ ∃ M151, M151 = mk M150 154 i152 (4896 : Int32).toNatClampNeg ∧ ∃ M156, M156 = sR M151 12 this 28 (some (154, i152)) ∧ ¬ (4896 : Int32) < 0 ∧ (4896 : Int32).toNatClampNeg ≤ 60000000 ∧ ∃ i158, (155, i158) ∉ mN M156 ∧ ∃ M157, M157 = mk M156 155 i158 (4896 : Int32).toNatClampNeg ∧ ∃ M162, M162 = sR M157 12 this 29 (some (155, i158)) ∧ ¬ (256 : Int32) < 0 ∧ (256 : Int32).toNatClampNeg ≤ 60000000 ∧ ∃ i164, (401, i164) ∉ mN M162 ∧ ∃ M163, M163 = mk M162 401 i164 (256 : Int32).toNatClampNeg ∧ ¬ (256 : Int32) < 0 ∧ (256 : Int32).toNatClampNeg ≤ 60000000 ∧ ∃ i169, (300, i169) ∉ mN (sR M163 12 this 30 (some (401, i164))) ∧ ∃ M168, M168 = mk (sR M163 12 this 30 (some (401, i164))) 300 i169 (256 : Int32).toNatClampNeg ∧ ¬ (256 : Int32) < 0 ∧ (256 : Int32).toNatClampNeg ≤ 60000000 ∧ ∃ i174, (300, i174) ∉ mN (sR M168 12 this 31 (some (300, i169))) ∧ ∃ M173, M173 = mk (sR M168 12 this 31 (some (300, i169))) 300 i174 (256 : Int32).toNatClampNeg ∧ ¬ (256 : Int32) < 0 ∧ (256 : Int32).toNatClampNeg ≤ 60000000 ∧ ∃ i179, (300, i179) ∉ mN (sR M173 12 this 32 (some (300, i174))) ∧ ∃ M178, M178 = mk (sR M173 12 this 32 (some (300, i174))) 300 i179 (256 : Int32).toNatClampNeg ∧ w_MWorld_init_j275 this Q  (sR M178 12 this 33 (some (300, i179)))
def w_MWorld_init_j131 (this : Nat) (Q : Mem → Prop)  (M : Mem) : Prop :=
  ¬ (612 : Int32) < 0 ∧ (612 : Int32).toNatClampNeg ≤ 60000000 ∧ ∃ i92, (144, i92) ∉ mN M ∧ ∃ M91, M91 = mk M 144 i92 (612 : Int32).toNatClampNeg ∧ ∃ M96, M96 = sR M91 12 this 18 (some (144, i92)) ∧ ¬ (612 : Int32) < 0 ∧ (612 : Int32).toNatClampNeg ≤ 60000000 ∧ ∃ i98, (145, i98) ∉ mN M96 ∧ ∃ M97, M97 = mk M96 145 i98 (612 : Int32).toNatClampNeg ∧ ∃ M102, M102 = sR M97 12 this 19 (some (145, i98)) ∧ ¬ (612 : Int32) < 0 ∧ (612 : Int32).toNatClampNeg ≤ 60000000 ∧ ∃ i104, (146, i104) ∉ mN M102 ∧ ∃ M103, M103 = mk M102 146 i104 (612 : Int32).toNatClampNeg ∧ ∃ M108, M108 = sR M103 12 this 20 (some (146, i104)) ∧ ¬ (612 : Int32) < 0 ∧ (612 : Int32).toNatClampNeg ≤ 60000000 ∧ ∃ i110, (147, i110) ∉ mN M108 ∧ ∃ M109, M109 = mk M108 147 i110 (612 : Int32).toNatClampNeg ∧ ∃ M114, M114 = sR M109 12 this 21 (some (147, i110)) ∧ ¬ (612 : Int32) < 0 ∧ (612 : Int32).toNatClampNeg ≤ 60000000 ∧ ∃ i116, (148, i116) ∉ mN M114 ∧ ∃ M115, M115 = mk M114 148 i116 (612 : Int32).toNatClampNeg ∧ ∃ M120, M120 = sR M115 12 this 22 (some (148, i116)) ∧ ¬ (612 : Int32) < 0 ∧ (612 : Int32).toNatClampNeg ≤ 60000000 ∧ ∃ i122, (149, i122) ∉ mN M120 ∧ ∃ M121, M121 = mk M120 149 i122 (612 : Int32).toNatClampNeg ∧ ∃ M126, M126 = sR M121 12 this 23 (some (149, i122)) ∧ ¬ (612 : Int32) < 0 ∧ (612 : Int32).toNatClampNeg ≤ 60000000 ∧ ∃ i128, (150, i128) ∉ mN M126 ∧ ∃ M127, M127 = mk M126 150 i128 (612 : Int32).toNatClampNeg ∧ ∃ M132, M132 = sR M127 12 this 24 (some (150, i128)) ∧ ¬ (612 : Int32) < 0 ∧ (612 : Int32).toNatClampNeg ≤ 60000000 ∧ ∃ i134, (151, i134) ∉ mN M132 ∧ ∃ M133, M133 = mk M132 151 i134 (612 : Int32).toNatClampNeg ∧ ∃ M138, M138 = sR M133 12 this 25 (some (151, i134)) ∧ w_MWorld_init_j203 this Q  M138
def w_MWorld_init_j61 (this : Nat) (Q : Mem → Prop)  (M : Mem) : Prop :=
  ¬ (51 : Int32) < 0 ∧ (51 : Int32).toNatClampNeg ≤ 60000000 ∧ ∃ i44, (137, i44) ∉ mN M ∧ ∃ M43, M43 = mk M 137 i44 (51 : Int32).toNatClampNeg ∧ ∃ M48, M48 = sR M43 12 this 10 (some (137, i44)) ∧ ¬ (51 : Int32) < 0 ∧ (51 : Int32).toNatClampNeg ≤ 60000000 ∧ ∃ i50, (138, i50) ∉ mN M48 ∧ ∃ M49, M49 = mk M48 138 i50 (51 : Int32).toNatClampNeg ∧ ∃ M54, M54 = sR M49 12 this 11 (some (138, i50)) ∧ ¬ (408 : Int32) < 0 ∧ (408 : Int32).toNatClampNeg ≤ 60000000 ∧ ∃ i56, (139, i56) ∉ mN M54 ∧ ∃ M55, M55 = mk M54 139 i56 (408 : Int32).toNatClampNeg ∧ ∃ M60, M60 = sR M55 12 this 12 (some (139, i56)) ∧ ¬ (408 : Int32) < 0 ∧ (408 : Int32).toNatClampNeg ≤ 60000000 ∧ ∃ i62, (140, i62) ∉ mN M60 ∧ ∃ M61, M61 = mk M60 140 i62 (408 : Int32).toNatClampNeg ∧ ∃ M66, M66 = sR M61 12 this 13 (some (140, i62)) ∧ ¬ (408 : Int32) < 0 ∧ (408 : Int32).toNatClampNeg ≤ 60000000 ∧ ∃ i68, (141, i68) ∉ mN M66 ∧ ∃ M67, M67 = mk M66 141 i68 (408 : Int32).toNatClampNeg ∧ ∃ M72, M72 = sR M67 12 this 14 (some (141, i68)) ∧ ¬ (408 : Int32) < 0 ∧ (408 : Int32).toNatClampNeg ≤ 60000000 ∧ ∃ i74, (142, i74) ∉ mN M72 ∧ ∃ M73, M73 = mk M72 142 i74 (408 : Int32).toNatClampNeg ∧ ∃ M78, M78 = sR M73 12 this 15 (some (142, i74)) ∧ ¬ (408 : Int32) < 0 ∧ (408 : Int32).toNatClampNeg ≤ 60000000 ∧ ∃ i80, (523, i80) ∉ mN M78 ∧ ∃ M79, M79 = mk M78 523 i80 (408 : Int32).toNatClampNeg ∧ ∃ M84, M84 = sR M79 12 this 16 (some (523, i80)) ∧ ¬ (408 : Int32) < 0 ∧ (408 : Int32).toNatClampNeg ≤ 60000000 ∧ ∃ i86, (143, i86) ∉ mN M84 ∧ ∃ M85, M85 = mk M84 143 i86 (408 : Int32).toNatClampNeg ∧ ∃ M90, M90 = sR M85 12 this 17 (some (143, i86)) ∧ w_MWorld_init_j131 this Q  M90
def w_MWorld_init (this : Nat) (Q : Mem → Prop) (M : Mem) : Prop :=
  ¬ (51 : Int32) < 0 ∧ (51 : Int32).toNatClampNeg ≤ 60000000 ∧ ∃ i2, (130, i2) ∉ mN M ∧ ∃ M1, M1 = mk M 130 i2 (51 : Int32).toNatClampNeg ∧ ∃ M6, M6 = sR M1 12 this 3 (some (130, i2)) ∧ ¬ (51 : Int32) < 0 ∧ (51 : Int32).toNatClampNeg ≤ 60000000 ∧ ∃ i8, (131, i8) ∉ mN M6 ∧ ∃ M7, M7 = mk M6 131 i8 (51 : Int32).toNatClampNeg ∧ ∃ M12, M12 = sR M7 12 this 4 (some (131, i8)) ∧ ¬ (51 : Int32) < 0 ∧ (51 : Int32).toNatClampNeg ≤ 60000000 ∧ ∃ i14, (132, i14) ∉ mN M12 ∧ ∃ M13, M13 = mk M12 132 i14 (51 : Int32).toNatClampNeg ∧ ∃ M18, M18 = sR M13 12 this 5 (some (132, i14)) ∧ ¬ (204 : Int32) < 0 ∧ (204 : Int32).toNatClampNeg ≤ 60000000 ∧ ∃ i20, (133, i20) ∉ mN M18 ∧ ∃ M19, M19 = mk M18 133 i20 (204 : Int32).toNatClampNeg ∧ ∃ M24, M24 = sR M19 12 this 6 (some (133, i20)) ∧ ¬ (51 : Int32) < 0 ∧ (51 : Int32).toNatClampNeg ≤ 60000000 ∧ ∃ i26, (134, i26) ∉ mN M24 ∧ ∃ M25, M25 = mk M24 134 i26 (51 : Int32).toNatClampNeg ∧ ∃ M30, M30 = sR M25 12 this 7 (some (134, i26)) ∧ ¬ (51 : Int32) < 0 ∧ (51 : Int32).toNatClampNeg ≤ 60000000 ∧ ∃ i32, (135, i32) ∉ mN M30 ∧ ∃ M31, M31 = mk M30 135 i32 (51 : Int32).toNatClampNeg ∧ ∃ M36, M36 = sR M31 12 this 8 (some (135, i32)) ∧ ¬ (51 : Int32) < 0 ∧ (51 : Int32).toNatClampNeg ≤ 60000000 ∧ ∃ i38, (136, i38) ∉ mN M36 ∧ ∃ M37, M37 = mk M36 136 i38 (51 : Int32).toNatClampNeg ∧ ∃ M42, M42 = sR M37 12 this 9 (some (136, i38)) ∧ w_MWorld_init_j61 this Q  M42
set_option maxRecDepth 4096 in
theorem lk_MWorld_init_j478 {γ : Gm} (hγ : Gr γ) (this : Nat) (Q : Mem → Prop)  (M : Mem) (h : w_MWorld_init_j478 this Q  M) : E γ k_MWorld_init 1 478 [some (vr (some (12, this)))] [] M (Qv Q) := by
  unfold w_MWorld_init_j478 at h
  refine E_blk (lv' := [some (vr (some (12, this)))]) (st' := [vi (400 : Int32), vr (some (12, this))]) (M1 := M) (pc' := 482) (tbr_MWorld hγ) [.aload_n 0, .sipush 400] (by decide +kernel) rfl rfl trivial ?_
  obtain ⟨c319, c320, i318, c321, M317, eM317, h⟩ := h
  refine E_newa (f := 168) (i := i318) (by decide) (by decide) (FINr_lt hγ.1) c319 c320 c321 (by decide +kernel) ?_
  rw [← eM317]
  obtain ⟨M322, eM322, h⟩ := h
  refine E_putFR (k := 69) ⟨rfl, (by rw [hγ.1]; intro y hy; cases hy), by decide, _, rfl, by decide, rfl, rfl, (tbk_mem (j := 12) (k := 19) rfl)⟩ rfl (by decide +kernel) ?_
  rw [← eM322]
  refine E_blk (lv' := [some (vr (some (12, this)))]) (st' := [vi (62 : Int32), vr (some (12, this))]) (M1 := M322) (pc' := 490) (tbr_MWorld hγ) [.aload_n 0, .bipush 62] (by decide +kernel) rfl rfl trivial ?_
  obtain ⟨c325, c326, i324, c327, M323, eM323, h⟩ := h
  refine E_newa (f := 169) (i := i324) (by decide) (by decide) (FINr_lt hγ.1) c325 c326 c327 (by decide +kernel) ?_
  rw [← eM323]
  obtain ⟨M328, eM328, h⟩ := h
  refine E_putFR (k := 71) ⟨rfl, (by rw [hγ.1]; intro y hy; cases hy), by decide, _, rfl, by decide, rfl, rfl, (tbk_mem (j := 12) (k := 22) rfl)⟩ rfl (by decide +kernel) ?_
  rw [← eM328]
  exact E_vret rfl (by decide +kernel) h
set_option maxRecDepth 4096 in
theorem lk_MWorld_init_j410 {γ : Gm} (hγ : Gr γ) (this : Nat) (Q : Mem → Prop)  (M : Mem) (h : w_MWorld_init_j410 this Q  M) : E γ k_MWorld_init 1 410 [some (vr (some (12, this)))] [] M (Qv Q) := by
  unfold w_MWorld_init_j410 at h
  refine E_blk (lv' := [some (vr (some (12, this)))]) (st' := [vi (801 : Int32), vr (some (12, this))]) (M1 := M) (pc' := 414) (tbr_MWorld hγ) [.aload_n 0, .sipush 801] (by decide +kernel) rfl rfl trivial ?_
  obtain ⟨c272, c273, i271, c274, M270, eM270, h⟩ := h
  refine E_newa (f := 162) (i := i271) (by decide) (by decide) (FINr_lt hγ.1) c272 c273 c274 (by decide +kernel) ?_
  rw [← eM270]
  obtain ⟨M275, eM275, h⟩ := h
  refine E_putFR (k := 57) ⟨rfl, (by rw [hγ.1]; intro y hy; cases hy), by decide, _, rfl, by decide, rfl, rfl, (tbk_mem (j := 11) (k := 239) rfl)⟩ rfl (by decide +kernel) ?_
  rw [← eM275]
  refine E_blk (lv' := [some (vr (some (12, this)))]) (st' := [vi (64 : Int32), vr (some (12, this))]) (M1 := M275) (pc' := 422) (tbr_MWorld hγ) [.aload_n 0, .bipush 64] (by decide +kernel) rfl rfl trivial ?_
  obtain ⟨c278, c279, i277, c280, M276, eM276, h⟩ := h
  refine E_newa (f := 300) (i := i277) (by decide) (by decide) (FINr_lt hγ.1) c278 c279 c280 (by decide +kernel) ?_
  rw [← eM276]
  refine E_blk (lv' := [some (vr (some (12, this)))]) (st' := [vi (51 : Int32), vr (some (12, this))]) (M1 := (sR M276 12 this 58 (some (300, i277)))) (pc' := 430) (tbr_MWorld hγ) [.putfield 158, .aload_n 0, .bipush 51] (by decide +kernel) rfl rfl trivial ?_
  obtain ⟨c283, c284, i282, c285, M281, eM281, h⟩ := h
  refine E_newa (f := 163) (i := i282) (by decide) (by decide) (FINr_lt hγ.1) c283 c284 c285 (by decide +kernel) ?_
  rw [← eM281]
  obtain ⟨M286, eM286, h⟩ := h
  refine E_putFR (k := 59) ⟨rfl, (by rw [hγ.1]; intro y hy; cases hy), by decide, _, rfl, by decide, rfl, rfl, (tbk_mem (j := 12) (k := 3) rfl)⟩ rfl (by decide +kernel) ?_
  rw [← eM286]
  refine E_blk (lv' := [some (vr (some (12, this)))]) (st' := [vi (51 : Int32), vr (some (12, this))]) (M1 := M286) (pc' := 438) (tbr_MWorld hγ) [.aload_n 0, .bipush 51] (by decide +kernel) rfl rfl trivial ?_
  obtain ⟨c289, c290, i288, c291, M287, eM287, h⟩ := h
  refine E_newa (f := 164) (i := i288) (by decide) (by decide) (FINr_lt hγ.1) c289 c290 c291 (by decide +kernel) ?_
  rw [← eM287]
  obtain ⟨M292, eM292, h⟩ := h
  refine E_putFR (k := 61) ⟨rfl, (by rw [hγ.1]; intro y hy; cases hy), by decide, _, rfl, by decide, rfl, rfl, (tbk_mem (j := 12) (k := 6) rfl)⟩ rfl (by decide +kernel) ?_
  rw [← eM292]
  refine E_blk (lv' := [some (vr (some (12, this)))]) (st' := [vi (3 : Int32), vr (some (12, this))]) (M1 := M292) (pc' := 445) (tbr_MWorld hγ) [.aload_n 0, .iconst 3] (by decide +kernel) rfl rfl trivial ?_
  obtain ⟨c295, c296, i294, c297, M293, eM293, h⟩ := h
  refine E_newq (κ := k_MWorld_init) (f := 704) (i := i294) (idx := 167) hγ.2.2.1.2.1 (by decide) (by decide) (FINr_lt hγ.1) (tbk_mem (j := 11) (k := 133) rfl) c295 c296 c297 (by decide +kernel) ?_
  rw [← eM293]
  obtain ⟨M298, eM298, h⟩ := h
  refine E_putFR (k := 62) ⟨rfl, (by rw [hγ.1]; intro y hy; cases hy), by decide, _, rfl, by decide, rfl, rfl, (tbk_mem (j := 12) (k := 8) rfl)⟩ rfl (by decide +kernel) ?_
  rw [← eM298]
  refine E_blk (lv' := [some (vr (some (12, this)))]) (st' := [vi (400 : Int32), vr (some (12, this))]) (M1 := M298) (pc' := 455) (tbr_MWorld hγ) [.aload_n 0, .sipush 400] (by decide +kernel) rfl rfl trivial ?_
  obtain ⟨c301, c302, i300, c303, M299, eM299, h⟩ := h
  refine E_newa (f := 165) (i := i300) (by decide) (by decide) (FINr_lt hγ.1) c301 c302 c303 (by decide +kernel) ?_
  rw [← eM299]
  obtain ⟨M304, eM304, h⟩ := h
  refine E_putFR (k := 66) ⟨rfl, (by rw [hγ.1]; intro y hy; cases hy), by decide, _, rfl, by decide, rfl, rfl, (tbk_mem (j := 12) (k := 13) rfl)⟩ rfl (by decide +kernel) ?_
  rw [← eM304]
  refine E_blk (lv' := [some (vr (some (12, this)))]) (st' := [vi (400 : Int32), vr (some (12, this))]) (M1 := M304) (pc' := 464) (tbr_MWorld hγ) [.aload_n 0, .sipush 400] (by decide +kernel) rfl rfl trivial ?_
  obtain ⟨c307, c308, i306, c309, M305, eM305, h⟩ := h
  refine E_newa (f := 166) (i := i306) (by decide) (by decide) (FINr_lt hγ.1) c307 c308 c309 (by decide +kernel) ?_
  rw [← eM305]
  obtain ⟨M310, eM310, h⟩ := h
  refine E_putFR (k := 67) ⟨rfl, (by rw [hγ.1]; intro y hy; cases hy), by decide, _, rfl, by decide, rfl, rfl, (tbk_mem (j := 12) (k := 15) rfl)⟩ rfl (by decide +kernel) ?_
  rw [← eM310]
  refine E_blk (lv' := [some (vr (some (12, this)))]) (st' := [vi (400 : Int32), vr (some (12, this))]) (M1 := M310) (pc' := 473) (tbr_MWorld hγ) [.aload_n 0, .sipush 400] (by decide +kernel) rfl rfl trivial ?_
  obtain ⟨c313, c314, i312, c315, M311, eM311, h⟩ := h
  refine E_newa (f := 167) (i := i312) (by decide) (by decide) (FINr_lt hγ.1) c313 c314 c315 (by decide +kernel) ?_
  rw [← eM311]
  obtain ⟨M316, eM316, h⟩ := h
  refine E_putFR (k := 68) ⟨rfl, (by rw [hγ.1]; intro y hy; cases hy), by decide, _, rfl, by decide, rfl, rfl, (tbk_mem (j := 12) (k := 17) rfl)⟩ rfl (by decide +kernel) ?_
  rw [← eM316]
  refine E_mask [true] rfl ?_
  exact lk_MWorld_init_j478 hγ this Q  M316 h
set_option maxRecDepth 4096 in
theorem lk_MWorld_init_j341 {γ : Gm} (hγ : Gr γ) (this : Nat) (Q : Mem → Prop)  (M : Mem) (h : w_MWorld_init_j341 this Q  M) : E γ k_MWorld_init 1 341 [some (vr (some (12, this)))] [] M (Qv Q) := by
  unfold w_MWorld_init_j341 at h
  refine E_blk (lv' := [some (vr (some (12, this)))]) (st' := [vi (801 : Int32), vr (some (12, this))]) (M1 := M) (pc' := 345) (tbr_MWorld hγ) [.aload_n 0, .sipush 801] (by decide +kernel) rfl rfl trivial ?_
  obtain ⟨c227, c228, i226, c229, M225, eM225, h⟩ := h
  refine E_newa (f := 158) (i := i226) (by decide) (by decide) (FINr_lt hγ.1) c227 c228 c229 (by decide +kernel) ?_
  rw [← eM225]
  obtain ⟨M230, eM230, h⟩ := h
  refine E_putFR (k := 46) ⟨rfl, (by rw [hγ.1]; intro y hy; cases hy), by decide, _, rfl, by decide, rfl, rfl, (tbk_mem (j := 11) (k := 220) rfl)⟩ rfl (by decide +kernel) ?_
  rw [← eM230]
  refine E_blk (lv' := [some (vr (some (12, this)))]) (st' := [vi (801 : Int32), vr (some (12, this))]) (M1 := M230) (pc' := 354) (tbr_MWorld hγ) [.aload_n 0, .sipush 801] (by decide +kernel) rfl rfl trivial ?_
  obtain ⟨c233, c234, i232, c235, M231, eM231, h⟩ := h
  refine E_newa (f := 159) (i := i232) (by decide) (by decide) (FINr_lt hγ.1) c233 c234 c235 (by decide +kernel) ?_
  rw [← eM231]
  obtain ⟨M236, eM236, h⟩ := h
  refine E_putFR (k := 47) ⟨rfl, (by rw [hγ.1]; intro y hy; cases hy), by decide, _, rfl, by decide, rfl, rfl, (tbk_mem (j := 11) (k := 222) rfl)⟩ rfl (by decide +kernel) ?_
  rw [← eM236]
  refine E_blk (lv' := [some (vr (some (12, this)))]) (st' := [vi (801 : Int32), vr (some (12, this))]) (M1 := M236) (pc' := 363) (tbr_MWorld hγ) [.aload_n 0, .sipush 801] (by decide +kernel) rfl rfl trivial ?_
  obtain ⟨c239, c240, i238, c241, M237, eM237, h⟩ := h
  refine E_newa (f := 160) (i := i238) (by decide) (by decide) (FINr_lt hγ.1) c239 c240 c241 (by decide +kernel) ?_
  rw [← eM237]
  obtain ⟨M242, eM242, h⟩ := h
  refine E_putFR (k := 48) ⟨rfl, (by rw [hγ.1]; intro y hy; cases hy), by decide, _, rfl, by decide, rfl, rfl, (tbk_mem (j := 11) (k := 224) rfl)⟩ rfl (by decide +kernel) ?_
  rw [← eM242]
  refine E_blk (lv' := [some (vr (some (12, this)))]) (st' := [vi (801 : Int32), vr (some (12, this))]) (M1 := M242) (pc' := 372) (tbr_MWorld hγ) [.aload_n 0, .sipush 801] (by decide +kernel) rfl rfl trivial ?_
  obtain ⟨c245, c246, i244, c247, M243, eM243, h⟩ := h
  refine E_newa (f := 524) (i := i244) (by decide) (by decide) (FINr_lt hγ.1) c245 c246 c247 (by decide +kernel) ?_
  rw [← eM243]
  obtain ⟨M248, eM248, h⟩ := h
  refine E_putFR (k := 49) ⟨rfl, (by rw [hγ.1]; intro y hy; cases hy), by decide, _, rfl, by decide, rfl, rfl, (tbk_mem (j := 11) (k := 226) rfl)⟩ rfl (by decide +kernel) ?_
  rw [← eM248]
  refine E_blk (lv' := [some (vr (some (12, this)))]) (st' := [vi (4000 : Int32), vr (some (12, this))]) (M1 := M248) (pc' := 381) (tbr_MWorld hγ) [.aload_n 0, .sipush 4000] (by decide +kernel) rfl rfl trivial ?_
  obtain ⟨c251, c252, i250, c253, M249, eM249, h⟩ := h
  refine E_newa (f := 161) (i := i250) (by decide) (by decide) (FINr_lt hγ.1) c251 c252 c253 (by decide +kernel) ?_
  rw [← eM249]
  obtain ⟨M254, eM254, h⟩ := h
  refine E_putFR (k := 51) ⟨rfl, (by rw [hγ.1]; intro y hy; cases hy), by decide, _, rfl, by decide, rfl, rfl, (tbk_mem (j := 11) (k := 229) rfl)⟩ rfl (by decide +kernel) ?_
  rw [← eM254]
  refine E_blk (lv' := [some (vr (some (12, this)))]) (st' := [vi (64 : Int32), vr (some (12, this))]) (M1 := M254) (pc' := 389) (tbr_MWorld hγ) [.aload_n 0, .bipush 64] (by decide +kernel) rfl rfl trivial ?_
  obtain ⟨c257, c258, i256, c259, M255, eM255, h⟩ := h
  refine E_newa (f := 300) (i := i256) (by decide) (by decide) (FINr_lt hγ.1) c257 c258 c259 (by decide +kernel) ?_
  rw [← eM255]
  refine E_blk (lv' := [some (vr (some (12, this)))]) (st' := [vi (64 : Int32), vr (some (12, this))]) (M1 := (sR M255 12 this 53 (some (300, i256)))) (pc' := 397) (tbr_MWorld hγ) [.putfield 146, .aload_n 0, .bipush 64] (by decide +kernel) rfl rfl trivial ?_
  obtain ⟨c262, c263, i261, c264, M260, eM260, h⟩ := h
  refine E_newa (f := 300) (i := i261) (by decide) (by decide) (FINr_lt hγ.1) c262 c263 c264 (by decide +kernel) ?_
  rw [← eM260]
  refine E_blk (lv' := [some (vr (some (12, this)))]) (st' := [vi (64 : Int32), vr (some (12, this))]) (M1 := (sR M260 12 this 54 (some (300, i261)))) (pc' := 405) (tbr_MWorld hγ) [.putfield 149, .aload_n 0, .bipush 64] (by decide +kernel) rfl rfl trivial ?_
  obtain ⟨c267, c268, i266, c269, M265, eM265, h⟩ := h
  refine E_newa (f := 300) (i := i266) (by decide) (by decide) (FINr_lt hγ.1) c267 c268 c269 (by decide +kernel) ?_
  rw [← eM265]
  refine E_blk (lv' := [some (vr (some (12, this)))]) (st' := []) (M1 := (sR M265 12 this 55 (some (300, i266)))) (pc' := 410) (tbr_MWorld hγ) [.putfield 152] (by decide +kernel) rfl rfl trivial ?_
  refine E_mask [true] rfl ?_
  exact lk_MWorld_init_j410 hγ this Q  (sR M265 12 this 55 (some (300, i266))) h
set_option maxRecDepth 4096 in
theorem lk_MWorld_init_j275 {γ : Gm} (hγ : Gr γ) (this : Nat) (Q : Mem → Prop)  (M : Mem) (h : w_MWorld_init_j275 this Q  M) : E γ k_MWorld_init 1 275 [some (vr (some (12, this)))] [] M (Qv Q) := by
  unfold w_MWorld_init_j275 at h
  refine E_blk (lv' := [some (vr (some (12, this)))]) (st' := [vi (256 : Int32), vr (some (12, this))]) (M1 := M) (pc' := 279) (tbr_MWorld hγ) [.aload_n 0, .sipush 256] (by decide +kernel) rfl rfl trivial ?_
  obtain ⟨c185, c186, i184, c187, M183, eM183, h⟩ := h
  refine E_newa (f := 300) (i := i184) (by decide) (by decide) (FINr_lt hγ.1) c185 c186 c187 (by decide +kernel) ?_
  rw [← eM183]
  refine E_blk (lv' := [some (vr (some (12, this)))]) (st' := [vi (64 : Int32), vr (some (12, this))]) (M1 := (sR M183 12 this 34 (some (300, i184)))) (pc' := 287) (tbr_MWorld hγ) [.putfield 107, .aload_n 0, .bipush 64] (by decide +kernel) rfl rfl trivial ?_
  obtain ⟨c190, c191, i189, c192, M188, eM188, h⟩ := h
  refine E_newa (f := 300) (i := i189) (by decide) (by decide) (FINr_lt hγ.1) c190 c191 c192 (by decide +kernel) ?_
  rw [← eM188]
  refine E_blk (lv' := [some (vr (some (12, this)))]) (st' := [vi (64 : Int32), vr (some (12, this))]) (M1 := (sR M188 12 this 36 (some (300, i189)))) (pc' := 295) (tbr_MWorld hγ) [.putfield 110, .aload_n 0, .bipush 64] (by decide +kernel) rfl rfl trivial ?_
  obtain ⟨c195, c196, i194, c197, M193, eM193, h⟩ := h
  refine E_newa (f := 300) (i := i194) (by decide) (by decide) (FINr_lt hγ.1) c195 c196 c197 (by decide +kernel) ?_
  rw [← eM193]
  refine E_blk (lv' := [some (vr (some (12, this)))]) (st' := [vi (64 : Int32), vr (some (12, this))]) (M1 := (sR M193 12 this 38 (some (300, i194)))) (pc' := 303) (tbr_MWorld hγ) [.putfield 113, .aload_n 0, .bipush 64] (by decide +kernel) rfl rfl trivial ?_
  obtain ⟨c200, c201, i199, c202, M198, eM198, h⟩ := h
  refine E_newa (f := 300) (i := i199) (by decide) (by decide) (FINr_lt hγ.1) c200 c201 c202 (by decide +kernel) ?_
  rw [← eM198]
  refine E_blk (lv' := [some (vr (some (12, this)))]) (st' := [vi (64 : Int32), vr (some (12, this))]) (M1 := (sR M198 12 this 39 (some (300, i199)))) (pc' := 311) (tbr_MWorld hγ) [.putfield 116, .aload_n 0, .bipush 64] (by decide +kernel) rfl rfl trivial ?_
  obtain ⟨c205, c206, i204, c207, M203, eM203, h⟩ := h
  refine E_newa (f := 300) (i := i204) (by decide) (by decide) (FINr_lt hγ.1) c205 c206 c207 (by decide +kernel) ?_
  rw [← eM203]
  refine E_blk (lv' := [some (vr (some (12, this)))]) (st' := [vi (256 : Int32), vr (some (12, this))]) (M1 := (sR M203 12 this 40 (some (300, i204)))) (pc' := 320) (tbr_MWorld hγ) [.putfield 119, .aload_n 0, .sipush 256] (by decide +kernel) rfl rfl trivial ?_
  obtain ⟨c210, c211, i209, c212, M208, eM208, h⟩ := h
  refine E_newa (f := 300) (i := i209) (by decide) (by decide) (FINr_lt hγ.1) c210 c211 c212 (by decide +kernel) ?_
  rw [← eM208]
  refine E_blk (lv' := [some (vr (some (12, this)))]) (st' := [vi (3 : Int32), vr (some (12, this))]) (M1 := (sR M208 12 this 42 (some (300, i209)))) (pc' := 327) (tbr_MWorld hγ) [.putfield 122, .aload_n 0, .iconst 3] (by decide +kernel) rfl rfl trivial ?_
  obtain ⟨c215, c216, i214, c217, M213, eM213, h⟩ := h
  refine E_newa (f := 156) (i := i214) (by decide) (by decide) (FINr_lt hγ.1) c215 c216 c217 (by decide +kernel) ?_
  rw [← eM213]
  obtain ⟨M218, eM218, h⟩ := h
  refine E_putFR (k := 44) ⟨rfl, (by rw [hγ.1]; intro y hy; cases hy), by decide, _, rfl, by decide, rfl, rfl, (tbk_mem (j := 11) (k := 216) rfl)⟩ rfl (by decide +kernel) ?_
  rw [← eM218]
  refine E_blk (lv' := [some (vr (some (12, this)))]) (st' := [vi (801 : Int32), vr (some (12, this))]) (M1 := M218) (pc' := 336) (tbr_MWorld hγ) [.aload_n 0, .sipush 801] (by decide +kernel) rfl rfl trivial ?_
  obtain ⟨c221, c222, i220, c223, M219, eM219, h⟩ := h
  refine E_newa (f := 157) (i := i220) (by decide) (by decide) (FINr_lt hγ.1) c221 c222 c223 (by decide +kernel) ?_
  rw [← eM219]
  obtain ⟨M224, eM224, h⟩ := h
  refine E_putFR (k := 45) ⟨rfl, (by rw [hγ.1]; intro y hy; cases hy), by decide, _, rfl, by decide, rfl, rfl, (tbk_mem (j := 11) (k := 218) rfl)⟩ rfl (by decide +kernel) ?_
  rw [← eM224]
  refine E_mask [true] rfl ?_
  exact lk_MWorld_init_j341 hγ this Q  M224 h
set_option maxRecDepth 4096 in
theorem lk_MWorld_init_j203 {γ : Gm} (hγ : Gr γ) (this : Nat) (Q : Mem → Prop)  (M : Mem) (h : w_MWorld_init_j203 this Q  M) : E γ k_MWorld_init 1 203 [some (vr (some (12, this)))] [] M (Qv Q) := by
  unfold w_MWorld_init_j203 at h
  refine E_blk (lv' := [some (vr (some (12, this)))]) (st' := [vi (4896 : Int32), vr (some (12, this))]) (M1 := M) (pc' := 207) (tbr_MWorld hγ) [.aload_n 0, .sipush 4896] (by decide +kernel) rfl rfl trivial ?_
  obtain ⟨c141, c142, i140, c143, M139, eM139, h⟩ := h
  refine E_newa (f := 152) (i := i140) (by decide) (by decide) (FINr_lt hγ.1) c141 c142 c143 (by decide +kernel) ?_
  rw [← eM139]
  obtain ⟨M144, eM144, h⟩ := h
  refine E_putFR (k := 26) ⟨rfl, (by rw [hγ.1]; intro y hy; cases hy), by decide, _, rfl, by decide, rfl, rfl, (tbk_mem (j := 11) (k := 184) rfl)⟩ rfl (by decide +kernel) ?_
  rw [← eM144]
  refine E_blk (lv' := [some (vr (some (12, this)))]) (st' := [vi (4896 : Int32), vr (some (12, this))]) (M1 := M144) (pc' := 216) (tbr_MWorld hγ) [.aload_n 0, .sipush 4896] (by decide +kernel) rfl rfl trivial ?_
  obtain ⟨c147, c148, i146, c149, M145, eM145, h⟩ := h
  refine E_newa (f := 153) (i := i146) (by decide) (by decide) (FINr_lt hγ.1) c147 c148 c149 (by decide +kernel) ?_
  rw [← eM145]
  obtain ⟨M150, eM150, h⟩ := h
  refine E_putFR (k := 27) ⟨rfl, (by rw [hγ.1]; intro y hy; cases hy), by decide, _, rfl, by decide, rfl, rfl, (tbk_mem (j := 11) (k := 186) rfl)⟩ rfl (by decide +kernel) ?_
  rw [← eM150]
  refine E_blk (lv' := [some (vr (some (12, this)))]) (st' := [vi (4896 : Int32), vr (some (12, this))]) (M1 := M150) (pc' := 225) (tbr_MWorld hγ) [.aload_n 0, .sipush 4896] (by decide +kernel) rfl rfl trivial ?_
  obtain ⟨c153, c154, i152, c155, M151, eM151, h⟩ := h
  refine E_newa (f := 154) (i := i152) (by decide) (by decide) (FINr_lt hγ.1) c153 c154 c155 (by decide +kernel) ?_
  rw [← eM151]
  obtain ⟨M156, eM156, h⟩ := h
  refine E_putFR (k := 28) ⟨rfl, (by rw [hγ.1]; intro y hy; cases hy), by decide, _, rfl, by decide, rfl, rfl, (tbk_mem (j := 11) (k := 188) rfl)⟩ rfl (by decide +kernel) ?_
  rw [← eM156]
  refine E_blk (lv' := [some (vr (some (12, this)))]) (st' := [vi (4896 : Int32), vr (some (12, this))]) (M1 := M156) (pc' := 234) (tbr_MWorld hγ) [.aload_n 0, .sipush 4896] (by decide +kernel) rfl rfl trivial ?_
  obtain ⟨c159, c160, i158, c161, M157, eM157, h⟩ := h
  refine E_newa (f := 155) (i := i158) (by decide) (by decide) (FINr_lt hγ.1) c159 c160 c161 (by decide +kernel) ?_
  rw [← eM157]
  obtain ⟨M162, eM162, h⟩ := h
  refine E_putFR (k := 29) ⟨rfl, (by rw [hγ.1]; intro y hy; cases hy), by decide, _, rfl, by decide, rfl, rfl, (tbk_mem (j := 11) (k := 190) rfl)⟩ rfl (by decide +kernel) ?_
  rw [← eM162]
  refine E_blk (lv' := [some (vr (some (12, this)))]) (st' := [vi (256 : Int32), vr (some (12, this))]) (M1 := M162) (pc' := 243) (tbr_MWorld hγ) [.aload_n 0, .sipush 256] (by decide +kernel) rfl rfl trivial ?_
  obtain ⟨c165, c166, i164, c167, M163, eM163, h⟩ := h
  refine E_newa (f := 401) (i := i164) (by decide) (by decide) (FINr_lt hγ.1) c165 c166 c167 (by decide +kernel) ?_
  rw [← eM163]
  refine E_blk (lv' := [some (vr (some (12, this)))]) (st' := [vi (256 : Int32), vr (some (12, this))]) (M1 := (sR M163 12 this 30 (some (401, i164)))) (pc' := 252) (tbr_MWorld hγ) [.putfield 94, .aload_n 0, .sipush 256] (by decide +kernel) rfl rfl trivial ?_
  obtain ⟨c170, c171, i169, c172, M168, eM168, h⟩ := h
  refine E_newa (f := 300) (i := i169) (by decide) (by decide) (FINr_lt hγ.1) c170 c171 c172 (by decide +kernel) ?_
  rw [← eM168]
  refine E_blk (lv' := [some (vr (some (12, this)))]) (st' := [vi (256 : Int32), vr (some (12, this))]) (M1 := (sR M168 12 this 31 (some (300, i169)))) (pc' := 261) (tbr_MWorld hγ) [.putfield 98, .aload_n 0, .sipush 256] (by decide +kernel) rfl rfl trivial ?_
  obtain ⟨c175, c176, i174, c177, M173, eM173, h⟩ := h
  refine E_newa (f := 300) (i := i174) (by decide) (by decide) (FINr_lt hγ.1) c175 c176 c177 (by decide +kernel) ?_
  rw [← eM173]
  refine E_blk (lv' := [some (vr (some (12, this)))]) (st' := [vi (256 : Int32), vr (some (12, this))]) (M1 := (sR M173 12 this 32 (some (300, i174)))) (pc' := 270) (tbr_MWorld hγ) [.putfield 101, .aload_n 0, .sipush 256] (by decide +kernel) rfl rfl trivial ?_
  obtain ⟨c180, c181, i179, c182, M178, eM178, h⟩ := h
  refine E_newa (f := 300) (i := i179) (by decide) (by decide) (FINr_lt hγ.1) c180 c181 c182 (by decide +kernel) ?_
  rw [← eM178]
  refine E_blk (lv' := [some (vr (some (12, this)))]) (st' := []) (M1 := (sR M178 12 this 33 (some (300, i179)))) (pc' := 275) (tbr_MWorld hγ) [.putfield 104] (by decide +kernel) rfl rfl trivial ?_
  refine E_mask [true] rfl ?_
  exact lk_MWorld_init_j275 hγ this Q  (sR M178 12 this 33 (some (300, i179))) h
set_option maxRecDepth 4096 in
theorem lk_MWorld_init_j131 {γ : Gm} (hγ : Gr γ) (this : Nat) (Q : Mem → Prop)  (M : Mem) (h : w_MWorld_init_j131 this Q  M) : E γ k_MWorld_init 1 131 [some (vr (some (12, this)))] [] M (Qv Q) := by
  unfold w_MWorld_init_j131 at h
  refine E_blk (lv' := [some (vr (some (12, this)))]) (st' := [vi (612 : Int32), vr (some (12, this))]) (M1 := M) (pc' := 135) (tbr_MWorld hγ) [.aload_n 0, .sipush 612] (by decide +kernel) rfl rfl trivial ?_
  obtain ⟨c93, c94, i92, c95, M91, eM91, h⟩ := h
  refine E_newa (f := 144) (i := i92) (by decide) (by decide) (FINr_lt hγ.1) c93 c94 c95 (by decide +kernel) ?_
  rw [← eM91]
  obtain ⟨M96, eM96, h⟩ := h
  refine E_putFR (k := 18) ⟨rfl, (by rw [hγ.1]; intro y hy; cases hy), by decide, _, rfl, by decide, rfl, rfl, (tbk_mem (j := 11) (k := 168) rfl)⟩ rfl (by decide +kernel) ?_
  rw [← eM96]
  refine E_blk (lv' := [some (vr (some (12, this)))]) (st' := [vi (612 : Int32), vr (some (12, this))]) (M1 := M96) (pc' := 144) (tbr_MWorld hγ) [.aload_n 0, .sipush 612] (by decide +kernel) rfl rfl trivial ?_
  obtain ⟨c99, c100, i98, c101, M97, eM97, h⟩ := h
  refine E_newa (f := 145) (i := i98) (by decide) (by decide) (FINr_lt hγ.1) c99 c100 c101 (by decide +kernel) ?_
  rw [← eM97]
  obtain ⟨M102, eM102, h⟩ := h
  refine E_putFR (k := 19) ⟨rfl, (by rw [hγ.1]; intro y hy; cases hy), by decide, _, rfl, by decide, rfl, rfl, (tbk_mem (j := 11) (k := 170) rfl)⟩ rfl (by decide +kernel) ?_
  rw [← eM102]
  refine E_blk (lv' := [some (vr (some (12, this)))]) (st' := [vi (612 : Int32), vr (some (12, this))]) (M1 := M102) (pc' := 153) (tbr_MWorld hγ) [.aload_n 0, .sipush 612] (by decide +kernel) rfl rfl trivial ?_
  obtain ⟨c105, c106, i104, c107, M103, eM103, h⟩ := h
  refine E_newa (f := 146) (i := i104) (by decide) (by decide) (FINr_lt hγ.1) c105 c106 c107 (by decide +kernel) ?_
  rw [← eM103]
  obtain ⟨M108, eM108, h⟩ := h
  refine E_putFR (k := 20) ⟨rfl, (by rw [hγ.1]; intro y hy; cases hy), by decide, _, rfl, by decide, rfl, rfl, (tbk_mem (j := 11) (k := 172) rfl)⟩ rfl (by decide +kernel) ?_
  rw [← eM108]
  refine E_blk (lv' := [some (vr (some (12, this)))]) (st' := [vi (612 : Int32), vr (some (12, this))]) (M1 := M108) (pc' := 162) (tbr_MWorld hγ) [.aload_n 0, .sipush 612] (by decide +kernel) rfl rfl trivial ?_
  obtain ⟨c111, c112, i110, c113, M109, eM109, h⟩ := h
  refine E_newa (f := 147) (i := i110) (by decide) (by decide) (FINr_lt hγ.1) c111 c112 c113 (by decide +kernel) ?_
  rw [← eM109]
  obtain ⟨M114, eM114, h⟩ := h
  refine E_putFR (k := 21) ⟨rfl, (by rw [hγ.1]; intro y hy; cases hy), by decide, _, rfl, by decide, rfl, rfl, (tbk_mem (j := 11) (k := 174) rfl)⟩ rfl (by decide +kernel) ?_
  rw [← eM114]
  refine E_blk (lv' := [some (vr (some (12, this)))]) (st' := [vi (612 : Int32), vr (some (12, this))]) (M1 := M114) (pc' := 171) (tbr_MWorld hγ) [.aload_n 0, .sipush 612] (by decide +kernel) rfl rfl trivial ?_
  obtain ⟨c117, c118, i116, c119, M115, eM115, h⟩ := h
  refine E_newa (f := 148) (i := i116) (by decide) (by decide) (FINr_lt hγ.1) c117 c118 c119 (by decide +kernel) ?_
  rw [← eM115]
  obtain ⟨M120, eM120, h⟩ := h
  refine E_putFR (k := 22) ⟨rfl, (by rw [hγ.1]; intro y hy; cases hy), by decide, _, rfl, by decide, rfl, rfl, (tbk_mem (j := 11) (k := 176) rfl)⟩ rfl (by decide +kernel) ?_
  rw [← eM120]
  refine E_blk (lv' := [some (vr (some (12, this)))]) (st' := [vi (612 : Int32), vr (some (12, this))]) (M1 := M120) (pc' := 180) (tbr_MWorld hγ) [.aload_n 0, .sipush 612] (by decide +kernel) rfl rfl trivial ?_
  obtain ⟨c123, c124, i122, c125, M121, eM121, h⟩ := h
  refine E_newa (f := 149) (i := i122) (by decide) (by decide) (FINr_lt hγ.1) c123 c124 c125 (by decide +kernel) ?_
  rw [← eM121]
  obtain ⟨M126, eM126, h⟩ := h
  refine E_putFR (k := 23) ⟨rfl, (by rw [hγ.1]; intro y hy; cases hy), by decide, _, rfl, by decide, rfl, rfl, (tbk_mem (j := 11) (k := 178) rfl)⟩ rfl (by decide +kernel) ?_
  rw [← eM126]
  refine E_blk (lv' := [some (vr (some (12, this)))]) (st' := [vi (612 : Int32), vr (some (12, this))]) (M1 := M126) (pc' := 189) (tbr_MWorld hγ) [.aload_n 0, .sipush 612] (by decide +kernel) rfl rfl trivial ?_
  obtain ⟨c129, c130, i128, c131, M127, eM127, h⟩ := h
  refine E_newa (f := 150) (i := i128) (by decide) (by decide) (FINr_lt hγ.1) c129 c130 c131 (by decide +kernel) ?_
  rw [← eM127]
  obtain ⟨M132, eM132, h⟩ := h
  refine E_putFR (k := 24) ⟨rfl, (by rw [hγ.1]; intro y hy; cases hy), by decide, _, rfl, by decide, rfl, rfl, (tbk_mem (j := 11) (k := 180) rfl)⟩ rfl (by decide +kernel) ?_
  rw [← eM132]
  refine E_blk (lv' := [some (vr (some (12, this)))]) (st' := [vi (612 : Int32), vr (some (12, this))]) (M1 := M132) (pc' := 198) (tbr_MWorld hγ) [.aload_n 0, .sipush 612] (by decide +kernel) rfl rfl trivial ?_
  obtain ⟨c135, c136, i134, c137, M133, eM133, h⟩ := h
  refine E_newa (f := 151) (i := i134) (by decide) (by decide) (FINr_lt hγ.1) c135 c136 c137 (by decide +kernel) ?_
  rw [← eM133]
  obtain ⟨M138, eM138, h⟩ := h
  refine E_putFR (k := 25) ⟨rfl, (by rw [hγ.1]; intro y hy; cases hy), by decide, _, rfl, by decide, rfl, rfl, (tbk_mem (j := 11) (k := 182) rfl)⟩ rfl (by decide +kernel) ?_
  rw [← eM138]
  refine E_mask [true] rfl ?_
  exact lk_MWorld_init_j203 hγ this Q  M138 h
set_option maxRecDepth 4096 in
theorem lk_MWorld_init_j61 {γ : Gm} (hγ : Gr γ) (this : Nat) (Q : Mem → Prop)  (M : Mem) (h : w_MWorld_init_j61 this Q  M) : E γ k_MWorld_init 1 61 [some (vr (some (12, this)))] [] M (Qv Q) := by
  unfold w_MWorld_init_j61 at h
  refine E_blk (lv' := [some (vr (some (12, this)))]) (st' := [vi (51 : Int32), vr (some (12, this))]) (M1 := M) (pc' := 64) (tbr_MWorld hγ) [.aload_n 0, .bipush 51] (by decide +kernel) rfl rfl trivial ?_
  obtain ⟨c45, c46, i44, c47, M43, eM43, h⟩ := h
  refine E_newa (f := 137) (i := i44) (by decide) (by decide) (FINr_lt hγ.1) c45 c46 c47 (by decide +kernel) ?_
  rw [← eM43]
  obtain ⟨M48, eM48, h⟩ := h
  refine E_putFR (k := 10) ⟨rfl, (by rw [hγ.1]; intro y hy; cases hy), by decide, _, rfl, by decide, rfl, rfl, (tbk_mem (j := 11) (k := 152) rfl)⟩ rfl (by decide +kernel) ?_
  rw [← eM48]
  refine E_blk (lv' := [some (vr (some (12, this)))]) (st' := [vi (51 : Int32), vr (some (12, this))]) (M1 := M48) (pc' := 72) (tbr_MWorld hγ) [.aload_n 0, .bipush 51] (by decide +kernel) rfl rfl trivial ?_
  obtain ⟨c51, c52, i50, c53, M49, eM49, h⟩ := h
  refine E_newa (f := 138) (i := i50) (by decide) (by decide) (FINr_lt hγ.1) c51 c52 c53 (by decide +kernel) ?_
  rw [← eM49]
  obtain ⟨M54, eM54, h⟩ := h
  refine E_putFR (k := 11) ⟨rfl, (by rw [hγ.1]; intro y hy; cases hy), by decide, _, rfl, by decide, rfl, rfl, (tbk_mem (j := 11) (k := 154) rfl)⟩ rfl (by decide +kernel) ?_
  rw [← eM54]
  refine E_blk (lv' := [some (vr (some (12, this)))]) (st' := [vi (408 : Int32), vr (some (12, this))]) (M1 := M54) (pc' := 81) (tbr_MWorld hγ) [.aload_n 0, .sipush 408] (by decide +kernel) rfl rfl trivial ?_
  obtain ⟨c57, c58, i56, c59, M55, eM55, h⟩ := h
  refine E_newa (f := 139) (i := i56) (by decide) (by decide) (FINr_lt hγ.1) c57 c58 c59 (by decide +kernel) ?_
  rw [← eM55]
  obtain ⟨M60, eM60, h⟩ := h
  refine E_putFR (k := 12) ⟨rfl, (by rw [hγ.1]; intro y hy; cases hy), by decide, _, rfl, by decide, rfl, rfl, (tbk_mem (j := 11) (k := 156) rfl)⟩ rfl (by decide +kernel) ?_
  rw [← eM60]
  refine E_blk (lv' := [some (vr (some (12, this)))]) (st' := [vi (408 : Int32), vr (some (12, this))]) (M1 := M60) (pc' := 90) (tbr_MWorld hγ) [.aload_n 0, .sipush 408] (by decide +kernel) rfl rfl trivial ?_
  obtain ⟨c63, c64, i62, c65, M61, eM61, h⟩ := h
  refine E_newa (f := 140) (i := i62) (by decide) (by decide) (FINr_lt hγ.1) c63 c64 c65 (by decide +kernel) ?_
  rw [← eM61]
  obtain ⟨M66, eM66, h⟩ := h
  refine E_putFR (k := 13) ⟨rfl, (by rw [hγ.1]; intro y hy; cases hy), by decide, _, rfl, by decide, rfl, rfl, (tbk_mem (j := 11) (k := 158) rfl)⟩ rfl (by decide +kernel) ?_
  rw [← eM66]
  refine E_blk (lv' := [some (vr (some (12, this)))]) (st' := [vi (408 : Int32), vr (some (12, this))]) (M1 := M66) (pc' := 99) (tbr_MWorld hγ) [.aload_n 0, .sipush 408] (by decide +kernel) rfl rfl trivial ?_
  obtain ⟨c69, c70, i68, c71, M67, eM67, h⟩ := h
  refine E_newa (f := 141) (i := i68) (by decide) (by decide) (FINr_lt hγ.1) c69 c70 c71 (by decide +kernel) ?_
  rw [← eM67]
  obtain ⟨M72, eM72, h⟩ := h
  refine E_putFR (k := 14) ⟨rfl, (by rw [hγ.1]; intro y hy; cases hy), by decide, _, rfl, by decide, rfl, rfl, (tbk_mem (j := 11) (k := 160) rfl)⟩ rfl (by decide +kernel) ?_
  rw [← eM72]
  refine E_blk (lv' := [some (vr (some (12, this)))]) (st' := [vi (408 : Int32), vr (some (12, this))]) (M1 := M72) (pc' := 108) (tbr_MWorld hγ) [.aload_n 0, .sipush 408] (by decide +kernel) rfl rfl trivial ?_
  obtain ⟨c75, c76, i74, c77, M73, eM73, h⟩ := h
  refine E_newa (f := 142) (i := i74) (by decide) (by decide) (FINr_lt hγ.1) c75 c76 c77 (by decide +kernel) ?_
  rw [← eM73]
  obtain ⟨M78, eM78, h⟩ := h
  refine E_putFR (k := 15) ⟨rfl, (by rw [hγ.1]; intro y hy; cases hy), by decide, _, rfl, by decide, rfl, rfl, (tbk_mem (j := 11) (k := 162) rfl)⟩ rfl (by decide +kernel) ?_
  rw [← eM78]
  refine E_blk (lv' := [some (vr (some (12, this)))]) (st' := [vi (408 : Int32), vr (some (12, this))]) (M1 := M78) (pc' := 117) (tbr_MWorld hγ) [.aload_n 0, .sipush 408] (by decide +kernel) rfl rfl trivial ?_
  obtain ⟨c81, c82, i80, c83, M79, eM79, h⟩ := h
  refine E_newa (f := 523) (i := i80) (by decide) (by decide) (FINr_lt hγ.1) c81 c82 c83 (by decide +kernel) ?_
  rw [← eM79]
  obtain ⟨M84, eM84, h⟩ := h
  refine E_putFR (k := 16) ⟨rfl, (by rw [hγ.1]; intro y hy; cases hy), by decide, _, rfl, by decide, rfl, rfl, (tbk_mem (j := 11) (k := 164) rfl)⟩ rfl (by decide +kernel) ?_
  rw [← eM84]
  refine E_blk (lv' := [some (vr (some (12, this)))]) (st' := [vi (408 : Int32), vr (some (12, this))]) (M1 := M84) (pc' := 126) (tbr_MWorld hγ) [.aload_n 0, .sipush 408] (by decide +kernel) rfl rfl trivial ?_
  obtain ⟨c87, c88, i86, c89, M85, eM85, h⟩ := h
  refine E_newa (f := 143) (i := i86) (by decide) (by decide) (FINr_lt hγ.1) c87 c88 c89 (by decide +kernel) ?_
  rw [← eM85]
  obtain ⟨M90, eM90, h⟩ := h
  refine E_putFR (k := 17) ⟨rfl, (by rw [hγ.1]; intro y hy; cases hy), by decide, _, rfl, by decide, rfl, rfl, (tbk_mem (j := 11) (k := 166) rfl)⟩ rfl (by decide +kernel) ?_
  rw [← eM90]
  refine E_mask [true] rfl ?_
  exact lk_MWorld_init_j131 hγ this Q  M90 h
set_option maxRecDepth 4096 in
theorem lk_MWorld_init {γ : Gm} (hγ : Gr γ) (this : Nat) (Q : Mem → Prop) (M : Mem) (h : w_MWorld_init this Q M) : E γ k_MWorld_init 1 0 [some (vr (some (12, this)))] [] M (Qv Q) := by
  unfold w_MWorld_init at h
  refine E_blk (lv' := [some (vr (some (12, this)))]) (st' := [vr (some (12, this))]) (M1 := M) (pc' := 1) (tbr_MWorld hγ) [.aload_n 0] (by decide +kernel) rfl rfl trivial ?_
  refine E_objI (κ := k_MWorld_init) (pc := 1) (idx := 3) (tbk_mem (j := 11) (k := 132) rfl) (by decide +kernel) (Nat.le_of_ble_eq_true rfl) ?_
  refine E_blk (lv' := [some (vr (some (12, this)))]) (st' := [vi (51 : Int32), vr (some (12, this))]) (M1 := M) (pc' := 7) (tbr_MWorld hγ) [.aload_n 0, .bipush 51] (by decide +kernel) rfl rfl trivial ?_
  obtain ⟨c3, c4, i2, c5, M1, eM1, h⟩ := h
  refine E_newa (f := 130) (i := i2) (by decide) (by decide) (FINr_lt hγ.1) c3 c4 c5 (by decide +kernel) ?_
  rw [← eM1]
  obtain ⟨M6, eM6, h⟩ := h
  refine E_putFR (k := 3) ⟨rfl, (by rw [hγ.1]; intro y hy; cases hy), by decide, _, rfl, by decide, rfl, rfl, (tbk_mem (j := 11) (k := 138) rfl)⟩ rfl (by decide +kernel) ?_
  rw [← eM6]
  refine E_blk (lv' := [some (vr (some (12, this)))]) (st' := [vi (51 : Int32), vr (some (12, this))]) (M1 := M6) (pc' := 15) (tbr_MWorld hγ) [.aload_n 0, .bipush 51] (by decide +kernel) rfl rfl trivial ?_
  obtain ⟨c9, c10, i8, c11, M7, eM7, h⟩ := h
  refine E_newa (f := 131) (i := i8) (by decide) (by decide) (FINr_lt hγ.1) c9 c10 c11 (by decide +kernel) ?_
  rw [← eM7]
  obtain ⟨M12, eM12, h⟩ := h
  refine E_putFR (k := 4) ⟨rfl, (by rw [hγ.1]; intro y hy; cases hy), by decide, _, rfl, by decide, rfl, rfl, (tbk_mem (j := 11) (k := 140) rfl)⟩ rfl (by decide +kernel) ?_
  rw [← eM12]
  refine E_blk (lv' := [some (vr (some (12, this)))]) (st' := [vi (51 : Int32), vr (some (12, this))]) (M1 := M12) (pc' := 23) (tbr_MWorld hγ) [.aload_n 0, .bipush 51] (by decide +kernel) rfl rfl trivial ?_
  obtain ⟨c15, c16, i14, c17, M13, eM13, h⟩ := h
  refine E_newa (f := 132) (i := i14) (by decide) (by decide) (FINr_lt hγ.1) c15 c16 c17 (by decide +kernel) ?_
  rw [← eM13]
  obtain ⟨M18, eM18, h⟩ := h
  refine E_putFR (k := 5) ⟨rfl, (by rw [hγ.1]; intro y hy; cases hy), by decide, _, rfl, by decide, rfl, rfl, (tbk_mem (j := 11) (k := 142) rfl)⟩ rfl (by decide +kernel) ?_
  rw [← eM18]
  refine E_blk (lv' := [some (vr (some (12, this)))]) (st' := [vi (204 : Int32), vr (some (12, this))]) (M1 := M18) (pc' := 32) (tbr_MWorld hγ) [.aload_n 0, .sipush 204] (by decide +kernel) rfl rfl trivial ?_
  obtain ⟨c21, c22, i20, c23, M19, eM19, h⟩ := h
  refine E_newa (f := 133) (i := i20) (by decide) (by decide) (FINr_lt hγ.1) c21 c22 c23 (by decide +kernel) ?_
  rw [← eM19]
  obtain ⟨M24, eM24, h⟩ := h
  refine E_putFR (k := 6) ⟨rfl, (by rw [hγ.1]; intro y hy; cases hy), by decide, _, rfl, by decide, rfl, rfl, (tbk_mem (j := 11) (k := 144) rfl)⟩ rfl (by decide +kernel) ?_
  rw [← eM24]
  refine E_blk (lv' := [some (vr (some (12, this)))]) (st' := [vi (51 : Int32), vr (some (12, this))]) (M1 := M24) (pc' := 40) (tbr_MWorld hγ) [.aload_n 0, .bipush 51] (by decide +kernel) rfl rfl trivial ?_
  obtain ⟨c27, c28, i26, c29, M25, eM25, h⟩ := h
  refine E_newa (f := 134) (i := i26) (by decide) (by decide) (FINr_lt hγ.1) c27 c28 c29 (by decide +kernel) ?_
  rw [← eM25]
  obtain ⟨M30, eM30, h⟩ := h
  refine E_putFR (k := 7) ⟨rfl, (by rw [hγ.1]; intro y hy; cases hy), by decide, _, rfl, by decide, rfl, rfl, (tbk_mem (j := 11) (k := 146) rfl)⟩ rfl (by decide +kernel) ?_
  rw [← eM30]
  refine E_blk (lv' := [some (vr (some (12, this)))]) (st' := [vi (51 : Int32), vr (some (12, this))]) (M1 := M30) (pc' := 48) (tbr_MWorld hγ) [.aload_n 0, .bipush 51] (by decide +kernel) rfl rfl trivial ?_
  obtain ⟨c33, c34, i32, c35, M31, eM31, h⟩ := h
  refine E_newa (f := 135) (i := i32) (by decide) (by decide) (FINr_lt hγ.1) c33 c34 c35 (by decide +kernel) ?_
  rw [← eM31]
  obtain ⟨M36, eM36, h⟩ := h
  refine E_putFR (k := 8) ⟨rfl, (by rw [hγ.1]; intro y hy; cases hy), by decide, _, rfl, by decide, rfl, rfl, (tbk_mem (j := 11) (k := 148) rfl)⟩ rfl (by decide +kernel) ?_
  rw [← eM36]
  refine E_blk (lv' := [some (vr (some (12, this)))]) (st' := [vi (51 : Int32), vr (some (12, this))]) (M1 := M36) (pc' := 56) (tbr_MWorld hγ) [.aload_n 0, .bipush 51] (by decide +kernel) rfl rfl trivial ?_
  obtain ⟨c39, c40, i38, c41, M37, eM37, h⟩ := h
  refine E_newa (f := 136) (i := i38) (by decide) (by decide) (FINr_lt hγ.1) c39 c40 c41 (by decide +kernel) ?_
  rw [← eM37]
  obtain ⟨M42, eM42, h⟩ := h
  refine E_putFR (k := 9) ⟨rfl, (by rw [hγ.1]; intro y hy; cases hy), by decide, _, rfl, by decide, rfl, rfl, (tbk_mem (j := 11) (k := 150) rfl)⟩ rfl (by decide +kernel) ?_
  rw [← eM42]
  refine E_mask [true] rfl ?_
  exact lk_MWorld_init_j61 hγ this Q  M42 h
def w_Run_init_j61 (this : Nat) (Q : Mem → Prop)  (M : Mem) : Prop :=
  ¬ (1760 : Int32) < 0 ∧ (1760 : Int32).toNatClampNeg ≤ 60000000 ∧ ∃ i44, (525, i44) ∉ mN M ∧ ∃ M43, M43 = mk M 525 i44 (1760 : Int32).toNatClampNeg ∧ ∃ M48, M48 = sR M43 13 this 21 (some (525, i44)) ∧ Q M48
def w_Run_init (this : Nat) (Q : Mem → Prop) (M : Mem) : Prop :=
  ¬ (6 : Int32) < 0 ∧ (6 : Int32).toNatClampNeg ≤ 60000000 ∧ ∃ i2, (170, i2) ∉ mN M ∧ ∃ M1, M1 = mk M 170 i2 (6 : Int32).toNatClampNeg ∧ ∃ M6, M6 = sR M1 13 this 8 (some (170, i2)) ∧ ¬ (99 : Int32) < 0 ∧ (99 : Int32).toNatClampNeg ≤ 60000000 ∧ ∃ i8, (171, i8) ∉ mN M6 ∧ ∃ M7, M7 = mk M6 171 i8 (99 : Int32).toNatClampNeg ∧ ∃ M12, M12 = sR M7 13 this 14 (some (171, i8)) ∧ ¬ (99 : Int32) < 0 ∧ (99 : Int32).toNatClampNeg ≤ 60000000 ∧ ∃ i14, (172, i14) ∉ mN M12 ∧ ∃ M13, M13 = mk M12 172 i14 (99 : Int32).toNatClampNeg ∧ ∃ M18, M18 = sR M13 13 this 15 (some (172, i14)) ∧ ¬ (40 : Int32) < 0 ∧ (40 : Int32).toNatClampNeg ≤ 60000000 ∧ ∃ i20, (173, i20) ∉ mN M18 ∧ ∃ M19, M19 = mk M18 173 i20 (40 : Int32).toNatClampNeg ∧ ∃ M24, M24 = sR M19 13 this 17 (some (173, i20)) ∧ ¬ (40 : Int32) < 0 ∧ (40 : Int32).toNatClampNeg ≤ 60000000 ∧ ∃ i26, (174, i26) ∉ mN M24 ∧ ∃ M25, M25 = mk M24 174 i26 (40 : Int32).toNatClampNeg ∧ ∃ M30, M30 = sR M25 13 this 18 (some (174, i26)) ∧ ¬ (40 : Int32) < 0 ∧ (40 : Int32).toNatClampNeg ≤ 60000000 ∧ ∃ i32, (175, i32) ∉ mN M30 ∧ ∃ M31, M31 = mk M30 175 i32 (40 : Int32).toNatClampNeg ∧ ∃ M36, M36 = sR M31 13 this 19 (some (175, i32)) ∧ ¬ (1760 : Int32) < 0 ∧ (1760 : Int32).toNatClampNeg ≤ 60000000 ∧ ∃ i38, (176, i38) ∉ mN M36 ∧ ∃ M37, M37 = mk M36 176 i38 (1760 : Int32).toNatClampNeg ∧ ∃ M42, M42 = sR M37 13 this 20 (some (176, i38)) ∧ w_Run_init_j61 this Q  M42
set_option maxRecDepth 4096 in
theorem lk_Run_init_j61 {γ : Gm} (hγ : Gr γ) (this : Nat) (Q : Mem → Prop)  (M : Mem) (h : w_Run_init_j61 this Q  M) : E γ k_Run_init 1 61 [some (vr (some (13, this)))] [] M (Qv Q) := by
  unfold w_Run_init_j61 at h
  refine E_blk (lv' := [some (vr (some (13, this)))]) (st' := [vi (1760 : Int32), vr (some (13, this))]) (M1 := M) (pc' := 65) (tbr_Run hγ) [.aload_n 0, .sipush 1760] (by decide +kernel) rfl rfl trivial ?_
  obtain ⟨c45, c46, i44, c47, M43, eM43, h⟩ := h
  refine E_newa (f := 525) (i := i44) (by decide) (by decide) (FINr_lt hγ.1) c45 c46 c47 (by decide +kernel) ?_
  rw [← eM43]
  obtain ⟨M48, eM48, h⟩ := h
  refine E_putFR (k := 21) ⟨rfl, (by rw [hγ.1]; intro y hy; cases hy), by decide, _, rfl, by decide, rfl, rfl, (tbk_mem (j := 12) (k := 202) rfl)⟩ rfl (by decide +kernel) ?_
  rw [← eM48]
  exact E_vret rfl (by decide +kernel) h
set_option maxRecDepth 4096 in
theorem lk_Run_init {γ : Gm} (hγ : Gr γ) (this : Nat) (Q : Mem → Prop) (M : Mem) (h : w_Run_init this Q M) : E γ k_Run_init 1 0 [some (vr (some (13, this)))] [] M (Qv Q) := by
  unfold w_Run_init at h
  refine E_blk (lv' := [some (vr (some (13, this)))]) (st' := [vr (some (13, this))]) (M1 := M) (pc' := 1) (tbr_Run hγ) [.aload_n 0] (by decide +kernel) rfl rfl trivial ?_
  refine E_objI (κ := k_Run_init) (pc := 1) (idx := 3) (tbk_mem (j := 12) (k := 174) rfl) (by decide +kernel) (Nat.le_of_ble_eq_true rfl) ?_
  refine E_blk (lv' := [some (vr (some (13, this)))]) (st' := [vi (6 : Int32), vr (some (13, this))]) (M1 := M) (pc' := 7) (tbr_Run hγ) [.aload_n 0, .bipush 6] (by decide +kernel) rfl rfl trivial ?_
  obtain ⟨c3, c4, i2, c5, M1, eM1, h⟩ := h
  refine E_newa (f := 170) (i := i2) (by decide) (by decide) (FINr_lt hγ.1) c3 c4 c5 (by decide +kernel) ?_
  rw [← eM1]
  obtain ⟨M6, eM6, h⟩ := h
  refine E_putFR (k := 8) ⟨rfl, (by rw [hγ.1]; intro y hy; cases hy), by decide, _, rfl, by decide, rfl, rfl, (tbk_mem (j := 12) (k := 183) rfl)⟩ rfl (by decide +kernel) ?_
  rw [← eM6]
  refine E_blk (lv' := [some (vr (some (13, this)))]) (st' := [vi (99 : Int32), vr (some (13, this))]) (M1 := M6) (pc' := 15) (tbr_Run hγ) [.aload_n 0, .bipush 99] (by decide +kernel) rfl rfl trivial ?_
  obtain ⟨c9, c10, i8, c11, M7, eM7, h⟩ := h
  refine E_newa (f := 171) (i := i8) (by decide) (by decide) (FINr_lt hγ.1) c9 c10 c11 (by decide +kernel) ?_
  rw [← eM7]
  obtain ⟨M12, eM12, h⟩ := h
  refine E_putFR (k := 14) ⟨rfl, (by rw [hγ.1]; intro y hy; cases hy), by decide, _, rfl, by decide, rfl, rfl, (tbk_mem (j := 12) (k := 189) rfl)⟩ rfl (by decide +kernel) ?_
  rw [← eM12]
  refine E_blk (lv' := [some (vr (some (13, this)))]) (st' := [vi (99 : Int32), vr (some (13, this))]) (M1 := M12) (pc' := 23) (tbr_Run hγ) [.aload_n 0, .bipush 99] (by decide +kernel) rfl rfl trivial ?_
  obtain ⟨c15, c16, i14, c17, M13, eM13, h⟩ := h
  refine E_newa (f := 172) (i := i14) (by decide) (by decide) (FINr_lt hγ.1) c15 c16 c17 (by decide +kernel) ?_
  rw [← eM13]
  obtain ⟨M18, eM18, h⟩ := h
  refine E_putFR (k := 15) ⟨rfl, (by rw [hγ.1]; intro y hy; cases hy), by decide, _, rfl, by decide, rfl, rfl, (tbk_mem (j := 12) (k := 191) rfl)⟩ rfl (by decide +kernel) ?_
  rw [← eM18]
  refine E_blk (lv' := [some (vr (some (13, this)))]) (st' := [vi (40 : Int32), vr (some (13, this))]) (M1 := M18) (pc' := 31) (tbr_Run hγ) [.aload_n 0, .bipush 40] (by decide +kernel) rfl rfl trivial ?_
  obtain ⟨c21, c22, i20, c23, M19, eM19, h⟩ := h
  refine E_newa (f := 173) (i := i20) (by decide) (by decide) (FINr_lt hγ.1) c21 c22 c23 (by decide +kernel) ?_
  rw [← eM19]
  obtain ⟨M24, eM24, h⟩ := h
  refine E_putFR (k := 17) ⟨rfl, (by rw [hγ.1]; intro y hy; cases hy), by decide, _, rfl, by decide, rfl, rfl, (tbk_mem (j := 12) (k := 194) rfl)⟩ rfl (by decide +kernel) ?_
  rw [← eM24]
  refine E_blk (lv' := [some (vr (some (13, this)))]) (st' := [vi (40 : Int32), vr (some (13, this))]) (M1 := M24) (pc' := 39) (tbr_Run hγ) [.aload_n 0, .bipush 40] (by decide +kernel) rfl rfl trivial ?_
  obtain ⟨c27, c28, i26, c29, M25, eM25, h⟩ := h
  refine E_newa (f := 174) (i := i26) (by decide) (by decide) (FINr_lt hγ.1) c27 c28 c29 (by decide +kernel) ?_
  rw [← eM25]
  obtain ⟨M30, eM30, h⟩ := h
  refine E_putFR (k := 18) ⟨rfl, (by rw [hγ.1]; intro y hy; cases hy), by decide, _, rfl, by decide, rfl, rfl, (tbk_mem (j := 12) (k := 196) rfl)⟩ rfl (by decide +kernel) ?_
  rw [← eM30]
  refine E_blk (lv' := [some (vr (some (13, this)))]) (st' := [vi (40 : Int32), vr (some (13, this))]) (M1 := M30) (pc' := 47) (tbr_Run hγ) [.aload_n 0, .bipush 40] (by decide +kernel) rfl rfl trivial ?_
  obtain ⟨c33, c34, i32, c35, M31, eM31, h⟩ := h
  refine E_newa (f := 175) (i := i32) (by decide) (by decide) (FINr_lt hγ.1) c33 c34 c35 (by decide +kernel) ?_
  rw [← eM31]
  obtain ⟨M36, eM36, h⟩ := h
  refine E_putFR (k := 19) ⟨rfl, (by rw [hγ.1]; intro y hy; cases hy), by decide, _, rfl, by decide, rfl, rfl, (tbk_mem (j := 12) (k := 198) rfl)⟩ rfl (by decide +kernel) ?_
  rw [← eM36]
  refine E_blk (lv' := [some (vr (some (13, this)))]) (st' := [vi (1760 : Int32), vr (some (13, this))]) (M1 := M36) (pc' := 56) (tbr_Run hγ) [.aload_n 0, .sipush 1760] (by decide +kernel) rfl rfl trivial ?_
  obtain ⟨c39, c40, i38, c41, M37, eM37, h⟩ := h
  refine E_newa (f := 176) (i := i38) (by decide) (by decide) (FINr_lt hγ.1) c39 c40 c41 (by decide +kernel) ?_
  rw [← eM37]
  obtain ⟨M42, eM42, h⟩ := h
  refine E_putFR (k := 20) ⟨rfl, (by rw [hγ.1]; intro y hy; cases hy), by decide, _, rfl, by decide, rfl, rfl, (tbk_mem (j := 12) (k := 200) rfl)⟩ rfl (by decide +kernel) ?_
  rw [← eM42]
  refine E_mask [true] rfl ?_
  exact lk_Run_init_j61 hγ this Q  M42 h
def w_Model_beginWorld_L337 (this : Nat) (Q : Mem → Prop) : Nat → Nat → Int32 → Mem → Prop
  | 0, _, _, _ => False
  | n + 1, v1, v3, M => if (800 : Int32) < v3 then (∃ M13, M13 = (sI (sI (sI M 12 v1 52 (0 : Int32)) 12 v1 56 (0 : Int32)) 12 v1 60 (0 : Int32)) ∧ Q M13) else (vp_in v3 (mL M 524 v1) ∧ (w_Model_beginWorld_L337 this Q n) v1 (v3 + (1 : Int32)) (sI M 524 v1 v3.toNatClampNeg ((0 : Int32) &&& 1)))
def w_Model_beginWorld_L311 (this : Nat) (Q : Mem → Prop) : Nat → Nat → Int32 → Mem → Prop
  | 0, _, _, _ => False
  | n + 1, v1, v3, M => if (62 : Int32) ≤ v3 then (∃ n15 : Nat, w_Model_beginWorld_L337 this Q n15 v1 (0 : Int32) (sI M 12 v1 50 (0 : Int32))) else (vp_in v3 (mL M 169 v1) ∧ (w_Model_beginWorld_L311 this Q n) v1 (v3 + (1 : Int32)) (sI M 169 v1 v3.toNatClampNeg (0 : Int32)))
def w_Model_beginWorld_L255 (this : Nat) (Q : Mem → Prop) : Nat → Nat → Int32 → Mem → Prop
  | 0, _, _, _ => False
  | n + 1, v1, v3, M => if (3 : Int32) ≤ v3 then (∃ M10, M10 = (sI (sI (sI M 12 v1 63 (0 : Int32)) 12 v1 65 (50 : Int32)) 12 v1 64 (50 : Int32)) ∧ ∃ n17 : Nat, w_Model_beginWorld_L311 this Q n17 v1 (0 : Int32) (sI M10 12 v1 70 (0 : Int32))) else (vp_in v3 (mL M 704 v1) ∧ ∃ i19, (mR M 704 v1 v3.toNatClampNeg) = some (13, i19) ∧ vp_in v3 (mL (sI M 13 i19 0 (-2 : Int32)) 704 v1) ∧ ∃ i21, (mR (sI M 13 i19 0 (-2 : Int32)) 704 v1 v3.toNatClampNeg) = some (13, i21) ∧ ((0 : Int32) = 0 ∨ (0 : Int32) = 1) ∧ (w_Model_beginWorld_L255 this Q n) v1 (v3 + (1 : Int32)) (sI (sI M 13 i19 0 (-2 : Int32)) 13 i21 1 (0 : Int32)))
def w_Model_beginWorld_j84 (this : Nat) (Q : Mem → Prop) (k18 : Nat → Int32 → Mem → Prop) (v1 : Nat) (v3 : Int32) (s0 : Int32) (s1 : Int32) (s2 : Nat) (M : Mem) : Prop :=
  vp_in s1 (mL M 131 s2) ∧ vp_in v3 (mL (sI M 131 s2 s1.toNatClampNeg s0) 132 v1) ∧ ∃ M28, M28 = (sI (sI M 131 s2 s1.toNatClampNeg s0) 132 v1 v3.toNatClampNeg (0 : Int32)) ∧ vp_in v3 (mL M28 134 v1) ∧ vp_in v3 (mL (sI M28 134 v1 v3.toNatClampNeg (0 : Int32)) 135 v1) ∧ ∃ M31, M31 = (sI (sI M28 134 v1 v3.toNatClampNeg (0 : Int32)) 135 v1 v3.toNatClampNeg (0 : Int32)) ∧ vp_in v3 (mL M31 136 v1) ∧ vp_in v3 (mL (sI M31 136 v1 v3.toNatClampNeg (1 : Int32)) 137 v1) ∧ ∃ M34, M34 = (sI (sI M31 136 v1 v3.toNatClampNeg (1 : Int32)) 137 v1 v3.toNatClampNeg (2 : Int32)) ∧ vp_in v3 (mL M34 138 v1) ∧ vp_in ((12 : Int32) * v3) (mL (sI M34 138 v1 v3.toNatClampNeg (1 : Int32)) 144 v1) ∧ ∃ M37, M37 = (sI (sI M34 138 v1 v3.toNatClampNeg (1 : Int32)) 144 v1 ((12 : Int32) * v3).toNatClampNeg (mI (sI M34 138 v1 v3.toNatClampNeg (1 : Int32)) 11 this 6)) ∧ vp_in ((12 : Int32) * v3) (mL M37 145 v1) ∧ vp_in ((12 : Int32) * v3) (mL (sI M37 145 v1 ((12 : Int32) * v3).toNatClampNeg (mI M37 11 this 38)) 146 v1) ∧ ∃ M40, M40 = (sI (sI M37 145 v1 ((12 : Int32) * v3).toNatClampNeg (mI M37 11 this 38)) 146 v1 ((12 : Int32) * v3).toNatClampNeg (0 : Int32)) ∧ vp_in ((12 : Int32) * v3) (mL M40 147 v1) ∧ vp_in ((12 : Int32) * v3) (mL (sI M40 147 v1 ((12 : Int32) * v3).toNatClampNeg (0 : Int32)) 148 v1) ∧ ∃ M43, M43 = (sI (sI M40 147 v1 ((12 : Int32) * v3).toNatClampNeg (0 : Int32)) 148 v1 ((12 : Int32) * v3).toNatClampNeg (0 : Int32)) ∧ vp_in ((12 : Int32) * v3) (mL M43 149 v1) ∧ vp_in ((12 : Int32) * v3) (mL (sI M43 149 v1 ((12 : Int32) * v3).toNatClampNeg (0 : Int32)) 150 v1) ∧ ∃ M46, M46 = (sI (sI M43 149 v1 ((12 : Int32) * v3).toNatClampNeg (0 : Int32)) 150 v1 ((12 : Int32) * v3).toNatClampNeg (0 : Int32)) ∧ vp_in ((12 : Int32) * v3) (mL M46 151 v1) ∧ k18 v1 (v3 + (1 : Int32)) (sI M46 151 v1 ((12 : Int32) * v3).toNatClampNeg (0 : Int32))
def w_Model_beginWorld_L18 (this : Nat) (Q : Mem → Prop) : Nat → Nat → Int32 → Mem → Prop
  | 0, _, _, _ => False
  | n + 1, v1, v3, M => if (21 : Int32) ≤ v3 then (∃ M3, M3 = (sI (sI (sI M 12 v1 35 (0 : Int32)) 12 v1 37 (0 : Int32)) 12 v1 41 (0 : Int32)) ∧ vp_in (0 : Int32) (mL (sI M3 12 v1 43 (0 : Int32)) 156 v1) ∧ ∃ M5, M5 = (sI (sI M3 12 v1 43 (0 : Int32)) 156 v1 (0 : Int32).toNatClampNeg (-2 : Int32)) ∧ vp_in (1 : Int32) (mL M5 156 v1) ∧ vp_in (2 : Int32) (mL (sI M5 156 v1 (1 : Int32).toNatClampNeg (-2 : Int32)) 156 v1) ∧ ∃ M8, M8 = (sI (sI M5 156 v1 (1 : Int32).toNatClampNeg (-2 : Int32)) 156 v1 (2 : Int32).toNatClampNeg (-2 : Int32)) ∧ ∃ n23 : Nat, w_Model_beginWorld_L255 this Q n23 v1 (0 : Int32) M8) else (vp_in v3 (mL M 130 v1) ∧ if v3 = 0 then (w_Model_beginWorld_j84 this Q (w_Model_beginWorld_L18 this Q n) v1 v3 (-2 : Int32) v3 v1 (sI M 130 v1 v3.toNatClampNeg ((mI M 11 this 8) + v3))) else (if v3 = (1 : Int32) then (w_Model_beginWorld_j84 this Q (w_Model_beginWorld_L18 this Q n) v1 v3 (mI (sI M 130 v1 v3.toNatClampNeg ((mI M 11 this 8) + v3)) 11 this 8) v3 v1 (sI M 130 v1 v3.toNatClampNeg ((mI M 11 this 8) + v3))) else (if (10 : Int32) < v3 then (w_Model_beginWorld_j84 this Q (w_Model_beginWorld_L18 this Q n) v1 v3 ((mI (sI M 130 v1 v3.toNatClampNeg ((mI M 11 this 8) + v3)) 11 this 8) + (10 : Int32)) v3 v1 (sI M 130 v1 v3.toNatClampNeg ((mI M 11 this 8) + v3))) else (w_Model_beginWorld_j84 this Q (w_Model_beginWorld_L18 this Q n) v1 v3 ((mI (sI M 130 v1 v3.toNatClampNeg ((mI M 11 this 8) + v3)) 11 this 8) + (1 : Int32)) v3 v1 (sI M 130 v1 v3.toNatClampNeg ((mI M 11 this 8) + v3))))))
def w_Model_beginWorld (this : Nat) (a1 : Nat) (a2 : Int32) (Q : Mem → Prop) (M : Mem) : Prop :=
  ((1 : Int32) = 0 ∨ (1 : Int32) = 1) ∧ ∃ n50 : Nat, w_Model_beginWorld_L18 this Q n50 a1 (0 : Int32) (sI (sI (sI M 12 a1 0 (1 : Int32)) 12 a1 1 a2) 12 a1 2 (21 : Int32))
set_option maxRecDepth 4096 in
theorem lk_Model_beginWorld_L337 {γ : Gm} (hγ : Gk γ) (this : Nat) (Q : Mem → Prop) : ∀ (n : Nat) (v1 : Nat) (v3 : Int32) (M : Mem), w_Model_beginWorld_L337 this Q n v1 v3 M → E γ k_Model_beginWorld 0 337 [none, some (vr (some (12, v1))), none, some (vi v3), none] [] M (Qv Q) := by
  intro n
  induction n with
  | zero => intro v1 v3 M h; exact h.elim
  | succ n ih =>
    intro v1 v3 M h
    unfold w_Model_beginWorld_L337 at h
    refine E_blk (lv' := [none, some (vr (some (12, v1))), none, some (vi v3), none]) (st' := [vi (800 : Int32), vi v3]) (M1 := M) (pc' := 341) (tb_Model hγ) [.iload_n 3, .sipush 800] (by decide +kernel) rfl rfl trivial ?_
    refine E_icmp_gt (off := 16) (tgt := 357) (by decide +kernel) (by decide) (fun b12 => ?_) (fun b12 => ?_)
    · rw [if_pos b12] at h
      refine E_blk (lv' := [none, some (vr (some (12, v1))), none, some (vi v3), none]) (st' := []) (M1 := (sI (sI (sI M 12 v1 52 (0 : Int32)) 12 v1 56 (0 : Int32)) 12 v1 60 (0 : Int32))) (pc' := 372) (tb_Model hγ) [.aload_n 1, .iconst 0, .putfield 513, .aload_n 1, .iconst 0, .putfield 516, .aload_n 1, .iconst 0, .putfield 519] (by decide +kernel) rfl rfl trivial ?_
      obtain ⟨M13, eM13, h⟩ := h
      rw [← eM13]
      exact E_vret rfl (by decide +kernel) h
    · rw [if_neg b12] at h
      obtain ⟨c14, h⟩ := h
      refine E_blk (lv' := [none, some (vr (some (12, v1))), none, some (vi (v3 + (1 : Int32))), none]) (st' := []) (M1 := (sI M 524 v1 v3.toNatClampNeg ((0 : Int32) &&& 1))) (pc' := 354) (tb_Model hγ) [.aload_n 1, .getfield 510, .iload_n 3, .iconst 0, .bastore, .iinc 3 1] (by decide +kernel) rfl rfl ⟨c14, trivial⟩ ?_
      refine E_goto (off := -17) (tgt := 337) (by decide +kernel) (by decide) ?_
      refine E_mask [false, true, false, true, false] rfl ?_
      exact ih v1 (v3 + (1 : Int32)) (sI M 524 v1 v3.toNatClampNeg ((0 : Int32) &&& 1)) h
set_option maxRecDepth 4096 in
theorem lk_Model_beginWorld_L311 {γ : Gm} (hγ : Gk γ) (this : Nat) (Q : Mem → Prop) : ∀ (n : Nat) (v1 : Nat) (v3 : Int32) (M : Mem), w_Model_beginWorld_L311 this Q n v1 v3 M → E γ k_Model_beginWorld 0 311 [none, some (vr (some (12, v1))), none, some (vi v3), none] [] M (Qv Q) := by
  intro n
  induction n with
  | zero => intro v1 v3 M h; exact h.elim
  | succ n ih =>
    intro v1 v3 M h
    unfold w_Model_beginWorld_L311 at h
    refine E_blk (lv' := [none, some (vr (some (12, v1))), none, some (vi v3), none]) (st' := [vi (62 : Int32), vi v3]) (M1 := M) (pc' := 314) (tb_Model hγ) [.iload_n 3, .bipush 62] (by decide +kernel) rfl rfl trivial ?_
    refine E_icmp_ge (off := 16) (tgt := 330) (by decide +kernel) (by decide) (fun b11 => ?_) (fun b11 => ?_)
    · rw [if_pos b11] at h
      refine E_blk (lv' := [none, some (vr (some (12, v1))), none, some (vi (0 : Int32)), none]) (st' := []) (M1 := (sI M 12 v1 50 (0 : Int32))) (pc' := 337) (tb_Model hγ) [.aload_n 1, .iconst 0, .putfield 507, .iconst 0, .istore_n 3] (by decide +kernel) rfl rfl trivial ?_
      obtain ⟨n15, h⟩ := h
      refine E_mask [false, true, false, true, false] rfl ?_
      exact lk_Model_beginWorld_L337 hγ this Q n15 v1 (0 : Int32) (sI M 12 v1 50 (0 : Int32)) h
    · rw [if_neg b11] at h
      obtain ⟨c16, h⟩ := h
      refine E_blk (lv' := [none, some (vr (some (12, v1))), none, some (vi (v3 + (1 : Int32))), none]) (st' := []) (M1 := (sI M 169 v1 v3.toNatClampNeg (0 : Int32))) (pc' := 327) (tb_Model hγ) [.aload_n 1, .getfield 504, .iload_n 3, .iconst 0, .iastore, .iinc 3 1] (by decide +kernel) rfl rfl ⟨c16, trivial⟩ ?_
      refine E_goto (off := -16) (tgt := 311) (by decide +kernel) (by decide) ?_
      refine E_mask [false, true, false, true, false] rfl ?_
      exact ih v1 (v3 + (1 : Int32)) (sI M 169 v1 v3.toNatClampNeg (0 : Int32)) h
set_option maxRecDepth 4096 in
theorem lk_Model_beginWorld_L255 {γ : Gm} (hγ : Gk γ) (this : Nat) (Q : Mem → Prop) : ∀ (n : Nat) (v1 : Nat) (v3 : Int32) (M : Mem), w_Model_beginWorld_L255 this Q n v1 v3 M → E γ k_Model_beginWorld 0 255 [none, some (vr (some (12, v1))), none, some (vi v3), none] [] M (Qv Q) := by
  intro n
  induction n with
  | zero => intro v1 v3 M h; exact h.elim
  | succ n ih =>
    intro v1 v3 M h
    unfold w_Model_beginWorld_L255 at h
    refine E_blk (lv' := [none, some (vr (some (12, v1))), none, some (vi v3), none]) (st' := [vi (3 : Int32), vi v3]) (M1 := M) (pc' := 257) (tb_Model hγ) [.iload_n 3, .iconst 3] (by decide +kernel) rfl rfl trivial ?_
    refine E_icmp_ge (off := 30) (tgt := 287) (by decide +kernel) (by decide) (fun b9 => ?_) (fun b9 => ?_)
    · rw [if_pos b9] at h
      refine E_blk (lv' := [none, some (vr (some (12, v1))), none, some (vi v3), none]) (st' := []) (M1 := (sI (sI (sI M 12 v1 63 (0 : Int32)) 12 v1 65 (50 : Int32)) 12 v1 64 (50 : Int32))) (pc' := 304) (tb_Model hγ) [.aload_n 1, .iconst 0, .putfield 492, .aload_n 1, .bipush 50, .putfield 495, .aload_n 1, .bipush 50, .putfield 498] (by decide +kernel) rfl rfl trivial ?_
      obtain ⟨M10, eM10, h⟩ := h
      rw [← eM10]
      refine E_blk (lv' := [none, some (vr (some (12, v1))), none, some (vi (0 : Int32)), none]) (st' := []) (M1 := (sI M10 12 v1 70 (0 : Int32))) (pc' := 311) (tb_Model hγ) [.aload_n 1, .iconst 0, .putfield 501, .iconst 0, .istore_n 3] (by decide +kernel) rfl rfl trivial ?_
      obtain ⟨n17, h⟩ := h
      refine E_mask [false, true, false, true, false] rfl ?_
      exact lk_Model_beginWorld_L311 hγ this Q n17 v1 (0 : Int32) (sI M10 12 v1 70 (0 : Int32)) h
    · rw [if_neg b9] at h
      obtain ⟨c18, h⟩ := h
      refine E_blk (lv' := [none, some (vr (some (12, v1))), none, some (vi v3), none]) (st' := [vr (mR M 704 v1 v3.toNatClampNeg)]) (M1 := M) (pc' := 266) (tb_Model hγ) [.aload_n 1, .getfield 406, .iload_n 3, .aaload] (by decide +kernel) rfl rfl ⟨c18, trivial⟩ ?_
      obtain ⟨i19, ei19, h⟩ := h
      rw [ei19]
      obtain ⟨c20, h⟩ := h
      refine E_blk (lv' := [none, some (vr (some (12, v1))), none, some (vi v3), none]) (st' := [vr (mR (sI M 13 i19 0 (-2 : Int32)) 704 v1 v3.toNatClampNeg)]) (M1 := (sI M 13 i19 0 (-2 : Int32))) (pc' := 277) (tb_Model hγ) [.bipush (.negSucc 1), .putfield 486, .aload_n 1, .getfield 406, .iload_n 3, .aaload] (by decide +kernel) rfl rfl ⟨c20, trivial⟩ ?_
      obtain ⟨i21, ei21, h⟩ := h
      rw [ei21]
      obtain ⟨c22, h⟩ := h
      refine E_blk (lv' := [none, some (vr (some (12, v1))), none, some (vi (v3 + (1 : Int32))), none]) (st' := []) (M1 := (sI (sI M 13 i19 0 (-2 : Int32)) 13 i21 1 (0 : Int32))) (pc' := 284) (tb_Model hγ) [.iconst 0, .putfield 489, .iinc 3 1] (by decide +kernel) rfl rfl ⟨c22, trivial⟩ ?_
      refine E_goto (off := -29) (tgt := 255) (by decide +kernel) (by decide) ?_
      refine E_mask [false, true, false, true, false] rfl ?_
      exact ih v1 (v3 + (1 : Int32)) (sI (sI M 13 i19 0 (-2 : Int32)) 13 i21 1 (0 : Int32)) h
set_option maxRecDepth 4096 in
theorem lk_Model_beginWorld_j84 {γ : Gm} (hγ : Gk γ) (this : Nat) (Q : Mem → Prop) (k18 : Nat → Int32 → Mem → Prop) (hk18 : ∀ (v1 : Nat) (v3 : Int32) (M : Mem), k18 v1 v3 M → E γ k_Model_beginWorld 0 18 [some (vr (some (11, this))), some (vr (some (12, v1))), none, some (vi v3), none] [] M (Qv Q)) (v1 : Nat) (v3 : Int32) (s0 : Int32) (s1 : Int32) (s2 : Nat) (M : Mem) (h : w_Model_beginWorld_j84 this Q k18 v1 v3 s0 s1 s2 M) : E γ k_Model_beginWorld 0 84 [some (vr (some (11, this))), some (vr (some (12, v1))), none, some (vi v3), none] [vi s0, vi s1, vr (some (131, s2))] M (Qv Q) := by
  unfold w_Model_beginWorld_j84 at h
  obtain ⟨c26, c27, h⟩ := h
  refine E_blk (lv' := [some (vr (some (11, this))), some (vr (some (12, v1))), none, some (vi v3), none]) (st' := []) (M1 := (sI (sI M 131 s2 s1.toNatClampNeg s0) 132 v1 v3.toNatClampNeg (0 : Int32))) (pc' := 92) (tb_Model hγ) [.iastore, .aload_n 1, .getfield 429, .iload_n 3, .iconst 0, .iastore] (by decide +kernel) rfl rfl ⟨c26, c27, trivial⟩ ?_
  obtain ⟨M28, eM28, h⟩ := h
  rw [← eM28]
  obtain ⟨c29, c30, h⟩ := h
  refine E_blk (lv' := [some (vr (some (11, this))), some (vr (some (12, v1))), none, some (vi v3), none]) (st' := []) (M1 := (sI (sI M28 134 v1 v3.toNatClampNeg (0 : Int32)) 135 v1 v3.toNatClampNeg (0 : Int32))) (pc' := 106) (tb_Model hγ) [.aload_n 1, .getfield 432, .iload_n 3, .iconst 0, .iastore, .aload_n 1, .getfield 435, .iload_n 3, .iconst 0, .iastore] (by decide +kernel) rfl rfl ⟨c29, c30, trivial⟩ ?_
  obtain ⟨M31, eM31, h⟩ := h
  rw [← eM31]
  obtain ⟨c32, c33, h⟩ := h
  refine E_blk (lv' := [some (vr (some (11, this))), some (vr (some (12, v1))), none, some (vi v3), none]) (st' := []) (M1 := (sI (sI M31 136 v1 v3.toNatClampNeg (1 : Int32)) 137 v1 v3.toNatClampNeg (2 : Int32))) (pc' := 120) (tb_Model hγ) [.aload_n 1, .getfield 438, .iload_n 3, .iconst 1, .iastore, .aload_n 1, .getfield 441, .iload_n 3, .iconst 2, .iastore] (by decide +kernel) rfl rfl ⟨c32, c33, trivial⟩ ?_
  obtain ⟨M34, eM34, h⟩ := h
  rw [← eM34]
  obtain ⟨c35, c36, h⟩ := h
  refine E_blk (lv' := [some (vr (some (11, this))), some (vr (some (12, v1))), none, some (vi v3), some (vi ((12 : Int32) * v3))]) (st' := []) (M1 := (sI (sI M34 138 v1 v3.toNatClampNeg (1 : Int32)) 144 v1 ((12 : Int32) * v3).toNatClampNeg (mI (sI M34 138 v1 v3.toNatClampNeg (1 : Int32)) 11 this 6))) (pc' := 144) (tb_Model hγ) [.aload_n 1, .getfield 444, .iload_n 3, .iconst 1, .iastore, .bipush 12, .iload_n 3, .imul, .istore 4, .aload_n 1, .getfield 447, .iload 4, .aload_n 0, .getfield 121, .iastore] (by decide +kernel) rfl rfl ⟨c35, c36, trivial⟩ ?_
  obtain ⟨M37, eM37, h⟩ := h
  rw [← eM37]
  obtain ⟨c38, c39, h⟩ := h
  refine E_blk (lv' := [some (vr (some (11, this))), some (vr (some (12, v1))), none, some (vi v3), some (vi ((12 : Int32) * v3))]) (st' := []) (M1 := (sI (sI M37 145 v1 ((12 : Int32) * v3).toNatClampNeg (mI M37 11 this 38)) 146 v1 ((12 : Int32) * v3).toNatClampNeg (0 : Int32))) (pc' := 163) (tb_Model hγ) [.aload_n 1, .getfield 450, .iload 4, .aload_n 0, .getfield 258, .iastore, .aload_n 1, .getfield 453, .iload 4, .iconst 0, .iastore] (by decide +kernel) rfl rfl ⟨c38, c39, trivial⟩ ?_
  obtain ⟨M40, eM40, h⟩ := h
  rw [← eM40]
  obtain ⟨c41, c42, h⟩ := h
  refine E_blk (lv' := [some (vr (some (11, this))), some (vr (some (12, v1))), none, some (vi v3), some (vi ((12 : Int32) * v3))]) (st' := []) (M1 := (sI (sI M40 147 v1 ((12 : Int32) * v3).toNatClampNeg (0 : Int32)) 148 v1 ((12 : Int32) * v3).toNatClampNeg (0 : Int32))) (pc' := 179) (tb_Model hγ) [.aload_n 1, .getfield 456, .iload 4, .iconst 0, .iastore, .aload_n 1, .getfield 459, .iload 4, .iconst 0, .iastore] (by decide +kernel) rfl rfl ⟨c41, c42, trivial⟩ ?_
  obtain ⟨M43, eM43, h⟩ := h
  rw [← eM43]
  obtain ⟨c44, c45, h⟩ := h
  refine E_blk (lv' := [some (vr (some (11, this))), some (vr (some (12, v1))), none, some (vi v3), some (vi ((12 : Int32) * v3))]) (st' := []) (M1 := (sI (sI M43 149 v1 ((12 : Int32) * v3).toNatClampNeg (0 : Int32)) 150 v1 ((12 : Int32) * v3).toNatClampNeg (0 : Int32))) (pc' := 195) (tb_Model hγ) [.aload_n 1, .getfield 462, .iload 4, .iconst 0, .iastore, .aload_n 1, .getfield 465, .iload 4, .iconst 0, .iastore] (by decide +kernel) rfl rfl ⟨c44, c45, trivial⟩ ?_
  obtain ⟨M46, eM46, h⟩ := h
  rw [← eM46]
  obtain ⟨c47, h⟩ := h
  refine E_blk (lv' := [some (vr (some (11, this))), some (vr (some (12, v1))), none, some (vi (v3 + (1 : Int32))), some (vi ((12 : Int32) * v3))]) (st' := []) (M1 := (sI M46 151 v1 ((12 : Int32) * v3).toNatClampNeg (0 : Int32))) (pc' := 206) (tb_Model hγ) [.aload_n 1, .getfield 468, .iload 4, .iconst 0, .iastore, .iinc 3 1] (by decide +kernel) rfl rfl ⟨c47, trivial⟩ ?_
  refine E_goto (off := -188) (tgt := 18) (by decide +kernel) (by decide) ?_
  refine E_mask [true, true, false, true, false] rfl ?_
  exact hk18 v1 (v3 + (1 : Int32)) (sI M46 151 v1 ((12 : Int32) * v3).toNatClampNeg (0 : Int32)) h
set_option maxRecDepth 4096 in
theorem lk_Model_beginWorld_L18 {γ : Gm} (hγ : Gk γ) (this : Nat) (Q : Mem → Prop) : ∀ (n : Nat) (v1 : Nat) (v3 : Int32) (M : Mem), w_Model_beginWorld_L18 this Q n v1 v3 M → E γ k_Model_beginWorld 0 18 [some (vr (some (11, this))), some (vr (some (12, v1))), none, some (vi v3), none] [] M (Qv Q) := by
  intro n
  induction n with
  | zero => intro v1 v3 M h; exact h.elim
  | succ n ih =>
    intro v1 v3 M h
    unfold w_Model_beginWorld_L18 at h
    refine E_blk (lv' := [some (vr (some (11, this))), some (vr (some (12, v1))), none, some (vi v3), none]) (st' := [vi (21 : Int32), vi v3]) (M1 := M) (pc' := 21) (tb_Model hγ) [.iload_n 3, .bipush 21] (by decide +kernel) rfl rfl trivial ?_
    refine E_icmp_ge (off := 188) (tgt := 209) (by decide +kernel) (by decide) (fun b2 => ?_) (fun b2 => ?_)
    · rw [if_pos b2] at h
      refine E_blk (lv' := [some (vr (some (11, this))), some (vr (some (12, v1))), none, some (vi v3), none]) (st' := []) (M1 := (sI (sI (sI M 12 v1 35 (0 : Int32)) 12 v1 37 (0 : Int32)) 12 v1 41 (0 : Int32))) (pc' := 224) (tb_Model hγ) [.aload_n 1, .iconst 0, .putfield 471, .aload_n 1, .iconst 0, .putfield 474, .aload_n 1, .iconst 0, .putfield 477] (by decide +kernel) rfl rfl trivial ?_
      obtain ⟨M3, eM3, h⟩ := h
      rw [← eM3]
      obtain ⟨c4, h⟩ := h
      refine E_blk (lv' := [some (vr (some (11, this))), some (vr (some (12, v1))), none, some (vi v3), none]) (st' := []) (M1 := (sI (sI M3 12 v1 43 (0 : Int32)) 156 v1 (0 : Int32).toNatClampNeg (-2 : Int32))) (pc' := 237) (tb_Model hγ) [.aload_n 1, .iconst 0, .putfield 480, .aload_n 1, .getfield 483, .iconst 0, .bipush (.negSucc 1), .iastore] (by decide +kernel) rfl rfl ⟨c4, trivial⟩ ?_
      obtain ⟨M5, eM5, h⟩ := h
      rw [← eM5]
      obtain ⟨c6, c7, h⟩ := h
      refine E_blk (lv' := [some (vr (some (11, this))), some (vr (some (12, v1))), none, some (vi v3), none]) (st' := []) (M1 := (sI (sI M5 156 v1 (1 : Int32).toNatClampNeg (-2 : Int32)) 156 v1 (2 : Int32).toNatClampNeg (-2 : Int32))) (pc' := 253) (tb_Model hγ) [.aload_n 1, .getfield 483, .iconst 1, .bipush (.negSucc 1), .iastore, .aload_n 1, .getfield 483, .iconst 2, .bipush (.negSucc 1), .iastore] (by decide +kernel) rfl rfl ⟨c6, c7, trivial⟩ ?_
      obtain ⟨M8, eM8, h⟩ := h
      rw [← eM8]
      refine E_blk (lv' := [some (vr (some (11, this))), some (vr (some (12, v1))), none, some (vi (0 : Int32)), none]) (st' := []) (M1 := M8) (pc' := 255) (tb_Model hγ) [.iconst 0, .istore_n 3] (by decide +kernel) rfl rfl trivial ?_
      obtain ⟨n23, h⟩ := h
      refine E_mask [false, true, false, true, false] rfl ?_
      exact lk_Model_beginWorld_L255 hγ this Q n23 v1 (0 : Int32) M8 h
    · rw [if_neg b2] at h
      obtain ⟨c24, h⟩ := h
      refine E_blk (lv' := [some (vr (some (11, this))), some (vr (some (12, v1))), none, some (vi v3), none]) (st' := [vi v3, vi v3, vr (some (131, v1))]) (M1 := (sI M 130 v1 v3.toNatClampNeg ((mI M 11 this 8) + v3))) (pc' := 42) (tb_Model hγ) [.aload_n 1, .getfield 423, .iload_n 3, .aload_n 0, .getfield 153, .iload_n 3, .iadd, .iastore, .aload_n 1, .getfield 426, .iload_n 3, .iload_n 3] (by decide +kernel) rfl rfl ⟨c24, trivial⟩ ?_
      refine E_if_ne (off := 8) (tgt := 50) (by decide +kernel) (by decide) (fun b25 => ?_) (fun b25 => ?_)
      · rw [if_pos b25] at h
        refine E_blk (lv' := [some (vr (some (11, this))), some (vr (some (12, v1))), none, some (vi v3), none]) (st' := [vi (-2 : Int32), vi v3, vr (some (131, v1))]) (M1 := (sI M 130 v1 v3.toNatClampNeg ((mI M 11 this 8) + v3))) (pc' := 47) (tb_Model hγ) [.bipush (.negSucc 1)] (by decide +kernel) rfl rfl trivial ?_
        refine E_goto (off := 37) (tgt := 84) (by decide +kernel) (by decide) ?_
        refine E_mask [true, true, false, true, false] rfl ?_
        exact lk_Model_beginWorld_j84 hγ this Q (w_Model_beginWorld_L18 this Q n) ih v1 v3 (-2 : Int32) v3 v1 (sI M 130 v1 v3.toNatClampNeg ((mI M 11 this 8) + v3)) h
      · rw [if_neg b25] at h
        refine E_blk (lv' := [some (vr (some (11, this))), some (vr (some (12, v1))), none, some (vi v3), none]) (st' := [vi (1 : Int32), vi v3, vi v3, vr (some (131, v1))]) (M1 := (sI M 130 v1 v3.toNatClampNeg ((mI M 11 this 8) + v3))) (pc' := 52) (tb_Model hγ) [.iload_n 3, .iconst 1] (by decide +kernel) rfl rfl trivial ?_
        refine E_icmp_ne (off := 10) (tgt := 62) (by decide +kernel) (by decide) (fun b48 => ?_) (fun b48 => ?_)
        · rw [if_pos b48] at h
          refine E_blk (lv' := [some (vr (some (11, this))), some (vr (some (12, v1))), none, some (vi v3), none]) (st' := [vi (mI (sI M 130 v1 v3.toNatClampNeg ((mI M 11 this 8) + v3)) 11 this 8), vi v3, vr (some (131, v1))]) (M1 := (sI M 130 v1 v3.toNatClampNeg ((mI M 11 this 8) + v3))) (pc' := 59) (tb_Model hγ) [.aload_n 0, .getfield 153] (by decide +kernel) rfl rfl trivial ?_
          refine E_goto (off := 25) (tgt := 84) (by decide +kernel) (by decide) ?_
          refine E_mask [true, true, false, true, false] rfl ?_
          exact lk_Model_beginWorld_j84 hγ this Q (w_Model_beginWorld_L18 this Q n) ih v1 v3 (mI (sI M 130 v1 v3.toNatClampNeg ((mI M 11 this 8) + v3)) 11 this 8) v3 v1 (sI M 130 v1 v3.toNatClampNeg ((mI M 11 this 8) + v3)) h
        · rw [if_neg b48] at h
          refine E_blk (lv' := [some (vr (some (11, this))), some (vr (some (12, v1))), none, some (vi v3), none]) (st' := [vi (10 : Int32), vi v3, vi v3, vr (some (131, v1))]) (M1 := (sI M 130 v1 v3.toNatClampNeg ((mI M 11 this 8) + v3))) (pc' := 65) (tb_Model hγ) [.iload_n 3, .bipush 10] (by decide +kernel) rfl rfl trivial ?_
          refine E_icmp_gt (off := 12) (tgt := 77) (by decide +kernel) (by decide) (fun b49 => ?_) (fun b49 => ?_)
          · rw [if_pos b49] at h
            refine E_blk (lv' := [some (vr (some (11, this))), some (vr (some (12, v1))), none, some (vi v3), none]) (st' := [vi ((mI (sI M 130 v1 v3.toNatClampNeg ((mI M 11 this 8) + v3)) 11 this 8) + (10 : Int32)), vi v3, vr (some (131, v1))]) (M1 := (sI M 130 v1 v3.toNatClampNeg ((mI M 11 this 8) + v3))) (pc' := 84) (tb_Model hγ) [.aload_n 0, .getfield 153, .bipush 10, .iadd] (by decide +kernel) rfl rfl trivial ?_
            refine E_mask [true, true, false, true, false] rfl ?_
            exact lk_Model_beginWorld_j84 hγ this Q (w_Model_beginWorld_L18 this Q n) ih v1 v3 ((mI (sI M 130 v1 v3.toNatClampNeg ((mI M 11 this 8) + v3)) 11 this 8) + (10 : Int32)) v3 v1 (sI M 130 v1 v3.toNatClampNeg ((mI M 11 this 8) + v3)) h
          · rw [if_neg b49] at h
            refine E_blk (lv' := [some (vr (some (11, this))), some (vr (some (12, v1))), none, some (vi v3), none]) (st' := [vi ((mI (sI M 130 v1 v3.toNatClampNeg ((mI M 11 this 8) + v3)) 11 this 8) + (1 : Int32)), vi v3, vr (some (131, v1))]) (M1 := (sI M 130 v1 v3.toNatClampNeg ((mI M 11 this 8) + v3))) (pc' := 74) (tb_Model hγ) [.aload_n 0, .getfield 153, .iconst 1, .iadd] (by decide +kernel) rfl rfl trivial ?_
            refine E_goto (off := 10) (tgt := 84) (by decide +kernel) (by decide) ?_
            refine E_mask [true, true, false, true, false] rfl ?_
            exact lk_Model_beginWorld_j84 hγ this Q (w_Model_beginWorld_L18 this Q n) ih v1 v3 ((mI (sI M 130 v1 v3.toNatClampNeg ((mI M 11 this 8) + v3)) 11 this 8) + (1 : Int32)) v3 v1 (sI M 130 v1 v3.toNatClampNeg ((mI M 11 this 8) + v3)) h
set_option maxRecDepth 4096 in
theorem lk_Model_beginWorld {γ : Gm} (hγ : Gk γ) (this : Nat) (a1 : Nat) (a2 : Int32) (Q : Mem → Prop) (M : Mem) (h : w_Model_beginWorld this a1 a2 Q M) : E γ k_Model_beginWorld 0 0 [some (vr (some (11, this))), some (vr (some (12, a1))), some (vi a2), none, none] [] M (Qv Q) := by
  unfold w_Model_beginWorld at h
  obtain ⟨c1, h⟩ := h
  refine E_blk (lv' := [some (vr (some (11, this))), some (vr (some (12, a1))), some (vi a2), some (vi (0 : Int32)), none]) (st' := []) (M1 := (sI (sI (sI M 12 a1 0 (1 : Int32)) 12 a1 1 a2) 12 a1 2 (21 : Int32))) (pc' := 18) (tb_Model hγ) [.aload_n 1, .iconst 1, .putfield 413, .aload_n 1, .iload_n 2, .putfield 417, .aload_n 1, .bipush 21, .putfield 420, .iconst 0, .istore_n 3] (by decide +kernel) rfl rfl ⟨c1, trivial⟩ ?_
  obtain ⟨n50, h⟩ := h
  refine E_mask [true, true, false, true, false] rfl ?_
  exact lk_Model_beginWorld_L18 hγ this Q n50 a1 (0 : Int32) (sI (sI (sI M 12 a1 0 (1 : Int32)) 12 a1 1 a2) 12 a1 2 (21 : Int32)) h
def w_Model_classOf_L2 (this : Nat) (Q : Int32 → Mem → Prop) : Nat → Int32 → Int32 → Mem → Prop
  | 0, _, _, _ => False
  | n + 1, v1, v2, M => ∃ i1, (mR M 11 this 45) = some (12, i1) ∧ if (mI M 12 i1 2) ≤ v2 then (Q (-2 : Int32) M) else (∃ i3, (mR M 11 this 45) = some (12, i3) ∧ vp_in v2 (mL M 130 i3) ∧ if (mI M 130 i3 v2.toNatClampNeg) = v1 then (Q v2 M) else ((w_Model_classOf_L2 this Q n) v1 (v2 + (1 : Int32)) M))
def w_Model_classOf (this : Nat) (a1 : Int32) (Q : Int32 → Mem → Prop) (M : Mem) : Prop :=
  ∃ n6 : Nat, w_Model_classOf_L2 this Q n6 a1 (0 : Int32) M
set_option maxRecDepth 4096 in
theorem lk_Model_classOf_L2 {γ : Gm} (hγ : Gk γ) (this : Nat) (Q : Int32 → Mem → Prop) : ∀ (n : Nat) (v1 : Int32) (v2 : Int32) (M : Mem), w_Model_classOf_L2 this Q n v1 v2 M → E γ k_Model_classOf 0 2 [some (vr (some (11, this))), some (vi v1), some (vi v2)] [] M (Qi Q) := by
  intro n
  induction n with
  | zero => intro v1 v2 M h; exact h.elim
  | succ n ih =>
    intro v1 v2 M h
    unfold w_Model_classOf_L2 at h
    refine E_blk (lv' := [some (vr (some (11, this))), some (vi v1), some (vi v2)]) (st' := [vr (mR M 11 this 45), vi v2]) (M1 := M) (pc' := 7) (tb_Model hγ) [.iload_n 2, .aload_n 0, .getfield 522] (by decide +kernel) rfl rfl trivial ?_
    obtain ⟨i1, ei1, h⟩ := h
    rw [ei1]
    refine E_blk (lv' := [some (vr (some (11, this))), some (vi v1), some (vi v2)]) (st' := [vi (mI M 12 i1 2), vi v2]) (M1 := M) (pc' := 10) (tb_Model hγ) [.getfield 420] (by decide +kernel) rfl rfl trivial ?_
    refine E_icmp_ge (off := 24) (tgt := 34) (by decide +kernel) (by decide) (fun b2 => ?_) (fun b2 => ?_)
    · rw [if_pos b2] at h
      refine E_blk (lv' := [some (vr (some (11, this))), some (vi v1), some (vi v2)]) (st' := [vi (-2 : Int32)]) (M1 := M) (pc' := 36) (tb_Model hγ) [.bipush (.negSucc 1)] (by decide +kernel) rfl rfl trivial ?_
      exact E_iret rfl (by decide +kernel) h
    · rw [if_neg b2] at h
      refine E_blk (lv' := [some (vr (some (11, this))), some (vi v1), some (vi v2)]) (st' := [vr (mR M 11 this 45)]) (M1 := M) (pc' := 17) (tb_Model hγ) [.aload_n 0, .getfield 522] (by decide +kernel) rfl rfl trivial ?_
      obtain ⟨i3, ei3, h⟩ := h
      rw [ei3]
      obtain ⟨c4, h⟩ := h
      refine E_blk (lv' := [some (vr (some (11, this))), some (vi v1), some (vi v2)]) (st' := [vi v1, vi (mI M 130 i3 v2.toNatClampNeg)]) (M1 := M) (pc' := 23) (tb_Model hγ) [.getfield 423, .iload_n 2, .iaload, .iload_n 1] (by decide +kernel) rfl rfl ⟨c4, trivial⟩ ?_
      refine E_icmp_ne (off := 5) (tgt := 28) (by decide +kernel) (by decide) (fun b5 => ?_) (fun b5 => ?_)
      · rw [if_pos b5] at h
        refine E_blk (lv' := [some (vr (some (11, this))), some (vi v1), some (vi v2)]) (st' := [vi v2]) (M1 := M) (pc' := 27) (tb_Model hγ) [.iload_n 2] (by decide +kernel) rfl rfl trivial ?_
        exact E_iret rfl (by decide +kernel) h
      · rw [if_neg b5] at h
        refine E_blk (lv' := [some (vr (some (11, this))), some (vi v1), some (vi (v2 + (1 : Int32)))]) (st' := []) (M1 := M) (pc' := 31) (tb_Model hγ) [.iinc 2 1] (by decide +kernel) rfl rfl trivial ?_
        refine E_goto (off := -29) (tgt := 2) (by decide +kernel) (by decide) ?_
        refine E_mask [true, true, true] rfl ?_
        exact ih v1 (v2 + (1 : Int32)) M h
set_option maxRecDepth 4096 in
theorem lk_Model_classOf {γ : Gm} (hγ : Gk γ) (this : Nat) (a1 : Int32) (Q : Int32 → Mem → Prop) (M : Mem) (h : w_Model_classOf this a1 Q M) : E γ k_Model_classOf 0 0 [some (vr (some (11, this))), some (vi a1), none] [] M (Qi Q) := by
  unfold w_Model_classOf at h
  refine E_blk (lv' := [some (vr (some (11, this))), some (vi a1), some (vi (0 : Int32))]) (st' := []) (M1 := M) (pc' := 2) (tb_Model hγ) [.iconst 0, .istore_n 2] (by decide +kernel) rfl rfl trivial ?_
  obtain ⟨n6, h⟩ := h
  refine E_mask [true, true, true] rfl ?_
  exact lk_Model_classOf_L2 hγ this Q n6 a1 (0 : Int32) M h
def w_Model_isOff (this : Nat) (a1 : Int32) (Q : Int32 → Mem → Prop) (M : Mem) : Prop :=
  ∃ i1, (mR M 11 this 45) = some (12, i1) ∧ if (((mI M 12 i1 1) >>> (a1 &&& 31)) &&& (1 : Int32)) = (1 : Int32) then (Q (1 : Int32) M) else (Q (0 : Int32) M)
set_option maxRecDepth 4096 in
theorem lk_Model_isOff {γ : Gm} (hγ : Gk γ) (this : Nat) (a1 : Int32) (Q : Int32 → Mem → Prop) (M : Mem) (h : w_Model_isOff this a1 Q M) : E γ k_Model_isOff 0 0 [some (vr (some (11, this))), some (vi a1)] [] M (Qi Q) := by
  unfold w_Model_isOff at h
  refine E_blk (lv' := [some (vr (some (11, this))), some (vi a1)]) (st' := [vr (mR M 11 this 45)]) (M1 := M) (pc' := 4) (tb_Model hγ) [.aload_n 0, .getfield 522] (by decide +kernel) rfl rfl trivial ?_
  obtain ⟨i1, ei1, h⟩ := h
  rw [ei1]
  refine E_blk (lv' := [some (vr (some (11, this))), some (vi a1)]) (st' := [vi (1 : Int32), vi (((mI M 12 i1 1) >>> (a1 &&& 31)) &&& (1 : Int32))]) (M1 := M) (pc' := 12) (tb_Model hγ) [.getfield 417, .iload_n 1, .ishr, .iconst 1, .iand, .iconst 1] (by decide +kernel) rfl rfl trivial ?_
  refine E_icmp_ne (off := 7) (tgt := 19) (by decide +kernel) (by decide) (fun b2 => ?_) (fun b2 => ?_)
  · rw [if_pos b2] at h
    refine E_blk (lv' := [some (vr (some (11, this))), some (vi a1)]) (st' := [vi (1 : Int32)]) (M1 := M) (pc' := 16) (tb_Model hγ) [.iconst 1] (by decide +kernel) rfl rfl trivial ?_
    refine E_goto (off := 4) (tgt := 20) (by decide +kernel) (by decide) ?_
    exact E_zret rfl (Or.inr rfl) (by decide +kernel) h
  · rw [if_neg b2] at h
    refine E_blk (lv' := [some (vr (some (11, this))), some (vi a1)]) (st' := [vi (0 : Int32)]) (M1 := M) (pc' := 20) (tb_Model hγ) [.iconst 0] (by decide +kernel) rfl rfl trivial ?_
    exact E_zret rfl (Or.inl rfl) (by decide +kernel) h
def w_Model_wrong (this : Nat) (Q : Mem → Prop) (X : Mem → Prop) (M : Mem) : Prop :=
  vp_in (mI (sI M 11 this 49 (1 : Int32)) 11 this 43) (mL (sI M 11 this 49 (1 : Int32)) 108 this) ∧ ∃ M2, M2 = (sI (sI M 11 this 49 (1 : Int32)) 11 this 50 (mI (sI M 11 this 49 (1 : Int32)) 108 this (mI (sI M 11 this 49 (1 : Int32)) 11 this 43).toNatClampNeg)) ∧ X M2
set_option maxRecDepth 4096 in
theorem lk_Model_wrong {γ : Gm} (hγ : Gk γ) (this : Nat) (Q : Mem → Prop) (X : Mem → Prop) (M : Mem) (h : w_Model_wrong this Q X M) : E γ k_Model_wrong 0 0 [some (vr (some (11, this)))] [] M (Qx (14, 0) (Qv Q) X) := by
  unfold w_Model_wrong at h
  obtain ⟨c1, h⟩ := h
  refine E_blk (lv' := [some (vr (some (11, this)))]) (st' := []) (M1 := (sI (sI M 11 this 49 (1 : Int32)) 11 this 50 (mI (sI M 11 this 49 (1 : Int32)) 108 this (mI (sI M 11 this 49 (1 : Int32)) 11 this 43).toNatClampNeg))) (pc' := 18) (tb_Model hγ) [.aload_n 0, .iconst 1, .putfield 526, .aload_n 0, .aload_n 0, .getfield 101, .aload_n 0, .getfield 104, .iaload, .putfield 529] (by decide +kernel) rfl rfl ⟨c1, trivial⟩ ?_
  obtain ⟨M2, eM2, h⟩ := h
  rw [← eM2]
  refine E_blk (lv' := [some (vr (some (11, this)))]) (st' := [vr (some (14, 0))]) (M1 := M2) (pc' := 22) (tb_Model hγ) [.aload_n 0, .getfield 274] (by decide +kernel) rfl rfl trivial ?_
  exact E_throw (by decide) rfl (by decide +kernel) h
def w_Model_refuse (this : Nat) (a1 : Int32) (a2 : Int32) (Q : Mem → Prop) (X : Mem → Prop) (M : Mem) : Prop :=
  X (sI (sI M 11 this 49 a1) 11 this 50 a2)
set_option maxRecDepth 4096 in
theorem lk_Model_refuse {γ : Gm} (hγ : Gk γ) (this : Nat) (a1 : Int32) (a2 : Int32) (Q : Mem → Prop) (X : Mem → Prop) (M : Mem) (h : w_Model_refuse this a1 a2 Q X M) : E γ k_Model_refuse 0 0 [some (vr (some (11, this))), some (vi a1), some (vi a2)] [] M (Qx (14, 0) (Qv Q) X) := by
  unfold w_Model_refuse at h
  refine E_blk (lv' := [some (vr (some (11, this))), some (vi a1), some (vi a2)]) (st' := [vr (some (14, 0))]) (M1 := (sI (sI M 11 this 49 a1) 11 this 50 a2)) (pc' := 14) (tb_Model hγ) [.aload_n 0, .iload_n 1, .putfield 526, .aload_n 0, .iload_n 2, .putfield 529, .aload_n 0, .getfield 274] (by decide +kernel) rfl rfl trivial ?_
  exact E_throw (by decide) rfl (by decide +kernel) h
def w_Model_asks (this : Nat) (a1 : Int32) (a2 : Int32) (Q : Mem → Prop) (M : Mem) : Prop :=
  if a2 = 0 then (Q M) else (if (mI M 11 this 51) ≤ a1 then (Q M) else (Q (sI M 11 this 51 a1)))
set_option maxRecDepth 4096 in
theorem lk_Model_asks {γ : Gm} (hγ : Gk γ) (this : Nat) (a1 : Int32) (a2 : Int32) (Q : Mem → Prop) (M : Mem) (h : w_Model_asks this a1 a2 Q M) : E γ k_Model_asks 0 0 [some (vr (some (11, this))), some (vi a1), some (vi a2)] [] M (Qv Q) := by
  unfold w_Model_asks at h
  refine E_blk (lv' := [some (vr (some (11, this))), some (vi a1), some (vi a2)]) (st' := [vi a2]) (M1 := M) (pc' := 1) (tb_Model hγ) [.iload_n 2] (by decide +kernel) rfl rfl trivial ?_
  refine E_if_eq (off := 16) (tgt := 17) (by decide +kernel) (by decide) (fun b1 => ?_) (fun b1 => ?_)
  · rw [if_pos b1] at h
    exact E_vret rfl (by decide +kernel) h
  · rw [if_neg b1] at h
    refine E_blk (lv' := [some (vr (some (11, this))), some (vi a1), some (vi a2)]) (st' := [vi (mI M 11 this 51), vi a1]) (M1 := M) (pc' := 9) (tb_Model hγ) [.iload_n 1, .aload_n 0, .getfield 532] (by decide +kernel) rfl rfl trivial ?_
    refine E_icmp_ge (off := 8) (tgt := 17) (by decide +kernel) (by decide) (fun b2 => ?_) (fun b2 => ?_)
    · rw [if_pos b2] at h
      exact E_vret rfl (by decide +kernel) h
    · rw [if_neg b2] at h
      refine E_blk (lv' := [some (vr (some (11, this))), some (vi a1), some (vi a2)]) (st' := []) (M1 := (sI M 11 this 51 a1)) (pc' := 17) (tb_Model hγ) [.aload_n 0, .iload_n 1, .putfield 532] (by decide +kernel) rfl rfl trivial ?_
      exact E_vret rfl (by decide +kernel) h
def w_Model_need_j17 (this : Nat) (Q : Mem → Prop) (X : Mem → Prop)  (M : Mem) : Prop :=
  Q (sI M 11 this 43 ((mI M 11 this 43) + (1 : Int32)))
def w_Model_need (this : Nat) (a1 : Int32) (Q : Mem → Prop) (X : Mem → Prop) (M : Mem) : Prop :=
  vp_in (mI M 11 this 43) (mL M 411 this) ∧ if (mI M 411 this (mI M 11 this 43).toNatClampNeg) = a1 then (w_Model_need_j17 this Q X  M) else (w_Model_wrong this (fun M3 => w_Model_need_j17 this Q X  M3) X M)
set_option maxRecDepth 4096 in
theorem lk_Model_need_j17 {γ : Gm} (hγ : Gk γ) (this : Nat) (Q : Mem → Prop) (X : Mem → Prop)  (M : Mem) (h : w_Model_need_j17 this Q X  M) : E γ k_Model_need 1 17 [some (vr (some (11, this))), none] [] M (Qx (14, 0) (Qv Q) X) := by
  unfold w_Model_need_j17 at h
  refine E_blk (lv' := [some (vr (some (11, this))), none]) (st' := []) (M1 := (sI M 11 this 43 ((mI M 11 this 43) + (1 : Int32)))) (pc' := 27) (tb_Model hγ) [.aload_n 0, .dup, .getfield 104, .iconst 1, .iadd, .putfield 104] (by decide +kernel) rfl rfl trivial ?_
  exact (E_vret rfl (by decide +kernel) h).nx
set_option maxRecDepth 4096 in
theorem lk_Model_need {γ : Gm} (hγ : Gk γ) (this : Nat) (a1 : Int32) (Q : Mem → Prop) (X : Mem → Prop) (M : Mem) (h : w_Model_need this a1 Q X M) : E γ k_Model_need 1 0 [some (vr (some (11, this))), some (vi a1)] [] M (Qx (14, 0) (Qv Q) X) := by
  unfold w_Model_need at h
  obtain ⟨c1, h⟩ := h
  refine E_blk (lv' := [some (vr (some (11, this))), some (vi a1)]) (st' := [vi a1, vi (mI M 411 this (mI M 11 this 43).toNatClampNeg)]) (M1 := M) (pc' := 10) (tb_Model hγ) [.aload_n 0, .getfield 92, .aload_n 0, .getfield 104, .baload, .iload_n 1] (by decide +kernel) rfl rfl ⟨c1, trivial⟩ ?_
  refine E_icmp_eq (off := 7) (tgt := 17) (by decide +kernel) (by decide) (fun b2 => ?_) (fun b2 => ?_)
  · rw [if_pos b2] at h
    refine E_mask [true, false] rfl ?_
    exact lk_Model_need_j17 hγ this Q X  M h
  · rw [if_neg b2] at h
    refine E_blk (lv' := [some (vr (some (11, this))), some (vi a1)]) (st' := [vr (some (11, this))]) (M1 := M) (pc' := 14) (tb_Model hγ) [.aload_n 0] (by decide +kernel) rfl rfl trivial ?_
    refine E_callX (κ' := k_Model_wrong) (As := []) (st := []) mv_Model_wrong (Or.inl (tbk_mem (j := 15) (k := 19) rfl)) rfl (by decide +kernel) (Nat.le_of_ble_eq_true rfl) (Nat.le_of_ble_eq_true rfl) rfl (by decide) rfl (lk_Model_wrong hγ this _ _ M h) (fun _ _ => Qv_r) (fun _ h => h) (fun v M3 hp => Qv_k (R := fun st => E γ k_Model_need 1 17 [some (vr (some (11, this))), some (vi a1)] st M3 (Qx (14, 0) (Qv Q) X)) hp (fun h => ?_))
    refine E_mask [true, false] rfl ?_
    exact lk_Model_need_j17 hγ this Q X  M3 h
def w_Model_isWord (this : Nat) (a1 : Int32) (Q : Int32 → Mem → Prop) (M : Mem) : Prop :=
  vp_in (mI M 11 this 43) (mL M 411 this) ∧ if (mI M 411 this (mI M 11 this 43).toNatClampNeg) = (2 : Int32) then (vp_in (mI M 11 this 43) (mL M 107 this) ∧ if (mI M 107 this (mI M 11 this 43).toNatClampNeg) = a1 then (Q (1 : Int32) M) else (Q (0 : Int32) M)) else (Q (0 : Int32) M)
set_option maxRecDepth 4096 in
theorem lk_Model_isWord {γ : Gm} (hγ : Gk γ) (this : Nat) (a1 : Int32) (Q : Int32 → Mem → Prop) (M : Mem) (h : w_Model_isWord this a1 Q M) : E γ k_Model_isWord 0 0 [some (vr (some (11, this))), some (vi a1)] [] M (Qi Q) := by
  unfold w_Model_isWord at h
  obtain ⟨c1, h⟩ := h
  refine E_blk (lv' := [some (vr (some (11, this))), some (vi a1)]) (st' := [vi (2 : Int32), vi (mI M 411 this (mI M 11 this 43).toNatClampNeg)]) (M1 := M) (pc' := 10) (tb_Model hγ) [.aload_n 0, .getfield 92, .aload_n 0, .getfield 104, .baload, .iconst 2] (by decide +kernel) rfl rfl ⟨c1, trivial⟩ ?_
  refine E_icmp_ne (off := 20) (tgt := 30) (by decide +kernel) (by decide) (fun b2 => ?_) (fun b2 => ?_)
  · rw [if_pos b2] at h
    obtain ⟨c3, h⟩ := h
    refine E_blk (lv' := [some (vr (some (11, this))), some (vi a1)]) (st' := [vi a1, vi (mI M 107 this (mI M 11 this 43).toNatClampNeg)]) (M1 := M) (pc' := 23) (tb_Model hγ) [.aload_n 0, .getfield 98, .aload_n 0, .getfield 104, .iaload, .iload_n 1] (by decide +kernel) rfl rfl ⟨c3, trivial⟩ ?_
    refine E_icmp_ne (off := 7) (tgt := 30) (by decide +kernel) (by decide) (fun b4 => ?_) (fun b4 => ?_)
    · rw [if_pos b4] at h
      refine E_blk (lv' := [some (vr (some (11, this))), some (vi a1)]) (st' := [vi (1 : Int32)]) (M1 := M) (pc' := 27) (tb_Model hγ) [.iconst 1] (by decide +kernel) rfl rfl trivial ?_
      refine E_goto (off := 4) (tgt := 31) (by decide +kernel) (by decide) ?_
      exact E_zret rfl (Or.inr rfl) (by decide +kernel) h
    · rw [if_neg b4] at h
      refine E_blk (lv' := [some (vr (some (11, this))), some (vi a1)]) (st' := [vi (0 : Int32)]) (M1 := M) (pc' := 31) (tb_Model hγ) [.iconst 0] (by decide +kernel) rfl rfl trivial ?_
      exact E_zret rfl (Or.inl rfl) (by decide +kernel) h
  · rw [if_neg b2] at h
    refine E_blk (lv' := [some (vr (some (11, this))), some (vi a1)]) (st' := [vi (0 : Int32)]) (M1 := M) (pc' := 31) (tb_Model hγ) [.iconst 0] (by decide +kernel) rfl rfl trivial ?_
    exact E_zret rfl (Or.inl rfl) (by decide +kernel) h
def w_Model_takes_j20 (this : Nat) (Q : Int32 → Mem → Prop) (v2 : Int32) (s0 : Int32) (s1 : Int32) (M : Mem) : Prop :=
  (v2 = 0 ∨ v2 = 1) ∧ Q v2 (sI M 11 this 43 (s1 + s0))
def w_Model_takes (this : Nat) (a1 : Int32) (Q : Int32 → Mem → Prop) (M : Mem) : Prop :=
  w_Model_isWord this a1 (fun r2 M1 => if r2 = 0 then (w_Model_takes_j20 this Q r2 (0 : Int32) (mI M1 11 this 43) M1) else (w_Model_takes_j20 this Q r2 (1 : Int32) (mI M1 11 this 43) M1)) M
set_option maxRecDepth 4096 in
theorem lk_Model_takes_j20 {γ : Gm} (hγ : Gk γ) (this : Nat) (Q : Int32 → Mem → Prop) (v2 : Int32) (s0 : Int32) (s1 : Int32) (M : Mem) (h : w_Model_takes_j20 this Q v2 s0 s1 M) : E γ k_Model_takes 1 20 [none, none, some (vi v2)] [vi s0, vi s1, vr (some (11, this))] M (Qi Q) := by
  unfold w_Model_takes_j20 at h
  refine E_blk (lv' := [none, none, some (vi v2)]) (st' := [vi v2]) (M1 := (sI M 11 this 43 (s1 + s0))) (pc' := 25) (tb_Model hγ) [.iadd, .putfield 104, .iload_n 2] (by decide +kernel) rfl rfl trivial ?_
  exact E_zret rfl h.1 (by decide +kernel) h.2
set_option maxRecDepth 4096 in
theorem lk_Model_takes {γ : Gm} (hγ : Gk γ) (this : Nat) (a1 : Int32) (Q : Int32 → Mem → Prop) (M : Mem) (h : w_Model_takes this a1 Q M) : E γ k_Model_takes 1 0 [some (vr (some (11, this))), some (vi a1), none] [] M (Qi Q) := by
  unfold w_Model_takes at h
  refine E_blk (lv' := [some (vr (some (11, this))), some (vi a1), none]) (st' := [vi a1, vr (some (11, this))]) (M1 := M) (pc' := 2) (tb_Model hγ) [.aload_n 0, .iload_n 1] (by decide +kernel) rfl rfl trivial ?_
  refine E_callV (κ' := k_Model_isWord) (As := [vi a1]) (st := []) mv_Model_isWord (Or.inl (tbk_mem (j := 14) (k := 230) rfl)) rfl (by decide +kernel) (Nat.le_of_ble_eq_true rfl) (Nat.le_of_ble_eq_true rfl) rfl (by decide) (lk_Model_isWord hγ this a1 _ M h) (fun _ _ => Qi_r) (fun v M1 hp => Qi_k (R := fun st => E γ k_Model_takes 1 5 [some (vr (some (11, this))), some (vi a1), none] st M1 (Qi Q)) hp (fun r2 h => ?_))
  refine E_blk (lv' := [some (vr (some (11, this))), some (vi a1), some (vi r2)]) (st' := [vi r2, vi (mI M1 11 this 43), vr (some (11, this))]) (M1 := M1) (pc' := 12) (tb_Model hγ) [.istore_n 2, .aload_n 0, .dup, .getfield 104, .iload_n 2] (by decide +kernel) rfl rfl trivial ?_
  refine E_if_eq (off := 7) (tgt := 19) (by decide +kernel) (by decide) (fun b3 => ?_) (fun b3 => ?_)
  · rw [if_pos b3] at h
    refine E_blk (lv' := [some (vr (some (11, this))), some (vi a1), some (vi r2)]) (st' := [vi (0 : Int32), vi (mI M1 11 this 43), vr (some (11, this))]) (M1 := M1) (pc' := 20) (tb_Model hγ) [.iconst 0] (by decide +kernel) rfl rfl trivial ?_
    refine E_mask [false, false, true] rfl ?_
    exact lk_Model_takes_j20 hγ this Q r2 (0 : Int32) (mI M1 11 this 43) M1 h
  · rw [if_neg b3] at h
    refine E_blk (lv' := [some (vr (some (11, this))), some (vi a1), some (vi r2)]) (st' := [vi (1 : Int32), vi (mI M1 11 this 43), vr (some (11, this))]) (M1 := M1) (pc' := 16) (tb_Model hγ) [.iconst 1] (by decide +kernel) rfl rfl trivial ?_
    refine E_goto (off := 4) (tgt := 20) (by decide +kernel) (by decide) ?_
    refine E_mask [false, false, true] rfl ?_
    exact lk_Model_takes_j20 hγ this Q r2 (1 : Int32) (mI M1 11 this 43) M1 h
def w_Model_needWord (this : Nat) (a1 : Int32) (Q : Mem → Prop) (X : Mem → Prop) (M : Mem) : Prop :=
  w_Model_takes this a1 (fun r2 M1 => if r2 = 0 then (w_Model_wrong this (fun M4 => Q M4) X M1) else (Q M1)) M
set_option maxRecDepth 4096 in
theorem lk_Model_needWord {γ : Gm} (hγ : Gk γ) (this : Nat) (a1 : Int32) (Q : Mem → Prop) (X : Mem → Prop) (M : Mem) (h : w_Model_needWord this a1 Q X M) : E γ k_Model_needWord 2 0 [some (vr (some (11, this))), some (vi a1)] [] M (Qx (14, 0) (Qv Q) X) := by
  unfold w_Model_needWord at h
  refine E_blk (lv' := [some (vr (some (11, this))), some (vi a1)]) (st' := [vi a1, vr (some (11, this))]) (M1 := M) (pc' := 2) (tb_Model hγ) [.aload_n 0, .iload_n 1] (by decide +kernel) rfl rfl trivial ?_
  refine E_callV (κ' := k_Model_takes) (As := [vi a1]) (st := []) mv_Model_takes (Or.inl (tbk_mem (j := 15) (k := 15) rfl)) rfl (by decide +kernel) (Nat.le_of_ble_eq_true rfl) (Nat.le_of_ble_eq_true rfl) rfl (by decide) (lk_Model_takes hγ this a1 _ M h) (fun _ _ => Qi_r) (fun v M1 hp => Qi_k (R := fun st => E γ k_Model_needWord 2 5 [some (vr (some (11, this))), some (vi a1)] st M1 (Qx (14, 0) (Qv Q) X)) hp (fun r2 h => ?_))
  refine E_if_ne (off := 7) (tgt := 12) (by decide +kernel) (by decide) (fun b3 => ?_) (fun b3 => ?_)
  · rw [if_pos b3] at h
    refine E_blk (lv' := [some (vr (some (11, this))), some (vi a1)]) (st' := [vr (some (11, this))]) (M1 := M1) (pc' := 9) (tb_Model hγ) [.aload_n 0] (by decide +kernel) rfl rfl trivial ?_
    refine E_callX (κ' := k_Model_wrong) (As := []) (st := []) mv_Model_wrong (Or.inl (tbk_mem (j := 15) (k := 19) rfl)) rfl (by decide +kernel) (Nat.le_of_ble_eq_true rfl) (Nat.le_of_ble_eq_true rfl) rfl (by decide) rfl (lk_Model_wrong hγ this _ _ M1 h) (fun _ _ => Qv_r) (fun _ h => h) (fun v M4 hp => Qv_k (R := fun st => E γ k_Model_needWord 2 12 [some (vr (some (11, this))), some (vi a1)] st M4 (Qx (14, 0) (Qv Q) X)) hp (fun h => ?_))
    exact (E_vret rfl (by decide +kernel) h).nx
  · rw [if_neg b3] at h
    exact (E_vret rfl (by decide +kernel) h).nx
def w_Model_plainName (this : Nat) (Q : Int32 → Mem → Prop) (X : Mem → Prop) (M : Mem) : Prop :=
  vp_in (mI M 11 this 43) (mL M 107 this) ∧ w_Model_need this (2 : Int32) (fun M2 => Q (mI M 107 this (mI M 11 this 43).toNatClampNeg) M2) X M
set_option maxRecDepth 4096 in
theorem lk_Model_plainName {γ : Gm} (hγ : Gk γ) (this : Nat) (Q : Int32 → Mem → Prop) (X : Mem → Prop) (M : Mem) (h : w_Model_plainName this Q X M) : E γ k_Model_plainName 2 0 [some (vr (some (11, this))), none] [] M (Qx (14, 0) (Qi Q) X) := by
  unfold w_Model_plainName at h
  obtain ⟨c1, h⟩ := h
  refine E_blk (lv' := [some (vr (some (11, this))), some (vi (mI M 107 this (mI M 11 this 43).toNatClampNeg))]) (st' := [vi (2 : Int32), vr (some (11, this))]) (M1 := M) (pc' := 12) (tb_Model hγ) [.aload_n 0, .getfield 98, .aload_n 0, .getfield 104, .iaload, .istore_n 1, .aload_n 0, .iconst 2] (by decide +kernel) rfl rfl ⟨c1, trivial⟩ ?_
  refine E_callX (κ' := k_Model_need) (As := [vi (2 : Int32)]) (st := []) mv_Model_need (Or.inl (tbk_mem (j := 15) (k := 35) rfl)) rfl (by decide +kernel) (Nat.le_of_ble_eq_true rfl) (Nat.le_of_ble_eq_true rfl) rfl (by decide) rfl (lk_Model_need hγ this (2 : Int32) _ _ M h) (fun _ _ => Qv_r) (fun _ h => h) (fun v M2 hp => Qv_k (R := fun st => E γ k_Model_plainName 2 15 [some (vr (some (11, this))), some (vi (mI M 107 this (mI M 11 this 43).toNatClampNeg))] st M2 (Qx (14, 0) (Qi Q) X)) hp (fun h => ?_))
  refine E_blk (lv' := [some (vr (some (11, this))), some (vi (mI M 107 this (mI M 11 this 43).toNatClampNeg))]) (st' := [vi (mI M 107 this (mI M 11 this 43).toNatClampNeg)]) (M1 := M2) (pc' := 16) (tb_Model hγ) [.iload_n 1] (by decide +kernel) rfl rfl trivial ?_
  exact (E_iret rfl (by decide +kernel) h).nx
def w_Model_isClassName (this : Nat) (a1 : Int32) (Q : Int32 → Mem → Prop) (M : Mem) : Prop :=
  if a1 = (mI M 11 this 27) then (Q (0 : Int32) M) else (if a1 = (mI M 11 this 20) then (Q (0 : Int32) M) else (if a1 = (mI M 11 this 21) then (Q (0 : Int32) M) else (if a1 = (mI M 11 this 28) then (Q (0 : Int32) M) else (if a1 = (mI M 11 this 22) then (Q (0 : Int32) M) else (if a1 = (mI M 11 this 23) then (Q (0 : Int32) M) else (if a1 = (mI M 11 this 24) then (Q (0 : Int32) M) else (Q (1 : Int32) M)))))))
set_option maxRecDepth 4096 in
theorem lk_Model_isClassName {γ : Gm} (hγ : Gk γ) (this : Nat) (a1 : Int32) (Q : Int32 → Mem → Prop) (M : Mem) (h : w_Model_isClassName this a1 Q M) : E γ k_Model_isClassName 0 0 [some (vr (some (11, this))), some (vi a1)] [] M (Qi Q) := by
  unfold w_Model_isClassName at h
  refine E_blk (lv' := [some (vr (some (11, this))), some (vi a1)]) (st' := [vi (mI M 11 this 27), vi a1]) (M1 := M) (pc' := 5) (tb_Model hγ) [.iload_n 1, .aload_n 0, .getfield 245] (by decide +kernel) rfl rfl trivial ?_
  refine E_icmp_eq (off := 55) (tgt := 60) (by decide +kernel) (by decide) (fun b1 => ?_) (fun b1 => ?_)
  · rw [if_pos b1] at h
    refine E_blk (lv' := [some (vr (some (11, this))), some (vi a1)]) (st' := [vi (0 : Int32)]) (M1 := M) (pc' := 61) (tb_Model hγ) [.iconst 0] (by decide +kernel) rfl rfl trivial ?_
    exact E_zret rfl (Or.inl rfl) (by decide +kernel) h
  · rw [if_neg b1] at h
    refine E_blk (lv' := [some (vr (some (11, this))), some (vi a1)]) (st' := [vi (mI M 11 this 20), vi a1]) (M1 := M) (pc' := 13) (tb_Model hγ) [.iload_n 1, .aload_n 0, .getfield 212] (by decide +kernel) rfl rfl trivial ?_
    refine E_icmp_eq (off := 47) (tgt := 60) (by decide +kernel) (by decide) (fun b2 => ?_) (fun b2 => ?_)
    · rw [if_pos b2] at h
      refine E_blk (lv' := [some (vr (some (11, this))), some (vi a1)]) (st' := [vi (0 : Int32)]) (M1 := M) (pc' := 61) (tb_Model hγ) [.iconst 0] (by decide +kernel) rfl rfl trivial ?_
      exact E_zret rfl (Or.inl rfl) (by decide +kernel) h
    · rw [if_neg b2] at h
      refine E_blk (lv' := [some (vr (some (11, this))), some (vi a1)]) (st' := [vi (mI M 11 this 21), vi a1]) (M1 := M) (pc' := 21) (tb_Model hγ) [.iload_n 1, .aload_n 0, .getfield 217] (by decide +kernel) rfl rfl trivial ?_
      refine E_icmp_eq (off := 39) (tgt := 60) (by decide +kernel) (by decide) (fun b3 => ?_) (fun b3 => ?_)
      · rw [if_pos b3] at h
        refine E_blk (lv' := [some (vr (some (11, this))), some (vi a1)]) (st' := [vi (0 : Int32)]) (M1 := M) (pc' := 61) (tb_Model hγ) [.iconst 0] (by decide +kernel) rfl rfl trivial ?_
        exact E_zret rfl (Or.inl rfl) (by decide +kernel) h
      · rw [if_neg b3] at h
        refine E_blk (lv' := [some (vr (some (11, this))), some (vi a1)]) (st' := [vi (mI M 11 this 28), vi a1]) (M1 := M) (pc' := 29) (tb_Model hγ) [.iload_n 1, .aload_n 0, .getfield 248] (by decide +kernel) rfl rfl trivial ?_
        refine E_icmp_eq (off := 31) (tgt := 60) (by decide +kernel) (by decide) (fun b4 => ?_) (fun b4 => ?_)
        · rw [if_pos b4] at h
          refine E_blk (lv' := [some (vr (some (11, this))), some (vi a1)]) (st' := [vi (0 : Int32)]) (M1 := M) (pc' := 61) (tb_Model hγ) [.iconst 0] (by decide +kernel) rfl rfl trivial ?_
          exact E_zret rfl (Or.inl rfl) (by decide +kernel) h
        · rw [if_neg b4] at h
          refine E_blk (lv' := [some (vr (some (11, this))), some (vi a1)]) (st' := [vi (mI M 11 this 22), vi a1]) (M1 := M) (pc' := 37) (tb_Model hγ) [.iload_n 1, .aload_n 0, .getfield 222] (by decide +kernel) rfl rfl trivial ?_
          refine E_icmp_eq (off := 23) (tgt := 60) (by decide +kernel) (by decide) (fun b5 => ?_) (fun b5 => ?_)
          · rw [if_pos b5] at h
            refine E_blk (lv' := [some (vr (some (11, this))), some (vi a1)]) (st' := [vi (0 : Int32)]) (M1 := M) (pc' := 61) (tb_Model hγ) [.iconst 0] (by decide +kernel) rfl rfl trivial ?_
            exact E_zret rfl (Or.inl rfl) (by decide +kernel) h
          · rw [if_neg b5] at h
            refine E_blk (lv' := [some (vr (some (11, this))), some (vi a1)]) (st' := [vi (mI M 11 this 23), vi a1]) (M1 := M) (pc' := 45) (tb_Model hγ) [.iload_n 1, .aload_n 0, .getfield 227] (by decide +kernel) rfl rfl trivial ?_
            refine E_icmp_eq (off := 15) (tgt := 60) (by decide +kernel) (by decide) (fun b6 => ?_) (fun b6 => ?_)
            · rw [if_pos b6] at h
              refine E_blk (lv' := [some (vr (some (11, this))), some (vi a1)]) (st' := [vi (0 : Int32)]) (M1 := M) (pc' := 61) (tb_Model hγ) [.iconst 0] (by decide +kernel) rfl rfl trivial ?_
              exact E_zret rfl (Or.inl rfl) (by decide +kernel) h
            · rw [if_neg b6] at h
              refine E_blk (lv' := [some (vr (some (11, this))), some (vi a1)]) (st' := [vi (mI M 11 this 24), vi a1]) (M1 := M) (pc' := 53) (tb_Model hγ) [.iload_n 1, .aload_n 0, .getfield 232] (by decide +kernel) rfl rfl trivial ?_
              refine E_icmp_eq (off := 7) (tgt := 60) (by decide +kernel) (by decide) (fun b7 => ?_) (fun b7 => ?_)
              · rw [if_pos b7] at h
                refine E_blk (lv' := [some (vr (some (11, this))), some (vi a1)]) (st' := [vi (0 : Int32)]) (M1 := M) (pc' := 61) (tb_Model hγ) [.iconst 0] (by decide +kernel) rfl rfl trivial ?_
                exact E_zret rfl (Or.inl rfl) (by decide +kernel) h
              · rw [if_neg b7] at h
                refine E_blk (lv' := [some (vr (some (11, this))), some (vi a1)]) (st' := [vi (1 : Int32)]) (M1 := M) (pc' := 57) (tb_Model hγ) [.iconst 1] (by decide +kernel) rfl rfl trivial ?_
                refine E_goto (off := 4) (tgt := 61) (by decide +kernel) (by decide) ?_
                exact E_zret rfl (Or.inr rfl) (by decide +kernel) h
def w_Model_className_j33 (this : Nat) (Q : Int32 → Mem → Prop) (X : Mem → Prop)  (M : Mem) : Prop :=
  w_Model_plainName this (fun r9 M8 => Q r9 M8) X M
def w_Model_className_j29 (this : Nat) (Q : Int32 → Mem → Prop) (X : Mem → Prop)  (M : Mem) : Prop :=
  w_Model_wrong this (fun M7 => w_Model_className_j33 this Q X  M7) X M
def w_Model_className (this : Nat) (Q : Int32 → Mem → Prop) (X : Mem → Prop) (M : Mem) : Prop :=
  vp_in (mI M 11 this 43) (mL M 411 this) ∧ if (mI M 411 this (mI M 11 this 43).toNatClampNeg) = (2 : Int32) then (vp_in (mI M 11 this 43) (mL M 107 this) ∧ w_Model_isClassName this (mI M 107 this (mI M 11 this 43).toNatClampNeg) (fun r5 M4 => if r5 = 0 then (w_Model_className_j29 this Q X  M4) else (w_Model_className_j33 this Q X  M4)) M) else (w_Model_className_j29 this Q X  M)
set_option maxRecDepth 4096 in
theorem lk_Model_className_j33 {γ : Gm} (hγ : Gk γ) (this : Nat) (Q : Int32 → Mem → Prop) (X : Mem → Prop)  (M : Mem) (h : w_Model_className_j33 this Q X  M) : E γ k_Model_className 3 33 [some (vr (some (11, this)))] [] M (Qx (14, 0) (Qi Q) X) := by
  unfold w_Model_className_j33 at h
  refine E_blk (lv' := [some (vr (some (11, this)))]) (st' := [vr (some (11, this))]) (M1 := M) (pc' := 34) (tb_Model hγ) [.aload_n 0] (by decide +kernel) rfl rfl trivial ?_
  refine E_callX (κ' := k_Model_plainName) (As := []) (st := []) mv_Model_plainName (Or.inl (tbk_mem (j := 15) (k := 31) rfl)) rfl (by decide +kernel) (Nat.le_of_ble_eq_true rfl) (Nat.le_of_ble_eq_true rfl) rfl (by decide) rfl (lk_Model_plainName hγ this _ _ M h) (fun _ _ => Qi_r) (fun _ h => h) (fun v M8 hp => Qi_k (R := fun st => E γ k_Model_className 3 37 [some (vr (some (11, this)))] st M8 (Qx (14, 0) (Qi Q) X)) hp (fun r9 h => ?_))
  exact (E_iret rfl (by decide +kernel) h).nx
set_option maxRecDepth 4096 in
theorem lk_Model_className_j29 {γ : Gm} (hγ : Gk γ) (this : Nat) (Q : Int32 → Mem → Prop) (X : Mem → Prop)  (M : Mem) (h : w_Model_className_j29 this Q X  M) : E γ k_Model_className 3 29 [some (vr (some (11, this)))] [] M (Qx (14, 0) (Qi Q) X) := by
  unfold w_Model_className_j29 at h
  refine E_blk (lv' := [some (vr (some (11, this)))]) (st' := [vr (some (11, this))]) (M1 := M) (pc' := 30) (tb_Model hγ) [.aload_n 0] (by decide +kernel) rfl rfl trivial ?_
  refine E_callX (κ' := k_Model_wrong) (As := []) (st := []) mv_Model_wrong (Or.inl (tbk_mem (j := 15) (k := 19) rfl)) rfl (by decide +kernel) (Nat.le_of_ble_eq_true rfl) (Nat.le_of_ble_eq_true rfl) rfl (by decide) rfl (lk_Model_wrong hγ this _ _ M h) (fun _ _ => Qv_r) (fun _ h => h) (fun v M7 hp => Qv_k (R := fun st => E γ k_Model_className 3 33 [some (vr (some (11, this)))] st M7 (Qx (14, 0) (Qi Q) X)) hp (fun h => ?_))
  refine E_mask [true] rfl ?_
  exact lk_Model_className_j33 hγ this Q X  M7 h
set_option maxRecDepth 4096 in
theorem lk_Model_className {γ : Gm} (hγ : Gk γ) (this : Nat) (Q : Int32 → Mem → Prop) (X : Mem → Prop) (M : Mem) (h : w_Model_className this Q X M) : E γ k_Model_className 3 0 [some (vr (some (11, this)))] [] M (Qx (14, 0) (Qi Q) X) := by
  unfold w_Model_className at h
  obtain ⟨c1, h⟩ := h
  refine E_blk (lv' := [some (vr (some (11, this)))]) (st' := [vi (2 : Int32), vi (mI M 411 this (mI M 11 this 43).toNatClampNeg)]) (M1 := M) (pc' := 10) (tb_Model hγ) [.aload_n 0, .getfield 92, .aload_n 0, .getfield 104, .baload, .iconst 2] (by decide +kernel) rfl rfl ⟨c1, trivial⟩ ?_
  refine E_icmp_ne (off := 19) (tgt := 29) (by decide +kernel) (by decide) (fun b2 => ?_) (fun b2 => ?_)
  · rw [if_pos b2] at h
    obtain ⟨c3, h⟩ := h
    refine E_blk (lv' := [some (vr (some (11, this)))]) (st' := [vi (mI M 107 this (mI M 11 this 43).toNatClampNeg), vr (some (11, this))]) (M1 := M) (pc' := 23) (tb_Model hγ) [.aload_n 0, .aload_n 0, .getfield 98, .aload_n 0, .getfield 104, .iaload] (by decide +kernel) rfl rfl ⟨c3, trivial⟩ ?_
    refine E_callV (κ' := k_Model_isClassName) (As := [vi (mI M 107 this (mI M 11 this 43).toNatClampNeg)]) (st := []) mv_Model_isClassName (Or.inl (tbk_mem (j := 15) (k := 27) rfl)) rfl (by decide +kernel) (Nat.le_of_ble_eq_true rfl) (Nat.le_of_ble_eq_true rfl) rfl (by decide) (lk_Model_isClassName hγ this (mI M 107 this (mI M 11 this 43).toNatClampNeg) _ M h) (fun _ _ => Qi_r) (fun v M4 hp => Qi_k (R := fun st => E γ k_Model_className 3 26 [some (vr (some (11, this)))] st M4 (Qx (14, 0) (Qi Q) X)) hp (fun r5 h => ?_))
    refine E_if_ne (off := 7) (tgt := 33) (by decide +kernel) (by decide) (fun b6 => ?_) (fun b6 => ?_)
    · rw [if_pos b6] at h
      refine E_mask [true] rfl ?_
      exact lk_Model_className_j29 hγ this Q X  M4 h
    · rw [if_neg b6] at h
      refine E_mask [true] rfl ?_
      exact lk_Model_className_j33 hγ this Q X  M4 h
  · rw [if_neg b2] at h
    refine E_mask [true] rfl ?_
    exact lk_Model_className_j29 hγ this Q X  M h
def w_Model_type (this : Nat) (Q : Int32 → Mem → Prop) (X : Mem → Prop) (M : Mem) : Prop :=
  w_Model_takes this (mI M 11 this 27) (fun r2 M1 => if r2 = 0 then (w_Model_takes this (mI M1 11 this 20) (fun r5 M4 => if r5 = 0 then (w_Model_className this (fun r8 M7 => Q ((16 : Int32) + r8) M7) X M4) else (Q (2 : Int32) M4)) M1) else (Q (1 : Int32) M1)) M
set_option maxRecDepth 4096 in
theorem lk_Model_type {γ : Gm} (hγ : Gk γ) (this : Nat) (Q : Int32 → Mem → Prop) (X : Mem → Prop) (M : Mem) (h : w_Model_type this Q X M) : E γ k_Model_type 4 0 [some (vr (some (11, this)))] [] M (Qx (14, 0) (Qi Q) X) := by
  unfold w_Model_type at h
  refine E_blk (lv' := [some (vr (some (11, this)))]) (st' := [vi (mI M 11 this 27), vr (some (11, this))]) (M1 := M) (pc' := 5) (tb_Model hγ) [.aload_n 0, .aload_n 0, .getfield 245] (by decide +kernel) rfl rfl trivial ?_
  refine E_callV (κ' := k_Model_takes) (As := [vi (mI M 11 this 27)]) (st := []) mv_Model_takes (Or.inl (tbk_mem (j := 15) (k := 15) rfl)) rfl (by decide +kernel) (Nat.le_of_ble_eq_true rfl) (Nat.le_of_ble_eq_true rfl) rfl (by decide) (lk_Model_takes hγ this (mI M 11 this 27) _ M h) (fun _ _ => Qi_r) (fun v M1 hp => Qi_k (R := fun st => E γ k_Model_type 4 8 [some (vr (some (11, this)))] st M1 (Qx (14, 0) (Qi Q) X)) hp (fun r2 h => ?_))
  refine E_if_eq (off := 5) (tgt := 13) (by decide +kernel) (by decide) (fun b3 => ?_) (fun b3 => ?_)
  · rw [if_pos b3] at h
    refine E_blk (lv' := [some (vr (some (11, this)))]) (st' := [vi (mI M1 11 this 20), vr (some (11, this))]) (M1 := M1) (pc' := 18) (tb_Model hγ) [.aload_n 0, .aload_n 0, .getfield 212] (by decide +kernel) rfl rfl trivial ?_
    refine E_callV (κ' := k_Model_takes) (As := [vi (mI M1 11 this 20)]) (st := []) mv_Model_takes (Or.inl (tbk_mem (j := 15) (k := 15) rfl)) rfl (by decide +kernel) (Nat.le_of_ble_eq_true rfl) (Nat.le_of_ble_eq_true rfl) rfl (by decide) (lk_Model_takes hγ this (mI M1 11 this 20) _ M1 h) (fun _ _ => Qi_r) (fun v M4 hp => Qi_k (R := fun st => E γ k_Model_type 4 21 [some (vr (some (11, this)))] st M4 (Qx (14, 0) (Qi Q) X)) hp (fun r5 h => ?_))
    refine E_if_eq (off := 7) (tgt := 28) (by decide +kernel) (by decide) (fun b6 => ?_) (fun b6 => ?_)
    · rw [if_pos b6] at h
      refine E_blk (lv' := [some (vr (some (11, this)))]) (st' := [vr (some (11, this)), vi (16 : Int32)]) (M1 := M4) (pc' := 31) (tb_Model hγ) [.bipush 16, .aload_n 0] (by decide +kernel) rfl rfl trivial ?_
      refine E_callX (κ' := k_Model_className) (As := []) (st := [vi (16 : Int32)]) mv_Model_className (Or.inl (tbk_mem (j := 15) (k := 23) rfl)) rfl (by decide +kernel) (Nat.le_of_ble_eq_true rfl) (Nat.le_of_ble_eq_true rfl) rfl (by decide) rfl (lk_Model_className hγ this _ _ M4 h) (fun _ _ => Qi_r) (fun _ h => h) (fun v M7 hp => Qi_k (R := fun st => E γ k_Model_type 4 34 [some (vr (some (11, this)))] st M7 (Qx (14, 0) (Qi Q) X)) hp (fun r8 h => ?_))
      refine E_blk (lv' := [some (vr (some (11, this)))]) (st' := [vi ((16 : Int32) + r8)]) (M1 := M7) (pc' := 35) (tb_Model hγ) [.iadd] (by decide +kernel) rfl rfl trivial ?_
      exact (E_iret rfl (by decide +kernel) h).nx
    · rw [if_neg b6] at h
      refine E_blk (lv' := [some (vr (some (11, this)))]) (st' := [vi (2 : Int32)]) (M1 := M4) (pc' := 25) (tb_Model hγ) [.iconst 2] (by decide +kernel) rfl rfl trivial ?_
      refine E_goto (off := 10) (tgt := 35) (by decide +kernel) (by decide) ?_
      exact (E_iret rfl (by decide +kernel) h).nx
  · rw [if_neg b3] at h
    refine E_blk (lv' := [some (vr (some (11, this)))]) (st' := [vi (1 : Int32)]) (M1 := M1) (pc' := 12) (tb_Model hγ) [.iconst 1] (by decide +kernel) rfl rfl trivial ?_
    exact (E_iret rfl (by decide +kernel) h).nx
def w_Model_addType (this : Nat) (Q : Mem → Prop) (X : Mem → Prop) (M : Mem) : Prop :=
  ∃ i1, (mR M 11 this 55) = some (300, i1) ∧ w_Model_room i1 ((mI M 11 this 56) + (1 : Int32)) (fun i3 M2 => ∃ i4, (mR (sR M2 11 this 55 (some (300, i3))) 11 this 55) = some (300, i4) ∧ w_Model_type this (fun r6 M5 => vp_in (mI (sR M2 11 this 55 (some (300, i3))) 11 this 56) (mL M5 300 i4) ∧ ∃ M8, M8 = (sI M5 300 i4 (mI (sR M2 11 this 55 (some (300, i3))) 11 this 56).toNatClampNeg r6) ∧ Q (sI M8 11 this 56 ((mI M8 11 this 56) + (1 : Int32)))) X (sR M2 11 this 55 (some (300, i3)))) M
set_option maxRecDepth 4096 in
theorem lk_Model_addType {γ : Gm} (hγ : Gk γ) (this : Nat) (Q : Mem → Prop) (X : Mem → Prop) (M : Mem) (h : w_Model_addType this Q X M) : E γ k_Model_addType 5 0 [some (vr (some (11, this)))] [] M (Qx (14, 0) (Qv Q) X) := by
  unfold w_Model_addType at h
  refine E_blk (lv' := [some (vr (some (11, this)))]) (st' := [vr (mR M 11 this 55), vr (some (11, this))]) (M1 := M) (pc' := 5) (tb_Model hγ) [.aload_n 0, .aload_n 0, .getfield 277] (by decide +kernel) rfl rfl trivial ?_
  obtain ⟨i1, ei1, h⟩ := h
  rw [ei1]
  refine E_blk (lv' := [some (vr (some (11, this)))]) (st' := [vi ((mI M 11 this 56) + (1 : Int32)), vr (some (300, i1)), vr (some (11, this))]) (M1 := M) (pc' := 11) (tb_Model hγ) [.aload_n 0, .getfield 557, .iconst 1, .iadd] (by decide +kernel) rfl rfl trivial ?_
  refine E_callS (κ' := k_Model_room) (As := [vr (some (300, i1)), vi ((mI M 11 this 56) + (1 : Int32))]) (st := [vr (some (11, this))]) ms_Model_room (Or.inl (tbk_mem (j := 11) (k := 66) rfl)) rfl (by decide +kernel) (Nat.le_of_ble_eq_true rfl) (Nat.le_of_ble_eq_true rfl) rfl (by decide) (lk_Model_room hγ i1 ((mI M 11 this 56) + (1 : Int32)) _ M h) (fun _ _ => Qr_r) (fun v M2 hp => Qr_k (R := fun st => E γ k_Model_addType 5 14 [some (vr (some (11, this)))] st M2 (Qx (14, 0) (Qv Q) X)) hp (fun i3 h => ?_))
  refine E_blk (lv' := [some (vr (some (11, this)))]) (st' := [vr (mR (sR M2 11 this 55 (some (300, i3))) 11 this 55)]) (M1 := (sR M2 11 this 55 (some (300, i3)))) (pc' := 21) (tb_Model hγ) [.putfield 277, .aload_n 0, .getfield 277] (by decide +kernel) rfl rfl trivial ?_
  obtain ⟨i4, ei4, h⟩ := h
  rw [ei4]
  refine E_blk (lv' := [some (vr (some (11, this)))]) (st' := [vr (some (11, this)), vi (mI (sR M2 11 this 55 (some (300, i3))) 11 this 56), vr (some (300, i4))]) (M1 := (sR M2 11 this 55 (some (300, i3)))) (pc' := 26) (tb_Model hγ) [.aload_n 0, .getfield 557, .aload_n 0] (by decide +kernel) rfl rfl trivial ?_
  refine E_callX (κ' := k_Model_type) (As := []) (st := [vi (mI (sR M2 11 this 55 (some (300, i3))) 11 this 56), vr (some (300, i4))]) mv_Model_type (Or.inl (tbk_mem (j := 15) (k := 55) rfl)) rfl (by decide +kernel) (Nat.le_of_ble_eq_true rfl) (Nat.le_of_ble_eq_true rfl) rfl (by decide) rfl (lk_Model_type hγ this _ _ (sR M2 11 this 55 (some (300, i3))) h) (fun _ _ => Qi_r) (fun _ h => h) (fun v M5 hp => Qi_k (R := fun st => E γ k_Model_addType 5 29 [some (vr (some (11, this)))] st M5 (Qx (14, 0) (Qv Q) X)) hp (fun r6 h => ?_))
  obtain ⟨c7, h⟩ := h
  refine E_blk (lv' := [some (vr (some (11, this)))]) (st' := []) (M1 := (sI M5 300 i4 (mI (sR M2 11 this 55 (some (300, i3))) 11 this 56).toNatClampNeg r6)) (pc' := 30) (tb_Model hγ) [.iastore] (by decide +kernel) rfl rfl ⟨c7, trivial⟩ ?_
  obtain ⟨M8, eM8, h⟩ := h
  rw [← eM8]
  refine E_blk (lv' := [some (vr (some (11, this)))]) (st' := []) (M1 := (sI M8 11 this 56 ((mI M8 11 this 56) + (1 : Int32)))) (pc' := 40) (tb_Model hγ) [.aload_n 0, .dup, .getfield 557, .iconst 1, .iadd, .putfield 557] (by decide +kernel) rfl rfl trivial ?_
  exact (E_vret rfl (by decide +kernel) h).nx
def w_Model_wholeSignature_j94 (this : Nat) (Q : Int32 → Mem → Prop) (X : Mem → Prop) (s0 : Int32) (s1 : Int32) (s2 : Nat) (M : Mem) : Prop :=
  w_Model_signature this s2 s1 s0 (fun r12 M11 => Q r12 M11) M
def w_Model_wholeSignature_j60 (this : Nat) (Q : Int32 → Mem → Prop) (X : Mem → Prop)  (M : Mem) : Prop :=
  w_Model_need this (41 : Int32) (fun M4 => ∃ i5, (mR M4 11 this 55) = some (300, i5) ∧ w_Model_takes this (mI M4 11 this 21) (fun r7 M6 => if r7 = 0 then (w_Model_type this (fun r10 M9 => w_Model_wholeSignature_j94 this Q X r10 (mI M4 11 this 56) i5 M9) X M6) else (w_Model_wholeSignature_j94 this Q X (0 : Int32) (mI M4 11 this 56) i5 M6)) M4) X M
def w_Model_wholeSignature_L29 (this : Nat) (Q : Int32 → Mem → Prop) (X : Mem → Prop) : Nat → Mem → Prop
  | 0, _ => False
  | n + 1, M => vp_in (mI M 11 this 43) (mL M 411 this) ∧ if (mI M 411 this (mI M 11 this 43).toNatClampNeg) = (44 : Int32) then (w_Model_addType this (fun M16 => (w_Model_wholeSignature_L29 this Q X n)  M16) X (sI M 11 this 43 ((mI M 11 this 43) + (1 : Int32)))) else (w_Model_wholeSignature_j60 this Q X  M)
def w_Model_wholeSignature (this : Nat) (Q : Int32 → Mem → Prop) (X : Mem → Prop) (M : Mem) : Prop :=
  w_Model_need this (40 : Int32) (fun M1 => vp_in (mI (sI M1 11 this 56 (0 : Int32)) 11 this 43) (mL (sI M1 11 this 56 (0 : Int32)) 411 this) ∧ if (mI (sI M1 11 this 56 (0 : Int32)) 411 this (mI (sI M1 11 this 56 (0 : Int32)) 11 this 43).toNatClampNeg) = (41 : Int32) then (w_Model_wholeSignature_j60 this Q X  (sI M1 11 this 56 (0 : Int32))) else (w_Model_addType this (fun M13 => ∃ n17 : Nat, w_Model_wholeSignature_L29 this Q X n17  M13) X (sI M1 11 this 56 (0 : Int32)))) X M
set_option maxRecDepth 4096 in
theorem lk_Model_wholeSignature_j94 {γ : Gm} (hγ : Gk γ) (this : Nat) (Q : Int32 → Mem → Prop) (X : Mem → Prop) (s0 : Int32) (s1 : Int32) (s2 : Nat) (M : Mem) (h : w_Model_wholeSignature_j94 this Q X s0 s1 s2 M) : E γ k_Model_wholeSignature 6 94 [none] [vi s0, vi s1, vr (some (300, s2)), vr (some (11, this))] M (Qx (14, 0) (Qi Q) X) := by
  unfold w_Model_wholeSignature_j94 at h
  refine E_callV (κ' := k_Model_signature) (As := [vr (some (300, s2)), vi s1, vi s0]) (st := []) mv_Model_signature (Or.inl (tbk_mem (j := 11) (k := 93) rfl)) rfl (by decide +kernel) (Nat.le_of_ble_eq_true rfl) (Nat.le_of_ble_eq_true rfl) rfl (by decide) (lk_Model_signature hγ this s2 s1 s0 _ M h) (fun _ _ => Qi_r) (fun v M11 hp => Qi_k (R := fun st => E γ k_Model_wholeSignature 6 97 [none] st M11 (Qx (14, 0) (Qi Q) X)) hp (fun r12 h => ?_))
  exact (E_iret rfl (by decide +kernel) h).nx
set_option maxRecDepth 4096 in
theorem lk_Model_wholeSignature_j60 {γ : Gm} (hγ : Gk γ) (this : Nat) (Q : Int32 → Mem → Prop) (X : Mem → Prop)  (M : Mem) (h : w_Model_wholeSignature_j60 this Q X  M) : E γ k_Model_wholeSignature 6 60 [some (vr (some (11, this)))] [] M (Qx (14, 0) (Qi Q) X) := by
  unfold w_Model_wholeSignature_j60 at h
  refine E_blk (lv' := [some (vr (some (11, this)))]) (st' := [vi (41 : Int32), vr (some (11, this))]) (M1 := M) (pc' := 63) (tb_Model hγ) [.aload_n 0, .bipush 41] (by decide +kernel) rfl rfl trivial ?_
  refine E_callX (κ' := k_Model_need) (As := [vi (41 : Int32)]) (st := []) mv_Model_need (Or.inl (tbk_mem (j := 15) (k := 35) rfl)) rfl (by decide +kernel) (Nat.le_of_ble_eq_true rfl) (Nat.le_of_ble_eq_true rfl) rfl (by decide) rfl (lk_Model_need hγ this (41 : Int32) _ _ M h) (fun _ _ => Qv_r) (fun _ h => h) (fun v M4 hp => Qv_k (R := fun st => E γ k_Model_wholeSignature 6 66 [some (vr (some (11, this)))] st M4 (Qx (14, 0) (Qi Q) X)) hp (fun h => ?_))
  refine E_blk (lv' := [some (vr (some (11, this)))]) (st' := [vr (mR M4 11 this 55), vr (some (11, this))]) (M1 := M4) (pc' := 71) (tb_Model hγ) [.aload_n 0, .aload_n 0, .getfield 277] (by decide +kernel) rfl rfl trivial ?_
  obtain ⟨i5, ei5, h⟩ := h
  rw [ei5]
  refine E_blk (lv' := [some (vr (some (11, this)))]) (st' := [vi (mI M4 11 this 21), vr (some (11, this)), vi (mI M4 11 this 56), vr (some (300, i5)), vr (some (11, this))]) (M1 := M4) (pc' := 80) (tb_Model hγ) [.aload_n 0, .getfield 557, .aload_n 0, .aload_n 0, .getfield 217] (by decide +kernel) rfl rfl trivial ?_
  refine E_callV (κ' := k_Model_takes) (As := [vi (mI M4 11 this 21)]) (st := [vi (mI M4 11 this 56), vr (some (300, i5)), vr (some (11, this))]) mv_Model_takes (Or.inl (tbk_mem (j := 15) (k := 15) rfl)) rfl (by decide +kernel) (Nat.le_of_ble_eq_true rfl) (Nat.le_of_ble_eq_true rfl) rfl (by decide) (lk_Model_takes hγ this (mI M4 11 this 21) _ M4 h) (fun _ _ => Qi_r) (fun v M6 hp => Qi_k (R := fun st => E γ k_Model_wholeSignature 6 83 [some (vr (some (11, this)))] st M6 (Qx (14, 0) (Qi Q) X)) hp (fun r7 h => ?_))
  refine E_if_eq (off := 7) (tgt := 90) (by decide +kernel) (by decide) (fun b8 => ?_) (fun b8 => ?_)
  · rw [if_pos b8] at h
    refine E_blk (lv' := [some (vr (some (11, this)))]) (st' := [vr (some (11, this)), vi (mI M4 11 this 56), vr (some (300, i5)), vr (some (11, this))]) (M1 := M6) (pc' := 91) (tb_Model hγ) [.aload_n 0] (by decide +kernel) rfl rfl trivial ?_
    refine E_callX (κ' := k_Model_type) (As := []) (st := [vi (mI M4 11 this 56), vr (some (300, i5)), vr (some (11, this))]) mv_Model_type (Or.inl (tbk_mem (j := 15) (k := 55) rfl)) rfl (by decide +kernel) (Nat.le_of_ble_eq_true rfl) (Nat.le_of_ble_eq_true rfl) rfl (by decide) rfl (lk_Model_type hγ this _ _ M6 h) (fun _ _ => Qi_r) (fun _ h => h) (fun v M9 hp => Qi_k (R := fun st => E γ k_Model_wholeSignature 6 94 [some (vr (some (11, this)))] st M9 (Qx (14, 0) (Qi Q) X)) hp (fun r10 h => ?_))
    refine E_mask [false] rfl ?_
    exact lk_Model_wholeSignature_j94 hγ this Q X r10 (mI M4 11 this 56) i5 M9 h
  · rw [if_neg b8] at h
    refine E_blk (lv' := [some (vr (some (11, this)))]) (st' := [vi (0 : Int32), vi (mI M4 11 this 56), vr (some (300, i5)), vr (some (11, this))]) (M1 := M6) (pc' := 87) (tb_Model hγ) [.iconst 0] (by decide +kernel) rfl rfl trivial ?_
    refine E_goto (off := 7) (tgt := 94) (by decide +kernel) (by decide) ?_
    refine E_mask [false] rfl ?_
    exact lk_Model_wholeSignature_j94 hγ this Q X (0 : Int32) (mI M4 11 this 56) i5 M6 h
set_option maxRecDepth 4096 in
theorem lk_Model_wholeSignature_L29 {γ : Gm} (hγ : Gk γ) (this : Nat) (Q : Int32 → Mem → Prop) (X : Mem → Prop) : ∀ (n : Nat)  (M : Mem), w_Model_wholeSignature_L29 this Q X n  M → E γ k_Model_wholeSignature 6 29 [some (vr (some (11, this)))] [] M (Qx (14, 0) (Qi Q) X) := by
  intro n
  induction n with
  | zero => intro  M h; exact h.elim
  | succ n ih =>
    intro  M h
    unfold w_Model_wholeSignature_L29 at h
    obtain ⟨c14, h⟩ := h
    refine E_blk (lv' := [some (vr (some (11, this)))]) (st' := [vi (44 : Int32), vi (mI M 411 this (mI M 11 this 43).toNatClampNeg)]) (M1 := M) (pc' := 40) (tb_Model hγ) [.aload_n 0, .getfield 92, .aload_n 0, .getfield 104, .baload, .bipush 44] (by decide +kernel) rfl rfl ⟨c14, trivial⟩ ?_
    refine E_icmp_ne (off := 20) (tgt := 60) (by decide +kernel) (by decide) (fun b15 => ?_) (fun b15 => ?_)
    · rw [if_pos b15] at h
      refine E_blk (lv' := [some (vr (some (11, this)))]) (st' := [vr (some (11, this))]) (M1 := (sI M 11 this 43 ((mI M 11 this 43) + (1 : Int32)))) (pc' := 54) (tb_Model hγ) [.aload_n 0, .dup, .getfield 104, .iconst 1, .iadd, .putfield 104, .aload_n 0] (by decide +kernel) rfl rfl trivial ?_
      refine E_callX (κ' := k_Model_addType) (As := []) (st := []) mv_Model_addType (Or.inl (tbk_mem (j := 15) (k := 72) rfl)) rfl (by decide +kernel) (Nat.le_of_ble_eq_true rfl) (Nat.le_of_ble_eq_true rfl) rfl (by decide) rfl (lk_Model_addType hγ this _ _ (sI M 11 this 43 ((mI M 11 this 43) + (1 : Int32))) h) (fun _ _ => Qv_r) (fun _ h => h) (fun v M16 hp => Qv_k (R := fun st => E γ k_Model_wholeSignature 6 57 [some (vr (some (11, this)))] st M16 (Qx (14, 0) (Qi Q) X)) hp (fun h => ?_))
      refine E_goto (off := -28) (tgt := 29) (by decide +kernel) (by decide) ?_
      refine E_mask [true] rfl ?_
      exact ih  M16 h
    · rw [if_neg b15] at h
      refine E_mask [true] rfl ?_
      exact lk_Model_wholeSignature_j60 hγ this Q X  M h
set_option maxRecDepth 4096 in
theorem lk_Model_wholeSignature {γ : Gm} (hγ : Gk γ) (this : Nat) (Q : Int32 → Mem → Prop) (X : Mem → Prop) (M : Mem) (h : w_Model_wholeSignature this Q X M) : E γ k_Model_wholeSignature 6 0 [some (vr (some (11, this)))] [] M (Qx (14, 0) (Qi Q) X) := by
  unfold w_Model_wholeSignature at h
  refine E_blk (lv' := [some (vr (some (11, this)))]) (st' := [vi (40 : Int32), vr (some (11, this))]) (M1 := M) (pc' := 3) (tb_Model hγ) [.aload_n 0, .bipush 40] (by decide +kernel) rfl rfl trivial ?_
  refine E_callX (κ' := k_Model_need) (As := [vi (40 : Int32)]) (st := []) mv_Model_need (Or.inl (tbk_mem (j := 15) (k := 35) rfl)) rfl (by decide +kernel) (Nat.le_of_ble_eq_true rfl) (Nat.le_of_ble_eq_true rfl) rfl (by decide) rfl (lk_Model_need hγ this (40 : Int32) _ _ M h) (fun _ _ => Qv_r) (fun _ h => h) (fun v M1 hp => Qv_k (R := fun st => E γ k_Model_wholeSignature 6 6 [some (vr (some (11, this)))] st M1 (Qx (14, 0) (Qi Q) X)) hp (fun h => ?_))
  obtain ⟨c2, h⟩ := h
  refine E_blk (lv' := [some (vr (some (11, this)))]) (st' := [vi (41 : Int32), vi (mI (sI M1 11 this 56 (0 : Int32)) 411 this (mI (sI M1 11 this 56 (0 : Int32)) 11 this 43).toNatClampNeg)]) (M1 := (sI M1 11 this 56 (0 : Int32))) (pc' := 22) (tb_Model hγ) [.aload_n 0, .iconst 0, .putfield 557, .aload_n 0, .getfield 92, .aload_n 0, .getfield 104, .baload, .bipush 41] (by decide +kernel) rfl rfl ⟨c2, trivial⟩ ?_
  refine E_icmp_eq (off := 38) (tgt := 60) (by decide +kernel) (by decide) (fun b3 => ?_) (fun b3 => ?_)
  · rw [if_pos b3] at h
    refine E_mask [true] rfl ?_
    exact lk_Model_wholeSignature_j60 hγ this Q X  (sI M1 11 this 56 (0 : Int32)) h
  · rw [if_neg b3] at h
    refine E_blk (lv' := [some (vr (some (11, this)))]) (st' := [vr (some (11, this))]) (M1 := (sI M1 11 this 56 (0 : Int32))) (pc' := 26) (tb_Model hγ) [.aload_n 0] (by decide +kernel) rfl rfl trivial ?_
    refine E_callX (κ' := k_Model_addType) (As := []) (st := []) mv_Model_addType (Or.inl (tbk_mem (j := 15) (k := 72) rfl)) rfl (by decide +kernel) (Nat.le_of_ble_eq_true rfl) (Nat.le_of_ble_eq_true rfl) rfl (by decide) rfl (lk_Model_addType hγ this _ _ (sI M1 11 this 56 (0 : Int32)) h) (fun _ _ => Qv_r) (fun _ h => h) (fun v M13 hp => Qv_k (R := fun st => E γ k_Model_wholeSignature 6 29 [some (vr (some (11, this)))] st M13 (Qx (14, 0) (Qi Q) X)) hp (fun h => ?_))
    obtain ⟨n17, h⟩ := h
    refine E_mask [true] rfl ?_
    exact lk_Model_wholeSignature_L29 hγ this Q X n17  M13 h
def w_Model_numberIn_j43 (this : Nat) (Q : Int32 → Mem → Prop) (X : Mem → Prop)  (M : Mem) : Prop :=
  vp_in ((mI (sI M 11 this 43 ((mI M 11 this 43) + (1 : Int32))) 11 this 43) - (1 : Int32)) (mL (sI M 11 this 43 ((mI M 11 this 43) + (1 : Int32))) 107 this) ∧ Q (mI (sI M 11 this 43 ((mI M 11 this 43) + (1 : Int32))) 107 this ((mI (sI M 11 this 43 ((mI M 11 this 43) + (1 : Int32))) 11 this 43) - (1 : Int32)).toNatClampNeg) (sI M 11 this 43 ((mI M 11 this 43) + (1 : Int32)))
def w_Model_numberIn_j39 (this : Nat) (Q : Int32 → Mem → Prop) (X : Mem → Prop)  (M : Mem) : Prop :=
  w_Model_wrong this (fun M5 => w_Model_numberIn_j43 this Q X  M5) X M
def w_Model_numberIn (this : Nat) (a1 : Int32) (a2 : Int32) (Q : Int32 → Mem → Prop) (X : Mem → Prop) (M : Mem) : Prop :=
  vp_in (mI M 11 this 43) (mL M 411 this) ∧ if (mI M 411 this (mI M 11 this 43).toNatClampNeg) = (4 : Int32) then (vp_in (mI M 11 this 43) (mL M 107 this) ∧ if (mI M 107 this (mI M 11 this 43).toNatClampNeg) < a1 then (w_Model_numberIn_j39 this Q X  M) else (vp_in (mI M 11 this 43) (mL M 107 this) ∧ if (mI M 107 this (mI M 11 this 43).toNatClampNeg) ≤ a2 then (w_Model_numberIn_j43 this Q X  M) else (w_Model_numberIn_j39 this Q X  M))) else (w_Model_numberIn_j39 this Q X  M)
set_option maxRecDepth 4096 in
theorem lk_Model_numberIn_j43 {γ : Gm} (hγ : Gk γ) (this : Nat) (Q : Int32 → Mem → Prop) (X : Mem → Prop)  (M : Mem) (h : w_Model_numberIn_j43 this Q X  M) : E γ k_Model_numberIn 1 43 [some (vr (some (11, this))), none, none] [] M (Qx (14, 0) (Qi Q) X) := by
  unfold w_Model_numberIn_j43 at h
  obtain ⟨c6, h⟩ := h
  refine E_blk (lv' := [some (vr (some (11, this))), none, none]) (st' := [vi (mI (sI M 11 this 43 ((mI M 11 this 43) + (1 : Int32))) 107 this ((mI (sI M 11 this 43 ((mI M 11 this 43) + (1 : Int32))) 11 this 43) - (1 : Int32)).toNatClampNeg)]) (M1 := (sI M 11 this 43 ((mI M 11 this 43) + (1 : Int32)))) (pc' := 64) (tb_Model hγ) [.aload_n 0, .dup, .getfield 104, .iconst 1, .iadd, .putfield 104, .aload_n 0, .getfield 98, .aload_n 0, .getfield 104, .iconst 1, .isub, .iaload] (by decide +kernel) rfl rfl ⟨c6, trivial⟩ ?_
  exact (E_iret rfl (by decide +kernel) h).nx
set_option maxRecDepth 4096 in
theorem lk_Model_numberIn_j39 {γ : Gm} (hγ : Gk γ) (this : Nat) (Q : Int32 → Mem → Prop) (X : Mem → Prop)  (M : Mem) (h : w_Model_numberIn_j39 this Q X  M) : E γ k_Model_numberIn 1 39 [some (vr (some (11, this))), none, none] [] M (Qx (14, 0) (Qi Q) X) := by
  unfold w_Model_numberIn_j39 at h
  refine E_blk (lv' := [some (vr (some (11, this))), none, none]) (st' := [vr (some (11, this))]) (M1 := M) (pc' := 40) (tb_Model hγ) [.aload_n 0] (by decide +kernel) rfl rfl trivial ?_
  refine E_callX (κ' := k_Model_wrong) (As := []) (st := []) mv_Model_wrong (Or.inl (tbk_mem (j := 15) (k := 19) rfl)) rfl (by decide +kernel) (Nat.le_of_ble_eq_true rfl) (Nat.le_of_ble_eq_true rfl) rfl (by decide) rfl (lk_Model_wrong hγ this _ _ M h) (fun _ _ => Qv_r) (fun _ h => h) (fun v M5 hp => Qv_k (R := fun st => E γ k_Model_numberIn 1 43 [some (vr (some (11, this))), none, none] st M5 (Qx (14, 0) (Qi Q) X)) hp (fun h => ?_))
  refine E_mask [true, false, false] rfl ?_
  exact lk_Model_numberIn_j43 hγ this Q X  M5 h
set_option maxRecDepth 4096 in
theorem lk_Model_numberIn {γ : Gm} (hγ : Gk γ) (this : Nat) (a1 : Int32) (a2 : Int32) (Q : Int32 → Mem → Prop) (X : Mem → Prop) (M : Mem) (h : w_Model_numberIn this a1 a2 Q X M) : E γ k_Model_numberIn 1 0 [some (vr (some (11, this))), some (vi a1), some (vi a2)] [] M (Qx (14, 0) (Qi Q) X) := by
  unfold w_Model_numberIn at h
  obtain ⟨c1, h⟩ := h
  refine E_blk (lv' := [some (vr (some (11, this))), some (vi a1), some (vi a2)]) (st' := [vi (4 : Int32), vi (mI M 411 this (mI M 11 this 43).toNatClampNeg)]) (M1 := M) (pc' := 10) (tb_Model hγ) [.aload_n 0, .getfield 92, .aload_n 0, .getfield 104, .baload, .iconst 4] (by decide +kernel) rfl rfl ⟨c1, trivial⟩ ?_
  refine E_icmp_ne (off := 29) (tgt := 39) (by decide +kernel) (by decide) (fun b2 => ?_) (fun b2 => ?_)
  · rw [if_pos b2] at h
    obtain ⟨c3, h⟩ := h
    refine E_blk (lv' := [some (vr (some (11, this))), some (vi a1), some (vi a2)]) (st' := [vi a1, vi (mI M 107 this (mI M 11 this 43).toNatClampNeg)]) (M1 := M) (pc' := 23) (tb_Model hγ) [.aload_n 0, .getfield 98, .aload_n 0, .getfield 104, .iaload, .iload_n 1] (by decide +kernel) rfl rfl ⟨c3, trivial⟩ ?_
    refine E_icmp_lt (off := 16) (tgt := 39) (by decide +kernel) (by decide) (fun b4 => ?_) (fun b4 => ?_)
    · rw [if_pos b4] at h
      refine E_mask [true, false, false] rfl ?_
      exact lk_Model_numberIn_j39 hγ this Q X  M h
    · rw [if_neg b4] at h
      obtain ⟨c7, h⟩ := h
      refine E_blk (lv' := [some (vr (some (11, this))), some (vi a1), some (vi a2)]) (st' := [vi a2, vi (mI M 107 this (mI M 11 this 43).toNatClampNeg)]) (M1 := M) (pc' := 36) (tb_Model hγ) [.aload_n 0, .getfield 98, .aload_n 0, .getfield 104, .iaload, .iload_n 2] (by decide +kernel) rfl rfl ⟨c7, trivial⟩ ?_
      refine E_icmp_le (off := 7) (tgt := 43) (by decide +kernel) (by decide) (fun b8 => ?_) (fun b8 => ?_)
      · rw [if_pos b8] at h
        refine E_mask [true, false, false] rfl ?_
        exact lk_Model_numberIn_j43 hγ this Q X  M h
      · rw [if_neg b8] at h
        refine E_mask [true, false, false] rfl ?_
        exact lk_Model_numberIn_j39 hγ this Q X  M h
  · rw [if_neg b2] at h
    refine E_mask [true, false, false] rfl ?_
    exact lk_Model_numberIn_j39 hγ this Q X  M h
def w_Model_labelOf_L2 (this : Nat) (Q : Int32 → Mem → Prop) : Nat → Int32 → Int32 → Mem → Prop
  | 0, _, _, _ => False
  | n + 1, v1, v2, M => if (mI M 11 this 60) ≤ v2 then (Q (-2 : Int32) M) else (∃ i2, (mR M 11 this 58) = some (300, i2) ∧ vp_in v2 (mL M 300 i2) ∧ if (mI M 300 i2 v2.toNatClampNeg) = v1 then (∃ i5, (mR M 11 this 59) = some (300, i5) ∧ vp_in v2 (mL M 300 i5) ∧ Q (mI M 300 i5 v2.toNatClampNeg) M) else ((w_Model_labelOf_L2 this Q n) v1 (v2 + (1 : Int32)) M))
def w_Model_labelOf (this : Nat) (a1 : Int32) (Q : Int32 → Mem → Prop) (M : Mem) : Prop :=
  ∃ n7 : Nat, w_Model_labelOf_L2 this Q n7 a1 (0 : Int32) M
set_option maxRecDepth 4096 in
theorem lk_Model_labelOf_L2 {γ : Gm} (hγ : Gk γ) (this : Nat) (Q : Int32 → Mem → Prop) : ∀ (n : Nat) (v1 : Int32) (v2 : Int32) (M : Mem), w_Model_labelOf_L2 this Q n v1 v2 M → E γ k_Model_labelOf 0 2 [some (vr (some (11, this))), some (vi v1), some (vi v2)] [] M (Qi Q) := by
  intro n
  induction n with
  | zero => intro v1 v2 M h; exact h.elim
  | succ n ih =>
    intro v1 v2 M h
    unfold w_Model_labelOf_L2 at h
    refine E_blk (lv' := [some (vr (some (11, this))), some (vi v1), some (vi v2)]) (st' := [vi (mI M 11 this 60), vi v2]) (M1 := M) (pc' := 7) (tb_Model hγ) [.iload_n 2, .aload_n 0, .getfield 644] (by decide +kernel) rfl rfl trivial ?_
    refine E_icmp_ge (off := 26) (tgt := 33) (by decide +kernel) (by decide) (fun b1 => ?_) (fun b1 => ?_)
    · rw [if_pos b1] at h
      refine E_blk (lv' := [some (vr (some (11, this))), some (vi v1), some (vi v2)]) (st' := [vi (-2 : Int32)]) (M1 := M) (pc' := 35) (tb_Model hγ) [.bipush (.negSucc 1)] (by decide +kernel) rfl rfl trivial ?_
      exact E_iret rfl (by decide +kernel) h
    · rw [if_neg b1] at h
      refine E_blk (lv' := [some (vr (some (11, this))), some (vi v1), some (vi v2)]) (st' := [vr (mR M 11 this 58)]) (M1 := M) (pc' := 14) (tb_Model hγ) [.aload_n 0, .getfield 283] (by decide +kernel) rfl rfl trivial ?_
      obtain ⟨i2, ei2, h⟩ := h
      rw [ei2]
      obtain ⟨c3, h⟩ := h
      refine E_blk (lv' := [some (vr (some (11, this))), some (vi v1), some (vi v2)]) (st' := [vi v1, vi (mI M 300 i2 v2.toNatClampNeg)]) (M1 := M) (pc' := 17) (tb_Model hγ) [.iload_n 2, .iaload, .iload_n 1] (by decide +kernel) rfl rfl ⟨c3, trivial⟩ ?_
      refine E_icmp_ne (off := 10) (tgt := 27) (by decide +kernel) (by decide) (fun b4 => ?_) (fun b4 => ?_)
      · rw [if_pos b4] at h
        refine E_blk (lv' := [some (vr (some (11, this))), some (vi v1), some (vi v2)]) (st' := [vr (mR M 11 this 59)]) (M1 := M) (pc' := 24) (tb_Model hγ) [.aload_n 0, .getfield 286] (by decide +kernel) rfl rfl trivial ?_
        obtain ⟨i5, ei5, h⟩ := h
        rw [ei5]
        obtain ⟨c6, h⟩ := h
        refine E_blk (lv' := [some (vr (some (11, this))), some (vi v1), some (vi v2)]) (st' := [vi (mI M 300 i5 v2.toNatClampNeg)]) (M1 := M) (pc' := 26) (tb_Model hγ) [.iload_n 2, .iaload] (by decide +kernel) rfl rfl ⟨c6, trivial⟩ ?_
        exact E_iret rfl (by decide +kernel) h
      · rw [if_neg b4] at h
        refine E_blk (lv' := [some (vr (some (11, this))), some (vi v1), some (vi (v2 + (1 : Int32)))]) (st' := []) (M1 := M) (pc' := 30) (tb_Model hγ) [.iinc 2 1] (by decide +kernel) rfl rfl trivial ?_
        refine E_goto (off := -28) (tgt := 2) (by decide +kernel) (by decide) ?_
        refine E_mask [true, true, true] rfl ?_
        exact ih v1 (v2 + (1 : Int32)) M h
set_option maxRecDepth 4096 in
theorem lk_Model_labelOf {γ : Gm} (hγ : Gk γ) (this : Nat) (a1 : Int32) (Q : Int32 → Mem → Prop) (M : Mem) (h : w_Model_labelOf this a1 Q M) : E γ k_Model_labelOf 0 0 [some (vr (some (11, this))), some (vi a1), none] [] M (Qi Q) := by
  unfold w_Model_labelOf at h
  refine E_blk (lv' := [some (vr (some (11, this))), some (vi a1), some (vi (0 : Int32))]) (st' := []) (M1 := M) (pc' := 2) (tb_Model hγ) [.iconst 0, .istore_n 2] (by decide +kernel) rfl rfl trivial ?_
  obtain ⟨n7, h⟩ := h
  refine E_mask [true, true, true] rfl ?_
  exact lk_Model_labelOf_L2 hγ this Q n7 a1 (0 : Int32) M h
