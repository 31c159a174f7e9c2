def k_Works_work1 : Kp := (⟨"ClassWorks", "work", "([BII)V"⟩, prog_1_method_9_code, 6, none, [(46, 61, 64, 28)])
theorem mv_Works_work1 : MV k_Works_work1 10 3 := ⟨⟨_, rfl, rfl⟩, by decide, (tbk_mem (j := 10) (k := 184) rfl), Or.inr ⟨(tbk_mem (j := 10) (k := 183) rfl), 31, (tbk_mem (j := 1) (k := 30) rfl)⟩, Or.inr (tbk_mem (j := 10) (k := 185) rfl), ⟨by decide, by decide⟩, by decide +kernel, by decide +kernel, by decide⟩
def k_JInteger_bitCount : Kp := (⟨"java/lang/Integer", "bitCount", "(I)I"⟩, prog_20_method_49_code, 1, some (.int), [])
theorem ms_JInteger_bitCount : MSt k_JInteger_bitCount 1 := ⟨(tbk_mem (j := 10) (k := 173) rfl), (tbk_mem (j := 1) (k := 28) rfl), Or.inl ⟨rfl, (tbk_mem (j := 10) (k := 174) rfl)⟩, ⟨by decide, by decide⟩, by decide +kernel, by decide +kernel, by decide⟩
def k_JInteger_numberOfTrailingZeros : Kp := (⟨"java/lang/Integer", "numberOfTrailingZeros", "(I)I"⟩, prog_20_method_48_code, 2, some (.int), [])
theorem ms_JInteger_numberOfTrailingZeros : MSt k_JInteger_numberOfTrailingZeros 1 := ⟨(tbk_mem (j := 10) (k := 179) rfl), (tbk_mem (j := 1) (k := 28) rfl), Or.inl ⟨rfl, (tbk_mem (j := 10) (k := 180) rfl)⟩, ⟨by decide, by decide⟩, by decide +kernel, by decide +kernel, by decide⟩
def k_Works_work2 : Kp := (⟨"ClassWorks", "work", "(II)V"⟩, prog_1_method_10_code, 5, none, [])
theorem mv_Works_work2 : MV k_Works_work2 10 2 := ⟨⟨_, rfl, rfl⟩, by decide, (tbk_mem (j := 10) (k := 170) rfl), Or.inr ⟨(tbk_mem (j := 10) (k := 169) rfl), 31, (tbk_mem (j := 1) (k := 30) rfl)⟩, Or.inl ⟨rfl, (tbk_mem (j := 10) (k := 171) rfl)⟩, ⟨by decide, by decide⟩, by decide +kernel, by decide +kernel, by decide⟩
def k_Works_isTrial : Kp := (⟨"ClassWorks", "isTrial", "(I)Z"⟩, prog_1_method_11_code, 2, some (.boolean), [])
theorem mv_Works_isTrial : MV k_Works_isTrial 10 1 := ⟨⟨_, rfl, rfl⟩, by decide, (tbk_mem (j := 10) (k := 208) rfl), Or.inr ⟨(tbk_mem (j := 10) (k := 207) rfl), 31, (tbk_mem (j := 1) (k := 30) rfl)⟩, Or.inl ⟨rfl, (tbk_mem (j := 10) (k := 209) rfl)⟩, ⟨by decide, by decide⟩, by decide +kernel, by decide +kernel, by decide⟩
def k_Works_isRule : Kp := (⟨"ClassWorks", "isRule", "(I)Z"⟩, prog_1_method_12_code, 2, some (.boolean), [])
theorem mv_Works_isRule : MV k_Works_isRule 10 1 := ⟨⟨_, rfl, rfl⟩, by decide, (tbk_mem (j := 10) (k := 191) rfl), Or.inr ⟨(tbk_mem (j := 10) (k := 190) rfl), 31, (tbk_mem (j := 1) (k := 30) rfl)⟩, Or.inl ⟨rfl, (tbk_mem (j := 10) (k := 192) rfl)⟩, ⟨by decide, by decide⟩, by decide +kernel, by decide +kernel, by decide⟩
def k_Works_ruleMet : Kp := (⟨"ClassWorks", "ruleMet", "(I)I"⟩, prog_1_method_13_code, 3, some (.int), [])
theorem mv_Works_ruleMet : MV k_Works_ruleMet 10 1 := ⟨⟨_, rfl, rfl⟩, by decide, (tbk_mem (j := 10) (k := 199) rfl), Or.inr ⟨(tbk_mem (j := 10) (k := 198) rfl), 31, (tbk_mem (j := 1) (k := 30) rfl)⟩, Or.inl ⟨rfl, (tbk_mem (j := 10) (k := 200) rfl)⟩, ⟨by decide, by decide⟩, by decide +kernel, by decide +kernel, by decide⟩
def k_Works_finds0 : Kp := (⟨"ClassWorks", "finds0", "(II)Z"⟩, prog_1_method_14_code, 5, some (.boolean), [])
theorem mv_Works_finds0 : MV k_Works_finds0 10 2 := ⟨⟨_, rfl, rfl⟩, by decide, (tbk_mem (j := 10) (k := 166) rfl), Or.inr ⟨(tbk_mem (j := 10) (k := 165) rfl), 31, (tbk_mem (j := 1) (k := 30) rfl)⟩, Or.inl ⟨rfl, (tbk_mem (j := 10) (k := 167) rfl)⟩, ⟨by decide, by decide⟩, by decide +kernel, by decide +kernel, by decide⟩
def k_Works_isWorld : Kp := (⟨"ClassWorks", "isWorld", "(I)Z"⟩, prog_1_method_15_code, 2, some (.boolean), [])
theorem mv_Works_isWorld : MV k_Works_isWorld 10 1 := ⟨⟨_, rfl, rfl⟩, by decide, (tbk_mem (j := 6) (k := 34) rfl), Or.inr ⟨(tbk_mem (j := 6) (k := 33) rfl), 31, (tbk_mem (j := 1) (k := 30) rfl)⟩, Or.inl ⟨rfl, (tbk_mem (j := 6) (k := 35) rfl)⟩, ⟨by decide, by decide⟩, by decide +kernel, by decide +kernel, by decide⟩
def k_Works_isClass : Kp := (⟨"ClassWorks", "isClass", "(II)Z"⟩, prog_1_method_16_code, 3, some (.boolean), [])
theorem mv_Works_isClass : MV k_Works_isClass 10 2 := ⟨⟨_, rfl, rfl⟩, by decide, (tbk_mem (j := 7) (k := 51) rfl), Or.inr ⟨(tbk_mem (j := 7) (k := 50) rfl), 31, (tbk_mem (j := 1) (k := 30) rfl)⟩, Or.inl ⟨rfl, (tbk_mem (j := 7) (k := 52) rfl)⟩, ⟨by decide, by decide⟩, by decide +kernel, by decide +kernel, by decide⟩
def k_Works_world : Kp := (⟨"ClassWorks", "world", "(I)I"⟩, prog_1_method_17_code, 3, some (.int), [])
theorem mv_Works_world : MV k_Works_world 10 1 := ⟨⟨_, rfl, rfl⟩, by decide, (tbk_mem (j := 6) (k := 1) rfl), Or.inl (tbk_mem (j := 6) (k := 2) rfl), Or.inl ⟨rfl, (tbk_mem (j := 6) (k := 3) rfl)⟩, ⟨by decide, by decide⟩, by decide +kernel, by decide +kernel, by decide⟩
def k_Works_drop : Kp := (⟨"ClassWorks", "drop", "(I)I"⟩, prog_1_method_18_code, 3, some (.int), [])
theorem mv_Works_drop : MV k_Works_drop 10 1 := ⟨⟨_, rfl, rfl⟩, by decide, (tbk_mem (j := 6) (k := 29) rfl), Or.inl (tbk_mem (j := 6) (k := 30) rfl), Or.inl ⟨rfl, (tbk_mem (j := 6) (k := 31) rfl)⟩, ⟨by decide, by decide⟩, by decide +kernel, by decide +kernel, by decide⟩
def k_Works_define : Kp := (⟨"ClassWorks", "define", "(I)I"⟩, prog_1_method_19_code, 4, some (.int), [(26, 44, 45, 28)])
theorem mv_Works_define : MV k_Works_define 10 1 := ⟨⟨_, rfl, rfl⟩, by decide, (tbk_mem (j := 6) (k := 37) rfl), Or.inl (tbk_mem (j := 6) (k := 38) rfl), Or.inr (tbk_mem (j := 6) (k := 39) rfl), ⟨by decide, by decide⟩, by decide +kernel, by decide +kernel, by decide⟩
def k_Works_place : Kp := (⟨"ClassWorks", "place", "()I"⟩, prog_1_method_20_code, 1, some (.int), [])
theorem mv_Works_place : MV k_Works_place 10 0 := ⟨⟨_, rfl, rfl⟩, by decide, (tbk_mem (j := 7) (k := 38) rfl), Or.inl (tbk_mem (j := 7) (k := 39) rfl), Or.inl ⟨rfl, (tbk_mem (j := 7) (k := 40) rfl)⟩, ⟨by decide, by decide⟩, by decide +kernel, by decide +kernel, by decide⟩
def k_Works_classes : Kp := (⟨"ClassWorks", "classes", "(I)I"⟩, prog_1_method_21_code, 2, some (.int), [])
theorem mv_Works_classes : MV k_Works_classes 10 1 := ⟨⟨_, rfl, rfl⟩, by decide, (tbk_mem (j := 7) (k := 42) rfl), Or.inl (tbk_mem (j := 7) (k := 43) rfl), Or.inl ⟨rfl, (tbk_mem (j := 7) (k := 44) rfl)⟩, ⟨by decide, by decide⟩, by decide +kernel, by decide +kernel, by decide⟩
def k_Works_told : Kp := (⟨"ClassWorks", "told", "(III)I"⟩, prog_1_method_22_code, 5, some (.int), [])
theorem mv_Works_told : MV k_Works_told 10 3 := ⟨⟨_, rfl, rfl⟩, by decide, (tbk_mem (j := 7) (k := 46) rfl), Or.inl (tbk_mem (j := 7) (k := 47) rfl), Or.inl ⟨rfl, (tbk_mem (j := 7) (k := 48) rfl)⟩, ⟨by decide, by decide⟩, by decide +kernel, by decide +kernel, by decide⟩
def k_Works_isField : Kp := (⟨"ClassWorks", "isField", "(LClassWorks$World;II)Z"⟩, prog_1_method_23_code, 4, some (.boolean), [])
theorem mv_Works_isField : MV k_Works_isField 10 3 := ⟨⟨_, rfl, rfl⟩, by decide, (tbk_mem (j := 7) (k := 60) rfl), Or.inr ⟨(tbk_mem (j := 7) (k := 59) rfl), 31, (tbk_mem (j := 1) (k := 30) rfl)⟩, Or.inl ⟨rfl, (tbk_mem (j := 7) (k := 61) rfl)⟩, ⟨by decide, by decide⟩, by decide +kernel, by decide +kernel, by decide⟩
def k_Works_isMethod : Kp := (⟨"ClassWorks", "isMethod", "(LClassWorks$World;II)Z"⟩, prog_1_method_24_code, 4, some (.boolean), [])
theorem mv_Works_isMethod : MV k_Works_isMethod 10 3 := ⟨⟨_, rfl, rfl⟩, by decide, (tbk_mem (j := 7) (k := 64) rfl), Or.inr ⟨(tbk_mem (j := 7) (k := 63) rfl), 31, (tbk_mem (j := 1) (k := 30) rfl)⟩, Or.inl ⟨rfl, (tbk_mem (j := 7) (k := 65) rfl)⟩, ⟨by decide, by decide⟩, by decide +kernel, by decide +kernel, by decide⟩
def k_Works_name : Kp := (⟨"ClassWorks", "name", "(IIIII)I"⟩, prog_1_method_25_code, 9, some (.int), [])
theorem mv_Works_name : MV k_Works_name 10 5 := ⟨⟨_, rfl, rfl⟩, by decide, (tbk_mem (j := 7) (k := 55) rfl), Or.inl (tbk_mem (j := 7) (k := 56) rfl), Or.inl ⟨rfl, (tbk_mem (j := 7) (k := 57) rfl)⟩, ⟨by decide, by decide⟩, by decide +kernel, by decide +kernel, by decide⟩
def k_Works_member : Kp := (⟨"ClassWorks", "member", "(IIII)I"⟩, prog_1_method_26_code, 7, some (.int), [])
theorem mv_Works_member : MV k_Works_member 10 4 := ⟨⟨_, rfl, rfl⟩, by decide, (tbk_mem (j := 7) (k := 68) rfl), Or.inl (tbk_mem (j := 7) (k := 69) rfl), Or.inl ⟨rfl, (tbk_mem (j := 7) (k := 70) rfl)⟩, ⟨by decide, by decide⟩, by decide +kernel, by decide +kernel, by decide⟩
def k_Works_link : Kp := (⟨"ClassWorks", "link", "(II)I"⟩, prog_1_method_27_code, 4, some (.int), [])
theorem mv_Works_link : MV k_Works_link 10 2 := ⟨⟨_, rfl, rfl⟩, by decide, (tbk_mem (j := 7) (k := 73) rfl), Or.inl (tbk_mem (j := 7) (k := 74) rfl), Or.inl ⟨rfl, (tbk_mem (j := 7) (k := 75) rfl)⟩, ⟨by decide, by decide⟩, by decide +kernel, by decide +kernel, by decide⟩
def k_Works_checked : Kp := (⟨"ClassWorks", "checked", "(II)I"⟩, prog_1_method_28_code, 4, some (.int), [])
theorem mv_Works_checked : MV k_Works_checked 10 2 := ⟨⟨_, rfl, rfl⟩, by decide, (tbk_mem (j := 8) (k := 69) rfl), Or.inl (tbk_mem (j := 8) (k := 70) rfl), Or.inl ⟨rfl, (tbk_mem (j := 8) (k := 71) rfl)⟩, ⟨by decide, by decide⟩, by decide +kernel, by decide +kernel, by decide⟩
def k_Works_isThread : Kp := (⟨"ClassWorks", "isThread", "(II)Z"⟩, prog_1_method_29_code, 3, some (.boolean), [])
theorem mv_Works_isThread : MV k_Works_isThread 10 2 := ⟨⟨_, rfl, rfl⟩, by decide, (tbk_mem (j := 8) (k := 78) rfl), Or.inr ⟨(tbk_mem (j := 8) (k := 77) rfl), 31, (tbk_mem (j := 1) (k := 30) rfl)⟩, Or.inl ⟨rfl, (tbk_mem (j := 8) (k := 79) rfl)⟩, ⟨by decide, by decide⟩, by decide +kernel, by decide +kernel, by decide⟩
def k_Reader_asked : Kp := (⟨"ClassWorks$Reader", "asked", "(LClassWorks$World;)V"⟩, prog_7_method_35_code, 7, none, [(35, 39, 47, 0), (47, 49, 47, 0)])
theorem mv_Reader_asked : MV k_Reader_asked 3 1 := ⟨⟨_, rfl, rfl⟩, by decide, (tbk_mem (j := 8) (k := 89) rfl), Or.inl (tbk_mem (j := 8) (k := 90) rfl), Or.inr (tbk_mem (j := 8) (k := 91) rfl), ⟨by decide, by decide⟩, by decide +kernel, by decide +kernel, by decide⟩
def k_Works_isTaken : Kp := (⟨"ClassWorks", "isTaken", "(LClassWorks$World;I)Z"⟩, prog_1_method_44_code, 5, some (.boolean), [(16, 104, 105, 28)])
theorem mv_Works_isTaken : MV k_Works_isTaken 10 2 := ⟨⟨_, rfl, rfl⟩, by decide, (tbk_mem (j := 8) (k := 83) rfl), Or.inr ⟨(tbk_mem (j := 8) (k := 82) rfl), 31, (tbk_mem (j := 1) (k := 30) rfl)⟩, Or.inr (tbk_mem (j := 8) (k := 84) rfl), ⟨by decide, by decide⟩, by decide +kernel, by decide +kernel, by decide⟩
def k_Works_call : Kp := (⟨"ClassWorks", "call", "(II)I"⟩, prog_1_method_30_code, 5, some (.int), [])
theorem mv_Works_call : MV k_Works_call 10 2 := ⟨⟨_, rfl, rfl⟩, by decide, (tbk_mem (j := 8) (k := 73) rfl), Or.inl (tbk_mem (j := 8) (k := 74) rfl), Or.inl ⟨rfl, (tbk_mem (j := 8) (k := 75) rfl)⟩, ⟨by decide, by decide⟩, by decide +kernel, by decide +kernel, by decide⟩
def k_Machine_isOn : Kp := (⟨"ClassWorks$Machine", "isOn", "()Z"⟩, prog_5_method_6_code, 1, some (.boolean), [])
theorem mv_Machine_isOn : MV k_Machine_isOn 6 0 := ⟨⟨_, rfl, rfl⟩, by decide, (tbk_mem (j := 8) (k := 108) rfl), Or.inl (tbk_mem (j := 8) (k := 109) rfl), Or.inl ⟨rfl, (tbk_mem (j := 8) (k := 110) rfl)⟩, ⟨by decide, by decide⟩, by decide +kernel, by decide +kernel, by decide⟩
def k_Works_step : Kp := (⟨"ClassWorks", "step", "(II)I"⟩, prog_1_method_31_code, 5, some (.int), [])
theorem mv_Works_step : MV k_Works_step 10 2 := ⟨⟨_, rfl, rfl⟩, by decide, (tbk_mem (j := 8) (k := 104) rfl), Or.inl (tbk_mem (j := 8) (k := 105) rfl), Or.inl ⟨rfl, (tbk_mem (j := 8) (k := 106) rfl)⟩, ⟨by decide, by decide⟩, by decide +kernel, by decide +kernel, by decide⟩
def k_Line_uppermost : Kp := (⟨"ClassWorks$Line", "uppermost", "()I"⟩, prog_4_method_4_code, 2, some (.int), [])
theorem mv_Line_uppermost : MV k_Line_uppermost 7 0 := ⟨⟨_, rfl, rfl⟩, by decide, (tbk_mem (j := 9) (k := 125) rfl), Or.inl (tbk_mem (j := 9) (k := 126) rfl), Or.inl ⟨rfl, (tbk_mem (j := 9) (k := 127) rfl)⟩, ⟨by decide, by decide⟩, by decide +kernel, by decide +kernel, by decide⟩
def k_Works_run : Kp := (⟨"ClassWorks", "run", "(III)I"⟩, prog_1_method_32_code, 7, some (.int), [])
theorem mv_Works_run : MV k_Works_run 10 3 := ⟨⟨_, rfl, rfl⟩, by decide, (tbk_mem (j := 9) (k := 121) rfl), Or.inl (tbk_mem (j := 9) (k := 122) rfl), Or.inl ⟨rfl, (tbk_mem (j := 9) (k := 123) rfl)⟩, ⟨by decide, by decide⟩, by decide +kernel, by decide +kernel, by decide⟩
def k_Works_started : Kp := (⟨"ClassWorks", "started", "(II)I"⟩, prog_1_method_33_code, 3, some (.int), [])
theorem mv_Works_started : MV k_Works_started 10 2 := ⟨⟨_, rfl, rfl⟩, by decide, (tbk_mem (j := 9) (k := 130) rfl), Or.inl (tbk_mem (j := 9) (k := 131) rfl), Or.inl ⟨rfl, (tbk_mem (j := 9) (k := 132) rfl)⟩, ⟨by decide, by decide⟩, by decide +kernel, by decide +kernel, by decide⟩
def k_Works_shown : Kp := (⟨"ClassWorks", "shown", "(IZ)I"⟩, prog_1_method_34_code, 3, some (.int), [])
theorem mv_Works_shown : MV k_Works_shown 10 2 := ⟨⟨_, rfl, rfl⟩, by decide, (tbk_mem (j := 9) (k := 139) rfl), Or.inr ⟨(tbk_mem (j := 9) (k := 138) rfl), 31, (tbk_mem (j := 1) (k := 30) rfl)⟩, Or.inl ⟨rfl, (tbk_mem (j := 9) (k := 140) rfl)⟩, ⟨by decide, by decide⟩, by decide +kernel, by decide +kernel, by decide⟩
def k_Works_value : Kp := (⟨"ClassWorks", "value", "(IIZI)I"⟩, prog_1_method_35_code, 8, some (.int), [])
theorem mv_Works_value : MV k_Works_value 10 4 := ⟨⟨_, rfl, rfl⟩, by decide, (tbk_mem (j := 9) (k := 134) rfl), Or.inl (tbk_mem (j := 9) (k := 135) rfl), Or.inl ⟨rfl, (tbk_mem (j := 9) (k := 136) rfl)⟩, ⟨by decide, by decide⟩, by decide +kernel, by decide +kernel, by decide⟩
def k_Works_fixed : Kp := (⟨"ClassWorks", "fixed", "(III)I"⟩, prog_1_method_36_code, 6, some (.int), [])
theorem mv_Works_fixed : MV k_Works_fixed 10 3 := ⟨⟨_, rfl, rfl⟩, by decide, (tbk_mem (j := 9) (k := 142) rfl), Or.inl (tbk_mem (j := 9) (k := 143) rfl), Or.inl ⟨rfl, (tbk_mem (j := 9) (k := 144) rfl)⟩, ⟨by decide, by decide⟩, by decide +kernel, by decide +kernel, by decide⟩
def k_World_fieldKind : Kp := (⟨"ClassWorks$World", "fieldKind", "(II)I"⟩, prog_10_method_28_code, 5, some (.int), [])
theorem mv_World_fieldKind : MV k_World_fieldKind 5 2 := ⟨⟨_, rfl, rfl⟩, by decide, (tbk_mem (j := 9) (k := 150) rfl), Or.inl (tbk_mem (j := 9) (k := 151) rfl), Or.inl ⟨rfl, (tbk_mem (j := 9) (k := 152) rfl)⟩, ⟨by decide, by decide⟩, by decide +kernel, by decide +kernel, by decide⟩
def k_Works_object : Kp := (⟨"ClassWorks", "object", "(III)I"⟩, prog_1_method_37_code, 6, some (.int), [])
theorem mv_Works_object : MV k_Works_object 10 3 := ⟨⟨_, rfl, rfl⟩, by decide, (tbk_mem (j := 9) (k := 146) rfl), Or.inl (tbk_mem (j := 9) (k := 147) rfl), Or.inl ⟨rfl, (tbk_mem (j := 9) (k := 148) rfl)⟩, ⟨by decide, by decide⟩, by decide +kernel, by decide +kernel, by decide⟩
def k_Writer_put : Kp := (⟨"ClassWorks$Writer", "put", "(I)V"⟩, prog_11_method_3_code, 2, none, [])
theorem mv_Writer_put : MV k_Writer_put 8 1 := ⟨⟨_, rfl, rfl⟩, by decide, (tbk_mem (j := 9) (k := 167) rfl), Or.inr ⟨(tbk_mem (j := 9) (k := 166) rfl), 7, (tbk_mem (j := 5) (k := 96) rfl)⟩, Or.inl ⟨rfl, (tbk_mem (j := 9) (k := 168) rfl)⟩, ⟨by decide, by decide⟩, by decide +kernel, by decide +kernel, by decide⟩
def k_Writer_line : Kp := (⟨"ClassWorks$Writer", "line", "(I)V"⟩, prog_11_method_2_code, 3, none, [])
theorem mv_Writer_line : MV k_Writer_line 8 1 := ⟨⟨_, rfl, rfl⟩, by decide, (tbk_mem (j := 9) (k := 163) rfl), Or.inr ⟨(tbk_mem (j := 9) (k := 162) rfl), 7, (tbk_mem (j := 5) (k := 96) rfl)⟩, Or.inl ⟨rfl, (tbk_mem (j := 9) (k := 164) rfl)⟩, ⟨by decide, by decide⟩, by decide +kernel, by decide +kernel, by decide⟩
def k_Writer_space : Kp := (⟨"ClassWorks$Writer", "space", "()V"⟩, prog_11_method_5_code, 1, none, [])
theorem mv_Writer_space : MV k_Writer_space 8 0 := ⟨⟨_, rfl, rfl⟩, by decide, (tbk_mem (j := 9) (k := 179) rfl), Or.inr ⟨(tbk_mem (j := 9) (k := 178) rfl), 7, (tbk_mem (j := 5) (k := 96) rfl)⟩, Or.inl ⟨rfl, (tbk_mem (j := 9) (k := 180) rfl)⟩, ⟨by decide, by decide⟩, by decide +kernel, by decide +kernel, by decide⟩
def k_Writer_word : Kp := (⟨"ClassWorks$Writer", "word", "(I)V"⟩, prog_11_method_6_code, 3, none, [])
theorem mv_Writer_word : MV k_Writer_word 8 1 := ⟨⟨_, rfl, rfl⟩, by decide, (tbk_mem (j := 9) (k := 175) rfl), Or.inr ⟨(tbk_mem (j := 9) (k := 174) rfl), 7, (tbk_mem (j := 5) (k := 96) rfl)⟩, Or.inl ⟨rfl, (tbk_mem (j := 9) (k := 176) rfl)⟩, ⟨by decide, by decide⟩, by decide +kernel, by decide +kernel, by decide⟩
def k_Writer_flags : Kp := (⟨"ClassWorks$Writer", "flags", "(IIIII)V"⟩, prog_11_method_9_code, 6, none, [])
theorem mv_Writer_flags : MV k_Writer_flags 8 5 := ⟨⟨_, rfl, rfl⟩, by decide, (tbk_mem (j := 9) (k := 171) rfl), Or.inr ⟨(tbk_mem (j := 9) (k := 170) rfl), 7, (tbk_mem (j := 5) (k := 96) rfl)⟩, Or.inl ⟨rfl, (tbk_mem (j := 9) (k := 172) rfl)⟩, ⟨by decide, by decide⟩, by decide +kernel, by decide +kernel, by decide⟩
def k_Writer_sign : Kp := (⟨"ClassWorks$Writer", "sign", "(I)V"⟩, prog_11_method_7_code, 2, none, [])
theorem mv_Writer_sign : MV k_Writer_sign 8 1 := ⟨⟨_, rfl, rfl⟩, by decide, (tbk_mem (j := 9) (k := 184) rfl), Or.inr ⟨(tbk_mem (j := 9) (k := 183) rfl), 7, (tbk_mem (j := 5) (k := 96) rfl)⟩, Or.inl ⟨rfl, (tbk_mem (j := 9) (k := 185) rfl)⟩, ⟨by decide, by decide⟩, by decide +kernel, by decide +kernel, by decide⟩
def k_Writer_end : Kp := (⟨"ClassWorks$Writer", "end", "()V"⟩, prog_11_method_4_code, 1, none, [])
theorem mv_Writer_end : MV k_Writer_end 8 0 := ⟨⟨_, rfl, rfl⟩, by decide, (tbk_mem (j := 9) (k := 188) rfl), Or.inr ⟨(tbk_mem (j := 9) (k := 187) rfl), 7, (tbk_mem (j := 5) (k := 96) rfl)⟩, Or.inl ⟨rfl, (tbk_mem (j := 9) (k := 189) rfl)⟩, ⟨by decide, by decide⟩, by decide +kernel, by decide +kernel, by decide⟩
def k_Writer_kind : Kp := (⟨"ClassWorks$Writer", "kind", "(I)V"⟩, prog_11_method_10_code, 2, none, [])
theorem mv_Writer_kind : MV k_Writer_kind 8 1 := ⟨⟨_, rfl, rfl⟩, by decide, (tbk_mem (j := 9) (k := 196) rfl), Or.inr ⟨(tbk_mem (j := 9) (k := 195) rfl), 7, (tbk_mem (j := 5) (k := 96) rfl)⟩, Or.inl ⟨rfl, (tbk_mem (j := 9) (k := 197) rfl)⟩, ⟨by decide, by decide⟩, by decide +kernel, by decide +kernel, by decide⟩
def k_Writer_digits : Kp := (⟨"ClassWorks$Writer", "digits", "(I)V"⟩, prog_11_method_8_code, 6, none, [])
theorem mv_Writer_digits : MV k_Writer_digits 8 1 := ⟨⟨_, rfl, rfl⟩, by decide, (tbk_mem (j := 9) (k := 200) rfl), Or.inr ⟨(tbk_mem (j := 9) (k := 199) rfl), 7, (tbk_mem (j := 5) (k := 96) rfl)⟩, Or.inl ⟨rfl, (tbk_mem (j := 9) (k := 201) rfl)⟩, ⟨by decide, by decide⟩, by decide +kernel, by decide +kernel, by decide⟩
def k_Writer_field : Kp := (⟨"ClassWorks$Writer", "field", "(I)V"⟩, prog_11_method_13_code, 2, none, [])
theorem mv_Writer_field : MV k_Writer_field 8 1 := ⟨⟨_, rfl, rfl⟩, by decide, (tbk_mem (j := 9) (k := 192) rfl), Or.inr ⟨(tbk_mem (j := 9) (k := 191) rfl), 7, (tbk_mem (j := 5) (k := 96) rfl)⟩, Or.inl ⟨rfl, (tbk_mem (j := 9) (k := 193) rfl)⟩, ⟨by decide, by decide⟩, by decide +kernel, by decide +kernel, by decide⟩
def k_Writer_types : Kp := (⟨"ClassWorks$Writer", "types", "([IIII)V"⟩, prog_11_method_11_code, 6, none, [])
theorem mv_Writer_types : MV k_Writer_types 8 4 := ⟨⟨_, rfl, rfl⟩, by decide, (tbk_mem (j := 9) (k := 211) rfl), Or.inr ⟨(tbk_mem (j := 9) (k := 210) rfl), 7, (tbk_mem (j := 5) (k := 96) rfl)⟩, Or.inl ⟨rfl, (tbk_mem (j := 9) (k := 212) rfl)⟩, ⟨by decide, by decide⟩, by decide +kernel, by decide +kernel, by decide⟩
def k_Writer_labels : Kp := (⟨"ClassWorks$Writer", "labels", "(I)V"⟩, prog_11_method_15_code, 6, none, [])
theorem mv_Writer_labels : MV k_Writer_labels 8 1 := ⟨⟨_, rfl, rfl⟩, by decide, (tbk_mem (j := 9) (k := 215) rfl), Or.inr ⟨(tbk_mem (j := 9) (k := 214) rfl), 7, (tbk_mem (j := 5) (k := 96) rfl)⟩, Or.inl ⟨rfl, (tbk_mem (j := 9) (k := 216) rfl)⟩, ⟨by decide, by decide⟩, by decide +kernel, by decide +kernel, by decide⟩
def k_Writer_frame : Kp := (⟨"ClassWorks$Writer", "frame", "(I)V"⟩, prog_11_method_17_code, 4, none, [])
theorem mv_Writer_frame : MV k_Writer_frame 8 1 := ⟨⟨_, rfl, rfl⟩, by decide, (tbk_mem (j := 9) (k := 220) rfl), Or.inr ⟨(tbk_mem (j := 9) (k := 219) rfl), 7, (tbk_mem (j := 5) (k := 96) rfl)⟩, Or.inl ⟨rfl, (tbk_mem (j := 9) (k := 221) rfl)⟩, ⟨by decide, by decide⟩, by decide +kernel, by decide +kernel, by decide⟩
def k_Writer_label : Kp := (⟨"ClassWorks$Writer", "label", "(I)V"⟩, prog_11_method_16_code, 2, none, [])
theorem mv_Writer_label : MV k_Writer_label 8 1 := ⟨⟨_, rfl, rfl⟩, by decide, (tbk_mem (j := 9) (k := 224) rfl), Or.inr ⟨(tbk_mem (j := 9) (k := 223) rfl), 7, (tbk_mem (j := 5) (k := 96) rfl)⟩, Or.inl ⟨rfl, (tbk_mem (j := 9) (k := 225) rfl)⟩, ⟨by decide, by decide⟩, by decide +kernel, by decide +kernel, by decide⟩
def w_Works_work1_j242 (this : Nat) (Q : Mem → Prop) (X : Mem → Prop) (s0 : Int32) (s1 : Int32) (M : Mem) : Prop :=
  Q (sI M 10 this 17 (s1 + s0))
def w_Works_work1_j296 (this : Nat) (Q : Mem → Prop) (X : Mem → Prop) (s0 : Int32) (M : Mem) : Prop :=
  Q (sI M 10 this 17 s0)
def w_Works_work1_j264 (this : Nat) (Q : Mem → Prop) (X : Mem → Prop) (v5 : Nat) (s0 : Int32) (M : Mem) : Prop :=
  if (mI (sI M 10 this 16 s0) 7 v5 13) = (1 : Int32) then (w_Works_work1_j296 this Q X (mI (sI M 10 this 16 s0) 7 v5 14) (sI M 10 this 16 s0)) else (w_JMath_max ((mI (sI M 10 this 16 s0) 7 v5 13) - (2 : Int32)) (0 : Int32) (fun r21 M20 => w_Works_work1_j296 this Q X r21 M20) (sI M 10 this 16 s0))
def w_Works_work1_j64 (this : Nat) (Q : Mem → Prop) (X : Mem → Prop) (s0 : Nat) (M : Mem) : Prop :=
  ∃ M23, M23 = (sI (sI M 10 this 16 (1 : Int32)) 10 this 17 (mI (sI M 10 this 16 (1 : Int32)) 9 s0 5)) ∧ Q M23
def w_Works_work1_j27 (this : Nat) (Q : Mem → Prop) (X : Mem → Prop) (v1 : Nat) (v2 : Int32) (v3 : Int32) (v4 : Int32) (M : Mem) : Prop :=
  w_World_begin 0 v3 (fun M2 => ((1 : Int32) = 0 ∨ (1 : Int32) = 1) ∧ w_Reader_define 0 0 v1 v4 (fun r5 M4 => w_Words_begin 0 v1 v2 (fun M6 => w_Words_next 0 (fun M7 => w_Words_next 0 (fun M8 => w_Reader_call 0 0 (0 : Int32) (fun M9 => vp_in (0 : Int32) (mL M9 700 0) ∧ ∃ i11, (mR M9 700 0 (0 : Int32).toNatClampNeg) = some (7, i11) ∧ w_Line_call i11 0 (fun M12 => w_Machine_go 0 (300 : Int32) (fun r14 M13 => if (mI (sI M13 10 this 17 (0 : Int32)) 7 i11 11) = (1 : Int32) then (Q (sI (sI M13 10 this 17 (0 : Int32)) 10 this 16 (5 : Int32))) else (if (mI (sI M13 10 this 17 (0 : Int32)) 7 i11 11) = (2 : Int32) then (if (21 : Int32) ≤ (mI (sI (sI M13 10 this 17 (0 : Int32)) 10 this 16 (4 : Int32)) 7 i11 15) then (w_Works_work1_j242 this Q X (99 : Int32) ((100 : Int32) * (mI (sI (sI M13 10 this 17 (0 : Int32)) 10 this 16 (4 : Int32)) 7 i11 16)) (sI (sI M13 10 this 17 (0 : Int32)) 10 this 16 (4 : Int32))) else (w_Works_work1_j242 this Q X (mI (sI (sI M13 10 this 17 (0 : Int32)) 10 this 16 (4 : Int32)) 7 i11 15) ((100 : Int32) * (mI (sI (sI M13 10 this 17 (0 : Int32)) 10 this 16 (4 : Int32)) 7 i11 16)) (sI (sI M13 10 this 17 (0 : Int32)) 10 this 16 (4 : Int32)))) else (if (mI (sI M13 10 this 17 (0 : Int32)) 7 i11 13) = (1 : Int32) then (w_Works_work1_j264 this Q X i11 (2 : Int32) (sI M13 10 this 17 (0 : Int32))) else (w_Works_work1_j264 this Q X i11 (3 : Int32) (sI M13 10 this 17 (0 : Int32)))))) M12) M9) X M8) M7) (sI M6 2 0 2 v4)) M4) (fun M22 => w_Works_work1_j64 this Q X 0 M22) (sI M2 6 0 35 (1 : Int32))) M
def w_Works_work1_L5 (this : Nat) (Q : Mem → Prop) (X : Mem → Prop) : Nat → Nat → Int32 → Int32 → Int32 → Mem → Prop
  | 0, _, _, _, _, _ => False
  | n + 1, v1, v2, v3, v4, M => if v4 ≤ 0 then (w_Works_work1_j27 this Q X v1 v2 v3 v4 M) else (vp_in (v4 - (1 : Int32)) (mL M 400 v1) ∧ if (mI M 400 v1 (v4 - (1 : Int32)).toNatClampNeg) = (10 : Int32) then (w_Works_work1_j27 this Q X v1 v2 v3 v4 M) else ((w_Works_work1_L5 this Q X n) v1 v2 v3 (v4 + (-1 : Int32)) M))
def w_Works_work1 (this : Nat) (a1 : Nat) (a2 : Int32) (a3 : Int32) (Q : Mem → Prop) (X : Mem → Prop) (M : Mem) : Prop :=
  ∃ n26 : Nat, w_Works_work1_L5 this Q X n26 a1 a2 a3 (a2 - (1 : Int32)) M
set_option maxRecDepth 4096 in
theorem lk_Works_work1_j242 {γ : Gm} (hγ : Gk γ) (this : Nat) (Q : Mem → Prop) (X : Mem → Prop) (s0 : Int32) (s1 : Int32) (M : Mem) (h : w_Works_work1_j242 this Q X s0 s1 M) : E γ k_Works_work1 138 242 [none, none, none, none, none, none] [vi s0, vi s1, vr (some (10, this))] M (Qx (9, 0) (Qv Q) X) := by
  unfold w_Works_work1_j242 at h
  refine E_blk (lv' := [none, none, none, none, none, none]) (st' := []) (M1 := (sI M 10 this 17 (s1 + s0))) (pc' := 246) (tb_Works hγ) [.iadd, .putfield 158] (by decide +kernel) rfl rfl trivial ?_
  refine E_goto (off := 53) (tgt := 299) (by decide +kernel) (by decide) ?_
  exact (E_vret rfl (by decide +kernel) h).nx
set_option maxRecDepth 4096 in
theorem lk_Works_work1_j296 {γ : Gm} (hγ : Gk γ) (this : Nat) (Q : Mem → Prop) (X : Mem → Prop) (s0 : Int32) (M : Mem) (h : w_Works_work1_j296 this Q X s0 M) : E γ k_Works_work1 138 296 [none, none, none, none, none, none] [vi s0, vr (some (10, this))] M (Qx (9, 0) (Qv Q) X) := by
  unfold w_Works_work1_j296 at h
  refine E_blk (lv' := [none, none, none, none, none, none]) (st' := []) (M1 := (sI M 10 this 17 s0)) (pc' := 299) (tb_Works hγ) [.putfield 158] (by decide +kernel) rfl rfl trivial ?_
  exact (E_vret rfl (by decide +kernel) h).nx
set_option maxRecDepth 4096 in
theorem lk_Works_work1_j264 {γ : Gm} (hγ : Gk γ) (this : Nat) (Q : Mem → Prop) (X : Mem → Prop) (v5 : Nat) (s0 : Int32) (M : Mem) (h : w_Works_work1_j264 this Q X v5 s0 M) : E γ k_Works_work1 138 264 [some (vr (some (10, this))), none, none, none, none, some (vr (some (7, v5)))] [vi s0, vr (some (10, this))] M (Qx (9, 0) (Qv Q) X) := by
  unfold w_Works_work1_j264 at h
  refine E_blk (lv' := [some (vr (some (10, this))), none, none, none, none, some (vr (some (7, v5)))]) (st' := [vi (1 : Int32), vi (mI (sI M 10 this 16 s0) 7 v5 13), vr (some (10, this))]) (M1 := (sI M 10 this 16 s0)) (pc' := 274) (tb_Works hγ) [.putfield 155, .aload_n 0, .aload 5, .getfield 205, .iconst 1] (by decide +kernel) rfl rfl trivial ?_
  refine E_icmp_ne (off := 11) (tgt := 285) (by decide +kernel) (by decide) (fun b19 => ?_) (fun b19 => ?_)
  · rw [if_pos b19] at h
    refine E_blk (lv' := [some (vr (some (10, this))), none, none, none, none, some (vr (some (7, v5)))]) (st' := [vi (mI (sI M 10 this 16 s0) 7 v5 14), vr (some (10, this))]) (M1 := (sI M 10 this 16 s0)) (pc' := 282) (tb_Works hγ) [.aload 5, .getfield 208] (by decide +kernel) rfl rfl trivial ?_
    refine E_goto (off := 14) (tgt := 296) (by decide +kernel) (by decide) ?_
    refine E_mask [false, false, false, false, false, false] rfl ?_
    exact lk_Works_work1_j296 hγ this Q X (mI (sI M 10 this 16 s0) 7 v5 14) (sI M 10 this 16 s0) h
  · rw [if_neg b19] at h
    refine E_blk (lv' := [some (vr (some (10, this))), none, none, none, none, some (vr (some (7, v5)))]) (st' := [vi (0 : Int32), vi ((mI (sI M 10 this 16 s0) 7 v5 13) - (2 : Int32)), vr (some (10, this))]) (M1 := (sI M 10 this 16 s0)) (pc' := 293) (tb_Works hγ) [.aload 5, .getfield 205, .iconst 2, .isub, .iconst 0] (by decide +kernel) rfl rfl trivial ?_
    refine E_callS (κ' := k_JMath_max) (As := [vi ((mI (sI M 10 this 16 s0) 7 v5 13) - (2 : Int32)), vi (0 : Int32)]) (st := [vr (some (10, this))]) ms_JMath_max (Or.inl (tbk_mem (j := 10) (k := 187) rfl)) rfl (by decide +kernel) (Nat.le_of_ble_eq_true rfl) (Nat.le_of_ble_eq_true rfl) rfl (by decide) (lk_JMath_max hγ ((mI (sI M 10 this 16 s0) 7 v5 13) - (2 : Int32)) (0 : Int32) _ (sI M 10 this 16 s0) h) (fun _ _ => Qi_r) (fun v M20 hp => Qi_k (R := fun st => E γ k_Works_work1 138 296 [some (vr (some (10, this))), none, none, none, none, some (vr (some (7, v5)))] st M20 (Qx (9, 0) (Qv Q) X)) hp (fun r21 h => ?_))
    refine E_mask [false, false, false, false, false, false] rfl ?_
    exact lk_Works_work1_j296 hγ this Q X r21 M20 h
set_option maxRecDepth 4096 in
theorem lk_Works_work1_j64 {γ : Gm} (hγ : Gk γ) (this : Nat) (Q : Mem → Prop) (X : Mem → Prop) (s0 : Nat) (M : Mem) (h : w_Works_work1_j64 this Q X s0 M) : E γ k_Works_work1 138 64 [some (vr (some (10, this))), none, none, none, none, none] [vr (some (9, s0))] M (Qx (9, 0) (Qv Q) X) := by
  unfold w_Works_work1_j64 at h
  refine E_blk (lv' := [some (vr (some (10, this))), none, none, none, none, some (vr (some (9, s0)))]) (st' := []) (M1 := (sI (sI M 10 this 16 (1 : Int32)) 10 this 17 (mI (sI M 10 this 16 (1 : Int32)) 9 s0 5))) (pc' := 80) (tb_Works hγ) [.astore 5, .aload_n 0, .iconst 1, .putfield 155, .aload_n 0, .aload 5, .getfield 132, .putfield 158] (by decide +kernel) rfl rfl trivial ?_
  obtain ⟨M23, eM23, h⟩ := h
  rw [← eM23]
  exact (E_vret rfl (by decide +kernel) h).nx
set_option maxRecDepth 4096 in
theorem lk_Works_work1_j27 {γ : Gm} (hγ : Gk γ) (this : Nat) (Q : Mem → Prop) (X : Mem → Prop) (v1 : Nat) (v2 : Int32) (v3 : Int32) (v4 : Int32) (M : Mem) (h : w_Works_work1_j27 this Q X v1 v2 v3 v4 M) : E γ k_Works_work1 138 27 [some (vr (some (10, this))), some (vr (some (400, v1))), some (vi v2), some (vi v3), some (vi v4), none] [] M (Qx (9, 0) (Qv Q) X) := by
  unfold w_Works_work1_j27 at h
  refine E_blk (lv' := [some (vr (some (10, this))), some (vr (some (400, v1))), some (vi v2), some (vi v3), some (vi v4), none]) (st' := [vi v3, vr (some (5, 0))]) (M1 := M) (pc' := 32) (tb_Works hγ) [.aload_n 0, .getfield 61, .iload_n 3] (by decide +kernel) rfl rfl trivial ?_
  refine E_callV (κ' := k_World_begin) (As := [vi v3]) (st := []) mv_World_begin (Or.inl (tbk_mem (j := 6) (k := 4) rfl)) rfl (by decide +kernel) (Nat.le_of_ble_eq_true rfl) (Nat.le_of_ble_eq_true rfl) rfl (by decide) (lk_World_begin hγ 0 v3 _ M h) (fun _ _ => Qv_r) (fun v M2 hp => Qv_k (R := fun st => E γ k_Works_work1 138 35 [some (vr (some (10, this))), some (vr (some (400, v1))), some (vi v2), some (vi v3), some (vi v4), none] st M2 (Qx (9, 0) (Qv Q) X)) hp (fun h => ?_))
  obtain ⟨c3, h⟩ := h
  refine E_blk (lv' := [some (vr (some (10, this))), some (vr (some (400, v1))), some (vi v2), some (vi v3), some (vi v4), none]) (st' := [vi v4, vr (some (400, v1)), vr (some (5, 0)), vr (some (3, 0))]) (M1 := (sI M2 6 0 35 (1 : Int32))) (pc' := 57) (tb_Works hγ) [.aload_n 0, .getfield 61, .getfield 141, .iconst 1, .putfield 145, .aload_n 0, .getfield 40, .aload_n 0, .getfield 61, .aload_n 1, .iload 4] (by decide +kernel) rfl rfl ⟨c3, trivial⟩ ?_
  refine E_callC (q := (9, 0)) (hp := 64) (ct := 28) (κ' := k_Reader_define) (As := [vr (some (5, 0)), vr (some (400, v1)), vi v4]) (st := []) mv_Reader_define (Or.inl (tbk_mem (j := 6) (k := 40) rfl)) rfl (by decide +kernel) (Nat.le_of_ble_eq_true rfl) (Nat.le_of_ble_eq_true rfl) rfl (by decide) rfl (Or.inr ⟨by decide, (show (9 : Nat) < 20 by decide), _, rfl, (tbk_mem (j := 1) (k := 175) rfl)⟩) (lk_Reader_define hγ 0 0 v1 v4 _ _ (sI M2 6 0 35 (1 : Int32)) h) (fun _ _ => Qi_r) (fun M22 h => ?_) (fun v M4 hp => Qi_k (R := fun st => E γ k_Works_work1 138 60 [some (vr (some (10, this))), some (vr (some (400, v1))), some (vi v2), some (vi v3), some (vi v4), none] st M4 (Qx (9, 0) (Qv Q) X)) hp (fun r5 h => ?_))
  · refine E_mask [true, false, false, false, false, false] rfl ?_
    exact lk_Works_work1_j64 hγ this Q X 0 M22 h
  · refine E_blk (lv' := [some (vr (some (10, this))), some (vr (some (400, v1))), some (vi v2), some (vi v3), some (vi v4), none]) (st' := []) (M1 := M4) (pc' := 61) (tb_Works hγ) [.pop] (by decide +kernel) rfl rfl trivial ?_
    refine E_goto (off := 20) (tgt := 81) (by decide +kernel) (by decide) ?_
    refine E_blk (lv' := [some (vr (some (10, this))), some (vr (some (400, v1))), some (vi v2), some (vi v3), some (vi v4), none]) (st' := [vi v2, vr (some (400, v1)), vr (some (2, 0))]) (M1 := M4) (pc' := 90) (tb_Works hγ) [.aload_n 0, .getfield 40, .getfield 161, .aload_n 1, .iload_n 2] (by decide +kernel) rfl rfl trivial ?_
    refine E_callV (κ' := k_Words_begin) (As := [vr (some (400, v1)), vi v2]) (st := []) mv_Words_begin (Or.inl (tbk_mem (j := 8) (k := 85) rfl)) rfl (by decide +kernel) (Nat.le_of_ble_eq_true rfl) (Nat.le_of_ble_eq_true rfl) rfl (by decide) (lk_Words_begin hγ 0 v1 v2 _ M4 h) (fun _ _ => Qv_r) (fun v M6 hp => Qv_k (R := fun st => E γ k_Works_work1 138 93 [some (vr (some (10, this))), some (vr (some (400, v1))), some (vi v2), some (vi v3), some (vi v4), none] st M6 (Qx (9, 0) (Qv Q) X)) hp (fun h => ?_))
    refine E_blk (lv' := [some (vr (some (10, this))), some (vr (some (400, v1))), some (vi v2), some (vi v3), some (vi v4), none]) (st' := [vr (some (2, 0))]) (M1 := (sI M6 2 0 2 v4)) (pc' := 112) (tb_Works hγ) [.aload_n 0, .getfield 40, .getfield 161, .iload 4, .putfield 170, .aload_n 0, .getfield 40, .getfield 161] (by decide +kernel) rfl rfl trivial ?_
    refine E_callV (κ' := k_Words_next) (As := []) (st := []) mv_Words_next (Or.inl (tbk_mem (j := 10) (k := 186) rfl)) rfl (by decide +kernel) (Nat.le_of_ble_eq_true rfl) (Nat.le_of_ble_eq_true rfl) rfl (by decide) (lk_Words_next hγ 0 _ (sI M6 2 0 2 v4) h) (fun _ _ => Qv_r) (fun v M7 hp => Qv_k (R := fun st => E γ k_Works_work1 138 115 [some (vr (some (10, this))), some (vr (some (400, v1))), some (vi v2), some (vi v3), some (vi v4), none] st M7 (Qx (9, 0) (Qv Q) X)) hp (fun h => ?_))
    refine E_blk (lv' := [some (vr (some (10, this))), some (vr (some (400, v1))), some (vi v2), some (vi v3), some (vi v4), none]) (st' := [vr (some (2, 0))]) (M1 := M7) (pc' := 122) (tb_Works hγ) [.aload_n 0, .getfield 40, .getfield 161] (by decide +kernel) rfl rfl trivial ?_
    refine E_callV (κ' := k_Words_next) (As := []) (st := []) mv_Words_next (Or.inl (tbk_mem (j := 10) (k := 186) rfl)) rfl (by decide +kernel) (Nat.le_of_ble_eq_true rfl) (Nat.le_of_ble_eq_true rfl) rfl (by decide) (lk_Words_next hγ 0 _ M7 h) (fun _ _ => Qv_r) (fun v M8 hp => Qv_k (R := fun st => E γ k_Works_work1 138 125 [some (vr (some (10, this))), some (vr (some (400, v1))), some (vi v2), some (vi v3), some (vi v4), none] st M8 (Qx (9, 0) (Qv Q) X)) hp (fun h => ?_))
    refine E_blk (lv' := [some (vr (some (10, this))), some (vr (some (400, v1))), some (vi v2), some (vi v3), some (vi v4), none]) (st' := [vi (0 : Int32), vr (some (5, 0)), vr (some (3, 0))]) (M1 := M8) (pc' := 134) (tb_Works hγ) [.aload_n 0, .getfield 40, .aload_n 0, .getfield 61, .iconst 0] (by decide +kernel) rfl rfl trivial ?_
    refine E_callX (κ' := k_Reader_call) (As := [vr (some (5, 0)), vi (0 : Int32)]) (st := []) mv_Reader_call (Or.inl (tbk_mem (j := 8) (k := 92) rfl)) rfl (by decide +kernel) (Nat.le_of_ble_eq_true rfl) (Nat.le_of_ble_eq_true rfl) rfl (by decide) rfl (lk_Reader_call hγ 0 0 (0 : Int32) _ _ M8 h) (fun _ _ => Qv_r) (fun _ h => h) (fun v M9 hp => Qv_k (R := fun st => E γ k_Works_work1 138 137 [some (vr (some (10, this))), some (vr (some (400, v1))), some (vi v2), some (vi v3), some (vi v4), none] st M9 (Qx (9, 0) (Qv Q) X)) hp (fun h => ?_))
    obtain ⟨c10, h⟩ := h
    refine E_blk (lv' := [some (vr (some (10, this))), some (vr (some (400, v1))), some (vi v2), some (vi v3), some (vi v4), none]) (st' := [vr (mR M9 700 0 (0 : Int32).toNatClampNeg)]) (M1 := M9) (pc' := 149) (tb_Works hγ) [.aload_n 0, .getfield 61, .getfield 141, .getfield 180, .iconst 0, .aaload] (by decide +kernel) rfl rfl ⟨c10, trivial⟩ ?_
    obtain ⟨i11, ei11, h⟩ := h
    rw [ei11]
    refine E_blk (lv' := [some (vr (some (10, this))), some (vr (some (400, v1))), some (vi v2), some (vi v3), some (vi v4), some (vr (some (7, i11)))]) (st' := [vr (some (30, 0)), vr (some (7, i11))]) (M1 := M9) (pc' := 160) (tb_Works hγ) [.astore 5, .aload 5, .aload_n 0, .getfield 40, .getfield 184] (by decide +kernel) rfl rfl trivial ?_
    refine E_callV (κ' := k_Line_call) (As := [vr (some (30, 0))]) (st := []) mv_Line_call (Or.inl (tbk_mem (j := 8) (k := 97) rfl)) rfl (by decide +kernel) (Nat.le_of_ble_eq_true rfl) (Nat.le_of_ble_eq_true rfl) rfl (by decide) (lk_Line_call hγ i11 0 _ M9 h) (fun _ _ => Qv_r) (fun v M12 hp => Qv_k (R := fun st => E γ k_Works_work1 138 163 [some (vr (some (10, this))), some (vr (some (400, v1))), some (vi v2), some (vi v3), some (vi v4), some (vr (some (7, i11)))] st M12 (Qx (9, 0) (Qv Q) X)) hp (fun h => ?_))
    refine E_blk (lv' := [some (vr (some (10, this))), some (vr (some (400, v1))), some (vi v2), some (vi v3), some (vi v4), some (vr (some (7, i11)))]) (st' := [vi (300 : Int32), vr (some (6, 0))]) (M1 := M12) (pc' := 173) (tb_Works hγ) [.aload_n 0, .getfield 61, .getfield 141, .sipush 300] (by decide +kernel) rfl rfl trivial ?_
    refine E_callV (κ' := k_Machine_go) (As := [vi (300 : Int32)]) (st := []) mv_Machine_go (Or.inl (tbk_mem (j := 8) (k := 111) rfl)) rfl (by decide +kernel) (Nat.le_of_ble_eq_true rfl) (Nat.le_of_ble_eq_true rfl) rfl (by decide) (lk_Machine_go hγ 0 (300 : Int32) _ M12 h) (fun _ _ => Qi_r) (fun v M13 hp => Qi_k (R := fun st => E γ k_Works_work1 138 176 [some (vr (some (10, this))), some (vr (some (400, v1))), some (vi v2), some (vi v3), some (vi v4), some (vr (some (7, i11)))] st M13 (Qx (9, 0) (Qv Q) X)) hp (fun r14 h => ?_))
    refine E_blk (lv' := [some (vr (some (10, this))), some (vr (some (400, v1))), some (vi v2), some (vi v3), some (vi v4), some (vr (some (7, i11)))]) (st' := [vi (1 : Int32), vi (mI (sI M13 10 this 17 (0 : Int32)) 7 i11 11)]) (M1 := (sI M13 10 this 17 (0 : Int32))) (pc' := 188) (tb_Works hγ) [.pop, .aload_n 0, .iconst 0, .putfield 158, .aload 5, .getfield 196, .iconst 1] (by decide +kernel) rfl rfl trivial ?_
    refine E_icmp_ne (off := 11) (tgt := 199) (by decide +kernel) (by decide) (fun b15 => ?_) (fun b15 => ?_)
    · rw [if_pos b15] at h
      refine E_blk (lv' := [some (vr (some (10, this))), some (vr (some (400, v1))), some (vi v2), some (vi v3), some (vi v4), some (vr (some (7, i11)))]) (st' := []) (M1 := (sI (sI M13 10 this 17 (0 : Int32)) 10 this 16 (5 : Int32))) (pc' := 196) (tb_Works hγ) [.aload_n 0, .iconst 5, .putfield 155] (by decide +kernel) rfl rfl trivial ?_
      refine E_goto (off := 103) (tgt := 299) (by decide +kernel) (by decide) ?_
      exact (E_vret rfl (by decide +kernel) h).nx
    · rw [if_neg b15] at h
      refine E_blk (lv' := [some (vr (some (10, this))), some (vr (some (400, v1))), some (vi v2), some (vi v3), some (vi v4), some (vr (some (7, i11)))]) (st' := [vi (2 : Int32), vi (mI (sI M13 10 this 17 (0 : Int32)) 7 i11 11)]) (M1 := (sI M13 10 this 17 (0 : Int32))) (pc' := 205) (tb_Works hγ) [.aload 5, .getfield 196, .iconst 2] (by decide +kernel) rfl rfl trivial ?_
      refine E_icmp_ne (off := 44) (tgt := 249) (by decide +kernel) (by decide) (fun b16 => ?_) (fun b16 => ?_)
      · rw [if_pos b16] at h
        refine E_blk (lv' := [some (vr (some (10, this))), some (vr (some (400, v1))), some (vi v2), some (vi v3), some (vi v4), some (vr (some (7, i11)))]) (st' := [vi (21 : Int32), vi (mI (sI (sI M13 10 this 17 (0 : Int32)) 10 this 16 (4 : Int32)) 7 i11 15), vi ((100 : Int32) * (mI (sI (sI M13 10 this 17 (0 : Int32)) 10 this 16 (4 : Int32)) 7 i11 16)), vr (some (10, this))]) (M1 := (sI (sI M13 10 this 17 (0 : Int32)) 10 this 16 (4 : Int32))) (pc' := 229) (tb_Works hγ) [.aload_n 0, .iconst 4, .putfield 155, .aload_n 0, .bipush 100, .aload 5, .getfield 199, .imul, .aload 5, .getfield 202, .bipush 21] (by decide +kernel) rfl rfl trivial ?_
        refine E_icmp_ge (off := 11) (tgt := 240) (by decide +kernel) (by decide) (fun b17 => ?_) (fun b17 => ?_)
        · rw [if_pos b17] at h
          refine E_blk (lv' := [some (vr (some (10, this))), some (vr (some (400, v1))), some (vi v2), some (vi v3), some (vi v4), some (vr (some (7, i11)))]) (st' := [vi (99 : Int32), vi ((100 : Int32) * (mI (sI (sI M13 10 this 17 (0 : Int32)) 10 this 16 (4 : Int32)) 7 i11 16)), vr (some (10, this))]) (M1 := (sI (sI M13 10 this 17 (0 : Int32)) 10 this 16 (4 : Int32))) (pc' := 242) (tb_Works hγ) [.bipush 99] (by decide +kernel) rfl rfl trivial ?_
          refine E_mask [false, false, false, false, false, false] rfl ?_
          exact lk_Works_work1_j242 hγ this Q X (99 : Int32) ((100 : Int32) * (mI (sI (sI M13 10 this 17 (0 : Int32)) 10 this 16 (4 : Int32)) 7 i11 16)) (sI (sI M13 10 this 17 (0 : Int32)) 10 this 16 (4 : Int32)) h
        · rw [if_neg b17] at h
          refine E_blk (lv' := [some (vr (some (10, this))), some (vr (some (400, v1))), some (vi v2), some (vi v3), some (vi v4), some (vr (some (7, i11)))]) (st' := [vi (mI (sI (sI M13 10 this 17 (0 : Int32)) 10 this 16 (4 : Int32)) 7 i11 15), vi ((100 : Int32) * (mI (sI (sI M13 10 this 17 (0 : Int32)) 10 this 16 (4 : Int32)) 7 i11 16)), vr (some (10, this))]) (M1 := (sI (sI M13 10 this 17 (0 : Int32)) 10 this 16 (4 : Int32))) (pc' := 237) (tb_Works hγ) [.aload 5, .getfield 202] (by decide +kernel) rfl rfl trivial ?_
          refine E_goto (off := 5) (tgt := 242) (by decide +kernel) (by decide) ?_
          refine E_mask [false, false, false, false, false, false] rfl ?_
          exact lk_Works_work1_j242 hγ this Q X (mI (sI (sI M13 10 this 17 (0 : Int32)) 10 this 16 (4 : Int32)) 7 i11 15) ((100 : Int32) * (mI (sI (sI M13 10 this 17 (0 : Int32)) 10 this 16 (4 : Int32)) 7 i11 16)) (sI (sI M13 10 this 17 (0 : Int32)) 10 this 16 (4 : Int32)) h
      · rw [if_neg b16] at h
        refine E_blk (lv' := [some (vr (some (10, this))), some (vr (some (400, v1))), some (vi v2), some (vi v3), some (vi v4), some (vr (some (7, i11)))]) (st' := [vi (1 : Int32), vi (mI (sI M13 10 this 17 (0 : Int32)) 7 i11 13), vr (some (10, this))]) (M1 := (sI M13 10 this 17 (0 : Int32))) (pc' := 256) (tb_Works hγ) [.aload_n 0, .aload 5, .getfield 205, .iconst 1] (by decide +kernel) rfl rfl trivial ?_
        refine E_icmp_ne (off := 7) (tgt := 263) (by decide +kernel) (by decide) (fun b18 => ?_) (fun b18 => ?_)
        · rw [if_pos b18] at h
          refine E_blk (lv' := [some (vr (some (10, this))), some (vr (some (400, v1))), some (vi v2), some (vi v3), some (vi v4), some (vr (some (7, i11)))]) (st' := [vi (2 : Int32), vr (some (10, this))]) (M1 := (sI M13 10 this 17 (0 : Int32))) (pc' := 260) (tb_Works hγ) [.iconst 2] (by decide +kernel) rfl rfl trivial ?_
          refine E_goto (off := 4) (tgt := 264) (by decide +kernel) (by decide) ?_
          refine E_mask [true, false, false, false, false, true] rfl ?_
          exact lk_Works_work1_j264 hγ this Q X i11 (2 : Int32) (sI M13 10 this 17 (0 : Int32)) h
        · rw [if_neg b18] at h
          refine E_blk (lv' := [some (vr (some (10, this))), some (vr (some (400, v1))), some (vi v2), some (vi v3), some (vi v4), some (vr (some (7, i11)))]) (st' := [vi (3 : Int32), vr (some (10, this))]) (M1 := (sI M13 10 this 17 (0 : Int32))) (pc' := 264) (tb_Works hγ) [.iconst 3] (by decide +kernel) rfl rfl trivial ?_
          refine E_mask [true, false, false, false, false, true] rfl ?_
          exact lk_Works_work1_j264 hγ this Q X i11 (3 : Int32) (sI M13 10 this 17 (0 : Int32)) h
set_option maxRecDepth 4096 in
theorem lk_Works_work1_L5 {γ : Gm} (hγ : Gk γ) (this : Nat) (Q : Mem → Prop) (X : Mem → Prop) : ∀ (n : Nat) (v1 : Nat) (v2 : Int32) (v3 : Int32) (v4 : Int32) (M : Mem), w_Works_work1_L5 this Q X n v1 v2 v3 v4 M → E γ k_Works_work1 138 5 [some (vr (some (10, this))), some (vr (some (400, v1))), some (vi v2), some (vi v3), some (vi v4), none] [] M (Qx (9, 0) (Qv Q) X) := by
  intro n
  induction n with
  | zero => intro v1 v2 v3 v4 M h; exact h.elim
  | succ n ih =>
    intro v1 v2 v3 v4 M h
    unfold w_Works_work1_L5 at h
    refine E_blk (lv' := [some (vr (some (10, this))), some (vr (some (400, v1))), some (vi v2), some (vi v3), some (vi v4), none]) (st' := [vi v4]) (M1 := M) (pc' := 7) (tb_Works hγ) [.iload 4] (by decide +kernel) rfl rfl trivial ?_
    refine E_if_le (off := 20) (tgt := 27) (by decide +kernel) (by decide) (fun b1 => ?_) (fun b1 => ?_)
    · rw [if_pos b1] at h
      refine E_mask [true, true, true, true, true, false] rfl ?_
      exact lk_Works_work1_j27 hγ this Q X v1 v2 v3 v4 M h
    · rw [if_neg b1] at h
      obtain ⟨c24, h⟩ := h
      refine E_blk (lv' := [some (vr (some (10, this))), some (vr (some (400, v1))), some (vi v2), some (vi v3), some (vi v4), none]) (st' := [vi (10 : Int32), vi (mI M 400 v1 (v4 - (1 : Int32)).toNatClampNeg)]) (M1 := M) (pc' := 18) (tb_Works hγ) [.aload_n 1, .iload 4, .iconst 1, .isub, .baload, .bipush 10] (by decide +kernel) rfl rfl ⟨c24, trivial⟩ ?_
      refine E_icmp_eq (off := 9) (tgt := 27) (by decide +kernel) (by decide) (fun b25 => ?_) (fun b25 => ?_)
      · rw [if_pos b25] at h
        refine E_mask [true, true, true, true, true, false] rfl ?_
        exact lk_Works_work1_j27 hγ this Q X v1 v2 v3 v4 M h
      · rw [if_neg b25] at h
        refine E_blk (lv' := [some (vr (some (10, this))), some (vr (some (400, v1))), some (vi v2), some (vi v3), some (vi (v4 + (-1 : Int32))), none]) (st' := []) (M1 := M) (pc' := 24) (tb_Works hγ) [.iinc 4 (.negSucc 0)] (by decide +kernel) rfl rfl trivial ?_
        refine E_goto (off := -19) (tgt := 5) (by decide +kernel) (by decide) ?_
        refine E_mask [true, true, true, true, true, false] rfl ?_
        exact ih v1 v2 v3 (v4 + (-1 : Int32)) M h
set_option maxRecDepth 4096 in
theorem lk_Works_work1 {γ : Gm} (hγ : Gk γ) (this : Nat) (a1 : Nat) (a2 : Int32) (a3 : Int32) (Q : Mem → Prop) (X : Mem → Prop) (M : Mem) (h : w_Works_work1 this a1 a2 a3 Q X M) : E γ k_Works_work1 138 0 [some (vr (some (10, this))), some (vr (some (400, a1))), some (vi a2), some (vi a3), none, none] [] M (Qx (9, 0) (Qv Q) X) := by
  unfold w_Works_work1 at h
  refine E_blk (lv' := [some (vr (some (10, this))), some (vr (some (400, a1))), some (vi a2), some (vi a3), some (vi (a2 - (1 : Int32))), none]) (st' := []) (M1 := M) (pc' := 5) (tb_Works hγ) [.iload_n 2, .iconst 1, .isub, .istore 4] (by decide +kernel) rfl rfl trivial ?_
  obtain ⟨n26, h⟩ := h
  refine E_mask [true, true, true, true, true, false] rfl ?_
  exact lk_Works_work1_L5 hγ this Q X n26 a1 a2 a3 (a2 - (1 : Int32)) M h
def w_JInteger_bitCount (a1 : Int32) (Q : Int32 → Mem → Prop) (M : Mem) : Prop :=
  ∃ x1 : Int32, x1 = (a1 - ((a1.toUInt32 >>> ((1 : Int32).toUInt32 &&& Int32.toUInt32 31)).toInt32 &&& (1431655765 : Int32))) ∧ ∃ x2 : Int32, x2 = ((x1 &&& (858993459 : Int32)) + ((x1.toUInt32 >>> ((2 : Int32).toUInt32 &&& Int32.toUInt32 31)).toInt32 &&& (858993459 : Int32))) ∧ ∃ x3 : Int32, x3 = ((x2 + (x2.toUInt32 >>> ((4 : Int32).toUInt32 &&& Int32.toUInt32 31)).toInt32) &&& (252645135 : Int32)) ∧ ∃ x4 : Int32, x4 = (x3 + (x3.toUInt32 >>> ((8 : Int32).toUInt32 &&& Int32.toUInt32 31)).toInt32) ∧ ∃ x5 : Int32, x5 = (x4 + (x4.toUInt32 >>> ((16 : Int32).toUInt32 &&& Int32.toUInt32 31)).toInt32) ∧ Q (x5 &&& (63 : Int32)) M
set_option maxRecDepth 4096 in
theorem lk_JInteger_bitCount {γ : Gm} (hγ : Gk γ) (a1 : Int32) (Q : Int32 → Mem → Prop) (M : Mem) (h : w_JInteger_bitCount a1 Q M) : E γ k_JInteger_bitCount 0 0 [some (vi a1)] [] M (Qi Q) := by
  unfold w_JInteger_bitCount at h
  refine E_blk (lv' := [some (vi (a1 - ((a1.toUInt32 >>> ((1 : Int32).toUInt32 &&& Int32.toUInt32 31)).toInt32 &&& (1431655765 : Int32))))]) (st' := []) (M1 := M) (pc' := 10) (tb_JInteger hγ) [.iload_n 0, .iload_n 0, .iconst 1, .iushr, .ldc_w 265, .iand, .isub, .istore_n 0] (by decide +kernel) rfl rfl trivial ?_
  obtain ⟨x1, ex1, h⟩ := h
  rw [← ex1]
  refine E_blk (lv' := [some (vi ((x1 &&& (858993459 : Int32)) + ((x1.toUInt32 >>> ((2 : Int32).toUInt32 &&& Int32.toUInt32 31)).toInt32 &&& (858993459 : Int32))))]) (st' := []) (M1 := M) (pc' := 24) (tb_JInteger hγ) [.iload_n 0, .ldc_w 266, .iand, .iload_n 0, .iconst 2, .iushr, .ldc_w 266, .iand, .iadd, .istore_n 0] (by decide +kernel) rfl rfl trivial ?_
  obtain ⟨x2, ex2, h⟩ := h
  rw [← ex2]
  refine E_blk (lv' := [some (vi ((x2 + (x2.toUInt32 >>> ((4 : Int32).toUInt32 &&& Int32.toUInt32 31)).toInt32) &&& (252645135 : Int32)))]) (st' := []) (M1 := M) (pc' := 34) (tb_JInteger hγ) [.iload_n 0, .iload_n 0, .iconst 4, .iushr, .iadd, .ldc_w 267, .iand, .istore_n 0] (by decide +kernel) rfl rfl trivial ?_
  obtain ⟨x3, ex3, h⟩ := h
  rw [← ex3]
  refine E_blk (lv' := [some (vi (x3 + (x3.toUInt32 >>> ((8 : Int32).toUInt32 &&& Int32.toUInt32 31)).toInt32))]) (st' := []) (M1 := M) (pc' := 41) (tb_JInteger hγ) [.iload_n 0, .iload_n 0, .bipush 8, .iushr, .iadd, .istore_n 0] (by decide +kernel) rfl rfl trivial ?_
  obtain ⟨x4, ex4, h⟩ := h
  rw [← ex4]
  refine E_blk (lv' := [some (vi (x4 + (x4.toUInt32 >>> ((16 : Int32).toUInt32 &&& Int32.toUInt32 31)).toInt32))]) (st' := []) (M1 := M) (pc' := 48) (tb_JInteger hγ) [.iload_n 0, .iload_n 0, .bipush 16, .iushr, .iadd, .istore_n 0] (by decide +kernel) rfl rfl trivial ?_
  obtain ⟨x5, ex5, h⟩ := h
  rw [← ex5]
  refine E_blk (lv' := [some (vi x5)]) (st' := [vi (x5 &&& (63 : Int32))]) (M1 := M) (pc' := 52) (tb_JInteger hγ) [.iload_n 0, .bipush 63, .iand] (by decide +kernel) rfl rfl trivial ?_
  exact E_iret rfl (by decide +kernel) h
def w_JInteger_numberOfTrailingZeros_j62 (Q : Int32 → Mem → Prop) (v0 : Int32) (v1 : Int32) (M : Mem) : Prop :=
  if v0 ≤ (4 : Int32) then (Q (v1 + (v0.toUInt32 >>> ((1 : Int32).toUInt32 &&& Int32.toUInt32 31)).toInt32) M) else (∃ x6 : Int32, x6 = (v0.toUInt32 >>> ((2 : Int32).toUInt32 &&& Int32.toUInt32 31)).toInt32 ∧ Q ((v1 + (2 : Int32)) + (x6.toUInt32 >>> ((1 : Int32).toUInt32 &&& Int32.toUInt32 31)).toInt32) M)
def w_JInteger_numberOfTrailingZeros_j49 (Q : Int32 → Mem → Prop) (v0 : Int32) (v1 : Int32) (M : Mem) : Prop :=
  if v0 ≤ (16 : Int32) then (w_JInteger_numberOfTrailingZeros_j62 Q v0 v1 M) else (∃ x7 : Int32, x7 = (v0.toUInt32 >>> ((4 : Int32).toUInt32 &&& Int32.toUInt32 31)).toInt32 ∧ w_JInteger_numberOfTrailingZeros_j62 Q x7 (v1 + (4 : Int32)) M)
def w_JInteger_numberOfTrailingZeros_j34 (Q : Int32 → Mem → Prop) (v0 : Int32) (v1 : Int32) (M : Mem) : Prop :=
  if v0 ≤ (256 : Int32) then (w_JInteger_numberOfTrailingZeros_j49 Q v0 v1 M) else (∃ x8 : Int32, x8 = (v0.toUInt32 >>> ((8 : Int32).toUInt32 &&& Int32.toUInt32 31)).toInt32 ∧ w_JInteger_numberOfTrailingZeros_j49 Q x8 (v1 + (8 : Int32)) M)
def w_JInteger_numberOfTrailingZeros (a1 : Int32) (Q : Int32 → Mem → Prop) (M : Mem) : Prop :=
  if 0 < ((a1 ^^^ (-1 : Int32)) &&& (a1 - (1 : Int32))) then (if ((a1 ^^^ (-1 : Int32)) &&& (a1 - (1 : Int32))) ≤ (65536 : Int32) then (w_JInteger_numberOfTrailingZeros_j34 Q ((a1 ^^^ (-1 : Int32)) &&& (a1 - (1 : Int32))) (1 : Int32) M) else (∃ x9 : Int32, x9 = (((a1 ^^^ (-1 : Int32)) &&& (a1 - (1 : Int32))).toUInt32 >>> ((16 : Int32).toUInt32 &&& Int32.toUInt32 31)).toInt32 ∧ w_JInteger_numberOfTrailingZeros_j34 Q x9 ((1 : Int32) + (16 : Int32)) M)) else (Q (((a1 ^^^ (-1 : Int32)) &&& (a1 - (1 : Int32))) &&& (32 : Int32)) M)
set_option maxRecDepth 4096 in
theorem lk_JInteger_numberOfTrailingZeros_j62 {γ : Gm} (hγ : Gk γ) (Q : Int32 → Mem → Prop) (v0 : Int32) (v1 : Int32) (M : Mem) (h : w_JInteger_numberOfTrailingZeros_j62 Q v0 v1 M) : E γ k_JInteger_numberOfTrailingZeros 0 62 [some (vi v0), some (vi v1)] [] M (Qi Q) := by
  unfold w_JInteger_numberOfTrailingZeros_j62 at h
  refine E_blk (lv' := [some (vi v0), some (vi v1)]) (st' := [vi (4 : Int32), vi v0]) (M1 := M) (pc' := 64) (tb_JInteger hγ) [.iload_n 0, .iconst 4] (by decide +kernel) rfl rfl trivial ?_
  refine E_icmp_le (off := 10) (tgt := 74) (by decide +kernel) (by decide) (fun b5 => ?_) (fun b5 => ?_)
  · rw [if_pos b5] at h
    refine E_blk (lv' := [some (vi v0), some (vi v1)]) (st' := [vi (v1 + (v0.toUInt32 >>> ((1 : Int32).toUInt32 &&& Int32.toUInt32 31)).toInt32)]) (M1 := M) (pc' := 79) (tb_JInteger hγ) [.iload_n 1, .iload_n 0, .iconst 1, .iushr, .iadd] (by decide +kernel) rfl rfl trivial ?_
    exact E_iret rfl (by decide +kernel) h
  · rw [if_neg b5] at h
    refine E_blk (lv' := [some (vi ((v0.toUInt32 >>> ((2 : Int32).toUInt32 &&& Int32.toUInt32 31)).toInt32)), some (vi (v1 + (2 : Int32)))]) (st' := []) (M1 := M) (pc' := 74) (tb_JInteger hγ) [.iinc 1 2, .iload_n 0, .iconst 2, .iushr, .istore_n 0] (by decide +kernel) rfl rfl trivial ?_
    obtain ⟨x6, ex6, h⟩ := h
    rw [← ex6]
    refine E_blk (lv' := [some (vi x6), some (vi (v1 + (2 : Int32)))]) (st' := [vi ((v1 + (2 : Int32)) + (x6.toUInt32 >>> ((1 : Int32).toUInt32 &&& Int32.toUInt32 31)).toInt32)]) (M1 := M) (pc' := 79) (tb_JInteger hγ) [.iload_n 1, .iload_n 0, .iconst 1, .iushr, .iadd] (by decide +kernel) rfl rfl trivial ?_
    exact E_iret rfl (by decide +kernel) h
set_option maxRecDepth 4096 in
theorem lk_JInteger_numberOfTrailingZeros_j49 {γ : Gm} (hγ : Gk γ) (Q : Int32 → Mem → Prop) (v0 : Int32) (v1 : Int32) (M : Mem) (h : w_JInteger_numberOfTrailingZeros_j49 Q v0 v1 M) : E γ k_JInteger_numberOfTrailingZeros 0 49 [some (vi v0), some (vi v1)] [] M (Qi Q) := by
  unfold w_JInteger_numberOfTrailingZeros_j49 at h
  refine E_blk (lv' := [some (vi v0), some (vi v1)]) (st' := [vi (16 : Int32), vi v0]) (M1 := M) (pc' := 52) (tb_JInteger hγ) [.iload_n 0, .bipush 16] (by decide +kernel) rfl rfl trivial ?_
  refine E_icmp_le (off := 10) (tgt := 62) (by decide +kernel) (by decide) (fun b4 => ?_) (fun b4 => ?_)
  · rw [if_pos b4] at h
    refine E_mask [true, true] rfl ?_
    exact lk_JInteger_numberOfTrailingZeros_j62 hγ Q v0 v1 M h
  · rw [if_neg b4] at h
    refine E_blk (lv' := [some (vi ((v0.toUInt32 >>> ((4 : Int32).toUInt32 &&& Int32.toUInt32 31)).toInt32)), some (vi (v1 + (4 : Int32)))]) (st' := []) (M1 := M) (pc' := 62) (tb_JInteger hγ) [.iinc 1 4, .iload_n 0, .iconst 4, .iushr, .istore_n 0] (by decide +kernel) rfl rfl trivial ?_
    obtain ⟨x7, ex7, h⟩ := h
    rw [← ex7]
    refine E_mask [true, true] rfl ?_
    exact lk_JInteger_numberOfTrailingZeros_j62 hγ Q x7 (v1 + (4 : Int32)) M h
set_option maxRecDepth 4096 in
theorem lk_JInteger_numberOfTrailingZeros_j34 {γ : Gm} (hγ : Gk γ) (Q : Int32 → Mem → Prop) (v0 : Int32) (v1 : Int32) (M : Mem) (h : w_JInteger_numberOfTrailingZeros_j34 Q v0 v1 M) : E γ k_JInteger_numberOfTrailingZeros 0 34 [some (vi v0), some (vi v1)] [] M (Qi Q) := by
  unfold w_JInteger_numberOfTrailingZeros_j34 at h
  refine E_blk (lv' := [some (vi v0), some (vi v1)]) (st' := [vi (256 : Int32), vi v0]) (M1 := M) (pc' := 38) (tb_JInteger hγ) [.iload_n 0, .sipush 256] (by decide +kernel) rfl rfl trivial ?_
  refine E_icmp_le (off := 11) (tgt := 49) (by decide +kernel) (by decide) (fun b3 => ?_) (fun b3 => ?_)
  · rw [if_pos b3] at h
    refine E_mask [true, true] rfl ?_
    exact lk_JInteger_numberOfTrailingZeros_j49 hγ Q v0 v1 M h
  · rw [if_neg b3] at h
    refine E_blk (lv' := [some (vi ((v0.toUInt32 >>> ((8 : Int32).toUInt32 &&& Int32.toUInt32 31)).toInt32)), some (vi (v1 + (8 : Int32)))]) (st' := []) (M1 := M) (pc' := 49) (tb_JInteger hγ) [.iinc 1 8, .iload_n 0, .bipush 8, .iushr, .istore_n 0] (by decide +kernel) rfl rfl trivial ?_
    obtain ⟨x8, ex8, h⟩ := h
    rw [← ex8]
    refine E_mask [true, true] rfl ?_
    exact lk_JInteger_numberOfTrailingZeros_j49 hγ Q x8 (v1 + (8 : Int32)) M h
set_option maxRecDepth 4096 in
theorem lk_JInteger_numberOfTrailingZeros {γ : Gm} (hγ : Gk γ) (a1 : Int32) (Q : Int32 → Mem → Prop) (M : Mem) (h : w_JInteger_numberOfTrailingZeros a1 Q M) : E γ k_JInteger_numberOfTrailingZeros 0 0 [some (vi a1), none] [] M (Qi Q) := by
  unfold w_JInteger_numberOfTrailingZeros at h
  refine E_blk (lv' := [some (vi ((a1 ^^^ (-1 : Int32)) &&& (a1 - (1 : Int32)))), none]) (st' := [vi ((a1 ^^^ (-1 : Int32)) &&& (a1 - (1 : Int32)))]) (M1 := M) (pc' := 9) (tb_JInteger hγ) [.iload_n 0, .iconst (.negSucc 0), .ixor, .iload_n 0, .iconst 1, .isub, .iand, .istore_n 0, .iload_n 0] (by decide +kernel) rfl rfl trivial ?_
  refine E_if_gt (off := 8) (tgt := 17) (by decide +kernel) (by decide) (fun b1 => ?_) (fun b1 => ?_)
  · rw [if_pos b1] at h
    refine E_blk (lv' := [some (vi ((a1 ^^^ (-1 : Int32)) &&& (a1 - (1 : Int32)))), some (vi (1 : Int32))]) (st' := [vi (65536 : Int32), vi ((a1 ^^^ (-1 : Int32)) &&& (a1 - (1 : Int32)))]) (M1 := M) (pc' := 23) (tb_JInteger hγ) [.iconst 1, .istore_n 1, .iload_n 0, .ldc_w 264] (by decide +kernel) rfl rfl trivial ?_
    refine E_icmp_le (off := 11) (tgt := 34) (by decide +kernel) (by decide) (fun b2 => ?_) (fun b2 => ?_)
    · rw [if_pos b2] at h
      refine E_mask [true, true] rfl ?_
      exact lk_JInteger_numberOfTrailingZeros_j34 hγ Q ((a1 ^^^ (-1 : Int32)) &&& (a1 - (1 : Int32))) (1 : Int32) M h
    · rw [if_neg b2] at h
      refine E_blk (lv' := [some (vi ((((a1 ^^^ (-1 : Int32)) &&& (a1 - (1 : Int32))).toUInt32 >>> ((16 : Int32).toUInt32 &&& Int32.toUInt32 31)).toInt32)), some (vi ((1 : Int32) + (16 : Int32)))]) (st' := []) (M1 := M) (pc' := 34) (tb_JInteger hγ) [.iinc 1 16, .iload_n 0, .bipush 16, .iushr, .istore_n 0] (by decide +kernel) rfl rfl trivial ?_
      obtain ⟨x9, ex9, h⟩ := h
      rw [← ex9]
      refine E_mask [true, true] rfl ?_
      exact lk_JInteger_numberOfTrailingZeros_j34 hγ Q x9 ((1 : Int32) + (16 : Int32)) M h
  · rw [if_neg b1] at h
    refine E_blk (lv' := [some (vi ((a1 ^^^ (-1 : Int32)) &&& (a1 - (1 : Int32)))), none]) (st' := [vi (((a1 ^^^ (-1 : Int32)) &&& (a1 - (1 : Int32))) &&& (32 : Int32))]) (M1 := M) (pc' := 16) (tb_JInteger hγ) [.iload_n 0, .bipush 32, .iand] (by decide +kernel) rfl rfl trivial ?_
    exact E_iret rfl (by decide +kernel) h
def w_Works_work2_j72 (this : Nat) (Q : Mem → Prop) (X : Mem → Prop) (v1 : Int32) (v2 : Int32) (v3 : Int32) (v4 : Int32) (M : Mem) : Prop :=
  vp_in v1 (mL M 701 0) ∧ ∃ i4, (mR M 701 0 v1.toNatClampNeg) = some (400, i4) ∧ vp_in v1 (mL M 98 this) ∧ w_Works_work1 this i4 (mI M 98 this v1.toNatClampNeg) v2 (fun M6 => if 0 ≤ v3 then (vp_in v4 (mL M6 516 this) ∧ vp_in v4 (mL (sI M6 516 this v4.toNatClampNeg ((1 : Int32) &&& 1)) 99 this) ∧ ∃ M10, M10 = (sI (sI M6 516 this v4.toNatClampNeg ((1 : Int32) &&& 1)) 99 this v4.toNatClampNeg (mI (sI M6 516 this v4.toNatClampNeg ((1 : Int32) &&& 1)) 10 this 16)) ∧ vp_in v4 (mL M10 100 this) ∧ Q (sI M10 100 this v4.toNatClampNeg (mI M10 10 this 17))) else (Q M6)) X M
def w_Works_work2_j26 (this : Nat) (Q : Mem → Prop) (X : Mem → Prop) (v1 : Int32) (v2 : Int32) (s0 : Int32) (M : Mem) : Prop :=
  if s0 < 0 then (w_Works_work2_j72 this Q X v1 v2 s0 (((9 : Int32) * v1) + s0) M) else (vp_in (((9 : Int32) * v1) + s0) (mL M 516 this) ∧ if (mI M 516 this (((9 : Int32) * v1) + s0).toNatClampNeg) = 0 then (w_Works_work2_j72 this Q X v1 v2 s0 (((9 : Int32) * v1) + s0) M) else (vp_in (((9 : Int32) * v1) + s0) (mL M 99 this) ∧ ∃ M15, M15 = (sI M 10 this 16 (mI M 99 this (((9 : Int32) * v1) + s0).toNatClampNeg)) ∧ vp_in (((9 : Int32) * v1) + s0) (mL M15 100 this) ∧ ∃ M17, M17 = (sI M15 10 this 17 (mI M15 100 this (((9 : Int32) * v1) + s0).toNatClampNeg)) ∧ Q M17))
def w_Works_work2 (this : Nat) (a1 : Int32) (a2 : Int32) (Q : Mem → Prop) (X : Mem → Prop) (M : Mem) : Prop :=
  if a2 = 0 then (w_Works_work2_j26 this Q X a1 a2 (0 : Int32) M) else (w_JInteger_bitCount a2 (fun r19 M18 => if r19 = (1 : Int32) then (w_JInteger_numberOfTrailingZeros a2 (fun r22 M21 => w_Works_work2_j26 this Q X a1 a2 ((1 : Int32) + r22) M21) M18) else (w_Works_work2_j26 this Q X a1 a2 (-1 : Int32) M18)) M)
set_option maxRecDepth 4096 in
theorem lk_Works_work2_j72 {γ : Gm} (hγ : Gk γ) (this : Nat) (Q : Mem → Prop) (X : Mem → Prop) (v1 : Int32) (v2 : Int32) (v3 : Int32) (v4 : Int32) (M : Mem) (h : w_Works_work2_j72 this Q X v1 v2 v3 v4 M) : E γ k_Works_work2 139 72 [some (vr (some (10, this))), some (vi v1), some (vi v2), some (vi v3), some (vi v4)] [] M (Qx (9, 0) (Qv Q) X) := by
  unfold w_Works_work2_j72 at h
  obtain ⟨c3, h⟩ := h
  refine E_blk (lv' := [some (vr (some (10, this))), some (vi v1), some (vi v2), some (vi v3), some (vi v4)]) (st' := [vr (mR M 701 0 v1.toNatClampNeg), vr (some (10, this))]) (M1 := M) (pc' := 79) (tb_Works hγ) [.aload_n 0, .aload_n 0, .getfield 67, .iload_n 1, .aaload] (by decide +kernel) rfl rfl ⟨c3, trivial⟩ ?_
  obtain ⟨i4, ei4, h⟩ := h
  rw [ei4]
  obtain ⟨c5, h⟩ := h
  refine E_blk (lv' := [some (vr (some (10, this))), some (vi v1), some (vi v2), some (vi v3), some (vi v4)]) (st' := [vi v2, vi (mI M 98 this v1.toNatClampNeg), vr (some (400, i4)), vr (some (10, this))]) (M1 := M) (pc' := 86) (tb_Works hγ) [.aload_n 0, .getfield 70, .iload_n 1, .iaload, .iload_n 2] (by decide +kernel) rfl rfl ⟨c5, trivial⟩ ?_
  refine E_callX (κ' := k_Works_work1) (As := [vr (some (400, i4)), vi (mI M 98 this v1.toNatClampNeg), vi v2]) (st := []) mv_Works_work1 (Or.inl (tbk_mem (j := 10) (k := 182) rfl)) rfl (by decide +kernel) (Nat.le_of_ble_eq_true rfl) (Nat.le_of_ble_eq_true rfl) rfl (by decide) rfl (lk_Works_work1 hγ this i4 (mI M 98 this v1.toNatClampNeg) v2 _ _ M h) (fun _ _ => Qv_r) (fun _ h => h) (fun v M6 hp => Qv_k (R := fun st => E γ k_Works_work2 139 89 [some (vr (some (10, this))), some (vi v1), some (vi v2), some (vi v3), some (vi v4)] st M6 (Qx (9, 0) (Qv Q) X)) hp (fun h => ?_))
  refine E_blk (lv' := [some (vr (some (10, this))), some (vi v1), some (vi v2), some (vi v3), some (vi v4)]) (st' := [vi v3]) (M1 := M6) (pc' := 90) (tb_Works hγ) [.iload_n 3] (by decide +kernel) rfl rfl trivial ?_
  refine E_if_ge (off := 4) (tgt := 94) (by decide +kernel) (by decide) (fun b7 => ?_) (fun b7 => ?_)
  · rw [if_pos b7] at h
    obtain ⟨c8, c9, h⟩ := h
    refine E_blk (lv' := [some (vr (some (10, this))), some (vi v1), some (vi v2), some (vi v3), some (vi v4)]) (st' := []) (M1 := (sI (sI M6 516 this v4.toNatClampNeg ((1 : Int32) &&& 1)) 99 this v4.toNatClampNeg (mI (sI M6 516 this v4.toNatClampNeg ((1 : Int32) &&& 1)) 10 this 16))) (pc' := 113) (tb_Works hγ) [.aload_n 0, .getfield 73, .iload 4, .iconst 1, .bastore, .aload_n 0, .getfield 76, .iload 4, .aload_n 0, .getfield 155, .iastore] (by decide +kernel) rfl rfl ⟨c8, c9, trivial⟩ ?_
    obtain ⟨M10, eM10, h⟩ := h
    rw [← eM10]
    obtain ⟨c11, h⟩ := h
    refine E_blk (lv' := [some (vr (some (10, this))), some (vi v1), some (vi v2), some (vi v3), some (vi v4)]) (st' := []) (M1 := (sI M10 100 this v4.toNatClampNeg (mI M10 10 this 17))) (pc' := 124) (tb_Works hγ) [.aload_n 0, .getfield 79, .iload 4, .aload_n 0, .getfield 158, .iastore] (by decide +kernel) rfl rfl ⟨c11, trivial⟩ ?_
    exact (E_vret rfl (by decide +kernel) h).nx
  · rw [if_neg b7] at h
    exact (E_vret rfl (by decide +kernel) h).nx
set_option maxRecDepth 4096 in
theorem lk_Works_work2_j26 {γ : Gm} (hγ : Gk γ) (this : Nat) (Q : Mem → Prop) (X : Mem → Prop) (v1 : Int32) (v2 : Int32) (s0 : Int32) (M : Mem) (h : w_Works_work2_j26 this Q X v1 v2 s0 M) : E γ k_Works_work2 139 26 [some (vr (some (10, this))), some (vi v1), some (vi v2), none, none] [vi s0] M (Qx (9, 0) (Qv Q) X) := by
  unfold w_Works_work2_j26 at h
  refine E_blk (lv' := [some (vr (some (10, this))), some (vi v1), some (vi v2), some (vi s0), some (vi (((9 : Int32) * v1) + s0))]) (st' := [vi s0]) (M1 := M) (pc' := 36) (tb_Works hγ) [.istore_n 3, .bipush 9, .iload_n 1, .imul, .iload_n 3, .iadd, .istore 4, .iload_n 3] (by decide +kernel) rfl rfl trivial ?_
  refine E_if_lt (off := 36) (tgt := 72) (by decide +kernel) (by decide) (fun b2 => ?_) (fun b2 => ?_)
  · rw [if_pos b2] at h
    refine E_mask [true, true, true, true, true] rfl ?_
    exact lk_Works_work2_j72 hγ this Q X v1 v2 s0 (((9 : Int32) * v1) + s0) M h
  · rw [if_neg b2] at h
    obtain ⟨c12, h⟩ := h
    refine E_blk (lv' := [some (vr (some (10, this))), some (vi v1), some (vi v2), some (vi s0), some (vi (((9 : Int32) * v1) + s0))]) (st' := [vi (mI M 516 this (((9 : Int32) * v1) + s0).toNatClampNeg)]) (M1 := M) (pc' := 46) (tb_Works hγ) [.aload_n 0, .getfield 73, .iload 4, .baload] (by decide +kernel) rfl rfl ⟨c12, trivial⟩ ?_
    refine E_if_eq (off := 26) (tgt := 72) (by decide +kernel) (by decide) (fun b13 => ?_) (fun b13 => ?_)
    · rw [if_pos b13] at h
      refine E_mask [true, true, true, true, true] rfl ?_
      exact lk_Works_work2_j72 hγ this Q X v1 v2 s0 (((9 : Int32) * v1) + s0) M h
    · rw [if_neg b13] at h
      obtain ⟨c14, h⟩ := h
      refine E_blk (lv' := [some (vr (some (10, this))), some (vi v1), some (vi v2), some (vi s0), some (vi (((9 : Int32) * v1) + s0))]) (st' := []) (M1 := (sI M 10 this 16 (mI M 99 this (((9 : Int32) * v1) + s0).toNatClampNeg))) (pc' := 60) (tb_Works hγ) [.aload_n 0, .aload_n 0, .getfield 76, .iload 4, .iaload, .putfield 155] (by decide +kernel) rfl rfl ⟨c14, trivial⟩ ?_
      obtain ⟨M15, eM15, h⟩ := h
      rw [← eM15]
      obtain ⟨c16, h⟩ := h
      refine E_blk (lv' := [some (vr (some (10, this))), some (vi v1), some (vi v2), some (vi s0), some (vi (((9 : Int32) * v1) + s0))]) (st' := []) (M1 := (sI M15 10 this 17 (mI M15 100 this (((9 : Int32) * v1) + s0).toNatClampNeg))) (pc' := 71) (tb_Works hγ) [.aload_n 0, .aload_n 0, .getfield 79, .iload 4, .iaload, .putfield 158] (by decide +kernel) rfl rfl ⟨c16, trivial⟩ ?_
      obtain ⟨M17, eM17, h⟩ := h
      rw [← eM17]
      exact (E_vret rfl (by decide +kernel) h).nx
set_option maxRecDepth 4096 in
theorem lk_Works_work2 {γ : Gm} (hγ : Gk γ) (this : Nat) (a1 : Int32) (a2 : Int32) (Q : Mem → Prop) (X : Mem → Prop) (M : Mem) (h : w_Works_work2 this a1 a2 Q X M) : E γ k_Works_work2 139 0 [some (vr (some (10, this))), some (vi a1), some (vi a2), none, none] [] M (Qx (9, 0) (Qv Q) X) := by
  unfold w_Works_work2 at h
  refine E_blk (lv' := [some (vr (some (10, this))), some (vi a1), some (vi a2), none, none]) (st' := [vi a2]) (M1 := M) (pc' := 1) (tb_Works hγ) [.iload_n 2] (by decide +kernel) rfl rfl trivial ?_
  refine E_if_ne (off := 7) (tgt := 8) (by decide +kernel) (by decide) (fun b1 => ?_) (fun b1 => ?_)
  · rw [if_pos b1] at h
    refine E_blk (lv' := [some (vr (some (10, this))), some (vi a1), some (vi a2), none, none]) (st' := [vi (0 : Int32)]) (M1 := M) (pc' := 5) (tb_Works hγ) [.iconst 0] (by decide +kernel) rfl rfl trivial ?_
    refine E_goto (off := 21) (tgt := 26) (by decide +kernel) (by decide) ?_
    refine E_mask [true, true, true, false, false] rfl ?_
    exact lk_Works_work2_j26 hγ this Q X a1 a2 (0 : Int32) M h
  · rw [if_neg b1] at h
    refine E_blk (lv' := [some (vr (some (10, this))), some (vi a1), some (vi a2), none, none]) (st' := [vi a2]) (M1 := M) (pc' := 9) (tb_Works hγ) [.iload_n 2] (by decide +kernel) rfl rfl trivial ?_
    refine E_callS (κ' := k_JInteger_bitCount) (As := [vi a2]) (st := []) ms_JInteger_bitCount (Or.inl (tbk_mem (j := 10) (k := 172) rfl)) rfl (by decide +kernel) (Nat.le_of_ble_eq_true rfl) (Nat.le_of_ble_eq_true rfl) rfl (by decide) (lk_JInteger_bitCount hγ a2 _ M h) (fun _ _ => Qi_r) (fun v M18 hp => Qi_k (R := fun st => E γ k_Works_work2 139 12 [some (vr (some (10, this))), some (vi a1), some (vi a2), none, none] st M18 (Qx (9, 0) (Qv Q) X)) hp (fun r19 h => ?_))
    refine E_blk (lv' := [some (vr (some (10, this))), some (vi a1), some (vi a2), none, none]) (st' := [vi (1 : Int32), vi r19]) (M1 := M18) (pc' := 13) (tb_Works hγ) [.iconst 1] (by decide +kernel) rfl rfl trivial ?_
    refine E_icmp_ne (off := 12) (tgt := 25) (by decide +kernel) (by decide) (fun b20 => ?_) (fun b20 => ?_)
    · rw [if_pos b20] at h
      refine E_blk (lv' := [some (vr (some (10, this))), some (vi a1), some (vi a2), none, none]) (st' := [vi a2, vi (1 : Int32)]) (M1 := M18) (pc' := 18) (tb_Works hγ) [.iconst 1, .iload_n 2] (by decide +kernel) rfl rfl trivial ?_
      refine E_callS (κ' := k_JInteger_numberOfTrailingZeros) (As := [vi a2]) (st := [vi (1 : Int32)]) ms_JInteger_numberOfTrailingZeros (Or.inl (tbk_mem (j := 10) (k := 178) rfl)) rfl (by decide +kernel) (Nat.le_of_ble_eq_true rfl) (Nat.le_of_ble_eq_true rfl) rfl (by decide) (lk_JInteger_numberOfTrailingZeros hγ a2 _ M18 h) (fun _ _ => Qi_r) (fun v M21 hp => Qi_k (R := fun st => E γ k_Works_work2 139 21 [some (vr (some (10, this))), some (vi a1), some (vi a2), none, none] st M21 (Qx (9, 0) (Qv Q) X)) hp (fun r22 h => ?_))
      refine E_blk (lv' := [some (vr (some (10, this))), some (vi a1), some (vi a2), none, none]) (st' := [vi ((1 : Int32) + r22)]) (M1 := M21) (pc' := 22) (tb_Works hγ) [.iadd] (by decide +kernel) rfl rfl trivial ?_
      refine E_goto (off := 4) (tgt := 26) (by decide +kernel) (by decide) ?_
      refine E_mask [true, true, true, false, false] rfl ?_
      exact lk_Works_work2_j26 hγ this Q X a1 a2 ((1 : Int32) + r22) M21 h
    · rw [if_neg b20] at h
      refine E_blk (lv' := [some (vr (some (10, this))), some (vi a1), some (vi a2), none, none]) (st' := [vi (-1 : Int32)]) (M1 := M18) (pc' := 26) (tb_Works hγ) [.iconst (.negSucc 0)] (by decide +kernel) rfl rfl trivial ?_
      refine E_mask [true, true, true, false, false] rfl ?_
      exact lk_Works_work2_j26 hγ this Q X a1 a2 (-1 : Int32) M18 h
def w_Works_isTrial (this : Nat) (a1 : Int32) (Q : Int32 → Mem → Prop) (M : Mem) : Prop :=
  w_Works_isIn a1 (0 : Int32) ((mI M 10 this 10) - (1 : Int32)) (fun r2 M1 => (r2 = 0 ∨ r2 = 1) ∧ Q r2 M1) M
set_option maxRecDepth 4096 in
theorem lk_Works_isTrial {γ : Gm} (hγ : Gk γ) (this : Nat) (a1 : Int32) (Q : Int32 → Mem → Prop) (M : Mem) (h : w_Works_isTrial this a1 Q M) : E γ k_Works_isTrial 1 0 [some (vr (some (10, this))), some (vi a1)] [] M (Qi Q) := by
  unfold w_Works_isTrial at h
  refine E_blk (lv' := [some (vr (some (10, this))), some (vi a1)]) (st' := [vi ((mI M 10 this 10) - (1 : Int32)), vi (0 : Int32), vi a1]) (M1 := M) (pc' := 8) (tb_Works hγ) [.iload_n 1, .iconst 0, .aload_n 0, .getfield 230, .iconst 1, .isub] (by decide +kernel) rfl rfl trivial ?_
  refine E_callS (κ' := k_Works_isIn) (As := [vi a1, vi (0 : Int32), vi ((mI M 10 this 10) - (1 : Int32))]) (st := []) ms_Works_isIn (Or.inl (tbk_mem (j := 5) (k := 237) rfl)) rfl (by decide +kernel) (Nat.le_of_ble_eq_true rfl) (Nat.le_of_ble_eq_true rfl) rfl (by decide) (lk_Works_isIn hγ a1 (0 : Int32) ((mI M 10 this 10) - (1 : Int32)) _ M h) (fun _ _ => Qi_r) (fun v M1 hp => Qi_k (R := fun st => E γ k_Works_isTrial 1 11 [some (vr (some (10, this))), some (vi a1)] st M1 (Qi Q)) hp (fun r2 h => ?_))
  exact E_zret rfl h.1 (by decide +kernel) h.2
def w_Works_isRule (this : Nat) (a1 : Int32) (Q : Int32 → Mem → Prop) (M : Mem) : Prop :=
  w_Works_isIn a1 (1 : Int32) (14 : Int32) (fun r2 M1 => if r2 = 0 then (w_Works_isIn a1 (20 : Int32) (25 : Int32) (fun r5 M4 => if r5 = 0 then (w_Works_isIn a1 (30 : Int32) (43 : Int32) (fun r8 M7 => if r8 = 0 then (w_Works_isIn a1 (50 : Int32) (59 : Int32) (fun r11 M10 => if r11 = 0 then (Q (0 : Int32) M10) else (Q (1 : Int32) M10)) M7) else (Q (1 : Int32) M7)) M4) else (Q (1 : Int32) M4)) M1) else (Q (1 : Int32) M1)) M
set_option maxRecDepth 4096 in
theorem lk_Works_isRule {γ : Gm} (hγ : Gk γ) (this : Nat) (a1 : Int32) (Q : Int32 → Mem → Prop) (M : Mem) (h : w_Works_isRule this a1 Q M) : E γ k_Works_isRule 1 0 [some (vr (some (10, this))), some (vi a1)] [] M (Qi Q) := by
  unfold w_Works_isRule at h
  refine E_blk (lv' := [some (vr (some (10, this))), some (vi a1)]) (st' := [vi (14 : Int32), vi (1 : Int32), vi a1]) (M1 := M) (pc' := 4) (tb_Works hγ) [.iload_n 1, .iconst 1, .bipush 14] (by decide +kernel) rfl rfl trivial ?_
  refine E_callS (κ' := k_Works_isIn) (As := [vi a1, vi (1 : Int32), vi (14 : Int32)]) (st := []) ms_Works_isIn (Or.inl (tbk_mem (j := 5) (k := 237) rfl)) rfl (by decide +kernel) (Nat.le_of_ble_eq_true rfl) (Nat.le_of_ble_eq_true rfl) rfl (by decide) (lk_Works_isIn hγ a1 (1 : Int32) (14 : Int32) _ M h) (fun _ _ => Qi_r) (fun v M1 hp => Qi_k (R := fun st => E γ k_Works_isRule 1 7 [some (vr (some (10, this))), some (vi a1)] st M1 (Qi Q)) hp (fun r2 h => ?_))
  refine E_if_ne (off := 36) (tgt := 43) (by decide +kernel) (by decide) (fun b3 => ?_) (fun b3 => ?_)
  · rw [if_pos b3] at h
    refine E_blk (lv' := [some (vr (some (10, this))), some (vi a1)]) (st' := [vi (25 : Int32), vi (20 : Int32), vi a1]) (M1 := M1) (pc' := 15) (tb_Works hγ) [.iload_n 1, .bipush 20, .bipush 25] (by decide +kernel) rfl rfl trivial ?_
    refine E_callS (κ' := k_Works_isIn) (As := [vi a1, vi (20 : Int32), vi (25 : Int32)]) (st := []) ms_Works_isIn (Or.inl (tbk_mem (j := 5) (k := 237) rfl)) rfl (by decide +kernel) (Nat.le_of_ble_eq_true rfl) (Nat.le_of_ble_eq_true rfl) rfl (by decide) (lk_Works_isIn hγ a1 (20 : Int32) (25 : Int32) _ M1 h) (fun _ _ => Qi_r) (fun v M4 hp => Qi_k (R := fun st => E γ k_Works_isRule 1 18 [some (vr (some (10, this))), some (vi a1)] st M4 (Qi Q)) hp (fun r5 h => ?_))
    refine E_if_ne (off := 25) (tgt := 43) (by decide +kernel) (by decide) (fun b6 => ?_) (fun b6 => ?_)
    · rw [if_pos b6] at h
      refine E_blk (lv' := [some (vr (some (10, this))), some (vi a1)]) (st' := [vi (43 : Int32), vi (30 : Int32), vi a1]) (M1 := M4) (pc' := 26) (tb_Works hγ) [.iload_n 1, .bipush 30, .bipush 43] (by decide +kernel) rfl rfl trivial ?_
      refine E_callS (κ' := k_Works_isIn) (As := [vi a1, vi (30 : Int32), vi (43 : Int32)]) (st := []) ms_Works_isIn (Or.inl (tbk_mem (j := 5) (k := 237) rfl)) rfl (by decide +kernel) (Nat.le_of_ble_eq_true rfl) (Nat.le_of_ble_eq_true rfl) rfl (by decide) (lk_Works_isIn hγ a1 (30 : Int32) (43 : Int32) _ M4 h) (fun _ _ => Qi_r) (fun v M7 hp => Qi_k (R := fun st => E γ k_Works_isRule 1 29 [some (vr (some (10, this))), some (vi a1)] st M7 (Qi Q)) hp (fun r8 h => ?_))
      refine E_if_ne (off := 14) (tgt := 43) (by decide +kernel) (by decide) (fun b9 => ?_) (fun b9 => ?_)
      · rw [if_pos b9] at h
        refine E_blk (lv' := [some (vr (some (10, this))), some (vi a1)]) (st' := [vi (59 : Int32), vi (50 : Int32), vi a1]) (M1 := M7) (pc' := 37) (tb_Works hγ) [.iload_n 1, .bipush 50, .bipush 59] (by decide +kernel) rfl rfl trivial ?_
        refine E_callS (κ' := k_Works_isIn) (As := [vi a1, vi (50 : Int32), vi (59 : Int32)]) (st := []) ms_Works_isIn (Or.inl (tbk_mem (j := 5) (k := 237) rfl)) rfl (by decide +kernel) (Nat.le_of_ble_eq_true rfl) (Nat.le_of_ble_eq_true rfl) rfl (by decide) (lk_Works_isIn hγ a1 (50 : Int32) (59 : Int32) _ M7 h) (fun _ _ => Qi_r) (fun v M10 hp => Qi_k (R := fun st => E γ k_Works_isRule 1 40 [some (vr (some (10, this))), some (vi a1)] st M10 (Qi Q)) hp (fun r11 h => ?_))
        refine E_if_eq (off := 7) (tgt := 47) (by decide +kernel) (by decide) (fun b12 => ?_) (fun b12 => ?_)
        · rw [if_pos b12] at h
          refine E_blk (lv' := [some (vr (some (10, this))), some (vi a1)]) (st' := [vi (0 : Int32)]) (M1 := M10) (pc' := 48) (tb_Works hγ) [.iconst 0] (by decide +kernel) rfl rfl trivial ?_
          exact E_zret rfl (Or.inl rfl) (by decide +kernel) h
        · rw [if_neg b12] at h
          refine E_blk (lv' := [some (vr (some (10, this))), some (vi a1)]) (st' := [vi (1 : Int32)]) (M1 := M10) (pc' := 44) (tb_Works hγ) [.iconst 1] (by decide +kernel) rfl rfl trivial ?_
          refine E_goto (off := 4) (tgt := 48) (by decide +kernel) (by decide) ?_
          exact E_zret rfl (Or.inr rfl) (by decide +kernel) h
      · rw [if_neg b9] at h
        refine E_blk (lv' := [some (vr (some (10, this))), some (vi a1)]) (st' := [vi (1 : Int32)]) (M1 := M7) (pc' := 44) (tb_Works hγ) [.iconst 1] (by decide +kernel) rfl rfl trivial ?_
        refine E_goto (off := 4) (tgt := 48) (by decide +kernel) (by decide) ?_
        exact E_zret rfl (Or.inr rfl) (by decide +kernel) h
    · rw [if_neg b6] at h
      refine E_blk (lv' := [some (vr (some (10, this))), some (vi a1)]) (st' := [vi (1 : Int32)]) (M1 := M4) (pc' := 44) (tb_Works hγ) [.iconst 1] (by decide +kernel) rfl rfl trivial ?_
      refine E_goto (off := 4) (tgt := 48) (by decide +kernel) (by decide) ?_
      exact E_zret rfl (Or.inr rfl) (by decide +kernel) h
  · rw [if_neg b3] at h
    refine E_blk (lv' := [some (vr (some (10, this))), some (vi a1)]) (st' := [vi (1 : Int32)]) (M1 := M1) (pc' := 44) (tb_Works hγ) [.iconst 1] (by decide +kernel) rfl rfl trivial ?_
    refine E_goto (off := 4) (tgt := 48) (by decide +kernel) (by decide) ?_
    exact E_zret rfl (Or.inr rfl) (by decide +kernel) h
def w_Works_ruleMet_j40 (this : Nat) (Q : Int32 → Mem → Prop) (X : Mem → Prop) (s0 : Int32) (M : Mem) : Prop :=
  w_Works_isRule this s0 (fun r4 M3 => if r4 = 0 then (Q (0 : Int32) M3) else (Q s0 M3)) M
def w_Works_ruleMet (this : Nat) (a1 : Int32) (Q : Int32 → Mem → Prop) (X : Mem → Prop) (M : Mem) : Prop :=
  w_Works_work2 this a1 (0 : Int32) (fun M1 => if (mI M1 10 this 16) = (1 : Int32) then (w_Works_ruleMet_j40 this Q X (mI M1 10 this 17) M1) else (if (mI M1 10 this 16) = (4 : Int32) then (¬ (100 : Int32) = 0 ∧ w_Works_ruleMet_j40 this Q X ((mI M1 10 this 17) / (100 : Int32)) M1) else (w_Works_ruleMet_j40 this Q X (0 : Int32) M1))) X M
set_option maxRecDepth 4096 in
theorem lk_Works_ruleMet_j40 {γ : Gm} (hγ : Gk γ) (this : Nat) (Q : Int32 → Mem → Prop) (X : Mem → Prop) (s0 : Int32) (M : Mem) (h : w_Works_ruleMet_j40 this Q X s0 M) : E γ k_Works_ruleMet 140 40 [some (vr (some (10, this))), none, none] [vi s0] M (Qx (9, 0) (Qi Q) X) := by
  unfold w_Works_ruleMet_j40 at h
  refine E_blk (lv' := [some (vr (some (10, this))), none, some (vi s0)]) (st' := [vi s0, vr (some (10, this))]) (M1 := M) (pc' := 43) (tb_Works hγ) [.istore_n 2, .aload_n 0, .iload_n 2] (by decide +kernel) rfl rfl trivial ?_
  refine E_callV (κ' := k_Works_isRule) (As := [vi s0]) (st := []) mv_Works_isRule (Or.inl (tbk_mem (j := 10) (k := 189) rfl)) rfl (by decide +kernel) (Nat.le_of_ble_eq_true rfl) (Nat.le_of_ble_eq_true rfl) rfl (by decide) (lk_Works_isRule hγ this s0 _ M h) (fun _ _ => Qi_r) (fun v M3 hp => Qi_k (R := fun st => E γ k_Works_ruleMet 140 46 [some (vr (some (10, this))), none, some (vi s0)] st M3 (Qx (9, 0) (Qi Q) X)) hp (fun r4 h => ?_))
  refine E_if_eq (off := 7) (tgt := 53) (by decide +kernel) (by decide) (fun b5 => ?_) (fun b5 => ?_)
  · rw [if_pos b5] at h
    refine E_blk (lv' := [some (vr (some (10, this))), none, some (vi s0)]) (st' := [vi (0 : Int32)]) (M1 := M3) (pc' := 54) (tb_Works hγ) [.iconst 0] (by decide +kernel) rfl rfl trivial ?_
    exact (E_iret rfl (by decide +kernel) h).nx
  · rw [if_neg b5] at h
    refine E_blk (lv' := [some (vr (some (10, this))), none, some (vi s0)]) (st' := [vi s0]) (M1 := M3) (pc' := 50) (tb_Works hγ) [.iload_n 2] (by decide +kernel) rfl rfl trivial ?_
    refine E_goto (off := 4) (tgt := 54) (by decide +kernel) (by decide) ?_
    exact (E_iret rfl (by decide +kernel) h).nx
set_option maxRecDepth 4096 in
theorem lk_Works_ruleMet {γ : Gm} (hγ : Gk γ) (this : Nat) (a1 : Int32) (Q : Int32 → Mem → Prop) (X : Mem → Prop) (M : Mem) (h : w_Works_ruleMet this a1 Q X M) : E γ k_Works_ruleMet 140 0 [some (vr (some (10, this))), some (vi a1), none] [] M (Qx (9, 0) (Qi Q) X) := by
  unfold w_Works_ruleMet at h
  refine E_blk (lv' := [some (vr (some (10, this))), some (vi a1), none]) (st' := [vi (0 : Int32), vi a1, vr (some (10, this))]) (M1 := M) (pc' := 3) (tb_Works hγ) [.aload_n 0, .iload_n 1, .iconst 0] (by decide +kernel) rfl rfl trivial ?_
  refine E_callX (κ' := k_Works_work2) (As := [vi a1, vi (0 : Int32)]) (st := []) mv_Works_work2 (Or.inl (tbk_mem (j := 10) (k := 168) rfl)) rfl (by decide +kernel) (Nat.le_of_ble_eq_true rfl) (Nat.le_of_ble_eq_true rfl) rfl (by decide) rfl (lk_Works_work2 hγ this a1 (0 : Int32) _ _ M h) (fun _ _ => Qv_r) (fun _ h => h) (fun v M1 hp => Qv_k (R := fun st => E γ k_Works_ruleMet 140 6 [some (vr (some (10, this))), some (vi a1), none] st M1 (Qx (9, 0) (Qi Q) X)) hp (fun h => ?_))
  refine E_blk (lv' := [some (vr (some (10, this))), some (vi a1), none]) (st' := [vi (1 : Int32), vi (mI M1 10 this 16)]) (M1 := M1) (pc' := 11) (tb_Works hγ) [.aload_n 0, .getfield 155, .iconst 1] (by decide +kernel) rfl rfl trivial ?_
  refine E_icmp_ne (off := 10) (tgt := 21) (by decide +kernel) (by decide) (fun b2 => ?_) (fun b2 => ?_)
  · rw [if_pos b2] at h
    refine E_blk (lv' := [some (vr (some (10, this))), some (vi a1), none]) (st' := [vi (mI M1 10 this 17)]) (M1 := M1) (pc' := 18) (tb_Works hγ) [.aload_n 0, .getfield 158] (by decide +kernel) rfl rfl trivial ?_
    refine E_goto (off := 22) (tgt := 40) (by decide +kernel) (by decide) ?_
    refine E_mask [true, false, false] rfl ?_
    exact lk_Works_ruleMet_j40 hγ this Q X (mI M1 10 this 17) M1 h
  · rw [if_neg b2] at h
    refine E_blk (lv' := [some (vr (some (10, this))), some (vi a1), none]) (st' := [vi (4 : Int32), vi (mI M1 10 this 16)]) (M1 := M1) (pc' := 26) (tb_Works hγ) [.aload_n 0, .getfield 155, .iconst 4] (by decide +kernel) rfl rfl trivial ?_
    refine E_icmp_ne (off := 13) (tgt := 39) (by decide +kernel) (by decide) (fun b6 => ?_) (fun b6 => ?_)
    · rw [if_pos b6] at h
      obtain ⟨c7, h⟩ := h
      refine E_blk (lv' := [some (vr (some (10, this))), some (vi a1), none]) (st' := [vi ((mI M1 10 this 17) / (100 : Int32))]) (M1 := M1) (pc' := 36) (tb_Works hγ) [.aload_n 0, .getfield 158, .bipush 100, .idiv] (by decide +kernel) rfl rfl ⟨c7, trivial⟩ ?_
      refine E_goto (off := 4) (tgt := 40) (by decide +kernel) (by decide) ?_
      refine E_mask [true, false, false] rfl ?_
      exact lk_Works_ruleMet_j40 hγ this Q X ((mI M1 10 this 17) / (100 : Int32)) M1 h
    · rw [if_neg b6] at h
      refine E_blk (lv' := [some (vr (some (10, this))), some (vi a1), none]) (st' := [vi (0 : Int32)]) (M1 := M1) (pc' := 40) (tb_Works hγ) [.iconst 0] (by decide +kernel) rfl rfl trivial ?_
      refine E_mask [true, false, false] rfl ?_
      exact lk_Works_ruleMet_j40 hγ this Q X (0 : Int32) M1 h
def w_Works_finds0 (this : Nat) (a1 : Int32) (a2 : Int32) (Q : Int32 → Mem → Prop) (X : Mem → Prop) (M : Mem) : Prop :=
  w_Works_work2 this a1 (0 : Int32) (fun M1 => w_Works_work2 this a1 a2 (fun M2 => if (mI M1 10 this 16) = (mI M2 10 this 16) then (if (mI M1 10 this 17) = (mI M2 10 this 17) then (Q (0 : Int32) M2) else (Q (1 : Int32) M2)) else (Q (1 : Int32) M2)) X M1) X M
set_option maxRecDepth 4096 in
theorem lk_Works_finds0 {γ : Gm} (hγ : Gk γ) (this : Nat) (a1 : Int32) (a2 : Int32) (Q : Int32 → Mem → Prop) (X : Mem → Prop) (M : Mem) (h : w_Works_finds0 this a1 a2 Q X M) : E γ k_Works_finds0 140 0 [some (vr (some (10, this))), some (vi a1), some (vi a2), none, none] [] M (Qx (9, 0) (Qi Q) X) := by
  unfold w_Works_finds0 at h
  refine E_blk (lv' := [some (vr (some (10, this))), some (vi a1), some (vi a2), none, none]) (st' := [vi (0 : Int32), vi a1, vr (some (10, this))]) (M1 := M) (pc' := 3) (tb_Works hγ) [.aload_n 0, .iload_n 1, .iconst 0] (by decide +kernel) rfl rfl trivial ?_
  refine E_callX (κ' := k_Works_work2) (As := [vi a1, vi (0 : Int32)]) (st := []) mv_Works_work2 (Or.inl (tbk_mem (j := 10) (k := 168) rfl)) rfl (by decide +kernel) (Nat.le_of_ble_eq_true rfl) (Nat.le_of_ble_eq_true rfl) rfl (by decide) rfl (lk_Works_work2 hγ this a1 (0 : Int32) _ _ M h) (fun _ _ => Qv_r) (fun _ h => h) (fun v M1 hp => Qv_k (R := fun st => E γ k_Works_finds0 140 6 [some (vr (some (10, this))), some (vi a1), some (vi a2), none, none] st M1 (Qx (9, 0) (Qi Q) X)) hp (fun h => ?_))
  refine E_blk (lv' := [some (vr (some (10, this))), some (vi a1), some (vi a2), some (vi (mI M1 10 this 16)), some (vi (mI M1 10 this 17))]) (st' := [vi a2, vi a1, vr (some (10, this))]) (M1 := M1) (pc' := 20) (tb_Works hγ) [.aload_n 0, .getfield 155, .istore_n 3, .aload_n 0, .getfield 158, .istore 4, .aload_n 0, .iload_n 1, .iload_n 2] (by decide +kernel) rfl rfl trivial ?_
  refine E_callX (κ' := k_Works_work2) (As := [vi a1, vi a2]) (st := []) mv_Works_work2 (Or.inl (tbk_mem (j := 10) (k := 168) rfl)) rfl (by decide +kernel) (Nat.le_of_ble_eq_true rfl) (Nat.le_of_ble_eq_true rfl) rfl (by decide) rfl (lk_Works_work2 hγ this a1 a2 _ _ M1 h) (fun _ _ => Qv_r) (fun _ h => h) (fun v M2 hp => Qv_k (R := fun st => E γ k_Works_finds0 140 23 [some (vr (some (10, this))), some (vi a1), some (vi a2), some (vi (mI M1 10 this 16)), some (vi (mI M1 10 this 17))] st M2 (Qx (9, 0) (Qi Q) X)) hp (fun h => ?_))
  refine E_blk (lv' := [some (vr (some (10, this))), some (vi a1), some (vi a2), some (vi (mI M1 10 this 16)), some (vi (mI M1 10 this 17))]) (st' := [vi (mI M2 10 this 16), vi (mI M1 10 this 16)]) (M1 := M2) (pc' := 28) (tb_Works hγ) [.iload_n 3, .aload_n 0, .getfield 155] (by decide +kernel) rfl rfl trivial ?_
  refine E_icmp_ne (off := 12) (tgt := 40) (by decide +kernel) (by decide) (fun b3 => ?_) (fun b3 => ?_)
  · rw [if_pos b3] at h
    refine E_blk (lv' := [some (vr (some (10, this))), some (vi a1), some (vi a2), some (vi (mI M1 10 this 16)), some (vi (mI M1 10 this 17))]) (st' := [vi (mI M2 10 this 17), vi (mI M1 10 this 17)]) (M1 := M2) (pc' := 37) (tb_Works hγ) [.iload 4, .aload_n 0, .getfield 158] (by decide +kernel) rfl rfl trivial ?_
    refine E_icmp_eq (off := 7) (tgt := 44) (by decide +kernel) (by decide) (fun b4 => ?_) (fun b4 => ?_)
    · rw [if_pos b4] at h
      refine E_blk (lv' := [some (vr (some (10, this))), some (vi a1), some (vi a2), some (vi (mI M1 10 this 16)), some (vi (mI M1 10 this 17))]) (st' := [vi (0 : Int32)]) (M1 := M2) (pc' := 45) (tb_Works hγ) [.iconst 0] (by decide +kernel) rfl rfl trivial ?_
      exact (E_zret rfl (Or.inl rfl) (by decide +kernel) h).nx
    · rw [if_neg b4] at h
      refine E_blk (lv' := [some (vr (some (10, this))), some (vi a1), some (vi a2), some (vi (mI M1 10 this 16)), some (vi (mI M1 10 this 17))]) (st' := [vi (1 : Int32)]) (M1 := M2) (pc' := 41) (tb_Works hγ) [.iconst 1] (by decide +kernel) rfl rfl trivial ?_
      refine E_goto (off := 4) (tgt := 45) (by decide +kernel) (by decide) ?_
      exact (E_zret rfl (Or.inr rfl) (by decide +kernel) h).nx
  · rw [if_neg b3] at h
    refine E_blk (lv' := [some (vr (some (10, this))), some (vi a1), some (vi a2), some (vi (mI M1 10 this 16)), some (vi (mI M1 10 this 17))]) (st' := [vi (1 : Int32)]) (M1 := M2) (pc' := 41) (tb_Works hγ) [.iconst 1] (by decide +kernel) rfl rfl trivial ?_
    refine E_goto (off := 4) (tgt := 45) (by decide +kernel) (by decide) ?_
    exact (E_zret rfl (Or.inr rfl) (by decide +kernel) h).nx
def w_Works_isWorld (this : Nat) (a1 : Int32) (Q : Int32 → Mem → Prop) (M : Mem) : Prop :=
  w_Works_isIn a1 (0 : Int32) (2 : Int32) (fun r2 M1 => if r2 = 0 then (Q (0 : Int32) M1) else (vp_in a1 (mL M1 702 0) ∧ if (mR M1 702 0 a1.toNatClampNeg) = none then (Q (0 : Int32) M1) else (Q (1 : Int32) M1))) M
set_option maxRecDepth 4096 in
theorem lk_Works_isWorld {γ : Gm} (hγ : Gk γ) (this : Nat) (a1 : Int32) (Q : Int32 → Mem → Prop) (M : Mem) (h : w_Works_isWorld this a1 Q M) : E γ k_Works_isWorld 1 0 [some (vr (some (10, this))), some (vi a1)] [] M (Qi Q) := by
  unfold w_Works_isWorld at h
  refine E_blk (lv' := [some (vr (some (10, this))), some (vi a1)]) (st' := [vi (2 : Int32), vi (0 : Int32), vi a1]) (M1 := M) (pc' := 3) (tb_Works hγ) [.iload_n 1, .iconst 0, .iconst 2] (by decide +kernel) rfl rfl trivial ?_
  refine E_callS (κ' := k_Works_isIn) (As := [vi a1, vi (0 : Int32), vi (2 : Int32)]) (st := []) ms_Works_isIn (Or.inl (tbk_mem (j := 5) (k := 237) rfl)) rfl (by decide +kernel) (Nat.le_of_ble_eq_true rfl) (Nat.le_of_ble_eq_true rfl) rfl (by decide) (lk_Works_isIn hγ a1 (0 : Int32) (2 : Int32) _ M h) (fun _ _ => Qi_r) (fun v M1 hp => Qi_k (R := fun st => E γ k_Works_isWorld 1 6 [some (vr (some (10, this))), some (vi a1)] st M1 (Qi Q)) hp (fun r2 h => ?_))
  refine E_if_eq (off := 16) (tgt := 22) (by decide +kernel) (by decide) (fun b3 => ?_) (fun b3 => ?_)
  · rw [if_pos b3] at h
    refine E_blk (lv' := [some (vr (some (10, this))), some (vi a1)]) (st' := [vi (0 : Int32)]) (M1 := M1) (pc' := 23) (tb_Works hγ) [.iconst 0] (by decide +kernel) rfl rfl trivial ?_
    exact E_zret rfl (Or.inl rfl) (by decide +kernel) h
  · rw [if_neg b3] at h
    obtain ⟨c4, h⟩ := h
    refine E_blk (lv' := [some (vr (some (10, this))), some (vi a1)]) (st' := [vr (mR M1 702 0 a1.toNatClampNeg)]) (M1 := M1) (pc' := 15) (tb_Works hγ) [.aload_n 0, .getfield 85, .iload_n 1, .aaload] (by decide +kernel) rfl rfl ⟨c4, trivial⟩ ?_
    refine E_ifnull (off := 7) (tgt := 22) (by decide +kernel) (by decide) (fun b5 => ?_) (fun b5 => ?_)
    · rw [if_pos b5] at h
      refine E_blk (lv' := [some (vr (some (10, this))), some (vi a1)]) (st' := [vi (0 : Int32)]) (M1 := M1) (pc' := 23) (tb_Works hγ) [.iconst 0] (by decide +kernel) rfl rfl trivial ?_
      exact E_zret rfl (Or.inl rfl) (by decide +kernel) h
    · rw [if_neg b5] at h
      refine E_blk (lv' := [some (vr (some (10, this))), some (vi a1)]) (st' := [vi (1 : Int32)]) (M1 := M1) (pc' := 19) (tb_Works hγ) [.iconst 1] (by decide +kernel) rfl rfl trivial ?_
      refine E_goto (off := 4) (tgt := 23) (by decide +kernel) (by decide) ?_
      exact E_zret rfl (Or.inr rfl) (by decide +kernel) h
def w_Works_isClass (this : Nat) (a1 : Int32) (a2 : Int32) (Q : Int32 → Mem → Prop) (M : Mem) : Prop :=
  w_Works_isWorld this a1 (fun r2 M1 => if r2 = 0 then (Q (0 : Int32) M1) else (vp_in a1 (mL M1 702 0) ∧ ∃ i5, (mR M1 702 0 a1.toNatClampNeg) = some (5, i5) ∧ w_Works_isIn a2 (0 : Int32) ((mI M1 5 i5 2) - (1 : Int32)) (fun r7 M6 => if r7 = 0 then (Q (0 : Int32) M6) else (Q (1 : Int32) M6)) M1)) M
set_option maxRecDepth 4096 in
theorem lk_Works_isClass {γ : Gm} (hγ : Gk γ) (this : Nat) (a1 : Int32) (a2 : Int32) (Q : Int32 → Mem → Prop) (M : Mem) (h : w_Works_isClass this a1 a2 Q M) : E γ k_Works_isClass 2 0 [some (vr (some (10, this))), some (vi a1), some (vi a2)] [] M (Qi Q) := by
  unfold w_Works_isClass at h
  refine E_blk (lv' := [some (vr (some (10, this))), some (vi a1), some (vi a2)]) (st' := [vi a1, vr (some (10, this))]) (M1 := M) (pc' := 2) (tb_Works hγ) [.aload_n 0, .iload_n 1] (by decide +kernel) rfl rfl trivial ?_
  refine E_callV (κ' := k_Works_isWorld) (As := [vi a1]) (st := []) mv_Works_isWorld (Or.inl (tbk_mem (j := 6) (k := 32) rfl)) rfl (by decide +kernel) (Nat.le_of_ble_eq_true rfl) (Nat.le_of_ble_eq_true rfl) rfl (by decide) (lk_Works_isWorld hγ this a1 _ M h) (fun _ _ => Qi_r) (fun v M1 hp => Qi_k (R := fun st => E γ k_Works_isClass 2 5 [some (vr (some (10, this))), some (vi a1), some (vi a2)] st M1 (Qi Q)) hp (fun r2 h => ?_))
  refine E_if_eq (off := 26) (tgt := 31) (by decide +kernel) (by decide) (fun b3 => ?_) (fun b3 => ?_)
  · rw [if_pos b3] at h
    refine E_blk (lv' := [some (vr (some (10, this))), some (vi a1), some (vi a2)]) (st' := [vi (0 : Int32)]) (M1 := M1) (pc' := 32) (tb_Works hγ) [.iconst 0] (by decide +kernel) rfl rfl trivial ?_
    exact E_zret rfl (Or.inl rfl) (by decide +kernel) h
  · rw [if_neg b3] at h
    obtain ⟨c4, h⟩ := h
    refine E_blk (lv' := [some (vr (some (10, this))), some (vi a1), some (vi a2)]) (st' := [vr (mR M1 702 0 a1.toNatClampNeg), vi (0 : Int32), vi a2]) (M1 := M1) (pc' := 16) (tb_Works hγ) [.iload_n 2, .iconst 0, .aload_n 0, .getfield 85, .iload_n 1, .aaload] (by decide +kernel) rfl rfl ⟨c4, trivial⟩ ?_
    obtain ⟨i5, ei5, h⟩ := h
    rw [ei5]
    refine E_blk (lv' := [some (vr (some (10, this))), some (vi a1), some (vi a2)]) (st' := [vi ((mI M1 5 i5 2) - (1 : Int32)), vi (0 : Int32), vi a2]) (M1 := M1) (pc' := 21) (tb_Works hγ) [.getfield 242, .iconst 1, .isub] (by decide +kernel) rfl rfl trivial ?_
    refine E_callS (κ' := k_Works_isIn) (As := [vi a2, vi (0 : Int32), vi ((mI M1 5 i5 2) - (1 : Int32))]) (st := []) ms_Works_isIn (Or.inl (tbk_mem (j := 5) (k := 237) rfl)) rfl (by decide +kernel) (Nat.le_of_ble_eq_true rfl) (Nat.le_of_ble_eq_true rfl) rfl (by decide) (lk_Works_isIn hγ a2 (0 : Int32) ((mI M1 5 i5 2) - (1 : Int32)) _ M1 h) (fun _ _ => Qi_r) (fun v M6 hp => Qi_k (R := fun st => E γ k_Works_isClass 2 24 [some (vr (some (10, this))), some (vi a1), some (vi a2)] st M6 (Qi Q)) hp (fun r7 h => ?_))
    refine E_if_eq (off := 7) (tgt := 31) (by decide +kernel) (by decide) (fun b8 => ?_) (fun b8 => ?_)
    · rw [if_pos b8] at h
      refine E_blk (lv' := [some (vr (some (10, this))), some (vi a1), some (vi a2)]) (st' := [vi (0 : Int32)]) (M1 := M6) (pc' := 32) (tb_Works hγ) [.iconst 0] (by decide +kernel) rfl rfl trivial ?_
      exact E_zret rfl (Or.inl rfl) (by decide +kernel) h
    · rw [if_neg b8] at h
      refine E_blk (lv' := [some (vr (some (10, this))), some (vi a1), some (vi a2)]) (st' := [vi (1 : Int32)]) (M1 := M6) (pc' := 28) (tb_Works hγ) [.iconst 1] (by decide +kernel) rfl rfl trivial ?_
      refine E_goto (off := 4) (tgt := 32) (by decide +kernel) (by decide) ?_
      exact E_zret rfl (Or.inr rfl) (by decide +kernel) h
def w_Works_world_j35 (this : Nat) (Q : Int32 → Mem → Prop) (v1 : Int32) (v2 : Int32) (M : Mem) : Prop :=
  if v2 = (3 : Int32) then (Q (-3 : Int32) M) else (vp_in v2 (mL M 702 1) ∧ ∃ i7, (mR M 702 1 v2.toNatClampNeg) = some (5, i7) ∧ vp_in v2 (mL M 702 0) ∧ ∃ M9, M9 = sR M 702 0 v2.toNatClampNeg (some (5, i7)) ∧ vp_in v2 (mL M9 702 0) ∧ ∃ i11, (mR M9 702 0 v2.toNatClampNeg) = some (5, i11) ∧ w_World_begin i11 v1 (fun M12 => Q v2 M12) M9)
def w_Works_world_L15 (this : Nat) (Q : Int32 → Mem → Prop) : Nat → Int32 → Int32 → Mem → Prop
  | 0, _, _, _ => False
  | n + 1, v1, v2, M => if (3 : Int32) ≤ v2 then (w_Works_world_j35 this Q v1 v2 M) else (vp_in v2 (mL M 702 0) ∧ if (mR M 702 0 v2.toNatClampNeg) = none then (w_Works_world_j35 this Q v1 v2 M) else ((w_Works_world_L15 this Q n) v1 (v2 + (1 : Int32)) M))
def w_Works_world (this : Nat) (a1 : Int32) (Q : Int32 → Mem → Prop) (M : Mem) : Prop :=
  w_Works_isIn a1 (0 : Int32) (255 : Int32) (fun r2 M1 => if r2 = 0 then (Q (-1 : Int32) M1) else (∃ n15 : Nat, w_Works_world_L15 this Q n15 a1 (0 : Int32) M1)) M
set_option maxRecDepth 4096 in
theorem lk_Works_world_j35 {γ : Gm} (hγ : Gk γ) (this : Nat) (Q : Int32 → Mem → Prop) (v1 : Int32) (v2 : Int32) (M : Mem) (h : w_Works_world_j35 this Q v1 v2 M) : E γ k_Works_world 3 35 [some (vr (some (10, this))), some (vi v1), some (vi v2)] [] M (Qi Q) := by
  unfold w_Works_world_j35 at h
  refine E_blk (lv' := [some (vr (some (10, this))), some (vi v1), some (vi v2)]) (st' := [vi (3 : Int32), vi v2]) (M1 := M) (pc' := 37) (tb_Works hγ) [.iload_n 2, .iconst 3] (by decide +kernel) rfl rfl trivial ?_
  refine E_icmp_ne (off := 6) (tgt := 43) (by decide +kernel) (by decide) (fun b5 => ?_) (fun b5 => ?_)
  · rw [if_pos b5] at h
    refine E_blk (lv' := [some (vr (some (10, this))), some (vi v1), some (vi v2)]) (st' := [vi (-3 : Int32)]) (M1 := M) (pc' := 42) (tb_Works hγ) [.bipush (.negSucc 2)] (by decide +kernel) rfl rfl trivial ?_
    exact E_iret rfl (by decide +kernel) h
  · rw [if_neg b5] at h
    obtain ⟨c6, h⟩ := h
    refine E_blk (lv' := [some (vr (some (10, this))), some (vi v1), some (vi v2)]) (st' := [vr (mR M 702 1 v2.toNatClampNeg), vi v2, vr (some (702, 0))]) (M1 := M) (pc' := 54) (tb_Works hγ) [.aload_n 0, .getfield 85, .iload_n 2, .aload_n 0, .getfield 90, .iload_n 2, .aaload] (by decide +kernel) rfl rfl ⟨c6, trivial⟩ ?_
    obtain ⟨i7, ei7, h⟩ := h
    rw [ei7]
    obtain ⟨c8, M9, eM9, h⟩ := h
    refine E_astR (g := 5) (k := i7) hγ.2.2.1.1 (FIN_lt hγ.1) (by decide) c8 (by decide +kernel) (by unfold okel; decide) ?_
    rw [← eM9]
    obtain ⟨c10, h⟩ := h
    refine E_blk (lv' := [some (vr (some (10, this))), some (vi v1), some (vi v2)]) (st' := [vr (mR M9 702 0 v2.toNatClampNeg)]) (M1 := M9) (pc' := 61) (tb_Works hγ) [.aload_n 0, .getfield 85, .iload_n 2, .aaload] (by decide +kernel) rfl rfl ⟨c10, trivial⟩ ?_
    obtain ⟨i11, ei11, h⟩ := h
    rw [ei11]
    refine E_blk (lv' := [some (vr (some (10, this))), some (vi v1), some (vi v2)]) (st' := [vi v1, vr (some (5, i11))]) (M1 := M9) (pc' := 62) (tb_Works hγ) [.iload_n 1] (by decide +kernel) rfl rfl trivial ?_
    refine E_callV (κ' := k_World_begin) (As := [vi v1]) (st := []) mv_World_begin (Or.inl (tbk_mem (j := 6) (k := 4) rfl)) rfl (by decide +kernel) (Nat.le_of_ble_eq_true rfl) (Nat.le_of_ble_eq_true rfl) rfl (by decide) (lk_World_begin hγ i11 v1 _ M9 h) (fun _ _ => Qv_r) (fun v M12 hp => Qv_k (R := fun st => E γ k_Works_world 3 65 [some (vr (some (10, this))), some (vi v1), some (vi v2)] st M12 (Qi Q)) hp (fun h => ?_))
    refine E_blk (lv' := [some (vr (some (10, this))), some (vi v1), some (vi v2)]) (st' := [vi v2]) (M1 := M12) (pc' := 66) (tb_Works hγ) [.iload_n 2] (by decide +kernel) rfl rfl trivial ?_
    exact E_iret rfl (by decide +kernel) h
set_option maxRecDepth 4096 in
theorem lk_Works_world_L15 {γ : Gm} (hγ : Gk γ) (this : Nat) (Q : Int32 → Mem → Prop) : ∀ (n : Nat) (v1 : Int32) (v2 : Int32) (M : Mem), w_Works_world_L15 this Q n v1 v2 M → E γ k_Works_world 3 15 [some (vr (some (10, this))), some (vi v1), some (vi v2)] [] M (Qi Q) := by
  intro n
  induction n with
  | zero => intro v1 v2 M h; exact h.elim
  | succ n ih =>
    intro v1 v2 M h
    unfold w_Works_world_L15 at h
    refine E_blk (lv' := [some (vr (some (10, this))), some (vi v1), some (vi v2)]) (st' := [vi (3 : Int32), vi v2]) (M1 := M) (pc' := 17) (tb_Works hγ) [.iload_n 2, .iconst 3] (by decide +kernel) rfl rfl trivial ?_
    refine E_icmp_ge (off := 18) (tgt := 35) (by decide +kernel) (by decide) (fun b4 => ?_) (fun b4 => ?_)
    · rw [if_pos b4] at h
      refine E_mask [true, true, true] rfl ?_
      exact lk_Works_world_j35 hγ this Q v1 v2 M h
    · rw [if_neg b4] at h
      obtain ⟨c13, h⟩ := h
      refine E_blk (lv' := [some (vr (some (10, this))), some (vi v1), some (vi v2)]) (st' := [vr (mR M 702 0 v2.toNatClampNeg)]) (M1 := M) (pc' := 26) (tb_Works hγ) [.aload_n 0, .getfield 85, .iload_n 2, .aaload] (by decide +kernel) rfl rfl ⟨c13, trivial⟩ ?_
      refine E_ifnull (off := 9) (tgt := 35) (by decide +kernel) (by decide) (fun b14 => ?_) (fun b14 => ?_)
      · rw [if_pos b14] at h
        refine E_mask [true, true, true] rfl ?_
        exact lk_Works_world_j35 hγ this Q v1 v2 M h
      · rw [if_neg b14] at h
        refine E_blk (lv' := [some (vr (some (10, this))), some (vi v1), some (vi (v2 + (1 : Int32)))]) (st' := []) (M1 := M) (pc' := 32) (tb_Works hγ) [.iinc 2 1] (by decide +kernel) rfl rfl trivial ?_
        refine E_goto (off := -17) (tgt := 15) (by decide +kernel) (by decide) ?_
        refine E_mask [true, true, true] rfl ?_
        exact ih v1 (v2 + (1 : Int32)) M h
set_option maxRecDepth 4096 in
theorem lk_Works_world {γ : Gm} (hγ : Gk γ) (this : Nat) (a1 : Int32) (Q : Int32 → Mem → Prop) (M : Mem) (h : w_Works_world this a1 Q M) : E γ k_Works_world 3 0 [some (vr (some (10, this))), some (vi a1), none] [] M (Qi Q) := by
  unfold w_Works_world at h
  refine E_blk (lv' := [some (vr (some (10, this))), some (vi a1), none]) (st' := [vi (255 : Int32), vi (0 : Int32), vi a1]) (M1 := M) (pc' := 5) (tb_Works hγ) [.iload_n 1, .iconst 0, .sipush 255] (by decide +kernel) rfl rfl trivial ?_
  refine E_callS (κ' := k_Works_isIn) (As := [vi a1, vi (0 : Int32), vi (255 : Int32)]) (st := []) ms_Works_isIn (Or.inl (tbk_mem (j := 5) (k := 237) rfl)) rfl (by decide +kernel) (Nat.le_of_ble_eq_true rfl) (Nat.le_of_ble_eq_true rfl) rfl (by decide) (lk_Works_isIn hγ a1 (0 : Int32) (255 : Int32) _ M h) (fun _ _ => Qi_r) (fun v M1 hp => Qi_k (R := fun st => E γ k_Works_world 3 8 [some (vr (some (10, this))), some (vi a1), none] st M1 (Qi Q)) hp (fun r2 h => ?_))
  refine E_if_ne (off := 5) (tgt := 13) (by decide +kernel) (by decide) (fun b3 => ?_) (fun b3 => ?_)
  · rw [if_pos b3] at h
    refine E_blk (lv' := [some (vr (some (10, this))), some (vi a1), none]) (st' := [vi (-1 : Int32)]) (M1 := M1) (pc' := 12) (tb_Works hγ) [.iconst (.negSucc 0)] (by decide +kernel) rfl rfl trivial ?_
    exact E_iret rfl (by decide +kernel) h
  · rw [if_neg b3] at h
    refine E_blk (lv' := [some (vr (some (10, this))), some (vi a1), some (vi (0 : Int32))]) (st' := []) (M1 := M1) (pc' := 15) (tb_Works hγ) [.iconst 0, .istore_n 2] (by decide +kernel) rfl rfl trivial ?_
    obtain ⟨n15, h⟩ := h
    refine E_mask [true, true, true] rfl ?_
    exact lk_Works_world_L15 hγ this Q n15 a1 (0 : Int32) M1 h
def w_Works_drop (this : Nat) (a1 : Int32) (Q : Int32 → Mem → Prop) (M : Mem) : Prop :=
  w_Works_isWorld this a1 (fun r2 M1 => if r2 = 0 then (Q (-1 : Int32) M1) else (vp_in a1 (mL M1 702 0) ∧ ∃ i5, (mR M1 702 0 a1.toNatClampNeg) = some (5, i5) ∧ vp_in a1 (mL M1 702 0) ∧ ∃ M7, M7 = sR M1 702 0 a1.toNatClampNeg none ∧ Q ((mI M1 5 i5 2) - (21 : Int32)) M7)) M
set_option maxRecDepth 4096 in
theorem lk_Works_drop {γ : Gm} (hγ : Gk γ) (this : Nat) (a1 : Int32) (Q : Int32 → Mem → Prop) (M : Mem) (h : w_Works_drop this a1 Q M) : E γ k_Works_drop 2 0 [some (vr (some (10, this))), some (vi a1), none] [] M (Qi Q) := by
  unfold w_Works_drop at h
  refine E_blk (lv' := [some (vr (some (10, this))), some (vi a1), none]) (st' := [vi a1, vr (some (10, this))]) (M1 := M) (pc' := 2) (tb_Works hγ) [.aload_n 0, .iload_n 1] (by decide +kernel) rfl rfl trivial ?_
  refine E_callV (κ' := k_Works_isWorld) (As := [vi a1]) (st := []) mv_Works_isWorld (Or.inl (tbk_mem (j := 6) (k := 32) rfl)) rfl (by decide +kernel) (Nat.le_of_ble_eq_true rfl) (Nat.le_of_ble_eq_true rfl) rfl (by decide) (lk_Works_isWorld hγ this a1 _ M h) (fun _ _ => Qi_r) (fun v M1 hp => Qi_k (R := fun st => E γ k_Works_drop 2 5 [some (vr (some (10, this))), some (vi a1), none] st M1 (Qi Q)) hp (fun r2 h => ?_))
  refine E_if_ne (off := 5) (tgt := 10) (by decide +kernel) (by decide) (fun b3 => ?_) (fun b3 => ?_)
  · rw [if_pos b3] at h
    refine E_blk (lv' := [some (vr (some (10, this))), some (vi a1), none]) (st' := [vi (-1 : Int32)]) (M1 := M1) (pc' := 9) (tb_Works hγ) [.iconst (.negSucc 0)] (by decide +kernel) rfl rfl trivial ?_
    exact E_iret rfl (by decide +kernel) h
  · rw [if_neg b3] at h
    obtain ⟨c4, h⟩ := h
    refine E_blk (lv' := [some (vr (some (10, this))), some (vi a1), none]) (st' := [vr (mR M1 702 0 a1.toNatClampNeg)]) (M1 := M1) (pc' := 16) (tb_Works hγ) [.aload_n 0, .getfield 85, .iload_n 1, .aaload] (by decide +kernel) rfl rfl ⟨c4, trivial⟩ ?_
    obtain ⟨i5, ei5, h⟩ := h
    rw [ei5]
    refine E_blk (lv' := [some (vr (some (10, this))), some (vi a1), some (vi ((mI M1 5 i5 2) - (21 : Int32)))]) (st' := [vr none, vi a1, vr (some (702, 0))]) (M1 := M1) (pc' := 29) (tb_Works hγ) [.getfield 242, .bipush 21, .isub, .istore_n 2, .aload_n 0, .getfield 85, .iload_n 1, .aconst_null] (by decide +kernel) rfl rfl trivial ?_
    obtain ⟨c6, M7, eM7, h⟩ := h
    refine E_astN (FIN_lt hγ.1) (by decide) c6 (by decide +kernel) rfl ?_
    rw [← eM7]
    refine E_blk (lv' := [some (vr (some (10, this))), some (vi a1), some (vi ((mI M1 5 i5 2) - (21 : Int32)))]) (st' := [vi ((mI M1 5 i5 2) - (21 : Int32))]) (M1 := M7) (pc' := 31) (tb_Works hγ) [.iload_n 2] (by decide +kernel) rfl rfl trivial ?_
    exact E_iret rfl (by decide +kernel) h
def w_Works_define_j45 (this : Nat) (Q : Int32 → Mem → Prop) (s0 : Nat) (M : Mem) : Prop :=
  Q ((-10 : Int32) - (mI (sI M 10 this 21 (mI M 9 s0 6)) 9 s0 5)) (sI M 10 this 21 (mI M 9 s0 6))
def w_Works_define (this : Nat) (a1 : Int32) (Q : Int32 → Mem → Prop) (M : Mem) : Prop :=
  w_Works_isWorld this a1 (fun r2 M1 => if r2 = 0 then (Q (-1 : Int32) M1) else (vp_in a1 (mL (sI (sI M1 10 this 1 (0 : Int32)) 10 this 21 (-2 : Int32)) 702 0) ∧ ∃ i5, (mR (sI (sI M1 10 this 1 (0 : Int32)) 10 this 21 (-2 : Int32)) 702 0 a1.toNatClampNeg) = some (5, i5) ∧ w_Reader_define 0 i5 0 (mI M1 10 this 1) (fun r7 M6 => Q r7 M6) (fun M8 => w_Works_define_j45 this Q 0 M8) (sI (sI M1 10 this 1 (0 : Int32)) 10 this 21 (-2 : Int32)))) M
set_option maxRecDepth 4096 in
theorem lk_Works_define_j45 {γ : Gm} (hγ : Gk γ) (this : Nat) (Q : Int32 → Mem → Prop) (s0 : Nat) (M : Mem) (h : w_Works_define_j45 this Q s0 M) : E γ k_Works_define 14 45 [some (vr (some (10, this))), none, none, none] [vr (some (9, s0))] M (Qi Q) := by
  unfold w_Works_define_j45 at h
  refine E_blk (lv' := [some (vr (some (10, this))), none, none, some (vr (some (9, s0)))]) (st' := [vi ((-10 : Int32) - (mI (sI M 10 this 21 (mI M 9 s0 6)) 9 s0 5))]) (M1 := (sI M 10 this 21 (mI M 9 s0 6))) (pc' := 61) (tb_Works hγ) [.astore_n 3, .aload_n 0, .aload_n 3, .getfield 135, .putfield 93, .bipush (.negSucc 9), .aload_n 3, .getfield 132, .isub] (by decide +kernel) rfl rfl trivial ?_
  exact E_iret rfl (by decide +kernel) h
set_option maxRecDepth 4096 in
theorem lk_Works_define {γ : Gm} (hγ : Gk γ) (this : Nat) (a1 : Int32) (Q : Int32 → Mem → Prop) (M : Mem) (h : w_Works_define this a1 Q M) : E γ k_Works_define 14 0 [some (vr (some (10, this))), some (vi a1), none, none] [] M (Qi Q) := by
  unfold w_Works_define at h
  refine E_blk (lv' := [some (vr (some (10, this))), some (vi a1), none, none]) (st' := [vi a1, vr (some (10, this))]) (M1 := M) (pc' := 2) (tb_Works hγ) [.aload_n 0, .iload_n 1] (by decide +kernel) rfl rfl trivial ?_
  refine E_callV (κ' := k_Works_isWorld) (As := [vi a1]) (st := []) mv_Works_isWorld (Or.inl (tbk_mem (j := 6) (k := 32) rfl)) rfl (by decide +kernel) (Nat.le_of_ble_eq_true rfl) (Nat.le_of_ble_eq_true rfl) rfl (by decide) (lk_Works_isWorld hγ this a1 _ M h) (fun _ _ => Qi_r) (fun v M1 hp => Qi_k (R := fun st => E γ k_Works_define 14 5 [some (vr (some (10, this))), some (vi a1), none, none] st M1 (Qi Q)) hp (fun r2 h => ?_))
  refine E_if_ne (off := 5) (tgt := 10) (by decide +kernel) (by decide) (fun b3 => ?_) (fun b3 => ?_)
  · rw [if_pos b3] at h
    refine E_blk (lv' := [some (vr (some (10, this))), some (vi a1), none, none]) (st' := [vi (-1 : Int32)]) (M1 := M1) (pc' := 9) (tb_Works hγ) [.iconst (.negSucc 0)] (by decide +kernel) rfl rfl trivial ?_
    exact E_iret rfl (by decide +kernel) h
  · rw [if_neg b3] at h
    obtain ⟨c4, h⟩ := h
    refine E_blk (lv' := [some (vr (some (10, this))), some (vi a1), some (vi (mI M1 10 this 1)), none]) (st' := [vr (mR (sI (sI M1 10 this 1 (0 : Int32)) 10 this 21 (-2 : Int32)) 702 0 a1.toNatClampNeg), vr (some (3, 0))]) (M1 := (sI (sI M1 10 this 1 (0 : Int32)) 10 this 21 (-2 : Int32))) (pc' := 36) (tb_Works hγ) [.aload_n 0, .getfield 121, .istore_n 2, .aload_n 0, .iconst 0, .putfield 121, .aload_n 0, .bipush (.negSucc 1), .putfield 93, .aload_n 0, .getfield 40, .aload_n 0, .getfield 85, .iload_n 1, .aaload] (by decide +kernel) rfl rfl ⟨c4, trivial⟩ ?_
    obtain ⟨i5, ei5, h⟩ := h
    rw [ei5]
    refine E_blk (lv' := [some (vr (some (10, this))), some (vi a1), some (vi (mI M1 10 this 1)), none]) (st' := [vi (mI M1 10 this 1), vr (some (400, 0)), vr (some (5, i5)), vr (some (3, 0))]) (M1 := (sI (sI M1 10 this 1 (0 : Int32)) 10 this 21 (-2 : Int32))) (pc' := 41) (tb_Works hγ) [.aload_n 0, .getfield 9, .iload_n 2] (by decide +kernel) rfl rfl trivial ?_
    refine E_callC (q := (9, 0)) (hp := 45) (ct := 28) (κ' := k_Reader_define) (As := [vr (some (5, i5)), vr (some (400, 0)), vi (mI M1 10 this 1)]) (st := []) mv_Reader_define (Or.inl (tbk_mem (j := 6) (k := 40) rfl)) rfl (by decide +kernel) (Nat.le_of_ble_eq_true rfl) (Nat.le_of_ble_eq_true rfl) rfl (by decide) rfl (Or.inr ⟨by decide, (show (9 : Nat) < 20 by decide), _, rfl, (tbk_mem (j := 1) (k := 175) rfl)⟩) (lk_Reader_define hγ 0 i5 0 (mI M1 10 this 1) _ _ (sI (sI M1 10 this 1 (0 : Int32)) 10 this 21 (-2 : Int32)) h) (fun _ _ => Qi_r) (fun M8 h => ?_) (fun v M6 hp => Qi_k (R := fun st => E γ k_Works_define 14 44 [some (vr (some (10, this))), some (vi a1), some (vi (mI M1 10 this 1)), none] st M6 (Qi Q)) hp (fun r7 h => ?_))
    · refine E_mask [true, false, false, false] rfl ?_
      exact lk_Works_define_j45 hγ this Q 0 M8 h
    · exact E_iret rfl (by decide +kernel) h
def w_Works_place (this : Nat) (Q : Int32 → Mem → Prop) (M : Mem) : Prop :=
  Q (mI M 10 this 21) M
set_option maxRecDepth 4096 in
theorem lk_Works_place {γ : Gm} (hγ : Gk γ) (this : Nat) (Q : Int32 → Mem → Prop) (M : Mem) (h : w_Works_place this Q M) : E γ k_Works_place 0 0 [some (vr (some (10, this)))] [] M (Qi Q) := by
  unfold w_Works_place at h
  refine E_blk (lv' := [some (vr (some (10, this)))]) (st' := [vi (mI M 10 this 21)]) (M1 := M) (pc' := 4) (tb_Works hγ) [.aload_n 0, .getfield 93] (by decide +kernel) rfl rfl trivial ?_
  exact E_iret rfl (by decide +kernel) h
def w_Works_classes (this : Nat) (a1 : Int32) (Q : Int32 → Mem → Prop) (M : Mem) : Prop :=
  w_Works_isWorld this a1 (fun r2 M1 => if r2 = 0 then (Q (-1 : Int32) M1) else (vp_in a1 (mL M1 702 0) ∧ ∃ i5, (mR M1 702 0 a1.toNatClampNeg) = some (5, i5) ∧ Q ((mI M1 5 i5 2) - (21 : Int32)) M1)) M
set_option maxRecDepth 4096 in
theorem lk_Works_classes {γ : Gm} (hγ : Gk γ) (this : Nat) (a1 : Int32) (Q : Int32 → Mem → Prop) (M : Mem) (h : w_Works_classes this a1 Q M) : E γ k_Works_classes 2 0 [some (vr (some (10, this))), some (vi a1)] [] M (Qi Q) := by
  unfold w_Works_classes at h
  refine E_blk (lv' := [some (vr (some (10, this))), some (vi a1)]) (st' := [vi a1, vr (some (10, this))]) (M1 := M) (pc' := 2) (tb_Works hγ) [.aload_n 0, .iload_n 1] (by decide +kernel) rfl rfl trivial ?_
  refine E_callV (κ' := k_Works_isWorld) (As := [vi a1]) (st := []) mv_Works_isWorld (Or.inl (tbk_mem (j := 6) (k := 32) rfl)) rfl (by decide +kernel) (Nat.le_of_ble_eq_true rfl) (Nat.le_of_ble_eq_true rfl) rfl (by decide) (lk_Works_isWorld hγ this a1 _ M h) (fun _ _ => Qi_r) (fun v M1 hp => Qi_k (R := fun st => E γ k_Works_classes 2 5 [some (vr (some (10, this))), some (vi a1)] st M1 (Qi Q)) hp (fun r2 h => ?_))
  refine E_if_eq (off := 18) (tgt := 23) (by decide +kernel) (by decide) (fun b3 => ?_) (fun b3 => ?_)
  · rw [if_pos b3] at h
    refine E_blk (lv' := [some (vr (some (10, this))), some (vi a1)]) (st' := [vi (-1 : Int32)]) (M1 := M1) (pc' := 24) (tb_Works hγ) [.iconst (.negSucc 0)] (by decide +kernel) rfl rfl trivial ?_
    exact E_iret rfl (by decide +kernel) h
  · rw [if_neg b3] at h
    obtain ⟨c4, h⟩ := h
    refine E_blk (lv' := [some (vr (some (10, this))), some (vi a1)]) (st' := [vr (mR M1 702 0 a1.toNatClampNeg)]) (M1 := M1) (pc' := 14) (tb_Works hγ) [.aload_n 0, .getfield 85, .iload_n 1, .aaload] (by decide +kernel) rfl rfl ⟨c4, trivial⟩ ?_
    obtain ⟨i5, ei5, h⟩ := h
    rw [ei5]
    refine E_blk (lv' := [some (vr (some (10, this))), some (vi a1)]) (st' := [vi ((mI M1 5 i5 2) - (21 : Int32))]) (M1 := M1) (pc' := 20) (tb_Works hγ) [.getfield 242, .bipush 21, .isub] (by decide +kernel) rfl rfl trivial ?_
    refine E_goto (off := 4) (tgt := 24) (by decide +kernel) (by decide) ?_
    exact E_iret rfl (by decide +kernel) h
def w_Works_told (this : Nat) (a1 : Int32) (a2 : Int32) (a3 : Int32) (Q : Int32 → Mem → Prop) (M : Mem) : Prop :=
  w_Works_isClass this a1 a2 (fun r2 M1 => if r2 = 0 then (Q (-1 : Int32) M1) else (vp_in a1 (mL M1 702 0) ∧ ∃ i5, (mR M1 702 0 a1.toNatClampNeg) = some (5, i5) ∧ if a3 = (0 : Int32) then (if a2 = 0 then (Q (-2 : Int32) M1) else (vp_in a2 (mL M1 37 i5) ∧ w_World_find i5 (mI M1 37 i5 a2.toNatClampNeg) (fun r22 M21 => Q r22 M21) M1)) else (if a3 = (1 : Int32) then (vp_in a2 (mL M1 39 i5) ∧ Q (mI M1 39 i5 a2.toNatClampNeg) M1) else (if a3 = (2 : Int32) then (vp_in a2 (mL M1 42 i5) ∧ Q (mI M1 42 i5 a2.toNatClampNeg) M1) else (if a3 = (3 : Int32) then (vp_in a2 (mL M1 44 i5) ∧ Q (mI M1 44 i5 a2.toNatClampNeg) M1) else (if a3 = (4 : Int32) then (vp_in a2 (mL M1 40 i5) ∧ Q (mI M1 40 i5 a2.toNatClampNeg) M1) else (if a3 = (5 : Int32) then (vp_in a2 (mL M1 46 i5) ∧ Q (mI M1 46 i5 a2.toNatClampNeg) M1) else (if a3 = (6 : Int32) then (vp_in a2 (mL M1 45 i5) ∧ Q (mI M1 45 i5 a2.toNatClampNeg) M1) else (Q (-1 : Int32) M1))))))))) M
set_option maxRecDepth 4096 in
theorem lk_Works_told {γ : Gm} (hγ : Gk γ) (this : Nat) (a1 : Int32) (a2 : Int32) (a3 : Int32) (Q : Int32 → Mem → Prop) (M : Mem) (h : w_Works_told this a1 a2 a3 Q M) : E γ k_Works_told 3 0 [some (vr (some (10, this))), some (vi a1), some (vi a2), some (vi a3), none] [] M (Qi Q) := by
  unfold w_Works_told at h
  refine E_blk (lv' := [some (vr (some (10, this))), some (vi a1), some (vi a2), some (vi a3), none]) (st' := [vi a2, vi a1, vr (some (10, this))]) (M1 := M) (pc' := 3) (tb_Works hγ) [.aload_n 0, .iload_n 1, .iload_n 2] (by decide +kernel) rfl rfl trivial ?_
  refine E_callV (κ' := k_Works_isClass) (As := [vi a1, vi a2]) (st := []) mv_Works_isClass (Or.inl (tbk_mem (j := 7) (k := 49) rfl)) rfl (by decide +kernel) (Nat.le_of_ble_eq_true rfl) (Nat.le_of_ble_eq_true rfl) rfl (by decide) (lk_Works_isClass hγ this a1 a2 _ M h) (fun _ _ => Qi_r) (fun v M1 hp => Qi_k (R := fun st => E γ k_Works_told 3 6 [some (vr (some (10, this))), some (vi a1), some (vi a2), some (vi a3), none] st M1 (Qi Q)) hp (fun r2 h => ?_))
  refine E_if_ne (off := 5) (tgt := 11) (by decide +kernel) (by decide) (fun b3 => ?_) (fun b3 => ?_)
  · rw [if_pos b3] at h
    refine E_blk (lv' := [some (vr (some (10, this))), some (vi a1), some (vi a2), some (vi a3), none]) (st' := [vi (-1 : Int32)]) (M1 := M1) (pc' := 10) (tb_Works hγ) [.iconst (.negSucc 0)] (by decide +kernel) rfl rfl trivial ?_
    exact E_iret rfl (by decide +kernel) h
  · rw [if_neg b3] at h
    obtain ⟨c4, h⟩ := h
    refine E_blk (lv' := [some (vr (some (10, this))), some (vi a1), some (vi a2), some (vi a3), none]) (st' := [vr (mR M1 702 0 a1.toNatClampNeg)]) (M1 := M1) (pc' := 17) (tb_Works hγ) [.aload_n 0, .getfield 85, .iload_n 1, .aaload] (by decide +kernel) rfl rfl ⟨c4, trivial⟩ ?_
    obtain ⟨i5, ei5, h⟩ := h
    rw [ei5]
    refine E_blk (lv' := [some (vr (some (10, this))), some (vi a1), some (vi a2), some (vi a3), some (vr (some (5, i5)))]) (st' := [vi a3]) (M1 := M1) (pc' := 20) (tb_Works hγ) [.astore 4, .iload_n 3] (by decide +kernel) rfl rfl trivial ?_
    by_cases b6 : a3 = (0 : Int32)
    · rw [if_pos b6] at h
      refine E.up (fun _ _ hJ => J_tswI (len := 44) (dflt := 114) (lo := 0) (hi := 6) (offs := #[44, 66, 74, 82, 90, 98, 106]) (off := 44) (tgt := 64) (by decide +kernel) (by rw [b6]; decide) (by rw [b6]; decide) (by rw [b6]; rfl) (by decide) hJ) ?_
      refine E_blk (lv' := [some (vr (some (10, this))), some (vi a1), some (vi a2), some (vi a3), some (vr (some (5, i5)))]) (st' := [vi a2]) (M1 := M1) (pc' := 65) (tb_Works hγ) [.iload_n 2] (by decide +kernel) rfl rfl trivial ?_
      refine E_if_ne (off := 8) (tgt := 73) (by decide +kernel) (by decide) (fun b19 => ?_) (fun b19 => ?_)
      · rw [if_pos b19] at h
        refine E_blk (lv' := [some (vr (some (10, this))), some (vi a1), some (vi a2), some (vi a3), some (vr (some (5, i5)))]) (st' := [vi (-2 : Int32)]) (M1 := M1) (pc' := 70) (tb_Works hγ) [.bipush (.negSucc 1)] (by decide +kernel) rfl rfl trivial ?_
        refine E_goto (off := 15) (tgt := 85) (by decide +kernel) (by decide) ?_
        exact E_iret rfl (by decide +kernel) h
      · rw [if_neg b19] at h
        obtain ⟨c20, h⟩ := h
        refine E_blk (lv' := [some (vr (some (10, this))), some (vi a1), some (vi a2), some (vi a3), some (vr (some (5, i5)))]) (st' := [vi (mI M1 37 i5 a2.toNatClampNeg), vr (some (5, i5))]) (M1 := M1) (pc' := 82) (tb_Works hγ) [.aload 4, .aload 4, .getfield 249, .iload_n 2, .iaload] (by decide +kernel) rfl rfl ⟨c20, trivial⟩ ?_
        refine E_callV (κ' := k_World_find) (As := [vi (mI M1 37 i5 a2.toNatClampNeg)]) (st := []) mv_World_find (Or.inl (tbk_mem (j := 7) (k := 53) rfl)) rfl (by decide +kernel) (Nat.le_of_ble_eq_true rfl) (Nat.le_of_ble_eq_true rfl) rfl (by decide) (lk_World_find hγ i5 (mI M1 37 i5 a2.toNatClampNeg) _ M1 h) (fun _ _ => Qi_r) (fun v M21 hp => Qi_k (R := fun st => E γ k_Works_told 3 85 [some (vr (some (10, this))), some (vi a1), some (vi a2), some (vi a3), some (vr (some (5, i5)))] st M21 (Qi Q)) hp (fun r22 h => ?_))
        exact E_iret rfl (by decide +kernel) h
    · rw [if_neg b6] at h
      by_cases b7 : a3 = (1 : Int32)
      · rw [if_pos b7] at h
        refine E.up (fun _ _ hJ => J_tswI (len := 44) (dflt := 114) (lo := 0) (hi := 6) (offs := #[44, 66, 74, 82, 90, 98, 106]) (off := 66) (tgt := 86) (by decide +kernel) (by rw [b7]; decide) (by rw [b7]; decide) (by rw [b7]; rfl) (by decide) hJ) ?_
        obtain ⟨c18, h⟩ := h
        refine E_blk (lv' := [some (vr (some (10, this))), some (vi a1), some (vi a2), some (vi a3), some (vr (some (5, i5)))]) (st' := [vi (mI M1 39 i5 a2.toNatClampNeg)]) (M1 := M1) (pc' := 93) (tb_Works hγ) [.aload 4, .getfield 255, .iload_n 2, .iaload] (by decide +kernel) rfl rfl ⟨c18, trivial⟩ ?_
        exact E_iret rfl (by decide +kernel) h
      · rw [if_neg b7] at h
        by_cases b8 : a3 = (2 : Int32)
        · rw [if_pos b8] at h
          refine E.up (fun _ _ hJ => J_tswI (len := 44) (dflt := 114) (lo := 0) (hi := 6) (offs := #[44, 66, 74, 82, 90, 98, 106]) (off := 74) (tgt := 94) (by decide +kernel) (by rw [b8]; decide) (by rw [b8]; decide) (by rw [b8]; rfl) (by decide) hJ) ?_
          obtain ⟨c17, h⟩ := h
          refine E_blk (lv' := [some (vr (some (10, this))), some (vi a1), some (vi a2), some (vi a3), some (vr (some (5, i5)))]) (st' := [vi (mI M1 42 i5 a2.toNatClampNeg)]) (M1 := M1) (pc' := 101) (tb_Works hγ) [.aload 4, .getfield 258, .iload_n 2, .iaload] (by decide +kernel) rfl rfl ⟨c17, trivial⟩ ?_
          exact E_iret rfl (by decide +kernel) h
        · rw [if_neg b8] at h
          by_cases b9 : a3 = (3 : Int32)
          · rw [if_pos b9] at h
            refine E.up (fun _ _ hJ => J_tswI (len := 44) (dflt := 114) (lo := 0) (hi := 6) (offs := #[44, 66, 74, 82, 90, 98, 106]) (off := 82) (tgt := 102) (by decide +kernel) (by rw [b9]; decide) (by rw [b9]; decide) (by rw [b9]; rfl) (by decide) hJ) ?_
            obtain ⟨c16, h⟩ := h
            refine E_blk (lv' := [some (vr (some (10, this))), some (vi a1), some (vi a2), some (vi a3), some (vr (some (5, i5)))]) (st' := [vi (mI M1 44 i5 a2.toNatClampNeg)]) (M1 := M1) (pc' := 109) (tb_Works hγ) [.aload 4, .getfield 261, .iload_n 2, .iaload] (by decide +kernel) rfl rfl ⟨c16, trivial⟩ ?_
            exact E_iret rfl (by decide +kernel) h
          · rw [if_neg b9] at h
            by_cases b10 : a3 = (4 : Int32)
            · rw [if_pos b10] at h
              refine E.up (fun _ _ hJ => J_tswI (len := 44) (dflt := 114) (lo := 0) (hi := 6) (offs := #[44, 66, 74, 82, 90, 98, 106]) (off := 90) (tgt := 110) (by decide +kernel) (by rw [b10]; decide) (by rw [b10]; decide) (by rw [b10]; rfl) (by decide) hJ) ?_
              obtain ⟨c15, h⟩ := h
              refine E_blk (lv' := [some (vr (some (10, this))), some (vi a1), some (vi a2), some (vi a3), some (vr (some (5, i5)))]) (st' := [vi (mI M1 40 i5 a2.toNatClampNeg)]) (M1 := M1) (pc' := 117) (tb_Works hγ) [.aload 4, .getfield 264, .iload_n 2, .iaload] (by decide +kernel) rfl rfl ⟨c15, trivial⟩ ?_
              exact E_iret rfl (by decide +kernel) h
            · rw [if_neg b10] at h
              by_cases b11 : a3 = (5 : Int32)
              · rw [if_pos b11] at h
                refine E.up (fun _ _ hJ => J_tswI (len := 44) (dflt := 114) (lo := 0) (hi := 6) (offs := #[44, 66, 74, 82, 90, 98, 106]) (off := 98) (tgt := 118) (by decide +kernel) (by rw [b11]; decide) (by rw [b11]; decide) (by rw [b11]; rfl) (by decide) hJ) ?_
                obtain ⟨c14, h⟩ := h
                refine E_blk (lv' := [some (vr (some (10, this))), some (vi a1), some (vi a2), some (vi a3), some (vr (some (5, i5)))]) (st' := [vi (mI M1 46 i5 a2.toNatClampNeg)]) (M1 := M1) (pc' := 125) (tb_Works hγ) [.aload 4, .getfield 267, .iload_n 2, .iaload] (by decide +kernel) rfl rfl ⟨c14, trivial⟩ ?_
                exact E_iret rfl (by decide +kernel) h
              · rw [if_neg b11] at h
                by_cases b12 : a3 = (6 : Int32)
                · rw [if_pos b12] at h
                  refine E.up (fun _ _ hJ => J_tswI (len := 44) (dflt := 114) (lo := 0) (hi := 6) (offs := #[44, 66, 74, 82, 90, 98, 106]) (off := 106) (tgt := 126) (by decide +kernel) (by rw [b12]; decide) (by rw [b12]; decide) (by rw [b12]; rfl) (by decide) hJ) ?_
                  obtain ⟨c13, h⟩ := h
                  refine E_blk (lv' := [some (vr (some (10, this))), some (vi a1), some (vi a2), some (vi a3), some (vr (some (5, i5)))]) (st' := [vi (mI M1 45 i5 a2.toNatClampNeg)]) (M1 := M1) (pc' := 133) (tb_Works hγ) [.aload 4, .getfield 269, .iload_n 2, .iaload] (by decide +kernel) rfl rfl ⟨c13, trivial⟩ ?_
                  exact E_iret rfl (by decide +kernel) h
                · rw [if_neg b12] at h
                  refine E.up (fun _ _ hJ => J_tswO (len := 44) (dflt := 114) (lo := 0) (hi := 6) (offs := #[44, 66, 74, 82, 90, 98, 106]) (tgt := 134) (by decide +kernel) ?_ (by decide) hJ) ?_
                  · have q := sw0 (x := a3) 0
                    replace q : (a3).toInt < 0 ∨ 1 ≤ (a3).toInt := sw1 q b6 rfl rfl
                    replace q : (a3).toInt < 0 ∨ 2 ≤ (a3).toInt := sw1 q b7 rfl rfl
                    replace q : (a3).toInt < 0 ∨ 3 ≤ (a3).toInt := sw1 q b8 rfl rfl
                    replace q : (a3).toInt < 0 ∨ 4 ≤ (a3).toInt := sw1 q b9 rfl rfl
                    replace q : (a3).toInt < 0 ∨ 5 ≤ (a3).toInt := sw1 q b10 rfl rfl
                    replace q : (a3).toInt < 0 ∨ 6 ≤ (a3).toInt := sw1 q b11 rfl rfl
                    replace q : (a3).toInt < 0 ∨ 7 ≤ (a3).toInt := sw1 q b12 rfl rfl
                    omega
                  · refine E_blk (lv' := [some (vr (some (10, this))), some (vi a1), some (vi a2), some (vi a3), some (vr (some (5, i5)))]) (st' := [vi (-1 : Int32)]) (M1 := M1) (pc' := 135) (tb_Works hγ) [.iconst (.negSucc 0)] (by decide +kernel) rfl rfl trivial ?_
                    exact E_iret rfl (by decide +kernel) h
def w_Works_isField (this : Nat) (a1 : Nat) (a2 : Int32) (a3 : Int32) (Q : Int32 → Mem → Prop) (M : Mem) : Prop :=
  vp_in a2 (mL M 42 a1) ∧ w_Works_isIn a3 (0 : Int32) ((mI M 42 a1 a2.toNatClampNeg) - (1 : Int32)) (fun r3 M2 => (r3 = 0 ∨ r3 = 1) ∧ Q r3 M2) M
set_option maxRecDepth 4096 in
theorem lk_Works_isField {γ : Gm} (hγ : Gk γ) (this : Nat) (a1 : Nat) (a2 : Int32) (a3 : Int32) (Q : Int32 → Mem → Prop) (M : Mem) (h : w_Works_isField this a1 a2 a3 Q M) : E γ k_Works_isField 1 0 [some (vr (some (10, this))), some (vr (some (5, a1))), some (vi a2), some (vi a3)] [] M (Qi Q) := by
  unfold w_Works_isField at h
  obtain ⟨c1, h⟩ := h
  refine E_blk (lv' := [some (vr (some (10, this))), some (vr (some (5, a1))), some (vi a2), some (vi a3)]) (st' := [vi ((mI M 42 a1 a2.toNatClampNeg) - (1 : Int32)), vi (0 : Int32), vi a3]) (M1 := M) (pc' := 10) (tb_Works hγ) [.iload_n 3, .iconst 0, .aload_n 1, .getfield 258, .iload_n 2, .iaload, .iconst 1, .isub] (by decide +kernel) rfl rfl ⟨c1, trivial⟩ ?_
  refine E_callS (κ' := k_Works_isIn) (As := [vi a3, vi (0 : Int32), vi ((mI M 42 a1 a2.toNatClampNeg) - (1 : Int32))]) (st := []) ms_Works_isIn (Or.inl (tbk_mem (j := 5) (k := 237) rfl)) rfl (by decide +kernel) (Nat.le_of_ble_eq_true rfl) (Nat.le_of_ble_eq_true rfl) rfl (by decide) (lk_Works_isIn hγ a3 (0 : Int32) ((mI M 42 a1 a2.toNatClampNeg) - (1 : Int32)) _ M h) (fun _ _ => Qi_r) (fun v M2 hp => Qi_k (R := fun st => E γ k_Works_isField 1 13 [some (vr (some (10, this))), some (vr (some (5, a1))), some (vi a2), some (vi a3)] st M2 (Qi Q)) hp (fun r3 h => ?_))
  exact E_zret rfl h.1 (by decide +kernel) h.2
def w_Works_isMethod (this : Nat) (a1 : Nat) (a2 : Int32) (a3 : Int32) (Q : Int32 → Mem → Prop) (M : Mem) : Prop :=
  vp_in a2 (mL M 44 a1) ∧ w_Works_isIn a3 (0 : Int32) ((mI M 44 a1 a2.toNatClampNeg) - (1 : Int32)) (fun r3 M2 => (r3 = 0 ∨ r3 = 1) ∧ Q r3 M2) M
set_option maxRecDepth 4096 in
theorem lk_Works_isMethod {γ : Gm} (hγ : Gk γ) (this : Nat) (a1 : Nat) (a2 : Int32) (a3 : Int32) (Q : Int32 → Mem → Prop) (M : Mem) (h : w_Works_isMethod this a1 a2 a3 Q M) : E γ k_Works_isMethod 1 0 [some (vr (some (10, this))), some (vr (some (5, a1))), some (vi a2), some (vi a3)] [] M (Qi Q) := by
  unfold w_Works_isMethod at h
  obtain ⟨c1, h⟩ := h
  refine E_blk (lv' := [some (vr (some (10, this))), some (vr (some (5, a1))), some (vi a2), some (vi a3)]) (st' := [vi ((mI M 44 a1 a2.toNatClampNeg) - (1 : Int32)), vi (0 : Int32), vi a3]) (M1 := M) (pc' := 10) (tb_Works hγ) [.iload_n 3, .iconst 0, .aload_n 1, .getfield 261, .iload_n 2, .iaload, .iconst 1, .isub] (by decide +kernel) rfl rfl ⟨c1, trivial⟩ ?_
  refine E_callS (κ' := k_Works_isIn) (As := [vi a3, vi (0 : Int32), vi ((mI M 44 a1 a2.toNatClampNeg) - (1 : Int32))]) (st := []) ms_Works_isIn (Or.inl (tbk_mem (j := 5) (k := 237) rfl)) rfl (by decide +kernel) (Nat.le_of_ble_eq_true rfl) (Nat.le_of_ble_eq_true rfl) rfl (by decide) (lk_Works_isIn hγ a3 (0 : Int32) ((mI M 44 a1 a2.toNatClampNeg) - (1 : Int32)) _ M h) (fun _ _ => Qi_r) (fun v M2 hp => Qi_k (R := fun st => E γ k_Works_isMethod 1 13 [some (vr (some (10, this))), some (vr (some (5, a1))), some (vi a2), some (vi a3)] st M2 (Qi Q)) hp (fun r3 h => ?_))
  exact E_zret rfl h.1 (by decide +kernel) h.2
def w_Works_name_j128 (this : Nat) (Q : Int32 → Mem → Prop) (v5 : Int32) (v7 : Int32) (M : Mem) : Prop :=
  w_Names_at 0 v7 v5 (fun r15 M14 => if r15 = 0 then (Q (-1 : Int32) M14) else (Q r15 M14)) M
def w_Works_name_j126 (this : Nat) (Q : Int32 → Mem → Prop) (v5 : Int32) (s0 : Int32) (M : Mem) : Prop :=
  w_Works_name_j128 this Q v5 s0 M
def w_Works_name_j87 (this : Nat) (Q : Int32 → Mem → Prop) (v2 : Int32) (v3 : Int32) (v4 : Int32) (v5 : Int32) (v6 : Nat) (M : Mem) : Prop :=
  if v3 = 0 then (vp_in v2 (mL M 41 v6) ∧ vp_in ((mI M 41 v6 v2.toNatClampNeg) + v4) (mL M 49 v6) ∧ w_Works_name_j126 this Q v5 (mI M 49 v6 ((mI M 41 v6 v2.toNatClampNeg) + v4).toNatClampNeg) M) else (vp_in v2 (mL M 43 v6) ∧ vp_in ((mI M 43 v6 v2.toNatClampNeg) + v4) (mL M 56 v6) ∧ w_Works_name_j126 this Q v5 (mI M 56 v6 ((mI M 43 v6 v2.toNatClampNeg) + v4).toNatClampNeg) M)
def w_Works_name (this : Nat) (a1 : Int32) (a2 : Int32) (a3 : Int32) (a4 : Int32) (a5 : Int32) (Q : Int32 → Mem → Prop) (M : Mem) : Prop :=
  w_Works_isClass this a1 a2 (fun r2 M1 => if r2 = 0 then (Q (-1 : Int32) M1) else (w_Works_isIn a3 (0 : Int32) (1 : Int32) (fun r5 M4 => if r5 = 0 then (Q (-1 : Int32) M4) else (w_Works_isIn a5 (0 : Int32) (11 : Int32) (fun r8 M7 => if r8 = 0 then (Q (-1 : Int32) M7) else (vp_in a1 (mL M7 702 0) ∧ ∃ i11, (mR M7 702 0 a1.toNatClampNeg) = some (5, i11) ∧ vp_in a2 (mL M7 36 i11) ∧ if a4 = (-1 : Int32) then (w_Works_name_j128 this Q a5 (mI M7 36 i11 a2.toNatClampNeg) M7) else (if a3 = 0 then (w_Works_isField this i11 a2 a4 (fun r19 M18 => if r19 = 0 then (Q (-1 : Int32) M18) else (w_Works_name_j87 this Q a2 a3 a4 a5 i11 M18)) M7) else (w_Works_isMethod this i11 a2 a4 (fun r27 M26 => if r27 = 0 then (Q (-1 : Int32) M26) else (w_Works_name_j87 this Q a2 a3 a4 a5 i11 M26)) M7)))) M4)) M1)) M
set_option maxRecDepth 4096 in
theorem lk_Works_name_j128 {γ : Gm} (hγ : Gk γ) (this : Nat) (Q : Int32 → Mem → Prop) (v5 : Int32) (v7 : Int32) (M : Mem) (h : w_Works_name_j128 this Q v5 v7 M) : E γ k_Works_name 3 128 [some (vr (some (10, this))), none, none, none, none, some (vi v5), none, some (vi v7), none] [] M (Qi Q) := by
  unfold w_Works_name_j128 at h
  refine E_blk (lv' := [some (vr (some (10, this))), none, none, none, none, some (vi v5), none, some (vi v7), none]) (st' := [vi v5, vi v7, vr (some (1, 0))]) (M1 := M) (pc' := 136) (tb_Works hγ) [.aload_n 0, .getfield 16, .iload 7, .iload 5] (by decide +kernel) rfl rfl trivial ?_
  refine E_callV (κ' := k_Names_at) (As := [vi v7, vi v5]) (st := []) mv_Names_at (Or.inl (tbk_mem (j := 7) (k := 66) rfl)) rfl (by decide +kernel) (Nat.le_of_ble_eq_true rfl) (Nat.le_of_ble_eq_true rfl) rfl (by decide) (lk_Names_at hγ 0 v7 v5 _ M h) (fun _ _ => Qi_r) (fun v M14 hp => Qi_k (R := fun st => E γ k_Works_name 3 139 [some (vr (some (10, this))), none, none, none, none, some (vi v5), none, some (vi v7), none] st M14 (Qi Q)) hp (fun r15 h => ?_))
  refine E_blk (lv' := [some (vr (some (10, this))), none, none, none, none, some (vi v5), none, some (vi v7), some (vi r15)]) (st' := [vi r15]) (M1 := M14) (pc' := 143) (tb_Works hγ) [.istore 8, .iload 8] (by decide +kernel) rfl rfl trivial ?_
  refine E_if_ne (off := 7) (tgt := 150) (by decide +kernel) (by decide) (fun b16 => ?_) (fun b16 => ?_)
  · rw [if_pos b16] at h
    refine E_blk (lv' := [some (vr (some (10, this))), none, none, none, none, some (vi v5), none, some (vi v7), some (vi r15)]) (st' := [vi (-1 : Int32)]) (M1 := M14) (pc' := 147) (tb_Works hγ) [.iconst (.negSucc 0)] (by decide +kernel) rfl rfl trivial ?_
    refine E_goto (off := 5) (tgt := 152) (by decide +kernel) (by decide) ?_
    exact E_iret rfl (by decide +kernel) h
  · rw [if_neg b16] at h
    refine E_blk (lv' := [some (vr (some (10, this))), none, none, none, none, some (vi v5), none, some (vi v7), some (vi r15)]) (st' := [vi r15]) (M1 := M14) (pc' := 152) (tb_Works hγ) [.iload 8] (by decide +kernel) rfl rfl trivial ?_
    exact E_iret rfl (by decide +kernel) h
set_option maxRecDepth 4096 in
theorem lk_Works_name_j126 {γ : Gm} (hγ : Gk γ) (this : Nat) (Q : Int32 → Mem → Prop) (v5 : Int32) (s0 : Int32) (M : Mem) (h : w_Works_name_j126 this Q v5 s0 M) : E γ k_Works_name 3 126 [some (vr (some (10, this))), none, none, none, none, some (vi v5), none, none, none] [vi s0] M (Qi Q) := by
  unfold w_Works_name_j126 at h
  refine E_blk (lv' := [some (vr (some (10, this))), none, none, none, none, some (vi v5), none, some (vi s0), none]) (st' := []) (M1 := M) (pc' := 128) (tb_Works hγ) [.istore 7] (by decide +kernel) rfl rfl trivial ?_
  refine E_mask [true, false, false, false, false, true, false, true, false] rfl ?_
  exact lk_Works_name_j128 hγ this Q v5 s0 M h
set_option maxRecDepth 4096 in
theorem lk_Works_name_j87 {γ : Gm} (hγ : Gk γ) (this : Nat) (Q : Int32 → Mem → Prop) (v2 : Int32) (v3 : Int32) (v4 : Int32) (v5 : Int32) (v6 : Nat) (M : Mem) (h : w_Works_name_j87 this Q v2 v3 v4 v5 v6 M) : E γ k_Works_name 3 87 [some (vr (some (10, this))), none, some (vi v2), some (vi v3), some (vi v4), some (vi v5), some (vr (some (5, v6))), none, none] [] M (Qi Q) := by
  unfold w_Works_name_j87 at h
  refine E_blk (lv' := [some (vr (some (10, this))), none, some (vi v2), some (vi v3), some (vi v4), some (vi v5), some (vr (some (5, v6))), none, none]) (st' := [vi v3]) (M1 := M) (pc' := 88) (tb_Works hγ) [.iload_n 3] (by decide +kernel) rfl rfl trivial ?_
  refine E_if_ne (off := 22) (tgt := 110) (by decide +kernel) (by decide) (fun b21 => ?_) (fun b21 => ?_)
  · rw [if_pos b21] at h
    obtain ⟨c22, c23, h⟩ := h
    refine E_blk (lv' := [some (vr (some (10, this))), none, some (vi v2), some (vi v3), some (vi v4), some (vi v5), some (vr (some (5, v6))), none, none]) (st' := [vi (mI M 49 v6 ((mI M 41 v6 v2.toNatClampNeg) + v4).toNatClampNeg)]) (M1 := M) (pc' := 107) (tb_Works hγ) [.aload 6, .getfield 282, .aload 6, .getfield 285, .iload_n 2, .iaload, .iload 4, .iadd, .iaload] (by decide +kernel) rfl rfl ⟨c22, c23, trivial⟩ ?_
    refine E_goto (off := 19) (tgt := 126) (by decide +kernel) (by decide) ?_
    refine E_mask [true, false, false, false, false, true, false, false, false] rfl ?_
    exact lk_Works_name_j126 hγ this Q v5 (mI M 49 v6 ((mI M 41 v6 v2.toNatClampNeg) + v4).toNatClampNeg) M h
  · rw [if_neg b21] at h
    obtain ⟨c24, c25, h⟩ := h
    refine E_blk (lv' := [some (vr (some (10, this))), none, some (vi v2), some (vi v3), some (vi v4), some (vi v5), some (vr (some (5, v6))), none, none]) (st' := [vi (mI M 56 v6 ((mI M 43 v6 v2.toNatClampNeg) + v4).toNatClampNeg)]) (M1 := M) (pc' := 126) (tb_Works hγ) [.aload 6, .getfield 288, .aload 6, .getfield 291, .iload_n 2, .iaload, .iload 4, .iadd, .iaload] (by decide +kernel) rfl rfl ⟨c24, c25, trivial⟩ ?_
    refine E_mask [true, false, false, false, false, true, false, false, false] rfl ?_
    exact lk_Works_name_j126 hγ this Q v5 (mI M 56 v6 ((mI M 43 v6 v2.toNatClampNeg) + v4).toNatClampNeg) M h
set_option maxRecDepth 4096 in
theorem lk_Works_name {γ : Gm} (hγ : Gk γ) (this : Nat) (a1 : Int32) (a2 : Int32) (a3 : Int32) (a4 : Int32) (a5 : Int32) (Q : Int32 → Mem → Prop) (M : Mem) (h : w_Works_name this a1 a2 a3 a4 a5 Q M) : E γ k_Works_name 3 0 [some (vr (some (10, this))), some (vi a1), some (vi a2), some (vi a3), some (vi a4), some (vi a5), none, none, none] [] M (Qi Q) := by
  unfold w_Works_name at h
  refine E_blk (lv' := [some (vr (some (10, this))), some (vi a1), some (vi a2), some (vi a3), some (vi a4), some (vi a5), none, none, none]) (st' := [vi a2, vi a1, vr (some (10, this))]) (M1 := M) (pc' := 3) (tb_Works hγ) [.aload_n 0, .iload_n 1, .iload_n 2] (by decide +kernel) rfl rfl trivial ?_
  refine E_callV (κ' := k_Works_isClass) (As := [vi a1, vi a2]) (st := []) mv_Works_isClass (Or.inl (tbk_mem (j := 7) (k := 49) rfl)) rfl (by decide +kernel) (Nat.le_of_ble_eq_true rfl) (Nat.le_of_ble_eq_true rfl) rfl (by decide) (lk_Works_isClass hγ this a1 a2 _ M h) (fun _ _ => Qi_r) (fun v M1 hp => Qi_k (R := fun st => E γ k_Works_name 3 6 [some (vr (some (10, this))), some (vi a1), some (vi a2), some (vi a3), some (vi a4), some (vi a5), none, none, none] st M1 (Qi Q)) hp (fun r2 h => ?_))
  refine E_if_eq (off := 23) (tgt := 29) (by decide +kernel) (by decide) (fun b3 => ?_) (fun b3 => ?_)
  · rw [if_pos b3] at h
    refine E_blk (lv' := [some (vr (some (10, this))), some (vi a1), some (vi a2), some (vi a3), some (vi a4), some (vi a5), none, none, none]) (st' := [vi (-1 : Int32)]) (M1 := M1) (pc' := 30) (tb_Works hγ) [.iconst (.negSucc 0)] (by decide +kernel) rfl rfl trivial ?_
    exact E_iret rfl (by decide +kernel) h
  · rw [if_neg b3] at h
    refine E_blk (lv' := [some (vr (some (10, this))), some (vi a1), some (vi a2), some (vi a3), some (vi a4), some (vi a5), none, none, none]) (st' := [vi (1 : Int32), vi (0 : Int32), vi a3]) (M1 := M1) (pc' := 12) (tb_Works hγ) [.iload_n 3, .iconst 0, .iconst 1] (by decide +kernel) rfl rfl trivial ?_
    refine E_callS (κ' := k_Works_isIn) (As := [vi a3, vi (0 : Int32), vi (1 : Int32)]) (st := []) ms_Works_isIn (Or.inl (tbk_mem (j := 5) (k := 237) rfl)) rfl (by decide +kernel) (Nat.le_of_ble_eq_true rfl) (Nat.le_of_ble_eq_true rfl) rfl (by decide) (lk_Works_isIn hγ a3 (0 : Int32) (1 : Int32) _ M1 h) (fun _ _ => Qi_r) (fun v M4 hp => Qi_k (R := fun st => E γ k_Works_name 3 15 [some (vr (some (10, this))), some (vi a1), some (vi a2), some (vi a3), some (vi a4), some (vi a5), none, none, none] st M4 (Qi Q)) hp (fun r5 h => ?_))
    refine E_if_eq (off := 14) (tgt := 29) (by decide +kernel) (by decide) (fun b6 => ?_) (fun b6 => ?_)
    · rw [if_pos b6] at h
      refine E_blk (lv' := [some (vr (some (10, this))), some (vi a1), some (vi a2), some (vi a3), some (vi a4), some (vi a5), none, none, none]) (st' := [vi (-1 : Int32)]) (M1 := M4) (pc' := 30) (tb_Works hγ) [.iconst (.negSucc 0)] (by decide +kernel) rfl rfl trivial ?_
      exact E_iret rfl (by decide +kernel) h
    · rw [if_neg b6] at h
      refine E_blk (lv' := [some (vr (some (10, this))), some (vi a1), some (vi a2), some (vi a3), some (vi a4), some (vi a5), none, none, none]) (st' := [vi (11 : Int32), vi (0 : Int32), vi a5]) (M1 := M4) (pc' := 23) (tb_Works hγ) [.iload 5, .iconst 0, .bipush 11] (by decide +kernel) rfl rfl trivial ?_
      refine E_callS (κ' := k_Works_isIn) (As := [vi a5, vi (0 : Int32), vi (11 : Int32)]) (st := []) ms_Works_isIn (Or.inl (tbk_mem (j := 5) (k := 237) rfl)) rfl (by decide +kernel) (Nat.le_of_ble_eq_true rfl) (Nat.le_of_ble_eq_true rfl) rfl (by decide) (lk_Works_isIn hγ a5 (0 : Int32) (11 : Int32) _ M4 h) (fun _ _ => Qi_r) (fun v M7 hp => Qi_k (R := fun st => E γ k_Works_name 3 26 [some (vr (some (10, this))), some (vi a1), some (vi a2), some (vi a3), some (vi a4), some (vi a5), none, none, none] st M7 (Qi Q)) hp (fun r8 h => ?_))
      refine E_if_ne (off := 5) (tgt := 31) (by decide +kernel) (by decide) (fun b9 => ?_) (fun b9 => ?_)
      · rw [if_pos b9] at h
        refine E_blk (lv' := [some (vr (some (10, this))), some (vi a1), some (vi a2), some (vi a3), some (vi a4), some (vi a5), none, none, none]) (st' := [vi (-1 : Int32)]) (M1 := M7) (pc' := 30) (tb_Works hγ) [.iconst (.negSucc 0)] (by decide +kernel) rfl rfl trivial ?_
        exact E_iret rfl (by decide +kernel) h
      · rw [if_neg b9] at h
        obtain ⟨c10, h⟩ := h
        refine E_blk (lv' := [some (vr (some (10, this))), some (vi a1), some (vi a2), some (vi a3), some (vi a4), some (vi a5), none, none, none]) (st' := [vr (mR M7 702 0 a1.toNatClampNeg)]) (M1 := M7) (pc' := 37) (tb_Works hγ) [.aload_n 0, .getfield 85, .iload_n 1, .aaload] (by decide +kernel) rfl rfl ⟨c10, trivial⟩ ?_
        obtain ⟨i11, ei11, h⟩ := h
        rw [ei11]
        obtain ⟨c12, h⟩ := h
        refine E_blk (lv' := [some (vr (some (10, this))), some (vi a1), some (vi a2), some (vi a3), some (vi a4), some (vi a5), some (vr (some (5, i11))), some (vi (mI M7 36 i11 a2.toNatClampNeg)), none]) (st' := [vi (-1 : Int32), vi a4]) (M1 := M7) (pc' := 51) (tb_Works hγ) [.astore 6, .aload 6, .getfield 272, .iload_n 2, .iaload, .istore 7, .iload 4, .iconst (.negSucc 0)] (by decide +kernel) rfl rfl ⟨c12, trivial⟩ ?_
        refine E_icmp_eq (off := 77) (tgt := 128) (by decide +kernel) (by decide) (fun b13 => ?_) (fun b13 => ?_)
        · rw [if_pos b13] at h
          refine E_mask [true, false, false, false, false, true, false, true, false] rfl ?_
          exact lk_Works_name_j128 hγ this Q a5 (mI M7 36 i11 a2.toNatClampNeg) M7 h
        · rw [if_neg b13] at h
          refine E_blk (lv' := [some (vr (some (10, this))), some (vi a1), some (vi a2), some (vi a3), some (vi a4), some (vi a5), some (vr (some (5, i11))), some (vi (mI M7 36 i11 a2.toNatClampNeg)), none]) (st' := [vi a3]) (M1 := M7) (pc' := 55) (tb_Works hγ) [.iload_n 3] (by decide +kernel) rfl rfl trivial ?_
          refine E_if_ne (off := 18) (tgt := 73) (by decide +kernel) (by decide) (fun b17 => ?_) (fun b17 => ?_)
          · rw [if_pos b17] at h
            refine E_blk (lv' := [some (vr (some (10, this))), some (vi a1), some (vi a2), some (vi a3), some (vi a4), some (vi a5), some (vr (some (5, i11))), some (vi (mI M7 36 i11 a2.toNatClampNeg)), none]) (st' := [vi a4, vi a2, vr (some (5, i11)), vr (some (10, this))]) (M1 := M7) (pc' := 64) (tb_Works hγ) [.aload_n 0, .aload 6, .iload_n 2, .iload 4] (by decide +kernel) rfl rfl trivial ?_
            refine E_callV (κ' := k_Works_isField) (As := [vr (some (5, i11)), vi a2, vi a4]) (st := []) mv_Works_isField (Or.inl (tbk_mem (j := 7) (k := 58) rfl)) rfl (by decide +kernel) (Nat.le_of_ble_eq_true rfl) (Nat.le_of_ble_eq_true rfl) rfl (by decide) (lk_Works_isField hγ this i11 a2 a4 _ M7 h) (fun _ _ => Qi_r) (fun v M18 hp => Qi_k (R := fun st => E γ k_Works_name 3 67 [some (vr (some (10, this))), some (vi a1), some (vi a2), some (vi a3), some (vi a4), some (vi a5), some (vr (some (5, i11))), some (vi (mI M7 36 i11 a2.toNatClampNeg)), none] st M18 (Qi Q)) hp (fun r19 h => ?_))
            refine E_if_eq (off := 18) (tgt := 85) (by decide +kernel) (by decide) (fun b20 => ?_) (fun b20 => ?_)
            · rw [if_pos b20] at h
              refine E_blk (lv' := [some (vr (some (10, this))), some (vi a1), some (vi a2), some (vi a3), some (vi a4), some (vi a5), some (vr (some (5, i11))), some (vi (mI M7 36 i11 a2.toNatClampNeg)), none]) (st' := [vi (-1 : Int32)]) (M1 := M18) (pc' := 86) (tb_Works hγ) [.iconst (.negSucc 0)] (by decide +kernel) rfl rfl trivial ?_
              exact E_iret rfl (by decide +kernel) h
            · rw [if_neg b20] at h
              refine E_goto (off := 17) (tgt := 87) (by decide +kernel) (by decide) ?_
              refine E_mask [true, false, true, true, true, true, true, false, false] rfl ?_
              exact lk_Works_name_j87 hγ this Q a2 a3 a4 a5 i11 M18 h
          · rw [if_neg b17] at h
            refine E_blk (lv' := [some (vr (some (10, this))), some (vi a1), some (vi a2), some (vi a3), some (vi a4), some (vi a5), some (vr (some (5, i11))), some (vi (mI M7 36 i11 a2.toNatClampNeg)), none]) (st' := [vi a4, vi a2, vr (some (5, i11)), vr (some (10, this))]) (M1 := M7) (pc' := 79) (tb_Works hγ) [.aload_n 0, .aload 6, .iload_n 2, .iload 4] (by decide +kernel) rfl rfl trivial ?_
            refine E_callV (κ' := k_Works_isMethod) (As := [vr (some (5, i11)), vi a2, vi a4]) (st := []) mv_Works_isMethod (Or.inl (tbk_mem (j := 7) (k := 62) rfl)) rfl (by decide +kernel) (Nat.le_of_ble_eq_true rfl) (Nat.le_of_ble_eq_true rfl) rfl (by decide) (lk_Works_isMethod hγ this i11 a2 a4 _ M7 h) (fun _ _ => Qi_r) (fun v M26 hp => Qi_k (R := fun st => E γ k_Works_name 3 82 [some (vr (some (10, this))), some (vi a1), some (vi a2), some (vi a3), some (vi a4), some (vi a5), some (vr (some (5, i11))), some (vi (mI M7 36 i11 a2.toNatClampNeg)), none] st M26 (Qi Q)) hp (fun r27 h => ?_))
            refine E_if_ne (off := 5) (tgt := 87) (by decide +kernel) (by decide) (fun b28 => ?_) (fun b28 => ?_)
            · rw [if_pos b28] at h
              refine E_blk (lv' := [some (vr (some (10, this))), some (vi a1), some (vi a2), some (vi a3), some (vi a4), some (vi a5), some (vr (some (5, i11))), some (vi (mI M7 36 i11 a2.toNatClampNeg)), none]) (st' := [vi (-1 : Int32)]) (M1 := M26) (pc' := 86) (tb_Works hγ) [.iconst (.negSucc 0)] (by decide +kernel) rfl rfl trivial ?_
              exact E_iret rfl (by decide +kernel) h
            · rw [if_neg b28] at h
              refine E_mask [true, false, true, true, true, true, true, false, false] rfl ?_
              exact lk_Works_name_j87 hγ this Q a2 a3 a4 a5 i11 M26 h
def w_Works_member_j32 (this : Nat) (Q : Int32 → Mem → Prop) (v2 : Int32) (v3 : Int32) (v4 : Int32) (v5 : Nat) (M : Mem) : Prop :=
  w_Works_isField this v5 v2 v3 (fun r8 M7 => if r8 = 0 then (Q (-1 : Int32) M7) else (vp_in v2 (mL M7 41 v5) ∧ if v4 = (5 : Int32) then (vp_in ((mI M7 41 v5 v2.toNatClampNeg) + v3) (mL M7 51 v5) ∧ Q (mI M7 51 v5 ((mI M7 41 v5 v2.toNatClampNeg) + v3).toNatClampNeg) M7) else (vp_in ((mI M7 41 v5 v2.toNatClampNeg) + v3) (mL M7 50 v5) ∧ w_JMath_min (mI M7 50 v5 ((mI M7 41 v5 v2.toNatClampNeg) + v3).toNatClampNeg) (2 : Int32) (fun r15 M14 => Q r15 M14) M7))) M
def w_Works_member (this : Nat) (a1 : Int32) (a2 : Int32) (a3 : Int32) (a4 : Int32) (Q : Int32 → Mem → Prop) (M : Mem) : Prop :=
  w_Works_isClass this a1 a2 (fun r2 M1 => if r2 = 0 then (Q (-1 : Int32) M1) else (vp_in a1 (mL M1 702 0) ∧ ∃ i5, (mR M1 702 0 a1.toNatClampNeg) = some (5, i5) ∧ if a4 = (5 : Int32) then (w_Works_member_j32 this Q a2 a3 a4 i5 M1) else (if a4 = (6 : Int32) then (w_Works_member_j32 this Q a2 a3 a4 i5 M1) else (w_Works_isMethod this i5 a2 a3 (fun r18 M17 => if r18 = 0 then (Q (-1 : Int32) M17) else (vp_in a2 (mL M17 43 i5) ∧ if a4 = (0 : Int32) then (vp_in ((mI M17 43 i5 a2.toNatClampNeg) + a3) (mL M17 57 i5) ∧ Q (mI M17 57 i5 ((mI M17 43 i5 a2.toNatClampNeg) + a3).toNatClampNeg) M17) else (if a4 = (1 : Int32) then (vp_in ((mI M17 43 i5 a2.toNatClampNeg) + a3) (mL M17 58 i5) ∧ Q (mI M17 58 i5 ((mI M17 43 i5 a2.toNatClampNeg) + a3).toNatClampNeg) M17) else (if a4 = (2 : Int32) then (vp_in ((mI M17 43 i5 a2.toNatClampNeg) + a3) (mL M17 60 i5) ∧ Q (mI M17 60 i5 ((mI M17 43 i5 a2.toNatClampNeg) + a3).toNatClampNeg) M17) else (if a4 = (3 : Int32) then (vp_in ((mI M17 43 i5 a2.toNatClampNeg) + a3) (mL M17 61 i5) ∧ Q (mI M17 61 i5 ((mI M17 43 i5 a2.toNatClampNeg) + a3).toNatClampNeg) M17) else (if a4 = (4 : Int32) then (vp_in ((mI M17 43 i5 a2.toNatClampNeg) + a3) (mL M17 63 i5) ∧ Q (mI M17 63 i5 ((mI M17 43 i5 a2.toNatClampNeg) + a3).toNatClampNeg) M17) else (Q (-1 : Int32) M17))))))) M1)))) M
set_option maxRecDepth 4096 in
theorem lk_Works_member_j32 {γ : Gm} (hγ : Gk γ) (this : Nat) (Q : Int32 → Mem → Prop) (v2 : Int32) (v3 : Int32) (v4 : Int32) (v5 : Nat) (M : Mem) (h : w_Works_member_j32 this Q v2 v3 v4 v5 M) : E γ k_Works_member 3 32 [some (vr (some (10, this))), none, some (vi v2), some (vi v3), some (vi v4), some (vr (some (5, v5))), none] [] M (Qi Q) := by
  unfold w_Works_member_j32 at h
  refine E_blk (lv' := [some (vr (some (10, this))), none, some (vi v2), some (vi v3), some (vi v4), some (vr (some (5, v5))), none]) (st' := [vi v3, vi v2, vr (some (5, v5)), vr (some (10, this))]) (M1 := M) (pc' := 37) (tb_Works hγ) [.aload_n 0, .aload 5, .iload_n 2, .iload_n 3] (by decide +kernel) rfl rfl trivial ?_
  refine E_callV (κ' := k_Works_isField) (As := [vr (some (5, v5)), vi v2, vi v3]) (st := []) mv_Works_isField (Or.inl (tbk_mem (j := 7) (k := 58) rfl)) rfl (by decide +kernel) (Nat.le_of_ble_eq_true rfl) (Nat.le_of_ble_eq_true rfl) rfl (by decide) (lk_Works_isField hγ this v5 v2 v3 _ M h) (fun _ _ => Qi_r) (fun v M7 hp => Qi_k (R := fun st => E γ k_Works_member 3 40 [some (vr (some (10, this))), none, some (vi v2), some (vi v3), some (vi v4), some (vr (some (5, v5))), none] st M7 (Qi Q)) hp (fun r8 h => ?_))
  refine E_if_ne (off := 5) (tgt := 45) (by decide +kernel) (by decide) (fun b9 => ?_) (fun b9 => ?_)
  · rw [if_pos b9] at h
    refine E_blk (lv' := [some (vr (some (10, this))), none, some (vi v2), some (vi v3), some (vi v4), some (vr (some (5, v5))), none]) (st' := [vi (-1 : Int32)]) (M1 := M7) (pc' := 44) (tb_Works hγ) [.iconst (.negSucc 0)] (by decide +kernel) rfl rfl trivial ?_
    exact E_iret rfl (by decide +kernel) h
  · rw [if_neg b9] at h
    obtain ⟨c10, h⟩ := h
    refine E_blk (lv' := [some (vr (some (10, this))), none, some (vi v2), some (vi v3), some (vi v4), some (vr (some (5, v5))), some (vi ((mI M7 41 v5 v2.toNatClampNeg) + v3))]) (st' := [vi (5 : Int32), vi v4]) (M1 := M7) (pc' := 59) (tb_Works hγ) [.aload 5, .getfield 285, .iload_n 2, .iaload, .iload_n 3, .iadd, .istore 6, .iload 4, .iconst 5] (by decide +kernel) rfl rfl ⟨c10, trivial⟩ ?_
    refine E_icmp_ne (off := 14) (tgt := 73) (by decide +kernel) (by decide) (fun b11 => ?_) (fun b11 => ?_)
    · rw [if_pos b11] at h
      obtain ⟨c12, h⟩ := h
      refine E_blk (lv' := [some (vr (some (10, this))), none, some (vi v2), some (vi v3), some (vi v4), some (vr (some (5, v5))), some (vi ((mI M7 41 v5 v2.toNatClampNeg) + v3))]) (st' := [vi (mI M7 51 v5 ((mI M7 41 v5 v2.toNatClampNeg) + v3).toNatClampNeg)]) (M1 := M7) (pc' := 70) (tb_Works hγ) [.aload 5, .getfield 296, .iload 6, .iaload] (by decide +kernel) rfl rfl ⟨c12, trivial⟩ ?_
      refine E_goto (off := 15) (tgt := 85) (by decide +kernel) (by decide) ?_
      exact E_iret rfl (by decide +kernel) h
    · rw [if_neg b11] at h
      obtain ⟨c13, h⟩ := h
      refine E_blk (lv' := [some (vr (some (10, this))), none, some (vi v2), some (vi v3), some (vi v4), some (vr (some (5, v5))), some (vi ((mI M7 41 v5 v2.toNatClampNeg) + v3))]) (st' := [vi (2 : Int32), vi (mI M7 50 v5 ((mI M7 41 v5 v2.toNatClampNeg) + v3).toNatClampNeg)]) (M1 := M7) (pc' := 82) (tb_Works hγ) [.aload 5, .getfield 299, .iload 6, .iaload, .iconst 2] (by decide +kernel) rfl rfl ⟨c13, trivial⟩ ?_
      refine E_callS (κ' := k_JMath_min) (As := [vi (mI M7 50 v5 ((mI M7 41 v5 v2.toNatClampNeg) + v3).toNatClampNeg), vi (2 : Int32)]) (st := []) ms_JMath_min (Or.inl (tbk_mem (j := 7) (k := 71) rfl)) rfl (by decide +kernel) (Nat.le_of_ble_eq_true rfl) (Nat.le_of_ble_eq_true rfl) rfl (by decide) (lk_JMath_min hγ (mI M7 50 v5 ((mI M7 41 v5 v2.toNatClampNeg) + v3).toNatClampNeg) (2 : Int32) _ M7 h) (fun _ _ => Qi_r) (fun v M14 hp => Qi_k (R := fun st => E γ k_Works_member 3 85 [some (vr (some (10, this))), none, some (vi v2), some (vi v3), some (vi v4), some (vr (some (5, v5))), some (vi ((mI M7 41 v5 v2.toNatClampNeg) + v3))] st M14 (Qi Q)) hp (fun r15 h => ?_))
      exact E_iret rfl (by decide +kernel) h
set_option maxRecDepth 4096 in
theorem lk_Works_member {γ : Gm} (hγ : Gk γ) (this : Nat) (a1 : Int32) (a2 : Int32) (a3 : Int32) (a4 : Int32) (Q : Int32 → Mem → Prop) (M : Mem) (h : w_Works_member this a1 a2 a3 a4 Q M) : E γ k_Works_member 3 0 [some (vr (some (10, this))), some (vi a1), some (vi a2), some (vi a3), some (vi a4), none, none] [] M (Qi Q) := by
  unfold w_Works_member at h
  refine E_blk (lv' := [some (vr (some (10, this))), some (vi a1), some (vi a2), some (vi a3), some (vi a4), none, none]) (st' := [vi a2, vi a1, vr (some (10, this))]) (M1 := M) (pc' := 3) (tb_Works hγ) [.aload_n 0, .iload_n 1, .iload_n 2] (by decide +kernel) rfl rfl trivial ?_
  refine E_callV (κ' := k_Works_isClass) (As := [vi a1, vi a2]) (st := []) mv_Works_isClass (Or.inl (tbk_mem (j := 7) (k := 49) rfl)) rfl (by decide +kernel) (Nat.le_of_ble_eq_true rfl) (Nat.le_of_ble_eq_true rfl) rfl (by decide) (lk_Works_isClass hγ this a1 a2 _ M h) (fun _ _ => Qi_r) (fun v M1 hp => Qi_k (R := fun st => E γ k_Works_member 3 6 [some (vr (some (10, this))), some (vi a1), some (vi a2), some (vi a3), some (vi a4), none, none] st M1 (Qi Q)) hp (fun r2 h => ?_))
  refine E_if_ne (off := 5) (tgt := 11) (by decide +kernel) (by decide) (fun b3 => ?_) (fun b3 => ?_)
  · rw [if_pos b3] at h
    refine E_blk (lv' := [some (vr (some (10, this))), some (vi a1), some (vi a2), some (vi a3), some (vi a4), none, none]) (st' := [vi (-1 : Int32)]) (M1 := M1) (pc' := 10) (tb_Works hγ) [.iconst (.negSucc 0)] (by decide +kernel) rfl rfl trivial ?_
    exact E_iret rfl (by decide +kernel) h
  · rw [if_neg b3] at h
    obtain ⟨c4, h⟩ := h
    refine E_blk (lv' := [some (vr (some (10, this))), some (vi a1), some (vi a2), some (vi a3), some (vi a4), none, none]) (st' := [vr (mR M1 702 0 a1.toNatClampNeg)]) (M1 := M1) (pc' := 17) (tb_Works hγ) [.aload_n 0, .getfield 85, .iload_n 1, .aaload] (by decide +kernel) rfl rfl ⟨c4, trivial⟩ ?_
    obtain ⟨i5, ei5, h⟩ := h
    rw [ei5]
    refine E_blk (lv' := [some (vr (some (10, this))), some (vi a1), some (vi a2), some (vi a3), some (vi a4), some (vr (some (5, i5))), none]) (st' := [vi (5 : Int32), vi a4]) (M1 := M1) (pc' := 22) (tb_Works hγ) [.astore 5, .iload 4, .iconst 5] (by decide +kernel) rfl rfl trivial ?_
    refine E_icmp_eq (off := 10) (tgt := 32) (by decide +kernel) (by decide) (fun b6 => ?_) (fun b6 => ?_)
    · rw [if_pos b6] at h
      refine E_mask [true, false, true, true, true, true, false] rfl ?_
      exact lk_Works_member_j32 hγ this Q a2 a3 a4 i5 M1 h
    · rw [if_neg b6] at h
      refine E_blk (lv' := [some (vr (some (10, this))), some (vi a1), some (vi a2), some (vi a3), some (vi a4), some (vr (some (5, i5))), none]) (st' := [vi (6 : Int32), vi a4]) (M1 := M1) (pc' := 29) (tb_Works hγ) [.iload 4, .bipush 6] (by decide +kernel) rfl rfl trivial ?_
      refine E_icmp_ne (off := 57) (tgt := 86) (by decide +kernel) (by decide) (fun b16 => ?_) (fun b16 => ?_)
      · rw [if_pos b16] at h
        refine E_mask [true, false, true, true, true, true, false] rfl ?_
        exact lk_Works_member_j32 hγ this Q a2 a3 a4 i5 M1 h
      · rw [if_neg b16] at h
        refine E_blk (lv' := [some (vr (some (10, this))), some (vi a1), some (vi a2), some (vi a3), some (vi a4), some (vr (some (5, i5))), none]) (st' := [vi a3, vi a2, vr (some (5, i5)), vr (some (10, this))]) (M1 := M1) (pc' := 91) (tb_Works hγ) [.aload_n 0, .aload 5, .iload_n 2, .iload_n 3] (by decide +kernel) rfl rfl trivial ?_
        refine E_callV (κ' := k_Works_isMethod) (As := [vr (some (5, i5)), vi a2, vi a3]) (st := []) mv_Works_isMethod (Or.inl (tbk_mem (j := 7) (k := 62) rfl)) rfl (by decide +kernel) (Nat.le_of_ble_eq_true rfl) (Nat.le_of_ble_eq_true rfl) rfl (by decide) (lk_Works_isMethod hγ this i5 a2 a3 _ M1 h) (fun _ _ => Qi_r) (fun v M17 hp => Qi_k (R := fun st => E γ k_Works_member 3 94 [some (vr (some (10, this))), some (vi a1), some (vi a2), some (vi a3), some (vi a4), some (vr (some (5, i5))), none] st M17 (Qi Q)) hp (fun r18 h => ?_))
        refine E_if_ne (off := 5) (tgt := 99) (by decide +kernel) (by decide) (fun b19 => ?_) (fun b19 => ?_)
        · rw [if_pos b19] at h
          refine E_blk (lv' := [some (vr (some (10, this))), some (vi a1), some (vi a2), some (vi a3), some (vi a4), some (vr (some (5, i5))), none]) (st' := [vi (-1 : Int32)]) (M1 := M17) (pc' := 98) (tb_Works hγ) [.iconst (.negSucc 0)] (by decide +kernel) rfl rfl trivial ?_
          exact E_iret rfl (by decide +kernel) h
        · rw [if_neg b19] at h
          obtain ⟨c20, h⟩ := h
          refine E_blk (lv' := [some (vr (some (10, this))), some (vi a1), some (vi a2), some (vi a3), some (vi a4), some (vr (some (5, i5))), some (vi ((mI M17 43 i5 a2.toNatClampNeg) + a3))]) (st' := [vi a4]) (M1 := M17) (pc' := 112) (tb_Works hγ) [.aload 5, .getfield 291, .iload_n 2, .iaload, .iload_n 3, .iadd, .istore 6, .iload 4] (by decide +kernel) rfl rfl ⟨c20, trivial⟩ ?_
          by_cases b21 : a4 = (0 : Int32)
          · rw [if_pos b21] at h
            refine E.up (fun _ _ hJ => J_tswI (len := 36) (dflt := 81) (lo := 0) (hi := 4) (offs := #[36, 45, 54, 63, 72]) (off := 36) (tgt := 148) (by decide +kernel) (by rw [b21]; decide) (by rw [b21]; decide) (by rw [b21]; rfl) (by decide) hJ) ?_
            obtain ⟨c30, h⟩ := h
            refine E_blk (lv' := [some (vr (some (10, this))), some (vi a1), some (vi a2), some (vi a3), some (vi a4), some (vr (some (5, i5))), some (vi ((mI M17 43 i5 a2.toNatClampNeg) + a3))]) (st' := [vi (mI M17 57 i5 ((mI M17 43 i5 a2.toNatClampNeg) + a3).toNatClampNeg)]) (M1 := M17) (pc' := 156) (tb_Works hγ) [.aload 5, .getfield 305, .iload 6, .iaload] (by decide +kernel) rfl rfl ⟨c30, trivial⟩ ?_
            exact E_iret rfl (by decide +kernel) h
          · rw [if_neg b21] at h
            by_cases b22 : a4 = (1 : Int32)
            · rw [if_pos b22] at h
              refine E.up (fun _ _ hJ => J_tswI (len := 36) (dflt := 81) (lo := 0) (hi := 4) (offs := #[36, 45, 54, 63, 72]) (off := 45) (tgt := 157) (by decide +kernel) (by rw [b22]; decide) (by rw [b22]; decide) (by rw [b22]; rfl) (by decide) hJ) ?_
              obtain ⟨c29, h⟩ := h
              refine E_blk (lv' := [some (vr (some (10, this))), some (vi a1), some (vi a2), some (vi a3), some (vi a4), some (vr (some (5, i5))), some (vi ((mI M17 43 i5 a2.toNatClampNeg) + a3))]) (st' := [vi (mI M17 58 i5 ((mI M17 43 i5 a2.toNatClampNeg) + a3).toNatClampNeg)]) (M1 := M17) (pc' := 165) (tb_Works hγ) [.aload 5, .getfield 308, .iload 6, .iaload] (by decide +kernel) rfl rfl ⟨c29, trivial⟩ ?_
              exact E_iret rfl (by decide +kernel) h
            · rw [if_neg b22] at h
              by_cases b23 : a4 = (2 : Int32)
              · rw [if_pos b23] at h
                refine E.up (fun _ _ hJ => J_tswI (len := 36) (dflt := 81) (lo := 0) (hi := 4) (offs := #[36, 45, 54, 63, 72]) (off := 54) (tgt := 166) (by decide +kernel) (by rw [b23]; decide) (by rw [b23]; decide) (by rw [b23]; rfl) (by decide) hJ) ?_
                obtain ⟨c28, h⟩ := h
                refine E_blk (lv' := [some (vr (some (10, this))), some (vi a1), some (vi a2), some (vi a3), some (vi a4), some (vr (some (5, i5))), some (vi ((mI M17 43 i5 a2.toNatClampNeg) + a3))]) (st' := [vi (mI M17 60 i5 ((mI M17 43 i5 a2.toNatClampNeg) + a3).toNatClampNeg)]) (M1 := M17) (pc' := 174) (tb_Works hγ) [.aload 5, .getfield 311, .iload 6, .iaload] (by decide +kernel) rfl rfl ⟨c28, trivial⟩ ?_
                exact E_iret rfl (by decide +kernel) h
              · rw [if_neg b23] at h
                by_cases b24 : a4 = (3 : Int32)
                · rw [if_pos b24] at h
                  refine E.up (fun _ _ hJ => J_tswI (len := 36) (dflt := 81) (lo := 0) (hi := 4) (offs := #[36, 45, 54, 63, 72]) (off := 63) (tgt := 175) (by decide +kernel) (by rw [b24]; decide) (by rw [b24]; decide) (by rw [b24]; rfl) (by decide) hJ) ?_
                  obtain ⟨c27, h⟩ := h
                  refine E_blk (lv' := [some (vr (some (10, this))), some (vi a1), some (vi a2), some (vi a3), some (vi a4), some (vr (some (5, i5))), some (vi ((mI M17 43 i5 a2.toNatClampNeg) + a3))]) (st' := [vi (mI M17 61 i5 ((mI M17 43 i5 a2.toNatClampNeg) + a3).toNatClampNeg)]) (M1 := M17) (pc' := 183) (tb_Works hγ) [.aload 5, .getfield 314, .iload 6, .iaload] (by decide +kernel) rfl rfl ⟨c27, trivial⟩ ?_
                  exact E_iret rfl (by decide +kernel) h
                · rw [if_neg b24] at h
                  by_cases b25 : a4 = (4 : Int32)
                  · rw [if_pos b25] at h
                    refine E.up (fun _ _ hJ => J_tswI (len := 36) (dflt := 81) (lo := 0) (hi := 4) (offs := #[36, 45, 54, 63, 72]) (off := 72) (tgt := 184) (by decide +kernel) (by rw [b25]; decide) (by rw [b25]; decide) (by rw [b25]; rfl) (by decide) hJ) ?_
                    obtain ⟨c26, h⟩ := h
                    refine E_blk (lv' := [some (vr (some (10, this))), some (vi a1), some (vi a2), some (vi a3), some (vi a4), some (vr (some (5, i5))), some (vi ((mI M17 43 i5 a2.toNatClampNeg) + a3))]) (st' := [vi (mI M17 63 i5 ((mI M17 43 i5 a2.toNatClampNeg) + a3).toNatClampNeg)]) (M1 := M17) (pc' := 192) (tb_Works hγ) [.aload 5, .getfield 317, .iload 6, .iaload] (by decide +kernel) rfl rfl ⟨c26, trivial⟩ ?_
                    exact E_iret rfl (by decide +kernel) h
                  · rw [if_neg b25] at h
                    refine E.up (fun _ _ hJ => J_tswO (len := 36) (dflt := 81) (lo := 0) (hi := 4) (offs := #[36, 45, 54, 63, 72]) (tgt := 193) (by decide +kernel) ?_ (by decide) hJ) ?_
                    · have q := sw0 (x := a4) 0
                      replace q : (a4).toInt < 0 ∨ 1 ≤ (a4).toInt := sw1 q b21 rfl rfl
                      replace q : (a4).toInt < 0 ∨ 2 ≤ (a4).toInt := sw1 q b22 rfl rfl
                      replace q : (a4).toInt < 0 ∨ 3 ≤ (a4).toInt := sw1 q b23 rfl rfl
                      replace q : (a4).toInt < 0 ∨ 4 ≤ (a4).toInt := sw1 q b24 rfl rfl
                      replace q : (a4).toInt < 0 ∨ 5 ≤ (a4).toInt := sw1 q b25 rfl rfl
                      omega
                    · refine E_blk (lv' := [some (vr (some (10, this))), some (vi a1), some (vi a2), some (vi a3), some (vi a4), some (vr (some (5, i5))), some (vi ((mI M17 43 i5 a2.toNatClampNeg) + a3))]) (st' := [vi (-1 : Int32)]) (M1 := M17) (pc' := 194) (tb_Works hγ) [.iconst (.negSucc 0)] (by decide +kernel) rfl rfl trivial ?_
                      exact E_iret rfl (by decide +kernel) h
def w_Works_link (this : Nat) (a1 : Int32) (a2 : Int32) (Q : Int32 → Mem → Prop) (M : Mem) : Prop :=
  w_Works_isClass this a1 a2 (fun r2 M1 => if r2 = 0 then (Q (-1 : Int32) M1) else (vp_in a1 (mL M1 702 0) ∧ ∃ i5, (mR M1 702 0 a1.toNatClampNeg) = some (5, i5) ∧ w_World_link i5 a2 (fun r7 M6 => if r7 = (1 : Int32) then (Q (0 : Int32) M6) else (Q r7 M6)) M1)) M
set_option maxRecDepth 4096 in
theorem lk_Works_link {γ : Gm} (hγ : Gk γ) (this : Nat) (a1 : Int32) (a2 : Int32) (Q : Int32 → Mem → Prop) (M : Mem) (h : w_Works_link this a1 a2 Q M) : E γ k_Works_link 133 0 [some (vr (some (10, this))), some (vi a1), some (vi a2), none] [] M (Qi Q) := by
  unfold w_Works_link at h
  refine E_blk (lv' := [some (vr (some (10, this))), some (vi a1), some (vi a2), none]) (st' := [vi a2, vi a1, vr (some (10, this))]) (M1 := M) (pc' := 3) (tb_Works hγ) [.aload_n 0, .iload_n 1, .iload_n 2] (by decide +kernel) rfl rfl trivial ?_
  refine E_callV (κ' := k_Works_isClass) (As := [vi a1, vi a2]) (st := []) mv_Works_isClass (Or.inl (tbk_mem (j := 7) (k := 49) rfl)) rfl (by decide +kernel) (Nat.le_of_ble_eq_true rfl) (Nat.le_of_ble_eq_true rfl) rfl (by decide) (lk_Works_isClass hγ this a1 a2 _ M h) (fun _ _ => Qi_r) (fun v M1 hp => Qi_k (R := fun st => E γ k_Works_link 133 6 [some (vr (some (10, this))), some (vi a1), some (vi a2), none] st M1 (Qi Q)) hp (fun r2 h => ?_))
  refine E_if_ne (off := 5) (tgt := 11) (by decide +kernel) (by decide) (fun b3 => ?_) (fun b3 => ?_)
  · rw [if_pos b3] at h
    refine E_blk (lv' := [some (vr (some (10, this))), some (vi a1), some (vi a2), none]) (st' := [vi (-1 : Int32)]) (M1 := M1) (pc' := 10) (tb_Works hγ) [.iconst (.negSucc 0)] (by decide +kernel) rfl rfl trivial ?_
    exact E_iret rfl (by decide +kernel) h
  · rw [if_neg b3] at h
    obtain ⟨c4, h⟩ := h
    refine E_blk (lv' := [some (vr (some (10, this))), some (vi a1), some (vi a2), none]) (st' := [vr (mR M1 702 0 a1.toNatClampNeg)]) (M1 := M1) (pc' := 17) (tb_Works hγ) [.aload_n 0, .getfield 85, .iload_n 1, .aaload] (by decide +kernel) rfl rfl ⟨c4, trivial⟩ ?_
    obtain ⟨i5, ei5, h⟩ := h
    rw [ei5]
    refine E_blk (lv' := [some (vr (some (10, this))), some (vi a1), some (vi a2), none]) (st' := [vi a2, vr (some (5, i5))]) (M1 := M1) (pc' := 18) (tb_Works hγ) [.iload_n 2] (by decide +kernel) rfl rfl trivial ?_
    refine E_callV (κ' := k_World_link) (As := [vi a2]) (st := []) mv_World_link (Or.inl (tbk_mem (j := 7) (k := 76) rfl)) rfl (by decide +kernel) (Nat.le_of_ble_eq_true rfl) (Nat.le_of_ble_eq_true rfl) rfl (by decide) (lk_World_link hγ i5 a2 _ M1 h) (fun _ _ => Qi_r) (fun v M6 hp => Qi_k (R := fun st => E γ k_Works_link 133 21 [some (vr (some (10, this))), some (vi a1), some (vi a2), none] st M6 (Qi Q)) hp (fun r7 h => ?_))
    refine E_blk (lv' := [some (vr (some (10, this))), some (vi a1), some (vi a2), some (vi r7)]) (st' := [vi (1 : Int32), vi r7]) (M1 := M6) (pc' := 24) (tb_Works hγ) [.istore_n 3, .iload_n 3, .iconst 1] (by decide +kernel) rfl rfl trivial ?_
    refine E_icmp_ne (off := 7) (tgt := 31) (by decide +kernel) (by decide) (fun b8 => ?_) (fun b8 => ?_)
    · rw [if_pos b8] at h
      refine E_blk (lv' := [some (vr (some (10, this))), some (vi a1), some (vi a2), some (vi r7)]) (st' := [vi (0 : Int32)]) (M1 := M6) (pc' := 28) (tb_Works hγ) [.iconst 0] (by decide +kernel) rfl rfl trivial ?_
      refine E_goto (off := 4) (tgt := 32) (by decide +kernel) (by decide) ?_
      exact E_iret rfl (by decide +kernel) h
    · rw [if_neg b8] at h
      refine E_blk (lv' := [some (vr (some (10, this))), some (vi a1), some (vi a2), some (vi r7)]) (st' := [vi r7]) (M1 := M6) (pc' := 32) (tb_Works hγ) [.iload_n 3] (by decide +kernel) rfl rfl trivial ?_
      exact E_iret rfl (by decide +kernel) h
def w_Works_checked (this : Nat) (a1 : Int32) (a2 : Int32) (Q : Int32 → Mem → Prop) (M : Mem) : Prop :=
  w_Works_isWorld this a1 (fun r2 M1 => if r2 = 0 then (Q (-1 : Int32) M1) else (vp_in a1 (mL M1 702 0) ∧ ∃ i5, (mR M1 702 0 a1.toNatClampNeg) = some (5, i5) ∧ if a2 = 0 then (Q (mI M1 5 i5 56) M1) else (if a2 = (1 : Int32) then (Q (mI M1 5 i5 57) M1) else (if a2 = (2 : Int32) then (Q (mI M1 5 i5 58) M1) else (Q (-1 : Int32) M1))))) M
set_option maxRecDepth 4096 in
theorem lk_Works_checked {γ : Gm} (hγ : Gk γ) (this : Nat) (a1 : Int32) (a2 : Int32) (Q : Int32 → Mem → Prop) (M : Mem) (h : w_Works_checked this a1 a2 Q M) : E γ k_Works_checked 2 0 [some (vr (some (10, this))), some (vi a1), some (vi a2), none] [] M (Qi Q) := by
  unfold w_Works_checked at h
  refine E_blk (lv' := [some (vr (some (10, this))), some (vi a1), some (vi a2), none]) (st' := [vi a1, vr (some (10, this))]) (M1 := M) (pc' := 2) (tb_Works hγ) [.aload_n 0, .iload_n 1] (by decide +kernel) rfl rfl trivial ?_
  refine E_callV (κ' := k_Works_isWorld) (As := [vi a1]) (st := []) mv_Works_isWorld (Or.inl (tbk_mem (j := 6) (k := 32) rfl)) rfl (by decide +kernel) (Nat.le_of_ble_eq_true rfl) (Nat.le_of_ble_eq_true rfl) rfl (by decide) (lk_Works_isWorld hγ this a1 _ M h) (fun _ _ => Qi_r) (fun v M1 hp => Qi_k (R := fun st => E γ k_Works_checked 2 5 [some (vr (some (10, this))), some (vi a1), some (vi a2), none] st M1 (Qi Q)) hp (fun r2 h => ?_))
  refine E_if_ne (off := 5) (tgt := 10) (by decide +kernel) (by decide) (fun b3 => ?_) (fun b3 => ?_)
  · rw [if_pos b3] at h
    refine E_blk (lv' := [some (vr (some (10, this))), some (vi a1), some (vi a2), none]) (st' := [vi (-1 : Int32)]) (M1 := M1) (pc' := 9) (tb_Works hγ) [.iconst (.negSucc 0)] (by decide +kernel) rfl rfl trivial ?_
    exact E_iret rfl (by decide +kernel) h
  · rw [if_neg b3] at h
    obtain ⟨c4, h⟩ := h
    refine E_blk (lv' := [some (vr (some (10, this))), some (vi a1), some (vi a2), none]) (st' := [vr (mR M1 702 0 a1.toNatClampNeg)]) (M1 := M1) (pc' := 16) (tb_Works hγ) [.aload_n 0, .getfield 85, .iload_n 1, .aaload] (by decide +kernel) rfl rfl ⟨c4, trivial⟩ ?_
    obtain ⟨i5, ei5, h⟩ := h
    rw [ei5]
    refine E_blk (lv' := [some (vr (some (10, this))), some (vi a1), some (vi a2), some (vr (some (5, i5)))]) (st' := [vi a2]) (M1 := M1) (pc' := 18) (tb_Works hγ) [.astore_n 3, .iload_n 2] (by decide +kernel) rfl rfl trivial ?_
    refine E_if_ne (off := 10) (tgt := 28) (by decide +kernel) (by decide) (fun b6 => ?_) (fun b6 => ?_)
    · rw [if_pos b6] at h
      refine E_blk (lv' := [some (vr (some (10, this))), some (vi a1), some (vi a2), some (vr (some (5, i5)))]) (st' := [vi (mI M1 5 i5 56)]) (M1 := M1) (pc' := 25) (tb_Works hγ) [.aload_n 3, .getfield 323] (by decide +kernel) rfl rfl trivial ?_
      refine E_goto (off := 28) (tgt := 53) (by decide +kernel) (by decide) ?_
      exact E_iret rfl (by decide +kernel) h
    · rw [if_neg b6] at h
      refine E_blk (lv' := [some (vr (some (10, this))), some (vi a1), some (vi a2), some (vr (some (5, i5)))]) (st' := [vi (1 : Int32), vi a2]) (M1 := M1) (pc' := 30) (tb_Works hγ) [.iload_n 2, .iconst 1] (by decide +kernel) rfl rfl trivial ?_
      refine E_icmp_ne (off := 10) (tgt := 40) (by decide +kernel) (by decide) (fun b7 => ?_) (fun b7 => ?_)
      · rw [if_pos b7] at h
        refine E_blk (lv' := [some (vr (some (10, this))), some (vi a1), some (vi a2), some (vr (some (5, i5)))]) (st' := [vi (mI M1 5 i5 57)]) (M1 := M1) (pc' := 37) (tb_Works hγ) [.aload_n 3, .getfield 326] (by decide +kernel) rfl rfl trivial ?_
        refine E_goto (off := 16) (tgt := 53) (by decide +kernel) (by decide) ?_
        exact E_iret rfl (by decide +kernel) h
      · rw [if_neg b7] at h
        refine E_blk (lv' := [some (vr (some (10, this))), some (vi a1), some (vi a2), some (vr (some (5, i5)))]) (st' := [vi (2 : Int32), vi a2]) (M1 := M1) (pc' := 42) (tb_Works hγ) [.iload_n 2, .iconst 2] (by decide +kernel) rfl rfl trivial ?_
        refine E_icmp_ne (off := 10) (tgt := 52) (by decide +kernel) (by decide) (fun b8 => ?_) (fun b8 => ?_)
        · rw [if_pos b8] at h
          refine E_blk (lv' := [some (vr (some (10, this))), some (vi a1), some (vi a2), some (vr (some (5, i5)))]) (st' := [vi (mI M1 5 i5 58)]) (M1 := M1) (pc' := 49) (tb_Works hγ) [.aload_n 3, .getfield 329] (by decide +kernel) rfl rfl trivial ?_
          refine E_goto (off := 4) (tgt := 53) (by decide +kernel) (by decide) ?_
          exact E_iret rfl (by decide +kernel) h
        · rw [if_neg b8] at h
          refine E_blk (lv' := [some (vr (some (10, this))), some (vi a1), some (vi a2), some (vr (some (5, i5)))]) (st' := [vi (-1 : Int32)]) (M1 := M1) (pc' := 53) (tb_Works hγ) [.iconst (.negSucc 0)] (by decide +kernel) rfl rfl trivial ?_
          exact E_iret rfl (by decide +kernel) h
def w_Works_isThread (this : Nat) (a1 : Int32) (a2 : Int32) (Q : Int32 → Mem → Prop) (M : Mem) : Prop :=
  w_Works_isWorld this a1 (fun r2 M1 => if r2 = 0 then (Q (0 : Int32) M1) else (w_Works_isIn a2 (0 : Int32) (2 : Int32) (fun r5 M4 => if r5 = 0 then (Q (0 : Int32) M4) else (Q (1 : Int32) M4)) M1)) M
set_option maxRecDepth 4096 in
theorem lk_Works_isThread {γ : Gm} (hγ : Gk γ) (this : Nat) (a1 : Int32) (a2 : Int32) (Q : Int32 → Mem → Prop) (M : Mem) (h : w_Works_isThread this a1 a2 Q M) : E γ k_Works_isThread 2 0 [some (vr (some (10, this))), some (vi a1), some (vi a2)] [] M (Qi Q) := by
  unfold w_Works_isThread at h
  refine E_blk (lv' := [some (vr (some (10, this))), some (vi a1), some (vi a2)]) (st' := [vi a1, vr (some (10, this))]) (M1 := M) (pc' := 2) (tb_Works hγ) [.aload_n 0, .iload_n 1] (by decide +kernel) rfl rfl trivial ?_
  refine E_callV (κ' := k_Works_isWorld) (As := [vi a1]) (st := []) mv_Works_isWorld (Or.inl (tbk_mem (j := 6) (k := 32) rfl)) rfl (by decide +kernel) (Nat.le_of_ble_eq_true rfl) (Nat.le_of_ble_eq_true rfl) rfl (by decide) (lk_Works_isWorld hγ this a1 _ M h) (fun _ _ => Qi_r) (fun v M1 hp => Qi_k (R := fun st => E γ k_Works_isThread 2 5 [some (vr (some (10, this))), some (vi a1), some (vi a2)] st M1 (Qi Q)) hp (fun r2 h => ?_))
  refine E_if_eq (off := 16) (tgt := 21) (by decide +kernel) (by decide) (fun b3 => ?_) (fun b3 => ?_)
  · rw [if_pos b3] at h
    refine E_blk (lv' := [some (vr (some (10, this))), some (vi a1), some (vi a2)]) (st' := [vi (0 : Int32)]) (M1 := M1) (pc' := 22) (tb_Works hγ) [.iconst 0] (by decide +kernel) rfl rfl trivial ?_
    exact E_zret rfl (Or.inl rfl) (by decide +kernel) h
  · rw [if_neg b3] at h
    refine E_blk (lv' := [some (vr (some (10, this))), some (vi a1), some (vi a2)]) (st' := [vi (2 : Int32), vi (0 : Int32), vi a2]) (M1 := M1) (pc' := 11) (tb_Works hγ) [.iload_n 2, .iconst 0, .iconst 2] (by decide +kernel) rfl rfl trivial ?_
    refine E_callS (κ' := k_Works_isIn) (As := [vi a2, vi (0 : Int32), vi (2 : Int32)]) (st := []) ms_Works_isIn (Or.inl (tbk_mem (j := 5) (k := 237) rfl)) rfl (by decide +kernel) (Nat.le_of_ble_eq_true rfl) (Nat.le_of_ble_eq_true rfl) rfl (by decide) (lk_Works_isIn hγ a2 (0 : Int32) (2 : Int32) _ M1 h) (fun _ _ => Qi_r) (fun v M4 hp => Qi_k (R := fun st => E γ k_Works_isThread 2 14 [some (vr (some (10, this))), some (vi a1), some (vi a2)] st M4 (Qi Q)) hp (fun r5 h => ?_))
    refine E_if_eq (off := 7) (tgt := 21) (by decide +kernel) (by decide) (fun b6 => ?_) (fun b6 => ?_)
    · rw [if_pos b6] at h
      refine E_blk (lv' := [some (vr (some (10, this))), some (vi a1), some (vi a2)]) (st' := [vi (0 : Int32)]) (M1 := M4) (pc' := 22) (tb_Works hγ) [.iconst 0] (by decide +kernel) rfl rfl trivial ?_
      exact E_zret rfl (Or.inl rfl) (by decide +kernel) h
    · rw [if_neg b6] at h
      refine E_blk (lv' := [some (vr (some (10, this))), some (vi a1), some (vi a2)]) (st' := [vi (1 : Int32)]) (M1 := M4) (pc' := 18) (tb_Works hγ) [.iconst 1] (by decide +kernel) rfl rfl trivial ?_
      refine E_goto (off := 4) (tgt := 22) (by decide +kernel) (by decide) ?_
      exact E_zret rfl (Or.inr rfl) (by decide +kernel) h
def w_Reader_asked_L47 (this : Nat) (Q : Mem → Prop) (X : Mem → Prop) : Nat → Nat → Mem → Prop
  | 0, _, _ => False
  | n + 1, s0, M => ((0 : Int32) = 0 ∨ (0 : Int32) = 1) ∧ s0 = 0 ∧ X (sI M 3 this 17 (0 : Int32))
def w_Reader_asked (this : Nat) (a1 : Nat) (Q : Mem → Prop) (X : Mem → Prop) (M : Mem) : Prop :=
  ∃ i1, (mR (sR M 3 this 1 (some (5, a1))) 3 this 1) = some (5, i1) ∧ w_Reader_className this (fun r3 M2 => w_Reader_sign this (46 : Int32) (fun M4 => w_Reader_anyName this (fun r6 M5 => ((1 : Int32) = 0 ∨ (1 : Int32) = 1) ∧ w_Reader_types this (fun M8 => ((0 : Int32) = 0 ∨ (0 : Int32) = 1) ∧ w_Reader_result this (fun r11 M10 => w_Reader_end this (fun M12 => ∃ i13, (mR M12 3 this 1) = some (5, i13) ∧ w_Reader_addReference this r3 r6 r11 (fun r15 M14 => ∃ i16, (mR M14 3 this 1) = some (5, i16) ∧ Q (sI M14 5 i16 53 (mI (sR M 3 this 1 (some (5, a1))) 5 i1 53))) (sI M12 5 i13 53 (3 : Int32))) X M10) X (sI M8 3 this 17 (0 : Int32))) (fun M17 => ∃ n19 : Nat, w_Reader_asked_L47 this Q X n19 0 M17) (sI M5 3 this 17 (1 : Int32))) X M4) X M2) X (sR M 3 this 1 (some (5, a1)))
set_option maxRecDepth 4096 in
theorem lk_Reader_asked_L47 {γ : Gm} (hγ : Gk γ) (this : Nat) (Q : Mem → Prop) (X : Mem → Prop) : ∀ (n : Nat) (s0 : Nat) (M : Mem), w_Reader_asked_L47 this Q X n s0 M → E γ k_Reader_asked 7 47 [some (vr (some (3, this))), none, none, none, none, none, none] [vr (some (9, s0))] M (Qx (9, 0) (Qv Q) X) := by
  intro n
  induction n with
  | zero => intro s0 M h; exact h.elim
  | succ n ih =>
    intro s0 M h
    unfold w_Reader_asked_L47 at h
    obtain ⟨c18, h⟩ := h
    refine E_blk (lv' := [some (vr (some (3, this))), none, none, none, none, some (vr (some (9, s0))), none]) (st' := [vr (some (9, s0))]) (M1 := (sI M 3 this 17 (0 : Int32))) (pc' := 56) (tb_Reader hγ) [.astore 5, .aload_n 0, .iconst 0, .putfield 170, .aload 5] (by decide +kernel) rfl rfl ⟨c18, trivial⟩ ?_
    obtain ⟨e0, h⟩ := h
    rw [e0]
    exact E_throw (by decide) rfl (by decide +kernel) h
set_option maxRecDepth 4096 in
theorem lk_Reader_asked {γ : Gm} (hγ : Gk γ) (this : Nat) (a1 : Nat) (Q : Mem → Prop) (X : Mem → Prop) (M : Mem) (h : w_Reader_asked this a1 Q X M) : E γ k_Reader_asked 7 0 [some (vr (some (3, this))), some (vr (some (5, a1))), none, none, none, none, none] [] M (Qx (9, 0) (Qv Q) X) := by
  unfold w_Reader_asked at h
  refine E_blk (lv' := [some (vr (some (3, this))), some (vr (some (5, a1))), none, none, none, none, none]) (st' := [vr (mR (sR M 3 this 1 (some (5, a1))) 3 this 1)]) (M1 := (sR M 3 this 1 (some (5, a1)))) (pc' := 9) (tb_Reader hγ) [.aload_n 0, .aload_n 1, .putfield 52, .aload_n 0, .getfield 52] (by decide +kernel) rfl rfl trivial ?_
  obtain ⟨i1, ei1, h⟩ := h
  rw [ei1]
  refine E_blk (lv' := [some (vr (some (3, this))), some (vr (some (5, a1))), some (vi (mI (sR M 3 this 1 (some (5, a1))) 5 i1 53)), none, none, none, none]) (st' := [vr (some (3, this))]) (M1 := (sR M 3 this 1 (some (5, a1)))) (pc' := 14) (tb_Reader hγ) [.getfield 80, .istore_n 2, .aload_n 0] (by decide +kernel) rfl rfl trivial ?_
  refine E_callX (κ' := k_Reader_className) (As := []) (st := []) mv_Reader_className (Or.inl (tbk_mem (j := 6) (k := 130) rfl)) rfl (by decide +kernel) (Nat.le_of_ble_eq_true rfl) (Nat.le_of_ble_eq_true rfl) rfl (by decide) rfl (lk_Reader_className hγ this _ _ (sR M 3 this 1 (some (5, a1))) h) (fun _ _ => Qi_r) (fun _ h => h) (fun v M2 hp => Qi_k (R := fun st => E γ k_Reader_asked 7 17 [some (vr (some (3, this))), some (vr (some (5, a1))), some (vi (mI (sR M 3 this 1 (some (5, a1))) 5 i1 53)), none, none, none, none] st M2 (Qx (9, 0) (Qv Q) X)) hp (fun r3 h => ?_))
  refine E_blk (lv' := [some (vr (some (3, this))), some (vr (some (5, a1))), some (vi (mI (sR M 3 this 1 (some (5, a1))) 5 i1 53)), some (vi r3), none, none, none]) (st' := [vi (46 : Int32), vr (some (3, this))]) (M1 := M2) (pc' := 21) (tb_Reader hγ) [.istore_n 3, .aload_n 0, .bipush 46] (by decide +kernel) rfl rfl trivial ?_
  refine E_callX (κ' := k_Reader_sign) (As := [vi (46 : Int32)]) (st := []) mv_Reader_sign (Or.inl (tbk_mem (j := 6) (k := 139) rfl)) rfl (by decide +kernel) (Nat.le_of_ble_eq_true rfl) (Nat.le_of_ble_eq_true rfl) rfl (by decide) rfl (lk_Reader_sign hγ this (46 : Int32) _ _ M2 h) (fun _ _ => Qv_r) (fun _ h => h) (fun v M4 hp => Qv_k (R := fun st => E γ k_Reader_asked 7 24 [some (vr (some (3, this))), some (vr (some (5, a1))), some (vi (mI (sR M 3 this 1 (some (5, a1))) 5 i1 53)), some (vi r3), none, none, none] st M4 (Qx (9, 0) (Qv Q) X)) hp (fun h => ?_))
  refine E_blk (lv' := [some (vr (some (3, this))), some (vr (some (5, a1))), some (vi (mI (sR M 3 this 1 (some (5, a1))) 5 i1 53)), some (vi r3), none, none, none]) (st' := [vr (some (3, this))]) (M1 := M4) (pc' := 25) (tb_Reader hγ) [.aload_n 0] (by decide +kernel) rfl rfl trivial ?_
  refine E_callX (κ' := k_Reader_anyName) (As := []) (st := []) mv_Reader_anyName (Or.inl (tbk_mem (j := 6) (k := 172) rfl)) rfl (by decide +kernel) (Nat.le_of_ble_eq_true rfl) (Nat.le_of_ble_eq_true rfl) rfl (by decide) rfl (lk_Reader_anyName hγ this _ _ M4 h) (fun _ _ => Qi_r) (fun _ h => h) (fun v M5 hp => Qi_k (R := fun st => E γ k_Reader_asked 7 28 [some (vr (some (3, this))), some (vr (some (5, a1))), some (vi (mI (sR M 3 this 1 (some (5, a1))) 5 i1 53)), some (vi r3), none, none, none] st M5 (Qx (9, 0) (Qv Q) X)) hp (fun r6 h => ?_))
  obtain ⟨c7, h⟩ := h
  refine E_blk (lv' := [some (vr (some (3, this))), some (vr (some (5, a1))), some (vi (mI (sR M 3 this 1 (some (5, a1))) 5 i1 53)), some (vi r3), some (vi r6), none, none]) (st' := [vr (some (3, this))]) (M1 := (sI M5 3 this 17 (1 : Int32))) (pc' := 36) (tb_Reader hγ) [.istore 4, .aload_n 0, .iconst 1, .putfield 170, .aload_n 0] (by decide +kernel) rfl rfl ⟨c7, trivial⟩ ?_
  refine E_callC (q := (9, 0)) (hp := 47) (ct := 0) (κ' := k_Reader_types) (As := []) (st := []) mv_Reader_types (Or.inl (tbk_mem (j := 6) (k := 207) rfl)) rfl (by decide +kernel) (Nat.le_of_ble_eq_true rfl) (Nat.le_of_ble_eq_true rfl) rfl (by decide) rfl (Or.inl rfl) (lk_Reader_types hγ this _ _ (sI M5 3 this 17 (1 : Int32)) h) (fun _ _ => Qv_r) (fun M17 h => ?_) (fun v M8 hp => Qv_k (R := fun st => E γ k_Reader_asked 7 39 [some (vr (some (3, this))), some (vr (some (5, a1))), some (vi (mI (sR M 3 this 1 (some (5, a1))) 5 i1 53)), some (vi r3), some (vi r6), none, none] st M8 (Qx (9, 0) (Qv Q) X)) hp (fun h => ?_))
  · obtain ⟨n19, h⟩ := h
    refine E_mask [true, false, false, false, false, false, false] rfl ?_
    exact lk_Reader_asked_L47 hγ this Q X n19 0 M17 h
  · obtain ⟨c9, h⟩ := h
    refine E_blk (lv' := [some (vr (some (3, this))), some (vr (some (5, a1))), some (vi (mI (sR M 3 this 1 (some (5, a1))) 5 i1 53)), some (vi r3), some (vi r6), none, none]) (st' := []) (M1 := (sI M8 3 this 17 (0 : Int32))) (pc' := 44) (tb_Reader hγ) [.aload_n 0, .iconst 0, .putfield 170] (by decide +kernel) rfl rfl ⟨c9, trivial⟩ ?_
    refine E_goto (off := 13) (tgt := 57) (by decide +kernel) (by decide) ?_
    refine E_blk (lv' := [some (vr (some (3, this))), some (vr (some (5, a1))), some (vi (mI (sR M 3 this 1 (some (5, a1))) 5 i1 53)), some (vi r3), some (vi r6), none, none]) (st' := [vr (some (3, this))]) (M1 := (sI M8 3 this 17 (0 : Int32))) (pc' := 58) (tb_Reader hγ) [.aload_n 0] (by decide +kernel) rfl rfl trivial ?_
    refine E_callX (κ' := k_Reader_result) (As := []) (st := []) mv_Reader_result (Or.inl (tbk_mem (j := 6) (k := 211) rfl)) rfl (by decide +kernel) (Nat.le_of_ble_eq_true rfl) (Nat.le_of_ble_eq_true rfl) rfl (by decide) rfl (lk_Reader_result hγ this _ _ (sI M8 3 this 17 (0 : Int32)) h) (fun _ _ => Qi_r) (fun _ h => h) (fun v M10 hp => Qi_k (R := fun st => E γ k_Reader_asked 7 61 [some (vr (some (3, this))), some (vr (some (5, a1))), some (vi (mI (sR M 3 this 1 (some (5, a1))) 5 i1 53)), some (vi r3), some (vi r6), none, none] st M10 (Qx (9, 0) (Qv Q) X)) hp (fun r11 h => ?_))
    refine E_blk (lv' := [some (vr (some (3, this))), some (vr (some (5, a1))), some (vi (mI (sR M 3 this 1 (some (5, a1))) 5 i1 53)), some (vi r3), some (vi r6), some (vi r11), none]) (st' := [vr (some (3, this))]) (M1 := M10) (pc' := 64) (tb_Reader hγ) [.istore 5, .aload_n 0] (by decide +kernel) rfl rfl trivial ?_
    refine E_callX (κ' := k_Reader_end) (As := []) (st := []) mv_Reader_end (Or.inl (tbk_mem (j := 6) (k := 191) rfl)) rfl (by decide +kernel) (Nat.le_of_ble_eq_true rfl) (Nat.le_of_ble_eq_true rfl) rfl (by decide) rfl (lk_Reader_end hγ this _ _ M10 h) (fun _ _ => Qv_r) (fun _ h => h) (fun v M12 hp => Qv_k (R := fun st => E γ k_Reader_asked 7 67 [some (vr (some (3, this))), some (vr (some (5, a1))), some (vi (mI (sR M 3 this 1 (some (5, a1))) 5 i1 53)), some (vi r3), some (vi r6), some (vi r11), none] st M12 (Qx (9, 0) (Qv Q) X)) hp (fun h => ?_))
    refine E_blk (lv' := [some (vr (some (3, this))), some (vr (some (5, a1))), some (vi (mI (sR M 3 this 1 (some (5, a1))) 5 i1 53)), some (vi r3), some (vi r6), some (vi r11), none]) (st' := [vr (mR M12 3 this 1)]) (M1 := M12) (pc' := 71) (tb_Reader hγ) [.aload_n 0, .getfield 52] (by decide +kernel) rfl rfl trivial ?_
    obtain ⟨i13, ei13, h⟩ := h
    rw [ei13]
    refine E_blk (lv' := [some (vr (some (3, this))), some (vr (some (5, a1))), some (vi (mI (sR M 3 this 1 (some (5, a1))) 5 i1 53)), some (vi r3), some (vi r6), some (vi r11), none]) (st' := [vi r11, vi r6, vi r3, vr (some (3, this))]) (M1 := (sI M12 5 i13 53 (3 : Int32))) (pc' := 81) (tb_Reader hγ) [.iconst 3, .putfield 80, .aload_n 0, .iload_n 3, .iload 4, .iload 5] (by decide +kernel) rfl rfl trivial ?_
    refine E_callV (κ' := k_Reader_addReference) (As := [vi r3, vi r6, vi r11]) (st := []) mv_Reader_addReference (Or.inl (tbk_mem (j := 7) (k := 24) rfl)) rfl (by decide +kernel) (Nat.le_of_ble_eq_true rfl) (Nat.le_of_ble_eq_true rfl) rfl (by decide) (lk_Reader_addReference hγ this r3 r6 r11 _ (sI M12 5 i13 53 (3 : Int32)) h) (fun _ _ => Qi_r) (fun v M14 hp => Qi_k (R := fun st => E γ k_Reader_asked 7 84 [some (vr (some (3, this))), some (vr (some (5, a1))), some (vi (mI (sR M 3 this 1 (some (5, a1))) 5 i1 53)), some (vi r3), some (vi r6), some (vi r11), none] st M14 (Qx (9, 0) (Qv Q) X)) hp (fun r15 h => ?_))
    refine E_blk (lv' := [some (vr (some (3, this))), some (vr (some (5, a1))), some (vi (mI (sR M 3 this 1 (some (5, a1))) 5 i1 53)), some (vi r3), some (vi r6), some (vi r11), some (vi r15)]) (st' := [vr (mR M14 3 this 1)]) (M1 := M14) (pc' := 90) (tb_Reader hγ) [.istore 6, .aload_n 0, .getfield 52] (by decide +kernel) rfl rfl trivial ?_
    obtain ⟨i16, ei16, h⟩ := h
    rw [ei16]
    refine E_blk (lv' := [some (vr (some (3, this))), some (vr (some (5, a1))), some (vi (mI (sR M 3 this 1 (some (5, a1))) 5 i1 53)), some (vi r3), some (vi r6), some (vi r11), some (vi r15)]) (st' := []) (M1 := (sI M14 5 i16 53 (mI (sR M 3 this 1 (some (5, a1))) 5 i1 53))) (pc' := 94) (tb_Reader hγ) [.iload_n 2, .putfield 80] (by decide +kernel) rfl rfl trivial ?_
    exact (E_vret rfl (by decide +kernel) h).nx
def w_Works_isTaken_j105 (this : Nat) (Q : Int32 → Mem → Prop) (s0 : Nat) (M : Mem) : Prop :=
  Q (0 : Int32) (sI M 10 this 21 (mI M 9 s0 6))
def w_Works_isTaken_j45 (this : Nat) (Q : Int32 → Mem → Prop) (v3 : Int32) (M : Mem) : Prop :=
  w_Works_refuse this (1 : Int32) v3 (fun i4 M3 => w_Works_isTaken_j105 this Q i4 M3) M
def w_Works_isTaken_j77 (this : Nat) (Q : Int32 → Mem → Prop)  (M : Mem) : Prop :=
  w_Reader_nextLine 0 (fun r11 M10 => if r11 = 0 then (Q (1 : Int32) M10) else (w_Works_refuse this (1 : Int32) (mI M10 2 0 4) (fun i14 M13 => w_Works_isTaken_j105 this Q i14 M13) M10)) M
def w_Works_isTaken (this : Nat) (a1 : Nat) (a2 : Int32) (Q : Int32 → Mem → Prop) (M : Mem) : Prop :=
  w_Words_begin 0 0 (mI M 10 this 1) (fun M1 => if (mI M 10 this 1) = 0 then (w_Works_isTaken_j45 this Q (mI M 10 this 1) M1) else (w_Reader_begin 0 (fun r6 M5 => if r6 = 0 then (w_Works_isTaken_j45 this Q (mI M 10 this 1) M5) else (if a2 = (3 : Int32) then (w_Reader_asked 0 a1 (fun M9 => w_Works_isTaken_j77 this Q  M9) (fun M15 => w_Works_isTaken_j105 this Q 0 M15) M5) else (w_Reader_call 0 a1 a2 (fun M16 => w_Works_isTaken_j77 this Q  M16) (fun M17 => w_Works_isTaken_j105 this Q 0 M17) M5))) M1)) (sI (sI M 10 this 1 (0 : Int32)) 10 this 21 (-2 : Int32))
set_option maxRecDepth 4096 in
theorem lk_Works_isTaken_j105 {γ : Gm} (hγ : Gk γ) (this : Nat) (Q : Int32 → Mem → Prop) (s0 : Nat) (M : Mem) (h : w_Works_isTaken_j105 this Q s0 M) : E γ k_Works_isTaken 8 105 [some (vr (some (10, this))), none, none, none, none] [vr (some (9, s0))] M (Qi Q) := by
  unfold w_Works_isTaken_j105 at h
  refine E_blk (lv' := [some (vr (some (10, this))), none, none, none, some (vr (some (9, s0)))]) (st' := [vi (0 : Int32)]) (M1 := (sI M 10 this 21 (mI M 9 s0 6))) (pc' := 117) (tb_Works hγ) [.astore 4, .aload_n 0, .aload 4, .getfield 135, .putfield 93, .iconst 0] (by decide +kernel) rfl rfl trivial ?_
  exact E_zret rfl (Or.inl rfl) (by decide +kernel) h
set_option maxRecDepth 4096 in
theorem lk_Works_isTaken_j45 {γ : Gm} (hγ : Gk γ) (this : Nat) (Q : Int32 → Mem → Prop) (v3 : Int32) (M : Mem) (h : w_Works_isTaken_j45 this Q v3 M) : E γ k_Works_isTaken 8 45 [some (vr (some (10, this))), none, none, some (vi v3), none] [] M (Qi Q) := by
  unfold w_Works_isTaken_j45 at h
  refine E_blk (lv' := [some (vr (some (10, this))), none, none, some (vi v3), none]) (st' := [vi v3, vi (1 : Int32), vr (some (10, this))]) (M1 := M) (pc' := 48) (tb_Works hγ) [.aload_n 0, .iconst 1, .iload_n 3] (by decide +kernel) rfl rfl trivial ?_
  refine E_callV (κ' := k_Works_refuse) (As := [vi (1 : Int32), vi v3]) (st := []) mv_Works_refuse (Or.inl (tbk_mem (j := 8) (k := 87) rfl)) rfl (by decide +kernel) (Nat.le_of_ble_eq_true rfl) (Nat.le_of_ble_eq_true rfl) rfl (by decide) (lk_Works_refuse hγ this (1 : Int32) v3 _ M h) (fun _ _ => Qr_r) (fun v M3 hp => Qr_k (R := fun st => E γ k_Works_isTaken 8 51 [some (vr (some (10, this))), none, none, some (vi v3), none] st M3 (Qi Q)) hp (fun i4 h => ?_))
  refine E_throwC (q := (9, i4)) (hp := 105) (ct := 28) (show (9 : Nat) ≠ 0 by decide) rfl (Or.inr ⟨by decide, (show (9 : Nat) < 20 by decide), _, rfl, (tbk_mem (j := 1) (k := 175) rfl)⟩) (by decide +kernel) ?_
  refine E_mask [true, false, false, false, false] rfl ?_
  exact lk_Works_isTaken_j105 hγ this Q i4 M3 h
set_option maxRecDepth 4096 in
theorem lk_Works_isTaken_j77 {γ : Gm} (hγ : Gk γ) (this : Nat) (Q : Int32 → Mem → Prop)  (M : Mem) (h : w_Works_isTaken_j77 this Q  M) : E γ k_Works_isTaken 8 77 [some (vr (some (10, this))), none, none, none, none] [] M (Qi Q) := by
  unfold w_Works_isTaken_j77 at h
  refine E_blk (lv' := [some (vr (some (10, this))), none, none, none, none]) (st' := [vr (some (3, 0))]) (M1 := M) (pc' := 81) (tb_Works hγ) [.aload_n 0, .getfield 40] (by decide +kernel) rfl rfl trivial ?_
  refine E_callV (κ' := k_Reader_nextLine) (As := []) (st := []) mv_Reader_nextLine (Or.inr ⟨"ClassWorks", (tbk_mem (j := 8) (k := 96) rfl)⟩) rfl (by decide +kernel) (Nat.le_of_ble_eq_true rfl) (Nat.le_of_ble_eq_true rfl) rfl (by decide) (lk_Reader_nextLine hγ 0 _ M h) (fun _ _ => Qi_r) (fun v M10 hp => Qi_k (R := fun st => E γ k_Works_isTaken 8 84 [some (vr (some (10, this))), none, none, none, none] st M10 (Qi Q)) hp (fun r11 h => ?_))
  refine E_if_eq (off := 19) (tgt := 103) (by decide +kernel) (by decide) (fun b12 => ?_) (fun b12 => ?_)
  · rw [if_pos b12] at h
    refine E_blk (lv' := [some (vr (some (10, this))), none, none, none, none]) (st' := [vi (1 : Int32)]) (M1 := M10) (pc' := 104) (tb_Works hγ) [.iconst 1] (by decide +kernel) rfl rfl trivial ?_
    exact E_zret rfl (Or.inr rfl) (by decide +kernel) h
  · rw [if_neg b12] at h
    refine E_blk (lv' := [some (vr (some (10, this))), none, none, none, none]) (st' := [vi (mI M10 2 0 4), vi (1 : Int32), vr (some (10, this))]) (M1 := M10) (pc' := 99) (tb_Works hγ) [.aload_n 0, .iconst 1, .aload_n 0, .getfield 40, .getfield 161, .getfield 464] (by decide +kernel) rfl rfl trivial ?_
    refine E_callV (κ' := k_Works_refuse) (As := [vi (1 : Int32), vi (mI M10 2 0 4)]) (st := []) mv_Works_refuse (Or.inl (tbk_mem (j := 8) (k := 87) rfl)) rfl (by decide +kernel) (Nat.le_of_ble_eq_true rfl) (Nat.le_of_ble_eq_true rfl) rfl (by decide) (lk_Works_refuse hγ this (1 : Int32) (mI M10 2 0 4) _ M10 h) (fun _ _ => Qr_r) (fun v M13 hp => Qr_k (R := fun st => E γ k_Works_isTaken 8 102 [some (vr (some (10, this))), none, none, none, none] st M13 (Qi Q)) hp (fun i14 h => ?_))
    refine E_throwC (q := (9, i14)) (hp := 105) (ct := 28) (show (9 : Nat) ≠ 0 by decide) rfl (Or.inr ⟨by decide, (show (9 : Nat) < 20 by decide), _, rfl, (tbk_mem (j := 1) (k := 175) rfl)⟩) (by decide +kernel) ?_
    refine E_mask [true, false, false, false, false] rfl ?_
    exact lk_Works_isTaken_j105 hγ this Q i14 M13 h
set_option maxRecDepth 4096 in
theorem lk_Works_isTaken {γ : Gm} (hγ : Gk γ) (this : Nat) (a1 : Nat) (a2 : Int32) (Q : Int32 → Mem → Prop) (M : Mem) (h : w_Works_isTaken this a1 a2 Q M) : E γ k_Works_isTaken 8 0 [some (vr (some (10, this))), some (vr (some (5, a1))), some (vi a2), none, none] [] M (Qi Q) := by
  unfold w_Works_isTaken at h
  refine E_blk (lv' := [some (vr (some (10, this))), some (vr (some (5, a1))), some (vi a2), some (vi (mI M 10 this 1)), none]) (st' := [vi (mI M 10 this 1), vr (some (400, 0)), vr (some (2, 0))]) (M1 := (sI (sI M 10 this 1 (0 : Int32)) 10 this 21 (-2 : Int32))) (pc' := 28) (tb_Works hγ) [.aload_n 0, .getfield 121, .istore_n 3, .aload_n 0, .iconst 0, .putfield 121, .aload_n 0, .bipush (.negSucc 1), .putfield 93, .aload_n 0, .getfield 40, .getfield 161, .aload_n 0, .getfield 9, .iload_n 3] (by decide +kernel) rfl rfl trivial ?_
  refine E_callV (κ' := k_Words_begin) (As := [vr (some (400, 0)), vi (mI M 10 this 1)]) (st := []) mv_Words_begin (Or.inl (tbk_mem (j := 8) (k := 85) rfl)) rfl (by decide +kernel) (Nat.le_of_ble_eq_true rfl) (Nat.le_of_ble_eq_true rfl) rfl (by decide) (lk_Words_begin hγ 0 0 (mI M 10 this 1) _ (sI (sI M 10 this 1 (0 : Int32)) 10 this 21 (-2 : Int32)) h) (fun _ _ => Qv_r) (fun v M1 hp => Qv_k (R := fun st => E γ k_Works_isTaken 8 31 [some (vr (some (10, this))), some (vr (some (5, a1))), some (vi a2), some (vi (mI M 10 this 1)), none] st M1 (Qi Q)) hp (fun h => ?_))
  refine E_blk (lv' := [some (vr (some (10, this))), some (vr (some (5, a1))), some (vi a2), some (vi (mI M 10 this 1)), none]) (st' := [vi (mI M 10 this 1)]) (M1 := M1) (pc' := 32) (tb_Works hγ) [.iload_n 3] (by decide +kernel) rfl rfl trivial ?_
  refine E_if_eq (off := 13) (tgt := 45) (by decide +kernel) (by decide) (fun b2 => ?_) (fun b2 => ?_)
  · rw [if_pos b2] at h
    refine E_mask [true, false, false, true, false] rfl ?_
    exact lk_Works_isTaken_j45 hγ this Q (mI M 10 this 1) M1 h
  · rw [if_neg b2] at h
    refine E_blk (lv' := [some (vr (some (10, this))), some (vr (some (5, a1))), some (vi a2), some (vi (mI M 10 this 1)), none]) (st' := [vr (some (3, 0))]) (M1 := M1) (pc' := 39) (tb_Works hγ) [.aload_n 0, .getfield 40] (by decide +kernel) rfl rfl trivial ?_
    refine E_callV (κ' := k_Reader_begin) (As := []) (st := []) mv_Reader_begin (Or.inr ⟨"ClassWorks", (tbk_mem (j := 8) (k := 86) rfl)⟩) rfl (by decide +kernel) (Nat.le_of_ble_eq_true rfl) (Nat.le_of_ble_eq_true rfl) rfl (by decide) (lk_Reader_begin hγ 0 _ M1 h) (fun _ _ => Qi_r) (fun v M5 hp => Qi_k (R := fun st => E γ k_Works_isTaken 8 42 [some (vr (some (10, this))), some (vr (some (5, a1))), some (vi a2), some (vi (mI M 10 this 1)), none] st M5 (Qi Q)) hp (fun r6 h => ?_))
    refine E_if_ne (off := 10) (tgt := 52) (by decide +kernel) (by decide) (fun b7 => ?_) (fun b7 => ?_)
    · rw [if_pos b7] at h
      refine E_mask [true, false, false, true, false] rfl ?_
      exact lk_Works_isTaken_j45 hγ this Q (mI M 10 this 1) M5 h
    · rw [if_neg b7] at h
      refine E_blk (lv' := [some (vr (some (10, this))), some (vr (some (5, a1))), some (vi a2), some (vi (mI M 10 this 1)), none]) (st' := [vi (3 : Int32), vi a2]) (M1 := M5) (pc' := 54) (tb_Works hγ) [.iload_n 2, .iconst 3] (by decide +kernel) rfl rfl trivial ?_
      refine E_icmp_ne (off := 14) (tgt := 68) (by decide +kernel) (by decide) (fun b8 => ?_) (fun b8 => ?_)
      · rw [if_pos b8] at h
        refine E_blk (lv' := [some (vr (some (10, this))), some (vr (some (5, a1))), some (vi a2), some (vi (mI M 10 this 1)), none]) (st' := [vr (some (5, a1)), vr (some (3, 0))]) (M1 := M5) (pc' := 62) (tb_Works hγ) [.aload_n 0, .getfield 40, .aload_n 1] (by decide +kernel) rfl rfl trivial ?_
        refine E_callC (q := (9, 0)) (hp := 105) (ct := 28) (κ' := k_Reader_asked) (As := [vr (some (5, a1))]) (st := []) mv_Reader_asked (Or.inl (tbk_mem (j := 8) (k := 88) rfl)) rfl (by decide +kernel) (Nat.le_of_ble_eq_true rfl) (Nat.le_of_ble_eq_true rfl) rfl (by decide) rfl (Or.inr ⟨by decide, (show (9 : Nat) < 20 by decide), _, rfl, (tbk_mem (j := 1) (k := 175) rfl)⟩) (lk_Reader_asked hγ 0 a1 _ _ M5 h) (fun _ _ => Qv_r) (fun M15 h => ?_) (fun v M9 hp => Qv_k (R := fun st => E γ k_Works_isTaken 8 65 [some (vr (some (10, this))), some (vr (some (5, a1))), some (vi a2), some (vi (mI M 10 this 1)), none] st M9 (Qi Q)) hp (fun h => ?_))
        · refine E_mask [true, false, false, false, false] rfl ?_
          exact lk_Works_isTaken_j105 hγ this Q 0 M15 h
        · refine E_goto (off := 12) (tgt := 77) (by decide +kernel) (by decide) ?_
          refine E_mask [true, false, false, false, false] rfl ?_
          exact lk_Works_isTaken_j77 hγ this Q  M9 h
      · rw [if_neg b8] at h
        refine E_blk (lv' := [some (vr (some (10, this))), some (vr (some (5, a1))), some (vi a2), some (vi (mI M 10 this 1)), none]) (st' := [vi a2, vr (some (5, a1)), vr (some (3, 0))]) (M1 := M5) (pc' := 74) (tb_Works hγ) [.aload_n 0, .getfield 40, .aload_n 1, .iload_n 2] (by decide +kernel) rfl rfl trivial ?_
        refine E_callC (q := (9, 0)) (hp := 105) (ct := 28) (κ' := k_Reader_call) (As := [vr (some (5, a1)), vi a2]) (st := []) mv_Reader_call (Or.inl (tbk_mem (j := 8) (k := 92) rfl)) rfl (by decide +kernel) (Nat.le_of_ble_eq_true rfl) (Nat.le_of_ble_eq_true rfl) rfl (by decide) rfl (Or.inr ⟨by decide, (show (9 : Nat) < 20 by decide), _, rfl, (tbk_mem (j := 1) (k := 175) rfl)⟩) (lk_Reader_call hγ 0 a1 a2 _ _ M5 h) (fun _ _ => Qv_r) (fun M17 h => ?_) (fun v M16 hp => Qv_k (R := fun st => E γ k_Works_isTaken 8 77 [some (vr (some (10, this))), some (vr (some (5, a1))), some (vi a2), some (vi (mI M 10 this 1)), none] st M16 (Qi Q)) hp (fun h => ?_))
        · refine E_mask [true, false, false, false, false] rfl ?_
          exact lk_Works_isTaken_j105 hγ this Q 0 M17 h
        · refine E_mask [true, false, false, false, false] rfl ?_
          exact lk_Works_isTaken_j77 hγ this Q  M16 h
def w_Works_call (this : Nat) (a1 : Int32) (a2 : Int32) (Q : Int32 → Mem → Prop) (M : Mem) : Prop :=
  w_Works_isThread this a1 a2 (fun r2 M1 => if r2 = 0 then (Q (-1 : Int32) M1) else (vp_in a1 (mL M1 702 0) ∧ ∃ i5, (mR M1 702 0 a1.toNatClampNeg) = some (5, i5) ∧ vp_in a2 (mL M1 700 i5) ∧ ∃ i7, (mR M1 700 i5 a2.toNatClampNeg) = some (7, i7) ∧ if (mI M1 7 i7 11) = (1 : Int32) then (Q (-2 : Int32) M1) else (w_Line_clear i7 (fun M9 => w_Works_isTaken this i5 a2 (fun r11 M10 => if r11 = 0 then (Q (-11 : Int32) M10) else (w_Line_call i7 0 (fun M13 => Q (0 : Int32) M13) M10)) M9) M1))) M
set_option maxRecDepth 4096 in
theorem lk_Works_call {γ : Gm} (hγ : Gk γ) (this : Nat) (a1 : Int32) (a2 : Int32) (Q : Int32 → Mem → Prop) (M : Mem) (h : w_Works_call this a1 a2 Q M) : E γ k_Works_call 9 0 [some (vr (some (10, this))), some (vi a1), some (vi a2), none, none] [] M (Qi Q) := by
  unfold w_Works_call at h
  refine E_blk (lv' := [some (vr (some (10, this))), some (vi a1), some (vi a2), none, none]) (st' := [vi a2, vi a1, vr (some (10, this))]) (M1 := M) (pc' := 3) (tb_Works hγ) [.aload_n 0, .iload_n 1, .iload_n 2] (by decide +kernel) rfl rfl trivial ?_
  refine E_callV (κ' := k_Works_isThread) (As := [vi a1, vi a2]) (st := []) mv_Works_isThread (Or.inl (tbk_mem (j := 8) (k := 76) rfl)) rfl (by decide +kernel) (Nat.le_of_ble_eq_true rfl) (Nat.le_of_ble_eq_true rfl) rfl (by decide) (lk_Works_isThread hγ this a1 a2 _ M h) (fun _ _ => Qi_r) (fun v M1 hp => Qi_k (R := fun st => E γ k_Works_call 9 6 [some (vr (some (10, this))), some (vi a1), some (vi a2), none, none] st M1 (Qi Q)) hp (fun r2 h => ?_))
  refine E_if_ne (off := 5) (tgt := 11) (by decide +kernel) (by decide) (fun b3 => ?_) (fun b3 => ?_)
  · rw [if_pos b3] at h
    refine E_blk (lv' := [some (vr (some (10, this))), some (vi a1), some (vi a2), none, none]) (st' := [vi (-1 : Int32)]) (M1 := M1) (pc' := 10) (tb_Works hγ) [.iconst (.negSucc 0)] (by decide +kernel) rfl rfl trivial ?_
    exact E_iret rfl (by decide +kernel) h
  · rw [if_neg b3] at h
    obtain ⟨c4, h⟩ := h
    refine E_blk (lv' := [some (vr (some (10, this))), some (vi a1), some (vi a2), none, none]) (st' := [vr (mR M1 702 0 a1.toNatClampNeg)]) (M1 := M1) (pc' := 17) (tb_Works hγ) [.aload_n 0, .getfield 85, .iload_n 1, .aaload] (by decide +kernel) rfl rfl ⟨c4, trivial⟩ ?_
    obtain ⟨i5, ei5, h⟩ := h
    rw [ei5]
    obtain ⟨c6, h⟩ := h
    refine E_blk (lv' := [some (vr (some (10, this))), some (vi a1), some (vi a2), some (vr (some (5, i5))), none]) (st' := [vr (mR M1 700 i5 a2.toNatClampNeg)]) (M1 := M1) (pc' := 27) (tb_Works hγ) [.astore_n 3, .aload_n 3, .getfield 141, .getfield 180, .iload_n 2, .aaload] (by decide +kernel) rfl rfl ⟨c6, trivial⟩ ?_
    obtain ⟨i7, ei7, h⟩ := h
    rw [ei7]
    refine E_blk (lv' := [some (vr (some (10, this))), some (vi a1), some (vi a2), some (vr (some (5, i5))), some (vr (some (7, i7)))]) (st' := [vi (1 : Int32), vi (mI M1 7 i7 11)]) (M1 := M1) (pc' := 35) (tb_Works hγ) [.astore 4, .aload 4, .getfield 196, .iconst 1] (by decide +kernel) rfl rfl trivial ?_
    refine E_icmp_ne (off := 6) (tgt := 41) (by decide +kernel) (by decide) (fun b8 => ?_) (fun b8 => ?_)
    · rw [if_pos b8] at h
      refine E_blk (lv' := [some (vr (some (10, this))), some (vi a1), some (vi a2), some (vr (some (5, i5))), some (vr (some (7, i7)))]) (st' := [vi (-2 : Int32)]) (M1 := M1) (pc' := 40) (tb_Works hγ) [.bipush (.negSucc 1)] (by decide +kernel) rfl rfl trivial ?_
      exact E_iret rfl (by decide +kernel) h
    · rw [if_neg b8] at h
      refine E_blk (lv' := [some (vr (some (10, this))), some (vi a1), some (vi a2), some (vr (some (5, i5))), some (vr (some (7, i7)))]) (st' := [vr (some (7, i7))]) (M1 := M1) (pc' := 43) (tb_Works hγ) [.aload 4] (by decide +kernel) rfl rfl trivial ?_
      refine E_callV (κ' := k_Line_clear) (As := []) (st := []) mv_Line_clear (Or.inl (tbk_mem (j := 8) (k := 80) rfl)) rfl (by decide +kernel) (Nat.le_of_ble_eq_true rfl) (Nat.le_of_ble_eq_true rfl) rfl (by decide) (lk_Line_clear hγ i7 _ M1 h) (fun _ _ => Qv_r) (fun v M9 hp => Qv_k (R := fun st => E γ k_Works_call 9 46 [some (vr (some (10, this))), some (vi a1), some (vi a2), some (vr (some (5, i5))), some (vr (some (7, i7)))] st M9 (Qi Q)) hp (fun h => ?_))
      refine E_blk (lv' := [some (vr (some (10, this))), some (vi a1), some (vi a2), some (vr (some (5, i5))), some (vr (some (7, i7)))]) (st' := [vi a2, vr (some (5, i5)), vr (some (10, this))]) (M1 := M9) (pc' := 49) (tb_Works hγ) [.aload_n 0, .aload_n 3, .iload_n 2] (by decide +kernel) rfl rfl trivial ?_
      refine E_callV (κ' := k_Works_isTaken) (As := [vr (some (5, i5)), vi a2]) (st := []) mv_Works_isTaken (Or.inl (tbk_mem (j := 8) (k := 81) rfl)) rfl (by decide +kernel) (Nat.le_of_ble_eq_true rfl) (Nat.le_of_ble_eq_true rfl) rfl (by decide) (lk_Works_isTaken hγ this i5 a2 _ M9 h) (fun _ _ => Qi_r) (fun v M10 hp => Qi_k (R := fun st => E γ k_Works_call 9 52 [some (vr (some (10, this))), some (vi a1), some (vi a2), some (vr (some (5, i5))), some (vr (some (7, i7)))] st M10 (Qi Q)) hp (fun r11 h => ?_))
      refine E_if_ne (off := 6) (tgt := 58) (by decide +kernel) (by decide) (fun b12 => ?_) (fun b12 => ?_)
      · rw [if_pos b12] at h
        refine E_blk (lv' := [some (vr (some (10, this))), some (vi a1), some (vi a2), some (vr (some (5, i5))), some (vr (some (7, i7)))]) (st' := [vi (-11 : Int32)]) (M1 := M10) (pc' := 57) (tb_Works hγ) [.bipush (.negSucc 10)] (by decide +kernel) rfl rfl trivial ?_
        exact E_iret rfl (by decide +kernel) h
      · rw [if_neg b12] at h
        refine E_blk (lv' := [some (vr (some (10, this))), some (vi a1), some (vi a2), some (vr (some (5, i5))), some (vr (some (7, i7)))]) (st' := [vr (some (30, 0)), vr (some (7, i7))]) (M1 := M10) (pc' := 67) (tb_Works hγ) [.aload 4, .aload_n 0, .getfield 40, .getfield 184] (by decide +kernel) rfl rfl trivial ?_
        refine E_callV (κ' := k_Line_call) (As := [vr (some (30, 0))]) (st := []) mv_Line_call (Or.inl (tbk_mem (j := 8) (k := 97) rfl)) rfl (by decide +kernel) (Nat.le_of_ble_eq_true rfl) (Nat.le_of_ble_eq_true rfl) rfl (by decide) (lk_Line_call hγ i7 0 _ M10 h) (fun _ _ => Qv_r) (fun v M13 hp => Qv_k (R := fun st => E γ k_Works_call 9 70 [some (vr (some (10, this))), some (vi a1), some (vi a2), some (vr (some (5, i5))), some (vr (some (7, i7)))] st M13 (Qi Q)) hp (fun h => ?_))
        refine E_blk (lv' := [some (vr (some (10, this))), some (vi a1), some (vi a2), some (vr (some (5, i5))), some (vr (some (7, i7)))]) (st' := [vi (0 : Int32)]) (M1 := M13) (pc' := 71) (tb_Works hγ) [.iconst 0] (by decide +kernel) rfl rfl trivial ?_
        exact E_iret rfl (by decide +kernel) h
def w_Machine_isOn (this : Nat) (Q : Int32 → Mem → Prop) (M : Mem) : Prop :=
  vp_in (0 : Int32) (mL M 700 this) ∧ ∃ i2, (mR M 700 this (0 : Int32).toNatClampNeg) = some (7, i2) ∧ if (mI M 7 i2 11) = (1 : Int32) then (Q (1 : Int32) M) else (vp_in (1 : Int32) (mL M 700 this) ∧ ∃ i5, (mR M 700 this (1 : Int32).toNatClampNeg) = some (7, i5) ∧ if (mI M 7 i5 11) = (1 : Int32) then (Q (1 : Int32) M) else (vp_in (2 : Int32) (mL M 700 this) ∧ ∃ i8, (mR M 700 this (2 : Int32).toNatClampNeg) = some (7, i8) ∧ if (mI M 7 i8 11) = (1 : Int32) then (Q (1 : Int32) M) else (Q (0 : Int32) M)))
set_option maxRecDepth 4096 in
theorem lk_Machine_isOn {γ : Gm} (hγ : Gk γ) (this : Nat) (Q : Int32 → Mem → Prop) (M : Mem) (h : w_Machine_isOn this Q M) : E γ k_Machine_isOn 0 0 [some (vr (some (6, this)))] [] M (Qi Q) := by
  unfold w_Machine_isOn at h
  obtain ⟨c1, h⟩ := h
  refine E_blk (lv' := [some (vr (some (6, this)))]) (st' := [vr (mR M 700 this (0 : Int32).toNatClampNeg)]) (M1 := M) (pc' := 6) (tb_Machine hγ) [.aload_n 0, .getfield 20, .iconst 0, .aaload] (by decide +kernel) rfl rfl ⟨c1, trivial⟩ ?_
  obtain ⟨i2, ei2, h⟩ := h
  rw [ei2]
  refine E_blk (lv' := [some (vr (some (6, this)))]) (st' := [vi (1 : Int32), vi (mI M 7 i2 11)]) (M1 := M) (pc' := 10) (tb_Machine hγ) [.getfield 149, .iconst 1] (by decide +kernel) rfl rfl trivial ?_
  refine E_icmp_eq (off := 29) (tgt := 39) (by decide +kernel) (by decide) (fun b3 => ?_) (fun b3 => ?_)
  · rw [if_pos b3] at h
    refine E_blk (lv' := [some (vr (some (6, this)))]) (st' := [vi (1 : Int32)]) (M1 := M) (pc' := 40) (tb_Machine hγ) [.iconst 1] (by decide +kernel) rfl rfl trivial ?_
    refine E_goto (off := 4) (tgt := 44) (by decide +kernel) (by decide) ?_
    exact E_zret rfl (Or.inr rfl) (by decide +kernel) h
  · rw [if_neg b3] at h
    obtain ⟨c4, h⟩ := h
    refine E_blk (lv' := [some (vr (some (6, this)))]) (st' := [vr (mR M 700 this (1 : Int32).toNatClampNeg)]) (M1 := M) (pc' := 19) (tb_Machine hγ) [.aload_n 0, .getfield 20, .iconst 1, .aaload] (by decide +kernel) rfl rfl ⟨c4, trivial⟩ ?_
    obtain ⟨i5, ei5, h⟩ := h
    rw [ei5]
    refine E_blk (lv' := [some (vr (some (6, this)))]) (st' := [vi (1 : Int32), vi (mI M 7 i5 11)]) (M1 := M) (pc' := 23) (tb_Machine hγ) [.getfield 149, .iconst 1] (by decide +kernel) rfl rfl trivial ?_
    refine E_icmp_eq (off := 16) (tgt := 39) (by decide +kernel) (by decide) (fun b6 => ?_) (fun b6 => ?_)
    · rw [if_pos b6] at h
      refine E_blk (lv' := [some (vr (some (6, this)))]) (st' := [vi (1 : Int32)]) (M1 := M) (pc' := 40) (tb_Machine hγ) [.iconst 1] (by decide +kernel) rfl rfl trivial ?_
      refine E_goto (off := 4) (tgt := 44) (by decide +kernel) (by decide) ?_
      exact E_zret rfl (Or.inr rfl) (by decide +kernel) h
    · rw [if_neg b6] at h
      obtain ⟨c7, h⟩ := h
      refine E_blk (lv' := [some (vr (some (6, this)))]) (st' := [vr (mR M 700 this (2 : Int32).toNatClampNeg)]) (M1 := M) (pc' := 32) (tb_Machine hγ) [.aload_n 0, .getfield 20, .iconst 2, .aaload] (by decide +kernel) rfl rfl ⟨c7, trivial⟩ ?_
      obtain ⟨i8, ei8, h⟩ := h
      rw [ei8]
      refine E_blk (lv' := [some (vr (some (6, this)))]) (st' := [vi (1 : Int32), vi (mI M 7 i8 11)]) (M1 := M) (pc' := 36) (tb_Machine hγ) [.getfield 149, .iconst 1] (by decide +kernel) rfl rfl trivial ?_
      refine E_icmp_ne (off := 7) (tgt := 43) (by decide +kernel) (by decide) (fun b9 => ?_) (fun b9 => ?_)
      · rw [if_pos b9] at h
        refine E_blk (lv' := [some (vr (some (6, this)))]) (st' := [vi (1 : Int32)]) (M1 := M) (pc' := 40) (tb_Machine hγ) [.iconst 1] (by decide +kernel) rfl rfl trivial ?_
        refine E_goto (off := 4) (tgt := 44) (by decide +kernel) (by decide) ?_
        exact E_zret rfl (Or.inr rfl) (by decide +kernel) h
      · rw [if_neg b9] at h
        refine E_blk (lv' := [some (vr (some (6, this)))]) (st' := [vi (0 : Int32)]) (M1 := M) (pc' := 44) (tb_Machine hγ) [.iconst 0] (by decide +kernel) rfl rfl trivial ?_
        exact E_zret rfl (Or.inl rfl) (by decide +kernel) h
def w_Works_step_j70 (this : Nat) (Q : Int32 → Mem → Prop) (v2 : Int32) (v3 : Nat) (M : Mem) : Prop :=
  w_Machine_isOn v3 (fun r19 M18 => if r19 = 0 then (Q (0 : Int32) M18) else (if v2 ≤ (mI M18 10 this 8) then (w_Machine_go v3 v2 (fun r23 M22 => w_Machine_isOn v3 (fun r25 M24 => if r25 = 0 then (Q (0 : Int32) M24) else (if r23 = 0 then (Q (3 : Int32) M24) else (Q (1 : Int32) M24))) M22) M18) else (Q (-3 : Int32) M18))) M
def w_Works_step (this : Nat) (a1 : Int32) (a2 : Int32) (Q : Int32 → Mem → Prop) (M : Mem) : Prop :=
  w_Works_isWorld this a1 (fun r2 M1 => if r2 = 0 then (Q (-1 : Int32) M1) else (w_Works_isIn a2 (1 : Int32) (4000 : Int32) (fun r5 M4 => if r5 = 0 then (Q (-1 : Int32) M4) else (vp_in a1 (mL M4 702 0) ∧ ∃ i8, (mR M4 702 0 a1.toNatClampNeg) = some (5, i8) ∧ vp_in (0 : Int32) (mL M4 700 i8) ∧ ∃ i10, (mR M4 700 i8 (0 : Int32).toNatClampNeg) = some (7, i10) ∧ if (mI M4 7 i10 10) = 0 then (vp_in (1 : Int32) (mL M4 700 i8) ∧ ∃ i13, (mR M4 700 i8 (1 : Int32).toNatClampNeg) = some (7, i13) ∧ if (mI M4 7 i13 10) = 0 then (vp_in (2 : Int32) (mL M4 700 i8) ∧ ∃ i16, (mR M4 700 i8 (2 : Int32).toNatClampNeg) = some (7, i16) ∧ if (mI M4 7 i16 10) = 0 then (Q (-2 : Int32) M4) else (w_Works_step_j70 this Q a2 i8 M4)) else (w_Works_step_j70 this Q a2 i8 M4)) else (w_Works_step_j70 this Q a2 i8 M4))) M1)) M
set_option maxRecDepth 4096 in
theorem lk_Works_step_j70 {γ : Gm} (hγ : Gk γ) (this : Nat) (Q : Int32 → Mem → Prop) (v2 : Int32) (v3 : Nat) (M : Mem) (h : w_Works_step_j70 this Q v2 v3 M) : E γ k_Works_step 138 70 [some (vr (some (10, this))), none, some (vi v2), some (vr (some (6, v3))), none] [] M (Qi Q) := by
  unfold w_Works_step_j70 at h
  refine E_blk (lv' := [some (vr (some (10, this))), none, some (vi v2), some (vr (some (6, v3))), none]) (st' := [vr (some (6, v3))]) (M1 := M) (pc' := 71) (tb_Works hγ) [.aload_n 3] (by decide +kernel) rfl rfl trivial ?_
  refine E_callV (κ' := k_Machine_isOn) (As := []) (st := []) mv_Machine_isOn (Or.inl (tbk_mem (j := 8) (k := 107) rfl)) rfl (by decide +kernel) (Nat.le_of_ble_eq_true rfl) (Nat.le_of_ble_eq_true rfl) rfl (by decide) (lk_Machine_isOn hγ v3 _ M h) (fun _ _ => Qi_r) (fun v M18 hp => Qi_k (R := fun st => E γ k_Works_step 138 74 [some (vr (some (10, this))), none, some (vi v2), some (vr (some (6, v3))), none] st M18 (Qi Q)) hp (fun r19 h => ?_))
  refine E_if_ne (off := 5) (tgt := 79) (by decide +kernel) (by decide) (fun b20 => ?_) (fun b20 => ?_)
  · rw [if_pos b20] at h
    refine E_blk (lv' := [some (vr (some (10, this))), none, some (vi v2), some (vr (some (6, v3))), none]) (st' := [vi (0 : Int32)]) (M1 := M18) (pc' := 78) (tb_Works hγ) [.iconst 0] (by decide +kernel) rfl rfl trivial ?_
    exact E_iret rfl (by decide +kernel) h
  · rw [if_neg b20] at h
    refine E_blk (lv' := [some (vr (some (10, this))), none, some (vi v2), some (vr (some (6, v3))), none]) (st' := [vi (mI M18 10 this 8), vi v2]) (M1 := M18) (pc' := 84) (tb_Works hγ) [.iload_n 2, .aload_n 0, .getfield 52] (by decide +kernel) rfl rfl trivial ?_
    refine E_icmp_le (off := 6) (tgt := 90) (by decide +kernel) (by decide) (fun b21 => ?_) (fun b21 => ?_)
    · rw [if_pos b21] at h
      refine E_blk (lv' := [some (vr (some (10, this))), none, some (vi v2), some (vr (some (6, v3))), none]) (st' := [vi v2, vr (some (6, v3))]) (M1 := M18) (pc' := 92) (tb_Works hγ) [.aload_n 3, .iload_n 2] (by decide +kernel) rfl rfl trivial ?_
      refine E_callV (κ' := k_Machine_go) (As := [vi v2]) (st := []) mv_Machine_go (Or.inl (tbk_mem (j := 8) (k := 111) rfl)) rfl (by decide +kernel) (Nat.le_of_ble_eq_true rfl) (Nat.le_of_ble_eq_true rfl) rfl (by decide) (lk_Machine_go hγ v3 v2 _ M18 h) (fun _ _ => Qi_r) (fun v M22 hp => Qi_k (R := fun st => E γ k_Works_step 138 95 [some (vr (some (10, this))), none, some (vi v2), some (vr (some (6, v3))), none] st M22 (Qi Q)) hp (fun r23 h => ?_))
      refine E_blk (lv' := [some (vr (some (10, this))), none, some (vi v2), some (vr (some (6, v3))), some (vi r23)]) (st' := [vr (some (6, v3))]) (M1 := M22) (pc' := 98) (tb_Works hγ) [.istore 4, .aload_n 3] (by decide +kernel) rfl rfl trivial ?_
      refine E_callV (κ' := k_Machine_isOn) (As := []) (st := []) mv_Machine_isOn (Or.inl (tbk_mem (j := 8) (k := 107) rfl)) rfl (by decide +kernel) (Nat.le_of_ble_eq_true rfl) (Nat.le_of_ble_eq_true rfl) rfl (by decide) (lk_Machine_isOn hγ v3 _ M22 h) (fun _ _ => Qi_r) (fun v M24 hp => Qi_k (R := fun st => E γ k_Works_step 138 101 [some (vr (some (10, this))), none, some (vi v2), some (vr (some (6, v3))), some (vi r23)] st M24 (Qi Q)) hp (fun r25 h => ?_))
      refine E_if_ne (off := 7) (tgt := 108) (by decide +kernel) (by decide) (fun b26 => ?_) (fun b26 => ?_)
      · rw [if_pos b26] at h
        refine E_blk (lv' := [some (vr (some (10, this))), none, some (vi v2), some (vr (some (6, v3))), some (vi r23)]) (st' := [vi (0 : Int32)]) (M1 := M24) (pc' := 105) (tb_Works hγ) [.iconst 0] (by decide +kernel) rfl rfl trivial ?_
        refine E_goto (off := 13) (tgt := 118) (by decide +kernel) (by decide) ?_
        exact E_iret rfl (by decide +kernel) h
      · rw [if_neg b26] at h
        refine E_blk (lv' := [some (vr (some (10, this))), none, some (vi v2), some (vr (some (6, v3))), some (vi r23)]) (st' := [vi r23]) (M1 := M24) (pc' := 110) (tb_Works hγ) [.iload 4] (by decide +kernel) rfl rfl trivial ?_
        refine E_if_eq (off := 7) (tgt := 117) (by decide +kernel) (by decide) (fun b27 => ?_) (fun b27 => ?_)
        · rw [if_pos b27] at h
          refine E_blk (lv' := [some (vr (some (10, this))), none, some (vi v2), some (vr (some (6, v3))), some (vi r23)]) (st' := [vi (3 : Int32)]) (M1 := M24) (pc' := 118) (tb_Works hγ) [.iconst 3] (by decide +kernel) rfl rfl trivial ?_
          exact E_iret rfl (by decide +kernel) h
        · rw [if_neg b27] at h
          refine E_blk (lv' := [some (vr (some (10, this))), none, some (vi v2), some (vr (some (6, v3))), some (vi r23)]) (st' := [vi (1 : Int32)]) (M1 := M24) (pc' := 114) (tb_Works hγ) [.iconst 1] (by decide +kernel) rfl rfl trivial ?_
          refine E_goto (off := 4) (tgt := 118) (by decide +kernel) (by decide) ?_
          exact E_iret rfl (by decide +kernel) h
    · rw [if_neg b21] at h
      refine E_blk (lv' := [some (vr (some (10, this))), none, some (vi v2), some (vr (some (6, v3))), none]) (st' := [vi (-3 : Int32)]) (M1 := M18) (pc' := 89) (tb_Works hγ) [.bipush (.negSucc 2)] (by decide +kernel) rfl rfl trivial ?_
      exact E_iret rfl (by decide +kernel) h
set_option maxRecDepth 4096 in
theorem lk_Works_step {γ : Gm} (hγ : Gk γ) (this : Nat) (a1 : Int32) (a2 : Int32) (Q : Int32 → Mem → Prop) (M : Mem) (h : w_Works_step this a1 a2 Q M) : E γ k_Works_step 138 0 [some (vr (some (10, this))), some (vi a1), some (vi a2), none, none] [] M (Qi Q) := by
  unfold w_Works_step at h
  refine E_blk (lv' := [some (vr (some (10, this))), some (vi a1), some (vi a2), none, none]) (st' := [vi a1, vr (some (10, this))]) (M1 := M) (pc' := 2) (tb_Works hγ) [.aload_n 0, .iload_n 1] (by decide +kernel) rfl rfl trivial ?_
  refine E_callV (κ' := k_Works_isWorld) (As := [vi a1]) (st := []) mv_Works_isWorld (Or.inl (tbk_mem (j := 6) (k := 32) rfl)) rfl (by decide +kernel) (Nat.le_of_ble_eq_true rfl) (Nat.le_of_ble_eq_true rfl) rfl (by decide) (lk_Works_isWorld hγ this a1 _ M h) (fun _ _ => Qi_r) (fun v M1 hp => Qi_k (R := fun st => E γ k_Works_step 138 5 [some (vr (some (10, this))), some (vi a1), some (vi a2), none, none] st M1 (Qi Q)) hp (fun r2 h => ?_))
  refine E_if_eq (off := 14) (tgt := 19) (by decide +kernel) (by decide) (fun b3 => ?_) (fun b3 => ?_)
  · rw [if_pos b3] at h
    refine E_blk (lv' := [some (vr (some (10, this))), some (vi a1), some (vi a2), none, none]) (st' := [vi (-1 : Int32)]) (M1 := M1) (pc' := 20) (tb_Works hγ) [.iconst (.negSucc 0)] (by decide +kernel) rfl rfl trivial ?_
    exact E_iret rfl (by decide +kernel) h
  · rw [if_neg b3] at h
    refine E_blk (lv' := [some (vr (some (10, this))), some (vi a1), some (vi a2), none, none]) (st' := [vi (4000 : Int32), vi (1 : Int32), vi a2]) (M1 := M1) (pc' := 13) (tb_Works hγ) [.iload_n 2, .iconst 1, .sipush 4000] (by decide +kernel) rfl rfl trivial ?_
    refine E_callS (κ' := k_Works_isIn) (As := [vi a2, vi (1 : Int32), vi (4000 : Int32)]) (st := []) ms_Works_isIn (Or.inl (tbk_mem (j := 5) (k := 237) rfl)) rfl (by decide +kernel) (Nat.le_of_ble_eq_true rfl) (Nat.le_of_ble_eq_true rfl) rfl (by decide) (lk_Works_isIn hγ a2 (1 : Int32) (4000 : Int32) _ M1 h) (fun _ _ => Qi_r) (fun v M4 hp => Qi_k (R := fun st => E γ k_Works_step 138 16 [some (vr (some (10, this))), some (vi a1), some (vi a2), none, none] st M4 (Qi Q)) hp (fun r5 h => ?_))
    refine E_if_ne (off := 5) (tgt := 21) (by decide +kernel) (by decide) (fun b6 => ?_) (fun b6 => ?_)
    · rw [if_pos b6] at h
      refine E_blk (lv' := [some (vr (some (10, this))), some (vi a1), some (vi a2), none, none]) (st' := [vi (-1 : Int32)]) (M1 := M4) (pc' := 20) (tb_Works hγ) [.iconst (.negSucc 0)] (by decide +kernel) rfl rfl trivial ?_
      exact E_iret rfl (by decide +kernel) h
    · rw [if_neg b6] at h
      obtain ⟨c7, h⟩ := h
      refine E_blk (lv' := [some (vr (some (10, this))), some (vi a1), some (vi a2), none, none]) (st' := [vr (mR M4 702 0 a1.toNatClampNeg)]) (M1 := M4) (pc' := 27) (tb_Works hγ) [.aload_n 0, .getfield 85, .iload_n 1, .aaload] (by decide +kernel) rfl rfl ⟨c7, trivial⟩ ?_
      obtain ⟨i8, ei8, h⟩ := h
      rw [ei8]
      obtain ⟨c9, h⟩ := h
      refine E_blk (lv' := [some (vr (some (10, this))), some (vi a1), some (vi a2), some (vr (some (6, i8))), none]) (st' := [vr (mR M4 700 i8 (0 : Int32).toNatClampNeg)]) (M1 := M4) (pc' := 37) (tb_Works hγ) [.getfield 141, .astore_n 3, .aload_n 3, .getfield 180, .iconst 0, .aaload] (by decide +kernel) rfl rfl ⟨c9, trivial⟩ ?_
      obtain ⟨i10, ei10, h⟩ := h
      rw [ei10]
      refine E_blk (lv' := [some (vr (some (10, this))), some (vi a1), some (vi a2), some (vr (some (6, i8))), none]) (st' := [vi (mI M4 7 i10 10)]) (M1 := M4) (pc' := 40) (tb_Works hγ) [.getfield 342] (by decide +kernel) rfl rfl trivial ?_
      refine E_if_ne (off := 30) (tgt := 70) (by decide +kernel) (by decide) (fun b11 => ?_) (fun b11 => ?_)
      · rw [if_pos b11] at h
        obtain ⟨c12, h⟩ := h
        refine E_blk (lv' := [some (vr (some (10, this))), some (vi a1), some (vi a2), some (vr (some (6, i8))), none]) (st' := [vr (mR M4 700 i8 (1 : Int32).toNatClampNeg)]) (M1 := M4) (pc' := 49) (tb_Works hγ) [.aload_n 3, .getfield 180, .iconst 1, .aaload] (by decide +kernel) rfl rfl ⟨c12, trivial⟩ ?_
        obtain ⟨i13, ei13, h⟩ := h
        rw [ei13]
        refine E_blk (lv' := [some (vr (some (10, this))), some (vi a1), some (vi a2), some (vr (some (6, i8))), none]) (st' := [vi (mI M4 7 i13 10)]) (M1 := M4) (pc' := 52) (tb_Works hγ) [.getfield 342] (by decide +kernel) rfl rfl trivial ?_
        refine E_if_ne (off := 18) (tgt := 70) (by decide +kernel) (by decide) (fun b14 => ?_) (fun b14 => ?_)
        · rw [if_pos b14] at h
          obtain ⟨c15, h⟩ := h
          refine E_blk (lv' := [some (vr (some (10, this))), some (vi a1), some (vi a2), some (vr (some (6, i8))), none]) (st' := [vr (mR M4 700 i8 (2 : Int32).toNatClampNeg)]) (M1 := M4) (pc' := 61) (tb_Works hγ) [.aload_n 3, .getfield 180, .iconst 2, .aaload] (by decide +kernel) rfl rfl ⟨c15, trivial⟩ ?_
          obtain ⟨i16, ei16, h⟩ := h
          rw [ei16]
          refine E_blk (lv' := [some (vr (some (10, this))), some (vi a1), some (vi a2), some (vr (some (6, i8))), none]) (st' := [vi (mI M4 7 i16 10)]) (M1 := M4) (pc' := 64) (tb_Works hγ) [.getfield 342] (by decide +kernel) rfl rfl trivial ?_
          refine E_if_ne (off := 6) (tgt := 70) (by decide +kernel) (by decide) (fun b17 => ?_) (fun b17 => ?_)
          · rw [if_pos b17] at h
            refine E_blk (lv' := [some (vr (some (10, this))), some (vi a1), some (vi a2), some (vr (some (6, i8))), none]) (st' := [vi (-2 : Int32)]) (M1 := M4) (pc' := 69) (tb_Works hγ) [.bipush (.negSucc 1)] (by decide +kernel) rfl rfl trivial ?_
            exact E_iret rfl (by decide +kernel) h
          · rw [if_neg b17] at h
            refine E_mask [true, false, true, true, false] rfl ?_
            exact lk_Works_step_j70 hγ this Q a2 i8 M4 h
        · rw [if_neg b14] at h
          refine E_mask [true, false, true, true, false] rfl ?_
          exact lk_Works_step_j70 hγ this Q a2 i8 M4 h
      · rw [if_neg b11] at h
        refine E_mask [true, false, true, true, false] rfl ?_
        exact lk_Works_step_j70 hγ this Q a2 i8 M4 h
def w_Line_uppermost_L7 (this : Nat) (Q : Int32 → Mem → Prop) : Nat → Int32 → Mem → Prop
  | 0, _, _ => False
  | n + 1, v1, M => if v1 < 0 then (Q v1 M) else (vp_in v1 (mL M 92 this) ∧ if (mI M 92 this v1.toNatClampNeg) < 0 then (Q v1 M) else ((w_Line_uppermost_L7 this Q n) (v1 + (-1 : Int32)) M))
def w_Line_uppermost (this : Nat) (Q : Int32 → Mem → Prop) (M : Mem) : Prop :=
  ∃ n4 : Nat, w_Line_uppermost_L7 this Q n4 ((mI M 7 this 1) - (1 : Int32)) M
set_option maxRecDepth 4096 in
theorem lk_Line_uppermost_L7 {γ : Gm} (hγ : Gk γ) (this : Nat) (Q : Int32 → Mem → Prop) : ∀ (n : Nat) (v1 : Int32) (M : Mem), w_Line_uppermost_L7 this Q n v1 M → E γ k_Line_uppermost 0 7 [some (vr (some (7, this))), some (vi v1)] [] M (Qi Q) := by
  intro n
  induction n with
  | zero => intro v1 M h; exact h.elim
  | succ n ih =>
    intro v1 M h
    unfold w_Line_uppermost_L7 at h
    refine E_blk (lv' := [some (vr (some (7, this))), some (vi v1)]) (st' := [vi v1]) (M1 := M) (pc' := 8) (tb_Line hγ) [.iload_n 1] (by decide +kernel) rfl rfl trivial ?_
    refine E_if_lt (off := 18) (tgt := 26) (by decide +kernel) (by decide) (fun b1 => ?_) (fun b1 => ?_)
    · rw [if_pos b1] at h
      refine E_blk (lv' := [some (vr (some (7, this))), some (vi v1)]) (st' := [vi v1]) (M1 := M) (pc' := 27) (tb_Line hγ) [.iload_n 1] (by decide +kernel) rfl rfl trivial ?_
      exact E_iret rfl (by decide +kernel) h
    · rw [if_neg b1] at h
      obtain ⟨c2, h⟩ := h
      refine E_blk (lv' := [some (vr (some (7, this))), some (vi v1)]) (st' := [vi (mI M 92 this v1.toNatClampNeg)]) (M1 := M) (pc' := 17) (tb_Line hγ) [.aload_n 0, .getfield 21, .iload_n 1, .iaload] (by decide +kernel) rfl rfl ⟨c2, trivial⟩ ?_
      refine E_if_lt (off := 9) (tgt := 26) (by decide +kernel) (by decide) (fun b3 => ?_) (fun b3 => ?_)
      · rw [if_pos b3] at h
        refine E_blk (lv' := [some (vr (some (7, this))), some (vi v1)]) (st' := [vi v1]) (M1 := M) (pc' := 27) (tb_Line hγ) [.iload_n 1] (by decide +kernel) rfl rfl trivial ?_
        exact E_iret rfl (by decide +kernel) h
      · rw [if_neg b3] at h
        refine E_blk (lv' := [some (vr (some (7, this))), some (vi (v1 + (-1 : Int32)))]) (st' := []) (M1 := M) (pc' := 23) (tb_Line hγ) [.iinc 1 (.negSucc 0)] (by decide +kernel) rfl rfl trivial ?_
        refine E_goto (off := -16) (tgt := 7) (by decide +kernel) (by decide) ?_
        refine E_mask [true, true] rfl ?_
        exact ih (v1 + (-1 : Int32)) M h
set_option maxRecDepth 4096 in
theorem lk_Line_uppermost {γ : Gm} (hγ : Gk γ) (this : Nat) (Q : Int32 → Mem → Prop) (M : Mem) (h : w_Line_uppermost this Q M) : E γ k_Line_uppermost 0 0 [some (vr (some (7, this))), none] [] M (Qi Q) := by
  unfold w_Line_uppermost at h
  refine E_blk (lv' := [some (vr (some (7, this))), some (vi ((mI M 7 this 1) - (1 : Int32)))]) (st' := []) (M1 := M) (pc' := 7) (tb_Line hγ) [.aload_n 0, .getfield 41, .iconst 1, .isub, .istore_n 1] (by decide +kernel) rfl rfl trivial ?_
  obtain ⟨n4, h⟩ := h
  refine E_mask [true, true] rfl ?_
  exact lk_Line_uppermost_L7 hγ this Q n4 ((mI M 7 this 1) - (1 : Int32)) M h
def w_Works_run (this : Nat) (a1 : Int32) (a2 : Int32) (a3 : Int32) (Q : Int32 → Mem → Prop) (M : Mem) : Prop :=
  w_Works_isThread this a1 a2 (fun r2 M1 => if r2 = 0 then (Q (-1 : Int32) M1) else (vp_in a1 (mL M1 702 0) ∧ ∃ i5, (mR M1 702 0 a1.toNatClampNeg) = some (5, i5) ∧ vp_in a2 (mL M1 700 i5) ∧ ∃ i7, (mR M1 700 i5 a2.toNatClampNeg) = some (7, i7) ∧ w_Line_uppermost i7 (fun r9 M8 => if a3 = (0 : Int32) then (if (mI M8 7 i7 10) = 0 then (Q (-2 : Int32) M8) else (if (mI M8 7 i7 11) = (1 : Int32) then (w_Machine_waits i5 i7 (fun r43 M42 => if r43 = 0 then (Q (mI M42 7 i7 11) M42) else (Q (4 : Int32) M42)) M8) else (Q (mI M8 7 i7 11) M8))) else (if a3 = (1 : Int32) then (Q (mI M8 7 i7 12) M8) else (if a3 = (2 : Int32) then (Q (mI M8 7 i7 13) M8) else (if a3 = (3 : Int32) then (Q (mI M8 7 i7 14) M8) else (if a3 = (4 : Int32) then (Q (mI M8 7 i7 15) M8) else (if a3 = (5 : Int32) then (Q (mI M8 7 i7 16) M8) else (if a3 = (6 : Int32) then (Q (mI M8 7 i7 2) M8) else (if a3 = (7 : Int32) then (if 0 ≤ r9 then (vp_in a1 (mL M8 702 0) ∧ ∃ i37, (mR M8 702 0 a1.toNatClampNeg) = some (5, i37) ∧ vp_in r9 (mL M8 89 i7) ∧ vp_in (mI M8 89 i7 r9.toNatClampNeg) (mL M8 55 i37) ∧ Q (mI M8 55 i37 (mI M8 89 i7 r9.toNatClampNeg).toNatClampNeg) M8) else (Q (-2 : Int32) M8)) else (if a3 = (8 : Int32) then (if 0 ≤ r9 then (vp_in r9 (mL M8 89 i7) ∧ vp_in a1 (mL M8 702 0) ∧ ∃ i29, (mR M8 702 0 a1.toNatClampNeg) = some (5, i29) ∧ vp_in a1 (mL M8 702 0) ∧ ∃ i31, (mR M8 702 0 a1.toNatClampNeg) = some (5, i31) ∧ vp_in r9 (mL M8 89 i7) ∧ vp_in (mI M8 89 i7 r9.toNatClampNeg) (mL M8 55 i31) ∧ vp_in (mI M8 55 i31 (mI M8 89 i7 r9.toNatClampNeg).toNatClampNeg) (mL M8 43 i29) ∧ Q ((mI M8 89 i7 r9.toNatClampNeg) - (mI M8 43 i29 (mI M8 55 i31 (mI M8 89 i7 r9.toNatClampNeg).toNatClampNeg).toNatClampNeg)) M8) else (Q (-2 : Int32) M8)) else (if a3 = (9 : Int32) then (if 0 ≤ r9 then (vp_in r9 (mL M8 90 i7) ∧ Q (mI M8 90 i7 r9.toNatClampNeg) M8) else (Q (-2 : Int32) M8)) else (if a3 = (10 : Int32) then (Q (mI M8 6 i5 6) M8) else (if a3 = (11 : Int32) then (Q (mI M8 6 i5 7) M8) else (if a3 = (12 : Int32) then (Q (mI M8 6 i5 26) M8) else (if a3 = (13 : Int32) then (Q (mI M8 6 i5 3) M8) else (Q (-1 : Int32) M8))))))))))))))) M1)) M
set_option maxRecDepth 4096 in
theorem lk_Works_run {γ : Gm} (hγ : Gk γ) (this : Nat) (a1 : Int32) (a2 : Int32) (a3 : Int32) (Q : Int32 → Mem → Prop) (M : Mem) (h : w_Works_run this a1 a2 a3 Q M) : E γ k_Works_run 3 0 [some (vr (some (10, this))), some (vi a1), some (vi a2), some (vi a3), none, none, none] [] M (Qi Q) := by
  unfold w_Works_run at h
  refine E_blk (lv' := [some (vr (some (10, this))), some (vi a1), some (vi a2), some (vi a3), none, none, none]) (st' := [vi a2, vi a1, vr (some (10, this))]) (M1 := M) (pc' := 3) (tb_Works hγ) [.aload_n 0, .iload_n 1, .iload_n 2] (by decide +kernel) rfl rfl trivial ?_
  refine E_callV (κ' := k_Works_isThread) (As := [vi a1, vi a2]) (st := []) mv_Works_isThread (Or.inl (tbk_mem (j := 8) (k := 76) rfl)) rfl (by decide +kernel) (Nat.le_of_ble_eq_true rfl) (Nat.le_of_ble_eq_true rfl) rfl (by decide) (lk_Works_isThread hγ this a1 a2 _ M h) (fun _ _ => Qi_r) (fun v M1 hp => Qi_k (R := fun st => E γ k_Works_run 3 6 [some (vr (some (10, this))), some (vi a1), some (vi a2), some (vi a3), none, none, none] st M1 (Qi Q)) hp (fun r2 h => ?_))
  refine E_if_ne (off := 5) (tgt := 11) (by decide +kernel) (by decide) (fun b3 => ?_) (fun b3 => ?_)
  · rw [if_pos b3] at h
    refine E_blk (lv' := [some (vr (some (10, this))), some (vi a1), some (vi a2), some (vi a3), none, none, none]) (st' := [vi (-1 : Int32)]) (M1 := M1) (pc' := 10) (tb_Works hγ) [.iconst (.negSucc 0)] (by decide +kernel) rfl rfl trivial ?_
    exact E_iret rfl (by decide +kernel) h
  · rw [if_neg b3] at h
    obtain ⟨c4, h⟩ := h
    refine E_blk (lv' := [some (vr (some (10, this))), some (vi a1), some (vi a2), some (vi a3), none, none, none]) (st' := [vr (mR M1 702 0 a1.toNatClampNeg)]) (M1 := M1) (pc' := 17) (tb_Works hγ) [.aload_n 0, .getfield 85, .iload_n 1, .aaload] (by decide +kernel) rfl rfl ⟨c4, trivial⟩ ?_
    obtain ⟨i5, ei5, h⟩ := h
    rw [ei5]
    obtain ⟨c6, h⟩ := h
    refine E_blk (lv' := [some (vr (some (10, this))), some (vi a1), some (vi a2), some (vi a3), some (vr (some (6, i5))), none, none]) (st' := [vr (mR M1 700 i5 a2.toNatClampNeg)]) (M1 := M1) (pc' := 29) (tb_Works hγ) [.getfield 141, .astore 4, .aload 4, .getfield 180, .iload_n 2, .aaload] (by decide +kernel) rfl rfl ⟨c6, trivial⟩ ?_
    obtain ⟨i7, ei7, h⟩ := h
    rw [ei7]
    refine E_blk (lv' := [some (vr (some (10, this))), some (vi a1), some (vi a2), some (vi a3), some (vr (some (6, i5))), some (vr (some (7, i7))), none]) (st' := [vr (some (7, i7))]) (M1 := M1) (pc' := 33) (tb_Works hγ) [.astore 5, .aload 5] (by decide +kernel) rfl rfl trivial ?_
    refine E_callV (κ' := k_Line_uppermost) (As := []) (st := []) mv_Line_uppermost (Or.inl (tbk_mem (j := 9) (k := 124) rfl)) rfl (by decide +kernel) (Nat.le_of_ble_eq_true rfl) (Nat.le_of_ble_eq_true rfl) rfl (by decide) (lk_Line_uppermost hγ i7 _ M1 h) (fun _ _ => Qi_r) (fun v M8 hp => Qi_k (R := fun st => E γ k_Works_run 3 36 [some (vr (some (10, this))), some (vi a1), some (vi a2), some (vi a3), some (vr (some (6, i5))), some (vr (some (7, i7))), none] st M8 (Qi Q)) hp (fun r9 h => ?_))
    refine E_blk (lv' := [some (vr (some (10, this))), some (vi a1), some (vi a2), some (vi a3), some (vr (some (6, i5))), some (vr (some (7, i7))), some (vi r9)]) (st' := [vi a3]) (M1 := M8) (pc' := 39) (tb_Works hγ) [.istore 6, .iload_n 3] (by decide +kernel) rfl rfl trivial ?_
    by_cases b10 : a3 = (0 : Int32)
    · rw [if_pos b10] at h
      refine E.up (fun _ _ hJ => J_tswI (len := 69) (dflt := 267) (lo := 0) (hi := 13) (offs := #[69, 111, 117, 123, 129, 135, 141, 147, 176, 224, 243, 249, 255, 261]) (off := 69) (tgt := 108) (by decide +kernel) (by rw [b10]; decide) (by rw [b10]; decide) (by rw [b10]; rfl) (by decide) hJ) ?_
      refine E_blk (lv' := [some (vr (some (10, this))), some (vi a1), some (vi a2), some (vi a3), some (vr (some (6, i5))), some (vr (some (7, i7))), some (vi r9)]) (st' := [vi (mI M8 7 i7 10)]) (M1 := M8) (pc' := 113) (tb_Works hγ) [.aload 5, .getfield 342] (by decide +kernel) rfl rfl trivial ?_
      refine E_if_ne (off := 8) (tgt := 121) (by decide +kernel) (by decide) (fun b40 => ?_) (fun b40 => ?_)
      · rw [if_pos b40] at h
        refine E_blk (lv' := [some (vr (some (10, this))), some (vi a1), some (vi a2), some (vi a3), some (vr (some (6, i5))), some (vr (some (7, i7))), some (vi r9)]) (st' := [vi (-2 : Int32)]) (M1 := M8) (pc' := 118) (tb_Works hγ) [.bipush (.negSucc 1)] (by decide +kernel) rfl rfl trivial ?_
        refine E_goto (off := 31) (tgt := 149) (by decide +kernel) (by decide) ?_
        exact E_iret rfl (by decide +kernel) h
      · rw [if_neg b40] at h
        refine E_blk (lv' := [some (vr (some (10, this))), some (vi a1), some (vi a2), some (vi a3), some (vr (some (6, i5))), some (vr (some (7, i7))), some (vi r9)]) (st' := [vi (1 : Int32), vi (mI M8 7 i7 11)]) (M1 := M8) (pc' := 127) (tb_Works hγ) [.aload 5, .getfield 196, .iconst 1] (by decide +kernel) rfl rfl trivial ?_
        refine E_icmp_ne (off := 17) (tgt := 144) (by decide +kernel) (by decide) (fun b41 => ?_) (fun b41 => ?_)
        · rw [if_pos b41] at h
          refine E_blk (lv' := [some (vr (some (10, this))), some (vi a1), some (vi a2), some (vi a3), some (vr (some (6, i5))), some (vr (some (7, i7))), some (vi r9)]) (st' := [vr (some (7, i7)), vr (some (6, i5))]) (M1 := M8) (pc' := 134) (tb_Works hγ) [.aload 4, .aload 5] (by decide +kernel) rfl rfl trivial ?_
          refine E_callV (κ' := k_Machine_waits) (As := [vr (some (7, i7))]) (st := []) mv_Machine_waits (Or.inl (tbk_mem (j := 9) (k := 128) rfl)) rfl (by decide +kernel) (Nat.le_of_ble_eq_true rfl) (Nat.le_of_ble_eq_true rfl) rfl (by decide) (lk_Machine_waits hγ i5 i7 _ M8 h) (fun _ _ => Qi_r) (fun v M42 hp => Qi_k (R := fun st => E γ k_Works_run 3 137 [some (vr (some (10, this))), some (vi a1), some (vi a2), some (vi a3), some (vr (some (6, i5))), some (vr (some (7, i7))), some (vi r9)] st M42 (Qi Q)) hp (fun r43 h => ?_))
          refine E_if_eq (off := 7) (tgt := 144) (by decide +kernel) (by decide) (fun b44 => ?_) (fun b44 => ?_)
          · rw [if_pos b44] at h
            refine E_blk (lv' := [some (vr (some (10, this))), some (vi a1), some (vi a2), some (vi a3), some (vr (some (6, i5))), some (vr (some (7, i7))), some (vi r9)]) (st' := [vi (mI M42 7 i7 11)]) (M1 := M42) (pc' := 149) (tb_Works hγ) [.aload 5, .getfield 196] (by decide +kernel) rfl rfl trivial ?_
            exact E_iret rfl (by decide +kernel) h
          · rw [if_neg b44] at h
            refine E_blk (lv' := [some (vr (some (10, this))), some (vi a1), some (vi a2), some (vi a3), some (vr (some (6, i5))), some (vr (some (7, i7))), some (vi r9)]) (st' := [vi (4 : Int32)]) (M1 := M42) (pc' := 141) (tb_Works hγ) [.iconst 4] (by decide +kernel) rfl rfl trivial ?_
            refine E_goto (off := 8) (tgt := 149) (by decide +kernel) (by decide) ?_
            exact E_iret rfl (by decide +kernel) h
        · rw [if_neg b41] at h
          refine E_blk (lv' := [some (vr (some (10, this))), some (vi a1), some (vi a2), some (vi a3), some (vr (some (6, i5))), some (vr (some (7, i7))), some (vi r9)]) (st' := [vi (mI M8 7 i7 11)]) (M1 := M8) (pc' := 149) (tb_Works hγ) [.aload 5, .getfield 196] (by decide +kernel) rfl rfl trivial ?_
          exact E_iret rfl (by decide +kernel) h
    · rw [if_neg b10] at h
      by_cases b11 : a3 = (1 : Int32)
      · rw [if_pos b11] at h
        refine E.up (fun _ _ hJ => J_tswI (len := 69) (dflt := 267) (lo := 0) (hi := 13) (offs := #[69, 111, 117, 123, 129, 135, 141, 147, 176, 224, 243, 249, 255, 261]) (off := 111) (tgt := 150) (by decide +kernel) (by rw [b11]; decide) (by rw [b11]; decide) (by rw [b11]; rfl) (by decide) hJ) ?_
        refine E_blk (lv' := [some (vr (some (10, this))), some (vi a1), some (vi a2), some (vi a3), some (vr (some (6, i5))), some (vr (some (7, i7))), some (vi r9)]) (st' := [vi (mI M8 7 i7 12)]) (M1 := M8) (pc' := 155) (tb_Works hγ) [.aload 5, .getfield 357] (by decide +kernel) rfl rfl trivial ?_
        exact E_iret rfl (by decide +kernel) h
      · rw [if_neg b11] at h
        by_cases b12 : a3 = (2 : Int32)
        · rw [if_pos b12] at h
          refine E.up (fun _ _ hJ => J_tswI (len := 69) (dflt := 267) (lo := 0) (hi := 13) (offs := #[69, 111, 117, 123, 129, 135, 141, 147, 176, 224, 243, 249, 255, 261]) (off := 117) (tgt := 156) (by decide +kernel) (by rw [b12]; decide) (by rw [b12]; decide) (by rw [b12]; rfl) (by decide) hJ) ?_
          refine E_blk (lv' := [some (vr (some (10, this))), some (vi a1), some (vi a2), some (vi a3), some (vr (some (6, i5))), some (vr (some (7, i7))), some (vi r9)]) (st' := [vi (mI M8 7 i7 13)]) (M1 := M8) (pc' := 161) (tb_Works hγ) [.aload 5, .getfield 205] (by decide +kernel) rfl rfl trivial ?_
          exact E_iret rfl (by decide +kernel) h
        · rw [if_neg b12] at h
          by_cases b13 : a3 = (3 : Int32)
          · rw [if_pos b13] at h
            refine E.up (fun _ _ hJ => J_tswI (len := 69) (dflt := 267) (lo := 0) (hi := 13) (offs := #[69, 111, 117, 123, 129, 135, 141, 147, 176, 224, 243, 249, 255, 261]) (off := 123) (tgt := 162) (by decide +kernel) (by rw [b13]; decide) (by rw [b13]; decide) (by rw [b13]; rfl) (by decide) hJ) ?_
            refine E_blk (lv' := [some (vr (some (10, this))), some (vi a1), some (vi a2), some (vi a3), some (vr (some (6, i5))), some (vr (some (7, i7))), some (vi r9)]) (st' := [vi (mI M8 7 i7 14)]) (M1 := M8) (pc' := 167) (tb_Works hγ) [.aload 5, .getfield 208] (by decide +kernel) rfl rfl trivial ?_
            exact E_iret rfl (by decide +kernel) h
          · rw [if_neg b13] at h
            by_cases b14 : a3 = (4 : Int32)
            · rw [if_pos b14] at h
              refine E.up (fun _ _ hJ => J_tswI (len := 69) (dflt := 267) (lo := 0) (hi := 13) (offs := #[69, 111, 117, 123, 129, 135, 141, 147, 176, 224, 243, 249, 255, 261]) (off := 129) (tgt := 168) (by decide +kernel) (by rw [b14]; decide) (by rw [b14]; decide) (by rw [b14]; rfl) (by decide) hJ) ?_
              refine E_blk (lv' := [some (vr (some (10, this))), some (vi a1), some (vi a2), some (vi a3), some (vr (some (6, i5))), some (vr (some (7, i7))), some (vi r9)]) (st' := [vi (mI M8 7 i7 15)]) (M1 := M8) (pc' := 173) (tb_Works hγ) [.aload 5, .getfield 202] (by decide +kernel) rfl rfl trivial ?_
              exact E_iret rfl (by decide +kernel) h
            · rw [if_neg b14] at h
              by_cases b15 : a3 = (5 : Int32)
              · rw [if_pos b15] at h
                refine E.up (fun _ _ hJ => J_tswI (len := 69) (dflt := 267) (lo := 0) (hi := 13) (offs := #[69, 111, 117, 123, 129, 135, 141, 147, 176, 224, 243, 249, 255, 261]) (off := 135) (tgt := 174) (by decide +kernel) (by rw [b15]; decide) (by rw [b15]; decide) (by rw [b15]; rfl) (by decide) hJ) ?_
                refine E_blk (lv' := [some (vr (some (10, this))), some (vi a1), some (vi a2), some (vi a3), some (vr (some (6, i5))), some (vr (some (7, i7))), some (vi r9)]) (st' := [vi (mI M8 7 i7 16)]) (M1 := M8) (pc' := 179) (tb_Works hγ) [.aload 5, .getfield 199] (by decide +kernel) rfl rfl trivial ?_
                exact E_iret rfl (by decide +kernel) h
              · rw [if_neg b15] at h
                by_cases b16 : a3 = (6 : Int32)
                · rw [if_pos b16] at h
                  refine E.up (fun _ _ hJ => J_tswI (len := 69) (dflt := 267) (lo := 0) (hi := 13) (offs := #[69, 111, 117, 123, 129, 135, 141, 147, 176, 224, 243, 249, 255, 261]) (off := 141) (tgt := 180) (by decide +kernel) (by rw [b16]; decide) (by rw [b16]; decide) (by rw [b16]; rfl) (by decide) hJ) ?_
                  refine E_blk (lv' := [some (vr (some (10, this))), some (vi a1), some (vi a2), some (vi a3), some (vr (some (6, i5))), some (vr (some (7, i7))), some (vi r9)]) (st' := [vi (mI M8 7 i7 2)]) (M1 := M8) (pc' := 185) (tb_Works hγ) [.aload 5, .getfield 360] (by decide +kernel) rfl rfl trivial ?_
                  exact E_iret rfl (by decide +kernel) h
                · rw [if_neg b16] at h
                  by_cases b17 : a3 = (7 : Int32)
                  · rw [if_pos b17] at h
                    refine E.up (fun _ _ hJ => J_tswI (len := 69) (dflt := 267) (lo := 0) (hi := 13) (offs := #[69, 111, 117, 123, 129, 135, 141, 147, 176, 224, 243, 249, 255, 261]) (off := 147) (tgt := 186) (by decide +kernel) (by rw [b17]; decide) (by rw [b17]; decide) (by rw [b17]; rfl) (by decide) hJ) ?_
                    refine E_blk (lv' := [some (vr (some (10, this))), some (vi a1), some (vi a2), some (vi a3), some (vr (some (6, i5))), some (vr (some (7, i7))), some (vi r9)]) (st' := [vi r9]) (M1 := M8) (pc' := 188) (tb_Works hγ) [.iload 6] (by decide +kernel) rfl rfl trivial ?_
                    refine E_if_ge (off := 8) (tgt := 196) (by decide +kernel) (by decide) (fun b35 => ?_) (fun b35 => ?_)
                    · rw [if_pos b35] at h
                      obtain ⟨c36, h⟩ := h
                      refine E_blk (lv' := [some (vr (some (10, this))), some (vi a1), some (vi a2), some (vi a3), some (vr (some (6, i5))), some (vr (some (7, i7))), some (vi r9)]) (st' := [vr (mR M8 702 0 a1.toNatClampNeg)]) (M1 := M8) (pc' := 202) (tb_Works hγ) [.aload_n 0, .getfield 85, .iload_n 1, .aaload] (by decide +kernel) rfl rfl ⟨c36, trivial⟩ ?_
                      obtain ⟨i37, ei37, h⟩ := h
                      rw [ei37]
                      obtain ⟨c38, c39, h⟩ := h
                      refine E_blk (lv' := [some (vr (some (10, this))), some (vi a1), some (vi a2), some (vi a3), some (vr (some (6, i5))), some (vr (some (7, i7))), some (vi r9)]) (st' := [vi (mI M8 55 i37 (mI M8 89 i7 r9.toNatClampNeg).toNatClampNeg)]) (M1 := M8) (pc' := 214) (tb_Works hγ) [.getfield 363, .aload 5, .getfield 366, .iload 6, .iaload, .iaload] (by decide +kernel) rfl rfl ⟨c38, c39, trivial⟩ ?_
                      exact E_iret rfl (by decide +kernel) h
                    · rw [if_neg b35] at h
                      refine E_blk (lv' := [some (vr (some (10, this))), some (vi a1), some (vi a2), some (vi a3), some (vr (some (6, i5))), some (vr (some (7, i7))), some (vi r9)]) (st' := [vi (-2 : Int32)]) (M1 := M8) (pc' := 193) (tb_Works hγ) [.bipush (.negSucc 1)] (by decide +kernel) rfl rfl trivial ?_
                      refine E_goto (off := 21) (tgt := 214) (by decide +kernel) (by decide) ?_
                      exact E_iret rfl (by decide +kernel) h
                  · rw [if_neg b17] at h
                    by_cases b18 : a3 = (8 : Int32)
                    · rw [if_pos b18] at h
                      refine E.up (fun _ _ hJ => J_tswI (len := 69) (dflt := 267) (lo := 0) (hi := 13) (offs := #[69, 111, 117, 123, 129, 135, 141, 147, 176, 224, 243, 249, 255, 261]) (off := 176) (tgt := 215) (by decide +kernel) (by rw [b18]; decide) (by rw [b18]; decide) (by rw [b18]; rfl) (by decide) hJ) ?_
                      refine E_blk (lv' := [some (vr (some (10, this))), some (vi a1), some (vi a2), some (vi a3), some (vr (some (6, i5))), some (vr (some (7, i7))), some (vi r9)]) (st' := [vi r9]) (M1 := M8) (pc' := 217) (tb_Works hγ) [.iload 6] (by decide +kernel) rfl rfl trivial ?_
                      refine E_if_ge (off := 8) (tgt := 225) (by decide +kernel) (by decide) (fun b26 => ?_) (fun b26 => ?_)
                      · rw [if_pos b26] at h
                        obtain ⟨c27, c28, h⟩ := h
                        refine E_blk (lv' := [some (vr (some (10, this))), some (vi a1), some (vi a2), some (vi a3), some (vr (some (6, i5))), some (vr (some (7, i7))), some (vi r9)]) (st' := [vr (mR M8 702 0 a1.toNatClampNeg), vi (mI M8 89 i7 r9.toNatClampNeg)]) (M1 := M8) (pc' := 239) (tb_Works hγ) [.aload 5, .getfield 366, .iload 6, .iaload, .aload_n 0, .getfield 85, .iload_n 1, .aaload] (by decide +kernel) rfl rfl ⟨c27, c28, trivial⟩ ?_
                        obtain ⟨i29, ei29, h⟩ := h
                        rw [ei29]
                        obtain ⟨c30, h⟩ := h
                        refine E_blk (lv' := [some (vr (some (10, this))), some (vi a1), some (vi a2), some (vi a3), some (vr (some (6, i5))), some (vr (some (7, i7))), some (vi r9)]) (st' := [vr (mR M8 702 0 a1.toNatClampNeg), vr (some (43, i29)), vi (mI M8 89 i7 r9.toNatClampNeg)]) (M1 := M8) (pc' := 248) (tb_Works hγ) [.getfield 291, .aload_n 0, .getfield 85, .iload_n 1, .aaload] (by decide +kernel) rfl rfl ⟨c30, trivial⟩ ?_
                        obtain ⟨i31, ei31, h⟩ := h
                        rw [ei31]
                        obtain ⟨c32, c33, c34, h⟩ := h
                        refine E_blk (lv' := [some (vr (some (10, this))), some (vi a1), some (vi a2), some (vi a3), some (vr (some (6, i5))), some (vr (some (7, i7))), some (vi r9)]) (st' := [vi ((mI M8 89 i7 r9.toNatClampNeg) - (mI M8 43 i29 (mI M8 55 i31 (mI M8 89 i7 r9.toNatClampNeg).toNatClampNeg).toNatClampNeg))]) (M1 := M8) (pc' := 262) (tb_Works hγ) [.getfield 363, .aload 5, .getfield 366, .iload 6, .iaload, .iaload, .iaload, .isub] (by decide +kernel) rfl rfl ⟨c32, c33, c34, trivial⟩ ?_
                        exact E_iret rfl (by decide +kernel) h
                      · rw [if_neg b26] at h
                        refine E_blk (lv' := [some (vr (some (10, this))), some (vi a1), some (vi a2), some (vi a3), some (vr (some (6, i5))), some (vr (some (7, i7))), some (vi r9)]) (st' := [vi (-2 : Int32)]) (M1 := M8) (pc' := 222) (tb_Works hγ) [.bipush (.negSucc 1)] (by decide +kernel) rfl rfl trivial ?_
                        refine E_goto (off := 40) (tgt := 262) (by decide +kernel) (by decide) ?_
                        exact E_iret rfl (by decide +kernel) h
                    · rw [if_neg b18] at h
                      by_cases b19 : a3 = (9 : Int32)
                      · rw [if_pos b19] at h
                        refine E.up (fun _ _ hJ => J_tswI (len := 69) (dflt := 267) (lo := 0) (hi := 13) (offs := #[69, 111, 117, 123, 129, 135, 141, 147, 176, 224, 243, 249, 255, 261]) (off := 224) (tgt := 263) (by decide +kernel) (by rw [b19]; decide) (by rw [b19]; decide) (by rw [b19]; rfl) (by decide) hJ) ?_
                        refine E_blk (lv' := [some (vr (some (10, this))), some (vi a1), some (vi a2), some (vi a3), some (vr (some (6, i5))), some (vr (some (7, i7))), some (vi r9)]) (st' := [vi r9]) (M1 := M8) (pc' := 265) (tb_Works hγ) [.iload 6] (by decide +kernel) rfl rfl trivial ?_
                        refine E_if_ge (off := 8) (tgt := 273) (by decide +kernel) (by decide) (fun b24 => ?_) (fun b24 => ?_)
                        · rw [if_pos b24] at h
                          obtain ⟨c25, h⟩ := h
                          refine E_blk (lv' := [some (vr (some (10, this))), some (vi a1), some (vi a2), some (vi a3), some (vr (some (6, i5))), some (vr (some (7, i7))), some (vi r9)]) (st' := [vi (mI M8 90 i7 r9.toNatClampNeg)]) (M1 := M8) (pc' := 281) (tb_Works hγ) [.aload 5, .getfield 369, .iload 6, .iaload] (by decide +kernel) rfl rfl ⟨c25, trivial⟩ ?_
                          exact E_iret rfl (by decide +kernel) h
                        · rw [if_neg b24] at h
                          refine E_blk (lv' := [some (vr (some (10, this))), some (vi a1), some (vi a2), some (vi a3), some (vr (some (6, i5))), some (vr (some (7, i7))), some (vi r9)]) (st' := [vi (-2 : Int32)]) (M1 := M8) (pc' := 270) (tb_Works hγ) [.bipush (.negSucc 1)] (by decide +kernel) rfl rfl trivial ?_
                          refine E_goto (off := 11) (tgt := 281) (by decide +kernel) (by decide) ?_
                          exact E_iret rfl (by decide +kernel) h
                      · rw [if_neg b19] at h
                        by_cases b20 : a3 = (10 : Int32)
                        · rw [if_pos b20] at h
                          refine E.up (fun _ _ hJ => J_tswI (len := 69) (dflt := 267) (lo := 0) (hi := 13) (offs := #[69, 111, 117, 123, 129, 135, 141, 147, 176, 224, 243, 249, 255, 261]) (off := 243) (tgt := 282) (by decide +kernel) (by rw [b20]; decide) (by rw [b20]; decide) (by rw [b20]; rfl) (by decide) hJ) ?_
                          refine E_blk (lv' := [some (vr (some (10, this))), some (vi a1), some (vi a2), some (vi a3), some (vr (some (6, i5))), some (vr (some (7, i7))), some (vi r9)]) (st' := [vi (mI M8 6 i5 6)]) (M1 := M8) (pc' := 287) (tb_Works hγ) [.aload 4, .getfield 371] (by decide +kernel) rfl rfl trivial ?_
                          exact E_iret rfl (by decide +kernel) h
                        · rw [if_neg b20] at h
                          by_cases b21 : a3 = (11 : Int32)
                          · rw [if_pos b21] at h
                            refine E.up (fun _ _ hJ => J_tswI (len := 69) (dflt := 267) (lo := 0) (hi := 13) (offs := #[69, 111, 117, 123, 129, 135, 141, 147, 176, 224, 243, 249, 255, 261]) (off := 249) (tgt := 288) (by decide +kernel) (by rw [b21]; decide) (by rw [b21]; decide) (by rw [b21]; rfl) (by decide) hJ) ?_
                            refine E_blk (lv' := [some (vr (some (10, this))), some (vi a1), some (vi a2), some (vi a3), some (vr (some (6, i5))), some (vr (some (7, i7))), some (vi r9)]) (st' := [vi (mI M8 6 i5 7)]) (M1 := M8) (pc' := 293) (tb_Works hγ) [.aload 4, .getfield 374] (by decide +kernel) rfl rfl trivial ?_
                            exact E_iret rfl (by decide +kernel) h
                          · rw [if_neg b21] at h
                            by_cases b22 : a3 = (12 : Int32)
                            · rw [if_pos b22] at h
                              refine E.up (fun _ _ hJ => J_tswI (len := 69) (dflt := 267) (lo := 0) (hi := 13) (offs := #[69, 111, 117, 123, 129, 135, 141, 147, 176, 224, 243, 249, 255, 261]) (off := 255) (tgt := 294) (by decide +kernel) (by rw [b22]; decide) (by rw [b22]; decide) (by rw [b22]; rfl) (by decide) hJ) ?_
                              refine E_blk (lv' := [some (vr (some (10, this))), some (vi a1), some (vi a2), some (vi a3), some (vr (some (6, i5))), some (vr (some (7, i7))), some (vi r9)]) (st' := [vi (mI M8 6 i5 26)]) (M1 := M8) (pc' := 299) (tb_Works hγ) [.aload 4, .getfield 377] (by decide +kernel) rfl rfl trivial ?_
                              exact E_iret rfl (by decide +kernel) h
                            · rw [if_neg b22] at h
                              by_cases b23 : a3 = (13 : Int32)
                              · rw [if_pos b23] at h
                                refine E.up (fun _ _ hJ => J_tswI (len := 69) (dflt := 267) (lo := 0) (hi := 13) (offs := #[69, 111, 117, 123, 129, 135, 141, 147, 176, 224, 243, 249, 255, 261]) (off := 261) (tgt := 300) (by decide +kernel) (by rw [b23]; decide) (by rw [b23]; decide) (by rw [b23]; rfl) (by decide) hJ) ?_
                                refine E_blk (lv' := [some (vr (some (10, this))), some (vi a1), some (vi a2), some (vi a3), some (vr (some (6, i5))), some (vr (some (7, i7))), some (vi r9)]) (st' := [vi (mI M8 6 i5 3)]) (M1 := M8) (pc' := 305) (tb_Works hγ) [.aload 4, .getfield 380] (by decide +kernel) rfl rfl trivial ?_
                                exact E_iret rfl (by decide +kernel) h
                              · rw [if_neg b23] at h
                                refine E.up (fun _ _ hJ => J_tswO (len := 69) (dflt := 267) (lo := 0) (hi := 13) (offs := #[69, 111, 117, 123, 129, 135, 141, 147, 176, 224, 243, 249, 255, 261]) (tgt := 306) (by decide +kernel) ?_ (by decide) hJ) ?_
                                · have q := sw0 (x := a3) 0
                                  replace q : (a3).toInt < 0 ∨ 1 ≤ (a3).toInt := sw1 q b10 rfl rfl
                                  replace q : (a3).toInt < 0 ∨ 2 ≤ (a3).toInt := sw1 q b11 rfl rfl
                                  replace q : (a3).toInt < 0 ∨ 3 ≤ (a3).toInt := sw1 q b12 rfl rfl
                                  replace q : (a3).toInt < 0 ∨ 4 ≤ (a3).toInt := sw1 q b13 rfl rfl
                                  replace q : (a3).toInt < 0 ∨ 5 ≤ (a3).toInt := sw1 q b14 rfl rfl
                                  replace q : (a3).toInt < 0 ∨ 6 ≤ (a3).toInt := sw1 q b15 rfl rfl
                                  replace q : (a3).toInt < 0 ∨ 7 ≤ (a3).toInt := sw1 q b16 rfl rfl
                                  replace q : (a3).toInt < 0 ∨ 8 ≤ (a3).toInt := sw1 q b17 rfl rfl
                                  replace q : (a3).toInt < 0 ∨ 9 ≤ (a3).toInt := sw1 q b18 rfl rfl
                                  replace q : (a3).toInt < 0 ∨ 10 ≤ (a3).toInt := sw1 q b19 rfl rfl
                                  replace q : (a3).toInt < 0 ∨ 11 ≤ (a3).toInt := sw1 q b20 rfl rfl
                                  replace q : (a3).toInt < 0 ∨ 12 ≤ (a3).toInt := sw1 q b21 rfl rfl
                                  replace q : (a3).toInt < 0 ∨ 13 ≤ (a3).toInt := sw1 q b22 rfl rfl
                                  replace q : (a3).toInt < 0 ∨ 14 ≤ (a3).toInt := sw1 q b23 rfl rfl
                                  omega
                                · refine E_blk (lv' := [some (vr (some (10, this))), some (vi a1), some (vi a2), some (vi a3), some (vr (some (6, i5))), some (vr (some (7, i7))), some (vi r9)]) (st' := [vi (-1 : Int32)]) (M1 := M8) (pc' := 307) (tb_Works hγ) [.iconst (.negSucc 0)] (by decide +kernel) rfl rfl trivial ?_
                                  exact E_iret rfl (by decide +kernel) h
def w_Works_started (this : Nat) (a1 : Int32) (a2 : Int32) (Q : Int32 → Mem → Prop) (M : Mem) : Prop :=
  w_Works_isWorld this a1 (fun r2 M1 => if r2 = 0 then (Q (-1 : Int32) M1) else (vp_in a1 (mL M1 702 0) ∧ ∃ i5, (mR M1 702 0 a1.toNatClampNeg) = some (5, i5) ∧ w_Works_isIn a2 (0 : Int32) ((mI M1 6 i5 26) - (1 : Int32)) (fun r7 M6 => if r7 = 0 then (Q (-1 : Int32) M6) else (vp_in a1 (mL M6 702 0) ∧ ∃ i10, (mR M6 702 0 a1.toNatClampNeg) = some (5, i10) ∧ vp_in a2 (mL M6 85 i10) ∧ Q (mI M6 85 i10 a2.toNatClampNeg) M6)) M1)) M
set_option maxRecDepth 4096 in
theorem lk_Works_started {γ : Gm} (hγ : Gk γ) (this : Nat) (a1 : Int32) (a2 : Int32) (Q : Int32 → Mem → Prop) (M : Mem) (h : w_Works_started this a1 a2 Q M) : E γ k_Works_started 2 0 [some (vr (some (10, this))), some (vi a1), some (vi a2)] [] M (Qi Q) := by
  unfold w_Works_started at h
  refine E_blk (lv' := [some (vr (some (10, this))), some (vi a1), some (vi a2)]) (st' := [vi a1, vr (some (10, this))]) (M1 := M) (pc' := 2) (tb_Works hγ) [.aload_n 0, .iload_n 1] (by decide +kernel) rfl rfl trivial ?_
  refine E_callV (κ' := k_Works_isWorld) (As := [vi a1]) (st := []) mv_Works_isWorld (Or.inl (tbk_mem (j := 6) (k := 32) rfl)) rfl (by decide +kernel) (Nat.le_of_ble_eq_true rfl) (Nat.le_of_ble_eq_true rfl) rfl (by decide) (lk_Works_isWorld hγ this a1 _ M h) (fun _ _ => Qi_r) (fun v M1 hp => Qi_k (R := fun st => E γ k_Works_started 2 5 [some (vr (some (10, this))), some (vi a1), some (vi a2)] st M1 (Qi Q)) hp (fun r2 h => ?_))
  refine E_if_eq (off := 42) (tgt := 47) (by decide +kernel) (by decide) (fun b3 => ?_) (fun b3 => ?_)
  · rw [if_pos b3] at h
    refine E_blk (lv' := [some (vr (some (10, this))), some (vi a1), some (vi a2)]) (st' := [vi (-1 : Int32)]) (M1 := M1) (pc' := 48) (tb_Works hγ) [.iconst (.negSucc 0)] (by decide +kernel) rfl rfl trivial ?_
    exact E_iret rfl (by decide +kernel) h
  · rw [if_neg b3] at h
    obtain ⟨c4, h⟩ := h
    refine E_blk (lv' := [some (vr (some (10, this))), some (vi a1), some (vi a2)]) (st' := [vr (mR M1 702 0 a1.toNatClampNeg), vi (0 : Int32), vi a2]) (M1 := M1) (pc' := 16) (tb_Works hγ) [.iload_n 2, .iconst 0, .aload_n 0, .getfield 85, .iload_n 1, .aaload] (by decide +kernel) rfl rfl ⟨c4, trivial⟩ ?_
    obtain ⟨i5, ei5, h⟩ := h
    rw [ei5]
    refine E_blk (lv' := [some (vr (some (10, this))), some (vi a1), some (vi a2)]) (st' := [vi ((mI M1 6 i5 26) - (1 : Int32)), vi (0 : Int32), vi a2]) (M1 := M1) (pc' := 24) (tb_Works hγ) [.getfield 141, .getfield 377, .iconst 1, .isub] (by decide +kernel) rfl rfl trivial ?_
    refine E_callS (κ' := k_Works_isIn) (As := [vi a2, vi (0 : Int32), vi ((mI M1 6 i5 26) - (1 : Int32))]) (st := []) ms_Works_isIn (Or.inl (tbk_mem (j := 5) (k := 237) rfl)) rfl (by decide +kernel) (Nat.le_of_ble_eq_true rfl) (Nat.le_of_ble_eq_true rfl) rfl (by decide) (lk_Works_isIn hγ a2 (0 : Int32) ((mI M1 6 i5 26) - (1 : Int32)) _ M1 h) (fun _ _ => Qi_r) (fun v M6 hp => Qi_k (R := fun st => E γ k_Works_started 2 27 [some (vr (some (10, this))), some (vi a1), some (vi a2)] st M6 (Qi Q)) hp (fun r7 h => ?_))
    refine E_if_eq (off := 20) (tgt := 47) (by decide +kernel) (by decide) (fun b8 => ?_) (fun b8 => ?_)
    · rw [if_pos b8] at h
      refine E_blk (lv' := [some (vr (some (10, this))), some (vi a1), some (vi a2)]) (st' := [vi (-1 : Int32)]) (M1 := M6) (pc' := 48) (tb_Works hγ) [.iconst (.negSucc 0)] (by decide +kernel) rfl rfl trivial ?_
      exact E_iret rfl (by decide +kernel) h
    · rw [if_neg b8] at h
      obtain ⟨c9, h⟩ := h
      refine E_blk (lv' := [some (vr (some (10, this))), some (vi a1), some (vi a2)]) (st' := [vr (mR M6 702 0 a1.toNatClampNeg)]) (M1 := M6) (pc' := 36) (tb_Works hγ) [.aload_n 0, .getfield 85, .iload_n 1, .aaload] (by decide +kernel) rfl rfl ⟨c9, trivial⟩ ?_
      obtain ⟨i10, ei10, h⟩ := h
      rw [ei10]
      obtain ⟨c11, h⟩ := h
      refine E_blk (lv' := [some (vr (some (10, this))), some (vi a1), some (vi a2)]) (st' := [vi (mI M6 85 i10 a2.toNatClampNeg)]) (M1 := M6) (pc' := 44) (tb_Works hγ) [.getfield 141, .getfield 383, .iload_n 2, .iaload] (by decide +kernel) rfl rfl ⟨c11, trivial⟩ ?_
      refine E_goto (off := 4) (tgt := 48) (by decide +kernel) (by decide) ?_
      exact E_iret rfl (by decide +kernel) h
def w_Works_shown (this : Nat) (a1 : Int32) (a2 : Int32) (Q : Int32 → Mem → Prop) (M : Mem) : Prop :=
  if a2 = 0 then (Q a1 M) else (if a1 ≤ (800 : Int32) then (Q a1 M) else (Q (0 : Int32) M))
set_option maxRecDepth 4096 in
theorem lk_Works_shown {γ : Gm} (hγ : Gk γ) (this : Nat) (a1 : Int32) (a2 : Int32) (Q : Int32 → Mem → Prop) (M : Mem) (h : w_Works_shown this a1 a2 Q M) : E γ k_Works_shown 0 0 [some (vr (some (10, this))), some (vi a1), some (vi a2)] [] M (Qi Q) := by
  unfold w_Works_shown at h
  refine E_blk (lv' := [some (vr (some (10, this))), some (vi a1), some (vi a2)]) (st' := [vi a2]) (M1 := M) (pc' := 1) (tb_Works hγ) [.iload_n 2] (by decide +kernel) rfl rfl trivial ?_
  refine E_if_eq (off := 14) (tgt := 15) (by decide +kernel) (by decide) (fun b1 => ?_) (fun b1 => ?_)
  · rw [if_pos b1] at h
    refine E_blk (lv' := [some (vr (some (10, this))), some (vi a1), some (vi a2)]) (st' := [vi a1]) (M1 := M) (pc' := 16) (tb_Works hγ) [.iload_n 1] (by decide +kernel) rfl rfl trivial ?_
    exact E_iret rfl (by decide +kernel) h
  · rw [if_neg b1] at h
    refine E_blk (lv' := [some (vr (some (10, this))), some (vi a1), some (vi a2)]) (st' := [vi (800 : Int32), vi a1]) (M1 := M) (pc' := 8) (tb_Works hγ) [.iload_n 1, .sipush 800] (by decide +kernel) rfl rfl trivial ?_
    refine E_icmp_le (off := 7) (tgt := 15) (by decide +kernel) (by decide) (fun b2 => ?_) (fun b2 => ?_)
    · rw [if_pos b2] at h
      refine E_blk (lv' := [some (vr (some (10, this))), some (vi a1), some (vi a2)]) (st' := [vi a1]) (M1 := M) (pc' := 16) (tb_Works hγ) [.iload_n 1] (by decide +kernel) rfl rfl trivial ?_
      exact E_iret rfl (by decide +kernel) h
    · rw [if_neg b2] at h
      refine E_blk (lv' := [some (vr (some (10, this))), some (vi a1), some (vi a2)]) (st' := [vi (0 : Int32)]) (M1 := M) (pc' := 12) (tb_Works hγ) [.iconst 0] (by decide +kernel) rfl rfl trivial ?_
      refine E_goto (off := 4) (tgt := 16) (by decide +kernel) (by decide) ?_
      exact E_iret rfl (by decide +kernel) h
def w_Works_value_j114 (this : Nat) (Q : Int32 → Mem → Prop) (v5 : Nat) (s0 : Int32) (s1 : Int32) (M : Mem) : Prop :=
  vp_in (s1 + s0) (mL M 94 v5) ∧ vp_in (s1 + s0) (mL M 514 v5) ∧ w_Works_shown this (mI M 94 v5 (s1 + s0).toNatClampNeg) (mI M 514 v5 (s1 + s0).toNatClampNeg) (fun r22 M21 => Q r22 M21) M
def w_Works_value_j79 (this : Nat) (Q : Int32 → Mem → Prop) (v3 : Int32) (v4 : Int32) (v5 : Nat) (v6 : Int32) (s0 : Int32) (s1 : Int32) (M : Mem) : Prop :=
  if s1 < s0 then (if v3 = 0 then (w_Works_value_j114 this Q v5 v4 ((40 : Int32) * v6) M) else (vp_in v6 (mL M 91 v5) ∧ w_Works_value_j114 this Q v5 ((((20 : Int32) + (mI M 91 v5 v6.toNatClampNeg)) - (1 : Int32)) - v4) ((40 : Int32) * v6) M)) else (Q (-1 : Int32) M)
def w_Works_value (this : Nat) (a1 : Int32) (a2 : Int32) (a3 : Int32) (a4 : Int32) (Q : Int32 → Mem → Prop) (M : Mem) : Prop :=
  w_Works_isThread this a1 a2 (fun r2 M1 => if r2 = 0 then (Q (-1 : Int32) M1) else (vp_in a1 (mL M1 702 0) ∧ ∃ i5, (mR M1 702 0 a1.toNatClampNeg) = some (5, i5) ∧ vp_in a2 (mL M1 700 i5) ∧ ∃ i7, (mR M1 700 i5 a2.toNatClampNeg) = some (7, i7) ∧ w_Line_uppermost i7 (fun r9 M8 => if r9 < 0 then (Q (-1 : Int32) M8) else (if a4 < 0 then (Q (-1 : Int32) M8) else (if a3 = 0 then (vp_in a1 (mL M8 702 0) ∧ ∃ i14, (mR M8 702 0 a1.toNatClampNeg) = some (5, i14) ∧ vp_in r9 (mL M8 89 i7) ∧ vp_in (mI M8 89 i7 r9.toNatClampNeg) (mL M8 61 i14) ∧ w_Works_value_j79 this Q a3 a4 i7 r9 (mI M8 61 i14 (mI M8 89 i7 r9.toNatClampNeg).toNatClampNeg) a4 M8) else (vp_in r9 (mL M8 91 i7) ∧ w_Works_value_j79 this Q a3 a4 i7 r9 (mI M8 91 i7 r9.toNatClampNeg) a4 M8)))) M1)) M
set_option maxRecDepth 4096 in
theorem lk_Works_value_j114 {γ : Gm} (hγ : Gk γ) (this : Nat) (Q : Int32 → Mem → Prop) (v5 : Nat) (s0 : Int32) (s1 : Int32) (M : Mem) (h : w_Works_value_j114 this Q v5 s0 s1 M) : E γ k_Works_value 3 114 [some (vr (some (10, this))), none, none, none, none, some (vr (some (7, v5))), none, none] [vi s0, vi s1] M (Qi Q) := by
  unfold w_Works_value_j114 at h
  obtain ⟨c19, c20, h⟩ := h
  refine E_blk (lv' := [some (vr (some (10, this))), none, none, none, none, some (vr (some (7, v5))), none, some (vi (s1 + s0))]) (st' := [vi (mI M 514 v5 (s1 + s0).toNatClampNeg), vi (mI M 94 v5 (s1 + s0).toNatClampNeg), vr (some (10, this))]) (M1 := M) (pc' := 134) (tb_Works hγ) [.iadd, .istore 7, .aload_n 0, .aload 5, .getfield 389, .iload 7, .iaload, .aload 5, .getfield 392, .iload 7, .baload] (by decide +kernel) rfl rfl ⟨c19, c20, trivial⟩ ?_
  refine E_callV (κ' := k_Works_shown) (As := [vi (mI M 94 v5 (s1 + s0).toNatClampNeg), vi (mI M 514 v5 (s1 + s0).toNatClampNeg)]) (st := []) mv_Works_shown (Or.inl (tbk_mem (j := 9) (k := 137) rfl)) rfl (by decide +kernel) (Nat.le_of_ble_eq_true rfl) (Nat.le_of_ble_eq_true rfl) rfl (by decide) (lk_Works_shown hγ this (mI M 94 v5 (s1 + s0).toNatClampNeg) (mI M 514 v5 (s1 + s0).toNatClampNeg) _ M h) (fun _ _ => Qi_r) (fun v M21 hp => Qi_k (R := fun st => E γ k_Works_value 3 137 [some (vr (some (10, this))), none, none, none, none, some (vr (some (7, v5))), none, some (vi (s1 + s0))] st M21 (Qi Q)) hp (fun r22 h => ?_))
  exact E_iret rfl (by decide +kernel) h
set_option maxRecDepth 4096 in
theorem lk_Works_value_j79 {γ : Gm} (hγ : Gk γ) (this : Nat) (Q : Int32 → Mem → Prop) (v3 : Int32) (v4 : Int32) (v5 : Nat) (v6 : Int32) (s0 : Int32) (s1 : Int32) (M : Mem) (h : w_Works_value_j79 this Q v3 v4 v5 v6 s0 s1 M) : E γ k_Works_value 3 79 [some (vr (some (10, this))), none, none, some (vi v3), some (vi v4), some (vr (some (7, v5))), some (vi v6), none] [vi s0, vi s1] M (Qi Q) := by
  unfold w_Works_value_j79 at h
  refine E_icmp_lt (off := 5) (tgt := 84) (by decide +kernel) (by decide) (fun b17 => ?_) (fun b17 => ?_)
  · rw [if_pos b17] at h
    refine E_blk (lv' := [some (vr (some (10, this))), none, none, some (vi v3), some (vi v4), some (vr (some (7, v5))), some (vi v6), none]) (st' := [vi v3, vi ((40 : Int32) * v6)]) (M1 := M) (pc' := 90) (tb_Works hγ) [.bipush 40, .iload 6, .imul, .iload_n 3] (by decide +kernel) rfl rfl trivial ?_
    refine E_if_eq (off := 22) (tgt := 112) (by decide +kernel) (by decide) (fun b18 => ?_) (fun b18 => ?_)
    · rw [if_pos b18] at h
      refine E_blk (lv' := [some (vr (some (10, this))), none, none, some (vi v3), some (vi v4), some (vr (some (7, v5))), some (vi v6), none]) (st' := [vi v4, vi ((40 : Int32) * v6)]) (M1 := M) (pc' := 114) (tb_Works hγ) [.iload 4] (by decide +kernel) rfl rfl trivial ?_
      refine E_mask [true, false, false, false, false, true, false, false] rfl ?_
      exact lk_Works_value_j114 hγ this Q v5 v4 ((40 : Int32) * v6) M h
    · rw [if_neg b18] at h
      obtain ⟨c23, h⟩ := h
      refine E_blk (lv' := [some (vr (some (10, this))), none, none, some (vi v3), some (vi v4), some (vr (some (7, v5))), some (vi v6), none]) (st' := [vi ((((20 : Int32) + (mI M 91 v5 v6.toNatClampNeg)) - (1 : Int32)) - v4), vi ((40 : Int32) * v6)]) (M1 := M) (pc' := 109) (tb_Works hγ) [.bipush 20, .aload 5, .getfield 386, .iload 6, .iaload, .iadd, .iconst 1, .isub, .iload 4, .isub] (by decide +kernel) rfl rfl ⟨c23, trivial⟩ ?_
      refine E_goto (off := 5) (tgt := 114) (by decide +kernel) (by decide) ?_
      refine E_mask [true, false, false, false, false, true, false, false] rfl ?_
      exact lk_Works_value_j114 hγ this Q v5 ((((20 : Int32) + (mI M 91 v5 v6.toNatClampNeg)) - (1 : Int32)) - v4) ((40 : Int32) * v6) M h
  · rw [if_neg b17] at h
    refine E_blk (lv' := [some (vr (some (10, this))), none, none, some (vi v3), some (vi v4), some (vr (some (7, v5))), some (vi v6), none]) (st' := [vi (-1 : Int32)]) (M1 := M) (pc' := 83) (tb_Works hγ) [.iconst (.negSucc 0)] (by decide +kernel) rfl rfl trivial ?_
    exact E_iret rfl (by decide +kernel) h
set_option maxRecDepth 4096 in
theorem lk_Works_value {γ : Gm} (hγ : Gk γ) (this : Nat) (a1 : Int32) (a2 : Int32) (a3 : Int32) (a4 : Int32) (Q : Int32 → Mem → Prop) (M : Mem) (h : w_Works_value this a1 a2 a3 a4 Q M) : E γ k_Works_value 3 0 [some (vr (some (10, this))), some (vi a1), some (vi a2), some (vi a3), some (vi a4), none, none, none] [] M (Qi Q) := by
  unfold w_Works_value at h
  refine E_blk (lv' := [some (vr (some (10, this))), some (vi a1), some (vi a2), some (vi a3), some (vi a4), none, none, none]) (st' := [vi a2, vi a1, vr (some (10, this))]) (M1 := M) (pc' := 3) (tb_Works hγ) [.aload_n 0, .iload_n 1, .iload_n 2] (by decide +kernel) rfl rfl trivial ?_
  refine E_callV (κ' := k_Works_isThread) (As := [vi a1, vi a2]) (st := []) mv_Works_isThread (Or.inl (tbk_mem (j := 8) (k := 76) rfl)) rfl (by decide +kernel) (Nat.le_of_ble_eq_true rfl) (Nat.le_of_ble_eq_true rfl) rfl (by decide) (lk_Works_isThread hγ this a1 a2 _ M h) (fun _ _ => Qi_r) (fun v M1 hp => Qi_k (R := fun st => E γ k_Works_value 3 6 [some (vr (some (10, this))), some (vi a1), some (vi a2), some (vi a3), some (vi a4), none, none, none] st M1 (Qi Q)) hp (fun r2 h => ?_))
  refine E_if_ne (off := 5) (tgt := 11) (by decide +kernel) (by decide) (fun b3 => ?_) (fun b3 => ?_)
  · rw [if_pos b3] at h
    refine E_blk (lv' := [some (vr (some (10, this))), some (vi a1), some (vi a2), some (vi a3), some (vi a4), none, none, none]) (st' := [vi (-1 : Int32)]) (M1 := M1) (pc' := 10) (tb_Works hγ) [.iconst (.negSucc 0)] (by decide +kernel) rfl rfl trivial ?_
    exact E_iret rfl (by decide +kernel) h
  · rw [if_neg b3] at h
    obtain ⟨c4, h⟩ := h
    refine E_blk (lv' := [some (vr (some (10, this))), some (vi a1), some (vi a2), some (vi a3), some (vi a4), none, none, none]) (st' := [vr (mR M1 702 0 a1.toNatClampNeg)]) (M1 := M1) (pc' := 17) (tb_Works hγ) [.aload_n 0, .getfield 85, .iload_n 1, .aaload] (by decide +kernel) rfl rfl ⟨c4, trivial⟩ ?_
    obtain ⟨i5, ei5, h⟩ := h
    rw [ei5]
    obtain ⟨c6, h⟩ := h
    refine E_blk (lv' := [some (vr (some (10, this))), some (vi a1), some (vi a2), some (vi a3), some (vi a4), none, none, none]) (st' := [vr (mR M1 700 i5 a2.toNatClampNeg)]) (M1 := M1) (pc' := 25) (tb_Works hγ) [.getfield 141, .getfield 180, .iload_n 2, .aaload] (by decide +kernel) rfl rfl ⟨c6, trivial⟩ ?_
    obtain ⟨i7, ei7, h⟩ := h
    rw [ei7]
    refine E_blk (lv' := [some (vr (some (10, this))), some (vi a1), some (vi a2), some (vi a3), some (vi a4), some (vr (some (7, i7))), none, none]) (st' := [vr (some (7, i7))]) (M1 := M1) (pc' := 29) (tb_Works hγ) [.astore 5, .aload 5] (by decide +kernel) rfl rfl trivial ?_
    refine E_callV (κ' := k_Line_uppermost) (As := []) (st := []) mv_Line_uppermost (Or.inl (tbk_mem (j := 9) (k := 124) rfl)) rfl (by decide +kernel) (Nat.le_of_ble_eq_true rfl) (Nat.le_of_ble_eq_true rfl) rfl (by decide) (lk_Line_uppermost hγ i7 _ M1 h) (fun _ _ => Qi_r) (fun v M8 hp => Qi_k (R := fun st => E γ k_Works_value 3 32 [some (vr (some (10, this))), some (vi a1), some (vi a2), some (vi a3), some (vi a4), some (vr (some (7, i7))), none, none] st M8 (Qi Q)) hp (fun r9 h => ?_))
    refine E_blk (lv' := [some (vr (some (10, this))), some (vi a1), some (vi a2), some (vi a3), some (vi a4), some (vr (some (7, i7))), some (vi r9), none]) (st' := [vi r9]) (M1 := M8) (pc' := 36) (tb_Works hγ) [.istore 6, .iload 6] (by decide +kernel) rfl rfl trivial ?_
    refine E_if_lt (off := 46) (tgt := 82) (by decide +kernel) (by decide) (fun b10 => ?_) (fun b10 => ?_)
    · rw [if_pos b10] at h
      refine E_blk (lv' := [some (vr (some (10, this))), some (vi a1), some (vi a2), some (vi a3), some (vi a4), some (vr (some (7, i7))), some (vi r9), none]) (st' := [vi (-1 : Int32)]) (M1 := M8) (pc' := 83) (tb_Works hγ) [.iconst (.negSucc 0)] (by decide +kernel) rfl rfl trivial ?_
      exact E_iret rfl (by decide +kernel) h
    · rw [if_neg b10] at h
      refine E_blk (lv' := [some (vr (some (10, this))), some (vi a1), some (vi a2), some (vi a3), some (vi a4), some (vr (some (7, i7))), some (vi r9), none]) (st' := [vi a4]) (M1 := M8) (pc' := 41) (tb_Works hγ) [.iload 4] (by decide +kernel) rfl rfl trivial ?_
      refine E_if_lt (off := 41) (tgt := 82) (by decide +kernel) (by decide) (fun b11 => ?_) (fun b11 => ?_)
      · rw [if_pos b11] at h
        refine E_blk (lv' := [some (vr (some (10, this))), some (vi a1), some (vi a2), some (vi a3), some (vi a4), some (vr (some (7, i7))), some (vi r9), none]) (st' := [vi (-1 : Int32)]) (M1 := M8) (pc' := 83) (tb_Works hγ) [.iconst (.negSucc 0)] (by decide +kernel) rfl rfl trivial ?_
        exact E_iret rfl (by decide +kernel) h
      · rw [if_neg b11] at h
        refine E_blk (lv' := [some (vr (some (10, this))), some (vi a1), some (vi a2), some (vi a3), some (vi a4), some (vr (some (7, i7))), some (vi r9), none]) (st' := [vi a3, vi a4]) (M1 := M8) (pc' := 47) (tb_Works hγ) [.iload 4, .iload_n 3] (by decide +kernel) rfl rfl trivial ?_
        refine E_if_eq (off := 14) (tgt := 61) (by decide +kernel) (by decide) (fun b12 => ?_) (fun b12 => ?_)
        · rw [if_pos b12] at h
          obtain ⟨c13, h⟩ := h
          refine E_blk (lv' := [some (vr (some (10, this))), some (vi a1), some (vi a2), some (vi a3), some (vi a4), some (vr (some (7, i7))), some (vi r9), none]) (st' := [vr (mR M8 702 0 a1.toNatClampNeg), vi a4]) (M1 := M8) (pc' := 67) (tb_Works hγ) [.aload_n 0, .getfield 85, .iload_n 1, .aaload] (by decide +kernel) rfl rfl ⟨c13, trivial⟩ ?_
          obtain ⟨i14, ei14, h⟩ := h
          rw [ei14]
          obtain ⟨c15, c16, h⟩ := h
          refine E_blk (lv' := [some (vr (some (10, this))), some (vi a1), some (vi a2), some (vi a3), some (vi a4), some (vr (some (7, i7))), some (vi r9), none]) (st' := [vi (mI M8 61 i14 (mI M8 89 i7 r9.toNatClampNeg).toNatClampNeg), vi a4]) (M1 := M8) (pc' := 79) (tb_Works hγ) [.getfield 314, .aload 5, .getfield 366, .iload 6, .iaload, .iaload] (by decide +kernel) rfl rfl ⟨c15, c16, trivial⟩ ?_
          refine E_mask [true, false, false, true, true, true, true, false] rfl ?_
          exact lk_Works_value_j79 hγ this Q a3 a4 i7 r9 (mI M8 61 i14 (mI M8 89 i7 r9.toNatClampNeg).toNatClampNeg) a4 M8 h
        · rw [if_neg b12] at h
          obtain ⟨c24, h⟩ := h
          refine E_blk (lv' := [some (vr (some (10, this))), some (vi a1), some (vi a2), some (vi a3), some (vi a4), some (vr (some (7, i7))), some (vi r9), none]) (st' := [vi (mI M8 91 i7 r9.toNatClampNeg), vi a4]) (M1 := M8) (pc' := 58) (tb_Works hγ) [.aload 5, .getfield 386, .iload 6, .iaload] (by decide +kernel) rfl rfl ⟨c24, trivial⟩ ?_
          refine E_goto (off := 21) (tgt := 79) (by decide +kernel) (by decide) ?_
          refine E_mask [true, false, false, true, true, true, true, false] rfl ?_
          exact lk_Works_value_j79 hγ this Q a3 a4 i7 r9 (mI M8 91 i7 r9.toNatClampNeg) a4 M8 h
def w_Works_fixed_j87 (this : Nat) (Q : Int32 → Mem → Prop) (s0 : Int32) (s1 : Int32) (M : Mem) : Prop :=
  w_Works_shown this s1 s0 (fun r18 M17 => Q r18 M17) M
def w_Works_fixed (this : Nat) (a1 : Int32) (a2 : Int32) (a3 : Int32) (Q : Int32 → Mem → Prop) (M : Mem) : Prop :=
  w_Works_isClass this a1 a2 (fun r2 M1 => if r2 = 0 then (Q (-1 : Int32) M1) else (vp_in a1 (mL M1 702 0) ∧ ∃ i5, (mR M1 702 0 a1.toNatClampNeg) = some (5, i5) ∧ w_Works_isField this i5 a2 a3 (fun r7 M6 => if r7 = 0 then (Q (-1 : Int32) M6) else (vp_in a1 (mL M6 702 0) ∧ ∃ i10, (mR M6 702 0 a1.toNatClampNeg) = some (5, i10) ∧ vp_in a2 (mL M6 41 i10) ∧ vp_in ((mI M6 41 i10 a2.toNatClampNeg) + a3) (mL M6 51 i10) ∧ if ((mI M6 51 i10 ((mI M6 41 i10 a2.toNatClampNeg) + a3).toNatClampNeg) &&& (1 : Int32)) = 0 then (Q (-1 : Int32) M6) else (vp_in ((mI M6 41 i10 a2.toNatClampNeg) + a3) (mL M6 54 i10) ∧ vp_in ((mI M6 41 i10 a2.toNatClampNeg) + a3) (mL M6 50 i10) ∧ if (mI M6 50 i10 ((mI M6 41 i10 a2.toNatClampNeg) + a3).toNatClampNeg) = 0 then (w_Works_fixed_j87 this Q (0 : Int32) (mI M6 54 i10 ((mI M6 41 i10 a2.toNatClampNeg) + a3).toNatClampNeg) M6) else (w_Works_fixed_j87 this Q (1 : Int32) (mI M6 54 i10 ((mI M6 41 i10 a2.toNatClampNeg) + a3).toNatClampNeg) M6)))) M1)) M
set_option maxRecDepth 4096 in
theorem lk_Works_fixed_j87 {γ : Gm} (hγ : Gk γ) (this : Nat) (Q : Int32 → Mem → Prop) (s0 : Int32) (s1 : Int32) (M : Mem) (h : w_Works_fixed_j87 this Q s0 s1 M) : E γ k_Works_fixed 3 87 [none, none, none, none, none, none] [vi s0, vi s1, vr (some (10, this))] M (Qi Q) := by
  unfold w_Works_fixed_j87 at h
  refine E_callV (κ' := k_Works_shown) (As := [vi s1, vi s0]) (st := []) mv_Works_shown (Or.inl (tbk_mem (j := 9) (k := 137) rfl)) rfl (by decide +kernel) (Nat.le_of_ble_eq_true rfl) (Nat.le_of_ble_eq_true rfl) rfl (by decide) (lk_Works_shown hγ this s1 s0 _ M h) (fun _ _ => Qi_r) (fun v M17 hp => Qi_k (R := fun st => E γ k_Works_fixed 3 90 [none, none, none, none, none, none] st M17 (Qi Q)) hp (fun r18 h => ?_))
  exact E_iret rfl (by decide +kernel) h
set_option maxRecDepth 4096 in
theorem lk_Works_fixed {γ : Gm} (hγ : Gk γ) (this : Nat) (a1 : Int32) (a2 : Int32) (a3 : Int32) (Q : Int32 → Mem → Prop) (M : Mem) (h : w_Works_fixed this a1 a2 a3 Q M) : E γ k_Works_fixed 3 0 [some (vr (some (10, this))), some (vi a1), some (vi a2), some (vi a3), none, none] [] M (Qi Q) := by
  unfold w_Works_fixed at h
  refine E_blk (lv' := [some (vr (some (10, this))), some (vi a1), some (vi a2), some (vi a3), none, none]) (st' := [vi a2, vi a1, vr (some (10, this))]) (M1 := M) (pc' := 3) (tb_Works hγ) [.aload_n 0, .iload_n 1, .iload_n 2] (by decide +kernel) rfl rfl trivial ?_
  refine E_callV (κ' := k_Works_isClass) (As := [vi a1, vi a2]) (st := []) mv_Works_isClass (Or.inl (tbk_mem (j := 7) (k := 49) rfl)) rfl (by decide +kernel) (Nat.le_of_ble_eq_true rfl) (Nat.le_of_ble_eq_true rfl) rfl (by decide) (lk_Works_isClass hγ this a1 a2 _ M h) (fun _ _ => Qi_r) (fun v M1 hp => Qi_k (R := fun st => E γ k_Works_fixed 3 6 [some (vr (some (10, this))), some (vi a1), some (vi a2), some (vi a3), none, none] st M1 (Qi Q)) hp (fun r2 h => ?_))
  refine E_if_eq (off := 18) (tgt := 24) (by decide +kernel) (by decide) (fun b3 => ?_) (fun b3 => ?_)
  · rw [if_pos b3] at h
    refine E_blk (lv' := [some (vr (some (10, this))), some (vi a1), some (vi a2), some (vi a3), none, none]) (st' := [vi (-1 : Int32)]) (M1 := M1) (pc' := 25) (tb_Works hγ) [.iconst (.negSucc 0)] (by decide +kernel) rfl rfl trivial ?_
    exact E_iret rfl (by decide +kernel) h
  · rw [if_neg b3] at h
    obtain ⟨c4, h⟩ := h
    refine E_blk (lv' := [some (vr (some (10, this))), some (vi a1), some (vi a2), some (vi a3), none, none]) (st' := [vr (mR M1 702 0 a1.toNatClampNeg), vr (some (10, this))]) (M1 := M1) (pc' := 16) (tb_Works hγ) [.aload_n 0, .aload_n 0, .getfield 85, .iload_n 1, .aaload] (by decide +kernel) rfl rfl ⟨c4, trivial⟩ ?_
    obtain ⟨i5, ei5, h⟩ := h
    rw [ei5]
    refine E_blk (lv' := [some (vr (some (10, this))), some (vi a1), some (vi a2), some (vi a3), none, none]) (st' := [vi a3, vi a2, vr (some (5, i5)), vr (some (10, this))]) (M1 := M1) (pc' := 18) (tb_Works hγ) [.iload_n 2, .iload_n 3] (by decide +kernel) rfl rfl trivial ?_
    refine E_callV (κ' := k_Works_isField) (As := [vr (some (5, i5)), vi a2, vi a3]) (st := []) mv_Works_isField (Or.inl (tbk_mem (j := 7) (k := 58) rfl)) rfl (by decide +kernel) (Nat.le_of_ble_eq_true rfl) (Nat.le_of_ble_eq_true rfl) rfl (by decide) (lk_Works_isField hγ this i5 a2 a3 _ M1 h) (fun _ _ => Qi_r) (fun v M6 hp => Qi_k (R := fun st => E γ k_Works_fixed 3 21 [some (vr (some (10, this))), some (vi a1), some (vi a2), some (vi a3), none, none] st M6 (Qi Q)) hp (fun r7 h => ?_))
    refine E_if_ne (off := 5) (tgt := 26) (by decide +kernel) (by decide) (fun b8 => ?_) (fun b8 => ?_)
    · rw [if_pos b8] at h
      refine E_blk (lv' := [some (vr (some (10, this))), some (vi a1), some (vi a2), some (vi a3), none, none]) (st' := [vi (-1 : Int32)]) (M1 := M6) (pc' := 25) (tb_Works hγ) [.iconst (.negSucc 0)] (by decide +kernel) rfl rfl trivial ?_
      exact E_iret rfl (by decide +kernel) h
    · rw [if_neg b8] at h
      obtain ⟨c9, h⟩ := h
      refine E_blk (lv' := [some (vr (some (10, this))), some (vi a1), some (vi a2), some (vi a3), none, none]) (st' := [vr (mR M6 702 0 a1.toNatClampNeg)]) (M1 := M6) (pc' := 32) (tb_Works hγ) [.aload_n 0, .getfield 85, .iload_n 1, .aaload] (by decide +kernel) rfl rfl ⟨c9, trivial⟩ ?_
      obtain ⟨i10, ei10, h⟩ := h
      rw [ei10]
      obtain ⟨c11, c12, h⟩ := h
      refine E_blk (lv' := [some (vr (some (10, this))), some (vi a1), some (vi a2), some (vi a3), some (vr (some (5, i10))), some (vi ((mI M6 41 i10 a2.toNatClampNeg) + a3))]) (st' := [vi ((mI M6 51 i10 ((mI M6 41 i10 a2.toNatClampNeg) + a3).toNatClampNeg) &&& (1 : Int32))]) (M1 := M6) (pc' := 55) (tb_Works hγ) [.astore 4, .aload 4, .getfield 285, .iload_n 2, .iaload, .iload_n 3, .iadd, .istore 5, .aload 4, .getfield 296, .iload 5, .iaload, .iconst 1, .iand] (by decide +kernel) rfl rfl ⟨c11, c12, trivial⟩ ?_
      refine E_if_ne (off := 7) (tgt := 62) (by decide +kernel) (by decide) (fun b13 => ?_) (fun b13 => ?_)
      · rw [if_pos b13] at h
        refine E_blk (lv' := [some (vr (some (10, this))), some (vi a1), some (vi a2), some (vi a3), some (vr (some (5, i10))), some (vi ((mI M6 41 i10 a2.toNatClampNeg) + a3))]) (st' := [vi (-1 : Int32)]) (M1 := M6) (pc' := 59) (tb_Works hγ) [.iconst (.negSucc 0)] (by decide +kernel) rfl rfl trivial ?_
        refine E_goto (off := 31) (tgt := 90) (by decide +kernel) (by decide) ?_
        exact E_iret rfl (by decide +kernel) h
      · rw [if_neg b13] at h
        obtain ⟨c14, c15, h⟩ := h
        refine E_blk (lv' := [some (vr (some (10, this))), some (vi a1), some (vi a2), some (vi a3), some (vr (some (5, i10))), some (vi ((mI M6 41 i10 a2.toNatClampNeg) + a3))]) (st' := [vi (mI M6 50 i10 ((mI M6 41 i10 a2.toNatClampNeg) + a3).toNatClampNeg), vi (mI M6 54 i10 ((mI M6 41 i10 a2.toNatClampNeg) + a3).toNatClampNeg), vr (some (10, this))]) (M1 := M6) (pc' := 79) (tb_Works hγ) [.aload_n 0, .aload 4, .getfield 399, .iload 5, .iaload, .aload 4, .getfield 299, .iload 5, .iaload] (by decide +kernel) rfl rfl ⟨c14, c15, trivial⟩ ?_
        refine E_if_eq (off := 7) (tgt := 86) (by decide +kernel) (by decide) (fun b16 => ?_) (fun b16 => ?_)
        · rw [if_pos b16] at h
          refine E_blk (lv' := [some (vr (some (10, this))), some (vi a1), some (vi a2), some (vi a3), some (vr (some (5, i10))), some (vi ((mI M6 41 i10 a2.toNatClampNeg) + a3))]) (st' := [vi (0 : Int32), vi (mI M6 54 i10 ((mI M6 41 i10 a2.toNatClampNeg) + a3).toNatClampNeg), vr (some (10, this))]) (M1 := M6) (pc' := 87) (tb_Works hγ) [.iconst 0] (by decide +kernel) rfl rfl trivial ?_
          refine E_mask [false, false, false, false, false, false] rfl ?_
          exact lk_Works_fixed_j87 hγ this Q (0 : Int32) (mI M6 54 i10 ((mI M6 41 i10 a2.toNatClampNeg) + a3).toNatClampNeg) M6 h
        · rw [if_neg b16] at h
          refine E_blk (lv' := [some (vr (some (10, this))), some (vi a1), some (vi a2), some (vi a3), some (vr (some (5, i10))), some (vi ((mI M6 41 i10 a2.toNatClampNeg) + a3))]) (st' := [vi (1 : Int32), vi (mI M6 54 i10 ((mI M6 41 i10 a2.toNatClampNeg) + a3).toNatClampNeg), vr (some (10, this))]) (M1 := M6) (pc' := 83) (tb_Works hγ) [.iconst 1] (by decide +kernel) rfl rfl trivial ?_
          refine E_goto (off := 4) (tgt := 87) (by decide +kernel) (by decide) ?_
          refine E_mask [false, false, false, false, false, false] rfl ?_
          exact lk_Works_fixed_j87 hγ this Q (1 : Int32) (mI M6 54 i10 ((mI M6 41 i10 a2.toNatClampNeg) + a3).toNatClampNeg) M6 h
def w_World_fieldKind_j52 (this : Nat) (Q : Int32 → Mem → Prop) (k29 : Int32 → Int32 → Mem → Prop) (v2 : Int32) (v4 : Int32) (M : Mem) : Prop :=
  k29 v2 (v4 + (1 : Int32)) M
def w_World_fieldKind_L29 (this : Nat) (Q : Int32 → Mem → Prop) : Nat → Int32 → Int32 → Mem → Prop
  | 0, _, _, _ => False
  | n + 1, v2, v4, M => vp_in v4 (mL M 51 this) ∧ if ((mI M 51 this v4.toNatClampNeg) &&& (1 : Int32)) = 0 then (vp_in v4 (mL M 53 this) ∧ if (mI M 53 this v4.toNatClampNeg) = v2 then (vp_in v4 (mL M 50 this) ∧ Q (mI M 50 this v4.toNatClampNeg) M) else (w_World_fieldKind_j52 this Q (w_World_fieldKind_L29 this Q n) v2 v4 M)) else (w_World_fieldKind_j52 this Q (w_World_fieldKind_L29 this Q n) v2 v4 M)
def w_World_fieldKind_L2 (this : Nat) (Q : Int32 → Mem → Prop) : Nat → Int32 → Int32 → Mem → Prop
  | 0, _, _, _ => False
  | n + 1, v2, v3, M => vp_in v3 (mL M 47 this) ∧ if (mI M 47 this v3.toNatClampNeg) ≤ v2 then (vp_in v3 (mL M 41 this) ∧ ∃ n9 : Nat, w_World_fieldKind_L29 this Q n9 v2 (mI M 41 this v3.toNatClampNeg) M) else (w_World_up this v3 (fun r11 M10 => (w_World_fieldKind_L2 this Q n) v2 r11 M10) M)
def w_World_fieldKind (this : Nat) (a1 : Int32) (a2 : Int32) (Q : Int32 → Mem → Prop) (M : Mem) : Prop :=
  ∃ n12 : Nat, w_World_fieldKind_L2 this Q n12 a2 a1 M
set_option maxRecDepth 4096 in
theorem lk_World_fieldKind_j52 {γ : Gm} (hγ : Gk γ) (this : Nat) (Q : Int32 → Mem → Prop) (k29 : Int32 → Int32 → Mem → Prop) (hk29 : ∀ (v2 : Int32) (v4 : Int32) (M : Mem), k29 v2 v4 M → E γ k_World_fieldKind 2 29 [some (vr (some (5, this))), none, some (vi v2), none, some (vi v4)] [] M (Qi Q)) (v2 : Int32) (v4 : Int32) (M : Mem) (h : w_World_fieldKind_j52 this Q k29 v2 v4 M) : E γ k_World_fieldKind 2 52 [some (vr (some (5, this))), none, some (vi v2), none, some (vi v4)] [] M (Qi Q) := by
  unfold w_World_fieldKind_j52 at h
  refine E_blk (lv' := [some (vr (some (5, this))), none, some (vi v2), none, some (vi (v4 + (1 : Int32)))]) (st' := []) (M1 := M) (pc' := 55) (tb_World hγ) [.iinc 4 1] (by decide +kernel) rfl rfl trivial ?_
  refine E_goto (off := -26) (tgt := 29) (by decide +kernel) (by decide) ?_
  refine E_mask [true, false, true, false, true] rfl ?_
  exact hk29 v2 (v4 + (1 : Int32)) M h
set_option maxRecDepth 4096 in
theorem lk_World_fieldKind_L29 {γ : Gm} (hγ : Gk γ) (this : Nat) (Q : Int32 → Mem → Prop) : ∀ (n : Nat) (v2 : Int32) (v4 : Int32) (M : Mem), w_World_fieldKind_L29 this Q n v2 v4 M → E γ k_World_fieldKind 2 29 [some (vr (some (5, this))), none, some (vi v2), none, some (vi v4)] [] M (Qi Q) := by
  intro n
  induction n with
  | zero => intro v2 v4 M h; exact h.elim
  | succ n ih =>
    intro v2 v4 M h
    unfold w_World_fieldKind_L29 at h
    obtain ⟨c4, h⟩ := h
    refine E_blk (lv' := [some (vr (some (5, this))), none, some (vi v2), none, some (vi v4)]) (st' := [vi ((mI M 51 this v4.toNatClampNeg) &&& (1 : Int32))]) (M1 := M) (pc' := 38) (tb_World hγ) [.aload_n 0, .getfield 68, .iload 4, .iaload, .iconst 1, .iand] (by decide +kernel) rfl rfl ⟨c4, trivial⟩ ?_
    refine E_if_ne (off := 14) (tgt := 52) (by decide +kernel) (by decide) (fun b5 => ?_) (fun b5 => ?_)
    · rw [if_pos b5] at h
      obtain ⟨c6, h⟩ := h
      refine E_blk (lv' := [some (vr (some (5, this))), none, some (vi v2), none, some (vi v4)]) (st' := [vi v2, vi (mI M 53 this v4.toNatClampNeg)]) (M1 := M) (pc' := 49) (tb_World hγ) [.aload_n 0, .getfield 78, .iload 4, .iaload, .iload_n 2] (by decide +kernel) rfl rfl ⟨c6, trivial⟩ ?_
      refine E_icmp_eq (off := 9) (tgt := 58) (by decide +kernel) (by decide) (fun b7 => ?_) (fun b7 => ?_)
      · rw [if_pos b7] at h
        obtain ⟨c8, h⟩ := h
        refine E_blk (lv' := [some (vr (some (5, this))), none, some (vi v2), none, some (vi v4)]) (st' := [vi (mI M 50 this v4.toNatClampNeg)]) (M1 := M) (pc' := 65) (tb_World hγ) [.aload_n 0, .getfield 65, .iload 4, .iaload] (by decide +kernel) rfl rfl ⟨c8, trivial⟩ ?_
        exact E_iret rfl (by decide +kernel) h
      · rw [if_neg b7] at h
        refine E_mask [true, false, true, false, true] rfl ?_
        exact lk_World_fieldKind_j52 hγ this Q (w_World_fieldKind_L29 this Q n) ih v2 v4 M h
    · rw [if_neg b5] at h
      refine E_mask [true, false, true, false, true] rfl ?_
      exact lk_World_fieldKind_j52 hγ this Q (w_World_fieldKind_L29 this Q n) ih v2 v4 M h
set_option maxRecDepth 4096 in
theorem lk_World_fieldKind_L2 {γ : Gm} (hγ : Gk γ) (this : Nat) (Q : Int32 → Mem → Prop) : ∀ (n : Nat) (v2 : Int32) (v3 : Int32) (M : Mem), w_World_fieldKind_L2 this Q n v2 v3 M → E γ k_World_fieldKind 2 2 [some (vr (some (5, this))), none, some (vi v2), some (vi v3), none] [] M (Qi Q) := by
  intro n
  induction n with
  | zero => intro v2 v3 M h; exact h.elim
  | succ n ih =>
    intro v2 v3 M h
    unfold w_World_fieldKind_L2 at h
    obtain ⟨c1, h⟩ := h
    refine E_blk (lv' := [some (vr (some (5, this))), none, some (vi v2), some (vi v3), none]) (st' := [vi (mI M 47 this v3.toNatClampNeg), vi v2]) (M1 := M) (pc' := 9) (tb_World hγ) [.iload_n 2, .aload_n 0, .getfield 53, .iload_n 3, .iaload] (by decide +kernel) rfl rfl ⟨c1, trivial⟩ ?_
    refine E_icmp_ge (off := 12) (tgt := 21) (by decide +kernel) (by decide) (fun b2 => ?_) (fun b2 => ?_)
    · rw [if_pos b2] at h
      obtain ⟨c3, h⟩ := h
      refine E_blk (lv' := [some (vr (some (5, this))), none, some (vi v2), some (vi v3), some (vi (mI M 41 this v3.toNatClampNeg))]) (st' := []) (M1 := M) (pc' := 29) (tb_World hγ) [.aload_n 0, .getfield 35, .iload_n 3, .iaload, .istore 4] (by decide +kernel) rfl rfl ⟨c3, trivial⟩ ?_
      obtain ⟨n9, h⟩ := h
      refine E_mask [true, false, true, false, true] rfl ?_
      exact lk_World_fieldKind_L29 hγ this Q n9 v2 (mI M 41 this v3.toNatClampNeg) M h
    · rw [if_neg b2] at h
      refine E_blk (lv' := [some (vr (some (5, this))), none, some (vi v2), some (vi v3), none]) (st' := [vi v3, vr (some (5, this))]) (M1 := M) (pc' := 14) (tb_World hγ) [.aload_n 0, .iload_n 3] (by decide +kernel) rfl rfl trivial ?_
      refine E_callV (κ' := k_World_up) (As := [vi v3]) (st := []) mv_World_up (Or.inl (tbk_mem (j := 7) (k := 93) rfl)) rfl (by decide +kernel) (Nat.le_of_ble_eq_true rfl) (Nat.le_of_ble_eq_true rfl) rfl (by decide) (lk_World_up hγ this v3 _ M h) (fun _ _ => Qi_r) (fun v M10 hp => Qi_k (R := fun st => E γ k_World_fieldKind 2 17 [some (vr (some (5, this))), none, some (vi v2), some (vi v3), none] st M10 (Qi Q)) hp (fun r11 h => ?_))
      refine E_blk (lv' := [some (vr (some (5, this))), none, some (vi v2), some (vi r11), none]) (st' := []) (M1 := M10) (pc' := 18) (tb_World hγ) [.istore_n 3] (by decide +kernel) rfl rfl trivial ?_
      refine E_goto (off := -16) (tgt := 2) (by decide +kernel) (by decide) ?_
      refine E_mask [true, false, true, true, false] rfl ?_
      exact ih v2 r11 M10 h
set_option maxRecDepth 4096 in
theorem lk_World_fieldKind {γ : Gm} (hγ : Gk γ) (this : Nat) (a1 : Int32) (a2 : Int32) (Q : Int32 → Mem → Prop) (M : Mem) (h : w_World_fieldKind this a1 a2 Q M) : E γ k_World_fieldKind 2 0 [some (vr (some (5, this))), some (vi a1), some (vi a2), none, none] [] M (Qi Q) := by
  unfold w_World_fieldKind at h
  refine E_blk (lv' := [some (vr (some (5, this))), some (vi a1), some (vi a2), some (vi a1), none]) (st' := []) (M1 := M) (pc' := 2) (tb_World hγ) [.iload_n 1, .istore_n 3] (by decide +kernel) rfl rfl trivial ?_
  obtain ⟨n12, h⟩ := h
  refine E_mask [true, false, true, true, false] rfl ?_
  exact lk_World_fieldKind_L2 hγ this Q n12 a2 a1 M h
def w_Works_object_j184 (this : Nat) (Q : Int32 → Mem → Prop) (s0 : Int32) (s1 : Int32) (M : Mem) : Prop :=
  w_Works_shown this s1 s0 (fun r37 M36 => Q r37 M36) M
def w_Works_object (this : Nat) (a1 : Int32) (a2 : Int32) (a3 : Int32) (Q : Int32 → Mem → Prop) (M : Mem) : Prop :=
  w_Works_isWorld this a1 (fun r2 M1 => if r2 = 0 then (Q (-1 : Int32) M1) else (w_Works_isIn a2 (1 : Int32) (800 : Int32) (fun r5 M4 => if r5 = 0 then (Q (-1 : Int32) M4) else (vp_in a1 (mL M4 702 0) ∧ ∃ i8, (mR M4 702 0 a1.toNatClampNeg) = some (5, i8) ∧ vp_in a2 (mL M4 512 i8) ∧ if (mI M4 512 i8 a2.toNatClampNeg) = 0 then (Q (-1 : Int32) M4) else (vp_in a1 (mL M4 702 0) ∧ ∃ i12, (mR M4 702 0 a1.toNatClampNeg) = some (5, i12) ∧ if a3 = (-1 : Int32) then (vp_in a2 (mL M4 79 i12) ∧ if 0 ≤ (mI M4 79 i12 a2.toNatClampNeg) then (vp_in a2 (mL M4 79 i12) ∧ Q (mI M4 79 i12 a2.toNatClampNeg) M4) else (Q (-2 : Int32) M4)) else (if a3 = (-2 : Int32) then (vp_in a2 (mL M4 301 (6 * i12 + 0)) ∧ Q (mI M4 301 (6 * i12 + 0) a2.toNatClampNeg) M4) else (if a3 = (-3 : Int32) then (vp_in a2 (mL M4 81 i12) ∧ Q (mI M4 81 i12 a2.toNatClampNeg) M4) else (vp_in a2 (mL M4 81 i12) ∧ w_Works_isIn a3 (0 : Int32) ((mI M4 81 i12 a2.toNatClampNeg) - (1 : Int32)) (fun r23 M22 => if r23 = 0 then (Q (-1 : Int32) M22) else (vp_in a2 (mL M22 80 i12) ∧ vp_in ((mI M22 80 i12 a2.toNatClampNeg) + a3) (mL M22 84 i12) ∧ ∃ x27 : Int32, x27 = (mI M22 84 i12 ((mI M22 80 i12 a2.toNatClampNeg) + a3).toNatClampNeg) ∧ vp_in a2 (mL M22 79 i12) ∧ if 0 ≤ (mI M22 79 i12 a2.toNatClampNeg) then (vp_in a1 (mL M22 702 0) ∧ ∃ i31, (mR M22 702 0 a1.toNatClampNeg) = some (5, i31) ∧ vp_in a2 (mL M22 79 i12) ∧ w_World_fieldKind i31 (mI M22 79 i12 a2.toNatClampNeg) a3 (fun r34 M33 => if r34 = 0 then (w_Works_object_j184 this Q (0 : Int32) x27 M33) else (w_Works_object_j184 this Q (1 : Int32) x27 M33)) M22) else (Q x27 M22))) M4)))))) M1)) M
set_option maxRecDepth 4096 in
theorem lk_Works_object_j184 {γ : Gm} (hγ : Gk γ) (this : Nat) (Q : Int32 → Mem → Prop) (s0 : Int32) (s1 : Int32) (M : Mem) (h : w_Works_object_j184 this Q s0 s1 M) : E γ k_Works_object 3 184 [none, none, none, none, none, none] [vi s0, vi s1, vr (some (10, this))] M (Qi Q) := by
  unfold w_Works_object_j184 at h
  refine E_callV (κ' := k_Works_shown) (As := [vi s1, vi s0]) (st := []) mv_Works_shown (Or.inl (tbk_mem (j := 9) (k := 137) rfl)) rfl (by decide +kernel) (Nat.le_of_ble_eq_true rfl) (Nat.le_of_ble_eq_true rfl) rfl (by decide) (lk_Works_shown hγ this s1 s0 _ M h) (fun _ _ => Qi_r) (fun v M36 hp => Qi_k (R := fun st => E γ k_Works_object 3 187 [none, none, none, none, none, none] st M36 (Qi Q)) hp (fun r37 h => ?_))
  exact E_iret rfl (by decide +kernel) h
set_option maxRecDepth 4096 in
theorem lk_Works_object {γ : Gm} (hγ : Gk γ) (this : Nat) (a1 : Int32) (a2 : Int32) (a3 : Int32) (Q : Int32 → Mem → Prop) (M : Mem) (h : w_Works_object this a1 a2 a3 Q M) : E γ k_Works_object 3 0 [some (vr (some (10, this))), some (vi a1), some (vi a2), some (vi a3), none, none] [] M (Qi Q) := by
  unfold w_Works_object at h
  refine E_blk (lv' := [some (vr (some (10, this))), some (vi a1), some (vi a2), some (vi a3), none, none]) (st' := [vi a1, vr (some (10, this))]) (M1 := M) (pc' := 2) (tb_Works hγ) [.aload_n 0, .iload_n 1] (by decide +kernel) rfl rfl trivial ?_
  refine E_callV (κ' := k_Works_isWorld) (As := [vi a1]) (st := []) mv_Works_isWorld (Or.inl (tbk_mem (j := 6) (k := 32) rfl)) rfl (by decide +kernel) (Nat.le_of_ble_eq_true rfl) (Nat.le_of_ble_eq_true rfl) rfl (by decide) (lk_Works_isWorld hγ this a1 _ M h) (fun _ _ => Qi_r) (fun v M1 hp => Qi_k (R := fun st => E γ k_Works_object 3 5 [some (vr (some (10, this))), some (vi a1), some (vi a2), some (vi a3), none, none] st M1 (Qi Q)) hp (fun r2 h => ?_))
  refine E_if_eq (off := 31) (tgt := 36) (by decide +kernel) (by decide) (fun b3 => ?_) (fun b3 => ?_)
  · rw [if_pos b3] at h
    refine E_blk (lv' := [some (vr (some (10, this))), some (vi a1), some (vi a2), some (vi a3), none, none]) (st' := [vi (-1 : Int32)]) (M1 := M1) (pc' := 37) (tb_Works hγ) [.iconst (.negSucc 0)] (by decide +kernel) rfl rfl trivial ?_
    exact E_iret rfl (by decide +kernel) h
  · rw [if_neg b3] at h
    refine E_blk (lv' := [some (vr (some (10, this))), some (vi a1), some (vi a2), some (vi a3), none, none]) (st' := [vi (800 : Int32), vi (1 : Int32), vi a2]) (M1 := M1) (pc' := 13) (tb_Works hγ) [.iload_n 2, .iconst 1, .sipush 800] (by decide +kernel) rfl rfl trivial ?_
    refine E_callS (κ' := k_Works_isIn) (As := [vi a2, vi (1 : Int32), vi (800 : Int32)]) (st := []) ms_Works_isIn (Or.inl (tbk_mem (j := 5) (k := 237) rfl)) rfl (by decide +kernel) (Nat.le_of_ble_eq_true rfl) (Nat.le_of_ble_eq_true rfl) rfl (by decide) (lk_Works_isIn hγ a2 (1 : Int32) (800 : Int32) _ M1 h) (fun _ _ => Qi_r) (fun v M4 hp => Qi_k (R := fun st => E γ k_Works_object 3 16 [some (vr (some (10, this))), some (vi a1), some (vi a2), some (vi a3), none, none] st M4 (Qi Q)) hp (fun r5 h => ?_))
    refine E_if_eq (off := 20) (tgt := 36) (by decide +kernel) (by decide) (fun b6 => ?_) (fun b6 => ?_)
    · rw [if_pos b6] at h
      refine E_blk (lv' := [some (vr (some (10, this))), some (vi a1), some (vi a2), some (vi a3), none, none]) (st' := [vi (-1 : Int32)]) (M1 := M4) (pc' := 37) (tb_Works hγ) [.iconst (.negSucc 0)] (by decide +kernel) rfl rfl trivial ?_
      exact E_iret rfl (by decide +kernel) h
    · rw [if_neg b6] at h
      obtain ⟨c7, h⟩ := h
      refine E_blk (lv' := [some (vr (some (10, this))), some (vi a1), some (vi a2), some (vi a3), none, none]) (st' := [vr (mR M4 702 0 a1.toNatClampNeg)]) (M1 := M4) (pc' := 25) (tb_Works hγ) [.aload_n 0, .getfield 85, .iload_n 1, .aaload] (by decide +kernel) rfl rfl ⟨c7, trivial⟩ ?_
      obtain ⟨i8, ei8, h⟩ := h
      rw [ei8]
      obtain ⟨c9, h⟩ := h
      refine E_blk (lv' := [some (vr (some (10, this))), some (vi a1), some (vi a2), some (vi a3), none, none]) (st' := [vi (mI M4 512 i8 a2.toNatClampNeg)]) (M1 := M4) (pc' := 33) (tb_Works hγ) [.getfield 141, .getfield 402, .iload_n 2, .baload] (by decide +kernel) rfl rfl ⟨c9, trivial⟩ ?_
      refine E_if_ne (off := 5) (tgt := 38) (by decide +kernel) (by decide) (fun b10 => ?_) (fun b10 => ?_)
      · rw [if_pos b10] at h
        refine E_blk (lv' := [some (vr (some (10, this))), some (vi a1), some (vi a2), some (vi a3), none, none]) (st' := [vi (-1 : Int32)]) (M1 := M4) (pc' := 37) (tb_Works hγ) [.iconst (.negSucc 0)] (by decide +kernel) rfl rfl trivial ?_
        exact E_iret rfl (by decide +kernel) h
      · rw [if_neg b10] at h
        obtain ⟨c11, h⟩ := h
        refine E_blk (lv' := [some (vr (some (10, this))), some (vi a1), some (vi a2), some (vi a3), none, none]) (st' := [vr (mR M4 702 0 a1.toNatClampNeg)]) (M1 := M4) (pc' := 44) (tb_Works hγ) [.aload_n 0, .getfield 85, .iload_n 1, .aaload] (by decide +kernel) rfl rfl ⟨c11, trivial⟩ ?_
        obtain ⟨i12, ei12, h⟩ := h
        rw [ei12]
        refine E_blk (lv' := [some (vr (some (10, this))), some (vi a1), some (vi a2), some (vi a3), some (vr (some (6, i12))), none]) (st' := [vi (-1 : Int32), vi a3]) (M1 := M4) (pc' := 51) (tb_Works hγ) [.getfield 141, .astore 4, .iload_n 3, .iconst (.negSucc 0)] (by decide +kernel) rfl rfl trivial ?_
        refine E_icmp_ne (off := 26) (tgt := 77) (by decide +kernel) (by decide) (fun b13 => ?_) (fun b13 => ?_)
        · rw [if_pos b13] at h
          obtain ⟨c14, h⟩ := h
          refine E_blk (lv' := [some (vr (some (10, this))), some (vi a1), some (vi a2), some (vi a3), some (vr (some (6, i12))), none]) (st' := [vi (mI M4 79 i12 a2.toNatClampNeg)]) (M1 := M4) (pc' := 61) (tb_Works hγ) [.aload 4, .getfield 405, .iload_n 2, .iaload] (by decide +kernel) rfl rfl ⟨c14, trivial⟩ ?_
          refine E_if_ge (off := 8) (tgt := 69) (by decide +kernel) (by decide) (fun b15 => ?_) (fun b15 => ?_)
          · rw [if_pos b15] at h
            obtain ⟨c16, h⟩ := h
            refine E_blk (lv' := [some (vr (some (10, this))), some (vi a1), some (vi a2), some (vi a3), some (vr (some (6, i12))), none]) (st' := [vi (mI M4 79 i12 a2.toNatClampNeg)]) (M1 := M4) (pc' := 76) (tb_Works hγ) [.aload 4, .getfield 405, .iload_n 2, .iaload] (by decide +kernel) rfl rfl ⟨c16, trivial⟩ ?_
            exact E_iret rfl (by decide +kernel) h
          · rw [if_neg b15] at h
            refine E_blk (lv' := [some (vr (some (10, this))), some (vi a1), some (vi a2), some (vi a3), some (vr (some (6, i12))), none]) (st' := [vi (-2 : Int32)]) (M1 := M4) (pc' := 66) (tb_Works hγ) [.bipush (.negSucc 1)] (by decide +kernel) rfl rfl trivial ?_
            refine E_goto (off := 10) (tgt := 76) (by decide +kernel) (by decide) ?_
            exact E_iret rfl (by decide +kernel) h
        · rw [if_neg b13] at h
          refine E_blk (lv' := [some (vr (some (10, this))), some (vi a1), some (vi a2), some (vi a3), some (vr (some (6, i12))), none]) (st' := [vi (-2 : Int32), vi a3]) (M1 := M4) (pc' := 80) (tb_Works hγ) [.iload_n 3, .bipush (.negSucc 1)] (by decide +kernel) rfl rfl trivial ?_
          refine E_icmp_ne (off := 11) (tgt := 91) (by decide +kernel) (by decide) (fun b17 => ?_) (fun b17 => ?_)
          · rw [if_pos b17] at h
            obtain ⟨c18, h⟩ := h
            refine E_blk (lv' := [some (vr (some (10, this))), some (vi a1), some (vi a2), some (vi a3), some (vr (some (6, i12))), none]) (st' := [vi (mI M4 301 (6 * i12 + 0) a2.toNatClampNeg)]) (M1 := M4) (pc' := 90) (tb_Works hγ) [.aload 4, .getfield 408, .iload_n 2, .iaload] (by decide +kernel) rfl rfl ⟨c18, trivial⟩ ?_
            exact E_iret rfl (by decide +kernel) h
          · rw [if_neg b17] at h
            refine E_blk (lv' := [some (vr (some (10, this))), some (vi a1), some (vi a2), some (vi a3), some (vr (some (6, i12))), none]) (st' := [vi (-3 : Int32), vi a3]) (M1 := M4) (pc' := 94) (tb_Works hγ) [.iload_n 3, .bipush (.negSucc 2)] (by decide +kernel) rfl rfl trivial ?_
            refine E_icmp_ne (off := 11) (tgt := 105) (by decide +kernel) (by decide) (fun b19 => ?_) (fun b19 => ?_)
            · rw [if_pos b19] at h
              obtain ⟨c20, h⟩ := h
              refine E_blk (lv' := [some (vr (some (10, this))), some (vi a1), some (vi a2), some (vi a3), some (vr (some (6, i12))), none]) (st' := [vi (mI M4 81 i12 a2.toNatClampNeg)]) (M1 := M4) (pc' := 104) (tb_Works hγ) [.aload 4, .getfield 411, .iload_n 2, .iaload] (by decide +kernel) rfl rfl ⟨c20, trivial⟩ ?_
              exact E_iret rfl (by decide +kernel) h
            · rw [if_neg b19] at h
              obtain ⟨c21, h⟩ := h
              refine E_blk (lv' := [some (vr (some (10, this))), some (vi a1), some (vi a2), some (vi a3), some (vr (some (6, i12))), none]) (st' := [vi ((mI M4 81 i12 a2.toNatClampNeg) - (1 : Int32)), vi (0 : Int32), vi a3]) (M1 := M4) (pc' := 116) (tb_Works hγ) [.iload_n 3, .iconst 0, .aload 4, .getfield 411, .iload_n 2, .iaload, .iconst 1, .isub] (by decide +kernel) rfl rfl ⟨c21, trivial⟩ ?_
              refine E_callS (κ' := k_Works_isIn) (As := [vi a3, vi (0 : Int32), vi ((mI M4 81 i12 a2.toNatClampNeg) - (1 : Int32))]) (st := []) ms_Works_isIn (Or.inl (tbk_mem (j := 5) (k := 237) rfl)) rfl (by decide +kernel) (Nat.le_of_ble_eq_true rfl) (Nat.le_of_ble_eq_true rfl) rfl (by decide) (lk_Works_isIn hγ a3 (0 : Int32) ((mI M4 81 i12 a2.toNatClampNeg) - (1 : Int32)) _ M4 h) (fun _ _ => Qi_r) (fun v M22 hp => Qi_k (R := fun st => E γ k_Works_object 3 119 [some (vr (some (10, this))), some (vi a1), some (vi a2), some (vi a3), some (vr (some (6, i12))), none] st M22 (Qi Q)) hp (fun r23 h => ?_))
              refine E_if_ne (off := 5) (tgt := 124) (by decide +kernel) (by decide) (fun b24 => ?_) (fun b24 => ?_)
              · rw [if_pos b24] at h
                refine E_blk (lv' := [some (vr (some (10, this))), some (vi a1), some (vi a2), some (vi a3), some (vr (some (6, i12))), none]) (st' := [vi (-1 : Int32)]) (M1 := M22) (pc' := 123) (tb_Works hγ) [.iconst (.negSucc 0)] (by decide +kernel) rfl rfl trivial ?_
                exact E_iret rfl (by decide +kernel) h
              · rw [if_neg b24] at h
                obtain ⟨c25, c26, h⟩ := h
                refine E_blk (lv' := [some (vr (some (10, this))), some (vi a1), some (vi a2), some (vi a3), some (vr (some (6, i12))), some (vi (mI M22 84 i12 ((mI M22 80 i12 a2.toNatClampNeg) + a3).toNatClampNeg))]) (st' := []) (M1 := M22) (pc' := 141) (tb_Works hγ) [.aload 4, .getfield 414, .aload 4, .getfield 417, .iload_n 2, .iaload, .iload_n 3, .iadd, .iaload, .istore 5] (by decide +kernel) rfl rfl ⟨c25, c26, trivial⟩ ?_
                obtain ⟨x27, ex27, h⟩ := h
                rw [← ex27]
                obtain ⟨c28, h⟩ := h
                refine E_blk (lv' := [some (vr (some (10, this))), some (vi a1), some (vi a2), some (vi a3), some (vr (some (6, i12))), some (vi x27)]) (st' := [vi (mI M22 79 i12 a2.toNatClampNeg)]) (M1 := M22) (pc' := 148) (tb_Works hγ) [.aload 4, .getfield 405, .iload_n 2, .iaload] (by decide +kernel) rfl rfl ⟨c28, trivial⟩ ?_
                refine E_if_ge (off := 8) (tgt := 156) (by decide +kernel) (by decide) (fun b29 => ?_) (fun b29 => ?_)
                · rw [if_pos b29] at h
                  obtain ⟨c30, h⟩ := h
                  refine E_blk (lv' := [some (vr (some (10, this))), some (vi a1), some (vi a2), some (vi a3), some (vr (some (6, i12))), some (vi x27)]) (st' := [vr (mR M22 702 0 a1.toNatClampNeg), vi x27, vr (some (10, this))]) (M1 := M22) (pc' := 165) (tb_Works hγ) [.aload_n 0, .iload 5, .aload_n 0, .getfield 85, .iload_n 1, .aaload] (by decide +kernel) rfl rfl ⟨c30, trivial⟩ ?_
                  obtain ⟨i31, ei31, h⟩ := h
                  rw [ei31]
                  obtain ⟨c32, h⟩ := h
                  refine E_blk (lv' := [some (vr (some (10, this))), some (vi a1), some (vi a2), some (vi a3), some (vr (some (6, i12))), some (vi x27)]) (st' := [vi a3, vi (mI M22 79 i12 a2.toNatClampNeg), vr (some (5, i31)), vi x27, vr (some (10, this))]) (M1 := M22) (pc' := 173) (tb_Works hγ) [.aload 4, .getfield 405, .iload_n 2, .iaload, .iload_n 3] (by decide +kernel) rfl rfl ⟨c32, trivial⟩ ?_
                  refine E_callV (κ' := k_World_fieldKind) (As := [vi (mI M22 79 i12 a2.toNatClampNeg), vi a3]) (st := [vi x27, vr (some (10, this))]) mv_World_fieldKind (Or.inl (tbk_mem (j := 9) (k := 149) rfl)) rfl (by decide +kernel) (Nat.le_of_ble_eq_true rfl) (Nat.le_of_ble_eq_true rfl) rfl (by decide) (lk_World_fieldKind hγ i31 (mI M22 79 i12 a2.toNatClampNeg) a3 _ M22 h) (fun _ _ => Qi_r) (fun v M33 hp => Qi_k (R := fun st => E γ k_Works_object 3 176 [some (vr (some (10, this))), some (vi a1), some (vi a2), some (vi a3), some (vr (some (6, i12))), some (vi x27)] st M33 (Qi Q)) hp (fun r34 h => ?_))
                  refine E_if_eq (off := 7) (tgt := 183) (by decide +kernel) (by decide) (fun b35 => ?_) (fun b35 => ?_)
                  · rw [if_pos b35] at h
                    refine E_blk (lv' := [some (vr (some (10, this))), some (vi a1), some (vi a2), some (vi a3), some (vr (some (6, i12))), some (vi x27)]) (st' := [vi (0 : Int32), vi x27, vr (some (10, this))]) (M1 := M33) (pc' := 184) (tb_Works hγ) [.iconst 0] (by decide +kernel) rfl rfl trivial ?_
                    refine E_mask [false, false, false, false, false, false] rfl ?_
                    exact lk_Works_object_j184 hγ this Q (0 : Int32) x27 M33 h
                  · rw [if_neg b35] at h
                    refine E_blk (lv' := [some (vr (some (10, this))), some (vi a1), some (vi a2), some (vi a3), some (vr (some (6, i12))), some (vi x27)]) (st' := [vi (1 : Int32), vi x27, vr (some (10, this))]) (M1 := M33) (pc' := 180) (tb_Works hγ) [.iconst 1] (by decide +kernel) rfl rfl trivial ?_
                    refine E_goto (off := 4) (tgt := 184) (by decide +kernel) (by decide) ?_
                    refine E_mask [false, false, false, false, false, false] rfl ?_
                    exact lk_Works_object_j184 hγ this Q (1 : Int32) x27 M33 h
                · rw [if_neg b29] at h
                  refine E_blk (lv' := [some (vr (some (10, this))), some (vi a1), some (vi a2), some (vi a3), some (vr (some (6, i12))), some (vi x27)]) (st' := [vi x27]) (M1 := M22) (pc' := 153) (tb_Works hγ) [.iload 5] (by decide +kernel) rfl rfl trivial ?_
                  refine E_goto (off := 34) (tgt := 187) (by decide +kernel) (by decide) ?_
                  exact E_iret rfl (by decide +kernel) h
def w_Writer_put (this : Nat) (a1 : Int32) (Q : Mem → Prop) (M : Mem) : Prop :=
  vp_in (mI M 8 this 1) (mL M 410 this) ∧ ∃ M2, M2 = (sI M 410 this (mI M 8 this 1).toNatClampNeg a1.toInt8.toInt32.toInt8.toInt32) ∧ Q (sI M2 8 this 1 ((mI M2 8 this 1) + (1 : Int32)))
set_option maxRecDepth 4096 in
theorem lk_Writer_put {γ : Gm} (hγ : Gk γ) (this : Nat) (a1 : Int32) (Q : Mem → Prop) (M : Mem) (h : w_Writer_put this a1 Q M) : E γ k_Writer_put 0 0 [some (vr (some (8, this))), some (vi a1)] [] M (Qv Q) := by
  unfold w_Writer_put at h
  obtain ⟨c1, h⟩ := h
  refine E_blk (lv' := [some (vr (some (8, this))), some (vi a1)]) (st' := []) (M1 := (sI M 410 this (mI M 8 this 1).toNatClampNeg a1.toInt8.toInt32.toInt8.toInt32)) (pc' := 11) (tb_Writer hγ) [.aload_n 0, .getfield 15, .aload_n 0, .getfield 34, .iload_n 1, .i2b, .bastore] (by decide +kernel) rfl rfl ⟨c1, trivial⟩ ?_
  obtain ⟨M2, eM2, h⟩ := h
  rw [← eM2]
  refine E_blk (lv' := [some (vr (some (8, this))), some (vi a1)]) (st' := []) (M1 := (sI M2 8 this 1 ((mI M2 8 this 1) + (1 : Int32)))) (pc' := 21) (tb_Writer hγ) [.aload_n 0, .dup, .getfield 34, .iconst 1, .iadd, .putfield 34] (by decide +kernel) rfl rfl trivial ?_
  exact E_vret rfl (by decide +kernel) h
def w_Writer_line_L2 (this : Nat) (Q : Mem → Prop) : Nat → Int32 → Int32 → Mem → Prop
  | 0, _, _, _ => False
  | n + 1, v1, v2, M => if v1 ≤ v2 then (((1 : Int32) = 0 ∨ (1 : Int32) = 1) ∧ ((0 : Int32) = 0 ∨ (0 : Int32) = 1) ∧ Q (sI (sI M 8 this 2 (1 : Int32)) 8 this 3 (0 : Int32))) else (w_Writer_put this (32 : Int32) (fun M4 => (w_Writer_line_L2 this Q n) v1 (v2 + (1 : Int32)) M4) M)
def w_Writer_line (this : Nat) (a1 : Int32) (Q : Mem → Prop) (M : Mem) : Prop :=
  ∃ n5 : Nat, w_Writer_line_L2 this Q n5 a1 (0 : Int32) M
set_option maxRecDepth 4096 in
theorem lk_Writer_line_L2 {γ : Gm} (hγ : Gk γ) (this : Nat) (Q : Mem → Prop) : ∀ (n : Nat) (v1 : Int32) (v2 : Int32) (M : Mem), w_Writer_line_L2 this Q n v1 v2 M → E γ k_Writer_line 1 2 [some (vr (some (8, this))), some (vi v1), some (vi v2)] [] M (Qv Q) := by
  intro n
  induction n with
  | zero => intro v1 v2 M h; exact h.elim
  | succ n ih =>
    intro v1 v2 M h
    unfold w_Writer_line_L2 at h
    refine E_blk (lv' := [some (vr (some (8, this))), some (vi v1), some (vi v2)]) (st' := [vi v1, vi v2]) (M1 := M) (pc' := 4) (tb_Writer hγ) [.iload_n 2, .iload_n 1] (by decide +kernel) rfl rfl trivial ?_
    refine E_icmp_ge (off := 15) (tgt := 19) (by decide +kernel) (by decide) (fun b1 => ?_) (fun b1 => ?_)
    · rw [if_pos b1] at h
      obtain ⟨c2, c3, h⟩ := h
      refine E_blk (lv' := [some (vr (some (8, this))), some (vi v1), some (vi v2)]) (st' := []) (M1 := (sI (sI M 8 this 2 (1 : Int32)) 8 this 3 (0 : Int32))) (pc' := 29) (tb_Writer hγ) [.aload_n 0, .iconst 1, .putfield 27, .aload_n 0, .iconst 0, .putfield 31] (by decide +kernel) rfl rfl ⟨c2, c3, trivial⟩ ?_
      exact E_vret rfl (by decide +kernel) h
    · rw [if_neg b1] at h
      refine E_blk (lv' := [some (vr (some (8, this))), some (vi v1), some (vi v2)]) (st' := [vi (32 : Int32), vr (some (8, this))]) (M1 := M) (pc' := 10) (tb_Writer hγ) [.aload_n 0, .bipush 32] (by decide +kernel) rfl rfl trivial ?_
      refine E_callV (κ' := k_Writer_put) (As := [vi (32 : Int32)]) (st := []) mv_Writer_put (Or.inl (tbk_mem (j := 9) (k := 165) rfl)) rfl (by decide +kernel) (Nat.le_of_ble_eq_true rfl) (Nat.le_of_ble_eq_true rfl) rfl (by decide) (lk_Writer_put hγ this (32 : Int32) _ M h) (fun _ _ => Qv_r) (fun v M4 hp => Qv_k (R := fun st => E γ k_Writer_line 1 13 [some (vr (some (8, this))), some (vi v1), some (vi v2)] st M4 (Qv Q)) hp (fun h => ?_))
      refine E_blk (lv' := [some (vr (some (8, this))), some (vi v1), some (vi (v2 + (1 : Int32)))]) (st' := []) (M1 := M4) (pc' := 16) (tb_Writer hγ) [.iinc 2 1] (by decide +kernel) rfl rfl trivial ?_
      refine E_goto (off := -14) (tgt := 2) (by decide +kernel) (by decide) ?_
      refine E_mask [true, true, true] rfl ?_
      exact ih v1 (v2 + (1 : Int32)) M4 h
set_option maxRecDepth 4096 in
theorem lk_Writer_line {γ : Gm} (hγ : Gk γ) (this : Nat) (a1 : Int32) (Q : Mem → Prop) (M : Mem) (h : w_Writer_line this a1 Q M) : E γ k_Writer_line 1 0 [some (vr (some (8, this))), some (vi a1), none] [] M (Qv Q) := by
  unfold w_Writer_line at h
  refine E_blk (lv' := [some (vr (some (8, this))), some (vi a1), some (vi (0 : Int32))]) (st' := []) (M1 := M) (pc' := 2) (tb_Writer hγ) [.iconst 0, .istore_n 2] (by decide +kernel) rfl rfl trivial ?_
  obtain ⟨n5, h⟩ := h
  refine E_mask [true, true, true] rfl ?_
  exact lk_Writer_line_L2 hγ this Q n5 a1 (0 : Int32) M h
def w_Writer_space_j20 (this : Nat) (Q : Mem → Prop)  (M : Mem) : Prop :=
  ((0 : Int32) = 0 ∨ (0 : Int32) = 1) ∧ ((0 : Int32) = 0 ∨ (0 : Int32) = 1) ∧ Q (sI (sI M 8 this 2 (0 : Int32)) 8 this 3 (0 : Int32))
def w_Writer_space (this : Nat) (Q : Mem → Prop) (M : Mem) : Prop :=
  if (mI M 8 this 2) = 0 then (if (mI M 8 this 3) = 0 then (w_Writer_put this (32 : Int32) (fun M3 => w_Writer_space_j20 this Q  M3) M) else (w_Writer_space_j20 this Q  M)) else (w_Writer_space_j20 this Q  M)
set_option maxRecDepth 4096 in
theorem lk_Writer_space_j20 {γ : Gm} (hγ : Gk γ) (this : Nat) (Q : Mem → Prop)  (M : Mem) (h : w_Writer_space_j20 this Q  M) : E γ k_Writer_space 1 20 [some (vr (some (8, this)))] [] M (Qv Q) := by
  unfold w_Writer_space_j20 at h
  obtain ⟨c4, c5, h⟩ := h
  refine E_blk (lv' := [some (vr (some (8, this)))]) (st' := []) (M1 := (sI (sI M 8 this 2 (0 : Int32)) 8 this 3 (0 : Int32))) (pc' := 30) (tb_Writer hγ) [.aload_n 0, .iconst 0, .putfield 27, .aload_n 0, .iconst 0, .putfield 31] (by decide +kernel) rfl rfl ⟨c4, c5, trivial⟩ ?_
  exact E_vret rfl (by decide +kernel) h
set_option maxRecDepth 4096 in
theorem lk_Writer_space {γ : Gm} (hγ : Gk γ) (this : Nat) (Q : Mem → Prop) (M : Mem) (h : w_Writer_space this Q M) : E γ k_Writer_space 1 0 [some (vr (some (8, this)))] [] M (Qv Q) := by
  unfold w_Writer_space at h
  refine E_blk (lv' := [some (vr (some (8, this)))]) (st' := [vi (mI M 8 this 2)]) (M1 := M) (pc' := 4) (tb_Writer hγ) [.aload_n 0, .getfield 27] (by decide +kernel) rfl rfl trivial ?_
  refine E_if_ne (off := 16) (tgt := 20) (by decide +kernel) (by decide) (fun b1 => ?_) (fun b1 => ?_)
  · rw [if_pos b1] at h
    refine E_blk (lv' := [some (vr (some (8, this)))]) (st' := [vi (mI M 8 this 3)]) (M1 := M) (pc' := 11) (tb_Writer hγ) [.aload_n 0, .getfield 31] (by decide +kernel) rfl rfl trivial ?_
    refine E_if_ne (off := 9) (tgt := 20) (by decide +kernel) (by decide) (fun b2 => ?_) (fun b2 => ?_)
    · rw [if_pos b2] at h
      refine E_blk (lv' := [some (vr (some (8, this)))]) (st' := [vi (32 : Int32), vr (some (8, this))]) (M1 := M) (pc' := 17) (tb_Writer hγ) [.aload_n 0, .bipush 32] (by decide +kernel) rfl rfl trivial ?_
      refine E_callV (κ' := k_Writer_put) (As := [vi (32 : Int32)]) (st := []) mv_Writer_put (Or.inl (tbk_mem (j := 9) (k := 165) rfl)) rfl (by decide +kernel) (Nat.le_of_ble_eq_true rfl) (Nat.le_of_ble_eq_true rfl) rfl (by decide) (lk_Writer_put hγ this (32 : Int32) _ M h) (fun _ _ => Qv_r) (fun v M3 hp => Qv_k (R := fun st => E γ k_Writer_space 1 20 [some (vr (some (8, this)))] st M3 (Qv Q)) hp (fun h => ?_))
      refine E_mask [true] rfl ?_
      exact lk_Writer_space_j20 hγ this Q  M3 h
    · rw [if_neg b2] at h
      refine E_mask [true] rfl ?_
      exact lk_Writer_space_j20 hγ this Q  M h
  · rw [if_neg b1] at h
    refine E_mask [true] rfl ?_
    exact lk_Writer_space_j20 hγ this Q  M h
def w_Writer_word_L6 (this : Nat) (Q : Mem → Prop) : Nat → Int32 → Int32 → Mem → Prop
  | 0, _, _, _ => False
  | n + 1, v1, v2, M => w_Names_at 0 v1 v2 (fun r3 M2 => if r3 ≤ 0 then (Q M2) else (w_Names_at 0 v1 v2 (fun r6 M5 => w_Writer_put this r6 (fun M7 => (w_Writer_word_L6 this Q n) v1 (v2 + (1 : Int32)) M7) M5) M2)) M
def w_Writer_word (this : Nat) (a1 : Int32) (Q : Mem → Prop) (M : Mem) : Prop :=
  w_Writer_space this (fun M1 => ∃ n8 : Nat, w_Writer_word_L6 this Q n8 a1 (0 : Int32) M1) M
set_option maxRecDepth 4096 in
theorem lk_Writer_word_L6 {γ : Gm} (hγ : Gk γ) (this : Nat) (Q : Mem → Prop) : ∀ (n : Nat) (v1 : Int32) (v2 : Int32) (M : Mem), w_Writer_word_L6 this Q n v1 v2 M → E γ k_Writer_word 2 6 [some (vr (some (8, this))), some (vi v1), some (vi v2)] [] M (Qv Q) := by
  intro n
  induction n with
  | zero => intro v1 v2 M h; exact h.elim
  | succ n ih =>
    intro v1 v2 M h
    unfold w_Writer_word_L6 at h
    refine E_blk (lv' := [some (vr (some (8, this))), some (vi v1), some (vi v2)]) (st' := [vi v2, vi v1, vr (some (1, 0))]) (M1 := M) (pc' := 15) (tb_Writer hγ) [.aload_n 0, .getfield 3, .getfield 41, .iload_n 1, .iload_n 2] (by decide +kernel) rfl rfl trivial ?_
    refine E_callV (κ' := k_Names_at) (As := [vi v1, vi v2]) (st := []) mv_Names_at (Or.inl (tbk_mem (j := 9) (k := 181) rfl)) rfl (by decide +kernel) (Nat.le_of_ble_eq_true rfl) (Nat.le_of_ble_eq_true rfl) rfl (by decide) (lk_Names_at hγ 0 v1 v2 _ M h) (fun _ _ => Qi_r) (fun v M2 hp => Qi_k (R := fun st => E γ k_Writer_word 2 18 [some (vr (some (8, this))), some (vi v1), some (vi v2)] st M2 (Qv Q)) hp (fun r3 h => ?_))
    refine E_if_le (off := 25) (tgt := 43) (by decide +kernel) (by decide) (fun b4 => ?_) (fun b4 => ?_)
    · rw [if_pos b4] at h
      exact E_vret rfl (by decide +kernel) h
    · rw [if_neg b4] at h
      refine E_blk (lv' := [some (vr (some (8, this))), some (vi v1), some (vi v2)]) (st' := [vi v2, vi v1, vr (some (1, 0)), vr (some (8, this))]) (M1 := M2) (pc' := 31) (tb_Writer hγ) [.aload_n 0, .aload_n 0, .getfield 3, .getfield 41, .iload_n 1, .iload_n 2] (by decide +kernel) rfl rfl trivial ?_
      refine E_callV (κ' := k_Names_at) (As := [vi v1, vi v2]) (st := [vr (some (8, this))]) mv_Names_at (Or.inl (tbk_mem (j := 9) (k := 181) rfl)) rfl (by decide +kernel) (Nat.le_of_ble_eq_true rfl) (Nat.le_of_ble_eq_true rfl) rfl (by decide) (lk_Names_at hγ 0 v1 v2 _ M2 h) (fun _ _ => Qi_r) (fun v M5 hp => Qi_k (R := fun st => E γ k_Writer_word 2 34 [some (vr (some (8, this))), some (vi v1), some (vi v2)] st M5 (Qv Q)) hp (fun r6 h => ?_))
      refine E_callV (κ' := k_Writer_put) (As := [vi r6]) (st := []) mv_Writer_put (Or.inl (tbk_mem (j := 9) (k := 165) rfl)) rfl (by decide +kernel) (Nat.le_of_ble_eq_true rfl) (Nat.le_of_ble_eq_true rfl) rfl (by decide) (lk_Writer_put hγ this r6 _ M5 h) (fun _ _ => Qv_r) (fun v M7 hp => Qv_k (R := fun st => E γ k_Writer_word 2 37 [some (vr (some (8, this))), some (vi v1), some (vi v2)] st M7 (Qv Q)) hp (fun h => ?_))
      refine E_blk (lv' := [some (vr (some (8, this))), some (vi v1), some (vi (v2 + (1 : Int32)))]) (st' := []) (M1 := M7) (pc' := 40) (tb_Writer hγ) [.iinc 2 1] (by decide +kernel) rfl rfl trivial ?_
      refine E_goto (off := -34) (tgt := 6) (by decide +kernel) (by decide) ?_
      refine E_mask [true, true, true] rfl ?_
      exact ih v1 (v2 + (1 : Int32)) M7 h
set_option maxRecDepth 4096 in
theorem lk_Writer_word {γ : Gm} (hγ : Gk γ) (this : Nat) (a1 : Int32) (Q : Mem → Prop) (M : Mem) (h : w_Writer_word this a1 Q M) : E γ k_Writer_word 2 0 [some (vr (some (8, this))), some (vi a1), none] [] M (Qv Q) := by
  unfold w_Writer_word at h
  refine E_blk (lv' := [some (vr (some (8, this))), some (vi a1), none]) (st' := [vr (some (8, this))]) (M1 := M) (pc' := 1) (tb_Writer hγ) [.aload_n 0] (by decide +kernel) rfl rfl trivial ?_
  refine E_callV (κ' := k_Writer_space) (As := []) (st := []) mv_Writer_space (Or.inl (tbk_mem (j := 9) (k := 177) rfl)) rfl (by decide +kernel) (Nat.le_of_ble_eq_true rfl) (Nat.le_of_ble_eq_true rfl) rfl (by decide) (lk_Writer_space hγ this _ M h) (fun _ _ => Qv_r) (fun v M1 hp => Qv_k (R := fun st => E γ k_Writer_word 2 4 [some (vr (some (8, this))), some (vi a1), none] st M1 (Qv Q)) hp (fun h => ?_))
  refine E_blk (lv' := [some (vr (some (8, this))), some (vi a1), some (vi (0 : Int32))]) (st' := []) (M1 := M1) (pc' := 6) (tb_Writer hγ) [.iconst 0, .istore_n 2] (by decide +kernel) rfl rfl trivial ?_
  obtain ⟨n8, h⟩ := h
  refine E_mask [true, true, true] rfl ?_
  exact lk_Writer_word_L6 hγ this Q n8 a1 (0 : Int32) M1 h
def w_Writer_flags_j34 (this : Nat) (Q : Mem → Prop) (v1 : Int32) (v5 : Int32) (M : Mem) : Prop :=
  if (v1 &&& (8 : Int32)) = 0 then (Q M) else (w_Writer_word this v5 (fun M5 => Q M5) M)
def w_Writer_flags_j22 (this : Nat) (Q : Mem → Prop) (v1 : Int32) (v4 : Int32) (v5 : Int32) (M : Mem) : Prop :=
  if (v1 &&& (4 : Int32)) = 0 then (w_Writer_flags_j34 this Q v1 v5 M) else (w_Writer_word this v4 (fun M6 => w_Writer_flags_j34 this Q v1 v5 M6) M)
def w_Writer_flags_j11 (this : Nat) (Q : Mem → Prop) (v1 : Int32) (v3 : Int32) (v4 : Int32) (v5 : Int32) (M : Mem) : Prop :=
  if (v1 &&& (2 : Int32)) = 0 then (w_Writer_flags_j22 this Q v1 v4 v5 M) else (w_Writer_word this v3 (fun M7 => w_Writer_flags_j22 this Q v1 v4 v5 M7) M)
def w_Writer_flags (this : Nat) (a1 : Int32) (a2 : Int32) (a3 : Int32) (a4 : Int32) (a5 : Int32) (Q : Mem → Prop) (M : Mem) : Prop :=
  if (a1 &&& (1 : Int32)) = 0 then (w_Writer_flags_j11 this Q a1 a3 a4 a5 M) else (w_Writer_word this a2 (fun M8 => w_Writer_flags_j11 this Q a1 a3 a4 a5 M8) M)
set_option maxRecDepth 4096 in
theorem lk_Writer_flags_j34 {γ : Gm} (hγ : Gk γ) (this : Nat) (Q : Mem → Prop) (v1 : Int32) (v5 : Int32) (M : Mem) (h : w_Writer_flags_j34 this Q v1 v5 M) : E γ k_Writer_flags 3 34 [some (vr (some (8, this))), some (vi v1), none, none, none, some (vi v5)] [] M (Qv Q) := by
  unfold w_Writer_flags_j34 at h
  refine E_blk (lv' := [some (vr (some (8, this))), some (vi v1), none, none, none, some (vi v5)]) (st' := [vi (v1 &&& (8 : Int32))]) (M1 := M) (pc' := 38) (tb_Writer hγ) [.iload_n 1, .bipush 8, .iand] (by decide +kernel) rfl rfl trivial ?_
  refine E_if_eq (off := 9) (tgt := 47) (by decide +kernel) (by decide) (fun b4 => ?_) (fun b4 => ?_)
  · rw [if_pos b4] at h
    exact E_vret rfl (by decide +kernel) h
  · rw [if_neg b4] at h
    refine E_blk (lv' := [some (vr (some (8, this))), some (vi v1), none, none, none, some (vi v5)]) (st' := [vi v5, vr (some (8, this))]) (M1 := M) (pc' := 44) (tb_Writer hγ) [.aload_n 0, .iload 5] (by decide +kernel) rfl rfl trivial ?_
    refine E_callV (κ' := k_Writer_word) (As := [vi v5]) (st := []) mv_Writer_word (Or.inl (tbk_mem (j := 9) (k := 173) rfl)) rfl (by decide +kernel) (Nat.le_of_ble_eq_true rfl) (Nat.le_of_ble_eq_true rfl) rfl (by decide) (lk_Writer_word hγ this v5 _ M h) (fun _ _ => Qv_r) (fun v M5 hp => Qv_k (R := fun st => E γ k_Writer_flags 3 47 [some (vr (some (8, this))), some (vi v1), none, none, none, some (vi v5)] st M5 (Qv Q)) hp (fun h => ?_))
    exact E_vret rfl (by decide +kernel) h
set_option maxRecDepth 4096 in
theorem lk_Writer_flags_j22 {γ : Gm} (hγ : Gk γ) (this : Nat) (Q : Mem → Prop) (v1 : Int32) (v4 : Int32) (v5 : Int32) (M : Mem) (h : w_Writer_flags_j22 this Q v1 v4 v5 M) : E γ k_Writer_flags 3 22 [some (vr (some (8, this))), some (vi v1), none, none, some (vi v4), some (vi v5)] [] M (Qv Q) := by
  unfold w_Writer_flags_j22 at h
  refine E_blk (lv' := [some (vr (some (8, this))), some (vi v1), none, none, some (vi v4), some (vi v5)]) (st' := [vi (v1 &&& (4 : Int32))]) (M1 := M) (pc' := 25) (tb_Writer hγ) [.iload_n 1, .iconst 4, .iand] (by decide +kernel) rfl rfl trivial ?_
  refine E_if_eq (off := 9) (tgt := 34) (by decide +kernel) (by decide) (fun b3 => ?_) (fun b3 => ?_)
  · rw [if_pos b3] at h
    refine E_mask [true, true, false, false, false, true] rfl ?_
    exact lk_Writer_flags_j34 hγ this Q v1 v5 M h
  · rw [if_neg b3] at h
    refine E_blk (lv' := [some (vr (some (8, this))), some (vi v1), none, none, some (vi v4), some (vi v5)]) (st' := [vi v4, vr (some (8, this))]) (M1 := M) (pc' := 31) (tb_Writer hγ) [.aload_n 0, .iload 4] (by decide +kernel) rfl rfl trivial ?_
    refine E_callV (κ' := k_Writer_word) (As := [vi v4]) (st := []) mv_Writer_word (Or.inl (tbk_mem (j := 9) (k := 173) rfl)) rfl (by decide +kernel) (Nat.le_of_ble_eq_true rfl) (Nat.le_of_ble_eq_true rfl) rfl (by decide) (lk_Writer_word hγ this v4 _ M h) (fun _ _ => Qv_r) (fun v M6 hp => Qv_k (R := fun st => E γ k_Writer_flags 3 34 [some (vr (some (8, this))), some (vi v1), none, none, some (vi v4), some (vi v5)] st M6 (Qv Q)) hp (fun h => ?_))
    refine E_mask [true, true, false, false, false, true] rfl ?_
    exact lk_Writer_flags_j34 hγ this Q v1 v5 M6 h
set_option maxRecDepth 4096 in
theorem lk_Writer_flags_j11 {γ : Gm} (hγ : Gk γ) (this : Nat) (Q : Mem → Prop) (v1 : Int32) (v3 : Int32) (v4 : Int32) (v5 : Int32) (M : Mem) (h : w_Writer_flags_j11 this Q v1 v3 v4 v5 M) : E γ k_Writer_flags 3 11 [some (vr (some (8, this))), some (vi v1), none, some (vi v3), some (vi v4), some (vi v5)] [] M (Qv Q) := by
  unfold w_Writer_flags_j11 at h
  refine E_blk (lv' := [some (vr (some (8, this))), some (vi v1), none, some (vi v3), some (vi v4), some (vi v5)]) (st' := [vi (v1 &&& (2 : Int32))]) (M1 := M) (pc' := 14) (tb_Writer hγ) [.iload_n 1, .iconst 2, .iand] (by decide +kernel) rfl rfl trivial ?_
  refine E_if_eq (off := 8) (tgt := 22) (by decide +kernel) (by decide) (fun b2 => ?_) (fun b2 => ?_)
  · rw [if_pos b2] at h
    refine E_mask [true, true, false, false, true, true] rfl ?_
    exact lk_Writer_flags_j22 hγ this Q v1 v4 v5 M h
  · rw [if_neg b2] at h
    refine E_blk (lv' := [some (vr (some (8, this))), some (vi v1), none, some (vi v3), some (vi v4), some (vi v5)]) (st' := [vi v3, vr (some (8, this))]) (M1 := M) (pc' := 19) (tb_Writer hγ) [.aload_n 0, .iload_n 3] (by decide +kernel) rfl rfl trivial ?_
    refine E_callV (κ' := k_Writer_word) (As := [vi v3]) (st := []) mv_Writer_word (Or.inl (tbk_mem (j := 9) (k := 173) rfl)) rfl (by decide +kernel) (Nat.le_of_ble_eq_true rfl) (Nat.le_of_ble_eq_true rfl) rfl (by decide) (lk_Writer_word hγ this v3 _ M h) (fun _ _ => Qv_r) (fun v M7 hp => Qv_k (R := fun st => E γ k_Writer_flags 3 22 [some (vr (some (8, this))), some (vi v1), none, some (vi v3), some (vi v4), some (vi v5)] st M7 (Qv Q)) hp (fun h => ?_))
    refine E_mask [true, true, false, false, true, true] rfl ?_
    exact lk_Writer_flags_j22 hγ this Q v1 v4 v5 M7 h
set_option maxRecDepth 4096 in
theorem lk_Writer_flags {γ : Gm} (hγ : Gk γ) (this : Nat) (a1 : Int32) (a2 : Int32) (a3 : Int32) (a4 : Int32) (a5 : Int32) (Q : Mem → Prop) (M : Mem) (h : w_Writer_flags this a1 a2 a3 a4 a5 Q M) : E γ k_Writer_flags 3 0 [some (vr (some (8, this))), some (vi a1), some (vi a2), some (vi a3), some (vi a4), some (vi a5)] [] M (Qv Q) := by
  unfold w_Writer_flags at h
  refine E_blk (lv' := [some (vr (some (8, this))), some (vi a1), some (vi a2), some (vi a3), some (vi a4), some (vi a5)]) (st' := [vi (a1 &&& (1 : Int32))]) (M1 := M) (pc' := 3) (tb_Writer hγ) [.iload_n 1, .iconst 1, .iand] (by decide +kernel) rfl rfl trivial ?_
  refine E_if_eq (off := 8) (tgt := 11) (by decide +kernel) (by decide) (fun b1 => ?_) (fun b1 => ?_)
  · rw [if_pos b1] at h
    refine E_mask [true, true, false, true, true, true] rfl ?_
    exact lk_Writer_flags_j11 hγ this Q a1 a3 a4 a5 M h
  · rw [if_neg b1] at h
    refine E_blk (lv' := [some (vr (some (8, this))), some (vi a1), some (vi a2), some (vi a3), some (vi a4), some (vi a5)]) (st' := [vi a2, vr (some (8, this))]) (M1 := M) (pc' := 8) (tb_Writer hγ) [.aload_n 0, .iload_n 2] (by decide +kernel) rfl rfl trivial ?_
    refine E_callV (κ' := k_Writer_word) (As := [vi a2]) (st := []) mv_Writer_word (Or.inl (tbk_mem (j := 9) (k := 173) rfl)) rfl (by decide +kernel) (Nat.le_of_ble_eq_true rfl) (Nat.le_of_ble_eq_true rfl) rfl (by decide) (lk_Writer_word hγ this a2 _ M h) (fun _ _ => Qv_r) (fun v M8 hp => Qv_k (R := fun st => E γ k_Writer_flags 3 11 [some (vr (some (8, this))), some (vi a1), some (vi a2), some (vi a3), some (vi a4), some (vi a5)] st M8 (Qv Q)) hp (fun h => ?_))
    refine E_mask [true, true, false, true, true, true] rfl ?_
    exact lk_Writer_flags_j11 hγ this Q a1 a3 a4 a5 M8 h
def w_Writer_sign_j38 (this : Nat) (Q : Mem → Prop) (s0 : Int32) (M : Mem) : Prop :=
  (s0 = 0 ∨ s0 = 1) ∧ Q (sI M 8 this 3 s0)
def w_Writer_sign_j33 (this : Nat) (Q : Mem → Prop)  (M : Mem) : Prop :=
  w_Writer_sign_j38 this Q (1 : Int32) M
def w_Writer_sign_j10 (this : Nat) (Q : Mem → Prop) (v1 : Int32) (M : Mem) : Prop :=
  w_Writer_put this v1 (fun M3 => ((0 : Int32) = 0 ∨ (0 : Int32) = 1) ∧ if v1 = (40 : Int32) then (w_Writer_sign_j33 this Q  (sI M3 8 this 2 (0 : Int32))) else (if v1 = (46 : Int32) then (w_Writer_sign_j33 this Q  (sI M3 8 this 2 (0 : Int32))) else (w_Writer_sign_j38 this Q (0 : Int32) (sI M3 8 this 2 (0 : Int32))))) M
def w_Writer_sign (this : Nat) (a1 : Int32) (Q : Mem → Prop) (M : Mem) : Prop :=
  if a1 = (61 : Int32) then (w_Writer_space this (fun M2 => w_Writer_sign_j10 this Q a1 M2) M) else (w_Writer_sign_j10 this Q a1 M)
set_option maxRecDepth 4096 in
theorem lk_Writer_sign_j38 {γ : Gm} (hγ : Gk γ) (this : Nat) (Q : Mem → Prop) (s0 : Int32) (M : Mem) (h : w_Writer_sign_j38 this Q s0 M) : E γ k_Writer_sign 2 38 [none, none] [vi s0, vr (some (8, this))] M (Qv Q) := by
  unfold w_Writer_sign_j38 at h
  obtain ⟨c6, h⟩ := h
  refine E_blk (lv' := [none, none]) (st' := []) (M1 := (sI M 8 this 3 s0)) (pc' := 41) (tb_Writer hγ) [.putfield 31] (by decide +kernel) rfl rfl ⟨c6, trivial⟩ ?_
  exact E_vret rfl (by decide +kernel) h
set_option maxRecDepth 4096 in
theorem lk_Writer_sign_j33 {γ : Gm} (hγ : Gk γ) (this : Nat) (Q : Mem → Prop)  (M : Mem) (h : w_Writer_sign_j33 this Q  M) : E γ k_Writer_sign 2 33 [none, none] [vr (some (8, this))] M (Qv Q) := by
  unfold w_Writer_sign_j33 at h
  refine E_blk (lv' := [none, none]) (st' := [vi (1 : Int32), vr (some (8, this))]) (M1 := M) (pc' := 34) (tb_Writer hγ) [.iconst 1] (by decide +kernel) rfl rfl trivial ?_
  refine E_goto (off := 4) (tgt := 38) (by decide +kernel) (by decide) ?_
  refine E_mask [false, false] rfl ?_
  exact lk_Writer_sign_j38 hγ this Q (1 : Int32) M h
set_option maxRecDepth 4096 in
theorem lk_Writer_sign_j10 {γ : Gm} (hγ : Gk γ) (this : Nat) (Q : Mem → Prop) (v1 : Int32) (M : Mem) (h : w_Writer_sign_j10 this Q v1 M) : E γ k_Writer_sign 2 10 [some (vr (some (8, this))), some (vi v1)] [] M (Qv Q) := by
  unfold w_Writer_sign_j10 at h
  refine E_blk (lv' := [some (vr (some (8, this))), some (vi v1)]) (st' := [vi v1, vr (some (8, this))]) (M1 := M) (pc' := 12) (tb_Writer hγ) [.aload_n 0, .iload_n 1] (by decide +kernel) rfl rfl trivial ?_
  refine E_callV (κ' := k_Writer_put) (As := [vi v1]) (st := []) mv_Writer_put (Or.inl (tbk_mem (j := 9) (k := 165) rfl)) rfl (by decide +kernel) (Nat.le_of_ble_eq_true rfl) (Nat.le_of_ble_eq_true rfl) rfl (by decide) (lk_Writer_put hγ this v1 _ M h) (fun _ _ => Qv_r) (fun v M3 hp => Qv_k (R := fun st => E γ k_Writer_sign 2 15 [some (vr (some (8, this))), some (vi v1)] st M3 (Qv Q)) hp (fun h => ?_))
  obtain ⟨c4, h⟩ := h
  refine E_blk (lv' := [some (vr (some (8, this))), some (vi v1)]) (st' := [vi (40 : Int32), vi v1, vr (some (8, this))]) (M1 := (sI M3 8 this 2 (0 : Int32))) (pc' := 24) (tb_Writer hγ) [.aload_n 0, .iconst 0, .putfield 27, .aload_n 0, .iload_n 1, .bipush 40] (by decide +kernel) rfl rfl ⟨c4, trivial⟩ ?_
  refine E_icmp_eq (off := 9) (tgt := 33) (by decide +kernel) (by decide) (fun b5 => ?_) (fun b5 => ?_)
  · rw [if_pos b5] at h
    refine E_mask [false, false] rfl ?_
    exact lk_Writer_sign_j33 hγ this Q  (sI M3 8 this 2 (0 : Int32)) h
  · rw [if_neg b5] at h
    refine E_blk (lv' := [some (vr (some (8, this))), some (vi v1)]) (st' := [vi (46 : Int32), vi v1, vr (some (8, this))]) (M1 := (sI M3 8 this 2 (0 : Int32))) (pc' := 30) (tb_Writer hγ) [.iload_n 1, .bipush 46] (by decide +kernel) rfl rfl trivial ?_
    refine E_icmp_ne (off := 7) (tgt := 37) (by decide +kernel) (by decide) (fun b7 => ?_) (fun b7 => ?_)
    · rw [if_pos b7] at h
      refine E_mask [false, false] rfl ?_
      exact lk_Writer_sign_j33 hγ this Q  (sI M3 8 this 2 (0 : Int32)) h
    · rw [if_neg b7] at h
      refine E_blk (lv' := [some (vr (some (8, this))), some (vi v1)]) (st' := [vi (0 : Int32), vr (some (8, this))]) (M1 := (sI M3 8 this 2 (0 : Int32))) (pc' := 38) (tb_Writer hγ) [.iconst 0] (by decide +kernel) rfl rfl trivial ?_
      refine E_mask [false, false] rfl ?_
      exact lk_Writer_sign_j38 hγ this Q (0 : Int32) (sI M3 8 this 2 (0 : Int32)) h
set_option maxRecDepth 4096 in
theorem lk_Writer_sign {γ : Gm} (hγ : Gk γ) (this : Nat) (a1 : Int32) (Q : Mem → Prop) (M : Mem) (h : w_Writer_sign this a1 Q M) : E γ k_Writer_sign 2 0 [some (vr (some (8, this))), some (vi a1)] [] M (Qv Q) := by
  unfold w_Writer_sign at h
  refine E_blk (lv' := [some (vr (some (8, this))), some (vi a1)]) (st' := [vi (61 : Int32), vi a1]) (M1 := M) (pc' := 3) (tb_Writer hγ) [.iload_n 1, .bipush 61] (by decide +kernel) rfl rfl trivial ?_
  refine E_icmp_ne (off := 7) (tgt := 10) (by decide +kernel) (by decide) (fun b1 => ?_) (fun b1 => ?_)
  · rw [if_pos b1] at h
    refine E_blk (lv' := [some (vr (some (8, this))), some (vi a1)]) (st' := [vr (some (8, this))]) (M1 := M) (pc' := 7) (tb_Writer hγ) [.aload_n 0] (by decide +kernel) rfl rfl trivial ?_
    refine E_callV (κ' := k_Writer_space) (As := []) (st := []) mv_Writer_space (Or.inl (tbk_mem (j := 9) (k := 177) rfl)) rfl (by decide +kernel) (Nat.le_of_ble_eq_true rfl) (Nat.le_of_ble_eq_true rfl) rfl (by decide) (lk_Writer_space hγ this _ M h) (fun _ _ => Qv_r) (fun v M2 hp => Qv_k (R := fun st => E γ k_Writer_sign 2 10 [some (vr (some (8, this))), some (vi a1)] st M2 (Qv Q)) hp (fun h => ?_))
    refine E_mask [true, true] rfl ?_
    exact lk_Writer_sign_j10 hγ this Q a1 M2 h
  · rw [if_neg b1] at h
    refine E_mask [true, true] rfl ?_
    exact lk_Writer_sign_j10 hγ this Q a1 M h
def w_Writer_end (this : Nat) (Q : Mem → Prop) (M : Mem) : Prop :=
  w_Writer_put this (10 : Int32) (fun M1 => Q M1) M
set_option maxRecDepth 4096 in
theorem lk_Writer_end {γ : Gm} (hγ : Gk γ) (this : Nat) (Q : Mem → Prop) (M : Mem) (h : w_Writer_end this Q M) : E γ k_Writer_end 1 0 [some (vr (some (8, this)))] [] M (Qv Q) := by
  unfold w_Writer_end at h
  refine E_blk (lv' := [some (vr (some (8, this)))]) (st' := [vi (10 : Int32), vr (some (8, this))]) (M1 := M) (pc' := 3) (tb_Writer hγ) [.aload_n 0, .bipush 10] (by decide +kernel) rfl rfl trivial ?_
  refine E_callV (κ' := k_Writer_put) (As := [vi (10 : Int32)]) (st := []) mv_Writer_put (Or.inl (tbk_mem (j := 9) (k := 165) rfl)) rfl (by decide +kernel) (Nat.le_of_ble_eq_true rfl) (Nat.le_of_ble_eq_true rfl) rfl (by decide) (lk_Writer_put hγ this (10 : Int32) _ M h) (fun _ _ => Qv_r) (fun v M1 hp => Qv_k (R := fun st => E γ k_Writer_end 1 6 [some (vr (some (8, this)))] st M1 (Qv Q)) hp (fun h => ?_))
  exact E_vret rfl (by decide +kernel) h
def w_Writer_kind_j64 (this : Nat) (Q : Mem → Prop) (s0 : Int32) (M : Mem) : Prop :=
  w_Writer_word this s0 (fun M2 => Q M2) M
def w_Writer_kind (this : Nat) (a1 : Int32) (Q : Mem → Prop) (M : Mem) : Prop :=
  if a1 = 0 then (w_Writer_kind_j64 this Q (1 : Int32) M) else (if a1 = (1 : Int32) then (w_Writer_kind_j64 this Q (73 : Int32) M) else (if a1 = (-4 : Int32) then (w_Writer_kind_j64 this Q (74 : Int32) M) else (if a1 = (-1 : Int32) then (w_Writer_kind_j64 this Q (2 : Int32) M) else (if a1 = (-2 : Int32) then (w_Writer_kind_j64 this Q (75 : Int32) M) else (if a1 = (-3 : Int32) then (w_Writer_kind_j64 this Q (76 : Int32) M) else (w_Writer_kind_j64 this Q (a1 - (2 : Int32)) M))))))
set_option maxRecDepth 4096 in
theorem lk_Writer_kind_j64 {γ : Gm} (hγ : Gk γ) (this : Nat) (Q : Mem → Prop) (s0 : Int32) (M : Mem) (h : w_Writer_kind_j64 this Q s0 M) : E γ k_Writer_kind 3 64 [none, none] [vi s0, vr (some (8, this))] M (Qv Q) := by
  unfold w_Writer_kind_j64 at h
  refine E_callV (κ' := k_Writer_word) (As := [vi s0]) (st := []) mv_Writer_word (Or.inl (tbk_mem (j := 9) (k := 173) rfl)) rfl (by decide +kernel) (Nat.le_of_ble_eq_true rfl) (Nat.le_of_ble_eq_true rfl) rfl (by decide) (lk_Writer_word hγ this s0 _ M h) (fun _ _ => Qv_r) (fun v M2 hp => Qv_k (R := fun st => E γ k_Writer_kind 3 67 [none, none] st M2 (Qv Q)) hp (fun h => ?_))
  exact E_vret rfl (by decide +kernel) h
set_option maxRecDepth 4096 in
theorem lk_Writer_kind {γ : Gm} (hγ : Gk γ) (this : Nat) (a1 : Int32) (Q : Mem → Prop) (M : Mem) (h : w_Writer_kind this a1 Q M) : E γ k_Writer_kind 3 0 [some (vr (some (8, this))), some (vi a1)] [] M (Qv Q) := by
  unfold w_Writer_kind at h
  refine E_blk (lv' := [some (vr (some (8, this))), some (vi a1)]) (st' := [vi a1, vr (some (8, this))]) (M1 := M) (pc' := 2) (tb_Writer hγ) [.aload_n 0, .iload_n 1] (by decide +kernel) rfl rfl trivial ?_
  refine E_if_ne (off := 7) (tgt := 9) (by decide +kernel) (by decide) (fun b1 => ?_) (fun b1 => ?_)
  · rw [if_pos b1] at h
    refine E_blk (lv' := [some (vr (some (8, this))), some (vi a1)]) (st' := [vi (1 : Int32), vr (some (8, this))]) (M1 := M) (pc' := 6) (tb_Writer hγ) [.iconst 1] (by decide +kernel) rfl rfl trivial ?_
    refine E_goto (off := 58) (tgt := 64) (by decide +kernel) (by decide) ?_
    refine E_mask [false, false] rfl ?_
    exact lk_Writer_kind_j64 hγ this Q (1 : Int32) M h
  · rw [if_neg b1] at h
    refine E_blk (lv' := [some (vr (some (8, this))), some (vi a1)]) (st' := [vi (1 : Int32), vi a1, vr (some (8, this))]) (M1 := M) (pc' := 11) (tb_Writer hγ) [.iload_n 1, .iconst 1] (by decide +kernel) rfl rfl trivial ?_
    refine E_icmp_ne (off := 8) (tgt := 19) (by decide +kernel) (by decide) (fun b3 => ?_) (fun b3 => ?_)
    · rw [if_pos b3] at h
      refine E_blk (lv' := [some (vr (some (8, this))), some (vi a1)]) (st' := [vi (73 : Int32), vr (some (8, this))]) (M1 := M) (pc' := 16) (tb_Writer hγ) [.bipush 73] (by decide +kernel) rfl rfl trivial ?_
      refine E_goto (off := 48) (tgt := 64) (by decide +kernel) (by decide) ?_
      refine E_mask [false, false] rfl ?_
      exact lk_Writer_kind_j64 hγ this Q (73 : Int32) M h
    · rw [if_neg b3] at h
      refine E_blk (lv' := [some (vr (some (8, this))), some (vi a1)]) (st' := [vi (-4 : Int32), vi a1, vr (some (8, this))]) (M1 := M) (pc' := 22) (tb_Writer hγ) [.iload_n 1, .bipush (.negSucc 3)] (by decide +kernel) rfl rfl trivial ?_
      refine E_icmp_ne (off := 8) (tgt := 30) (by decide +kernel) (by decide) (fun b4 => ?_) (fun b4 => ?_)
      · rw [if_pos b4] at h
        refine E_blk (lv' := [some (vr (some (8, this))), some (vi a1)]) (st' := [vi (74 : Int32), vr (some (8, this))]) (M1 := M) (pc' := 27) (tb_Writer hγ) [.bipush 74] (by decide +kernel) rfl rfl trivial ?_
        refine E_goto (off := 37) (tgt := 64) (by decide +kernel) (by decide) ?_
        refine E_mask [false, false] rfl ?_
        exact lk_Writer_kind_j64 hγ this Q (74 : Int32) M h
      · rw [if_neg b4] at h
        refine E_blk (lv' := [some (vr (some (8, this))), some (vi a1)]) (st' := [vi (-1 : Int32), vi a1, vr (some (8, this))]) (M1 := M) (pc' := 32) (tb_Writer hγ) [.iload_n 1, .iconst (.negSucc 0)] (by decide +kernel) rfl rfl trivial ?_
        refine E_icmp_ne (off := 7) (tgt := 39) (by decide +kernel) (by decide) (fun b5 => ?_) (fun b5 => ?_)
        · rw [if_pos b5] at h
          refine E_blk (lv' := [some (vr (some (8, this))), some (vi a1)]) (st' := [vi (2 : Int32), vr (some (8, this))]) (M1 := M) (pc' := 36) (tb_Writer hγ) [.iconst 2] (by decide +kernel) rfl rfl trivial ?_
          refine E_goto (off := 28) (tgt := 64) (by decide +kernel) (by decide) ?_
          refine E_mask [false, false] rfl ?_
          exact lk_Writer_kind_j64 hγ this Q (2 : Int32) M h
        · rw [if_neg b5] at h
          refine E_blk (lv' := [some (vr (some (8, this))), some (vi a1)]) (st' := [vi (-2 : Int32), vi a1, vr (some (8, this))]) (M1 := M) (pc' := 42) (tb_Writer hγ) [.iload_n 1, .bipush (.negSucc 1)] (by decide +kernel) rfl rfl trivial ?_
          refine E_icmp_ne (off := 8) (tgt := 50) (by decide +kernel) (by decide) (fun b6 => ?_) (fun b6 => ?_)
          · rw [if_pos b6] at h
            refine E_blk (lv' := [some (vr (some (8, this))), some (vi a1)]) (st' := [vi (75 : Int32), vr (some (8, this))]) (M1 := M) (pc' := 47) (tb_Writer hγ) [.bipush 75] (by decide +kernel) rfl rfl trivial ?_
            refine E_goto (off := 17) (tgt := 64) (by decide +kernel) (by decide) ?_
            refine E_mask [false, false] rfl ?_
            exact lk_Writer_kind_j64 hγ this Q (75 : Int32) M h
          · rw [if_neg b6] at h
            refine E_blk (lv' := [some (vr (some (8, this))), some (vi a1)]) (st' := [vi (-3 : Int32), vi a1, vr (some (8, this))]) (M1 := M) (pc' := 53) (tb_Writer hγ) [.iload_n 1, .bipush (.negSucc 2)] (by decide +kernel) rfl rfl trivial ?_
            refine E_icmp_ne (off := 8) (tgt := 61) (by decide +kernel) (by decide) (fun b7 => ?_) (fun b7 => ?_)
            · rw [if_pos b7] at h
              refine E_blk (lv' := [some (vr (some (8, this))), some (vi a1)]) (st' := [vi (76 : Int32), vr (some (8, this))]) (M1 := M) (pc' := 58) (tb_Writer hγ) [.bipush 76] (by decide +kernel) rfl rfl trivial ?_
              refine E_goto (off := 6) (tgt := 64) (by decide +kernel) (by decide) ?_
              refine E_mask [false, false] rfl ?_
              exact lk_Writer_kind_j64 hγ this Q (76 : Int32) M h
            · rw [if_neg b7] at h
              refine E_blk (lv' := [some (vr (some (8, this))), some (vi a1)]) (st' := [vi (a1 - (2 : Int32)), vr (some (8, this))]) (M1 := M) (pc' := 64) (tb_Writer hγ) [.iload_n 1, .iconst 2, .isub] (by decide +kernel) rfl rfl trivial ?_
              refine E_mask [false, false] rfl ?_
              exact lk_Writer_kind_j64 hγ this Q (a1 - (2 : Int32)) M h
def w_Writer_digits_L52 (this : Nat) (Q : Mem → Prop) : Nat → Int64 → Int64 → Mem → Prop
  | 0, _, _, _ => False
  | n + 1, v2, v4, M => if (lg_cmp v4 (0 : Int64)) ≤ 0 then (Q M) else (¬ v4 = 0 ∧ ¬ (10 : Int64) = 0 ∧ w_Writer_put this (((48 : Int64) + ((v2 / v4) - (v2 / v4) / (10 : Int64) * (10 : Int64))).toInt32) (fun M9 => ¬ (10 : Int64) = 0 ∧ (w_Writer_digits_L52 this Q n) v2 (v4 / (10 : Int64)) M9) M)
def w_Writer_digits_L30 (this : Nat) (Q : Mem → Prop) : Nat → Int64 → Int64 → Mem → Prop
  | 0, _, _, _ => False
  | n + 1, v2, v4, M => ¬ v4 = 0 ∧ if (lg_cmp (v2 / v4) (9 : Int64)) ≤ 0 then (∃ n11 : Nat, w_Writer_digits_L52 this Q n11 v2 v4 M) else ((w_Writer_digits_L30 this Q n) v2 (v4 * (10 : Int64)) M)
def w_Writer_digits_j27 (this : Nat) (Q : Mem → Prop) (v2 : Int64) (M : Mem) : Prop :=
  ∃ n12 : Nat, w_Writer_digits_L30 this Q n12 v2 (1 : Int64) M
def w_Writer_digits_j16 (this : Nat) (Q : Mem → Prop) (v1 : Int32) (s0 : Int64) (M : Mem) : Prop :=
  if 0 ≤ v1 then (w_Writer_digits_j27 this Q s0 M) else (w_Writer_put this (45 : Int32) (fun M13 => w_Writer_digits_j27 this Q s0 M13) M)
def w_Writer_digits (this : Nat) (a1 : Int32) (Q : Mem → Prop) (M : Mem) : Prop :=
  w_Writer_space this (fun M1 => if 0 ≤ a1 then (w_Writer_digits_j16 this Q a1 a1.toInt64 M1) else (w_Writer_digits_j16 this Q a1 (-a1.toInt64) M1)) M
set_option maxRecDepth 4096 in
theorem lk_Writer_digits_L52 {γ : Gm} (hγ : Gk γ) (this : Nat) (Q : Mem → Prop) : ∀ (n : Nat) (v2 : Int64) (v4 : Int64) (M : Mem), w_Writer_digits_L52 this Q n v2 v4 M → E γ k_Writer_digits 2 52 [some (vr (some (8, this))), none, some (vl v2), none, some (vl v4), none] [] M (Qv Q) := by
  intro n
  induction n with
  | zero => intro v2 v4 M h; exact h.elim
  | succ n ih =>
    intro v2 v4 M h
    unfold w_Writer_digits_L52 at h
    refine E_blk (lv' := [some (vr (some (8, this))), none, some (vl v2), none, some (vl v4), none]) (st' := [vi (lg_cmp v4 (0 : Int64))]) (M1 := M) (pc' := 56) (tb_Writer hγ) [.lload 4, .lconst 0, .lcmp] (by decide +kernel) rfl rfl trivial ?_
    refine E_if_le (off := 31) (tgt := 87) (by decide +kernel) (by decide) (fun b6 => ?_) (fun b6 => ?_)
    · rw [if_pos b6] at h
      exact E_vret rfl (by decide +kernel) h
    · rw [if_neg b6] at h
      obtain ⟨c7, c8, h⟩ := h
      refine E_blk (lv' := [some (vr (some (8, this))), none, some (vl v2), none, some (vl v4), none]) (st' := [vi (((48 : Int64) + ((v2 / v4) - (v2 / v4) / (10 : Int64) * (10 : Int64))).toInt32), vr (some (8, this))]) (M1 := M) (pc' := 73) (tb_Writer hγ) [.aload_n 0, .ldc2_w 55, .lload_n 2, .lload 4, .ldiv, .ldc2_w 53, .lrem, .ladd, .l2i] (by decide +kernel) rfl rfl ⟨c7, c8, trivial⟩ ?_
      refine E_callV (κ' := k_Writer_put) (As := [vi (((48 : Int64) + ((v2 / v4) - (v2 / v4) / (10 : Int64) * (10 : Int64))).toInt32)]) (st := []) mv_Writer_put (Or.inl (tbk_mem (j := 9) (k := 165) rfl)) rfl (by decide +kernel) (Nat.le_of_ble_eq_true rfl) (Nat.le_of_ble_eq_true rfl) rfl (by decide) (lk_Writer_put hγ this (((48 : Int64) + ((v2 / v4) - (v2 / v4) / (10 : Int64) * (10 : Int64))).toInt32) _ M h) (fun _ _ => Qv_r) (fun v M9 hp => Qv_k (R := fun st => E γ k_Writer_digits 2 76 [some (vr (some (8, this))), none, some (vl v2), none, some (vl v4), none] st M9 (Qv Q)) hp (fun h => ?_))
      obtain ⟨c10, h⟩ := h
      refine E_blk (lv' := [some (vr (some (8, this))), none, some (vl v2), none, some (vl (v4 / (10 : Int64))), none]) (st' := []) (M1 := M9) (pc' := 84) (tb_Writer hγ) [.lload 4, .ldc2_w 53, .ldiv, .lstore 4] (by decide +kernel) rfl rfl ⟨c10, trivial⟩ ?_
      refine E_goto (off := -32) (tgt := 52) (by decide +kernel) (by decide) ?_
      refine E_mask [true, false, true, false, true, false] rfl ?_
      exact ih v2 (v4 / (10 : Int64)) M9 h
set_option maxRecDepth 4096 in
theorem lk_Writer_digits_L30 {γ : Gm} (hγ : Gk γ) (this : Nat) (Q : Mem → Prop) : ∀ (n : Nat) (v2 : Int64) (v4 : Int64) (M : Mem), w_Writer_digits_L30 this Q n v2 v4 M → E γ k_Writer_digits 2 30 [some (vr (some (8, this))), none, some (vl v2), none, some (vl v4), none] [] M (Qv Q) := by
  intro n
  induction n with
  | zero => intro v2 v4 M h; exact h.elim
  | succ n ih =>
    intro v2 v4 M h
    unfold w_Writer_digits_L30 at h
    obtain ⟨c4, h⟩ := h
    refine E_blk (lv' := [some (vr (some (8, this))), none, some (vl v2), none, some (vl v4), none]) (st' := [vi (lg_cmp (v2 / v4) (9 : Int64))]) (M1 := M) (pc' := 38) (tb_Writer hγ) [.lload_n 2, .lload 4, .ldiv, .ldc2_w 51, .lcmp] (by decide +kernel) rfl rfl ⟨c4, trivial⟩ ?_
    refine E_if_le (off := 14) (tgt := 52) (by decide +kernel) (by decide) (fun b5 => ?_) (fun b5 => ?_)
    · rw [if_pos b5] at h
      obtain ⟨n11, h⟩ := h
      refine E_mask [true, false, true, false, true, false] rfl ?_
      exact lk_Writer_digits_L52 hγ this Q n11 v2 v4 M h
    · rw [if_neg b5] at h
      refine E_blk (lv' := [some (vr (some (8, this))), none, some (vl v2), none, some (vl (v4 * (10 : Int64))), none]) (st' := []) (M1 := M) (pc' := 49) (tb_Writer hγ) [.lload 4, .ldc2_w 53, .lmul, .lstore 4] (by decide +kernel) rfl rfl trivial ?_
      refine E_goto (off := -19) (tgt := 30) (by decide +kernel) (by decide) ?_
      refine E_mask [true, false, true, false, true, false] rfl ?_
      exact ih v2 (v4 * (10 : Int64)) M h
set_option maxRecDepth 4096 in
theorem lk_Writer_digits_j27 {γ : Gm} (hγ : Gk γ) (this : Nat) (Q : Mem → Prop) (v2 : Int64) (M : Mem) (h : w_Writer_digits_j27 this Q v2 M) : E γ k_Writer_digits 2 27 [some (vr (some (8, this))), none, some (vl v2), none, none, none] [] M (Qv Q) := by
  unfold w_Writer_digits_j27 at h
  refine E_blk (lv' := [some (vr (some (8, this))), none, some (vl v2), none, some (vl (1 : Int64)), none]) (st' := []) (M1 := M) (pc' := 30) (tb_Writer hγ) [.lconst 1, .lstore 4] (by decide +kernel) rfl rfl trivial ?_
  obtain ⟨n12, h⟩ := h
  refine E_mask [true, false, true, false, true, false] rfl ?_
  exact lk_Writer_digits_L30 hγ this Q n12 v2 (1 : Int64) M h
set_option maxRecDepth 4096 in
theorem lk_Writer_digits_j16 {γ : Gm} (hγ : Gk γ) (this : Nat) (Q : Mem → Prop) (v1 : Int32) (s0 : Int64) (M : Mem) (h : w_Writer_digits_j16 this Q v1 s0 M) : E γ k_Writer_digits 2 16 [some (vr (some (8, this))), some (vi v1), none, none, none, none] [vl s0] M (Qv Q) := by
  unfold w_Writer_digits_j16 at h
  refine E_blk (lv' := [some (vr (some (8, this))), some (vi v1), some (vl s0), none, none, none]) (st' := [vi v1]) (M1 := M) (pc' := 18) (tb_Writer hγ) [.lstore_n 2, .iload_n 1] (by decide +kernel) rfl rfl trivial ?_
  refine E_if_ge (off := 9) (tgt := 27) (by decide +kernel) (by decide) (fun b3 => ?_) (fun b3 => ?_)
  · rw [if_pos b3] at h
    refine E_mask [true, false, true, false, false, false] rfl ?_
    exact lk_Writer_digits_j27 hγ this Q s0 M h
  · rw [if_neg b3] at h
    refine E_blk (lv' := [some (vr (some (8, this))), some (vi v1), some (vl s0), none, none, none]) (st' := [vi (45 : Int32), vr (some (8, this))]) (M1 := M) (pc' := 24) (tb_Writer hγ) [.aload_n 0, .bipush 45] (by decide +kernel) rfl rfl trivial ?_
    refine E_callV (κ' := k_Writer_put) (As := [vi (45 : Int32)]) (st := []) mv_Writer_put (Or.inl (tbk_mem (j := 9) (k := 165) rfl)) rfl (by decide +kernel) (Nat.le_of_ble_eq_true rfl) (Nat.le_of_ble_eq_true rfl) rfl (by decide) (lk_Writer_put hγ this (45 : Int32) _ M h) (fun _ _ => Qv_r) (fun v M13 hp => Qv_k (R := fun st => E γ k_Writer_digits 2 27 [some (vr (some (8, this))), some (vi v1), some (vl s0), none, none, none] st M13 (Qv Q)) hp (fun h => ?_))
    refine E_mask [true, false, true, false, false, false] rfl ?_
    exact lk_Writer_digits_j27 hγ this Q s0 M13 h
set_option maxRecDepth 4096 in
theorem lk_Writer_digits {γ : Gm} (hγ : Gk γ) (this : Nat) (a1 : Int32) (Q : Mem → Prop) (M : Mem) (h : w_Writer_digits this a1 Q M) : E γ k_Writer_digits 2 0 [some (vr (some (8, this))), some (vi a1), none, none, none, none] [] M (Qv Q) := by
  unfold w_Writer_digits at h
  refine E_blk (lv' := [some (vr (some (8, this))), some (vi a1), none, none, none, none]) (st' := [vr (some (8, this))]) (M1 := M) (pc' := 1) (tb_Writer hγ) [.aload_n 0] (by decide +kernel) rfl rfl trivial ?_
  refine E_callV (κ' := k_Writer_space) (As := []) (st := []) mv_Writer_space (Or.inl (tbk_mem (j := 9) (k := 177) rfl)) rfl (by decide +kernel) (Nat.le_of_ble_eq_true rfl) (Nat.le_of_ble_eq_true rfl) rfl (by decide) (lk_Writer_space hγ this _ M h) (fun _ _ => Qv_r) (fun v M1 hp => Qv_k (R := fun st => E γ k_Writer_digits 2 4 [some (vr (some (8, this))), some (vi a1), none, none, none, none] st M1 (Qv Q)) hp (fun h => ?_))
  refine E_blk (lv' := [some (vr (some (8, this))), some (vi a1), none, none, none, none]) (st' := [vi a1]) (M1 := M1) (pc' := 5) (tb_Writer hγ) [.iload_n 1] (by decide +kernel) rfl rfl trivial ?_
  refine E_if_ge (off := 9) (tgt := 14) (by decide +kernel) (by decide) (fun b2 => ?_) (fun b2 => ?_)
  · rw [if_pos b2] at h
    refine E_blk (lv' := [some (vr (some (8, this))), some (vi a1), none, none, none, none]) (st' := [vl a1.toInt64]) (M1 := M1) (pc' := 16) (tb_Writer hγ) [.iload_n 1, .i2l] (by decide +kernel) rfl rfl trivial ?_
    refine E_mask [true, true, false, false, false, false] rfl ?_
    exact lk_Writer_digits_j16 hγ this Q a1 a1.toInt64 M1 h
  · rw [if_neg b2] at h
    refine E_blk (lv' := [some (vr (some (8, this))), some (vi a1), none, none, none, none]) (st' := [vl (-a1.toInt64)]) (M1 := M1) (pc' := 11) (tb_Writer hγ) [.iload_n 1, .i2l, .lneg] (by decide +kernel) rfl rfl trivial ?_
    refine E_goto (off := 5) (tgt := 16) (by decide +kernel) (by decide) ?_
    refine E_mask [true, true, false, false, false, false] rfl ?_
    exact lk_Writer_digits_j16 hγ this Q a1 (-a1.toInt64) M1 h
def w_Writer_field_j88 (this : Nat) (Q : Mem → Prop)  (M : Mem) : Prop :=
  w_Writer_end this (fun M15 => Q M15) M
def w_Writer_field (this : Nat) (a1 : Int32) (Q : Mem → Prop) (M : Mem) : Prop :=
  w_Writer_line this (1 : Int32) (fun M1 => w_Writer_word this (63 : Int32) (fun M2 => ∃ i3, (mR M2 8 this 5) = some (5, i3) ∧ vp_in a1 (mL M2 51 i3) ∧ w_Writer_flags this (mI M2 51 i3 a1.toNatClampNeg) (52 : Int32) (69 : Int32) (72 : Int32) (0 : Int32) (fun M5 => ∃ i6, (mR M5 8 this 5) = some (5, i6) ∧ vp_in a1 (mL M5 49 i6) ∧ w_Writer_word this (mI M5 49 i6 a1.toNatClampNeg) (fun M8 => ∃ i9, (mR M8 8 this 5) = some (5, i9) ∧ vp_in a1 (mL M8 50 i9) ∧ w_Writer_kind this (mI M8 50 i9 a1.toNatClampNeg) (fun M11 => ∃ i12, (mR M11 8 this 5) = some (5, i12) ∧ vp_in a1 (mL M11 511 i12) ∧ if (mI M11 511 i12 a1.toNatClampNeg) = 0 then (w_Writer_field_j88 this Q  M11) else (w_Writer_sign this (61 : Int32) (fun M16 => ∃ i17, (mR M16 8 this 5) = some (5, i17) ∧ vp_in a1 (mL M16 52 i17) ∧ w_Writer_digits this (mI M16 52 i17 a1.toNatClampNeg) (fun M19 => w_Writer_field_j88 this Q  M19) M16) M11)) M8) M5) M2) M1) M
set_option maxRecDepth 4096 in
theorem lk_Writer_field_j88 {γ : Gm} (hγ : Gk γ) (this : Nat) (Q : Mem → Prop)  (M : Mem) (h : w_Writer_field_j88 this Q  M) : E γ k_Writer_field 4 88 [some (vr (some (8, this))), none] [] M (Qv Q) := by
  unfold w_Writer_field_j88 at h
  refine E_blk (lv' := [some (vr (some (8, this))), none]) (st' := [vr (some (8, this))]) (M1 := M) (pc' := 89) (tb_Writer hγ) [.aload_n 0] (by decide +kernel) rfl rfl trivial ?_
  refine E_callV (κ' := k_Writer_end) (As := []) (st := []) mv_Writer_end (Or.inl (tbk_mem (j := 9) (k := 186) rfl)) rfl (by decide +kernel) (Nat.le_of_ble_eq_true rfl) (Nat.le_of_ble_eq_true rfl) rfl (by decide) (lk_Writer_end hγ this _ M h) (fun _ _ => Qv_r) (fun v M15 hp => Qv_k (R := fun st => E γ k_Writer_field 4 92 [some (vr (some (8, this))), none] st M15 (Qv Q)) hp (fun h => ?_))
  exact E_vret rfl (by decide +kernel) h
set_option maxRecDepth 4096 in
theorem lk_Writer_field {γ : Gm} (hγ : Gk γ) (this : Nat) (a1 : Int32) (Q : Mem → Prop) (M : Mem) (h : w_Writer_field this a1 Q M) : E γ k_Writer_field 4 0 [some (vr (some (8, this))), some (vi a1)] [] M (Qv Q) := by
  unfold w_Writer_field at h
  refine E_blk (lv' := [some (vr (some (8, this))), some (vi a1)]) (st' := [vi (1 : Int32), vr (some (8, this))]) (M1 := M) (pc' := 2) (tb_Writer hγ) [.aload_n 0, .iconst 1] (by decide +kernel) rfl rfl trivial ?_
  refine E_callV (κ' := k_Writer_line) (As := [vi (1 : Int32)]) (st := []) mv_Writer_line (Or.inl (tbk_mem (j := 9) (k := 161) rfl)) rfl (by decide +kernel) (Nat.le_of_ble_eq_true rfl) (Nat.le_of_ble_eq_true rfl) rfl (by decide) (lk_Writer_line hγ this (1 : Int32) _ M h) (fun _ _ => Qv_r) (fun v M1 hp => Qv_k (R := fun st => E γ k_Writer_field 4 5 [some (vr (some (8, this))), some (vi a1)] st M1 (Qv Q)) hp (fun h => ?_))
  refine E_blk (lv' := [some (vr (some (8, this))), some (vi a1)]) (st' := [vi (63 : Int32), vr (some (8, this))]) (M1 := M1) (pc' := 8) (tb_Writer hγ) [.aload_n 0, .bipush 63] (by decide +kernel) rfl rfl trivial ?_
  refine E_callV (κ' := k_Writer_word) (As := [vi (63 : Int32)]) (st := []) mv_Writer_word (Or.inl (tbk_mem (j := 9) (k := 173) rfl)) rfl (by decide +kernel) (Nat.le_of_ble_eq_true rfl) (Nat.le_of_ble_eq_true rfl) rfl (by decide) (lk_Writer_word hγ this (63 : Int32) _ M1 h) (fun _ _ => Qv_r) (fun v M2 hp => Qv_k (R := fun st => E γ k_Writer_field 4 11 [some (vr (some (8, this))), some (vi a1)] st M2 (Qv Q)) hp (fun h => ?_))
  refine E_blk (lv' := [some (vr (some (8, this))), some (vi a1)]) (st' := [vr (mR M2 8 this 5), vr (some (8, this))]) (M1 := M2) (pc' := 16) (tb_Writer hγ) [.aload_n 0, .aload_n 0, .getfield 66] (by decide +kernel) rfl rfl trivial ?_
  obtain ⟨i3, ei3, h⟩ := h
  rw [ei3]
  obtain ⟨c4, h⟩ := h
  refine E_blk (lv' := [some (vr (some (8, this))), some (vi a1)]) (st' := [vi (0 : Int32), vi (72 : Int32), vi (69 : Int32), vi (52 : Int32), vi (mI M2 51 i3 a1.toNatClampNeg), vr (some (8, this))]) (M1 := M2) (pc' := 28) (tb_Writer hγ) [.getfield 114, .iload_n 1, .iaload, .bipush 52, .bipush 69, .bipush 72, .iconst 0] (by decide +kernel) rfl rfl ⟨c4, trivial⟩ ?_
  refine E_callV (κ' := k_Writer_flags) (As := [vi (mI M2 51 i3 a1.toNatClampNeg), vi (52 : Int32), vi (69 : Int32), vi (72 : Int32), vi (0 : Int32)]) (st := []) mv_Writer_flags (Or.inl (tbk_mem (j := 9) (k := 169) rfl)) rfl (by decide +kernel) (Nat.le_of_ble_eq_true rfl) (Nat.le_of_ble_eq_true rfl) rfl (by decide) (lk_Writer_flags hγ this (mI M2 51 i3 a1.toNatClampNeg) (52 : Int32) (69 : Int32) (72 : Int32) (0 : Int32) _ M2 h) (fun _ _ => Qv_r) (fun v M5 hp => Qv_k (R := fun st => E γ k_Writer_field 4 31 [some (vr (some (8, this))), some (vi a1)] st M5 (Qv Q)) hp (fun h => ?_))
  refine E_blk (lv' := [some (vr (some (8, this))), some (vi a1)]) (st' := [vr (mR M5 8 this 5), vr (some (8, this))]) (M1 := M5) (pc' := 36) (tb_Writer hγ) [.aload_n 0, .aload_n 0, .getfield 66] (by decide +kernel) rfl rfl trivial ?_
  obtain ⟨i6, ei6, h⟩ := h
  rw [ei6]
  obtain ⟨c7, h⟩ := h
  refine E_blk (lv' := [some (vr (some (8, this))), some (vi a1)]) (st' := [vi (mI M5 49 i6 a1.toNatClampNeg), vr (some (8, this))]) (M1 := M5) (pc' := 41) (tb_Writer hγ) [.getfield 117, .iload_n 1, .iaload] (by decide +kernel) rfl rfl ⟨c7, trivial⟩ ?_
  refine E_callV (κ' := k_Writer_word) (As := [vi (mI M5 49 i6 a1.toNatClampNeg)]) (st := []) mv_Writer_word (Or.inl (tbk_mem (j := 9) (k := 173) rfl)) rfl (by decide +kernel) (Nat.le_of_ble_eq_true rfl) (Nat.le_of_ble_eq_true rfl) rfl (by decide) (lk_Writer_word hγ this (mI M5 49 i6 a1.toNatClampNeg) _ M5 h) (fun _ _ => Qv_r) (fun v M8 hp => Qv_k (R := fun st => E γ k_Writer_field 4 44 [some (vr (some (8, this))), some (vi a1)] st M8 (Qv Q)) hp (fun h => ?_))
  refine E_blk (lv' := [some (vr (some (8, this))), some (vi a1)]) (st' := [vr (mR M8 8 this 5), vr (some (8, this))]) (M1 := M8) (pc' := 49) (tb_Writer hγ) [.aload_n 0, .aload_n 0, .getfield 66] (by decide +kernel) rfl rfl trivial ?_
  obtain ⟨i9, ei9, h⟩ := h
  rw [ei9]
  obtain ⟨c10, h⟩ := h
  refine E_blk (lv' := [some (vr (some (8, this))), some (vi a1)]) (st' := [vi (mI M8 50 i9 a1.toNatClampNeg), vr (some (8, this))]) (M1 := M8) (pc' := 54) (tb_Writer hγ) [.getfield 120, .iload_n 1, .iaload] (by decide +kernel) rfl rfl ⟨c10, trivial⟩ ?_
  refine E_callV (κ' := k_Writer_kind) (As := [vi (mI M8 50 i9 a1.toNatClampNeg)]) (st := []) mv_Writer_kind (Or.inl (tbk_mem (j := 9) (k := 194) rfl)) rfl (by decide +kernel) (Nat.le_of_ble_eq_true rfl) (Nat.le_of_ble_eq_true rfl) rfl (by decide) (lk_Writer_kind hγ this (mI M8 50 i9 a1.toNatClampNeg) _ M8 h) (fun _ _ => Qv_r) (fun v M11 hp => Qv_k (R := fun st => E γ k_Writer_field 4 57 [some (vr (some (8, this))), some (vi a1)] st M11 (Qv Q)) hp (fun h => ?_))
  refine E_blk (lv' := [some (vr (some (8, this))), some (vi a1)]) (st' := [vr (mR M11 8 this 5)]) (M1 := M11) (pc' := 61) (tb_Writer hγ) [.aload_n 0, .getfield 66] (by decide +kernel) rfl rfl trivial ?_
  obtain ⟨i12, ei12, h⟩ := h
  rw [ei12]
  obtain ⟨c13, h⟩ := h
  refine E_blk (lv' := [some (vr (some (8, this))), some (vi a1)]) (st' := [vi (mI M11 511 i12 a1.toNatClampNeg)]) (M1 := M11) (pc' := 66) (tb_Writer hγ) [.getfield 123, .iload_n 1, .baload] (by decide +kernel) rfl rfl ⟨c13, trivial⟩ ?_
  refine E_if_eq (off := 22) (tgt := 88) (by decide +kernel) (by decide) (fun b14 => ?_) (fun b14 => ?_)
  · rw [if_pos b14] at h
    refine E_mask [true, false] rfl ?_
    exact lk_Writer_field_j88 hγ this Q  M11 h
  · rw [if_neg b14] at h
    refine E_blk (lv' := [some (vr (some (8, this))), some (vi a1)]) (st' := [vi (61 : Int32), vr (some (8, this))]) (M1 := M11) (pc' := 72) (tb_Writer hγ) [.aload_n 0, .bipush 61] (by decide +kernel) rfl rfl trivial ?_
    refine E_callV (κ' := k_Writer_sign) (As := [vi (61 : Int32)]) (st := []) mv_Writer_sign (Or.inl (tbk_mem (j := 9) (k := 182) rfl)) rfl (by decide +kernel) (Nat.le_of_ble_eq_true rfl) (Nat.le_of_ble_eq_true rfl) rfl (by decide) (lk_Writer_sign hγ this (61 : Int32) _ M11 h) (fun _ _ => Qv_r) (fun v M16 hp => Qv_k (R := fun st => E γ k_Writer_field 4 75 [some (vr (some (8, this))), some (vi a1)] st M16 (Qv Q)) hp (fun h => ?_))
    refine E_blk (lv' := [some (vr (some (8, this))), some (vi a1)]) (st' := [vr (mR M16 8 this 5), vr (some (8, this))]) (M1 := M16) (pc' := 80) (tb_Writer hγ) [.aload_n 0, .aload_n 0, .getfield 66] (by decide +kernel) rfl rfl trivial ?_
    obtain ⟨i17, ei17, h⟩ := h
    rw [ei17]
    obtain ⟨c18, h⟩ := h
    refine E_blk (lv' := [some (vr (some (8, this))), some (vi a1)]) (st' := [vi (mI M16 52 i17 a1.toNatClampNeg), vr (some (8, this))]) (M1 := M16) (pc' := 85) (tb_Writer hγ) [.getfield 127, .iload_n 1, .iaload] (by decide +kernel) rfl rfl ⟨c18, trivial⟩ ?_
    refine E_callV (κ' := k_Writer_digits) (As := [vi (mI M16 52 i17 a1.toNatClampNeg)]) (st := []) mv_Writer_digits (Or.inl (tbk_mem (j := 9) (k := 198) rfl)) rfl (by decide +kernel) (Nat.le_of_ble_eq_true rfl) (Nat.le_of_ble_eq_true rfl) rfl (by decide) (lk_Writer_digits hγ this (mI M16 52 i17 a1.toNatClampNeg) _ M16 h) (fun _ _ => Qv_r) (fun v M19 hp => Qv_k (R := fun st => E γ k_Writer_field 4 88 [some (vr (some (8, this))), some (vi a1)] st M19 (Qv Q)) hp (fun h => ?_))
    refine E_mask [true, false] rfl ?_
    exact lk_Writer_field_j88 hγ this Q  M19 h
def w_Writer_types_j26 (this : Nat) (Q : Mem → Prop) (k9 : Nat → Int32 → Int32 → Int32 → Int32 → Mem → Prop) (v1 : Nat) (v2 : Int32) (v3 : Int32) (v4 : Int32) (v5 : Int32) (M : Mem) : Prop :=
  vp_in (v2 + v5) (mL M 211 v1) ∧ w_Writer_kind this (mI M 211 v1 (v2 + v5).toNatClampNeg) (fun M7 => k9 v1 v2 v3 v4 (v5 + (1 : Int32)) M7) M
def w_Writer_types_L9 (this : Nat) (Q : Mem → Prop) : Nat → Nat → Int32 → Int32 → Int32 → Int32 → Mem → Prop
  | 0, _, _, _, _, _, _ => False
  | n + 1, v1, v2, v3, v4, v5, M => if v3 ≤ v5 then (w_Writer_sign this (41 : Int32) (fun M3 => w_Writer_kind this v4 (fun M4 => Q M4) M3) M) else (if v5 ≤ 0 then (w_Writer_types_j26 this Q (w_Writer_types_L9 this Q n) v1 v2 v3 v4 v5 M) else (w_Writer_sign this (44 : Int32) (fun M8 => w_Writer_types_j26 this Q (w_Writer_types_L9 this Q n) v1 v2 v3 v4 v5 M8) M))
def w_Writer_types (this : Nat) (a1 : Nat) (a2 : Int32) (a3 : Int32) (a4 : Int32) (Q : Mem → Prop) (M : Mem) : Prop :=
  w_Writer_sign this (40 : Int32) (fun M1 => ∃ n9 : Nat, w_Writer_types_L9 this Q n9 a1 a2 a3 a4 (0 : Int32) M1) M
set_option maxRecDepth 4096 in
theorem lk_Writer_types_j26 {γ : Gm} (hγ : Gk γ) (this : Nat) (Q : Mem → Prop) (k9 : Nat → Int32 → Int32 → Int32 → Int32 → Mem → Prop) (hk9 : ∀ (v1 : Nat) (v2 : Int32) (v3 : Int32) (v4 : Int32) (v5 : Int32) (M : Mem), k9 v1 v2 v3 v4 v5 M → E γ k_Writer_types 4 9 [some (vr (some (8, this))), some (vr (some (211, v1))), some (vi v2), some (vi v3), some (vi v4), some (vi v5)] [] M (Qv Q)) (v1 : Nat) (v2 : Int32) (v3 : Int32) (v4 : Int32) (v5 : Int32) (M : Mem) (h : w_Writer_types_j26 this Q k9 v1 v2 v3 v4 v5 M) : E γ k_Writer_types 4 26 [some (vr (some (8, this))), some (vr (some (211, v1))), some (vi v2), some (vi v3), some (vi v4), some (vi v5)] [] M (Qv Q) := by
  unfold w_Writer_types_j26 at h
  obtain ⟨c6, h⟩ := h
  refine E_blk (lv' := [some (vr (some (8, this))), some (vr (some (211, v1))), some (vi v2), some (vi v3), some (vi v4), some (vi v5)]) (st' := [vi (mI M 211 v1 (v2 + v5).toNatClampNeg), vr (some (8, this))]) (M1 := M) (pc' := 33) (tb_Writer hγ) [.aload_n 0, .aload_n 1, .iload_n 2, .iload 5, .iadd, .iaload] (by decide +kernel) rfl rfl ⟨c6, trivial⟩ ?_
  refine E_callV (κ' := k_Writer_kind) (As := [vi (mI M 211 v1 (v2 + v5).toNatClampNeg)]) (st := []) mv_Writer_kind (Or.inl (tbk_mem (j := 9) (k := 194) rfl)) rfl (by decide +kernel) (Nat.le_of_ble_eq_true rfl) (Nat.le_of_ble_eq_true rfl) rfl (by decide) (lk_Writer_kind hγ this (mI M 211 v1 (v2 + v5).toNatClampNeg) _ M h) (fun _ _ => Qv_r) (fun v M7 hp => Qv_k (R := fun st => E γ k_Writer_types 4 36 [some (vr (some (8, this))), some (vr (some (211, v1))), some (vi v2), some (vi v3), some (vi v4), some (vi v5)] st M7 (Qv Q)) hp (fun h => ?_))
  refine E_blk (lv' := [some (vr (some (8, this))), some (vr (some (211, v1))), some (vi v2), some (vi v3), some (vi v4), some (vi (v5 + (1 : Int32)))]) (st' := []) (M1 := M7) (pc' := 39) (tb_Writer hγ) [.iinc 5 1] (by decide +kernel) rfl rfl trivial ?_
  refine E_goto (off := -30) (tgt := 9) (by decide +kernel) (by decide) ?_
  refine E_mask [true, true, true, true, true, true] rfl ?_
  exact hk9 v1 v2 v3 v4 (v5 + (1 : Int32)) M7 h
set_option maxRecDepth 4096 in
theorem lk_Writer_types_L9 {γ : Gm} (hγ : Gk γ) (this : Nat) (Q : Mem → Prop) : ∀ (n : Nat) (v1 : Nat) (v2 : Int32) (v3 : Int32) (v4 : Int32) (v5 : Int32) (M : Mem), w_Writer_types_L9 this Q n v1 v2 v3 v4 v5 M → E γ k_Writer_types 4 9 [some (vr (some (8, this))), some (vr (some (211, v1))), some (vi v2), some (vi v3), some (vi v4), some (vi v5)] [] M (Qv Q) := by
  intro n
  induction n with
  | zero => intro v1 v2 v3 v4 v5 M h; exact h.elim
  | succ n ih =>
    intro v1 v2 v3 v4 v5 M h
    unfold w_Writer_types_L9 at h
    refine E_blk (lv' := [some (vr (some (8, this))), some (vr (some (211, v1))), some (vi v2), some (vi v3), some (vi v4), some (vi v5)]) (st' := [vi v3, vi v5]) (M1 := M) (pc' := 12) (tb_Writer hγ) [.iload 5, .iload_n 3] (by decide +kernel) rfl rfl trivial ?_
    refine E_icmp_ge (off := 30) (tgt := 42) (by decide +kernel) (by decide) (fun b2 => ?_) (fun b2 => ?_)
    · rw [if_pos b2] at h
      refine E_blk (lv' := [some (vr (some (8, this))), some (vr (some (211, v1))), some (vi v2), some (vi v3), some (vi v4), some (vi v5)]) (st' := [vi (41 : Int32), vr (some (8, this))]) (M1 := M) (pc' := 45) (tb_Writer hγ) [.aload_n 0, .bipush 41] (by decide +kernel) rfl rfl trivial ?_
      refine E_callV (κ' := k_Writer_sign) (As := [vi (41 : Int32)]) (st := []) mv_Writer_sign (Or.inl (tbk_mem (j := 9) (k := 182) rfl)) rfl (by decide +kernel) (Nat.le_of_ble_eq_true rfl) (Nat.le_of_ble_eq_true rfl) rfl (by decide) (lk_Writer_sign hγ this (41 : Int32) _ M h) (fun _ _ => Qv_r) (fun v M3 hp => Qv_k (R := fun st => E γ k_Writer_types 4 48 [some (vr (some (8, this))), some (vr (some (211, v1))), some (vi v2), some (vi v3), some (vi v4), some (vi v5)] st M3 (Qv Q)) hp (fun h => ?_))
      refine E_blk (lv' := [some (vr (some (8, this))), some (vr (some (211, v1))), some (vi v2), some (vi v3), some (vi v4), some (vi v5)]) (st' := [vi v4, vr (some (8, this))]) (M1 := M3) (pc' := 51) (tb_Writer hγ) [.aload_n 0, .iload 4] (by decide +kernel) rfl rfl trivial ?_
      refine E_callV (κ' := k_Writer_kind) (As := [vi v4]) (st := []) mv_Writer_kind (Or.inl (tbk_mem (j := 9) (k := 194) rfl)) rfl (by decide +kernel) (Nat.le_of_ble_eq_true rfl) (Nat.le_of_ble_eq_true rfl) rfl (by decide) (lk_Writer_kind hγ this v4 _ M3 h) (fun _ _ => Qv_r) (fun v M4 hp => Qv_k (R := fun st => E γ k_Writer_types 4 54 [some (vr (some (8, this))), some (vr (some (211, v1))), some (vi v2), some (vi v3), some (vi v4), some (vi v5)] st M4 (Qv Q)) hp (fun h => ?_))
      exact E_vret rfl (by decide +kernel) h
    · rw [if_neg b2] at h
      refine E_blk (lv' := [some (vr (some (8, this))), some (vr (some (211, v1))), some (vi v2), some (vi v3), some (vi v4), some (vi v5)]) (st' := [vi v5]) (M1 := M) (pc' := 17) (tb_Writer hγ) [.iload 5] (by decide +kernel) rfl rfl trivial ?_
      refine E_if_le (off := 9) (tgt := 26) (by decide +kernel) (by decide) (fun b5 => ?_) (fun b5 => ?_)
      · rw [if_pos b5] at h
        refine E_mask [true, true, true, true, true, true] rfl ?_
        exact lk_Writer_types_j26 hγ this Q (w_Writer_types_L9 this Q n) ih v1 v2 v3 v4 v5 M h
      · rw [if_neg b5] at h
        refine E_blk (lv' := [some (vr (some (8, this))), some (vr (some (211, v1))), some (vi v2), some (vi v3), some (vi v4), some (vi v5)]) (st' := [vi (44 : Int32), vr (some (8, this))]) (M1 := M) (pc' := 23) (tb_Writer hγ) [.aload_n 0, .bipush 44] (by decide +kernel) rfl rfl trivial ?_
        refine E_callV (κ' := k_Writer_sign) (As := [vi (44 : Int32)]) (st := []) mv_Writer_sign (Or.inl (tbk_mem (j := 9) (k := 182) rfl)) rfl (by decide +kernel) (Nat.le_of_ble_eq_true rfl) (Nat.le_of_ble_eq_true rfl) rfl (by decide) (lk_Writer_sign hγ this (44 : Int32) _ M h) (fun _ _ => Qv_r) (fun v M8 hp => Qv_k (R := fun st => E γ k_Writer_types 4 26 [some (vr (some (8, this))), some (vr (some (211, v1))), some (vi v2), some (vi v3), some (vi v4), some (vi v5)] st M8 (Qv Q)) hp (fun h => ?_))
        refine E_mask [true, true, true, true, true, true] rfl ?_
        exact lk_Writer_types_j26 hγ this Q (w_Writer_types_L9 this Q n) ih v1 v2 v3 v4 v5 M8 h
set_option maxRecDepth 4096 in
theorem lk_Writer_types {γ : Gm} (hγ : Gk γ) (this : Nat) (a1 : Nat) (a2 : Int32) (a3 : Int32) (a4 : Int32) (Q : Mem → Prop) (M : Mem) (h : w_Writer_types this a1 a2 a3 a4 Q M) : E γ k_Writer_types 4 0 [some (vr (some (8, this))), some (vr (some (211, a1))), some (vi a2), some (vi a3), some (vi a4), none] [] M (Qv Q) := by
  unfold w_Writer_types at h
  refine E_blk (lv' := [some (vr (some (8, this))), some (vr (some (211, a1))), some (vi a2), some (vi a3), some (vi a4), none]) (st' := [vi (40 : Int32), vr (some (8, this))]) (M1 := M) (pc' := 3) (tb_Writer hγ) [.aload_n 0, .bipush 40] (by decide +kernel) rfl rfl trivial ?_
  refine E_callV (κ' := k_Writer_sign) (As := [vi (40 : Int32)]) (st := []) mv_Writer_sign (Or.inl (tbk_mem (j := 9) (k := 182) rfl)) rfl (by decide +kernel) (Nat.le_of_ble_eq_true rfl) (Nat.le_of_ble_eq_true rfl) rfl (by decide) (lk_Writer_sign hγ this (40 : Int32) _ M h) (fun _ _ => Qv_r) (fun v M1 hp => Qv_k (R := fun st => E γ k_Writer_types 4 6 [some (vr (some (8, this))), some (vr (some (211, a1))), some (vi a2), some (vi a3), some (vi a4), none] st M1 (Qv Q)) hp (fun h => ?_))
  refine E_blk (lv' := [some (vr (some (8, this))), some (vr (some (211, a1))), some (vi a2), some (vi a3), some (vi a4), some (vi (0 : Int32))]) (st' := []) (M1 := M1) (pc' := 9) (tb_Writer hγ) [.iconst 0, .istore 5] (by decide +kernel) rfl rfl trivial ?_
  obtain ⟨n9, h⟩ := h
  refine E_mask [true, true, true, true, true, true] rfl ?_
  exact lk_Writer_types_L9 hγ this Q n9 a1 a2 a3 a4 (0 : Int32) M1 h
def w_Writer_labels_j269 (this : Nat) (Q : Mem → Prop) (k239 : Int32 → Int32 → Int32 → Mem → Prop) (v2 : Int32) (v3 : Int32) (v4 : Int32) (M : Mem) : Prop :=
  k239 v2 v3 (v4 + (1 : Int32)) M
def w_Writer_labels_L239 (this : Nat) (Q : Mem → Prop) : Nat → Int32 → Int32 → Int32 → Mem → Prop
  | 0, _, _, _, _ => False
  | n + 1, v2, v3, v4, M => if v2 < v4 then (Q M) else (vp_in v4 (mL M 96 this) ∧ if 0 ≤ (mI M 96 this v4.toNatClampNeg) then (vp_in v4 (mL M 96 this) ∧ w_Writer_labels_j269 this Q (w_Writer_labels_L239 this Q n) v2 (v3 + (1 : Int32)) v4 (sI M 96 this v4.toNatClampNeg v3)) else (w_Writer_labels_j269 this Q (w_Writer_labels_L239 this Q n) v2 v3 v4 M))
def w_Writer_labels_L198 (this : Nat) (Q : Mem → Prop) (k170 : Int32 → Int32 → Int32 → Mem → Prop) : Nat → Int32 → Int32 → Int32 → Int32 → Mem → Prop
  | 0, _, _, _, _, _ => False
  | n + 1, v1, v2, v3, v4, M => if (3 : Int32) ≤ v4 then (k170 v1 v2 (v3 + (4 : Int32)) M) else (∃ i18, (mR M 8 this 5) = some (5, i18) ∧ vp_in (v3 + v4) (mL M 75 i18) ∧ vp_in (mI M 75 i18 (v3 + v4).toNatClampNeg) (mL M 96 this) ∧ ∃ M21, M21 = (sI M 96 this (mI M 75 i18 (v3 + v4).toNatClampNeg).toNatClampNeg (0 : Int32)) ∧ (w_Writer_labels_L198 this Q k170 n) v1 v2 v3 (v4 + (1 : Int32)) M21)
def w_Writer_labels_L170 (this : Nat) (Q : Mem → Prop) : Nat → Int32 → Int32 → Int32 → Mem → Prop
  | 0, _, _, _, _ => False
  | n + 1, v1, v2, v3, M => ∃ i7, (mR M 8 this 5) = some (5, i7) ∧ vp_in v1 (mL M 64 i7) ∧ ∃ i9, (mR M 8 this 5) = some (5, i9) ∧ vp_in v1 (mL M 65 i9) ∧ if ((4 : Int32) * ((mI M 64 i7 v1.toNatClampNeg) + (mI M 65 i9 v1.toNatClampNeg))) ≤ v3 then (∃ n16 : Nat, w_Writer_labels_L239 this Q n16 v2 (0 : Int32) (0 : Int32) M) else (∃ n22 : Nat, w_Writer_labels_L198 this Q (w_Writer_labels_L170 this Q n) n22 v1 v2 v3 (0 : Int32) M)
def w_Writer_labels_j152 (this : Nat) (Q : Mem → Prop) (k32 : Int32 → Int32 → Int32 → Mem → Prop) (v1 : Int32) (v2 : Int32) (v3 : Int32) (M : Mem) : Prop :=
  k32 v1 v2 (v3 + (1 : Int32)) M
def w_Writer_labels_L89 (this : Nat) (Q : Mem → Prop) (k32 : Int32 → Int32 → Int32 → Mem → Prop) : Nat → Int32 → Int32 → Int32 → Int32 → Int32 → Mem → Prop
  | 0, _, _, _, _, _, _ => False
  | n + 1, v1, v2, v3, v4, v5, M => ∃ i31, (mR M 8 this 5) = some (5, i31) ∧ vp_in v4 (mL M 66 i31) ∧ if (mI M 66 i31 v4.toNatClampNeg) = (40 : Int32) then (∃ i34, (mR M 8 this 5) = some (5, i34) ∧ vp_in v4 (mL M 69 i34) ∧ if (mI M 69 i34 v4.toNatClampNeg) ≤ v5 then (w_Writer_labels_j152 this Q k32 v1 v2 v3 M) else (∃ i37, (mR M 8 this 5) = some (5, i37) ∧ ∃ i38, (mR M 8 this 5) = some (5, i38) ∧ vp_in v4 (mL M 68 i38) ∧ vp_in ((mI M 68 i38 v4.toNatClampNeg) + v5) (mL M 74 i37) ∧ vp_in (mI M 74 i37 ((mI M 68 i38 v4.toNatClampNeg) + v5).toNatClampNeg) (mL M 96 this) ∧ ∃ M42, M42 = (sI M 96 this (mI M 74 i37 ((mI M 68 i38 v4.toNatClampNeg) + v5).toNatClampNeg).toNatClampNeg (0 : Int32)) ∧ (w_Writer_labels_L89 this Q k32 n) v1 v2 v3 v4 (v5 + (1 : Int32)) M42)) else (w_Writer_labels_j152 this Q k32 v1 v2 v3 M)
def w_Writer_labels_j86 (this : Nat) (Q : Mem → Prop) (k32 : Int32 → Int32 → Int32 → Mem → Prop) (v1 : Int32) (v2 : Int32) (v3 : Int32) (v4 : Int32) (M : Mem) : Prop :=
  ∃ n43 : Nat, w_Writer_labels_L89 this Q k32 n43 v1 v2 v3 v4 (0 : Int32) M
def w_Writer_labels_L32 (this : Nat) (Q : Mem → Prop) : Nat → Int32 → Int32 → Int32 → Mem → Prop
  | 0, _, _, _, _ => False
  | n + 1, v1, v2, v3, M => if v2 ≤ v3 then (∃ i5, (mR M 8 this 5) = some (5, i5) ∧ vp_in v1 (mL M 64 i5) ∧ ∃ n23 : Nat, w_Writer_labels_L170 this Q n23 v1 v2 ((4 : Int32) * (mI M 64 i5 v1.toNatClampNeg)) M) else (∃ i24, (mR M 8 this 5) = some (5, i24) ∧ vp_in v1 (mL M 62 i24) ∧ ∃ i26, (mR M 8 this 5) = some (5, i26) ∧ vp_in ((mI M 62 i24 v1.toNatClampNeg) + v3) (mL M 66 i26) ∧ w_Works_isIn (mI M 66 i26 ((mI M 62 i24 v1.toNatClampNeg) + v3).toNatClampNeg) (23 : Int32) (39 : Int32) (fun r29 M28 => if r29 = 0 then (w_Writer_labels_j86 this Q (w_Writer_labels_L32 this Q n) v1 v2 v3 ((mI M 62 i24 v1.toNatClampNeg) + v3) M28) else (∃ i44, (mR M28 8 this 5) = some (5, i44) ∧ vp_in ((mI M 62 i24 v1.toNatClampNeg) + v3) (mL M28 67 i44) ∧ vp_in (mI M28 67 i44 ((mI M 62 i24 v1.toNatClampNeg) + v3).toNatClampNeg) (mL M28 96 this) ∧ ∃ M47, M47 = (sI M28 96 this (mI M28 67 i44 ((mI M 62 i24 v1.toNatClampNeg) + v3).toNatClampNeg).toNatClampNeg (0 : Int32)) ∧ w_Writer_labels_j86 this Q (w_Writer_labels_L32 this Q n) v1 v2 v3 ((mI M 62 i24 v1.toNatClampNeg) + v3) M47)) M)
def w_Writer_labels_L12 (this : Nat) (Q : Mem → Prop) : Nat → Int32 → Int32 → Int32 → Mem → Prop
  | 0, _, _, _, _ => False
  | n + 1, v1, v2, v3, M => if v2 < v3 then (∃ n48 : Nat, w_Writer_labels_L32 this Q n48 v1 v2 (0 : Int32) M) else (vp_in v3 (mL M 96 this) ∧ (w_Writer_labels_L12 this Q n) v1 v2 (v3 + (1 : Int32)) (sI M 96 this v3.toNatClampNeg (-1 : Int32)))
def w_Writer_labels (this : Nat) (a1 : Int32) (Q : Mem → Prop) (M : Mem) : Prop :=
  ∃ i1, (mR M 8 this 5) = some (5, i1) ∧ vp_in a1 (mL M 63 i1) ∧ ∃ n50 : Nat, w_Writer_labels_L12 this Q n50 a1 (mI M 63 i1 a1.toNatClampNeg) (0 : Int32) M
set_option maxRecDepth 4096 in
theorem lk_Writer_labels_j269 {γ : Gm} (hγ : Gk γ) (this : Nat) (Q : Mem → Prop) (k239 : Int32 → Int32 → Int32 → Mem → Prop) (hk239 : ∀ (v2 : Int32) (v3 : Int32) (v4 : Int32) (M : Mem), k239 v2 v3 v4 M → E γ k_Writer_labels 1 239 [some (vr (some (8, this))), none, some (vi v2), some (vi v3), some (vi v4), none] [] M (Qv Q)) (v2 : Int32) (v3 : Int32) (v4 : Int32) (M : Mem) (h : w_Writer_labels_j269 this Q k239 v2 v3 v4 M) : E γ k_Writer_labels 1 269 [some (vr (some (8, this))), none, some (vi v2), some (vi v3), some (vi v4), none] [] M (Qv Q) := by
  unfold w_Writer_labels_j269 at h
  refine E_blk (lv' := [some (vr (some (8, this))), none, some (vi v2), some (vi v3), some (vi (v4 + (1 : Int32))), none]) (st' := []) (M1 := M) (pc' := 272) (tb_Writer hγ) [.iinc 4 1] (by decide +kernel) rfl rfl trivial ?_
  refine E_goto (off := -33) (tgt := 239) (by decide +kernel) (by decide) ?_
  refine E_mask [true, false, true, true, true, false] rfl ?_
  exact hk239 v2 v3 (v4 + (1 : Int32)) M h
set_option maxRecDepth 4096 in
theorem lk_Writer_labels_L239 {γ : Gm} (hγ : Gk γ) (this : Nat) (Q : Mem → Prop) : ∀ (n : Nat) (v2 : Int32) (v3 : Int32) (v4 : Int32) (M : Mem), w_Writer_labels_L239 this Q n v2 v3 v4 M → E γ k_Writer_labels 1 239 [some (vr (some (8, this))), none, some (vi v2), some (vi v3), some (vi v4), none] [] M (Qv Q) := by
  intro n
  induction n with
  | zero => intro v2 v3 v4 M h; exact h.elim
  | succ n ih =>
    intro v2 v3 v4 M h
    unfold w_Writer_labels_L239 at h
    refine E_blk (lv' := [some (vr (some (8, this))), none, some (vi v2), some (vi v3), some (vi v4), none]) (st' := [vi v2, vi v4]) (M1 := M) (pc' := 242) (tb_Writer hγ) [.iload 4, .iload_n 2] (by decide +kernel) rfl rfl trivial ?_
    refine E_icmp_gt (off := 33) (tgt := 275) (by decide +kernel) (by decide) (fun b12 => ?_) (fun b12 => ?_)
    · rw [if_pos b12] at h
      exact E_vret rfl (by decide +kernel) h
    · rw [if_neg b12] at h
      obtain ⟨c13, h⟩ := h
      refine E_blk (lv' := [some (vr (some (8, this))), none, some (vi v2), some (vi v3), some (vi v4), none]) (st' := [vi (mI M 96 this v4.toNatClampNeg)]) (M1 := M) (pc' := 252) (tb_Writer hγ) [.aload_n 0, .getfield 19, .iload 4, .iaload] (by decide +kernel) rfl rfl ⟨c13, trivial⟩ ?_
      refine E_if_ge (off := 6) (tgt := 258) (by decide +kernel) (by decide) (fun b14 => ?_) (fun b14 => ?_)
      · rw [if_pos b14] at h
        obtain ⟨c15, h⟩ := h
        refine E_blk (lv' := [some (vr (some (8, this))), none, some (vi v2), some (vi (v3 + (1 : Int32))), some (vi v4), none]) (st' := []) (M1 := (sI M 96 this v4.toNatClampNeg v3)) (pc' := 269) (tb_Writer hγ) [.aload_n 0, .getfield 19, .iload 4, .iload_n 3, .iastore, .iinc 3 1] (by decide +kernel) rfl rfl ⟨c15, trivial⟩ ?_
        refine E_mask [true, false, true, true, true, false] rfl ?_
        exact lk_Writer_labels_j269 hγ this Q (w_Writer_labels_L239 this Q n) ih v2 (v3 + (1 : Int32)) v4 (sI M 96 this v4.toNatClampNeg v3) h
      · rw [if_neg b14] at h
        refine E_goto (off := 14) (tgt := 269) (by decide +kernel) (by decide) ?_
        refine E_mask [true, false, true, true, true, false] rfl ?_
        exact lk_Writer_labels_j269 hγ this Q (w_Writer_labels_L239 this Q n) ih v2 v3 v4 M h
set_option maxRecDepth 4096 in
theorem lk_Writer_labels_L198 {γ : Gm} (hγ : Gk γ) (this : Nat) (Q : Mem → Prop) (k170 : Int32 → Int32 → Int32 → Mem → Prop) (hk170 : ∀ (v1 : Int32) (v2 : Int32) (v3 : Int32) (M : Mem), k170 v1 v2 v3 M → E γ k_Writer_labels 1 170 [some (vr (some (8, this))), some (vi v1), some (vi v2), some (vi v3), none, none] [] M (Qv Q)) : ∀ (n : Nat) (v1 : Int32) (v2 : Int32) (v3 : Int32) (v4 : Int32) (M : Mem), w_Writer_labels_L198 this Q k170 n v1 v2 v3 v4 M → E γ k_Writer_labels 1 198 [some (vr (some (8, this))), some (vi v1), some (vi v2), some (vi v3), some (vi v4), none] [] M (Qv Q) := by
  intro n
  induction n with
  | zero => intro v1 v2 v3 v4 M h; exact h.elim
  | succ n ih =>
    intro v1 v2 v3 v4 M h
    unfold w_Writer_labels_L198 at h
    refine E_blk (lv' := [some (vr (some (8, this))), some (vi v1), some (vi v2), some (vi v3), some (vi v4), none]) (st' := [vi (3 : Int32), vi v4]) (M1 := M) (pc' := 201) (tb_Writer hγ) [.iload 4, .iconst 3] (by decide +kernel) rfl rfl trivial ?_
    refine E_icmp_ge (off := 27) (tgt := 228) (by decide +kernel) (by decide) (fun b17 => ?_) (fun b17 => ?_)
    · rw [if_pos b17] at h
      refine E_blk (lv' := [some (vr (some (8, this))), some (vi v1), some (vi v2), some (vi (v3 + (4 : Int32))), some (vi v4), none]) (st' := []) (M1 := M) (pc' := 231) (tb_Writer hγ) [.iinc 3 4] (by decide +kernel) rfl rfl trivial ?_
      refine E_goto (off := -61) (tgt := 170) (by decide +kernel) (by decide) ?_
      refine E_mask [true, true, true, true, false, false] rfl ?_
      exact hk170 v1 v2 (v3 + (4 : Int32)) M h
    · rw [if_neg b17] at h
      refine E_blk (lv' := [some (vr (some (8, this))), some (vi v1), some (vi v2), some (vi v3), some (vi v4), none]) (st' := [vr (mR M 8 this 5), vr (some (96, this))]) (M1 := M) (pc' := 212) (tb_Writer hγ) [.aload_n 0, .getfield 19, .aload_n 0, .getfield 66] (by decide +kernel) rfl rfl trivial ?_
      obtain ⟨i18, ei18, h⟩ := h
      rw [ei18]
      obtain ⟨c19, c20, h⟩ := h
      refine E_blk (lv' := [some (vr (some (8, this))), some (vi v1), some (vi v2), some (vi v3), some (vi v4), none]) (st' := []) (M1 := (sI M 96 this (mI M 75 i18 (v3 + v4).toNatClampNeg).toNatClampNeg (0 : Int32))) (pc' := 222) (tb_Writer hγ) [.getfield 205, .iload_n 3, .iload 4, .iadd, .iaload, .iconst 0, .iastore] (by decide +kernel) rfl rfl ⟨c19, c20, trivial⟩ ?_
      obtain ⟨M21, eM21, h⟩ := h
      rw [← eM21]
      refine E_blk (lv' := [some (vr (some (8, this))), some (vi v1), some (vi v2), some (vi v3), some (vi (v4 + (1 : Int32))), none]) (st' := []) (M1 := M21) (pc' := 225) (tb_Writer hγ) [.iinc 4 1] (by decide +kernel) rfl rfl trivial ?_
      refine E_goto (off := -27) (tgt := 198) (by decide +kernel) (by decide) ?_
      refine E_mask [true, true, true, true, true, false] rfl ?_
      exact ih v1 v2 v3 (v4 + (1 : Int32)) M21 h
set_option maxRecDepth 4096 in
theorem lk_Writer_labels_L170 {γ : Gm} (hγ : Gk γ) (this : Nat) (Q : Mem → Prop) : ∀ (n : Nat) (v1 : Int32) (v2 : Int32) (v3 : Int32) (M : Mem), w_Writer_labels_L170 this Q n v1 v2 v3 M → E γ k_Writer_labels 1 170 [some (vr (some (8, this))), some (vi v1), some (vi v2), some (vi v3), none, none] [] M (Qv Q) := by
  intro n
  induction n with
  | zero => intro v1 v2 v3 M h; exact h.elim
  | succ n ih =>
    intro v1 v2 v3 M h
    unfold w_Writer_labels_L170 at h
    refine E_blk (lv' := [some (vr (some (8, this))), some (vi v1), some (vi v2), some (vi v3), none, none]) (st' := [vr (mR M 8 this 5), vi (4 : Int32), vi v3]) (M1 := M) (pc' := 176) (tb_Writer hγ) [.iload_n 3, .iconst 4, .aload_n 0, .getfield 66] (by decide +kernel) rfl rfl trivial ?_
    obtain ⟨i7, ei7, h⟩ := h
    rw [ei7]
    obtain ⟨c8, h⟩ := h
    refine E_blk (lv' := [some (vr (some (8, this))), some (vi v1), some (vi v2), some (vi v3), none, none]) (st' := [vr (mR M 8 this 5), vi (mI M 64 i7 v1.toNatClampNeg), vi (4 : Int32), vi v3]) (M1 := M) (pc' := 185) (tb_Writer hγ) [.getfield 180, .iload_n 1, .iaload, .aload_n 0, .getfield 66] (by decide +kernel) rfl rfl ⟨c8, trivial⟩ ?_
    obtain ⟨i9, ei9, h⟩ := h
    rw [ei9]
    obtain ⟨c10, h⟩ := h
    refine E_blk (lv' := [some (vr (some (8, this))), some (vi v1), some (vi v2), some (vi v3), none, none]) (st' := [vi ((4 : Int32) * ((mI M 64 i7 v1.toNatClampNeg) + (mI M 65 i9 v1.toNatClampNeg))), vi v3]) (M1 := M) (pc' := 192) (tb_Writer hγ) [.getfield 177, .iload_n 1, .iaload, .iadd, .imul] (by decide +kernel) rfl rfl ⟨c10, trivial⟩ ?_
    refine E_icmp_ge (off := 42) (tgt := 234) (by decide +kernel) (by decide) (fun b11 => ?_) (fun b11 => ?_)
    · rw [if_pos b11] at h
      refine E_blk (lv' := [some (vr (some (8, this))), some (vi v1), some (vi v2), some (vi (0 : Int32)), some (vi (0 : Int32)), none]) (st' := []) (M1 := M) (pc' := 239) (tb_Writer hγ) [.iconst 0, .istore_n 3, .iconst 0, .istore 4] (by decide +kernel) rfl rfl trivial ?_
      obtain ⟨n16, h⟩ := h
      refine E_mask [true, false, true, true, true, false] rfl ?_
      exact lk_Writer_labels_L239 hγ this Q n16 v2 (0 : Int32) (0 : Int32) M h
    · rw [if_neg b11] at h
      refine E_blk (lv' := [some (vr (some (8, this))), some (vi v1), some (vi v2), some (vi v3), some (vi (0 : Int32)), none]) (st' := []) (M1 := M) (pc' := 198) (tb_Writer hγ) [.iconst 0, .istore 4] (by decide +kernel) rfl rfl trivial ?_
      obtain ⟨n22, h⟩ := h
      refine E_mask [true, true, true, true, true, false] rfl ?_
      exact lk_Writer_labels_L198 hγ this Q (w_Writer_labels_L170 this Q n) ih n22 v1 v2 v3 (0 : Int32) M h
set_option maxRecDepth 4096 in
theorem lk_Writer_labels_j152 {γ : Gm} (hγ : Gk γ) (this : Nat) (Q : Mem → Prop) (k32 : Int32 → Int32 → Int32 → Mem → Prop) (hk32 : ∀ (v1 : Int32) (v2 : Int32) (v3 : Int32) (M : Mem), k32 v1 v2 v3 M → E γ k_Writer_labels 1 32 [some (vr (some (8, this))), some (vi v1), some (vi v2), some (vi v3), none, none] [] M (Qv Q)) (v1 : Int32) (v2 : Int32) (v3 : Int32) (M : Mem) (h : w_Writer_labels_j152 this Q k32 v1 v2 v3 M) : E γ k_Writer_labels 1 152 [some (vr (some (8, this))), some (vi v1), some (vi v2), some (vi v3), none, none] [] M (Qv Q) := by
  unfold w_Writer_labels_j152 at h
  refine E_blk (lv' := [some (vr (some (8, this))), some (vi v1), some (vi v2), some (vi (v3 + (1 : Int32))), none, none]) (st' := []) (M1 := M) (pc' := 155) (tb_Writer hγ) [.iinc 3 1] (by decide +kernel) rfl rfl trivial ?_
  refine E_goto (off := -123) (tgt := 32) (by decide +kernel) (by decide) ?_
  refine E_mask [true, true, true, true, false, false] rfl ?_
  exact hk32 v1 v2 (v3 + (1 : Int32)) M h
set_option maxRecDepth 4096 in
theorem lk_Writer_labels_L89 {γ : Gm} (hγ : Gk γ) (this : Nat) (Q : Mem → Prop) (k32 : Int32 → Int32 → Int32 → Mem → Prop) (hk32 : ∀ (v1 : Int32) (v2 : Int32) (v3 : Int32) (M : Mem), k32 v1 v2 v3 M → E γ k_Writer_labels 1 32 [some (vr (some (8, this))), some (vi v1), some (vi v2), some (vi v3), none, none] [] M (Qv Q)) : ∀ (n : Nat) (v1 : Int32) (v2 : Int32) (v3 : Int32) (v4 : Int32) (v5 : Int32) (M : Mem), w_Writer_labels_L89 this Q k32 n v1 v2 v3 v4 v5 M → E γ k_Writer_labels 1 89 [some (vr (some (8, this))), some (vi v1), some (vi v2), some (vi v3), some (vi v4), some (vi v5)] [] M (Qv Q) := by
  intro n
  induction n with
  | zero => intro v1 v2 v3 v4 v5 M h; exact h.elim
  | succ n ih =>
    intro v1 v2 v3 v4 v5 M h
    unfold w_Writer_labels_L89 at h
    refine E_blk (lv' := [some (vr (some (8, this))), some (vi v1), some (vi v2), some (vi v3), some (vi v4), some (vi v5)]) (st' := [vr (mR M 8 this 5)]) (M1 := M) (pc' := 93) (tb_Writer hγ) [.aload_n 0, .getfield 66] (by decide +kernel) rfl rfl trivial ?_
    obtain ⟨i31, ei31, h⟩ := h
    rw [ei31]
    obtain ⟨c32, h⟩ := h
    refine E_blk (lv' := [some (vr (some (8, this))), some (vi v1), some (vi v2), some (vi v3), some (vi v4), some (vi v5)]) (st' := [vi (40 : Int32), vi (mI M 66 i31 v4.toNatClampNeg)]) (M1 := M) (pc' := 101) (tb_Writer hγ) [.getfield 186, .iload 4, .iaload, .bipush 40] (by decide +kernel) rfl rfl ⟨c32, trivial⟩ ?_
    refine E_icmp_ne (off := 51) (tgt := 152) (by decide +kernel) (by decide) (fun b33 => ?_) (fun b33 => ?_)
    · rw [if_pos b33] at h
      refine E_blk (lv' := [some (vr (some (8, this))), some (vi v1), some (vi v2), some (vi v3), some (vi v4), some (vi v5)]) (st' := [vr (mR M 8 this 5), vi v5]) (M1 := M) (pc' := 110) (tb_Writer hγ) [.iload 5, .aload_n 0, .getfield 66] (by decide +kernel) rfl rfl trivial ?_
      obtain ⟨i34, ei34, h⟩ := h
      rw [ei34]
      obtain ⟨c35, h⟩ := h
      refine E_blk (lv' := [some (vr (some (8, this))), some (vi v1), some (vi v2), some (vi v3), some (vi v4), some (vi v5)]) (st' := [vi (mI M 69 i34 v4.toNatClampNeg), vi v5]) (M1 := M) (pc' := 116) (tb_Writer hγ) [.getfield 196, .iload 4, .iaload] (by decide +kernel) rfl rfl ⟨c35, trivial⟩ ?_
      refine E_icmp_ge (off := 36) (tgt := 152) (by decide +kernel) (by decide) (fun b36 => ?_) (fun b36 => ?_)
      · rw [if_pos b36] at h
        refine E_mask [true, true, true, true, false, false] rfl ?_
        exact lk_Writer_labels_j152 hγ this Q k32 hk32 v1 v2 v3 M h
      · rw [if_neg b36] at h
        refine E_blk (lv' := [some (vr (some (8, this))), some (vi v1), some (vi v2), some (vi v3), some (vi v4), some (vi v5)]) (st' := [vr (mR M 8 this 5), vr (some (96, this))]) (M1 := M) (pc' := 127) (tb_Writer hγ) [.aload_n 0, .getfield 19, .aload_n 0, .getfield 66] (by decide +kernel) rfl rfl trivial ?_
        obtain ⟨i37, ei37, h⟩ := h
        rw [ei37]
        refine E_blk (lv' := [some (vr (some (8, this))), some (vi v1), some (vi v2), some (vi v3), some (vi v4), some (vi v5)]) (st' := [vr (mR M 8 this 5), vr (some (74, i37)), vr (some (96, this))]) (M1 := M) (pc' := 134) (tb_Writer hγ) [.getfield 199, .aload_n 0, .getfield 66] (by decide +kernel) rfl rfl trivial ?_
        obtain ⟨i38, ei38, h⟩ := h
        rw [ei38]
        obtain ⟨c39, c40, c41, h⟩ := h
        refine E_blk (lv' := [some (vr (some (8, this))), some (vi v1), some (vi v2), some (vi v3), some (vi v4), some (vi v5)]) (st' := []) (M1 := (sI M 96 this (mI M 74 i37 ((mI M 68 i38 v4.toNatClampNeg) + v5).toNatClampNeg).toNatClampNeg (0 : Int32))) (pc' := 146) (tb_Writer hγ) [.getfield 202, .iload 4, .iaload, .iload 5, .iadd, .iaload, .iconst 0, .iastore] (by decide +kernel) rfl rfl ⟨c39, c40, c41, trivial⟩ ?_
        obtain ⟨M42, eM42, h⟩ := h
        rw [← eM42]
        refine E_blk (lv' := [some (vr (some (8, this))), some (vi v1), some (vi v2), some (vi v3), some (vi v4), some (vi (v5 + (1 : Int32)))]) (st' := []) (M1 := M42) (pc' := 149) (tb_Writer hγ) [.iinc 5 1] (by decide +kernel) rfl rfl trivial ?_
        refine E_goto (off := -60) (tgt := 89) (by decide +kernel) (by decide) ?_
        refine E_mask [true, true, true, true, true, true] rfl ?_
        exact ih v1 v2 v3 v4 (v5 + (1 : Int32)) M42 h
    · rw [if_neg b33] at h
      refine E_mask [true, true, true, true, false, false] rfl ?_
      exact lk_Writer_labels_j152 hγ this Q k32 hk32 v1 v2 v3 M h
set_option maxRecDepth 4096 in
theorem lk_Writer_labels_j86 {γ : Gm} (hγ : Gk γ) (this : Nat) (Q : Mem → Prop) (k32 : Int32 → Int32 → Int32 → Mem → Prop) (hk32 : ∀ (v1 : Int32) (v2 : Int32) (v3 : Int32) (M : Mem), k32 v1 v2 v3 M → E γ k_Writer_labels 1 32 [some (vr (some (8, this))), some (vi v1), some (vi v2), some (vi v3), none, none] [] M (Qv Q)) (v1 : Int32) (v2 : Int32) (v3 : Int32) (v4 : Int32) (M : Mem) (h : w_Writer_labels_j86 this Q k32 v1 v2 v3 v4 M) : E γ k_Writer_labels 1 86 [some (vr (some (8, this))), some (vi v1), some (vi v2), some (vi v3), some (vi v4), none] [] M (Qv Q) := by
  unfold w_Writer_labels_j86 at h
  refine E_blk (lv' := [some (vr (some (8, this))), some (vi v1), some (vi v2), some (vi v3), some (vi v4), some (vi (0 : Int32))]) (st' := []) (M1 := M) (pc' := 89) (tb_Writer hγ) [.iconst 0, .istore 5] (by decide +kernel) rfl rfl trivial ?_
  obtain ⟨n43, h⟩ := h
  refine E_mask [true, true, true, true, true, true] rfl ?_
  exact lk_Writer_labels_L89 hγ this Q k32 hk32 n43 v1 v2 v3 v4 (0 : Int32) M h
set_option maxRecDepth 4096 in
theorem lk_Writer_labels_L32 {γ : Gm} (hγ : Gk γ) (this : Nat) (Q : Mem → Prop) : ∀ (n : Nat) (v1 : Int32) (v2 : Int32) (v3 : Int32) (M : Mem), w_Writer_labels_L32 this Q n v1 v2 v3 M → E γ k_Writer_labels 1 32 [some (vr (some (8, this))), some (vi v1), some (vi v2), some (vi v3), none, none] [] M (Qv Q) := by
  intro n
  induction n with
  | zero => intro v1 v2 v3 M h; exact h.elim
  | succ n ih =>
    intro v1 v2 v3 M h
    unfold w_Writer_labels_L32 at h
    refine E_blk (lv' := [some (vr (some (8, this))), some (vi v1), some (vi v2), some (vi v3), none, none]) (st' := [vi v2, vi v3]) (M1 := M) (pc' := 34) (tb_Writer hγ) [.iload_n 3, .iload_n 2] (by decide +kernel) rfl rfl trivial ?_
    refine E_icmp_ge (off := 124) (tgt := 158) (by decide +kernel) (by decide) (fun b4 => ?_) (fun b4 => ?_)
    · rw [if_pos b4] at h
      refine E_blk (lv' := [some (vr (some (8, this))), some (vi v1), some (vi v2), some (vi v3), none, none]) (st' := [vr (mR M 8 this 5), vi (4 : Int32)]) (M1 := M) (pc' := 163) (tb_Writer hγ) [.iconst 4, .aload_n 0, .getfield 66] (by decide +kernel) rfl rfl trivial ?_
      obtain ⟨i5, ei5, h⟩ := h
      rw [ei5]
      obtain ⟨c6, h⟩ := h
      refine E_blk (lv' := [some (vr (some (8, this))), some (vi v1), some (vi v2), some (vi ((4 : Int32) * (mI M 64 i5 v1.toNatClampNeg))), none, none]) (st' := []) (M1 := M) (pc' := 170) (tb_Writer hγ) [.getfield 180, .iload_n 1, .iaload, .imul, .istore_n 3] (by decide +kernel) rfl rfl ⟨c6, trivial⟩ ?_
      obtain ⟨n23, h⟩ := h
      refine E_mask [true, true, true, true, false, false] rfl ?_
      exact lk_Writer_labels_L170 hγ this Q n23 v1 v2 ((4 : Int32) * (mI M 64 i5 v1.toNatClampNeg)) M h
    · rw [if_neg b4] at h
      refine E_blk (lv' := [some (vr (some (8, this))), some (vi v1), some (vi v2), some (vi v3), none, none]) (st' := [vr (mR M 8 this 5)]) (M1 := M) (pc' := 41) (tb_Writer hγ) [.aload_n 0, .getfield 66] (by decide +kernel) rfl rfl trivial ?_
      obtain ⟨i24, ei24, h⟩ := h
      rw [ei24]
      obtain ⟨c25, h⟩ := h
      refine E_blk (lv' := [some (vr (some (8, this))), some (vi v1), some (vi v2), some (vi v3), some (vi ((mI M 62 i24 v1.toNatClampNeg) + v3)), none]) (st' := [vr (mR M 8 this 5)]) (M1 := M) (pc' := 54) (tb_Writer hγ) [.getfield 163, .iload_n 1, .iaload, .iload_n 3, .iadd, .istore 4, .aload_n 0, .getfield 66] (by decide +kernel) rfl rfl ⟨c25, trivial⟩ ?_
      obtain ⟨i26, ei26, h⟩ := h
      rw [ei26]
      obtain ⟨c27, h⟩ := h
      refine E_blk (lv' := [some (vr (some (8, this))), some (vi v1), some (vi v2), some (vi v3), some (vi ((mI M 62 i24 v1.toNatClampNeg) + v3)), none]) (st' := [vi (39 : Int32), vi (23 : Int32), vi (mI M 66 i26 ((mI M 62 i24 v1.toNatClampNeg) + v3).toNatClampNeg)]) (M1 := M) (pc' := 64) (tb_Writer hγ) [.getfield 186, .iload 4, .iaload, .bipush 23, .bipush 39] (by decide +kernel) rfl rfl ⟨c27, trivial⟩ ?_
      refine E_callS (κ' := k_Works_isIn) (As := [vi (mI M 66 i26 ((mI M 62 i24 v1.toNatClampNeg) + v3).toNatClampNeg), vi (23 : Int32), vi (39 : Int32)]) (st := []) ms_Works_isIn (Or.inr ⟨"ClassWorks", (tbk_mem (j := 9) (k := 217) rfl)⟩) rfl (by decide +kernel) (Nat.le_of_ble_eq_true rfl) (Nat.le_of_ble_eq_true rfl) rfl (by decide) (lk_Works_isIn hγ (mI M 66 i26 ((mI M 62 i24 v1.toNatClampNeg) + v3).toNatClampNeg) (23 : Int32) (39 : Int32) _ M h) (fun _ _ => Qi_r) (fun v M28 hp => Qi_k (R := fun st => E γ k_Writer_labels 1 67 [some (vr (some (8, this))), some (vi v1), some (vi v2), some (vi v3), some (vi ((mI M 62 i24 v1.toNatClampNeg) + v3)), none] st M28 (Qv Q)) hp (fun r29 h => ?_))
      refine E_if_eq (off := 19) (tgt := 86) (by decide +kernel) (by decide) (fun b30 => ?_) (fun b30 => ?_)
      · rw [if_pos b30] at h
        refine E_mask [true, true, true, true, true, false] rfl ?_
        exact lk_Writer_labels_j86 hγ this Q (w_Writer_labels_L32 this Q n) ih v1 v2 v3 ((mI M 62 i24 v1.toNatClampNeg) + v3) M28 h
      · rw [if_neg b30] at h
        refine E_blk (lv' := [some (vr (some (8, this))), some (vi v1), some (vi v2), some (vi v3), some (vi ((mI M 62 i24 v1.toNatClampNeg) + v3)), none]) (st' := [vr (mR M28 8 this 5), vr (some (96, this))]) (M1 := M28) (pc' := 78) (tb_Writer hγ) [.aload_n 0, .getfield 19, .aload_n 0, .getfield 66] (by decide +kernel) rfl rfl trivial ?_
        obtain ⟨i44, ei44, h⟩ := h
        rw [ei44]
        obtain ⟨c45, c46, h⟩ := h
        refine E_blk (lv' := [some (vr (some (8, this))), some (vi v1), some (vi v2), some (vi v3), some (vi ((mI M 62 i24 v1.toNatClampNeg) + v3)), none]) (st' := []) (M1 := (sI M28 96 this (mI M28 67 i44 ((mI M 62 i24 v1.toNatClampNeg) + v3).toNatClampNeg).toNatClampNeg (0 : Int32))) (pc' := 86) (tb_Writer hγ) [.getfield 193, .iload 4, .iaload, .iconst 0, .iastore] (by decide +kernel) rfl rfl ⟨c45, c46, trivial⟩ ?_
        obtain ⟨M47, eM47, h⟩ := h
        rw [← eM47]
        refine E_mask [true, true, true, true, true, false] rfl ?_
        exact lk_Writer_labels_j86 hγ this Q (w_Writer_labels_L32 this Q n) ih v1 v2 v3 ((mI M 62 i24 v1.toNatClampNeg) + v3) M47 h
set_option maxRecDepth 4096 in
theorem lk_Writer_labels_L12 {γ : Gm} (hγ : Gk γ) (this : Nat) (Q : Mem → Prop) : ∀ (n : Nat) (v1 : Int32) (v2 : Int32) (v3 : Int32) (M : Mem), w_Writer_labels_L12 this Q n v1 v2 v3 M → E γ k_Writer_labels 1 12 [some (vr (some (8, this))), some (vi v1), some (vi v2), some (vi v3), none, none] [] M (Qv Q) := by
  intro n
  induction n with
  | zero => intro v1 v2 v3 M h; exact h.elim
  | succ n ih =>
    intro v1 v2 v3 M h
    unfold w_Writer_labels_L12 at h
    refine E_blk (lv' := [some (vr (some (8, this))), some (vi v1), some (vi v2), some (vi v3), none, none]) (st' := [vi v2, vi v3]) (M1 := M) (pc' := 14) (tb_Writer hγ) [.iload_n 3, .iload_n 2] (by decide +kernel) rfl rfl trivial ?_
    refine E_icmp_gt (off := 16) (tgt := 30) (by decide +kernel) (by decide) (fun b3 => ?_) (fun b3 => ?_)
    · rw [if_pos b3] at h
      refine E_blk (lv' := [some (vr (some (8, this))), some (vi v1), some (vi v2), some (vi (0 : Int32)), none, none]) (st' := []) (M1 := M) (pc' := 32) (tb_Writer hγ) [.iconst 0, .istore_n 3] (by decide +kernel) rfl rfl trivial ?_
      obtain ⟨n48, h⟩ := h
      refine E_mask [true, true, true, true, false, false] rfl ?_
      exact lk_Writer_labels_L32 hγ this Q n48 v1 v2 (0 : Int32) M h
    · rw [if_neg b3] at h
      obtain ⟨c49, h⟩ := h
      refine E_blk (lv' := [some (vr (some (8, this))), some (vi v1), some (vi v2), some (vi (v3 + (1 : Int32))), none, none]) (st' := []) (M1 := (sI M 96 this v3.toNatClampNeg (-1 : Int32))) (pc' := 27) (tb_Writer hγ) [.aload_n 0, .getfield 19, .iload_n 3, .iconst (.negSucc 0), .iastore, .iinc 3 1] (by decide +kernel) rfl rfl ⟨c49, trivial⟩ ?_
      refine E_goto (off := -15) (tgt := 12) (by decide +kernel) (by decide) ?_
      refine E_mask [true, true, true, true, false, false] rfl ?_
      exact ih v1 v2 (v3 + (1 : Int32)) (sI M 96 this v3.toNatClampNeg (-1 : Int32)) h
set_option maxRecDepth 4096 in
theorem lk_Writer_labels {γ : Gm} (hγ : Gk γ) (this : Nat) (a1 : Int32) (Q : Mem → Prop) (M : Mem) (h : w_Writer_labels this a1 Q M) : E γ k_Writer_labels 1 0 [some (vr (some (8, this))), some (vi a1), none, none, none, none] [] M (Qv Q) := by
  unfold w_Writer_labels at h
  refine E_blk (lv' := [some (vr (some (8, this))), some (vi a1), none, none, none, none]) (st' := [vr (mR M 8 this 5)]) (M1 := M) (pc' := 4) (tb_Writer hγ) [.aload_n 0, .getfield 66] (by decide +kernel) rfl rfl trivial ?_
  obtain ⟨i1, ei1, h⟩ := h
  rw [ei1]
  obtain ⟨c2, h⟩ := h
  refine E_blk (lv' := [some (vr (some (8, this))), some (vi a1), some (vi (mI M 63 i1 a1.toNatClampNeg)), some (vi (0 : Int32)), none, none]) (st' := []) (M1 := M) (pc' := 12) (tb_Writer hγ) [.getfield 160, .iload_n 1, .iaload, .istore_n 2, .iconst 0, .istore_n 3] (by decide +kernel) rfl rfl ⟨c2, trivial⟩ ?_
  obtain ⟨n50, h⟩ := h
  refine E_mask [true, true, true, true, false, false] rfl ?_
  exact lk_Writer_labels_L12 hγ this Q n50 a1 (mI M 63 i1 a1.toNatClampNeg) (0 : Int32) M h
def w_Writer_frame_j98 (this : Nat) (Q : Mem → Prop) (k75 : Int32 → Int32 → Int32 → Mem → Prop) (v1 : Int32) (v2 : Int32) (v3 : Int32) (M : Mem) : Prop :=
  ∃ i14, (mR M 8 this 5) = some (5, i14) ∧ ∃ i15, (mR M 8 this 5) = some (5, i15) ∧ vp_in v1 (mL M 71 i15) ∧ vp_in ((v2 + (mI M 71 i15 v1.toNatClampNeg)) + v3) (mL M 73 i14) ∧ w_Writer_kind this (mI M 73 i14 ((v2 + (mI M 71 i15 v1.toNatClampNeg)) + v3).toNatClampNeg) (fun M18 => k75 v1 v2 (v3 + (1 : Int32)) M18) M
def w_Writer_frame_L75 (this : Nat) (Q : Mem → Prop) : Nat → Int32 → Int32 → Int32 → Mem → Prop
  | 0, _, _, _, _ => False
  | n + 1, v1, v2, v3, M => ∃ i9, (mR M 8 this 5) = some (5, i9) ∧ vp_in v1 (mL M 72 i9) ∧ if (mI M 72 i9 v1.toNatClampNeg) ≤ v3 then (w_Writer_end this (fun M12 => Q M12) M) else (if v3 ≤ 0 then (w_Writer_frame_j98 this Q (w_Writer_frame_L75 this Q n) v1 v2 v3 M) else (w_Writer_sign this (44 : Int32) (fun M19 => w_Writer_frame_j98 this Q (w_Writer_frame_L75 this Q n) v1 v2 v3 M19) M))
def w_Writer_frame_j46 (this : Nat) (Q : Mem → Prop) (k23 : Int32 → Int32 → Int32 → Mem → Prop) (v1 : Int32) (v2 : Int32) (v3 : Int32) (M : Mem) : Prop :=
  ∃ i22, (mR M 8 this 5) = some (5, i22) ∧ vp_in (v2 + v3) (mL M 73 i22) ∧ w_Writer_kind this (mI M 73 i22 (v2 + v3).toNatClampNeg) (fun M24 => k23 v1 v2 (v3 + (1 : Int32)) M24) M
def w_Writer_frame_L23 (this : Nat) (Q : Mem → Prop) : Nat → Int32 → Int32 → Int32 → Mem → Prop
  | 0, _, _, _, _ => False
  | n + 1, v1, v2, v3, M => ∃ i5, (mR M 8 this 5) = some (5, i5) ∧ vp_in v1 (mL M 71 i5) ∧ if (mI M 71 i5 v1.toNatClampNeg) ≤ v3 then (w_Writer_sign this (59 : Int32) (fun M8 => ∃ n20 : Nat, w_Writer_frame_L75 this Q n20 v1 v2 (0 : Int32) M8) M) else (if v3 ≤ 0 then (w_Writer_frame_j46 this Q (w_Writer_frame_L23 this Q n) v1 v2 v3 M) else (w_Writer_sign this (44 : Int32) (fun M25 => w_Writer_frame_j46 this Q (w_Writer_frame_L23 this Q n) v1 v2 v3 M25) M))
def w_Writer_frame (this : Nat) (a1 : Int32) (Q : Mem → Prop) (M : Mem) : Prop :=
  w_Writer_line this (2 : Int32) (fun M1 => w_Writer_word this (66 : Int32) (fun M2 => ∃ i3, (mR M2 8 this 5) = some (5, i3) ∧ vp_in a1 (mL M2 70 i3) ∧ ∃ n26 : Nat, w_Writer_frame_L23 this Q n26 a1 (mI M2 70 i3 a1.toNatClampNeg) (0 : Int32) M2) M1) M
set_option maxRecDepth 4096 in
theorem lk_Writer_frame_j98 {γ : Gm} (hγ : Gk γ) (this : Nat) (Q : Mem → Prop) (k75 : Int32 → Int32 → Int32 → Mem → Prop) (hk75 : ∀ (v1 : Int32) (v2 : Int32) (v3 : Int32) (M : Mem), k75 v1 v2 v3 M → E γ k_Writer_frame 4 75 [some (vr (some (8, this))), some (vi v1), some (vi v2), some (vi v3)] [] M (Qv Q)) (v1 : Int32) (v2 : Int32) (v3 : Int32) (M : Mem) (h : w_Writer_frame_j98 this Q k75 v1 v2 v3 M) : E γ k_Writer_frame 4 98 [some (vr (some (8, this))), some (vi v1), some (vi v2), some (vi v3)] [] M (Qv Q) := by
  unfold w_Writer_frame_j98 at h
  refine E_blk (lv' := [some (vr (some (8, this))), some (vi v1), some (vi v2), some (vi v3)]) (st' := [vr (mR M 8 this 5), vr (some (8, this))]) (M1 := M) (pc' := 103) (tb_Writer hγ) [.aload_n 0, .aload_n 0, .getfield 66] (by decide +kernel) rfl rfl trivial ?_
  obtain ⟨i14, ei14, h⟩ := h
  rw [ei14]
  refine E_blk (lv' := [some (vr (some (8, this))), some (vi v1), some (vi v2), some (vi v3)]) (st' := [vr (mR M 8 this 5), vi v2, vr (some (73, i14)), vr (some (8, this))]) (M1 := M) (pc' := 111) (tb_Writer hγ) [.getfield 210, .iload_n 2, .aload_n 0, .getfield 66] (by decide +kernel) rfl rfl trivial ?_
  obtain ⟨i15, ei15, h⟩ := h
  rw [ei15]
  obtain ⟨c16, c17, h⟩ := h
  refine E_blk (lv' := [some (vr (some (8, this))), some (vi v1), some (vi v2), some (vi v3)]) (st' := [vi (mI M 73 i14 ((v2 + (mI M 71 i15 v1.toNatClampNeg)) + v3).toNatClampNeg), vr (some (8, this))]) (M1 := M) (pc' := 120) (tb_Writer hγ) [.getfield 207, .iload_n 1, .iaload, .iadd, .iload_n 3, .iadd, .iaload] (by decide +kernel) rfl rfl ⟨c16, c17, trivial⟩ ?_
  refine E_callV (κ' := k_Writer_kind) (As := [vi (mI M 73 i14 ((v2 + (mI M 71 i15 v1.toNatClampNeg)) + v3).toNatClampNeg)]) (st := []) mv_Writer_kind (Or.inl (tbk_mem (j := 9) (k := 194) rfl)) rfl (by decide +kernel) (Nat.le_of_ble_eq_true rfl) (Nat.le_of_ble_eq_true rfl) rfl (by decide) (lk_Writer_kind hγ this (mI M 73 i14 ((v2 + (mI M 71 i15 v1.toNatClampNeg)) + v3).toNatClampNeg) _ M h) (fun _ _ => Qv_r) (fun v M18 hp => Qv_k (R := fun st => E γ k_Writer_frame 4 123 [some (vr (some (8, this))), some (vi v1), some (vi v2), some (vi v3)] st M18 (Qv Q)) hp (fun h => ?_))
  refine E_blk (lv' := [some (vr (some (8, this))), some (vi v1), some (vi v2), some (vi (v3 + (1 : Int32)))]) (st' := []) (M1 := M18) (pc' := 126) (tb_Writer hγ) [.iinc 3 1] (by decide +kernel) rfl rfl trivial ?_
  refine E_goto (off := -51) (tgt := 75) (by decide +kernel) (by decide) ?_
  refine E_mask [true, true, true, true] rfl ?_
  exact hk75 v1 v2 (v3 + (1 : Int32)) M18 h
set_option maxRecDepth 4096 in
theorem lk_Writer_frame_L75 {γ : Gm} (hγ : Gk γ) (this : Nat) (Q : Mem → Prop) : ∀ (n : Nat) (v1 : Int32) (v2 : Int32) (v3 : Int32) (M : Mem), w_Writer_frame_L75 this Q n v1 v2 v3 M → E γ k_Writer_frame 4 75 [some (vr (some (8, this))), some (vi v1), some (vi v2), some (vi v3)] [] M (Qv Q) := by
  intro n
  induction n with
  | zero => intro v1 v2 v3 M h; exact h.elim
  | succ n ih =>
    intro v1 v2 v3 M h
    unfold w_Writer_frame_L75 at h
    refine E_blk (lv' := [some (vr (some (8, this))), some (vi v1), some (vi v2), some (vi v3)]) (st' := [vr (mR M 8 this 5), vi v3]) (M1 := M) (pc' := 80) (tb_Writer hγ) [.iload_n 3, .aload_n 0, .getfield 66] (by decide +kernel) rfl rfl trivial ?_
    obtain ⟨i9, ei9, h⟩ := h
    rw [ei9]
    obtain ⟨c10, h⟩ := h
    refine E_blk (lv' := [some (vr (some (8, this))), some (vi v1), some (vi v2), some (vi v3)]) (st' := [vi (mI M 72 i9 v1.toNatClampNeg), vi v3]) (M1 := M) (pc' := 85) (tb_Writer hγ) [.getfield 212, .iload_n 1, .iaload] (by decide +kernel) rfl rfl ⟨c10, trivial⟩ ?_
    refine E_icmp_ge (off := 44) (tgt := 129) (by decide +kernel) (by decide) (fun b11 => ?_) (fun b11 => ?_)
    · rw [if_pos b11] at h
      refine E_blk (lv' := [some (vr (some (8, this))), some (vi v1), some (vi v2), some (vi v3)]) (st' := [vr (some (8, this))]) (M1 := M) (pc' := 130) (tb_Writer hγ) [.aload_n 0] (by decide +kernel) rfl rfl trivial ?_
      refine E_callV (κ' := k_Writer_end) (As := []) (st := []) mv_Writer_end (Or.inl (tbk_mem (j := 9) (k := 186) rfl)) rfl (by decide +kernel) (Nat.le_of_ble_eq_true rfl) (Nat.le_of_ble_eq_true rfl) rfl (by decide) (lk_Writer_end hγ this _ M h) (fun _ _ => Qv_r) (fun v M12 hp => Qv_k (R := fun st => E γ k_Writer_frame 4 133 [some (vr (some (8, this))), some (vi v1), some (vi v2), some (vi v3)] st M12 (Qv Q)) hp (fun h => ?_))
      exact E_vret rfl (by decide +kernel) h
    · rw [if_neg b11] at h
      refine E_blk (lv' := [some (vr (some (8, this))), some (vi v1), some (vi v2), some (vi v3)]) (st' := [vi v3]) (M1 := M) (pc' := 89) (tb_Writer hγ) [.iload_n 3] (by decide +kernel) rfl rfl trivial ?_
      refine E_if_le (off := 9) (tgt := 98) (by decide +kernel) (by decide) (fun b13 => ?_) (fun b13 => ?_)
      · rw [if_pos b13] at h
        refine E_mask [true, true, true, true] rfl ?_
        exact lk_Writer_frame_j98 hγ this Q (w_Writer_frame_L75 this Q n) ih v1 v2 v3 M h
      · rw [if_neg b13] at h
        refine E_blk (lv' := [some (vr (some (8, this))), some (vi v1), some (vi v2), some (vi v3)]) (st' := [vi (44 : Int32), vr (some (8, this))]) (M1 := M) (pc' := 95) (tb_Writer hγ) [.aload_n 0, .bipush 44] (by decide +kernel) rfl rfl trivial ?_
        refine E_callV (κ' := k_Writer_sign) (As := [vi (44 : Int32)]) (st := []) mv_Writer_sign (Or.inl (tbk_mem (j := 9) (k := 182) rfl)) rfl (by decide +kernel) (Nat.le_of_ble_eq_true rfl) (Nat.le_of_ble_eq_true rfl) rfl (by decide) (lk_Writer_sign hγ this (44 : Int32) _ M h) (fun _ _ => Qv_r) (fun v M19 hp => Qv_k (R := fun st => E γ k_Writer_frame 4 98 [some (vr (some (8, this))), some (vi v1), some (vi v2), some (vi v3)] st M19 (Qv Q)) hp (fun h => ?_))
        refine E_mask [true, true, true, true] rfl ?_
        exact lk_Writer_frame_j98 hγ this Q (w_Writer_frame_L75 this Q n) ih v1 v2 v3 M19 h
set_option maxRecDepth 4096 in
theorem lk_Writer_frame_j46 {γ : Gm} (hγ : Gk γ) (this : Nat) (Q : Mem → Prop) (k23 : Int32 → Int32 → Int32 → Mem → Prop) (hk23 : ∀ (v1 : Int32) (v2 : Int32) (v3 : Int32) (M : Mem), k23 v1 v2 v3 M → E γ k_Writer_frame 4 23 [some (vr (some (8, this))), some (vi v1), some (vi v2), some (vi v3)] [] M (Qv Q)) (v1 : Int32) (v2 : Int32) (v3 : Int32) (M : Mem) (h : w_Writer_frame_j46 this Q k23 v1 v2 v3 M) : E γ k_Writer_frame 4 46 [some (vr (some (8, this))), some (vi v1), some (vi v2), some (vi v3)] [] M (Qv Q) := by
  unfold w_Writer_frame_j46 at h
  refine E_blk (lv' := [some (vr (some (8, this))), some (vi v1), some (vi v2), some (vi v3)]) (st' := [vr (mR M 8 this 5), vr (some (8, this))]) (M1 := M) (pc' := 51) (tb_Writer hγ) [.aload_n 0, .aload_n 0, .getfield 66] (by decide +kernel) rfl rfl trivial ?_
  obtain ⟨i22, ei22, h⟩ := h
  rw [ei22]
  obtain ⟨c23, h⟩ := h
  refine E_blk (lv' := [some (vr (some (8, this))), some (vi v1), some (vi v2), some (vi v3)]) (st' := [vi (mI M 73 i22 (v2 + v3).toNatClampNeg), vr (some (8, this))]) (M1 := M) (pc' := 58) (tb_Writer hγ) [.getfield 210, .iload_n 2, .iload_n 3, .iadd, .iaload] (by decide +kernel) rfl rfl ⟨c23, trivial⟩ ?_
  refine E_callV (κ' := k_Writer_kind) (As := [vi (mI M 73 i22 (v2 + v3).toNatClampNeg)]) (st := []) mv_Writer_kind (Or.inl (tbk_mem (j := 9) (k := 194) rfl)) rfl (by decide +kernel) (Nat.le_of_ble_eq_true rfl) (Nat.le_of_ble_eq_true rfl) rfl (by decide) (lk_Writer_kind hγ this (mI M 73 i22 (v2 + v3).toNatClampNeg) _ M h) (fun _ _ => Qv_r) (fun v M24 hp => Qv_k (R := fun st => E γ k_Writer_frame 4 61 [some (vr (some (8, this))), some (vi v1), some (vi v2), some (vi v3)] st M24 (Qv Q)) hp (fun h => ?_))
  refine E_blk (lv' := [some (vr (some (8, this))), some (vi v1), some (vi v2), some (vi (v3 + (1 : Int32)))]) (st' := []) (M1 := M24) (pc' := 64) (tb_Writer hγ) [.iinc 3 1] (by decide +kernel) rfl rfl trivial ?_
  refine E_goto (off := -41) (tgt := 23) (by decide +kernel) (by decide) ?_
  refine E_mask [true, true, true, true] rfl ?_
  exact hk23 v1 v2 (v3 + (1 : Int32)) M24 h
set_option maxRecDepth 4096 in
theorem lk_Writer_frame_L23 {γ : Gm} (hγ : Gk γ) (this : Nat) (Q : Mem → Prop) : ∀ (n : Nat) (v1 : Int32) (v2 : Int32) (v3 : Int32) (M : Mem), w_Writer_frame_L23 this Q n v1 v2 v3 M → E γ k_Writer_frame 4 23 [some (vr (some (8, this))), some (vi v1), some (vi v2), some (vi v3)] [] M (Qv Q) := by
  intro n
  induction n with
  | zero => intro v1 v2 v3 M h; exact h.elim
  | succ n ih =>
    intro v1 v2 v3 M h
    unfold w_Writer_frame_L23 at h
    refine E_blk (lv' := [some (vr (some (8, this))), some (vi v1), some (vi v2), some (vi v3)]) (st' := [vr (mR M 8 this 5), vi v3]) (M1 := M) (pc' := 28) (tb_Writer hγ) [.iload_n 3, .aload_n 0, .getfield 66] (by decide +kernel) rfl rfl trivial ?_
    obtain ⟨i5, ei5, h⟩ := h
    rw [ei5]
    obtain ⟨c6, h⟩ := h
    refine E_blk (lv' := [some (vr (some (8, this))), some (vi v1), some (vi v2), some (vi v3)]) (st' := [vi (mI M 71 i5 v1.toNatClampNeg), vi v3]) (M1 := M) (pc' := 33) (tb_Writer hγ) [.getfield 207, .iload_n 1, .iaload] (by decide +kernel) rfl rfl ⟨c6, trivial⟩ ?_
    refine E_icmp_ge (off := 34) (tgt := 67) (by decide +kernel) (by decide) (fun b7 => ?_) (fun b7 => ?_)
    · rw [if_pos b7] at h
      refine E_blk (lv' := [some (vr (some (8, this))), some (vi v1), some (vi v2), some (vi v3)]) (st' := [vi (59 : Int32), vr (some (8, this))]) (M1 := M) (pc' := 70) (tb_Writer hγ) [.aload_n 0, .bipush 59] (by decide +kernel) rfl rfl trivial ?_
      refine E_callV (κ' := k_Writer_sign) (As := [vi (59 : Int32)]) (st := []) mv_Writer_sign (Or.inl (tbk_mem (j := 9) (k := 182) rfl)) rfl (by decide +kernel) (Nat.le_of_ble_eq_true rfl) (Nat.le_of_ble_eq_true rfl) rfl (by decide) (lk_Writer_sign hγ this (59 : Int32) _ M h) (fun _ _ => Qv_r) (fun v M8 hp => Qv_k (R := fun st => E γ k_Writer_frame 4 73 [some (vr (some (8, this))), some (vi v1), some (vi v2), some (vi v3)] st M8 (Qv Q)) hp (fun h => ?_))
      refine E_blk (lv' := [some (vr (some (8, this))), some (vi v1), some (vi v2), some (vi (0 : Int32))]) (st' := []) (M1 := M8) (pc' := 75) (tb_Writer hγ) [.iconst 0, .istore_n 3] (by decide +kernel) rfl rfl trivial ?_
      obtain ⟨n20, h⟩ := h
      refine E_mask [true, true, true, true] rfl ?_
      exact lk_Writer_frame_L75 hγ this Q n20 v1 v2 (0 : Int32) M8 h
    · rw [if_neg b7] at h
      refine E_blk (lv' := [some (vr (some (8, this))), some (vi v1), some (vi v2), some (vi v3)]) (st' := [vi v3]) (M1 := M) (pc' := 37) (tb_Writer hγ) [.iload_n 3] (by decide +kernel) rfl rfl trivial ?_
      refine E_if_le (off := 9) (tgt := 46) (by decide +kernel) (by decide) (fun b21 => ?_) (fun b21 => ?_)
      · rw [if_pos b21] at h
        refine E_mask [true, true, true, true] rfl ?_
        exact lk_Writer_frame_j46 hγ this Q (w_Writer_frame_L23 this Q n) ih v1 v2 v3 M h
      · rw [if_neg b21] at h
        refine E_blk (lv' := [some (vr (some (8, this))), some (vi v1), some (vi v2), some (vi v3)]) (st' := [vi (44 : Int32), vr (some (8, this))]) (M1 := M) (pc' := 43) (tb_Writer hγ) [.aload_n 0, .bipush 44] (by decide +kernel) rfl rfl trivial ?_
        refine E_callV (κ' := k_Writer_sign) (As := [vi (44 : Int32)]) (st := []) mv_Writer_sign (Or.inl (tbk_mem (j := 9) (k := 182) rfl)) rfl (by decide +kernel) (Nat.le_of_ble_eq_true rfl) (Nat.le_of_ble_eq_true rfl) rfl (by decide) (lk_Writer_sign hγ this (44 : Int32) _ M h) (fun _ _ => Qv_r) (fun v M25 hp => Qv_k (R := fun st => E γ k_Writer_frame 4 46 [some (vr (some (8, this))), some (vi v1), some (vi v2), some (vi v3)] st M25 (Qv Q)) hp (fun h => ?_))
        refine E_mask [true, true, true, true] rfl ?_
        exact lk_Writer_frame_j46 hγ this Q (w_Writer_frame_L23 this Q n) ih v1 v2 v3 M25 h
set_option maxRecDepth 4096 in
theorem lk_Writer_frame {γ : Gm} (hγ : Gk γ) (this : Nat) (a1 : Int32) (Q : Mem → Prop) (M : Mem) (h : w_Writer_frame this a1 Q M) : E γ k_Writer_frame 4 0 [some (vr (some (8, this))), some (vi a1), none, none] [] M (Qv Q) := by
  unfold w_Writer_frame at h
  refine E_blk (lv' := [some (vr (some (8, this))), some (vi a1), none, none]) (st' := [vi (2 : Int32), vr (some (8, this))]) (M1 := M) (pc' := 2) (tb_Writer hγ) [.aload_n 0, .iconst 2] (by decide +kernel) rfl rfl trivial ?_
  refine E_callV (κ' := k_Writer_line) (As := [vi (2 : Int32)]) (st := []) mv_Writer_line (Or.inl (tbk_mem (j := 9) (k := 161) rfl)) rfl (by decide +kernel) (Nat.le_of_ble_eq_true rfl) (Nat.le_of_ble_eq_true rfl) rfl (by decide) (lk_Writer_line hγ this (2 : Int32) _ M h) (fun _ _ => Qv_r) (fun v M1 hp => Qv_k (R := fun st => E γ k_Writer_frame 4 5 [some (vr (some (8, this))), some (vi a1), none, none] st M1 (Qv Q)) hp (fun h => ?_))
  refine E_blk (lv' := [some (vr (some (8, this))), some (vi a1), none, none]) (st' := [vi (66 : Int32), vr (some (8, this))]) (M1 := M1) (pc' := 8) (tb_Writer hγ) [.aload_n 0, .bipush 66] (by decide +kernel) rfl rfl trivial ?_
  refine E_callV (κ' := k_Writer_word) (As := [vi (66 : Int32)]) (st := []) mv_Writer_word (Or.inl (tbk_mem (j := 9) (k := 173) rfl)) rfl (by decide +kernel) (Nat.le_of_ble_eq_true rfl) (Nat.le_of_ble_eq_true rfl) rfl (by decide) (lk_Writer_word hγ this (66 : Int32) _ M1 h) (fun _ _ => Qv_r) (fun v M2 hp => Qv_k (R := fun st => E γ k_Writer_frame 4 11 [some (vr (some (8, this))), some (vi a1), none, none] st M2 (Qv Q)) hp (fun h => ?_))
  refine E_blk (lv' := [some (vr (some (8, this))), some (vi a1), none, none]) (st' := [vr (mR M2 8 this 5)]) (M1 := M2) (pc' := 15) (tb_Writer hγ) [.aload_n 0, .getfield 66] (by decide +kernel) rfl rfl trivial ?_
  obtain ⟨i3, ei3, h⟩ := h
  rw [ei3]
  obtain ⟨c4, h⟩ := h
  refine E_blk (lv' := [some (vr (some (8, this))), some (vi a1), some (vi (mI M2 70 i3 a1.toNatClampNeg)), some (vi (0 : Int32))]) (st' := []) (M1 := M2) (pc' := 23) (tb_Writer hγ) [.getfield 166, .iload_n 1, .iaload, .istore_n 2, .iconst 0, .istore_n 3] (by decide +kernel) rfl rfl ⟨c4, trivial⟩ ?_
  obtain ⟨n26, h⟩ := h
  refine E_mask [true, true, true, true] rfl ?_
  exact lk_Writer_frame_L23 hγ this Q n26 a1 (mI M2 70 i3 a1.toNatClampNeg) (0 : Int32) M2 h
def w_Writer_label (this : Nat) (a1 : Int32) (Q : Mem → Prop) (M : Mem) : Prop :=
  w_Writer_space this (fun M1 => w_Writer_put this (76 : Int32) (fun M2 => ((1 : Int32) = 0 ∨ (1 : Int32) = 1) ∧ vp_in a1 (mL (sI M2 8 this 3 (1 : Int32)) 96 this) ∧ w_Writer_digits this (mI (sI M2 8 this 3 (1 : Int32)) 96 this a1.toNatClampNeg) (fun M5 => Q M5) (sI M2 8 this 3 (1 : Int32))) M1) M
set_option maxRecDepth 4096 in
theorem lk_Writer_label {γ : Gm} (hγ : Gk γ) (this : Nat) (a1 : Int32) (Q : Mem → Prop) (M : Mem) (h : w_Writer_label this a1 Q M) : E γ k_Writer_label 3 0 [some (vr (some (8, this))), some (vi a1)] [] M (Qv Q) := by
  unfold w_Writer_label at h
  refine E_blk (lv' := [some (vr (some (8, this))), some (vi a1)]) (st' := [vr (some (8, this))]) (M1 := M) (pc' := 1) (tb_Writer hγ) [.aload_n 0] (by decide +kernel) rfl rfl trivial ?_
  refine E_callV (κ' := k_Writer_space) (As := []) (st := []) mv_Writer_space (Or.inl (tbk_mem (j := 9) (k := 177) rfl)) rfl (by decide +kernel) (Nat.le_of_ble_eq_true rfl) (Nat.le_of_ble_eq_true rfl) rfl (by decide) (lk_Writer_space hγ this _ M h) (fun _ _ => Qv_r) (fun v M1 hp => Qv_k (R := fun st => E γ k_Writer_label 3 4 [some (vr (some (8, this))), some (vi a1)] st M1 (Qv Q)) hp (fun h => ?_))
  refine E_blk (lv' := [some (vr (some (8, this))), some (vi a1)]) (st' := [vi (76 : Int32), vr (some (8, this))]) (M1 := M1) (pc' := 7) (tb_Writer hγ) [.aload_n 0, .bipush 76] (by decide +kernel) rfl rfl trivial ?_
  refine E_callV (κ' := k_Writer_put) (As := [vi (76 : Int32)]) (st := []) mv_Writer_put (Or.inl (tbk_mem (j := 9) (k := 165) rfl)) rfl (by decide +kernel) (Nat.le_of_ble_eq_true rfl) (Nat.le_of_ble_eq_true rfl) rfl (by decide) (lk_Writer_put hγ this (76 : Int32) _ M1 h) (fun _ _ => Qv_r) (fun v M2 hp => Qv_k (R := fun st => E γ k_Writer_label 3 10 [some (vr (some (8, this))), some (vi a1)] st M2 (Qv Q)) hp (fun h => ?_))
  obtain ⟨c3, c4, h⟩ := h
  refine E_blk (lv' := [some (vr (some (8, this))), some (vi a1)]) (st' := [vi (mI (sI M2 8 this 3 (1 : Int32)) 96 this a1.toNatClampNeg), vr (some (8, this))]) (M1 := (sI M2 8 this 3 (1 : Int32))) (pc' := 22) (tb_Writer hγ) [.aload_n 0, .iconst 1, .putfield 31, .aload_n 0, .aload_n 0, .getfield 19, .iload_n 1, .iaload] (by decide +kernel) rfl rfl ⟨c3, c4, trivial⟩ ?_
  refine E_callV (κ' := k_Writer_digits) (As := [vi (mI (sI M2 8 this 3 (1 : Int32)) 96 this a1.toNatClampNeg)]) (st := []) mv_Writer_digits (Or.inl (tbk_mem (j := 9) (k := 198) rfl)) rfl (by decide +kernel) (Nat.le_of_ble_eq_true rfl) (Nat.le_of_ble_eq_true rfl) rfl (by decide) (lk_Writer_digits hγ this (mI (sI M2 8 this 3 (1 : Int32)) 96 this a1.toNatClampNeg) _ (sI M2 8 this 3 (1 : Int32)) h) (fun _ _ => Qv_r) (fun v M5 hp => Qv_k (R := fun st => E γ k_Writer_label 3 25 [some (vr (some (8, this))), some (vi a1)] st M5 (Qv Q)) hp (fun h => ?_))
  exact E_vret rfl (by decide +kernel) h
