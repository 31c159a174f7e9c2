def k_Words_next : Kp := (⟨"ClassWorks$Words", "next", "()V"⟩, prog_9_method_6_code, 2, none, [])
theorem mv_Words_next : MV k_Words_next 2 0 := ⟨⟨_, rfl, rfl⟩, by decide, (tbk_mem (j := 6) (k := 54) rfl), Or.inl (tbk_mem (j := 6) (k := 55) rfl), Or.inl ⟨rfl, (tbk_mem (j := 6) (k := 56) rfl)⟩, ⟨by decide, by decide⟩, by decide +kernel, by decide +kernel, by decide⟩
def k_Words_line : Kp := (⟨"ClassWorks$Words", "line", "()Z"⟩, prog_9_method_10_code, 1, some (.boolean), [])
theorem mv_Words_line : MV k_Words_line 2 0 := ⟨⟨_, rfl, rfl⟩, by decide, (tbk_mem (j := 6) (k := 107) rfl), Or.inl (tbk_mem (j := 6) (k := 108) rfl), Or.inl ⟨rfl, (tbk_mem (j := 6) (k := 109) rfl)⟩, ⟨by decide, by decide⟩, by decide +kernel, by decide +kernel, by decide⟩
def k_Reader_begin : Kp := (⟨"ClassWorks$Reader", "begin", "()Z"⟩, prog_7_method_3_code, 1, some (.boolean), [])
theorem mv_Reader_begin : MV k_Reader_begin 3 0 := ⟨⟨_, rfl, rfl⟩, by decide, (tbk_mem (j := 6) (k := 51) rfl), Or.inr ⟨(tbk_mem (j := 6) (k := 50) rfl), 24, (tbk_mem (j := 2) (k := 8) rfl)⟩, Or.inl ⟨rfl, (tbk_mem (j := 6) (k := 52) rfl)⟩, ⟨by decide, by decide⟩, by decide +kernel, by decide +kernel, by decide⟩
def k_Words_isWord : Kp := (⟨"ClassWorks$Words", "isWord", "(I)Z"⟩, prog_9_method_12_code, 2, some (.boolean), [])
theorem mv_Words_isWord : MV k_Words_isWord 2 1 := ⟨⟨_, rfl, rfl⟩, by decide, (tbk_mem (j := 6) (k := 119) rfl), Or.inl (tbk_mem (j := 6) (k := 120) rfl), Or.inl ⟨rfl, (tbk_mem (j := 6) (k := 121) rfl)⟩, ⟨by decide, by decide⟩, by decide +kernel, by decide +kernel, by decide⟩
def k_Reader_flags : Kp := (⟨"ClassWorks$Reader", "flags", "(IIII)I"⟩, prog_7_method_16_code, 7, some (.int), [])
theorem mv_Reader_flags : MV k_Reader_flags 3 4 := ⟨⟨_, rfl, rfl⟩, by decide, (tbk_mem (j := 6) (k := 116) rfl), Or.inr ⟨(tbk_mem (j := 6) (k := 115) rfl), 24, (tbk_mem (j := 2) (k := 8) rfl)⟩, Or.inl ⟨rfl, (tbk_mem (j := 6) (k := 117) rfl)⟩, ⟨by decide, by decide⟩, by decide +kernel, by decide +kernel, by decide⟩
def k_Reader_wrong : Kp := (⟨"ClassWorks$Reader", "wrong", "()LClassWorks$Refusal;"⟩, prog_7_method_6_code, 1, some (.object "ClassWorks$Refusal"), [])
theorem mv_Reader_wrong : MV k_Reader_wrong 3 0 := ⟨⟨_, rfl, rfl⟩, by decide, (tbk_mem (j := 6) (k := 124) rfl), Or.inr ⟨(tbk_mem (j := 6) (k := 123) rfl), 24, (tbk_mem (j := 2) (k := 8) rfl)⟩, Or.inl ⟨rfl, (tbk_mem (j := 6) (k := 125) rfl)⟩, ⟨by decide, by decide⟩, by decide +kernel, by decide +kernel, by decide⟩
def k_Reader_isNoClass : Kp := (⟨"ClassWorks$Reader", "isNoClass", "(I)Z"⟩, prog_7_method_10_code, 2, some (.boolean), [])
theorem mv_Reader_isNoClass : MV k_Reader_isNoClass 3 1 := ⟨⟨_, rfl, rfl⟩, by decide, (tbk_mem (j := 6) (k := 137) rfl), Or.inr ⟨(tbk_mem (j := 6) (k := 136) rfl), 24, (tbk_mem (j := 2) (k := 8) rfl)⟩, Or.inl ⟨rfl, (tbk_mem (j := 6) (k := 138) rfl)⟩, ⟨by decide, by decide⟩, by decide +kernel, by decide +kernel, by decide⟩
def k_Reader_className : Kp := (⟨"ClassWorks$Reader", "className", "()I"⟩, prog_7_method_11_code, 2, some (.int), [])
theorem mv_Reader_className : MV k_Reader_className 3 0 := ⟨⟨_, rfl, rfl⟩, by decide, (tbk_mem (j := 6) (k := 132) rfl), Or.inr ⟨(tbk_mem (j := 6) (k := 131) rfl), 24, (tbk_mem (j := 2) (k := 8) rfl)⟩, Or.inl ⟨rfl, (tbk_mem (j := 6) (k := 133) rfl)⟩, ⟨by decide, by decide⟩, by decide +kernel, by decide +kernel, by decide⟩
def k_Words_isSign : Kp := (⟨"ClassWorks$Words", "isSign", "(I)Z"⟩, prog_9_method_11_code, 2, some (.boolean), [])
theorem mv_Words_isSign : MV k_Words_isSign 2 1 := ⟨⟨_, rfl, rfl⟩, by decide, (tbk_mem (j := 6) (k := 144) rfl), Or.inl (tbk_mem (j := 6) (k := 145) rfl), Or.inl ⟨rfl, (tbk_mem (j := 6) (k := 146) rfl)⟩, ⟨by decide, by decide⟩, by decide +kernel, by decide +kernel, by decide⟩
def k_Reader_sign : Kp := (⟨"ClassWorks$Reader", "sign", "(I)V"⟩, prog_7_method_8_code, 2, none, [])
theorem mv_Reader_sign : MV k_Reader_sign 3 1 := ⟨⟨_, rfl, rfl⟩, by decide, (tbk_mem (j := 6) (k := 141) rfl), Or.inr ⟨(tbk_mem (j := 6) (k := 140) rfl), 24, (tbk_mem (j := 2) (k := 8) rfl)⟩, Or.inl ⟨rfl, (tbk_mem (j := 6) (k := 142) rfl)⟩, ⟨by decide, by decide⟩, by decide +kernel, by decide +kernel, by decide⟩
def k_World_find : Kp := (⟨"ClassWorks$World", "find", "(I)I"⟩, prog_10_method_5_code, 3, some (.int), [])
theorem mv_World_find : MV k_World_find 5 1 := ⟨⟨_, rfl, rfl⟩, by decide, (tbk_mem (j := 6) (k := 148) rfl), Or.inl (tbk_mem (j := 6) (k := 149) rfl), Or.inl ⟨rfl, (tbk_mem (j := 6) (k := 150) rfl)⟩, ⟨by decide, by decide⟩, by decide +kernel, by decide +kernel, by decide⟩
def k_World_bit : Kp := (⟨"ClassWorks$World", "bit", "(I)I"⟩, prog_10_method_7_code, 2, some (.int), [])
theorem mv_World_bit : MV k_World_bit 5 1 := ⟨⟨_, rfl, rfl⟩, by decide, (tbk_mem (j := 6) (k := 157) rfl), Or.inr ⟨(tbk_mem (j := 6) (k := 156) rfl), 65, (tbk_mem (j := 2) (k := 189) rfl)⟩, Or.inl ⟨rfl, (tbk_mem (j := 6) (k := 158) rfl)⟩, ⟨by decide, by decide⟩, by decide +kernel, by decide +kernel, by decide⟩
def k_World_asks : Kp := (⟨"ClassWorks$World", "asks", "(I)Z"⟩, prog_10_method_6_code, 2, some (.boolean), [])
theorem mv_World_asks : MV k_World_asks 5 1 := ⟨⟨_, rfl, rfl⟩, by decide, (tbk_mem (j := 6) (k := 152) rfl), Or.inl (tbk_mem (j := 6) (k := 153) rfl), Or.inl ⟨rfl, (tbk_mem (j := 6) (k := 154) rfl)⟩, ⟨by decide, by decide⟩, by decide +kernel, by decide +kernel, by decide⟩
def k_Reader_nextLine : Kp := (⟨"ClassWorks$Reader", "nextLine", "()Z"⟩, prog_7_method_4_code, 1, some (.boolean), [])
theorem mv_Reader_nextLine : MV k_Reader_nextLine 3 0 := ⟨⟨_, rfl, rfl⟩, by decide, (tbk_mem (j := 6) (k := 166) rfl), Or.inr ⟨(tbk_mem (j := 6) (k := 165) rfl), 24, (tbk_mem (j := 2) (k := 8) rfl)⟩, Or.inl ⟨rfl, (tbk_mem (j := 6) (k := 167) rfl)⟩, ⟨by decide, by decide⟩, by decide +kernel, by decide +kernel, by decide⟩
def k_Reader_needLine : Kp := (⟨"ClassWorks$Reader", "needLine", "()V"⟩, prog_7_method_5_code, 1, none, [])
theorem mv_Reader_needLine : MV k_Reader_needLine 3 0 := ⟨⟨_, rfl, rfl⟩, by decide, (tbk_mem (j := 6) (k := 162) rfl), Or.inr ⟨(tbk_mem (j := 6) (k := 161) rfl), 24, (tbk_mem (j := 2) (k := 8) rfl)⟩, Or.inl ⟨rfl, (tbk_mem (j := 6) (k := 163) rfl)⟩, ⟨by decide, by decide⟩, by decide +kernel, by decide +kernel, by decide⟩
def k_Reader_anyName : Kp := (⟨"ClassWorks$Reader", "anyName", "()I"⟩, prog_7_method_9_code, 2, some (.int), [])
theorem mv_Reader_anyName : MV k_Reader_anyName 3 0 := ⟨⟨_, rfl, rfl⟩, by decide, (tbk_mem (j := 6) (k := 174) rfl), Or.inr ⟨(tbk_mem (j := 6) (k := 173) rfl), 24, (tbk_mem (j := 2) (k := 8) rfl)⟩, Or.inl ⟨rfl, (tbk_mem (j := 6) (k := 175) rfl)⟩, ⟨by decide, by decide⟩, by decide +kernel, by decide +kernel, by decide⟩
def k_Reader_type : Kp := (⟨"ClassWorks$Reader", "type", "()I"⟩, prog_7_method_13_code, 2, some (.int), [])
theorem mv_Reader_type : MV k_Reader_type 3 0 := ⟨⟨_, rfl, rfl⟩, by decide, (tbk_mem (j := 6) (k := 178) rfl), Or.inr ⟨(tbk_mem (j := 6) (k := 177) rfl), 24, (tbk_mem (j := 2) (k := 8) rfl)⟩, Or.inl ⟨rfl, (tbk_mem (j := 6) (k := 179) rfl)⟩, ⟨by decide, by decide⟩, by decide +kernel, by decide +kernel, by decide⟩
def k_Reader_number : Kp := (⟨"ClassWorks$Reader", "number", "(II)I"⟩, prog_7_method_12_code, 4, some (.int), [])
theorem mv_Reader_number : MV k_Reader_number 3 2 := ⟨⟨_, rfl, rfl⟩, by decide, (tbk_mem (j := 6) (k := 187) rfl), Or.inr ⟨(tbk_mem (j := 6) (k := 186) rfl), 24, (tbk_mem (j := 2) (k := 8) rfl)⟩, Or.inl ⟨rfl, (tbk_mem (j := 6) (k := 188) rfl)⟩, ⟨by decide, by decide⟩, by decide +kernel, by decide +kernel, by decide⟩
def k_Reader_end : Kp := (⟨"ClassWorks$Reader", "end", "()V"⟩, prog_7_method_7_code, 1, none, [])
theorem mv_Reader_end : MV k_Reader_end 3 0 := ⟨⟨_, rfl, rfl⟩, by decide, (tbk_mem (j := 6) (k := 193) rfl), Or.inr ⟨(tbk_mem (j := 6) (k := 192) rfl), 24, (tbk_mem (j := 2) (k := 8) rfl)⟩, Or.inl ⟨rfl, (tbk_mem (j := 6) (k := 194) rfl)⟩, ⟨by decide, by decide⟩, by decide +kernel, by decide +kernel, by decide⟩
def k_World_isFace : Kp := (⟨"ClassWorks$World", "isFace", "(I)Z"⟩, prog_10_method_8_code, 2, some (.boolean), [])
theorem mv_World_isFace : MV k_World_isFace 5 1 := ⟨⟨_, rfl, rfl⟩, by decide, (tbk_mem (j := 6) (k := 200) rfl), Or.inl (tbk_mem (j := 6) (k := 201) rfl), Or.inl ⟨rfl, (tbk_mem (j := 6) (k := 202) rfl)⟩, ⟨by decide, by decide⟩, by decide +kernel, by decide +kernel, by decide⟩
def k_Reader_isFace : Kp := (⟨"ClassWorks$Reader", "isFace", "()Z"⟩, prog_7_method_18_code, 1, some (.boolean), [])
theorem mv_Reader_isFace : MV k_Reader_isFace 3 0 := ⟨⟨_, rfl, rfl⟩, by decide, (tbk_mem (j := 6) (k := 197) rfl), Or.inr ⟨(tbk_mem (j := 6) (k := 196) rfl), 24, (tbk_mem (j := 2) (k := 8) rfl)⟩, Or.inl ⟨rfl, (tbk_mem (j := 6) (k := 198) rfl)⟩, ⟨by decide, by decide⟩, by decide +kernel, by decide +kernel, by decide⟩
def k_Reader_field : Kp := (⟨"ClassWorks$Reader", "field", "()V"⟩, prog_7_method_19_code, 9, none, [])
theorem mv_Reader_field : MV k_Reader_field 3 0 := ⟨⟨_, rfl, rfl⟩, by decide, (tbk_mem (j := 6) (k := 170) rfl), Or.inr ⟨(tbk_mem (j := 6) (k := 169) rfl), 24, (tbk_mem (j := 2) (k := 8) rfl)⟩, Or.inl ⟨rfl, (tbk_mem (j := 6) (k := 171) rfl)⟩, ⟨by decide, by decide⟩, by decide +kernel, by decide +kernel, by decide⟩
def k_Reader_types : Kp := (⟨"ClassWorks$Reader", "types", "()V"⟩, prog_7_method_15_code, 1, none, [])
theorem mv_Reader_types : MV k_Reader_types 3 0 := ⟨⟨_, rfl, rfl⟩, by decide, (tbk_mem (j := 6) (k := 209) rfl), Or.inr ⟨(tbk_mem (j := 6) (k := 208) rfl), 24, (tbk_mem (j := 2) (k := 8) rfl)⟩, Or.inl ⟨rfl, (tbk_mem (j := 6) (k := 210) rfl)⟩, ⟨by decide, by decide⟩, by decide +kernel, by decide +kernel, by decide⟩
def k_Reader_result : Kp := (⟨"ClassWorks$Reader", "result", "()I"⟩, prog_7_method_14_code, 1, some (.int), [])
theorem mv_Reader_result : MV k_Reader_result 3 0 := ⟨⟨_, rfl, rfl⟩, by decide, (tbk_mem (j := 6) (k := 213) rfl), Or.inr ⟨(tbk_mem (j := 6) (k := 212) rfl), 24, (tbk_mem (j := 2) (k := 8) rfl)⟩, Or.inl ⟨rfl, (tbk_mem (j := 6) (k := 214) rfl)⟩, ⟨by decide, by decide⟩, by decide +kernel, by decide +kernel, by decide⟩
def k_World_sameArguments : Kp := (⟨"ClassWorks$World", "sameArguments", "(I[III)Z"⟩, prog_10_method_19_code, 7, some (.boolean), [])
theorem mv_World_sameArguments : MV k_World_sameArguments 5 4 := ⟨⟨_, rfl, rfl⟩, by decide, (tbk_mem (j := 6) (k := 221) rfl), Or.inr ⟨(tbk_mem (j := 6) (k := 220) rfl), 65, (tbk_mem (j := 2) (k := 189) rfl)⟩, Or.inl ⟨rfl, (tbk_mem (j := 6) (k := 222) rfl)⟩, ⟨by decide, by decide⟩, by decide +kernel, by decide +kernel, by decide⟩
def k_Reader_askMethod : Kp := (⟨"ClassWorks$Reader", "askMethod", "(III)V"⟩, prog_7_method_21_code, 5, none, [])
theorem mv_Reader_askMethod : MV k_Reader_askMethod 3 3 := ⟨⟨_, rfl, rfl⟩, by decide, (tbk_mem (j := 6) (k := 217) rfl), Or.inr ⟨(tbk_mem (j := 6) (k := 216) rfl), 24, (tbk_mem (j := 2) (k := 8) rfl)⟩, Or.inl ⟨rfl, (tbk_mem (j := 6) (k := 218) rfl)⟩, ⟨by decide, by decide⟩, by decide +kernel, by decide +kernel, by decide⟩
def k_Reader_kindWord : Kp := (⟨"ClassWorks$Reader", "kindWord", "()I"⟩, prog_7_method_24_code, 2, some (.int), [])
theorem mv_Reader_kindWord : MV k_Reader_kindWord 3 0 := ⟨⟨_, rfl, rfl⟩, by decide, (tbk_mem (j := 6) (k := 238) rfl), Or.inr ⟨(tbk_mem (j := 6) (k := 237) rfl), 24, (tbk_mem (j := 2) (k := 8) rfl)⟩, Or.inl ⟨rfl, (tbk_mem (j := 6) (k := 239) rfl)⟩, ⟨by decide, by decide⟩, by decide +kernel, by decide +kernel, by decide⟩
def k_Reader_kinds : Kp := (⟨"ClassWorks$Reader", "kinds", "(Z)I"⟩, prog_7_method_25_code, 3, some (.int), [])
theorem mv_Reader_kinds : MV k_Reader_kinds 3 1 := ⟨⟨_, rfl, rfl⟩, by decide, (tbk_mem (j := 6) (k := 234) rfl), Or.inr ⟨(tbk_mem (j := 6) (k := 233) rfl), 24, (tbk_mem (j := 2) (k := 8) rfl)⟩, Or.inl ⟨rfl, (tbk_mem (j := 6) (k := 235) rfl)⟩, ⟨by decide, by decide⟩, by decide +kernel, by decide +kernel, by decide⟩
def k_Reader_frame : Kp := (⟨"ClassWorks$Reader", "frame", "()V"⟩, prog_7_method_27_code, 1, none, [])
theorem mv_Reader_frame : MV k_Reader_frame 3 0 := ⟨⟨_, rfl, rfl⟩, by decide, (tbk_mem (j := 6) (k := 230) rfl), Or.inr ⟨(tbk_mem (j := 6) (k := 229) rfl), 24, (tbk_mem (j := 2) (k := 8) rfl)⟩, Or.inl ⟨rfl, (tbk_mem (j := 6) (k := 231) rfl)⟩, ⟨by decide, by decide⟩, by decide +kernel, by decide +kernel, by decide⟩
def k_Reader_used : Kp := (⟨"ClassWorks$Reader", "used", "(II)V"⟩, prog_7_method_23_code, 3, none, [])
theorem mv_Reader_used : MV k_Reader_used 3 2 := ⟨⟨_, rfl, rfl⟩, by decide, (tbk_mem (j := 7) (k := 6) rfl), Or.inr ⟨(tbk_mem (j := 7) (k := 5) rfl), 24, (tbk_mem (j := 2) (k := 8) rfl)⟩, Or.inl ⟨rfl, (tbk_mem (j := 7) (k := 7) rfl)⟩, ⟨by decide, by decide⟩, by decide +kernel, by decide +kernel, by decide⟩
def k_Reader_handler : Kp := (⟨"ClassWorks$Reader", "handler", "()V"⟩, prog_7_method_28_code, 5, none, [])
theorem mv_Reader_handler : MV k_Reader_handler 3 0 := ⟨⟨_, rfl, rfl⟩, by decide, (tbk_mem (j := 7) (k := 2) rfl), Or.inr ⟨(tbk_mem (j := 7) (k := 1) rfl), 24, (tbk_mem (j := 2) (k := 8) rfl)⟩, Or.inl ⟨rfl, (tbk_mem (j := 7) (k := 3) rfl)⟩, ⟨by decide, by decide⟩, by decide +kernel, by decide +kernel, by decide⟩
def k_Reader_nextCode : Kp := (⟨"ClassWorks$Reader", "nextCode", "()I"⟩, prog_7_method_26_code, 1, some (.int), [])
theorem mv_Reader_nextCode : MV k_Reader_nextCode 3 0 := ⟨⟨_, rfl, rfl⟩, by decide, (tbk_mem (j := 7) (k := 14) rfl), Or.inr ⟨(tbk_mem (j := 7) (k := 13) rfl), 24, (tbk_mem (j := 2) (k := 8) rfl)⟩, Or.inl ⟨rfl, (tbk_mem (j := 7) (k := 15) rfl)⟩, ⟨by decide, by decide⟩, by decide +kernel, by decide +kernel, by decide⟩
def k_Reader_addReference : Kp := (⟨"ClassWorks$Reader", "addReference", "(III)I"⟩, prog_7_method_32_code, 6, some (.int), [])
theorem mv_Reader_addReference : MV k_Reader_addReference 3 3 := ⟨⟨_, rfl, rfl⟩, by decide, (tbk_mem (j := 7) (k := 25) rfl), Or.inl (tbk_mem (j := 7) (k := 26) rfl), Or.inl ⟨rfl, (tbk_mem (j := 7) (k := 27) rfl)⟩, ⟨by decide, by decide⟩, by decide +kernel, by decide +kernel, by decide⟩
def k_Reader_member : Kp := (⟨"ClassWorks$Reader", "member", "(IZ)V"⟩, prog_7_method_31_code, 6, none, [])
theorem mv_Reader_member : MV k_Reader_member 3 2 := ⟨⟨_, rfl, rfl⟩, by decide, (tbk_mem (j := 7) (k := 22) rfl), Or.inr ⟨(tbk_mem (j := 7) (k := 21) rfl), 24, (tbk_mem (j := 2) (k := 8) rfl)⟩, Or.inl ⟨rfl, (tbk_mem (j := 7) (k := 23) rfl)⟩, ⟨by decide, by decide⟩, by decide +kernel, by decide +kernel, by decide⟩
def k_Reader_operands : Kp := (⟨"ClassWorks$Reader", "operands", "(IIZ)V"⟩, prog_7_method_30_code, 4, none, [])
theorem mv_Reader_operands : MV k_Reader_operands 3 3 := ⟨⟨_, rfl, rfl⟩, by decide, (tbk_mem (j := 7) (k := 18) rfl), Or.inr ⟨(tbk_mem (j := 7) (k := 17) rfl), 24, (tbk_mem (j := 2) (k := 8) rfl)⟩, Or.inl ⟨rfl, (tbk_mem (j := 7) (k := 19) rfl)⟩, ⟨by decide, by decide⟩, by decide +kernel, by decide +kernel, by decide⟩
def k_Reader_instruction : Kp := (⟨"ClassWorks$Reader", "instruction", "()V"⟩, prog_7_method_29_code, 5, none, [])
theorem mv_Reader_instruction : MV k_Reader_instruction 3 0 := ⟨⟨_, rfl, rfl⟩, by decide, (tbk_mem (j := 7) (k := 10) rfl), Or.inr ⟨(tbk_mem (j := 7) (k := 9) rfl), 24, (tbk_mem (j := 2) (k := 8) rfl)⟩, Or.inl ⟨rfl, (tbk_mem (j := 7) (k := 11) rfl)⟩, ⟨by decide, by decide⟩, by decide +kernel, by decide +kernel, by decide⟩
def k_Reader_bodyLine : Kp := (⟨"ClassWorks$Reader", "bodyLine", "()Z"⟩, prog_7_method_22_code, 4, some (.boolean), [])
theorem mv_Reader_bodyLine : MV k_Reader_bodyLine 3 0 := ⟨⟨_, rfl, rfl⟩, by decide, (tbk_mem (j := 6) (k := 226) rfl), Or.inr ⟨(tbk_mem (j := 6) (k := 225) rfl), 24, (tbk_mem (j := 2) (k := 8) rfl)⟩, Or.inl ⟨rfl, (tbk_mem (j := 6) (k := 227) rfl)⟩, ⟨by decide, by decide⟩, by decide +kernel, by decide +kernel, by decide⟩
def k_Reader_told : Kp := (⟨"ClassWorks$Reader", "told", "(I)I"⟩, prog_7_method_33_code, 3, some (.int), [])
theorem mv_Reader_told : MV k_Reader_told 3 1 := ⟨⟨_, rfl, rfl⟩, by decide, (tbk_mem (j := 7) (k := 34) rfl), Or.inr ⟨(tbk_mem (j := 7) (k := 33) rfl), 24, (tbk_mem (j := 2) (k := 8) rfl)⟩, Or.inl ⟨rfl, (tbk_mem (j := 7) (k := 35) rfl)⟩, ⟨by decide, by decide⟩, by decide +kernel, by decide +kernel, by decide⟩
def w_Words_next_L69 (this : Nat) (Q : Mem → Prop) : Nat → Mem → Prop
  | 0, _ => False
  | n + 1, M => w_Words_peek this (mI M 2 this 4) (fun r8 M7 => if r8 = (10 : Int32) then (Q M7) else ((w_Words_next_L69 this Q n)  (sI M7 2 this 4 ((mI M7 2 this 4) + (1 : Int32))))) M
def w_Words_next_j62 (this : Nat) (Q : Mem → Prop)  (M : Mem) : Prop :=
  ∃ n10 : Nat, w_Words_next_L69 this Q n10  (sR M 2 this 3 (some (0, 100 + 3)))
def w_Words_next_j136 (this : Nat) (Q : Mem → Prop) (s0 : Int32) (M : Mem) : Prop :=
  w_Words_number this s0 (fun M20 => Q M20) M
def w_Words_next_j124 (this : Nat) (Q : Mem → Prop) (v1 : Int32) (M : Mem) : Prop :=
  if v1 = (45 : Int32) then (w_Words_next_j136 this Q (1 : Int32) M) else (w_Words_next_j136 this Q (0 : Int32) M)
def w_Words_next_j197 (this : Nat) (Q : Mem → Prop) (v1 : Int32) (M : Mem) : Prop :=
  ∃ M24, M24 = (sI (sI (sR M 2 this 3 (some (0, 100 + 2))) 2 this 5 v1) 2 this 2 ((mI (sI (sR M 2 this 3 (some (0, 100 + 2))) 2 this 5 v1) 2 this 2) + (1 : Int32))) ∧ Q M24
def w_Words_next_L0 (this : Nat) (Q : Mem → Prop) : Nat → Mem → Prop
  | 0, _ => False
  | n + 1, M => w_Words_peek this (mI M 2 this 2) (fun r2 M1 => if r2 = (32 : Int32) then ((w_Words_next_L0 this Q n)  (sI M1 2 this 2 ((mI M1 2 this 2) + (1 : Int32)))) else (w_Words_peek this (mI (sI M1 2 this 4 (mI M1 2 this 2)) 2 this 2) (fun r5 M4 => if r5 = (35 : Int32) then (w_Words_next_j62 this Q  (sR M4 2 this 3 (some (0, 100 + 4)))) else (if r5 = (10 : Int32) then (w_Words_next_j62 this Q  (sR M4 2 this 3 (some (0, 100 + 4)))) else (w_Words_isLetter this r5 (fun r13 M12 => if r13 = 0 then (w_Words_isDigit this r5 (fun r16 M15 => if r16 = 0 then (if r5 = (45 : Int32) then (w_Words_next_j124 this Q r5 M15) else (if r5 = (60 : Int32) then (w_Words_special this (fun M22 => Q M22) M15) else (if r5 = (44 : Int32) then (w_Words_next_j197 this Q r5 M15) else (if r5 = (59 : Int32) then (w_Words_next_j197 this Q r5 M15) else (if r5 = (40 : Int32) then (w_Words_next_j197 this Q r5 M15) else (if r5 = (41 : Int32) then (w_Words_next_j197 this Q r5 M15) else (if r5 = (58 : Int32) then (w_Words_next_j197 this Q r5 M15) else (if r5 = (46 : Int32) then (w_Words_next_j197 this Q r5 M15) else (if r5 = (61 : Int32) then (w_Words_next_j197 this Q r5 M15) else (Q M15)))))))))) else (w_Words_next_j124 this Q r5 M15)) M12) else (w_Words_name this (fun M31 => Q M31) M12)) (sR M4 2 this 3 (some (0, 100 + 4)))))) (sI M1 2 this 4 (mI M1 2 this 2)))) M
def w_Words_next (this : Nat) (Q : Mem → Prop) (M : Mem) : Prop :=
  ∃ n32 : Nat, w_Words_next_L0 this Q n32  M
set_option maxRecDepth 4096 in
theorem lk_Words_next_L69 {γ : Gm} (hγ : Gk γ) (this : Nat) (Q : Mem → Prop) : ∀ (n : Nat)  (M : Mem), w_Words_next_L69 this Q n  M → E γ k_Words_next 3 69 [some (vr (some (2, this))), none] [] M (Qv Q) := by
  intro n
  induction n with
  | zero => intro  M h; exact h.elim
  | succ n ih =>
    intro  M h
    unfold w_Words_next_L69 at h
    refine E_blk (lv' := [some (vr (some (2, this))), none]) (st' := [vi (mI M 2 this 4), vr (some (2, this))]) (M1 := M) (pc' := 74) (tb_Words hγ) [.aload_n 0, .aload_n 0, .getfield 34] (by decide +kernel) rfl rfl trivial ?_
    refine E_callV (κ' := k_Words_peek) (As := [vi (mI M 2 this 4)]) (st := []) mv_Words_peek (Or.inl (tbk_mem (j := 6) (k := 57) rfl)) rfl (by decide +kernel) (Nat.le_of_ble_eq_true rfl) (Nat.le_of_ble_eq_true rfl) rfl (by decide) (lk_Words_peek hγ this (mI M 2 this 4) _ M h) (fun _ _ => Qi_r) (fun v M7 hp => Qi_k (R := fun st => E γ k_Words_next 3 77 [some (vr (some (2, this))), none] st M7 (Qv Q)) hp (fun r8 h => ?_))
    refine E_blk (lv' := [some (vr (some (2, this))), none]) (st' := [vi (10 : Int32), vi r8]) (M1 := M7) (pc' := 79) (tb_Words hγ) [.bipush 10] (by decide +kernel) rfl rfl trivial ?_
    refine E_icmp_eq (off := 140) (tgt := 219) (by decide +kernel) (by decide) (fun b9 => ?_) (fun b9 => ?_)
    · rw [if_pos b9] at h
      exact E_vret rfl (by decide +kernel) h
    · rw [if_neg b9] at h
      refine E_blk (lv' := [some (vr (some (2, this))), none]) (st' := []) (M1 := (sI M7 2 this 4 ((mI M7 2 this 4) + (1 : Int32)))) (pc' := 92) (tb_Words hγ) [.aload_n 0, .dup, .getfield 34, .iconst 1, .iadd, .putfield 34] (by decide +kernel) rfl rfl trivial ?_
      refine E_goto (off := -23) (tgt := 69) (by decide +kernel) (by decide) ?_
      refine E_mask [true, false] rfl ?_
      exact ih  (sI M7 2 this 4 ((mI M7 2 this 4) + (1 : Int32))) h
set_option maxRecDepth 4096 in
theorem lk_Words_next_j62 {γ : Gm} (hγ : Gk γ) (this : Nat) (Q : Mem → Prop)  (M : Mem) (h : w_Words_next_j62 this Q  M) : E γ k_Words_next 3 62 [some (vr (some (2, this))), none] [] M (Qv Q) := by
  unfold w_Words_next_j62 at h
  refine E_blk (lv' := [some (vr (some (2, this))), none]) (st' := [vr (some (2, this))]) (M1 := M) (pc' := 63) (tb_Words hγ) [.aload_n 0] (by decide +kernel) rfl rfl trivial ?_
  refine E_gets (κ := k_Words_next) (pc := 63) (j := 3) (idx := 46) (n := "END") hγ.2.1 rfl (tbk_mem (j := 6) (k := 63) rfl) (by decide +kernel) ?_
  refine E_blk (lv' := [some (vr (some (2, this))), none]) (st' := []) (M1 := (sR M 2 this 3 (some (0, 100 + 3)))) (pc' := 69) (tb_Words hγ) [.putfield 43] (by decide +kernel) rfl rfl trivial ?_
  obtain ⟨n10, h⟩ := h
  refine E_mask [true, false] rfl ?_
  exact lk_Words_next_L69 hγ this Q n10  (sR M 2 this 3 (some (0, 100 + 3))) h
set_option maxRecDepth 4096 in
theorem lk_Words_next_j136 {γ : Gm} (hγ : Gk γ) (this : Nat) (Q : Mem → Prop) (s0 : Int32) (M : Mem) (h : w_Words_next_j136 this Q s0 M) : E γ k_Words_next 3 136 [none, none] [vi s0, vr (some (2, this))] M (Qv Q) := by
  unfold w_Words_next_j136 at h
  refine E_callV (κ' := k_Words_number) (As := [vi s0]) (st := []) mv_Words_number (Or.inl (tbk_mem (j := 6) (k := 84) rfl)) rfl (by decide +kernel) (Nat.le_of_ble_eq_true rfl) (Nat.le_of_ble_eq_true rfl) rfl (by decide) (lk_Words_number hγ this s0 _ M h) (fun _ _ => Qv_r) (fun v M20 hp => Qv_k (R := fun st => E γ k_Words_next 3 139 [none, none] st M20 (Qv Q)) hp (fun h => ?_))
  refine E_goto (off := 80) (tgt := 219) (by decide +kernel) (by decide) ?_
  exact E_vret rfl (by decide +kernel) h
set_option maxRecDepth 4096 in
theorem lk_Words_next_j124 {γ : Gm} (hγ : Gk γ) (this : Nat) (Q : Mem → Prop) (v1 : Int32) (M : Mem) (h : w_Words_next_j124 this Q v1 M) : E γ k_Words_next 3 124 [some (vr (some (2, this))), some (vi v1)] [] M (Qv Q) := by
  unfold w_Words_next_j124 at h
  refine E_blk (lv' := [some (vr (some (2, this))), some (vi v1)]) (st' := [vi (45 : Int32), vi v1, vr (some (2, this))]) (M1 := M) (pc' := 128) (tb_Words hγ) [.aload_n 0, .iload_n 1, .bipush 45] (by decide +kernel) rfl rfl trivial ?_
  refine E_icmp_ne (off := 7) (tgt := 135) (by decide +kernel) (by decide) (fun b19 => ?_) (fun b19 => ?_)
  · rw [if_pos b19] at h
    refine E_blk (lv' := [some (vr (some (2, this))), some (vi v1)]) (st' := [vi (1 : Int32), vr (some (2, this))]) (M1 := M) (pc' := 132) (tb_Words hγ) [.iconst 1] (by decide +kernel) rfl rfl trivial ?_
    refine E_goto (off := 4) (tgt := 136) (by decide +kernel) (by decide) ?_
    refine E_mask [false, false] rfl ?_
    exact lk_Words_next_j136 hγ this Q (1 : Int32) M h
  · rw [if_neg b19] at h
    refine E_blk (lv' := [some (vr (some (2, this))), some (vi v1)]) (st' := [vi (0 : Int32), vr (some (2, this))]) (M1 := M) (pc' := 136) (tb_Words hγ) [.iconst 0] (by decide +kernel) rfl rfl trivial ?_
    refine E_mask [false, false] rfl ?_
    exact lk_Words_next_j136 hγ this Q (0 : Int32) M h
set_option maxRecDepth 4096 in
theorem lk_Words_next_j197 {γ : Gm} (hγ : Gk γ) (this : Nat) (Q : Mem → Prop) (v1 : Int32) (M : Mem) (h : w_Words_next_j197 this Q v1 M) : E γ k_Words_next 3 197 [some (vr (some (2, this))), some (vi v1)] [] M (Qv Q) := by
  unfold w_Words_next_j197 at h
  refine E_blk (lv' := [some (vr (some (2, this))), some (vi v1)]) (st' := [vr (some (2, this))]) (M1 := M) (pc' := 198) (tb_Words hγ) [.aload_n 0] (by decide +kernel) rfl rfl trivial ?_
  refine E_gets (κ := k_Words_next) (pc := 198) (j := 2) (idx := 66) (n := "SIGN") hγ.2.1 rfl (tbk_mem (j := 6) (k := 103) rfl) (by decide +kernel) ?_
  refine E_blk (lv' := [some (vr (some (2, this))), some (vi v1)]) (st' := []) (M1 := (sI (sI (sR M 2 this 3 (some (0, 100 + 2))) 2 this 5 v1) 2 this 2 ((mI (sI (sR M 2 this 3 (some (0, 100 + 2))) 2 this 5 v1) 2 this 2) + (1 : Int32)))) (pc' := 219) (tb_Words hγ) [.putfield 43, .aload_n 0, .iload_n 1, .putfield 69, .aload_n 0, .dup, .getfield 23, .iconst 1, .iadd, .putfield 23] (by decide +kernel) rfl rfl trivial ?_
  obtain ⟨M24, eM24, h⟩ := h
  rw [← eM24]
  exact E_vret rfl (by decide +kernel) h
set_option maxRecDepth 4096 in
theorem lk_Words_next_L0 {γ : Gm} (hγ : Gk γ) (this : Nat) (Q : Mem → Prop) : ∀ (n : Nat)  (M : Mem), w_Words_next_L0 this Q n  M → E γ k_Words_next 3 0 [some (vr (some (2, this))), none] [] M (Qv Q) := by
  intro n
  induction n with
  | zero => intro  M h; exact h.elim
  | succ n ih =>
    intro  M h
    unfold w_Words_next_L0 at h
    refine E_blk (lv' := [some (vr (some (2, this))), none]) (st' := [vi (mI M 2 this 2), vr (some (2, this))]) (M1 := M) (pc' := 5) (tb_Words hγ) [.aload_n 0, .aload_n 0, .getfield 23] (by decide +kernel) rfl rfl trivial ?_
    refine E_callV (κ' := k_Words_peek) (As := [vi (mI M 2 this 2)]) (st := []) mv_Words_peek (Or.inl (tbk_mem (j := 6) (k := 57) rfl)) rfl (by decide +kernel) (Nat.le_of_ble_eq_true rfl) (Nat.le_of_ble_eq_true rfl) rfl (by decide) (lk_Words_peek hγ this (mI M 2 this 2) _ M h) (fun _ _ => Qi_r) (fun v M1 hp => Qi_k (R := fun st => E γ k_Words_next 3 8 [some (vr (some (2, this))), none] st M1 (Qv Q)) hp (fun r2 h => ?_))
    refine E_blk (lv' := [some (vr (some (2, this))), none]) (st' := [vi (32 : Int32), vi r2]) (M1 := M1) (pc' := 10) (tb_Words hγ) [.bipush 32] (by decide +kernel) rfl rfl trivial ?_
    refine E_icmp_ne (off := 16) (tgt := 26) (by decide +kernel) (by decide) (fun b3 => ?_) (fun b3 => ?_)
    · rw [if_pos b3] at h
      refine E_blk (lv' := [some (vr (some (2, this))), none]) (st' := []) (M1 := (sI M1 2 this 2 ((mI M1 2 this 2) + (1 : Int32)))) (pc' := 23) (tb_Words hγ) [.aload_n 0, .dup, .getfield 23, .iconst 1, .iadd, .putfield 23] (by decide +kernel) rfl rfl trivial ?_
      refine E_goto (off := -23) (tgt := 0) (by decide +kernel) (by decide) ?_
      refine E_mask [true, false] rfl ?_
      exact ih  (sI M1 2 this 2 ((mI M1 2 this 2) + (1 : Int32))) h
    · rw [if_neg b3] at h
      refine E_blk (lv' := [some (vr (some (2, this))), none]) (st' := [vi (mI (sI M1 2 this 4 (mI M1 2 this 2)) 2 this 2), vr (some (2, this))]) (M1 := (sI M1 2 this 4 (mI M1 2 this 2))) (pc' := 39) (tb_Words hγ) [.aload_n 0, .aload_n 0, .getfield 23, .putfield 34, .aload_n 0, .aload_n 0, .getfield 23] (by decide +kernel) rfl rfl trivial ?_
      refine E_callV (κ' := k_Words_peek) (As := [vi (mI (sI M1 2 this 4 (mI M1 2 this 2)) 2 this 2)]) (st := []) mv_Words_peek (Or.inl (tbk_mem (j := 6) (k := 57) rfl)) rfl (by decide +kernel) (Nat.le_of_ble_eq_true rfl) (Nat.le_of_ble_eq_true rfl) rfl (by decide) (lk_Words_peek hγ this (mI (sI M1 2 this 4 (mI M1 2 this 2)) 2 this 2) _ (sI M1 2 this 4 (mI M1 2 this 2)) h) (fun _ _ => Qi_r) (fun v M4 hp => Qi_k (R := fun st => E γ k_Words_next 3 42 [some (vr (some (2, this))), none] st M4 (Qv Q)) hp (fun r5 h => ?_))
      refine E_blk (lv' := [some (vr (some (2, this))), some (vi r5)]) (st' := [vr (some (2, this))]) (M1 := M4) (pc' := 44) (tb_Words hγ) [.istore_n 1, .aload_n 0] (by decide +kernel) rfl rfl trivial ?_
      refine E_gets (κ := k_Words_next) (pc := 44) (j := 4) (idx := 37) (n := "BAD") hγ.2.1 rfl (tbk_mem (j := 6) (k := 61) rfl) (by decide +kernel) ?_
      refine E_blk (lv' := [some (vr (some (2, this))), some (vi r5)]) (st' := [vi (35 : Int32), vi r5]) (M1 := (sR M4 2 this 3 (some (0, 100 + 4)))) (pc' := 53) (tb_Words hγ) [.putfield 43, .iload_n 1, .bipush 35] (by decide +kernel) rfl rfl trivial ?_
      refine E_icmp_eq (off := 9) (tgt := 62) (by decide +kernel) (by decide) (fun b6 => ?_) (fun b6 => ?_)
      · rw [if_pos b6] at h
        refine E_mask [true, false] rfl ?_
        exact lk_Words_next_j62 hγ this Q  (sR M4 2 this 3 (some (0, 100 + 4))) h
      · rw [if_neg b6] at h
        refine E_blk (lv' := [some (vr (some (2, this))), some (vi r5)]) (st' := [vi (10 : Int32), vi r5]) (M1 := (sR M4 2 this 3 (some (0, 100 + 4)))) (pc' := 59) (tb_Words hγ) [.iload_n 1, .bipush 10] (by decide +kernel) rfl rfl trivial ?_
        refine E_icmp_ne (off := 36) (tgt := 95) (by decide +kernel) (by decide) (fun b11 => ?_) (fun b11 => ?_)
        · rw [if_pos b11] at h
          refine E_mask [true, false] rfl ?_
          exact lk_Words_next_j62 hγ this Q  (sR M4 2 this 3 (some (0, 100 + 4))) h
        · rw [if_neg b11] at h
          refine E_blk (lv' := [some (vr (some (2, this))), some (vi r5)]) (st' := [vi r5, vr (some (2, this))]) (M1 := (sR M4 2 this 3 (some (0, 100 + 4)))) (pc' := 97) (tb_Words hγ) [.aload_n 0, .iload_n 1] (by decide +kernel) rfl rfl trivial ?_
          refine E_callV (κ' := k_Words_isLetter) (As := [vi r5]) (st := []) mv_Words_isLetter (Or.inl (tbk_mem (j := 6) (k := 65) rfl)) rfl (by decide +kernel) (Nat.le_of_ble_eq_true rfl) (Nat.le_of_ble_eq_true rfl) rfl (by decide) (lk_Words_isLetter hγ this r5 _ (sR M4 2 this 3 (some (0, 100 + 4))) h) (fun _ _ => Qi_r) (fun v M12 hp => Qi_k (R := fun st => E γ k_Words_next 3 100 [some (vr (some (2, this))), some (vi r5)] st M12 (Qv Q)) hp (fun r13 h => ?_))
          refine E_if_eq (off := 10) (tgt := 110) (by decide +kernel) (by decide) (fun b14 => ?_) (fun b14 => ?_)
          · rw [if_pos b14] at h
            refine E_blk (lv' := [some (vr (some (2, this))), some (vi r5)]) (st' := [vi r5, vr (some (2, this))]) (M1 := M12) (pc' := 112) (tb_Words hγ) [.aload_n 0, .iload_n 1] (by decide +kernel) rfl rfl trivial ?_
            refine E_callV (κ' := k_Words_isDigit) (As := [vi r5]) (st := []) mv_Words_isDigit (Or.inl (tbk_mem (j := 6) (k := 74) rfl)) rfl (by decide +kernel) (Nat.le_of_ble_eq_true rfl) (Nat.le_of_ble_eq_true rfl) rfl (by decide) (lk_Words_isDigit hγ this r5 _ M12 h) (fun _ _ => Qi_r) (fun v M15 hp => Qi_k (R := fun st => E γ k_Words_next 3 115 [some (vr (some (2, this))), some (vi r5)] st M15 (Qv Q)) hp (fun r16 h => ?_))
            refine E_if_ne (off := 9) (tgt := 124) (by decide +kernel) (by decide) (fun b17 => ?_) (fun b17 => ?_)
            · rw [if_pos b17] at h
              refine E_blk (lv' := [some (vr (some (2, this))), some (vi r5)]) (st' := [vi (45 : Int32), vi r5]) (M1 := M15) (pc' := 121) (tb_Words hγ) [.iload_n 1, .bipush 45] (by decide +kernel) rfl rfl trivial ?_
              refine E_icmp_ne (off := 21) (tgt := 142) (by decide +kernel) (by decide) (fun b18 => ?_) (fun b18 => ?_)
              · rw [if_pos b18] at h
                refine E_mask [true, true] rfl ?_
                exact lk_Words_next_j124 hγ this Q r5 M15 h
              · rw [if_neg b18] at h
                refine E_blk (lv' := [some (vr (some (2, this))), some (vi r5)]) (st' := [vi (60 : Int32), vi r5]) (M1 := M15) (pc' := 145) (tb_Words hγ) [.iload_n 1, .bipush 60] (by decide +kernel) rfl rfl trivial ?_
                refine E_icmp_ne (off := 10) (tgt := 155) (by decide +kernel) (by decide) (fun b21 => ?_) (fun b21 => ?_)
                · rw [if_pos b21] at h
                  refine E_blk (lv' := [some (vr (some (2, this))), some (vi r5)]) (st' := [vr (some (2, this))]) (M1 := M15) (pc' := 149) (tb_Words hγ) [.aload_n 0] (by decide +kernel) rfl rfl trivial ?_
                  refine E_callV (κ' := k_Words_special) (As := []) (st := []) mv_Words_special (Or.inl (tbk_mem (j := 6) (k := 94) rfl)) rfl (by decide +kernel) (Nat.le_of_ble_eq_true rfl) (Nat.le_of_ble_eq_true rfl) rfl (by decide) (lk_Words_special hγ this _ M15 h) (fun _ _ => Qv_r) (fun v M22 hp => Qv_k (R := fun st => E γ k_Words_next 3 152 [some (vr (some (2, this))), some (vi r5)] st M22 (Qv Q)) hp (fun h => ?_))
                  refine E_goto (off := 67) (tgt := 219) (by decide +kernel) (by decide) ?_
                  exact E_vret rfl (by decide +kernel) h
                · rw [if_neg b21] at h
                  refine E_blk (lv' := [some (vr (some (2, this))), some (vi r5)]) (st' := [vi (44 : Int32), vi r5]) (M1 := M15) (pc' := 158) (tb_Words hγ) [.iload_n 1, .bipush 44] (by decide +kernel) rfl rfl trivial ?_
                  refine E_icmp_eq (off := 39) (tgt := 197) (by decide +kernel) (by decide) (fun b23 => ?_) (fun b23 => ?_)
                  · rw [if_pos b23] at h
                    refine E_mask [true, true] rfl ?_
                    exact lk_Words_next_j197 hγ this Q r5 M15 h
                  · rw [if_neg b23] at h
                    refine E_blk (lv' := [some (vr (some (2, this))), some (vi r5)]) (st' := [vi (59 : Int32), vi r5]) (M1 := M15) (pc' := 164) (tb_Words hγ) [.iload_n 1, .bipush 59] (by decide +kernel) rfl rfl trivial ?_
                    refine E_icmp_eq (off := 33) (tgt := 197) (by decide +kernel) (by decide) (fun b25 => ?_) (fun b25 => ?_)
                    · rw [if_pos b25] at h
                      refine E_mask [true, true] rfl ?_
                      exact lk_Words_next_j197 hγ this Q r5 M15 h
                    · rw [if_neg b25] at h
                      refine E_blk (lv' := [some (vr (some (2, this))), some (vi r5)]) (st' := [vi (40 : Int32), vi r5]) (M1 := M15) (pc' := 170) (tb_Words hγ) [.iload_n 1, .bipush 40] (by decide +kernel) rfl rfl trivial ?_
                      refine E_icmp_eq (off := 27) (tgt := 197) (by decide +kernel) (by decide) (fun b26 => ?_) (fun b26 => ?_)
                      · rw [if_pos b26] at h
                        refine E_mask [true, true] rfl ?_
                        exact lk_Words_next_j197 hγ this Q r5 M15 h
                      · rw [if_neg b26] at h
                        refine E_blk (lv' := [some (vr (some (2, this))), some (vi r5)]) (st' := [vi (41 : Int32), vi r5]) (M1 := M15) (pc' := 176) (tb_Words hγ) [.iload_n 1, .bipush 41] (by decide +kernel) rfl rfl trivial ?_
                        refine E_icmp_eq (off := 21) (tgt := 197) (by decide +kernel) (by decide) (fun b27 => ?_) (fun b27 => ?_)
                        · rw [if_pos b27] at h
                          refine E_mask [true, true] rfl ?_
                          exact lk_Words_next_j197 hγ this Q r5 M15 h
                        · rw [if_neg b27] at h
                          refine E_blk (lv' := [some (vr (some (2, this))), some (vi r5)]) (st' := [vi (58 : Int32), vi r5]) (M1 := M15) (pc' := 182) (tb_Words hγ) [.iload_n 1, .bipush 58] (by decide +kernel) rfl rfl trivial ?_
                          refine E_icmp_eq (off := 15) (tgt := 197) (by decide +kernel) (by decide) (fun b28 => ?_) (fun b28 => ?_)
                          · rw [if_pos b28] at h
                            refine E_mask [true, true] rfl ?_
                            exact lk_Words_next_j197 hγ this Q r5 M15 h
                          · rw [if_neg b28] at h
                            refine E_blk (lv' := [some (vr (some (2, this))), some (vi r5)]) (st' := [vi (46 : Int32), vi r5]) (M1 := M15) (pc' := 188) (tb_Words hγ) [.iload_n 1, .bipush 46] (by decide +kernel) rfl rfl trivial ?_
                            refine E_icmp_eq (off := 9) (tgt := 197) (by decide +kernel) (by decide) (fun b29 => ?_) (fun b29 => ?_)
                            · rw [if_pos b29] at h
                              refine E_mask [true, true] rfl ?_
                              exact lk_Words_next_j197 hγ this Q r5 M15 h
                            · rw [if_neg b29] at h
                              refine E_blk (lv' := [some (vr (some (2, this))), some (vi r5)]) (st' := [vi (61 : Int32), vi r5]) (M1 := M15) (pc' := 194) (tb_Words hγ) [.iload_n 1, .bipush 61] (by decide +kernel) rfl rfl trivial ?_
                              refine E_icmp_ne (off := 25) (tgt := 219) (by decide +kernel) (by decide) (fun b30 => ?_) (fun b30 => ?_)
                              · rw [if_pos b30] at h
                                refine E_mask [true, true] rfl ?_
                                exact lk_Words_next_j197 hγ this Q r5 M15 h
                              · rw [if_neg b30] at h
                                exact E_vret rfl (by decide +kernel) h
            · rw [if_neg b17] at h
              refine E_mask [true, true] rfl ?_
              exact lk_Words_next_j124 hγ this Q r5 M15 h
          · rw [if_neg b14] at h
            refine E_blk (lv' := [some (vr (some (2, this))), some (vi r5)]) (st' := [vr (some (2, this))]) (M1 := M12) (pc' := 104) (tb_Words hγ) [.aload_n 0] (by decide +kernel) rfl rfl trivial ?_
            refine E_callV (κ' := k_Words_name) (As := []) (st := []) mv_Words_name (Or.inl (tbk_mem (j := 6) (k := 70) rfl)) rfl (by decide +kernel) (Nat.le_of_ble_eq_true rfl) (Nat.le_of_ble_eq_true rfl) rfl (by decide) (lk_Words_name hγ this _ M12 h) (fun _ _ => Qv_r) (fun v M31 hp => Qv_k (R := fun st => E γ k_Words_next 3 107 [some (vr (some (2, this))), some (vi r5)] st M31 (Qv Q)) hp (fun h => ?_))
            refine E_goto (off := 112) (tgt := 219) (by decide +kernel) (by decide) ?_
            exact E_vret rfl (by decide +kernel) h
set_option maxRecDepth 4096 in
theorem lk_Words_next {γ : Gm} (hγ : Gk γ) (this : Nat) (Q : Mem → Prop) (M : Mem) (h : w_Words_next this Q M) : E γ k_Words_next 3 0 [some (vr (some (2, this))), none] [] M (Qv Q) := by
  unfold w_Words_next at h
  obtain ⟨n32, h⟩ := h
  refine E_mask [true, false] rfl ?_
  exact lk_Words_next_L0 hγ this Q n32  M h
def w_Words_line_L0 (this : Nat) (Q : Int32 → Mem → Prop) : Nat → Mem → Prop
  | 0, _ => False
  | n + 1, M => w_Words_peek this (mI M 2 this 2) (fun r2 M1 => if r2 = (10 : Int32) then (if (mI (sI M1 2 this 2 ((mI M1 2 this 2) + (1 : Int32))) 2 this 1) ≤ (mI (sI M1 2 this 2 ((mI M1 2 this 2) + (1 : Int32))) 2 this 2) then (Q (0 : Int32) (sI M1 2 this 2 ((mI M1 2 this 2) + (1 : Int32)))) else (Q (1 : Int32) (sI M1 2 this 2 ((mI M1 2 this 2) + (1 : Int32))))) else ((w_Words_line_L0 this Q n)  (sI M1 2 this 2 ((mI M1 2 this 2) + (1 : Int32))))) M
def w_Words_line (this : Nat) (Q : Int32 → Mem → Prop) (M : Mem) : Prop :=
  ∃ n5 : Nat, w_Words_line_L0 this Q n5  M
set_option maxRecDepth 4096 in
theorem lk_Words_line_L0 {γ : Gm} (hγ : Gk γ) (this : Nat) (Q : Int32 → Mem → Prop) : ∀ (n : Nat)  (M : Mem), w_Words_line_L0 this Q n  M → E γ k_Words_line 1 0 [some (vr (some (2, this)))] [] M (Qi Q) := by
  intro n
  induction n with
  | zero => intro  M h; exact h.elim
  | succ n ih =>
    intro  M h
    unfold w_Words_line_L0 at h
    refine E_blk (lv' := [some (vr (some (2, this)))]) (st' := [vi (mI M 2 this 2), vr (some (2, this))]) (M1 := M) (pc' := 5) (tb_Words hγ) [.aload_n 0, .aload_n 0, .getfield 23] (by decide +kernel) rfl rfl trivial ?_
    refine E_callV (κ' := k_Words_peek) (As := [vi (mI M 2 this 2)]) (st := []) mv_Words_peek (Or.inl (tbk_mem (j := 6) (k := 57) rfl)) rfl (by decide +kernel) (Nat.le_of_ble_eq_true rfl) (Nat.le_of_ble_eq_true rfl) rfl (by decide) (lk_Words_peek hγ this (mI M 2 this 2) _ M h) (fun _ _ => Qi_r) (fun v M1 hp => Qi_k (R := fun st => E γ k_Words_line 1 8 [some (vr (some (2, this)))] st M1 (Qi Q)) hp (fun r2 h => ?_))
    refine E_blk (lv' := [some (vr (some (2, this)))]) (st' := [vi (10 : Int32), vi r2]) (M1 := M1) (pc' := 10) (tb_Words hγ) [.bipush 10] (by decide +kernel) rfl rfl trivial ?_
    refine E_icmp_eq (off := 16) (tgt := 26) (by decide +kernel) (by decide) (fun b3 => ?_) (fun b3 => ?_)
    · rw [if_pos b3] at h
      refine E_blk (lv' := [some (vr (some (2, this)))]) (st' := [vi (mI (sI M1 2 this 2 ((mI M1 2 this 2) + (1 : Int32))) 2 this 1), vi (mI (sI M1 2 this 2 ((mI M1 2 this 2) + (1 : Int32))) 2 this 2)]) (M1 := (sI M1 2 this 2 ((mI M1 2 this 2) + (1 : Int32)))) (pc' := 44) (tb_Words hγ) [.aload_n 0, .dup, .getfield 23, .iconst 1, .iadd, .putfield 23, .aload_n 0, .getfield 23, .aload_n 0, .getfield 19] (by decide +kernel) rfl rfl trivial ?_
      refine E_icmp_ge (off := 7) (tgt := 51) (by decide +kernel) (by decide) (fun b4 => ?_) (fun b4 => ?_)
      · rw [if_pos b4] at h
        refine E_blk (lv' := [some (vr (some (2, this)))]) (st' := [vi (0 : Int32)]) (M1 := (sI M1 2 this 2 ((mI M1 2 this 2) + (1 : Int32)))) (pc' := 52) (tb_Words hγ) [.iconst 0] (by decide +kernel) rfl rfl trivial ?_
        exact E_zret rfl (Or.inl rfl) (by decide +kernel) h
      · rw [if_neg b4] at h
        refine E_blk (lv' := [some (vr (some (2, this)))]) (st' := [vi (1 : Int32)]) (M1 := (sI M1 2 this 2 ((mI M1 2 this 2) + (1 : Int32)))) (pc' := 48) (tb_Words hγ) [.iconst 1] (by decide +kernel) rfl rfl trivial ?_
        refine E_goto (off := 4) (tgt := 52) (by decide +kernel) (by decide) ?_
        exact E_zret rfl (Or.inr rfl) (by decide +kernel) h
    · rw [if_neg b3] at h
      refine E_blk (lv' := [some (vr (some (2, this)))]) (st' := []) (M1 := (sI M1 2 this 2 ((mI M1 2 this 2) + (1 : Int32)))) (pc' := 23) (tb_Words hγ) [.aload_n 0, .dup, .getfield 23, .iconst 1, .iadd, .putfield 23] (by decide +kernel) rfl rfl trivial ?_
      refine E_goto (off := -23) (tgt := 0) (by decide +kernel) (by decide) ?_
      refine E_mask [true] rfl ?_
      exact ih  (sI M1 2 this 2 ((mI M1 2 this 2) + (1 : Int32))) h
set_option maxRecDepth 4096 in
theorem lk_Words_line {γ : Gm} (hγ : Gk γ) (this : Nat) (Q : Int32 → Mem → Prop) (M : Mem) (h : w_Words_line this Q M) : E γ k_Words_line 1 0 [some (vr (some (2, this)))] [] M (Qi Q) := by
  unfold w_Words_line at h
  obtain ⟨n5, h⟩ := h
  refine E_mask [true] rfl ?_
  exact lk_Words_line_L0 hγ this Q n5  M h
def w_Reader_begin_L7 (this : Nat) (Q : Int32 → Mem → Prop) : Nat → Mem → Prop
  | 0, _ => False
  | n + 1, M => isK (mR M 2 0 3) ∧ if (mR M 2 0 3) = (some (0, 100 + 3)) then (w_Words_line 0 (fun r5 M4 => if r5 = 0 then (Q (0 : Int32) M4) else (w_Words_next 0 (fun M7 => (w_Reader_begin_L7 this Q n)  M7) M4)) M) else (Q (1 : Int32) (sI M 3 this 2 (mI M 2 0 4)))
def w_Reader_begin (this : Nat) (Q : Int32 → Mem → Prop) (M : Mem) : Prop :=
  w_Words_next 0 (fun M1 => ∃ n8 : Nat, w_Reader_begin_L7 this Q n8  M1) M
set_option maxRecDepth 4096 in
theorem lk_Reader_begin_L7 {γ : Gm} (hγ : Gk γ) (this : Nat) (Q : Int32 → Mem → Prop) : ∀ (n : Nat)  (M : Mem), w_Reader_begin_L7 this Q n  M → E γ k_Reader_begin 4 7 [some (vr (some (3, this)))] [] M (Qi Q) := by
  intro n
  induction n with
  | zero => intro  M h; exact h.elim
  | succ n ih =>
    intro  M h
    unfold w_Reader_begin_L7 at h
    refine E_blk (lv' := [some (vr (some (3, this)))]) (st' := [vr (mR M 2 0 3)]) (M1 := M) (pc' := 14) (tb_Reader hγ) [.aload_n 0, .getfield 20, .getfield 98] (by decide +kernel) rfl rfl trivial ?_
    refine E_gets (κ := k_Reader_begin) (pc := 14) (j := 3) (idx := 102) (n := "END") hγ.2.1 rfl (tbk_mem (j := 6) (k := 105) rfl) (by decide +kernel) ?_
    obtain ⟨c3, h⟩ := h
    refine E_acmp_ne (off := 25) (tgt := 42) hγ.2.1 c3 (isK_c 3 (by decide)) (by decide +kernel) (by decide) (fun b2 => ?_) (fun b2 => ?_)
    · rw [if_pos b2] at h
      refine E_blk (lv' := [some (vr (some (3, this)))]) (st' := [vr (some (2, 0))]) (M1 := M) (pc' := 24) (tb_Reader hγ) [.aload_n 0, .getfield 20] (by decide +kernel) rfl rfl trivial ?_
      refine E_callV (κ' := k_Words_line) (As := []) (st := []) mv_Words_line (Or.inl (tbk_mem (j := 6) (k := 106) rfl)) rfl (by decide +kernel) (Nat.le_of_ble_eq_true rfl) (Nat.le_of_ble_eq_true rfl) rfl (by decide) (lk_Words_line hγ 0 _ M h) (fun _ _ => Qi_r) (fun v M4 hp => Qi_k (R := fun st => E γ k_Reader_begin 4 27 [some (vr (some (3, this)))] st M4 (Qi Q)) hp (fun r5 h => ?_))
      refine E_if_ne (off := 5) (tgt := 32) (by decide +kernel) (by decide) (fun b6 => ?_) (fun b6 => ?_)
      · rw [if_pos b6] at h
        refine E_blk (lv' := [some (vr (some (3, this)))]) (st' := [vi (0 : Int32)]) (M1 := M4) (pc' := 31) (tb_Reader hγ) [.iconst 0] (by decide +kernel) rfl rfl trivial ?_
        exact E_zret rfl (Or.inl rfl) (by decide +kernel) h
      · rw [if_neg b6] at h
        refine E_blk (lv' := [some (vr (some (3, this)))]) (st' := [vr (some (2, 0))]) (M1 := M4) (pc' := 36) (tb_Reader hγ) [.aload_n 0, .getfield 20] (by decide +kernel) rfl rfl trivial ?_
        refine E_callV (κ' := k_Words_next) (As := []) (st := []) mv_Words_next (Or.inl (tbk_mem (j := 6) (k := 53) rfl)) rfl (by decide +kernel) (Nat.le_of_ble_eq_true rfl) (Nat.le_of_ble_eq_true rfl) rfl (by decide) (lk_Words_next hγ 0 _ M4 h) (fun _ _ => Qv_r) (fun v M7 hp => Qv_k (R := fun st => E γ k_Reader_begin 4 39 [some (vr (some (3, this)))] st M7 (Qi Q)) hp (fun h => ?_))
        refine E_goto (off := -32) (tgt := 7) (by decide +kernel) (by decide) ?_
        refine E_mask [true] rfl ?_
        exact ih  M7 h
    · rw [if_neg b2] at h
      refine E_blk (lv' := [some (vr (some (3, this)))]) (st' := [vi (1 : Int32)]) (M1 := (sI M 3 this 2 (mI M 2 0 4))) (pc' := 54) (tb_Reader hγ) [.aload_n 0, .aload_n 0, .getfield 20, .getfield 110, .putfield 113, .iconst 1] (by decide +kernel) rfl rfl trivial ?_
      exact E_zret rfl (Or.inr rfl) (by decide +kernel) h
set_option maxRecDepth 4096 in
theorem lk_Reader_begin {γ : Gm} (hγ : Gk γ) (this : Nat) (Q : Int32 → Mem → Prop) (M : Mem) (h : w_Reader_begin this Q M) : E γ k_Reader_begin 4 0 [some (vr (some (3, this)))] [] M (Qi Q) := by
  unfold w_Reader_begin at h
  refine E_blk (lv' := [some (vr (some (3, this)))]) (st' := [vr (some (2, 0))]) (M1 := M) (pc' := 4) (tb_Reader hγ) [.aload_n 0, .getfield 20] (by decide +kernel) rfl rfl trivial ?_
  refine E_callV (κ' := k_Words_next) (As := []) (st := []) mv_Words_next (Or.inl (tbk_mem (j := 6) (k := 53) rfl)) rfl (by decide +kernel) (Nat.le_of_ble_eq_true rfl) (Nat.le_of_ble_eq_true rfl) rfl (by decide) (lk_Words_next hγ 0 _ M h) (fun _ _ => Qv_r) (fun v M1 hp => Qv_k (R := fun st => E γ k_Reader_begin 4 7 [some (vr (some (3, this)))] st M1 (Qi Q)) hp (fun h => ?_))
  obtain ⟨n8, h⟩ := h
  refine E_mask [true] rfl ?_
  exact lk_Reader_begin_L7 hγ this Q n8  M1 h
def w_Words_isWord (this : Nat) (a1 : Int32) (Q : Int32 → Mem → Prop) (M : Mem) : Prop :=
  isK (mR M 2 this 3) ∧ if (mR M 2 this 3) = (some (0, 100 + 0)) then (if (mI M 2 this 5) = a1 then (Q (1 : Int32) M) else (Q (0 : Int32) M)) else (Q (0 : Int32) M)
set_option maxRecDepth 4096 in
theorem lk_Words_isWord {γ : Gm} (hγ : Gk γ) (this : Nat) (a1 : Int32) (Q : Int32 → Mem → Prop) (M : Mem) (h : w_Words_isWord this a1 Q M) : E γ k_Words_isWord 0 0 [some (vr (some (2, this))), some (vi a1)] [] M (Qi Q) := by
  unfold w_Words_isWord at h
  refine E_blk (lv' := [some (vr (some (2, this))), some (vi a1)]) (st' := [vr (mR M 2 this 3)]) (M1 := M) (pc' := 4) (tb_Words hγ) [.aload_n 0, .getfield 43] (by decide +kernel) rfl rfl trivial ?_
  refine E_gets (κ := k_Words_isWord) (pc := 4) (j := 0) (idx := 72) (n := "NAME") hγ.2.1 rfl (tbk_mem (j := 6) (k := 78) rfl) (by decide +kernel) ?_
  obtain ⟨c2, h⟩ := h
  refine E_acmp_ne (off := 15) (tgt := 22) hγ.2.1 c2 (isK_c 0 (by decide)) (by decide +kernel) (by decide) (fun b1 => ?_) (fun b1 => ?_)
  · rw [if_pos b1] at h
    refine E_blk (lv' := [some (vr (some (2, this))), some (vi a1)]) (st' := [vi a1, vi (mI M 2 this 5)]) (M1 := M) (pc' := 15) (tb_Words hγ) [.aload_n 0, .getfield 69, .iload_n 1] (by decide +kernel) rfl rfl trivial ?_
    refine E_icmp_ne (off := 7) (tgt := 22) (by decide +kernel) (by decide) (fun b3 => ?_) (fun b3 => ?_)
    · rw [if_pos b3] at h
      refine E_blk (lv' := [some (vr (some (2, this))), some (vi a1)]) (st' := [vi (1 : Int32)]) (M1 := M) (pc' := 19) (tb_Words hγ) [.iconst 1] (by decide +kernel) rfl rfl trivial ?_
      refine E_goto (off := 4) (tgt := 23) (by decide +kernel) (by decide) ?_
      exact E_zret rfl (Or.inr rfl) (by decide +kernel) h
    · rw [if_neg b3] at h
      refine E_blk (lv' := [some (vr (some (2, this))), some (vi a1)]) (st' := [vi (0 : Int32)]) (M1 := M) (pc' := 23) (tb_Words hγ) [.iconst 0] (by decide +kernel) rfl rfl trivial ?_
      exact E_zret rfl (Or.inl rfl) (by decide +kernel) h
  · rw [if_neg b1] at h
    refine E_blk (lv' := [some (vr (some (2, this))), some (vi a1)]) (st' := [vi (0 : Int32)]) (M1 := M) (pc' := 23) (tb_Words hγ) [.iconst 0] (by decide +kernel) rfl rfl trivial ?_
    exact E_zret rfl (Or.inl rfl) (by decide +kernel) h
def w_Reader_flags_j66 (this : Nat) (Q : Int32 → Mem → Prop) (k3 : Int32 → Int32 → Int32 → Int32 → Int32 → Mem → Prop) (v1 : Int32) (v2 : Int32) (v3 : Int32) (v4 : Int32) (v5 : Int32) (s0 : Int32) (M : Mem) : Prop :=
  if s0 = 0 then (Q v5 M) else (if (v5 &&& s0) = 0 then (w_Words_next 0 (fun M15 => k3 v1 v2 v3 v4 (v5 ||| s0) M15) M) else (Q v5 M))
def w_Reader_flags_L3 (this : Nat) (Q : Int32 → Mem → Prop) : Nat → Int32 → Int32 → Int32 → Int32 → Int32 → Mem → Prop
  | 0, _, _, _, _, _, _ => False
  | n + 1, v1, v2, v3, v4, v5, M => w_Words_isWord 0 v1 (fun r2 M1 => if r2 = 0 then (w_Words_isWord 0 v2 (fun r5 M4 => if r5 = 0 then (w_Words_isWord 0 v3 (fun r8 M7 => if r8 = 0 then (w_Words_isWord 0 v4 (fun r11 M10 => if r11 = 0 then (w_Reader_flags_j66 this Q (w_Reader_flags_L3 this Q n) v1 v2 v3 v4 v5 (0 : Int32) M10) else (w_Reader_flags_j66 this Q (w_Reader_flags_L3 this Q n) v1 v2 v3 v4 v5 (8 : Int32) M10)) M7) else (w_Reader_flags_j66 this Q (w_Reader_flags_L3 this Q n) v1 v2 v3 v4 v5 (4 : Int32) M7)) M4) else (w_Reader_flags_j66 this Q (w_Reader_flags_L3 this Q n) v1 v2 v3 v4 v5 (2 : Int32) M4)) M1) else (w_Reader_flags_j66 this Q (w_Reader_flags_L3 this Q n) v1 v2 v3 v4 v5 (1 : Int32) M1)) M
def w_Reader_flags (this : Nat) (a1 : Int32) (a2 : Int32) (a3 : Int32) (a4 : Int32) (Q : Int32 → Mem → Prop) (M : Mem) : Prop :=
  ∃ n16 : Nat, w_Reader_flags_L3 this Q n16 a1 a2 a3 a4 (0 : Int32) M
set_option maxRecDepth 4096 in
theorem lk_Reader_flags_j66 {γ : Gm} (hγ : Gk γ) (this : Nat) (Q : Int32 → Mem → Prop) (k3 : Int32 → Int32 → Int32 → Int32 → Int32 → Mem → Prop) (hk3 : ∀ (v1 : Int32) (v2 : Int32) (v3 : Int32) (v4 : Int32) (v5 : Int32) (M : Mem), k3 v1 v2 v3 v4 v5 M → E γ k_Reader_flags 4 3 [some (vr (some (3, this))), some (vi v1), some (vi v2), some (vi v3), some (vi v4), some (vi v5), none] [] M (Qi Q)) (v1 : Int32) (v2 : Int32) (v3 : Int32) (v4 : Int32) (v5 : Int32) (s0 : Int32) (M : Mem) (h : w_Reader_flags_j66 this Q k3 v1 v2 v3 v4 v5 s0 M) : E γ k_Reader_flags 4 66 [some (vr (some (3, this))), some (vi v1), some (vi v2), some (vi v3), some (vi v4), some (vi v5), none] [vi s0] M (Qi Q) := by
  unfold w_Reader_flags_j66 at h
  refine E_blk (lv' := [some (vr (some (3, this))), some (vi v1), some (vi v2), some (vi v3), some (vi v4), some (vi v5), some (vi s0)]) (st' := [vi s0]) (M1 := M) (pc' := 70) (tb_Reader hγ) [.istore 6, .iload 6] (by decide +kernel) rfl rfl trivial ?_
  refine E_if_eq (off := 11) (tgt := 81) (by decide +kernel) (by decide) (fun b13 => ?_) (fun b13 => ?_)
  · rw [if_pos b13] at h
    refine E_blk (lv' := [some (vr (some (3, this))), some (vi v1), some (vi v2), some (vi v3), some (vi v4), some (vi v5), some (vi s0)]) (st' := [vi v5]) (M1 := M) (pc' := 83) (tb_Reader hγ) [.iload 5] (by decide +kernel) rfl rfl trivial ?_
    exact E_iret rfl (by decide +kernel) h
  · rw [if_neg b13] at h
    refine E_blk (lv' := [some (vr (some (3, this))), some (vi v1), some (vi v2), some (vi v3), some (vi v4), some (vi v5), some (vi s0)]) (st' := [vi (v5 &&& s0)]) (M1 := M) (pc' := 78) (tb_Reader hγ) [.iload 5, .iload 6, .iand] (by decide +kernel) rfl rfl trivial ?_
    refine E_if_eq (off := 6) (tgt := 84) (by decide +kernel) (by decide) (fun b14 => ?_) (fun b14 => ?_)
    · rw [if_pos b14] at h
      refine E_blk (lv' := [some (vr (some (3, this))), some (vi v1), some (vi v2), some (vi v3), some (vi v4), some (vi (v5 ||| s0)), some (vi s0)]) (st' := [vr (some (2, 0))]) (M1 := M) (pc' := 95) (tb_Reader hγ) [.iload 5, .iload 6, .ior, .istore 5, .aload_n 0, .getfield 20] (by decide +kernel) rfl rfl trivial ?_
      refine E_callV (κ' := k_Words_next) (As := []) (st := []) mv_Words_next (Or.inl (tbk_mem (j := 6) (k := 53) rfl)) rfl (by decide +kernel) (Nat.le_of_ble_eq_true rfl) (Nat.le_of_ble_eq_true rfl) rfl (by decide) (lk_Words_next hγ 0 _ M h) (fun _ _ => Qv_r) (fun v M15 hp => Qv_k (R := fun st => E γ k_Reader_flags 4 98 [some (vr (some (3, this))), some (vi v1), some (vi v2), some (vi v3), some (vi v4), some (vi (v5 ||| s0)), some (vi s0)] st M15 (Qi Q)) hp (fun h => ?_))
      refine E_goto (off := -95) (tgt := 3) (by decide +kernel) (by decide) ?_
      refine E_mask [true, true, true, true, true, true, false] rfl ?_
      exact hk3 v1 v2 v3 v4 (v5 ||| s0) M15 h
    · rw [if_neg b14] at h
      refine E_blk (lv' := [some (vr (some (3, this))), some (vi v1), some (vi v2), some (vi v3), some (vi v4), some (vi v5), some (vi s0)]) (st' := [vi v5]) (M1 := M) (pc' := 83) (tb_Reader hγ) [.iload 5] (by decide +kernel) rfl rfl trivial ?_
      exact E_iret rfl (by decide +kernel) h
set_option maxRecDepth 4096 in
theorem lk_Reader_flags_L3 {γ : Gm} (hγ : Gk γ) (this : Nat) (Q : Int32 → Mem → Prop) : ∀ (n : Nat) (v1 : Int32) (v2 : Int32) (v3 : Int32) (v4 : Int32) (v5 : Int32) (M : Mem), w_Reader_flags_L3 this Q n v1 v2 v3 v4 v5 M → E γ k_Reader_flags 4 3 [some (vr (some (3, this))), some (vi v1), some (vi v2), some (vi v3), some (vi v4), some (vi v5), none] [] M (Qi Q) := by
  intro n
  induction n with
  | zero => intro v1 v2 v3 v4 v5 M h; exact h.elim
  | succ n ih =>
    intro v1 v2 v3 v4 v5 M h
    unfold w_Reader_flags_L3 at h
    refine E_blk (lv' := [some (vr (some (3, this))), some (vi v1), some (vi v2), some (vi v3), some (vi v4), some (vi v5), none]) (st' := [vi v1, vr (some (2, 0))]) (M1 := M) (pc' := 8) (tb_Reader hγ) [.aload_n 0, .getfield 20, .iload_n 1] (by decide +kernel) rfl rfl trivial ?_
    refine E_callV (κ' := k_Words_isWord) (As := [vi v1]) (st := []) mv_Words_isWord (Or.inl (tbk_mem (j := 6) (k := 118) rfl)) rfl (by decide +kernel) (Nat.le_of_ble_eq_true rfl) (Nat.le_of_ble_eq_true rfl) rfl (by decide) (lk_Words_isWord hγ 0 v1 _ M h) (fun _ _ => Qi_r) (fun v M1 hp => Qi_k (R := fun st => E γ k_Reader_flags 4 11 [some (vr (some (3, this))), some (vi v1), some (vi v2), some (vi v3), some (vi v4), some (vi v5), none] st M1 (Qi Q)) hp (fun r2 h => ?_))
    refine E_if_eq (off := 7) (tgt := 18) (by decide +kernel) (by decide) (fun b3 => ?_) (fun b3 => ?_)
    · rw [if_pos b3] at h
      refine E_blk (lv' := [some (vr (some (3, this))), some (vi v1), some (vi v2), some (vi v3), some (vi v4), some (vi v5), none]) (st' := [vi v2, vr (some (2, 0))]) (M1 := M1) (pc' := 23) (tb_Reader hγ) [.aload_n 0, .getfield 20, .iload_n 2] (by decide +kernel) rfl rfl trivial ?_
      refine E_callV (κ' := k_Words_isWord) (As := [vi v2]) (st := []) mv_Words_isWord (Or.inl (tbk_mem (j := 6) (k := 118) rfl)) rfl (by decide +kernel) (Nat.le_of_ble_eq_true rfl) (Nat.le_of_ble_eq_true rfl) rfl (by decide) (lk_Words_isWord hγ 0 v2 _ M1 h) (fun _ _ => Qi_r) (fun v M4 hp => Qi_k (R := fun st => E γ k_Reader_flags 4 26 [some (vr (some (3, this))), some (vi v1), some (vi v2), some (vi v3), some (vi v4), some (vi v5), none] st M4 (Qi Q)) hp (fun r5 h => ?_))
      refine E_if_eq (off := 7) (tgt := 33) (by decide +kernel) (by decide) (fun b6 => ?_) (fun b6 => ?_)
      · rw [if_pos b6] at h
        refine E_blk (lv' := [some (vr (some (3, this))), some (vi v1), some (vi v2), some (vi v3), some (vi v4), some (vi v5), none]) (st' := [vi v3, vr (some (2, 0))]) (M1 := M4) (pc' := 38) (tb_Reader hγ) [.aload_n 0, .getfield 20, .iload_n 3] (by decide +kernel) rfl rfl trivial ?_
        refine E_callV (κ' := k_Words_isWord) (As := [vi v3]) (st := []) mv_Words_isWord (Or.inl (tbk_mem (j := 6) (k := 118) rfl)) rfl (by decide +kernel) (Nat.le_of_ble_eq_true rfl) (Nat.le_of_ble_eq_true rfl) rfl (by decide) (lk_Words_isWord hγ 0 v3 _ M4 h) (fun _ _ => Qi_r) (fun v M7 hp => Qi_k (R := fun st => E γ k_Reader_flags 4 41 [some (vr (some (3, this))), some (vi v1), some (vi v2), some (vi v3), some (vi v4), some (vi v5), none] st M7 (Qi Q)) hp (fun r8 h => ?_))
        refine E_if_eq (off := 7) (tgt := 48) (by decide +kernel) (by decide) (fun b9 => ?_) (fun b9 => ?_)
        · rw [if_pos b9] at h
          refine E_blk (lv' := [some (vr (some (3, this))), some (vi v1), some (vi v2), some (vi v3), some (vi v4), some (vi v5), none]) (st' := [vi v4, vr (some (2, 0))]) (M1 := M7) (pc' := 54) (tb_Reader hγ) [.aload_n 0, .getfield 20, .iload 4] (by decide +kernel) rfl rfl trivial ?_
          refine E_callV (κ' := k_Words_isWord) (As := [vi v4]) (st := []) mv_Words_isWord (Or.inl (tbk_mem (j := 6) (k := 118) rfl)) rfl (by decide +kernel) (Nat.le_of_ble_eq_true rfl) (Nat.le_of_ble_eq_true rfl) rfl (by decide) (lk_Words_isWord hγ 0 v4 _ M7 h) (fun _ _ => Qi_r) (fun v M10 hp => Qi_k (R := fun st => E γ k_Reader_flags 4 57 [some (vr (some (3, this))), some (vi v1), some (vi v2), some (vi v3), some (vi v4), some (vi v5), none] st M10 (Qi Q)) hp (fun r11 h => ?_))
          refine E_if_eq (off := 8) (tgt := 65) (by decide +kernel) (by decide) (fun b12 => ?_) (fun b12 => ?_)
          · rw [if_pos b12] at h
            refine E_blk (lv' := [some (vr (some (3, this))), some (vi v1), some (vi v2), some (vi v3), some (vi v4), some (vi v5), none]) (st' := [vi (0 : Int32)]) (M1 := M10) (pc' := 66) (tb_Reader hγ) [.iconst 0] (by decide +kernel) rfl rfl trivial ?_
            refine E_mask [true, true, true, true, true, true, false] rfl ?_
            exact lk_Reader_flags_j66 hγ this Q (w_Reader_flags_L3 this Q n) ih v1 v2 v3 v4 v5 (0 : Int32) M10 h
          · rw [if_neg b12] at h
            refine E_blk (lv' := [some (vr (some (3, this))), some (vi v1), some (vi v2), some (vi v3), some (vi v4), some (vi v5), none]) (st' := [vi (8 : Int32)]) (M1 := M10) (pc' := 62) (tb_Reader hγ) [.bipush 8] (by decide +kernel) rfl rfl trivial ?_
            refine E_goto (off := 4) (tgt := 66) (by decide +kernel) (by decide) ?_
            refine E_mask [true, true, true, true, true, true, false] rfl ?_
            exact lk_Reader_flags_j66 hγ this Q (w_Reader_flags_L3 this Q n) ih v1 v2 v3 v4 v5 (8 : Int32) M10 h
        · rw [if_neg b9] at h
          refine E_blk (lv' := [some (vr (some (3, this))), some (vi v1), some (vi v2), some (vi v3), some (vi v4), some (vi v5), none]) (st' := [vi (4 : Int32)]) (M1 := M7) (pc' := 45) (tb_Reader hγ) [.iconst 4] (by decide +kernel) rfl rfl trivial ?_
          refine E_goto (off := 21) (tgt := 66) (by decide +kernel) (by decide) ?_
          refine E_mask [true, true, true, true, true, true, false] rfl ?_
          exact lk_Reader_flags_j66 hγ this Q (w_Reader_flags_L3 this Q n) ih v1 v2 v3 v4 v5 (4 : Int32) M7 h
      · rw [if_neg b6] at h
        refine E_blk (lv' := [some (vr (some (3, this))), some (vi v1), some (vi v2), some (vi v3), some (vi v4), some (vi v5), none]) (st' := [vi (2 : Int32)]) (M1 := M4) (pc' := 30) (tb_Reader hγ) [.iconst 2] (by decide +kernel) rfl rfl trivial ?_
        refine E_goto (off := 36) (tgt := 66) (by decide +kernel) (by decide) ?_
        refine E_mask [true, true, true, true, true, true, false] rfl ?_
        exact lk_Reader_flags_j66 hγ this Q (w_Reader_flags_L3 this Q n) ih v1 v2 v3 v4 v5 (2 : Int32) M4 h
    · rw [if_neg b3] at h
      refine E_blk (lv' := [some (vr (some (3, this))), some (vi v1), some (vi v2), some (vi v3), some (vi v4), some (vi v5), none]) (st' := [vi (1 : Int32)]) (M1 := M1) (pc' := 15) (tb_Reader hγ) [.iconst 1] (by decide +kernel) rfl rfl trivial ?_
      refine E_goto (off := 51) (tgt := 66) (by decide +kernel) (by decide) ?_
      refine E_mask [true, true, true, true, true, true, false] rfl ?_
      exact lk_Reader_flags_j66 hγ this Q (w_Reader_flags_L3 this Q n) ih v1 v2 v3 v4 v5 (1 : Int32) M1 h
set_option maxRecDepth 4096 in
theorem lk_Reader_flags {γ : Gm} (hγ : Gk γ) (this : Nat) (a1 : Int32) (a2 : Int32) (a3 : Int32) (a4 : Int32) (Q : Int32 → Mem → Prop) (M : Mem) (h : w_Reader_flags this a1 a2 a3 a4 Q M) : E γ k_Reader_flags 4 0 [some (vr (some (3, this))), some (vi a1), some (vi a2), some (vi a3), some (vi a4), none, none] [] M (Qi Q) := by
  unfold w_Reader_flags at h
  refine E_blk (lv' := [some (vr (some (3, this))), some (vi a1), some (vi a2), some (vi a3), some (vi a4), some (vi (0 : Int32)), none]) (st' := []) (M1 := M) (pc' := 3) (tb_Reader hγ) [.iconst 0, .istore 5] (by decide +kernel) rfl rfl trivial ?_
  obtain ⟨n16, h⟩ := h
  refine E_mask [true, true, true, true, true, true, false] rfl ?_
  exact lk_Reader_flags_L3 hγ this Q n16 a1 a2 a3 a4 (0 : Int32) M h
def w_Reader_wrong (this : Nat) (Q : Nat → Mem → Prop) (M : Mem) : Prop :=
  w_Works_refuse 0 (1 : Int32) (mI M 2 0 4) (fun i2 M1 => Q i2 M1) M
set_option maxRecDepth 4096 in
theorem lk_Reader_wrong {γ : Gm} (hγ : Gk γ) (this : Nat) (Q : Nat → Mem → Prop) (M : Mem) (h : w_Reader_wrong this Q M) : E γ k_Reader_wrong 1 0 [some (vr (some (3, this)))] [] M (Qr 9 Q) := by
  unfold w_Reader_wrong at h
  refine E_blk (lv' := [some (vr (some (3, this)))]) (st' := [vi (mI M 2 0 4), vi (1 : Int32), vr (some (10, 0))]) (M1 := M) (pc' := 12) (tb_Reader hγ) [.aload_n 0, .getfield 3, .iconst 1, .aload_n 0, .getfield 20, .getfield 110] (by decide +kernel) rfl rfl trivial ?_
  refine E_callV (κ' := k_Works_refuse) (As := [vi (1 : Int32), vi (mI M 2 0 4)]) (st := []) mv_Works_refuse (Or.inr ⟨"ClassWorks", (tbk_mem (j := 6) (k := 126) rfl)⟩) rfl (by decide +kernel) (Nat.le_of_ble_eq_true rfl) (Nat.le_of_ble_eq_true rfl) rfl (by decide) (lk_Works_refuse hγ 0 (1 : Int32) (mI M 2 0 4) _ M h) (fun _ _ => Qr_r) (fun v M1 hp => Qr_k (R := fun st => E γ k_Reader_wrong 1 15 [some (vr (some (3, this)))] st M1 (Qr 9 Q)) hp (fun i2 h => ?_))
  exact E_aret rfl rfl (by decide +kernel) h
def w_Reader_isNoClass (this : Nat) (a1 : Int32) (Q : Int32 → Mem → Prop) (M : Mem) : Prop :=
  if a1 = (1 : Int32) then (Q (1 : Int32) M) else (if a1 = (73 : Int32) then (Q (1 : Int32) M) else (if a1 = (74 : Int32) then (Q (1 : Int32) M) else (if a1 = (2 : Int32) then (Q (1 : Int32) M) else (if a1 = (75 : Int32) then (Q (1 : Int32) M) else (if a1 = (76 : Int32) then (Q (1 : Int32) M) else (if a1 = (77 : Int32) then (Q (1 : Int32) M) else (if a1 = (79 : Int32) then (Q (1 : Int32) M) else (if a1 = (80 : Int32) then (Q (1 : Int32) M) else (Q (0 : Int32) M)))))))))
set_option maxRecDepth 4096 in
theorem lk_Reader_isNoClass {γ : Gm} (hγ : Gk γ) (this : Nat) (a1 : Int32) (Q : Int32 → Mem → Prop) (M : Mem) (h : w_Reader_isNoClass this a1 Q M) : E γ k_Reader_isNoClass 0 0 [some (vr (some (3, this))), some (vi a1)] [] M (Qi Q) := by
  unfold w_Reader_isNoClass at h
  refine E_blk (lv' := [some (vr (some (3, this))), some (vi a1)]) (st' := [vi (1 : Int32), vi a1]) (M1 := M) (pc' := 2) (tb_Reader hγ) [.iload_n 1, .iconst 1] (by decide +kernel) rfl rfl trivial ?_
  refine E_icmp_eq (off := 50) (tgt := 52) (by decide +kernel) (by decide) (fun b1 => ?_) (fun b1 => ?_)
  · rw [if_pos b1] at h
    refine E_blk (lv' := [some (vr (some (3, this))), some (vi a1)]) (st' := [vi (1 : Int32)]) (M1 := M) (pc' := 53) (tb_Reader hγ) [.iconst 1] (by decide +kernel) rfl rfl trivial ?_
    refine E_goto (off := 4) (tgt := 57) (by decide +kernel) (by decide) ?_
    exact E_zret rfl (Or.inr rfl) (by decide +kernel) h
  · rw [if_neg b1] at h
    refine E_blk (lv' := [some (vr (some (3, this))), some (vi a1)]) (st' := [vi (73 : Int32), vi a1]) (M1 := M) (pc' := 8) (tb_Reader hγ) [.iload_n 1, .bipush 73] (by decide +kernel) rfl rfl trivial ?_
    refine E_icmp_eq (off := 44) (tgt := 52) (by decide +kernel) (by decide) (fun b2 => ?_) (fun b2 => ?_)
    · rw [if_pos b2] at h
      refine E_blk (lv' := [some (vr (some (3, this))), some (vi a1)]) (st' := [vi (1 : Int32)]) (M1 := M) (pc' := 53) (tb_Reader hγ) [.iconst 1] (by decide +kernel) rfl rfl trivial ?_
      refine E_goto (off := 4) (tgt := 57) (by decide +kernel) (by decide) ?_
      exact E_zret rfl (Or.inr rfl) (by decide +kernel) h
    · rw [if_neg b2] at h
      refine E_blk (lv' := [some (vr (some (3, this))), some (vi a1)]) (st' := [vi (74 : Int32), vi a1]) (M1 := M) (pc' := 14) (tb_Reader hγ) [.iload_n 1, .bipush 74] (by decide +kernel) rfl rfl trivial ?_
      refine E_icmp_eq (off := 38) (tgt := 52) (by decide +kernel) (by decide) (fun b3 => ?_) (fun b3 => ?_)
      · rw [if_pos b3] at h
        refine E_blk (lv' := [some (vr (some (3, this))), some (vi a1)]) (st' := [vi (1 : Int32)]) (M1 := M) (pc' := 53) (tb_Reader hγ) [.iconst 1] (by decide +kernel) rfl rfl trivial ?_
        refine E_goto (off := 4) (tgt := 57) (by decide +kernel) (by decide) ?_
        exact E_zret rfl (Or.inr rfl) (by decide +kernel) h
      · rw [if_neg b3] at h
        refine E_blk (lv' := [some (vr (some (3, this))), some (vi a1)]) (st' := [vi (2 : Int32), vi a1]) (M1 := M) (pc' := 19) (tb_Reader hγ) [.iload_n 1, .iconst 2] (by decide +kernel) rfl rfl trivial ?_
        refine E_icmp_eq (off := 33) (tgt := 52) (by decide +kernel) (by decide) (fun b4 => ?_) (fun b4 => ?_)
        · rw [if_pos b4] at h
          refine E_blk (lv' := [some (vr (some (3, this))), some (vi a1)]) (st' := [vi (1 : Int32)]) (M1 := M) (pc' := 53) (tb_Reader hγ) [.iconst 1] (by decide +kernel) rfl rfl trivial ?_
          refine E_goto (off := 4) (tgt := 57) (by decide +kernel) (by decide) ?_
          exact E_zret rfl (Or.inr rfl) (by decide +kernel) h
        · rw [if_neg b4] at h
          refine E_blk (lv' := [some (vr (some (3, this))), some (vi a1)]) (st' := [vi (75 : Int32), vi a1]) (M1 := M) (pc' := 25) (tb_Reader hγ) [.iload_n 1, .bipush 75] (by decide +kernel) rfl rfl trivial ?_
          refine E_icmp_eq (off := 27) (tgt := 52) (by decide +kernel) (by decide) (fun b5 => ?_) (fun b5 => ?_)
          · rw [if_pos b5] at h
            refine E_blk (lv' := [some (vr (some (3, this))), some (vi a1)]) (st' := [vi (1 : Int32)]) (M1 := M) (pc' := 53) (tb_Reader hγ) [.iconst 1] (by decide +kernel) rfl rfl trivial ?_
            refine E_goto (off := 4) (tgt := 57) (by decide +kernel) (by decide) ?_
            exact E_zret rfl (Or.inr rfl) (by decide +kernel) h
          · rw [if_neg b5] at h
            refine E_blk (lv' := [some (vr (some (3, this))), some (vi a1)]) (st' := [vi (76 : Int32), vi a1]) (M1 := M) (pc' := 31) (tb_Reader hγ) [.iload_n 1, .bipush 76] (by decide +kernel) rfl rfl trivial ?_
            refine E_icmp_eq (off := 21) (tgt := 52) (by decide +kernel) (by decide) (fun b6 => ?_) (fun b6 => ?_)
            · rw [if_pos b6] at h
              refine E_blk (lv' := [some (vr (some (3, this))), some (vi a1)]) (st' := [vi (1 : Int32)]) (M1 := M) (pc' := 53) (tb_Reader hγ) [.iconst 1] (by decide +kernel) rfl rfl trivial ?_
              refine E_goto (off := 4) (tgt := 57) (by decide +kernel) (by decide) ?_
              exact E_zret rfl (Or.inr rfl) (by decide +kernel) h
            · rw [if_neg b6] at h
              refine E_blk (lv' := [some (vr (some (3, this))), some (vi a1)]) (st' := [vi (77 : Int32), vi a1]) (M1 := M) (pc' := 37) (tb_Reader hγ) [.iload_n 1, .bipush 77] (by decide +kernel) rfl rfl trivial ?_
              refine E_icmp_eq (off := 15) (tgt := 52) (by decide +kernel) (by decide) (fun b7 => ?_) (fun b7 => ?_)
              · rw [if_pos b7] at h
                refine E_blk (lv' := [some (vr (some (3, this))), some (vi a1)]) (st' := [vi (1 : Int32)]) (M1 := M) (pc' := 53) (tb_Reader hγ) [.iconst 1] (by decide +kernel) rfl rfl trivial ?_
                refine E_goto (off := 4) (tgt := 57) (by decide +kernel) (by decide) ?_
                exact E_zret rfl (Or.inr rfl) (by decide +kernel) h
              · rw [if_neg b7] at h
                refine E_blk (lv' := [some (vr (some (3, this))), some (vi a1)]) (st' := [vi (79 : Int32), vi a1]) (M1 := M) (pc' := 43) (tb_Reader hγ) [.iload_n 1, .bipush 79] (by decide +kernel) rfl rfl trivial ?_
                refine E_icmp_eq (off := 9) (tgt := 52) (by decide +kernel) (by decide) (fun b8 => ?_) (fun b8 => ?_)
                · rw [if_pos b8] at h
                  refine E_blk (lv' := [some (vr (some (3, this))), some (vi a1)]) (st' := [vi (1 : Int32)]) (M1 := M) (pc' := 53) (tb_Reader hγ) [.iconst 1] (by decide +kernel) rfl rfl trivial ?_
                  refine E_goto (off := 4) (tgt := 57) (by decide +kernel) (by decide) ?_
                  exact E_zret rfl (Or.inr rfl) (by decide +kernel) h
                · rw [if_neg b8] at h
                  refine E_blk (lv' := [some (vr (some (3, this))), some (vi a1)]) (st' := [vi (80 : Int32), vi a1]) (M1 := M) (pc' := 49) (tb_Reader hγ) [.iload_n 1, .bipush 80] (by decide +kernel) rfl rfl trivial ?_
                  refine E_icmp_ne (off := 7) (tgt := 56) (by decide +kernel) (by decide) (fun b9 => ?_) (fun b9 => ?_)
                  · rw [if_pos b9] at h
                    refine E_blk (lv' := [some (vr (some (3, this))), some (vi a1)]) (st' := [vi (1 : Int32)]) (M1 := M) (pc' := 53) (tb_Reader hγ) [.iconst 1] (by decide +kernel) rfl rfl trivial ?_
                    refine E_goto (off := 4) (tgt := 57) (by decide +kernel) (by decide) ?_
                    exact E_zret rfl (Or.inr rfl) (by decide +kernel) h
                  · rw [if_neg b9] at h
                    refine E_blk (lv' := [some (vr (some (3, this))), some (vi a1)]) (st' := [vi (0 : Int32)]) (M1 := M) (pc' := 57) (tb_Reader hγ) [.iconst 0] (by decide +kernel) rfl rfl trivial ?_
                    exact E_zret rfl (Or.inl rfl) (by decide +kernel) h
def w_Reader_className_j27 (this : Nat) (Q : Int32 → Mem → Prop) (X : Mem → Prop)  (M : Mem) : Prop :=
  w_Reader_wrong this (fun i8 M7 => i8 = 0 ∧ X M7) M
def w_Reader_className (this : Nat) (Q : Int32 → Mem → Prop) (X : Mem → Prop) (M : Mem) : Prop :=
  isK (mR M 2 0 3) ∧ if (mR M 2 0 3) = (some (0, 100 + 0)) then (w_Reader_isNoClass this (mI M 2 0 5) (fun r4 M3 => if r4 = 0 then (w_Words_next 0 (fun M6 => Q (mI M3 2 0 5) M6) M3) else (w_Reader_className_j27 this Q X  M3)) M) else (w_Reader_className_j27 this Q X  M)
set_option maxRecDepth 4096 in
theorem lk_Reader_className_j27 {γ : Gm} (hγ : Gk γ) (this : Nat) (Q : Int32 → Mem → Prop) (X : Mem → Prop)  (M : Mem) (h : w_Reader_className_j27 this Q X  M) : E γ k_Reader_className 4 27 [some (vr (some (3, this))), none] [] M (Qx (9, 0) (Qi Q) X) := by
  unfold w_Reader_className_j27 at h
  refine E_blk (lv' := [some (vr (some (3, this))), none]) (st' := [vr (some (3, this))]) (M1 := M) (pc' := 28) (tb_Reader hγ) [.aload_n 0] (by decide +kernel) rfl rfl trivial ?_
  refine E_callV (κ' := k_Reader_wrong) (As := []) (st := []) mv_Reader_wrong (Or.inl (tbk_mem (j := 6) (k := 122) rfl)) rfl (by decide +kernel) (Nat.le_of_ble_eq_true rfl) (Nat.le_of_ble_eq_true rfl) rfl (by decide) (lk_Reader_wrong hγ this _ M h) (fun _ _ => Qr_r) (fun v M7 hp => Qr_k (R := fun st => E γ k_Reader_className 4 31 [some (vr (some (3, this))), none] st M7 (Qx (9, 0) (Qi Q) X)) hp (fun i8 h => ?_))
  obtain ⟨e0, h⟩ := h
  rw [e0]
  exact E_throw (by decide) rfl (by decide +kernel) h
set_option maxRecDepth 4096 in
theorem lk_Reader_className {γ : Gm} (hγ : Gk γ) (this : Nat) (Q : Int32 → Mem → Prop) (X : Mem → Prop) (M : Mem) (h : w_Reader_className this Q X M) : E γ k_Reader_className 4 0 [some (vr (some (3, this))), none] [] M (Qx (9, 0) (Qi Q) X) := by
  unfold w_Reader_className at h
  refine E_blk (lv' := [some (vr (some (3, this))), none]) (st' := [vr (mR M 2 0 3)]) (M1 := M) (pc' := 7) (tb_Reader hγ) [.aload_n 0, .getfield 20, .getfield 98] (by decide +kernel) rfl rfl trivial ?_
  refine E_gets (κ := k_Reader_className) (pc := 7) (j := 0) (idx := 133) (n := "NAME") hγ.2.1 rfl (tbk_mem (j := 6) (k := 134) rfl) (by decide +kernel) ?_
  obtain ⟨c2, h⟩ := h
  refine E_acmp_ne (off := 17) (tgt := 27) hγ.2.1 c2 (isK_c 0 (by decide)) (by decide +kernel) (by decide) (fun b1 => ?_) (fun b1 => ?_)
  · rw [if_pos b1] at h
    refine E_blk (lv' := [some (vr (some (3, this))), none]) (st' := [vi (mI M 2 0 5), vr (some (3, this))]) (M1 := M) (pc' := 21) (tb_Reader hγ) [.aload_n 0, .aload_n 0, .getfield 20, .getfield 136] (by decide +kernel) rfl rfl trivial ?_
    refine E_callV (κ' := k_Reader_isNoClass) (As := [vi (mI M 2 0 5)]) (st := []) mv_Reader_isNoClass (Or.inl (tbk_mem (j := 6) (k := 135) rfl)) rfl (by decide +kernel) (Nat.le_of_ble_eq_true rfl) (Nat.le_of_ble_eq_true rfl) rfl (by decide) (lk_Reader_isNoClass hγ this (mI M 2 0 5) _ M h) (fun _ _ => Qi_r) (fun v M3 hp => Qi_k (R := fun st => E γ k_Reader_className 4 24 [some (vr (some (3, this))), none] st M3 (Qx (9, 0) (Qi Q) X)) hp (fun r4 h => ?_))
    refine E_if_eq (off := 8) (tgt := 32) (by decide +kernel) (by decide) (fun b5 => ?_) (fun b5 => ?_)
    · rw [if_pos b5] at h
      refine E_blk (lv' := [some (vr (some (3, this))), some (vi (mI M3 2 0 5))]) (st' := [vr (some (2, 0))]) (M1 := M3) (pc' := 44) (tb_Reader hγ) [.aload_n 0, .getfield 20, .getfield 136, .istore_n 1, .aload_n 0, .getfield 20] (by decide +kernel) rfl rfl trivial ?_
      refine E_callV (κ' := k_Words_next) (As := []) (st := []) mv_Words_next (Or.inl (tbk_mem (j := 6) (k := 53) rfl)) rfl (by decide +kernel) (Nat.le_of_ble_eq_true rfl) (Nat.le_of_ble_eq_true rfl) rfl (by decide) (lk_Words_next hγ 0 _ M3 h) (fun _ _ => Qv_r) (fun v M6 hp => Qv_k (R := fun st => E γ k_Reader_className 4 47 [some (vr (some (3, this))), some (vi (mI M3 2 0 5))] st M6 (Qx (9, 0) (Qi Q) X)) hp (fun h => ?_))
      refine E_blk (lv' := [some (vr (some (3, this))), some (vi (mI M3 2 0 5))]) (st' := [vi (mI M3 2 0 5)]) (M1 := M6) (pc' := 48) (tb_Reader hγ) [.iload_n 1] (by decide +kernel) rfl rfl trivial ?_
      exact (E_iret rfl (by decide +kernel) h).nx
    · rw [if_neg b5] at h
      refine E_mask [true, false] rfl ?_
      exact lk_Reader_className_j27 hγ this Q X  M3 h
  · rw [if_neg b1] at h
    refine E_mask [true, false] rfl ?_
    exact lk_Reader_className_j27 hγ this Q X  M h
def w_Words_isSign (this : Nat) (a1 : Int32) (Q : Int32 → Mem → Prop) (M : Mem) : Prop :=
  isK (mR M 2 this 3) ∧ if (mR M 2 this 3) = (some (0, 100 + 2)) then (if (mI M 2 this 5) = a1 then (Q (1 : Int32) M) else (Q (0 : Int32) M)) else (Q (0 : Int32) M)
set_option maxRecDepth 4096 in
theorem lk_Words_isSign {γ : Gm} (hγ : Gk γ) (this : Nat) (a1 : Int32) (Q : Int32 → Mem → Prop) (M : Mem) (h : w_Words_isSign this a1 Q M) : E γ k_Words_isSign 0 0 [some (vr (some (2, this))), some (vi a1)] [] M (Qi Q) := by
  unfold w_Words_isSign at h
  refine E_blk (lv' := [some (vr (some (2, this))), some (vi a1)]) (st' := [vr (mR M 2 this 3)]) (M1 := M) (pc' := 4) (tb_Words hγ) [.aload_n 0, .getfield 43] (by decide +kernel) rfl rfl trivial ?_
  refine E_gets (κ := k_Words_isSign) (pc := 4) (j := 2) (idx := 66) (n := "SIGN") hγ.2.1 rfl (tbk_mem (j := 6) (k := 103) rfl) (by decide +kernel) ?_
  obtain ⟨c2, h⟩ := h
  refine E_acmp_ne (off := 15) (tgt := 22) hγ.2.1 c2 (isK_c 2 (by decide)) (by decide +kernel) (by decide) (fun b1 => ?_) (fun b1 => ?_)
  · rw [if_pos b1] at h
    refine E_blk (lv' := [some (vr (some (2, this))), some (vi a1)]) (st' := [vi a1, vi (mI M 2 this 5)]) (M1 := M) (pc' := 15) (tb_Words hγ) [.aload_n 0, .getfield 69, .iload_n 1] (by decide +kernel) rfl rfl trivial ?_
    refine E_icmp_ne (off := 7) (tgt := 22) (by decide +kernel) (by decide) (fun b3 => ?_) (fun b3 => ?_)
    · rw [if_pos b3] at h
      refine E_blk (lv' := [some (vr (some (2, this))), some (vi a1)]) (st' := [vi (1 : Int32)]) (M1 := M) (pc' := 19) (tb_Words hγ) [.iconst 1] (by decide +kernel) rfl rfl trivial ?_
      refine E_goto (off := 4) (tgt := 23) (by decide +kernel) (by decide) ?_
      exact E_zret rfl (Or.inr rfl) (by decide +kernel) h
    · rw [if_neg b3] at h
      refine E_blk (lv' := [some (vr (some (2, this))), some (vi a1)]) (st' := [vi (0 : Int32)]) (M1 := M) (pc' := 23) (tb_Words hγ) [.iconst 0] (by decide +kernel) rfl rfl trivial ?_
      exact E_zret rfl (Or.inl rfl) (by decide +kernel) h
  · rw [if_neg b1] at h
    refine E_blk (lv' := [some (vr (some (2, this))), some (vi a1)]) (st' := [vi (0 : Int32)]) (M1 := M) (pc' := 23) (tb_Words hγ) [.iconst 0] (by decide +kernel) rfl rfl trivial ?_
    exact E_zret rfl (Or.inl rfl) (by decide +kernel) h
def w_Reader_sign (this : Nat) (a1 : Int32) (Q : Mem → Prop) (X : Mem → Prop) (M : Mem) : Prop :=
  w_Words_isSign 0 a1 (fun r2 M1 => if r2 = 0 then (w_Reader_wrong this (fun i5 M4 => i5 = 0 ∧ X M4) M1) else (w_Words_next 0 (fun M6 => Q M6) M1)) M
set_option maxRecDepth 4096 in
theorem lk_Reader_sign {γ : Gm} (hγ : Gk γ) (this : Nat) (a1 : Int32) (Q : Mem → Prop) (X : Mem → Prop) (M : Mem) (h : w_Reader_sign this a1 Q X M) : E γ k_Reader_sign 4 0 [some (vr (some (3, this))), some (vi a1)] [] M (Qx (9, 0) (Qv Q) X) := by
  unfold w_Reader_sign at h
  refine E_blk (lv' := [some (vr (some (3, this))), some (vi a1)]) (st' := [vi a1, vr (some (2, 0))]) (M1 := M) (pc' := 5) (tb_Reader hγ) [.aload_n 0, .getfield 20, .iload_n 1] (by decide +kernel) rfl rfl trivial ?_
  refine E_callV (κ' := k_Words_isSign) (As := [vi a1]) (st := []) mv_Words_isSign (Or.inl (tbk_mem (j := 6) (k := 143) rfl)) rfl (by decide +kernel) (Nat.le_of_ble_eq_true rfl) (Nat.le_of_ble_eq_true rfl) rfl (by decide) (lk_Words_isSign hγ 0 a1 _ M h) (fun _ _ => Qi_r) (fun v M1 hp => Qi_k (R := fun st => E γ k_Reader_sign 4 8 [some (vr (some (3, this))), some (vi a1)] st M1 (Qx (9, 0) (Qv Q) X)) hp (fun r2 h => ?_))
  refine E_if_ne (off := 8) (tgt := 16) (by decide +kernel) (by decide) (fun b3 => ?_) (fun b3 => ?_)
  · rw [if_pos b3] at h
    refine E_blk (lv' := [some (vr (some (3, this))), some (vi a1)]) (st' := [vr (some (3, this))]) (M1 := M1) (pc' := 12) (tb_Reader hγ) [.aload_n 0] (by decide +kernel) rfl rfl trivial ?_
    refine E_callV (κ' := k_Reader_wrong) (As := []) (st := []) mv_Reader_wrong (Or.inl (tbk_mem (j := 6) (k := 122) rfl)) rfl (by decide +kernel) (Nat.le_of_ble_eq_true rfl) (Nat.le_of_ble_eq_true rfl) rfl (by decide) (lk_Reader_wrong hγ this _ M1 h) (fun _ _ => Qr_r) (fun v M4 hp => Qr_k (R := fun st => E γ k_Reader_sign 4 15 [some (vr (some (3, this))), some (vi a1)] st M4 (Qx (9, 0) (Qv Q) X)) hp (fun i5 h => ?_))
    obtain ⟨e0, h⟩ := h
    rw [e0]
    exact E_throw (by decide) rfl (by decide +kernel) h
  · rw [if_neg b3] at h
    refine E_blk (lv' := [some (vr (some (3, this))), some (vi a1)]) (st' := [vr (some (2, 0))]) (M1 := M1) (pc' := 20) (tb_Reader hγ) [.aload_n 0, .getfield 20] (by decide +kernel) rfl rfl trivial ?_
    refine E_callV (κ' := k_Words_next) (As := []) (st := []) mv_Words_next (Or.inl (tbk_mem (j := 6) (k := 53) rfl)) rfl (by decide +kernel) (Nat.le_of_ble_eq_true rfl) (Nat.le_of_ble_eq_true rfl) rfl (by decide) (lk_Words_next hγ 0 _ M1 h) (fun _ _ => Qv_r) (fun v M6 hp => Qv_k (R := fun st => E γ k_Reader_sign 4 23 [some (vr (some (3, this))), some (vi a1)] st M6 (Qx (9, 0) (Qv Q) X)) hp (fun h => ?_))
    exact (E_vret rfl (by decide +kernel) h).nx
def w_World_find_L2 (this : Nat) (Q : Int32 → Mem → Prop) : Nat → Int32 → Int32 → Mem → Prop
  | 0, _, _, _ => False
  | n + 1, v1, v2, M => if (mI M 5 this 2) ≤ v2 then (Q (-2 : Int32) M) else (vp_in v2 (mL M 36 this) ∧ if (mI M 36 this v2.toNatClampNeg) = v1 then (Q v2 M) else ((w_World_find_L2 this Q n) v1 (v2 + (1 : Int32)) M))
def w_World_find (this : Nat) (a1 : Int32) (Q : Int32 → Mem → Prop) (M : Mem) : Prop :=
  ∃ n4 : Nat, w_World_find_L2 this Q n4 a1 (0 : Int32) M
set_option maxRecDepth 4096 in
theorem lk_World_find_L2 {γ : Gm} (hγ : Gk γ) (this : Nat) (Q : Int32 → Mem → Prop) : ∀ (n : Nat) (v1 : Int32) (v2 : Int32) (M : Mem), w_World_find_L2 this Q n v1 v2 M → E γ k_World_find 0 2 [some (vr (some (5, this))), some (vi v1), some (vi v2)] [] M (Qi Q) := by
  intro n
  induction n with
  | zero => intro v1 v2 M h; exact h.elim
  | succ n ih =>
    intro v1 v2 M h
    unfold w_World_find_L2 at h
    refine E_blk (lv' := [some (vr (some (5, this))), some (vi v1), some (vi v2)]) (st' := [vi (mI M 5 this 2), vi v2]) (M1 := M) (pc' := 7) (tb_World hγ) [.iload_n 2, .aload_n 0, .getfield 192] (by decide +kernel) rfl rfl trivial ?_
    refine E_icmp_ge (off := 21) (tgt := 28) (by decide +kernel) (by decide) (fun b1 => ?_) (fun b1 => ?_)
    · rw [if_pos b1] at h
      refine E_blk (lv' := [some (vr (some (5, this))), some (vi v1), some (vi v2)]) (st' := [vi (-2 : Int32)]) (M1 := M) (pc' := 30) (tb_World hγ) [.bipush (.negSucc 1)] (by decide +kernel) rfl rfl trivial ?_
      exact E_iret rfl (by decide +kernel) h
    · rw [if_neg b1] at h
      obtain ⟨c2, h⟩ := h
      refine E_blk (lv' := [some (vr (some (5, this))), some (vi v1), some (vi v2)]) (st' := [vi v1, vi (mI M 36 this v2.toNatClampNeg)]) (M1 := M) (pc' := 17) (tb_World hγ) [.aload_n 0, .getfield 19, .iload_n 2, .iaload, .iload_n 1] (by decide +kernel) rfl rfl ⟨c2, trivial⟩ ?_
      refine E_icmp_ne (off := 5) (tgt := 22) (by decide +kernel) (by decide) (fun b3 => ?_) (fun b3 => ?_)
      · rw [if_pos b3] at h
        refine E_blk (lv' := [some (vr (some (5, this))), some (vi v1), some (vi v2)]) (st' := [vi v2]) (M1 := M) (pc' := 21) (tb_World hγ) [.iload_n 2] (by decide +kernel) rfl rfl trivial ?_
        exact E_iret rfl (by decide +kernel) h
      · rw [if_neg b3] at h
        refine E_blk (lv' := [some (vr (some (5, this))), some (vi v1), some (vi (v2 + (1 : Int32)))]) (st' := []) (M1 := M) (pc' := 25) (tb_World hγ) [.iinc 2 1] (by decide +kernel) rfl rfl trivial ?_
        refine E_goto (off := -23) (tgt := 2) (by decide +kernel) (by decide) ?_
        refine E_mask [true, true, true] rfl ?_
        exact ih v1 (v2 + (1 : Int32)) M h
set_option maxRecDepth 4096 in
theorem lk_World_find {γ : Gm} (hγ : Gk γ) (this : Nat) (a1 : Int32) (Q : Int32 → Mem → Prop) (M : Mem) (h : w_World_find this a1 Q M) : E γ k_World_find 0 0 [some (vr (some (5, this))), some (vi a1), none] [] M (Qi Q) := by
  unfold w_World_find at h
  refine E_blk (lv' := [some (vr (some (5, this))), some (vi a1), some (vi (0 : Int32))]) (st' := []) (M1 := M) (pc' := 2) (tb_World hγ) [.iconst 0, .istore_n 2] (by decide +kernel) rfl rfl trivial ?_
  obtain ⟨n4, h⟩ := h
  refine E_mask [true, true, true] rfl ?_
  exact lk_World_find_L2 hγ this Q n4 a1 (0 : Int32) M h
def w_World_bit (this : Nat) (a1 : Int32) (Q : Int32 → Mem → Prop) (M : Mem) : Prop :=
  if (7 : Int32) ≤ a1 then (if a1 = (21 : Int32) then (Q (3 : Int32) M) else (if a1 = (25 : Int32) then (Q (4 : Int32) M) else (if a1 = (53 : Int32) then (Q (5 : Int32) M) else (if a1 = (54 : Int32) then (Q (6 : Int32) M) else (Q (7 : Int32) M))))) else (Q (a1 - (4 : Int32)) M)
set_option maxRecDepth 4096 in
theorem lk_World_bit {γ : Gm} (hγ : Gk γ) (this : Nat) (a1 : Int32) (Q : Int32 → Mem → Prop) (M : Mem) (h : w_World_bit this a1 Q M) : E γ k_World_bit 0 0 [some (vr (some (5, this))), some (vi a1)] [] M (Qi Q) := by
  unfold w_World_bit at h
  refine E_blk (lv' := [some (vr (some (5, this))), some (vi a1)]) (st' := [vi (7 : Int32), vi a1]) (M1 := M) (pc' := 3) (tb_World hγ) [.iload_n 1, .bipush 7] (by decide +kernel) rfl rfl trivial ?_
  refine E_icmp_ge (off := 9) (tgt := 12) (by decide +kernel) (by decide) (fun b1 => ?_) (fun b1 => ?_)
  · rw [if_pos b1] at h
    refine E_blk (lv' := [some (vr (some (5, this))), some (vi a1)]) (st' := [vi (21 : Int32), vi a1]) (M1 := M) (pc' := 15) (tb_World hγ) [.iload_n 1, .bipush 21] (by decide +kernel) rfl rfl trivial ?_
    refine E_icmp_ne (off := 7) (tgt := 22) (by decide +kernel) (by decide) (fun b2 => ?_) (fun b2 => ?_)
    · rw [if_pos b2] at h
      refine E_blk (lv' := [some (vr (some (5, this))), some (vi a1)]) (st' := [vi (3 : Int32)]) (M1 := M) (pc' := 19) (tb_World hγ) [.iconst 3] (by decide +kernel) rfl rfl trivial ?_
      refine E_goto (off := 36) (tgt := 55) (by decide +kernel) (by decide) ?_
      exact E_iret rfl (by decide +kernel) h
    · rw [if_neg b2] at h
      refine E_blk (lv' := [some (vr (some (5, this))), some (vi a1)]) (st' := [vi (25 : Int32), vi a1]) (M1 := M) (pc' := 25) (tb_World hγ) [.iload_n 1, .bipush 25] (by decide +kernel) rfl rfl trivial ?_
      refine E_icmp_ne (off := 7) (tgt := 32) (by decide +kernel) (by decide) (fun b3 => ?_) (fun b3 => ?_)
      · rw [if_pos b3] at h
        refine E_blk (lv' := [some (vr (some (5, this))), some (vi a1)]) (st' := [vi (4 : Int32)]) (M1 := M) (pc' := 29) (tb_World hγ) [.iconst 4] (by decide +kernel) rfl rfl trivial ?_
        refine E_goto (off := 26) (tgt := 55) (by decide +kernel) (by decide) ?_
        exact E_iret rfl (by decide +kernel) h
      · rw [if_neg b3] at h
        refine E_blk (lv' := [some (vr (some (5, this))), some (vi a1)]) (st' := [vi (53 : Int32), vi a1]) (M1 := M) (pc' := 35) (tb_World hγ) [.iload_n 1, .bipush 53] (by decide +kernel) rfl rfl trivial ?_
        refine E_icmp_ne (off := 7) (tgt := 42) (by decide +kernel) (by decide) (fun b4 => ?_) (fun b4 => ?_)
        · rw [if_pos b4] at h
          refine E_blk (lv' := [some (vr (some (5, this))), some (vi a1)]) (st' := [vi (5 : Int32)]) (M1 := M) (pc' := 39) (tb_World hγ) [.iconst 5] (by decide +kernel) rfl rfl trivial ?_
          refine E_goto (off := 16) (tgt := 55) (by decide +kernel) (by decide) ?_
          exact E_iret rfl (by decide +kernel) h
        · rw [if_neg b4] at h
          refine E_blk (lv' := [some (vr (some (5, this))), some (vi a1)]) (st' := [vi (54 : Int32), vi a1]) (M1 := M) (pc' := 45) (tb_World hγ) [.iload_n 1, .bipush 54] (by decide +kernel) rfl rfl trivial ?_
          refine E_icmp_ne (off := 8) (tgt := 53) (by decide +kernel) (by decide) (fun b5 => ?_) (fun b5 => ?_)
          · rw [if_pos b5] at h
            refine E_blk (lv' := [some (vr (some (5, this))), some (vi a1)]) (st' := [vi (6 : Int32)]) (M1 := M) (pc' := 50) (tb_World hγ) [.bipush 6] (by decide +kernel) rfl rfl trivial ?_
            refine E_goto (off := 5) (tgt := 55) (by decide +kernel) (by decide) ?_
            exact E_iret rfl (by decide +kernel) h
          · rw [if_neg b5] at h
            refine E_blk (lv' := [some (vr (some (5, this))), some (vi a1)]) (st' := [vi (7 : Int32)]) (M1 := M) (pc' := 55) (tb_World hγ) [.bipush 7] (by decide +kernel) rfl rfl trivial ?_
            exact E_iret rfl (by decide +kernel) h
  · rw [if_neg b1] at h
    refine E_blk (lv' := [some (vr (some (5, this))), some (vi a1)]) (st' := [vi (a1 - (4 : Int32))]) (M1 := M) (pc' := 9) (tb_World hγ) [.iload_n 1, .iconst 4, .isub] (by decide +kernel) rfl rfl trivial ?_
    refine E_goto (off := 46) (tgt := 55) (by decide +kernel) (by decide) ?_
    exact E_iret rfl (by decide +kernel) h
def w_World_asks_j46 (this : Nat) (Q : Int32 → Mem → Prop) (v1 : Int32) (M : Mem) : Prop :=
  w_World_bit this v1 (fun r3 M2 => if (((mI M 5 this 1) >>> (r3 &&& 31)) &&& (1 : Int32)) = 0 then (Q (1 : Int32) M2) else (Q (0 : Int32) M2)) M
def w_World_asks (this : Nat) (a1 : Int32) (Q : Int32 → Mem → Prop) (M : Mem) : Prop :=
  if a1 = (4 : Int32) then (w_World_asks_j46 this Q a1 M) else (if a1 = (5 : Int32) then (w_World_asks_j46 this Q a1 M) else (if a1 = (6 : Int32) then (w_World_asks_j46 this Q a1 M) else (if a1 = (21 : Int32) then (w_World_asks_j46 this Q a1 M) else (if a1 = (25 : Int32) then (w_World_asks_j46 this Q a1 M) else (if a1 = (53 : Int32) then (w_World_asks_j46 this Q a1 M) else (if a1 = (54 : Int32) then (w_World_asks_j46 this Q a1 M) else (if a1 = (57 : Int32) then (w_World_asks_j46 this Q a1 M) else (Q (1 : Int32) M))))))))
set_option maxRecDepth 4096 in
theorem lk_World_asks_j46 {γ : Gm} (hγ : Gk γ) (this : Nat) (Q : Int32 → Mem → Prop) (v1 : Int32) (M : Mem) (h : w_World_asks_j46 this Q v1 M) : E γ k_World_asks 1 46 [some (vr (some (5, this))), some (vi v1)] [] M (Qi Q) := by
  unfold w_World_asks_j46 at h
  refine E_blk (lv' := [some (vr (some (5, this))), some (vi v1)]) (st' := [vi v1, vr (some (5, this)), vi (mI M 5 this 1)]) (M1 := M) (pc' := 52) (tb_World hγ) [.aload_n 0, .getfield 180, .aload_n 0, .iload_n 1] (by decide +kernel) rfl rfl trivial ?_
  refine E_callV (κ' := k_World_bit) (As := [vi v1]) (st := [vi (mI M 5 this 1)]) mv_World_bit (Or.inl (tbk_mem (j := 6) (k := 155) rfl)) rfl (by decide +kernel) (Nat.le_of_ble_eq_true rfl) (Nat.le_of_ble_eq_true rfl) rfl (by decide) (lk_World_bit hγ this v1 _ M h) (fun _ _ => Qi_r) (fun v M2 hp => Qi_k (R := fun st => E γ k_World_asks 1 55 [some (vr (some (5, this))), some (vi v1)] st M2 (Qi Q)) hp (fun r3 h => ?_))
  refine E_blk (lv' := [some (vr (some (5, this))), some (vi v1)]) (st' := [vi (((mI M 5 this 1) >>> (r3 &&& 31)) &&& (1 : Int32))]) (M1 := M2) (pc' := 58) (tb_World hγ) [.ishr, .iconst 1, .iand] (by decide +kernel) rfl rfl trivial ?_
  refine E_if_ne (off := 7) (tgt := 65) (by decide +kernel) (by decide) (fun b4 => ?_) (fun b4 => ?_)
  · rw [if_pos b4] at h
    refine E_blk (lv' := [some (vr (some (5, this))), some (vi v1)]) (st' := [vi (1 : Int32)]) (M1 := M2) (pc' := 62) (tb_World hγ) [.iconst 1] (by decide +kernel) rfl rfl trivial ?_
    refine E_goto (off := 4) (tgt := 66) (by decide +kernel) (by decide) ?_
    exact E_zret rfl (Or.inr rfl) (by decide +kernel) h
  · rw [if_neg b4] at h
    refine E_blk (lv' := [some (vr (some (5, this))), some (vi v1)]) (st' := [vi (0 : Int32)]) (M1 := M2) (pc' := 66) (tb_World hγ) [.iconst 0] (by decide +kernel) rfl rfl trivial ?_
    exact E_zret rfl (Or.inl rfl) (by decide +kernel) h
set_option maxRecDepth 4096 in
theorem lk_World_asks {γ : Gm} (hγ : Gk γ) (this : Nat) (a1 : Int32) (Q : Int32 → Mem → Prop) (M : Mem) (h : w_World_asks this a1 Q M) : E γ k_World_asks 1 0 [some (vr (some (5, this))), some (vi a1)] [] M (Qi Q) := by
  unfold w_World_asks at h
  refine E_blk (lv' := [some (vr (some (5, this))), some (vi a1)]) (st' := [vi (4 : Int32), vi a1]) (M1 := M) (pc' := 2) (tb_World hγ) [.iload_n 1, .iconst 4] (by decide +kernel) rfl rfl trivial ?_
  refine E_icmp_eq (off := 44) (tgt := 46) (by decide +kernel) (by decide) (fun b1 => ?_) (fun b1 => ?_)
  · rw [if_pos b1] at h
    refine E_mask [true, true] rfl ?_
    exact lk_World_asks_j46 hγ this Q a1 M h
  · rw [if_neg b1] at h
    refine E_blk (lv' := [some (vr (some (5, this))), some (vi a1)]) (st' := [vi (5 : Int32), vi a1]) (M1 := M) (pc' := 7) (tb_World hγ) [.iload_n 1, .iconst 5] (by decide +kernel) rfl rfl trivial ?_
    refine E_icmp_eq (off := 39) (tgt := 46) (by decide +kernel) (by decide) (fun b5 => ?_) (fun b5 => ?_)
    · rw [if_pos b5] at h
      refine E_mask [true, true] rfl ?_
      exact lk_World_asks_j46 hγ this Q a1 M h
    · rw [if_neg b5] at h
      refine E_blk (lv' := [some (vr (some (5, this))), some (vi a1)]) (st' := [vi (6 : Int32), vi a1]) (M1 := M) (pc' := 13) (tb_World hγ) [.iload_n 1, .bipush 6] (by decide +kernel) rfl rfl trivial ?_
      refine E_icmp_eq (off := 33) (tgt := 46) (by decide +kernel) (by decide) (fun b6 => ?_) (fun b6 => ?_)
      · rw [if_pos b6] at h
        refine E_mask [true, true] rfl ?_
        exact lk_World_asks_j46 hγ this Q a1 M h
      · rw [if_neg b6] at h
        refine E_blk (lv' := [some (vr (some (5, this))), some (vi a1)]) (st' := [vi (21 : Int32), vi a1]) (M1 := M) (pc' := 19) (tb_World hγ) [.iload_n 1, .bipush 21] (by decide +kernel) rfl rfl trivial ?_
        refine E_icmp_eq (off := 27) (tgt := 46) (by decide +kernel) (by decide) (fun b7 => ?_) (fun b7 => ?_)
        · rw [if_pos b7] at h
          refine E_mask [true, true] rfl ?_
          exact lk_World_asks_j46 hγ this Q a1 M h
        · rw [if_neg b7] at h
          refine E_blk (lv' := [some (vr (some (5, this))), some (vi a1)]) (st' := [vi (25 : Int32), vi a1]) (M1 := M) (pc' := 25) (tb_World hγ) [.iload_n 1, .bipush 25] (by decide +kernel) rfl rfl trivial ?_
          refine E_icmp_eq (off := 21) (tgt := 46) (by decide +kernel) (by decide) (fun b8 => ?_) (fun b8 => ?_)
          · rw [if_pos b8] at h
            refine E_mask [true, true] rfl ?_
            exact lk_World_asks_j46 hγ this Q a1 M h
          · rw [if_neg b8] at h
            refine E_blk (lv' := [some (vr (some (5, this))), some (vi a1)]) (st' := [vi (53 : Int32), vi a1]) (M1 := M) (pc' := 31) (tb_World hγ) [.iload_n 1, .bipush 53] (by decide +kernel) rfl rfl trivial ?_
            refine E_icmp_eq (off := 15) (tgt := 46) (by decide +kernel) (by decide) (fun b9 => ?_) (fun b9 => ?_)
            · rw [if_pos b9] at h
              refine E_mask [true, true] rfl ?_
              exact lk_World_asks_j46 hγ this Q a1 M h
            · rw [if_neg b9] at h
              refine E_blk (lv' := [some (vr (some (5, this))), some (vi a1)]) (st' := [vi (54 : Int32), vi a1]) (M1 := M) (pc' := 37) (tb_World hγ) [.iload_n 1, .bipush 54] (by decide +kernel) rfl rfl trivial ?_
              refine E_icmp_eq (off := 9) (tgt := 46) (by decide +kernel) (by decide) (fun b10 => ?_) (fun b10 => ?_)
              · rw [if_pos b10] at h
                refine E_mask [true, true] rfl ?_
                exact lk_World_asks_j46 hγ this Q a1 M h
              · rw [if_neg b10] at h
                refine E_blk (lv' := [some (vr (some (5, this))), some (vi a1)]) (st' := [vi (57 : Int32), vi a1]) (M1 := M) (pc' := 43) (tb_World hγ) [.iload_n 1, .bipush 57] (by decide +kernel) rfl rfl trivial ?_
                refine E_icmp_ne (off := 18) (tgt := 61) (by decide +kernel) (by decide) (fun b11 => ?_) (fun b11 => ?_)
                · rw [if_pos b11] at h
                  refine E_mask [true, true] rfl ?_
                  exact lk_World_asks_j46 hγ this Q a1 M h
                · rw [if_neg b11] at h
                  refine E_blk (lv' := [some (vr (some (5, this))), some (vi a1)]) (st' := [vi (1 : Int32)]) (M1 := M) (pc' := 62) (tb_World hγ) [.iconst 1] (by decide +kernel) rfl rfl trivial ?_
                  refine E_goto (off := 4) (tgt := 66) (by decide +kernel) (by decide) ?_
                  exact E_zret rfl (Or.inr rfl) (by decide +kernel) h
def w_Reader_nextLine (this : Nat) (Q : Int32 → Mem → Prop) (M : Mem) : Prop :=
  w_Words_line 0 (fun r2 M1 => if r2 = 0 then (Q (0 : Int32) M1) else (w_Reader_begin this (fun r5 M4 => (r5 = 0 ∨ r5 = 1) ∧ Q r5 M4) M1)) M
set_option maxRecDepth 4096 in
theorem lk_Reader_nextLine {γ : Gm} (hγ : Gk γ) (this : Nat) (Q : Int32 → Mem → Prop) (M : Mem) (h : w_Reader_nextLine this Q M) : E γ k_Reader_nextLine 5 0 [some (vr (some (3, this)))] [] M (Qi Q) := by
  unfold w_Reader_nextLine at h
  refine E_blk (lv' := [some (vr (some (3, this)))]) (st' := [vr (some (2, 0))]) (M1 := M) (pc' := 4) (tb_Reader hγ) [.aload_n 0, .getfield 20] (by decide +kernel) rfl rfl trivial ?_
  refine E_callV (κ' := k_Words_line) (As := []) (st := []) mv_Words_line (Or.inl (tbk_mem (j := 6) (k := 106) rfl)) rfl (by decide +kernel) (Nat.le_of_ble_eq_true rfl) (Nat.le_of_ble_eq_true rfl) rfl (by decide) (lk_Words_line hγ 0 _ M h) (fun _ _ => Qi_r) (fun v M1 hp => Qi_k (R := fun st => E γ k_Reader_nextLine 5 7 [some (vr (some (3, this)))] st M1 (Qi Q)) hp (fun r2 h => ?_))
  refine E_if_eq (off := 8) (tgt := 15) (by decide +kernel) (by decide) (fun b3 => ?_) (fun b3 => ?_)
  · rw [if_pos b3] at h
    refine E_blk (lv' := [some (vr (some (3, this)))]) (st' := [vi (0 : Int32)]) (M1 := M1) (pc' := 16) (tb_Reader hγ) [.iconst 0] (by decide +kernel) rfl rfl trivial ?_
    exact E_zret rfl (Or.inl rfl) (by decide +kernel) h
  · rw [if_neg b3] at h
    refine E_blk (lv' := [some (vr (some (3, this)))]) (st' := [vr (some (3, this))]) (M1 := M1) (pc' := 11) (tb_Reader hγ) [.aload_n 0] (by decide +kernel) rfl rfl trivial ?_
    refine E_callV (κ' := k_Reader_begin) (As := []) (st := []) mv_Reader_begin (Or.inl (tbk_mem (j := 6) (k := 49) rfl)) rfl (by decide +kernel) (Nat.le_of_ble_eq_true rfl) (Nat.le_of_ble_eq_true rfl) rfl (by decide) (lk_Reader_begin hγ this _ M1 h) (fun _ _ => Qi_r) (fun v M4 hp => Qi_k (R := fun st => E γ k_Reader_nextLine 5 14 [some (vr (some (3, this)))] st M4 (Qi Q)) hp (fun r5 h => ?_))
    exact E_zret rfl h.1 (by decide +kernel) h.2
def w_Reader_needLine (this : Nat) (Q : Mem → Prop) (X : Mem → Prop) (M : Mem) : Prop :=
  w_Reader_nextLine this (fun r2 M1 => if r2 = 0 then (w_Works_refuse 0 (1 : Int32) (mI M1 2 0 1) (fun i5 M4 => i5 = 0 ∧ X M4) M1) else (Q M1)) M
set_option maxRecDepth 4096 in
theorem lk_Reader_needLine {γ : Gm} (hγ : Gk γ) (this : Nat) (Q : Mem → Prop) (X : Mem → Prop) (M : Mem) (h : w_Reader_needLine this Q X M) : E γ k_Reader_needLine 6 0 [some (vr (some (3, this)))] [] M (Qx (9, 0) (Qv Q) X) := by
  unfold w_Reader_needLine at h
  refine E_blk (lv' := [some (vr (some (3, this)))]) (st' := [vr (some (3, this))]) (M1 := M) (pc' := 1) (tb_Reader hγ) [.aload_n 0] (by decide +kernel) rfl rfl trivial ?_
  refine E_callV (κ' := k_Reader_nextLine) (As := []) (st := []) mv_Reader_nextLine (Or.inl (tbk_mem (j := 6) (k := 164) rfl)) rfl (by decide +kernel) (Nat.le_of_ble_eq_true rfl) (Nat.le_of_ble_eq_true rfl) rfl (by decide) (lk_Reader_nextLine hγ this _ M h) (fun _ _ => Qi_r) (fun v M1 hp => Qi_k (R := fun st => E γ k_Reader_needLine 6 4 [some (vr (some (3, this)))] st M1 (Qx (9, 0) (Qv Q) X)) hp (fun r2 h => ?_))
  refine E_if_ne (off := 19) (tgt := 23) (by decide +kernel) (by decide) (fun b3 => ?_) (fun b3 => ?_)
  · rw [if_pos b3] at h
    refine E_blk (lv' := [some (vr (some (3, this)))]) (st' := [vi (mI M1 2 0 1), vi (1 : Int32), vr (some (10, 0))]) (M1 := M1) (pc' := 19) (tb_Reader hγ) [.aload_n 0, .getfield 3, .iconst 1, .aload_n 0, .getfield 20, .getfield 118] (by decide +kernel) rfl rfl trivial ?_
    refine E_callV (κ' := k_Works_refuse) (As := [vi (1 : Int32), vi (mI M1 2 0 1)]) (st := []) mv_Works_refuse (Or.inr ⟨"ClassWorks", (tbk_mem (j := 6) (k := 126) rfl)⟩) rfl (by decide +kernel) (Nat.le_of_ble_eq_true rfl) (Nat.le_of_ble_eq_true rfl) rfl (by decide) (lk_Works_refuse hγ 0 (1 : Int32) (mI M1 2 0 1) _ M1 h) (fun _ _ => Qr_r) (fun v M4 hp => Qr_k (R := fun st => E γ k_Reader_needLine 6 22 [some (vr (some (3, this)))] st M4 (Qx (9, 0) (Qv Q) X)) hp (fun i5 h => ?_))
    obtain ⟨e0, h⟩ := h
    rw [e0]
    exact E_throw (by decide) rfl (by decide +kernel) h
  · rw [if_neg b3] at h
    exact (E_vret rfl (by decide +kernel) h).nx
def w_Reader_anyName_j37 (this : Nat) (Q : Int32 → Mem → Prop) (X : Mem → Prop)  (M : Mem) : Prop :=
  w_Reader_wrong this (fun i5 M4 => i5 = 0 ∧ X M4) M
def w_Reader_anyName (this : Nat) (Q : Int32 → Mem → Prop) (X : Mem → Prop) (M : Mem) : Prop :=
  isK (mR M 2 0 3) ∧ if (mR M 2 0 3) = (some (0, 100 + 0)) then (if (mI M 2 0 5) = (79 : Int32) then (w_Reader_anyName_j37 this Q X  M) else (if (mI M 2 0 5) = (80 : Int32) then (w_Reader_anyName_j37 this Q X  M) else (w_Words_next 0 (fun M7 => Q (mI M 2 0 5) M7) M))) else (w_Reader_anyName_j37 this Q X  M)
set_option maxRecDepth 4096 in
theorem lk_Reader_anyName_j37 {γ : Gm} (hγ : Gk γ) (this : Nat) (Q : Int32 → Mem → Prop) (X : Mem → Prop)  (M : Mem) (h : w_Reader_anyName_j37 this Q X  M) : E γ k_Reader_anyName 4 37 [some (vr (some (3, this))), none] [] M (Qx (9, 0) (Qi Q) X) := by
  unfold w_Reader_anyName_j37 at h
  refine E_blk (lv' := [some (vr (some (3, this))), none]) (st' := [vr (some (3, this))]) (M1 := M) (pc' := 38) (tb_Reader hγ) [.aload_n 0] (by decide +kernel) rfl rfl trivial ?_
  refine E_callV (κ' := k_Reader_wrong) (As := []) (st := []) mv_Reader_wrong (Or.inl (tbk_mem (j := 6) (k := 122) rfl)) rfl (by decide +kernel) (Nat.le_of_ble_eq_true rfl) (Nat.le_of_ble_eq_true rfl) rfl (by decide) (lk_Reader_wrong hγ this _ M h) (fun _ _ => Qr_r) (fun v M4 hp => Qr_k (R := fun st => E γ k_Reader_anyName 4 41 [some (vr (some (3, this))), none] st M4 (Qx (9, 0) (Qi Q) X)) hp (fun i5 h => ?_))
  obtain ⟨e0, h⟩ := h
  rw [e0]
  exact E_throw (by decide) rfl (by decide +kernel) h
set_option maxRecDepth 4096 in
theorem lk_Reader_anyName {γ : Gm} (hγ : Gk γ) (this : Nat) (Q : Int32 → Mem → Prop) (X : Mem → Prop) (M : Mem) (h : w_Reader_anyName this Q X M) : E γ k_Reader_anyName 4 0 [some (vr (some (3, this))), none] [] M (Qx (9, 0) (Qi Q) X) := by
  unfold w_Reader_anyName at h
  refine E_blk (lv' := [some (vr (some (3, this))), none]) (st' := [vr (mR M 2 0 3)]) (M1 := M) (pc' := 7) (tb_Reader hγ) [.aload_n 0, .getfield 20, .getfield 98] (by decide +kernel) rfl rfl trivial ?_
  refine E_gets (κ := k_Reader_anyName) (pc := 7) (j := 0) (idx := 133) (n := "NAME") hγ.2.1 rfl (tbk_mem (j := 6) (k := 134) rfl) (by decide +kernel) ?_
  obtain ⟨c2, h⟩ := h
  refine E_acmp_ne (off := 27) (tgt := 37) hγ.2.1 c2 (isK_c 0 (by decide)) (by decide +kernel) (by decide) (fun b1 => ?_) (fun b1 => ?_)
  · rw [if_pos b1] at h
    refine E_blk (lv' := [some (vr (some (3, this))), none]) (st' := [vi (79 : Int32), vi (mI M 2 0 5)]) (M1 := M) (pc' := 22) (tb_Reader hγ) [.aload_n 0, .getfield 20, .getfield 136, .bipush 79] (by decide +kernel) rfl rfl trivial ?_
    refine E_icmp_eq (off := 15) (tgt := 37) (by decide +kernel) (by decide) (fun b3 => ?_) (fun b3 => ?_)
    · rw [if_pos b3] at h
      refine E_mask [true, false] rfl ?_
      exact lk_Reader_anyName_j37 hγ this Q X  M h
    · rw [if_neg b3] at h
      refine E_blk (lv' := [some (vr (some (3, this))), none]) (st' := [vi (80 : Int32), vi (mI M 2 0 5)]) (M1 := M) (pc' := 34) (tb_Reader hγ) [.aload_n 0, .getfield 20, .getfield 136, .bipush 80] (by decide +kernel) rfl rfl trivial ?_
      refine E_icmp_ne (off := 8) (tgt := 42) (by decide +kernel) (by decide) (fun b6 => ?_) (fun b6 => ?_)
      · rw [if_pos b6] at h
        refine E_mask [true, false] rfl ?_
        exact lk_Reader_anyName_j37 hγ this Q X  M h
      · rw [if_neg b6] at h
        refine E_blk (lv' := [some (vr (some (3, this))), some (vi (mI M 2 0 5))]) (st' := [vr (some (2, 0))]) (M1 := M) (pc' := 54) (tb_Reader hγ) [.aload_n 0, .getfield 20, .getfield 136, .istore_n 1, .aload_n 0, .getfield 20] (by decide +kernel) rfl rfl trivial ?_
        refine E_callV (κ' := k_Words_next) (As := []) (st := []) mv_Words_next (Or.inl (tbk_mem (j := 6) (k := 53) rfl)) rfl (by decide +kernel) (Nat.le_of_ble_eq_true rfl) (Nat.le_of_ble_eq_true rfl) rfl (by decide) (lk_Words_next hγ 0 _ M h) (fun _ _ => Qv_r) (fun v M7 hp => Qv_k (R := fun st => E γ k_Reader_anyName 4 57 [some (vr (some (3, this))), some (vi (mI M 2 0 5))] st M7 (Qx (9, 0) (Qi Q) X)) hp (fun h => ?_))
        refine E_blk (lv' := [some (vr (some (3, this))), some (vi (mI M 2 0 5))]) (st' := [vi (mI M 2 0 5)]) (M1 := M7) (pc' := 58) (tb_Reader hγ) [.iload_n 1] (by decide +kernel) rfl rfl trivial ?_
        exact (E_iret rfl (by decide +kernel) h).nx
  · rw [if_neg b1] at h
    refine E_mask [true, false] rfl ?_
    exact lk_Reader_anyName_j37 hγ this Q X  M h
def w_Reader_type_j39 (this : Nat) (Q : Int32 → Mem → Prop) (X : Mem → Prop) (s0 : Int32) (M : Mem) : Prop :=
  w_Words_next 0 (fun M12 => Q s0 M12) M
def w_Reader_type_j23 (this : Nat) (Q : Int32 → Mem → Prop) (X : Mem → Prop)  (M : Mem) : Prop :=
  if (mI M 2 0 5) = (1 : Int32) then (w_Reader_type_j39 this Q X (0 : Int32) M) else (w_Reader_type_j39 this Q X (1 : Int32) M)
def w_Reader_type (this : Nat) (Q : Int32 → Mem → Prop) (X : Mem → Prop) (M : Mem) : Prop :=
  w_Words_isWord 0 (1 : Int32) (fun r2 M1 => if r2 = 0 then (w_Words_isWord 0 (73 : Int32) (fun r5 M4 => if r5 = 0 then (w_Reader_className this (fun r8 M7 => w_Works_kindOf r8 (fun r10 M9 => Q r10 M9) M7) X M4) else (w_Reader_type_j23 this Q X  M4)) M1) else (w_Reader_type_j23 this Q X  M1)) M
set_option maxRecDepth 4096 in
theorem lk_Reader_type_j39 {γ : Gm} (hγ : Gk γ) (this : Nat) (Q : Int32 → Mem → Prop) (X : Mem → Prop) (s0 : Int32) (M : Mem) (h : w_Reader_type_j39 this Q X s0 M) : E γ k_Reader_type 5 39 [some (vr (some (3, this))), none] [vi s0] M (Qx (9, 0) (Qi Q) X) := by
  unfold w_Reader_type_j39 at h
  refine E_blk (lv' := [some (vr (some (3, this))), some (vi s0)]) (st' := [vr (some (2, 0))]) (M1 := M) (pc' := 44) (tb_Reader hγ) [.istore_n 1, .aload_n 0, .getfield 20] (by decide +kernel) rfl rfl trivial ?_
  refine E_callV (κ' := k_Words_next) (As := []) (st := []) mv_Words_next (Or.inl (tbk_mem (j := 6) (k := 53) rfl)) rfl (by decide +kernel) (Nat.le_of_ble_eq_true rfl) (Nat.le_of_ble_eq_true rfl) rfl (by decide) (lk_Words_next hγ 0 _ M h) (fun _ _ => Qv_r) (fun v M12 hp => Qv_k (R := fun st => E γ k_Reader_type 5 47 [some (vr (some (3, this))), some (vi s0)] st M12 (Qx (9, 0) (Qi Q) X)) hp (fun h => ?_))
  refine E_blk (lv' := [some (vr (some (3, this))), some (vi s0)]) (st' := [vi s0]) (M1 := M12) (pc' := 48) (tb_Reader hγ) [.iload_n 1] (by decide +kernel) rfl rfl trivial ?_
  exact (E_iret rfl (by decide +kernel) h).nx
set_option maxRecDepth 4096 in
theorem lk_Reader_type_j23 {γ : Gm} (hγ : Gk γ) (this : Nat) (Q : Int32 → Mem → Prop) (X : Mem → Prop)  (M : Mem) (h : w_Reader_type_j23 this Q X  M) : E γ k_Reader_type 5 23 [some (vr (some (3, this))), none] [] M (Qx (9, 0) (Qi Q) X) := by
  unfold w_Reader_type_j23 at h
  refine E_blk (lv' := [some (vr (some (3, this))), none]) (st' := [vi (1 : Int32), vi (mI M 2 0 5)]) (M1 := M) (pc' := 31) (tb_Reader hγ) [.aload_n 0, .getfield 20, .getfield 136, .iconst 1] (by decide +kernel) rfl rfl trivial ?_
  refine E_icmp_ne (off := 7) (tgt := 38) (by decide +kernel) (by decide) (fun b11 => ?_) (fun b11 => ?_)
  · rw [if_pos b11] at h
    refine E_blk (lv' := [some (vr (some (3, this))), none]) (st' := [vi (0 : Int32)]) (M1 := M) (pc' := 35) (tb_Reader hγ) [.iconst 0] (by decide +kernel) rfl rfl trivial ?_
    refine E_goto (off := 4) (tgt := 39) (by decide +kernel) (by decide) ?_
    refine E_mask [true, false] rfl ?_
    exact lk_Reader_type_j39 hγ this Q X (0 : Int32) M h
  · rw [if_neg b11] at h
    refine E_blk (lv' := [some (vr (some (3, this))), none]) (st' := [vi (1 : Int32)]) (M1 := M) (pc' := 39) (tb_Reader hγ) [.iconst 1] (by decide +kernel) rfl rfl trivial ?_
    refine E_mask [true, false] rfl ?_
    exact lk_Reader_type_j39 hγ this Q X (1 : Int32) M h
set_option maxRecDepth 4096 in
theorem lk_Reader_type {γ : Gm} (hγ : Gk γ) (this : Nat) (Q : Int32 → Mem → Prop) (X : Mem → Prop) (M : Mem) (h : w_Reader_type this Q X M) : E γ k_Reader_type 5 0 [some (vr (some (3, this))), none] [] M (Qx (9, 0) (Qi Q) X) := by
  unfold w_Reader_type at h
  refine E_blk (lv' := [some (vr (some (3, this))), none]) (st' := [vi (1 : Int32), vr (some (2, 0))]) (M1 := M) (pc' := 5) (tb_Reader hγ) [.aload_n 0, .getfield 20, .iconst 1] (by decide +kernel) rfl rfl trivial ?_
  refine E_callV (κ' := k_Words_isWord) (As := [vi (1 : Int32)]) (st := []) mv_Words_isWord (Or.inl (tbk_mem (j := 6) (k := 118) rfl)) rfl (by decide +kernel) (Nat.le_of_ble_eq_true rfl) (Nat.le_of_ble_eq_true rfl) rfl (by decide) (lk_Words_isWord hγ 0 (1 : Int32) _ M h) (fun _ _ => Qi_r) (fun v M1 hp => Qi_k (R := fun st => E γ k_Reader_type 5 8 [some (vr (some (3, this))), none] st M1 (Qx (9, 0) (Qi Q) X)) hp (fun r2 h => ?_))
  refine E_if_ne (off := 15) (tgt := 23) (by decide +kernel) (by decide) (fun b3 => ?_) (fun b3 => ?_)
  · rw [if_pos b3] at h
    refine E_blk (lv' := [some (vr (some (3, this))), none]) (st' := [vi (73 : Int32), vr (some (2, 0))]) (M1 := M1) (pc' := 17) (tb_Reader hγ) [.aload_n 0, .getfield 20, .bipush 73] (by decide +kernel) rfl rfl trivial ?_
    refine E_callV (κ' := k_Words_isWord) (As := [vi (73 : Int32)]) (st := []) mv_Words_isWord (Or.inl (tbk_mem (j := 6) (k := 118) rfl)) rfl (by decide +kernel) (Nat.le_of_ble_eq_true rfl) (Nat.le_of_ble_eq_true rfl) rfl (by decide) (lk_Words_isWord hγ 0 (73 : Int32) _ M1 h) (fun _ _ => Qi_r) (fun v M4 hp => Qi_k (R := fun st => E γ k_Reader_type 5 20 [some (vr (some (3, this))), none] st M4 (Qx (9, 0) (Qi Q) X)) hp (fun r5 h => ?_))
    refine E_if_eq (off := 29) (tgt := 49) (by decide +kernel) (by decide) (fun b6 => ?_) (fun b6 => ?_)
    · rw [if_pos b6] at h
      refine E_blk (lv' := [some (vr (some (3, this))), none]) (st' := [vr (some (3, this))]) (M1 := M4) (pc' := 50) (tb_Reader hγ) [.aload_n 0] (by decide +kernel) rfl rfl trivial ?_
      refine E_callX (κ' := k_Reader_className) (As := []) (st := []) mv_Reader_className (Or.inl (tbk_mem (j := 6) (k := 130) rfl)) rfl (by decide +kernel) (Nat.le_of_ble_eq_true rfl) (Nat.le_of_ble_eq_true rfl) rfl (by decide) rfl (lk_Reader_className hγ this _ _ M4 h) (fun _ _ => Qi_r) (fun _ h => h) (fun v M7 hp => Qi_k (R := fun st => E γ k_Reader_type 5 53 [some (vr (some (3, this))), none] st M7 (Qx (9, 0) (Qi Q) X)) hp (fun r8 h => ?_))
      refine E_callS (κ' := k_Works_kindOf) (As := [vi r8]) (st := []) ms_Works_kindOf (Or.inr ⟨"ClassWorks", (tbk_mem (j := 6) (k := 180) rfl)⟩) rfl (by decide +kernel) (Nat.le_of_ble_eq_true rfl) (Nat.le_of_ble_eq_true rfl) rfl (by decide) (lk_Works_kindOf hγ r8 _ M7 h) (fun _ _ => Qi_r) (fun v M9 hp => Qi_k (R := fun st => E γ k_Reader_type 5 56 [some (vr (some (3, this))), none] st M9 (Qx (9, 0) (Qi Q) X)) hp (fun r10 h => ?_))
      exact (E_iret rfl (by decide +kernel) h).nx
    · rw [if_neg b6] at h
      refine E_mask [true, false] rfl ?_
      exact lk_Reader_type_j23 hγ this Q X  M4 h
  · rw [if_neg b3] at h
    refine E_mask [true, false] rfl ?_
    exact lk_Reader_type_j23 hγ this Q X  M1 h
def w_Reader_number_j28 (this : Nat) (Q : Int32 → Mem → Prop) (X : Mem → Prop)  (M : Mem) : Prop :=
  w_Reader_wrong this (fun i7 M6 => i7 = 0 ∧ X M6) M
def w_Reader_number (this : Nat) (a1 : Int32) (a2 : Int32) (Q : Int32 → Mem → Prop) (X : Mem → Prop) (M : Mem) : Prop :=
  isK (mR M 2 0 3) ∧ if (mR M 2 0 3) = (some (0, 100 + 1)) then (w_Works_isIn (mI M 2 0 5) a1 a2 (fun r4 M3 => if r4 = 0 then (w_Reader_number_j28 this Q X  M3) else (w_Words_next 0 (fun M8 => Q (mI M3 2 0 5) M8) M3)) M) else (w_Reader_number_j28 this Q X  M)
set_option maxRecDepth 4096 in
theorem lk_Reader_number_j28 {γ : Gm} (hγ : Gk γ) (this : Nat) (Q : Int32 → Mem → Prop) (X : Mem → Prop)  (M : Mem) (h : w_Reader_number_j28 this Q X  M) : E γ k_Reader_number 4 28 [some (vr (some (3, this))), none, none, none] [] M (Qx (9, 0) (Qi Q) X) := by
  unfold w_Reader_number_j28 at h
  refine E_blk (lv' := [some (vr (some (3, this))), none, none, none]) (st' := [vr (some (3, this))]) (M1 := M) (pc' := 29) (tb_Reader hγ) [.aload_n 0] (by decide +kernel) rfl rfl trivial ?_
  refine E_callV (κ' := k_Reader_wrong) (As := []) (st := []) mv_Reader_wrong (Or.inl (tbk_mem (j := 6) (k := 122) rfl)) rfl (by decide +kernel) (Nat.le_of_ble_eq_true rfl) (Nat.le_of_ble_eq_true rfl) rfl (by decide) (lk_Reader_wrong hγ this _ M h) (fun _ _ => Qr_r) (fun v M6 hp => Qr_k (R := fun st => E γ k_Reader_number 4 32 [some (vr (some (3, this))), none, none, none] st M6 (Qx (9, 0) (Qi Q) X)) hp (fun i7 h => ?_))
  obtain ⟨e0, h⟩ := h
  rw [e0]
  exact E_throw (by decide) rfl (by decide +kernel) h
set_option maxRecDepth 4096 in
theorem lk_Reader_number {γ : Gm} (hγ : Gk γ) (this : Nat) (a1 : Int32) (a2 : Int32) (Q : Int32 → Mem → Prop) (X : Mem → Prop) (M : Mem) (h : w_Reader_number this a1 a2 Q X M) : E γ k_Reader_number 4 0 [some (vr (some (3, this))), some (vi a1), some (vi a2), none] [] M (Qx (9, 0) (Qi Q) X) := by
  unfold w_Reader_number at h
  refine E_blk (lv' := [some (vr (some (3, this))), some (vi a1), some (vi a2), none]) (st' := [vr (mR M 2 0 3)]) (M1 := M) (pc' := 7) (tb_Reader hγ) [.aload_n 0, .getfield 20, .getfield 98] (by decide +kernel) rfl rfl trivial ?_
  refine E_gets (κ := k_Reader_number) (pc := 7) (j := 1) (idx := 142) (n := "NUMBER") hγ.2.1 rfl (tbk_mem (j := 6) (k := 189) rfl) (by decide +kernel) ?_
  obtain ⟨c2, h⟩ := h
  refine E_acmp_ne (off := 18) (tgt := 28) hγ.2.1 c2 (isK_c 1 (by decide)) (by decide +kernel) (by decide) (fun b1 => ?_) (fun b1 => ?_)
  · rw [if_pos b1] at h
    refine E_blk (lv' := [some (vr (some (3, this))), some (vi a1), some (vi a2), none]) (st' := [vi a2, vi a1, vi (mI M 2 0 5)]) (M1 := M) (pc' := 22) (tb_Reader hγ) [.aload_n 0, .getfield 20, .getfield 136, .iload_n 1, .iload_n 2] (by decide +kernel) rfl rfl trivial ?_
    refine E_callS (κ' := k_Works_isIn) (As := [vi (mI M 2 0 5), vi a1, vi a2]) (st := []) ms_Works_isIn (Or.inr ⟨"ClassWorks", (tbk_mem (j := 6) (k := 190) rfl)⟩) rfl (by decide +kernel) (Nat.le_of_ble_eq_true rfl) (Nat.le_of_ble_eq_true rfl) rfl (by decide) (lk_Works_isIn hγ (mI M 2 0 5) a1 a2 _ M h) (fun _ _ => Qi_r) (fun v M3 hp => Qi_k (R := fun st => E γ k_Reader_number 4 25 [some (vr (some (3, this))), some (vi a1), some (vi a2), none] st M3 (Qx (9, 0) (Qi Q) X)) hp (fun r4 h => ?_))
    refine E_if_ne (off := 8) (tgt := 33) (by decide +kernel) (by decide) (fun b5 => ?_) (fun b5 => ?_)
    · rw [if_pos b5] at h
      refine E_mask [true, false, false, false] rfl ?_
      exact lk_Reader_number_j28 hγ this Q X  M3 h
    · rw [if_neg b5] at h
      refine E_blk (lv' := [some (vr (some (3, this))), some (vi a1), some (vi a2), some (vi (mI M3 2 0 5))]) (st' := [vr (some (2, 0))]) (M1 := M3) (pc' := 45) (tb_Reader hγ) [.aload_n 0, .getfield 20, .getfield 136, .istore_n 3, .aload_n 0, .getfield 20] (by decide +kernel) rfl rfl trivial ?_
      refine E_callV (κ' := k_Words_next) (As := []) (st := []) mv_Words_next (Or.inl (tbk_mem (j := 6) (k := 53) rfl)) rfl (by decide +kernel) (Nat.le_of_ble_eq_true rfl) (Nat.le_of_ble_eq_true rfl) rfl (by decide) (lk_Words_next hγ 0 _ M3 h) (fun _ _ => Qv_r) (fun v M8 hp => Qv_k (R := fun st => E γ k_Reader_number 4 48 [some (vr (some (3, this))), some (vi a1), some (vi a2), some (vi (mI M3 2 0 5))] st M8 (Qx (9, 0) (Qi Q) X)) hp (fun h => ?_))
      refine E_blk (lv' := [some (vr (some (3, this))), some (vi a1), some (vi a2), some (vi (mI M3 2 0 5))]) (st' := [vi (mI M3 2 0 5)]) (M1 := M8) (pc' := 49) (tb_Reader hγ) [.iload_n 3] (by decide +kernel) rfl rfl trivial ?_
      exact (E_iret rfl (by decide +kernel) h).nx
  · rw [if_neg b1] at h
    refine E_mask [true, false, false, false] rfl ?_
    exact lk_Reader_number_j28 hγ this Q X  M h
def w_Reader_end (this : Nat) (Q : Mem → Prop) (X : Mem → Prop) (M : Mem) : Prop :=
  isK (mR M 2 0 3) ∧ if (mR M 2 0 3) = (some (0, 100 + 3)) then (Q M) else (w_Reader_wrong this (fun i4 M3 => i4 = 0 ∧ X M3) M)
set_option maxRecDepth 4096 in
theorem lk_Reader_end {γ : Gm} (hγ : Gk γ) (this : Nat) (Q : Mem → Prop) (X : Mem → Prop) (M : Mem) (h : w_Reader_end this Q X M) : E γ k_Reader_end 2 0 [some (vr (some (3, this)))] [] M (Qx (9, 0) (Qv Q) X) := by
  unfold w_Reader_end at h
  refine E_blk (lv' := [some (vr (some (3, this)))]) (st' := [vr (mR M 2 0 3)]) (M1 := M) (pc' := 7) (tb_Reader hγ) [.aload_n 0, .getfield 20, .getfield 98] (by decide +kernel) rfl rfl trivial ?_
  refine E_gets (κ := k_Reader_end) (pc := 7) (j := 3) (idx := 102) (n := "END") hγ.2.1 rfl (tbk_mem (j := 6) (k := 105) rfl) (by decide +kernel) ?_
  obtain ⟨c2, h⟩ := h
  refine E_acmp_eq (off := 8) (tgt := 18) hγ.2.1 c2 (isK_c 3 (by decide)) (by decide +kernel) (by decide) (fun b1 => ?_) (fun b1 => ?_)
  · rw [if_pos b1] at h
    exact (E_vret rfl (by decide +kernel) h).nx
  · rw [if_neg b1] at h
    refine E_blk (lv' := [some (vr (some (3, this)))]) (st' := [vr (some (3, this))]) (M1 := M) (pc' := 14) (tb_Reader hγ) [.aload_n 0] (by decide +kernel) rfl rfl trivial ?_
    refine E_callV (κ' := k_Reader_wrong) (As := []) (st := []) mv_Reader_wrong (Or.inl (tbk_mem (j := 6) (k := 122) rfl)) rfl (by decide +kernel) (Nat.le_of_ble_eq_true rfl) (Nat.le_of_ble_eq_true rfl) rfl (by decide) (lk_Reader_wrong hγ this _ M h) (fun _ _ => Qr_r) (fun v M3 hp => Qr_k (R := fun st => E γ k_Reader_end 2 17 [some (vr (some (3, this)))] st M3 (Qx (9, 0) (Qv Q) X)) hp (fun i4 h => ?_))
    obtain ⟨e0, h⟩ := h
    rw [e0]
    exact E_throw (by decide) rfl (by decide +kernel) h
def w_World_isFace (this : Nat) (a1 : Int32) (Q : Int32 → Mem → Prop) (M : Mem) : Prop :=
  vp_in a1 (mL M 40 this) ∧ if ((mI M 40 this a1.toNatClampNeg) &&& (4 : Int32)) = 0 then (Q (0 : Int32) M) else (Q (1 : Int32) M)
set_option maxRecDepth 4096 in
theorem lk_World_isFace {γ : Gm} (hγ : Gk γ) (this : Nat) (a1 : Int32) (Q : Int32 → Mem → Prop) (M : Mem) (h : w_World_isFace this a1 Q M) : E γ k_World_isFace 0 0 [some (vr (some (5, this))), some (vi a1)] [] M (Qi Q) := by
  unfold w_World_isFace at h
  obtain ⟨c1, h⟩ := h
  refine E_blk (lv' := [some (vr (some (5, this))), some (vi a1)]) (st' := [vi ((mI M 40 this a1.toNatClampNeg) &&& (4 : Int32))]) (M1 := M) (pc' := 8) (tb_World hγ) [.aload_n 0, .getfield 32, .iload_n 1, .iaload, .iconst 4, .iand] (by decide +kernel) rfl rfl ⟨c1, trivial⟩ ?_
  refine E_if_eq (off := 7) (tgt := 15) (by decide +kernel) (by decide) (fun b2 => ?_) (fun b2 => ?_)
  · rw [if_pos b2] at h
    refine E_blk (lv' := [some (vr (some (5, this))), some (vi a1)]) (st' := [vi (0 : Int32)]) (M1 := M) (pc' := 16) (tb_World hγ) [.iconst 0] (by decide +kernel) rfl rfl trivial ?_
    exact E_zret rfl (Or.inl rfl) (by decide +kernel) h
  · rw [if_neg b2] at h
    refine E_blk (lv' := [some (vr (some (5, this))), some (vi a1)]) (st' := [vi (1 : Int32)]) (M1 := M) (pc' := 12) (tb_World hγ) [.iconst 1] (by decide +kernel) rfl rfl trivial ?_
    refine E_goto (off := 4) (tgt := 16) (by decide +kernel) (by decide) ?_
    exact E_zret rfl (Or.inr rfl) (by decide +kernel) h
def w_Reader_isFace (this : Nat) (Q : Int32 → Mem → Prop) (M : Mem) : Prop :=
  ∃ i1, (mR M 3 this 1) = some (5, i1) ∧ w_World_isFace i1 (mI M 3 this 3) (fun r3 M2 => (r3 = 0 ∨ r3 = 1) ∧ Q r3 M2) M
set_option maxRecDepth 4096 in
theorem lk_Reader_isFace {γ : Gm} (hγ : Gk γ) (this : Nat) (Q : Int32 → Mem → Prop) (M : Mem) (h : w_Reader_isFace this Q M) : E γ k_Reader_isFace 1 0 [some (vr (some (3, this)))] [] M (Qi Q) := by
  unfold w_Reader_isFace at h
  refine E_blk (lv' := [some (vr (some (3, this)))]) (st' := [vr (mR M 3 this 1)]) (M1 := M) (pc' := 4) (tb_Reader hγ) [.aload_n 0, .getfield 52] (by decide +kernel) rfl rfl trivial ?_
  obtain ⟨i1, ei1, h⟩ := h
  rw [ei1]
  refine E_blk (lv' := [some (vr (some (3, this)))]) (st' := [vi (mI M 3 this 3), vr (some (5, i1))]) (M1 := M) (pc' := 8) (tb_Reader hγ) [.aload_n 0, .getfield 188] (by decide +kernel) rfl rfl trivial ?_
  refine E_callV (κ' := k_World_isFace) (As := [vi (mI M 3 this 3)]) (st := []) mv_World_isFace (Or.inl (tbk_mem (j := 6) (k := 199) rfl)) rfl (by decide +kernel) (Nat.le_of_ble_eq_true rfl) (Nat.le_of_ble_eq_true rfl) rfl (by decide) (lk_World_isFace hγ i1 (mI M 3 this 3) _ M h) (fun _ _ => Qi_r) (fun v M2 hp => Qi_k (R := fun st => E γ k_Reader_isFace 1 11 [some (vr (some (3, this)))] st M2 (Qi Q)) hp (fun r3 h => ?_))
  exact E_zret rfl h.1 (by decide +kernel) h.2
def w_Reader_field_j232 (this : Nat) (Q : Mem → Prop) (X : Mem → Prop) (v1 : Int32) (v2 : Int32) (v3 : Int32) (v4 : Int32) (v5 : Int32) (M : Mem) : Prop :=
  ∃ i24, (mR M 3 this 1) = some (5, i24) ∧ ∃ i25, (mR M 3 this 1) = some (5, i25) ∧ ∃ i26, (mR (sI M 5 i25 17 ((mI M 5 i25 17) + (1 : Int32))) 3 this 1) = some (5, i26) ∧ vp_in (mI (sI M 5 i25 17 ((mI M 5 i25 17) + (1 : Int32))) 3 this 3) (mL (sI M 5 i25 17 ((mI M 5 i25 17) + (1 : Int32))) 42 i26) ∧ vp_in (mI (sI M 5 i25 17 ((mI M 5 i25 17) + (1 : Int32))) 3 this 3) (mL (sI M 5 i25 17 ((mI M 5 i25 17) + (1 : Int32))) 42 i26) ∧ ∃ M29, M29 = (sI (sI M 5 i25 17 ((mI M 5 i25 17) + (1 : Int32))) 42 i26 (mI (sI M 5 i25 17 ((mI M 5 i25 17) + (1 : Int32))) 3 this 3).toNatClampNeg ((mI (sI M 5 i25 17 ((mI M 5 i25 17) + (1 : Int32))) 42 i26 (mI (sI M 5 i25 17 ((mI M 5 i25 17) + (1 : Int32))) 3 this 3).toNatClampNeg) + (1 : Int32))) ∧ ∃ i30, (mR M29 3 this 1) = some (5, i30) ∧ vp_in (mI M 5 i24 17) (mL M29 49 i30) ∧ ∃ i32, (mR (sI M29 49 i30 (mI M 5 i24 17).toNatClampNeg v2) 3 this 1) = some (5, i32) ∧ vp_in (mI M 5 i24 17) (mL (sI M29 49 i30 (mI M 5 i24 17).toNatClampNeg v2) 50 i32) ∧ ∃ M34, M34 = (sI (sI M29 49 i30 (mI M 5 i24 17).toNatClampNeg v2) 50 i32 (mI M 5 i24 17).toNatClampNeg v3) ∧ ∃ i35, (mR M34 3 this 1) = some (5, i35) ∧ vp_in (mI M 5 i24 17) (mL M34 51 i35) ∧ ∃ i37, (mR (sI M34 51 i35 (mI M 5 i24 17).toNatClampNeg v1) 3 this 1) = some (5, i37) ∧ vp_in (mI M 5 i24 17) (mL (sI M34 51 i35 (mI M 5 i24 17).toNatClampNeg v1) 52 i37) ∧ ∃ M39, M39 = (sI (sI M34 51 i35 (mI M 5 i24 17).toNatClampNeg v1) 52 i37 (mI M 5 i24 17).toNatClampNeg v5) ∧ ∃ i40, (mR M39 3 this 1) = some (5, i40) ∧ vp_in (mI M 5 i24 17) (mL M39 511 i40) ∧ ∃ i42, (mR (sI M39 511 i40 (mI M 5 i24 17).toNatClampNeg (v4 &&& 1)) 3 this 1) = some (5, i42) ∧ vp_in (mI M 5 i24 17) (mL (sI M39 511 i40 (mI M 5 i24 17).toNatClampNeg (v4 &&& 1)) 53 i42) ∧ ∃ M44, M44 = (sI (sI M39 511 i40 (mI M 5 i24 17).toNatClampNeg (v4 &&& 1)) 53 i42 (mI M 5 i24 17).toNatClampNeg (0 : Int32)) ∧ ∃ i45, (mR M44 3 this 1) = some (5, i45) ∧ vp_in (mI M 5 i24 17) (mL M44 54 i45) ∧ Q (sI M44 54 i45 (mI M 5 i24 17).toNatClampNeg (0 : Int32))
def w_Reader_field_j218 (this : Nat) (Q : Mem → Prop) (X : Mem → Prop)  (M : Mem) : Prop :=
  w_Works_refuse 0 (14 : Int32) (mI M 3 this 2) (fun i49 M48 => i49 = 0 ∧ X M48) M
def w_Reader_field_j182 (this : Nat) (Q : Mem → Prop) (X : Mem → Prop) (v1 : Int32) (v2 : Int32) (v3 : Int32) (v4 : Int32) (v5 : Int32) (v7 : Int32) (M : Mem) : Prop :=
  if v7 = (8 : Int32) then (w_Works_refuse 0 (12 : Int32) (mI M 3 this 2) (fun i22 M21 => i22 = 0 ∧ X M21) M) else (if v4 = 0 then (w_Reader_field_j232 this Q X v1 v2 v3 v4 v5 M) else (if (v1 &&& (1 : Int32)) = 0 then (w_Reader_field_j218 this Q X  M) else (if v3 = 0 then (w_Reader_field_j232 this Q X v1 v2 v3 v4 v5 M) else (w_Reader_field_j218 this Q X  M))))
def w_Reader_field_L101 (this : Nat) (Q : Mem → Prop) (X : Mem → Prop) : Nat → Int32 → Int32 → Int32 → Int32 → Int32 → Int32 → Int32 → Int32 → Mem → Prop
  | 0, _, _, _, _, _, _, _, _, _ => False
  | n + 1, v1, v2, v3, v4, v5, v6, v7, v8, M => if (v6 + v7) ≤ v8 then (w_Reader_isFace this (fun r18 M17 => if r18 = 0 then (w_Reader_field_j182 this Q X v1 v2 v3 v4 v5 v7 M17) else (if (v1 &&& (3 : Int32)) = (3 : Int32) then (w_Reader_field_j182 this Q X v1 v2 v3 v4 v5 v7 M17) else (∃ i52, (mR M17 3 this 1) = some (5, i52) ∧ w_World_asks i52 (5 : Int32) (fun r54 M53 => if r54 = 0 then (w_Reader_field_j182 this Q X v1 v2 v3 v4 v5 v7 M53) else (w_Works_refuse 0 (5 : Int32) (mI M53 3 this 2) (fun i57 M56 => i57 = 0 ∧ X M56) M53)) M17))) M) else (∃ i58, (mR M 3 this 1) = some (5, i58) ∧ vp_in v8 (mL M 49 i58) ∧ if (mI M 49 i58 v8.toNatClampNeg) = v2 then (w_Works_refuse 0 (3 : Int32) (mI M 3 this 2) (fun i62 M61 => i62 = 0 ∧ X M61) M) else ((w_Reader_field_L101 this Q X n) v1 v2 v3 v4 v5 v6 v7 (v8 + (1 : Int32)) M))
def w_Reader_field_j65 (this : Nat) (Q : Mem → Prop) (X : Mem → Prop) (v1 : Int32) (v2 : Int32) (v3 : Int32) (v4 : Int32) (v5 : Int32) (M : Mem) : Prop :=
  w_Reader_end this (fun M11 => ∃ i12, (mR M11 3 this 1) = some (5, i12) ∧ vp_in (mI M11 3 this 3) (mL M11 41 i12) ∧ ∃ i14, (mR M11 3 this 1) = some (5, i14) ∧ vp_in (mI M11 3 this 3) (mL M11 42 i14) ∧ ∃ n63 : Nat, w_Reader_field_L101 this Q X n63 v1 v2 v3 v4 v5 (mI M11 41 i12 (mI M11 3 this 3).toNatClampNeg) (mI M11 42 i14 (mI M11 3 this 3).toNatClampNeg) (mI M11 41 i12 (mI M11 3 this 3).toNatClampNeg) M11) X M
def w_Reader_field (this : Nat) (Q : Mem → Prop) (X : Mem → Prop) (M : Mem) : Prop :=
  w_Words_next 0 (fun M1 => w_Reader_flags this (52 : Int32) (69 : Int32) (72 : Int32) (-1 : Int32) (fun r3 M2 => w_Reader_anyName this (fun r5 M4 => w_Reader_type this (fun r7 M6 => w_Words_isSign 0 (61 : Int32) (fun r9 M8 => if r9 = 0 then (w_Reader_field_j65 this Q X r3 r5 r7 r9 (0 : Int32) M8) else (w_Words_next 0 (fun M64 => w_Reader_number this (-2147483648 : Int32) (2147483647 : Int32) (fun r66 M65 => w_Reader_field_j65 this Q X r3 r5 r7 r9 r66 M65) X M64) M8)) M6) X M4) X M2) M1) M
set_option maxRecDepth 4096 in
theorem lk_Reader_field_j232 {γ : Gm} (hγ : Gk γ) (this : Nat) (Q : Mem → Prop) (X : Mem → Prop) (v1 : Int32) (v2 : Int32) (v3 : Int32) (v4 : Int32) (v5 : Int32) (M : Mem) (h : w_Reader_field_j232 this Q X v1 v2 v3 v4 v5 M) : E γ k_Reader_field 6 232 [some (vr (some (3, this))), some (vi v1), some (vi v2), some (vi v3), some (vi v4), some (vi v5), none, none, none] [] M (Qx (9, 0) (Qv Q) X) := by
  unfold w_Reader_field_j232 at h
  refine E_blk (lv' := [some (vr (some (3, this))), some (vi v1), some (vi v2), some (vi v3), some (vi v4), some (vi v5), none, none, none]) (st' := [vr (mR M 3 this 1)]) (M1 := M) (pc' := 236) (tb_Reader hγ) [.aload_n 0, .getfield 52] (by decide +kernel) rfl rfl trivial ?_
  obtain ⟨i24, ei24, h⟩ := h
  rw [ei24]
  refine E_blk (lv' := [some (vr (some (3, this))), some (vi v1), some (vi v2), some (vi v3), some (vi v4), some (vi v5), none, none, some (vi (mI M 5 i24 17))]) (st' := [vr (mR M 3 this 1)]) (M1 := M) (pc' := 245) (tb_Reader hγ) [.getfield 62, .istore 8, .aload_n 0, .getfield 52] (by decide +kernel) rfl rfl trivial ?_
  obtain ⟨i25, ei25, h⟩ := h
  rw [ei25]
  refine E_blk (lv' := [some (vr (some (3, this))), some (vi v1), some (vi v2), some (vi v3), some (vi v4), some (vi v5), none, none, some (vi (mI M 5 i24 17))]) (st' := [vr (mR (sI M 5 i25 17 ((mI M 5 i25 17) + (1 : Int32))) 3 this 1)]) (M1 := (sI M 5 i25 17 ((mI M 5 i25 17) + (1 : Int32)))) (pc' := 258) (tb_Reader hγ) [.dup, .getfield 62, .iconst 1, .iadd, .putfield 62, .aload_n 0, .getfield 52] (by decide +kernel) rfl rfl trivial ?_
  obtain ⟨i26, ei26, h⟩ := h
  rw [ei26]
  obtain ⟨c27, c28, h⟩ := h
  refine E_blk (lv' := [some (vr (some (3, this))), some (vi v1), some (vi v2), some (vi v3), some (vi v4), some (vi v5), none, none, some (vi (mI M 5 i24 17))]) (st' := []) (M1 := (sI (sI M 5 i25 17 ((mI M 5 i25 17) + (1 : Int32))) 42 i26 (mI (sI M 5 i25 17 ((mI M 5 i25 17) + (1 : Int32))) 3 this 3).toNatClampNeg ((mI (sI M 5 i25 17 ((mI M 5 i25 17) + (1 : Int32))) 42 i26 (mI (sI M 5 i25 17 ((mI M 5 i25 17) + (1 : Int32))) 3 this 3).toNatClampNeg) + (1 : Int32)))) (pc' := 270) (tb_Reader hγ) [.getfield 226, .aload_n 0, .getfield 188, .dup2, .iaload, .iconst 1, .iadd, .iastore] (by decide +kernel) rfl rfl ⟨c27, c28, trivial⟩ ?_
  obtain ⟨M29, eM29, h⟩ := h
  rw [← eM29]
  refine E_blk (lv' := [some (vr (some (3, this))), some (vi v1), some (vi v2), some (vi v3), some (vi v4), some (vi v5), none, none, some (vi (mI M 5 i24 17))]) (st' := [vr (mR M29 3 this 1)]) (M1 := M29) (pc' := 274) (tb_Reader hγ) [.aload_n 0, .getfield 52] (by decide +kernel) rfl rfl trivial ?_
  obtain ⟨i30, ei30, h⟩ := h
  rw [ei30]
  obtain ⟨c31, h⟩ := h
  refine E_blk (lv' := [some (vr (some (3, this))), some (vi v1), some (vi v2), some (vi v3), some (vi v4), some (vi v5), none, none, some (vi (mI M 5 i24 17))]) (st' := [vr (mR (sI M29 49 i30 (mI M 5 i24 17).toNatClampNeg v2) 3 this 1)]) (M1 := (sI M29 49 i30 (mI M 5 i24 17).toNatClampNeg v2)) (pc' := 285) (tb_Reader hγ) [.getfield 229, .iload 8, .iload_n 2, .iastore, .aload_n 0, .getfield 52] (by decide +kernel) rfl rfl ⟨c31, trivial⟩ ?_
  obtain ⟨i32, ei32, h⟩ := h
  rw [ei32]
  obtain ⟨c33, h⟩ := h
  refine E_blk (lv' := [some (vr (some (3, this))), some (vi v1), some (vi v2), some (vi v3), some (vi v4), some (vi v5), none, none, some (vi (mI M 5 i24 17))]) (st' := []) (M1 := (sI (sI M29 49 i30 (mI M 5 i24 17).toNatClampNeg v2) 50 i32 (mI M 5 i24 17).toNatClampNeg v3)) (pc' := 292) (tb_Reader hγ) [.getfield 234, .iload 8, .iload_n 3, .iastore] (by decide +kernel) rfl rfl ⟨c33, trivial⟩ ?_
  obtain ⟨M34, eM34, h⟩ := h
  rw [← eM34]
  refine E_blk (lv' := [some (vr (some (3, this))), some (vi v1), some (vi v2), some (vi v3), some (vi v4), some (vi v5), none, none, some (vi (mI M 5 i24 17))]) (st' := [vr (mR M34 3 this 1)]) (M1 := M34) (pc' := 296) (tb_Reader hγ) [.aload_n 0, .getfield 52] (by decide +kernel) rfl rfl trivial ?_
  obtain ⟨i35, ei35, h⟩ := h
  rw [ei35]
  obtain ⟨c36, h⟩ := h
  refine E_blk (lv' := [some (vr (some (3, this))), some (vi v1), some (vi v2), some (vi v3), some (vi v4), some (vi v5), none, none, some (vi (mI M 5 i24 17))]) (st' := [vr (mR (sI M34 51 i35 (mI M 5 i24 17).toNatClampNeg v1) 3 this 1)]) (M1 := (sI M34 51 i35 (mI M 5 i24 17).toNatClampNeg v1)) (pc' := 307) (tb_Reader hγ) [.getfield 237, .iload 8, .iload_n 1, .iastore, .aload_n 0, .getfield 52] (by decide +kernel) rfl rfl ⟨c36, trivial⟩ ?_
  obtain ⟨i37, ei37, h⟩ := h
  rw [ei37]
  obtain ⟨c38, h⟩ := h
  refine E_blk (lv' := [some (vr (some (3, this))), some (vi v1), some (vi v2), some (vi v3), some (vi v4), some (vi v5), none, none, some (vi (mI M 5 i24 17))]) (st' := []) (M1 := (sI (sI M34 51 i35 (mI M 5 i24 17).toNatClampNeg v1) 52 i37 (mI M 5 i24 17).toNatClampNeg v5)) (pc' := 315) (tb_Reader hγ) [.getfield 240, .iload 8, .iload 5, .iastore] (by decide +kernel) rfl rfl ⟨c38, trivial⟩ ?_
  obtain ⟨M39, eM39, h⟩ := h
  rw [← eM39]
  refine E_blk (lv' := [some (vr (some (3, this))), some (vi v1), some (vi v2), some (vi v3), some (vi v4), some (vi v5), none, none, some (vi (mI M 5 i24 17))]) (st' := [vr (mR M39 3 this 1)]) (M1 := M39) (pc' := 319) (tb_Reader hγ) [.aload_n 0, .getfield 52] (by decide +kernel) rfl rfl trivial ?_
  obtain ⟨i40, ei40, h⟩ := h
  rw [ei40]
  obtain ⟨c41, h⟩ := h
  refine E_blk (lv' := [some (vr (some (3, this))), some (vi v1), some (vi v2), some (vi v3), some (vi v4), some (vi v5), none, none, some (vi (mI M 5 i24 17))]) (st' := [vr (mR (sI M39 511 i40 (mI M 5 i24 17).toNatClampNeg (v4 &&& 1)) 3 this 1)]) (M1 := (sI M39 511 i40 (mI M 5 i24 17).toNatClampNeg (v4 &&& 1))) (pc' := 331) (tb_Reader hγ) [.getfield 243, .iload 8, .iload 4, .bastore, .aload_n 0, .getfield 52] (by decide +kernel) rfl rfl ⟨c41, trivial⟩ ?_
  obtain ⟨i42, ei42, h⟩ := h
  rw [ei42]
  obtain ⟨c43, h⟩ := h
  refine E_blk (lv' := [some (vr (some (3, this))), some (vi v1), some (vi v2), some (vi v3), some (vi v4), some (vi v5), none, none, some (vi (mI M 5 i24 17))]) (st' := []) (M1 := (sI (sI M39 511 i40 (mI M 5 i24 17).toNatClampNeg (v4 &&& 1)) 53 i42 (mI M 5 i24 17).toNatClampNeg (0 : Int32))) (pc' := 338) (tb_Reader hγ) [.getfield 247, .iload 8, .iconst 0, .iastore] (by decide +kernel) rfl rfl ⟨c43, trivial⟩ ?_
  obtain ⟨M44, eM44, h⟩ := h
  rw [← eM44]
  refine E_blk (lv' := [some (vr (some (3, this))), some (vi v1), some (vi v2), some (vi v3), some (vi v4), some (vi v5), none, none, some (vi (mI M 5 i24 17))]) (st' := [vr (mR M44 3 this 1)]) (M1 := M44) (pc' := 342) (tb_Reader hγ) [.aload_n 0, .getfield 52] (by decide +kernel) rfl rfl trivial ?_
  obtain ⟨i45, ei45, h⟩ := h
  rw [ei45]
  obtain ⟨c46, h⟩ := h
  refine E_blk (lv' := [some (vr (some (3, this))), some (vi v1), some (vi v2), some (vi v3), some (vi v4), some (vi v5), none, none, some (vi (mI M 5 i24 17))]) (st' := []) (M1 := (sI M44 54 i45 (mI M 5 i24 17).toNatClampNeg (0 : Int32))) (pc' := 349) (tb_Reader hγ) [.getfield 250, .iload 8, .iconst 0, .iastore] (by decide +kernel) rfl rfl ⟨c46, trivial⟩ ?_
  exact (E_vret rfl (by decide +kernel) h).nx
set_option maxRecDepth 4096 in
theorem lk_Reader_field_j218 {γ : Gm} (hγ : Gk γ) (this : Nat) (Q : Mem → Prop) (X : Mem → Prop)  (M : Mem) (h : w_Reader_field_j218 this Q X  M) : E γ k_Reader_field 6 218 [some (vr (some (3, this))), none, none, none, none, none, none, none, none] [] M (Qx (9, 0) (Qv Q) X) := by
  unfold w_Reader_field_j218 at h
  refine E_blk (lv' := [some (vr (some (3, this))), none, none, none, none, none, none, none, none]) (st' := [vi (mI M 3 this 2), vi (14 : Int32), vr (some (10, 0))]) (M1 := M) (pc' := 228) (tb_Reader hγ) [.aload_n 0, .getfield 3, .bipush 14, .aload_n 0, .getfield 113] (by decide +kernel) rfl rfl trivial ?_
  refine E_callV (κ' := k_Works_refuse) (As := [vi (14 : Int32), vi (mI M 3 this 2)]) (st := []) mv_Works_refuse (Or.inr ⟨"ClassWorks", (tbk_mem (j := 6) (k := 126) rfl)⟩) rfl (by decide +kernel) (Nat.le_of_ble_eq_true rfl) (Nat.le_of_ble_eq_true rfl) rfl (by decide) (lk_Works_refuse hγ 0 (14 : Int32) (mI M 3 this 2) _ M h) (fun _ _ => Qr_r) (fun v M48 hp => Qr_k (R := fun st => E γ k_Reader_field 6 231 [some (vr (some (3, this))), none, none, none, none, none, none, none, none] st M48 (Qx (9, 0) (Qv Q) X)) hp (fun i49 h => ?_))
  obtain ⟨e0, h⟩ := h
  rw [e0]
  exact E_throw (by decide) rfl (by decide +kernel) h
set_option maxRecDepth 4096 in
theorem lk_Reader_field_j182 {γ : Gm} (hγ : Gk γ) (this : Nat) (Q : Mem → Prop) (X : Mem → Prop) (v1 : Int32) (v2 : Int32) (v3 : Int32) (v4 : Int32) (v5 : Int32) (v7 : Int32) (M : Mem) (h : w_Reader_field_j182 this Q X v1 v2 v3 v4 v5 v7 M) : E γ k_Reader_field 6 182 [some (vr (some (3, this))), some (vi v1), some (vi v2), some (vi v3), some (vi v4), some (vi v5), none, some (vi v7), none] [] M (Qx (9, 0) (Qv Q) X) := by
  unfold w_Reader_field_j182 at h
  refine E_blk (lv' := [some (vr (some (3, this))), some (vi v1), some (vi v2), some (vi v3), some (vi v4), some (vi v5), none, some (vi v7), none]) (st' := [vi (8 : Int32), vi v7]) (M1 := M) (pc' := 186) (tb_Reader hγ) [.iload 7, .bipush 8] (by decide +kernel) rfl rfl trivial ?_
  refine E_icmp_ne (off := 17) (tgt := 203) (by decide +kernel) (by decide) (fun b20 => ?_) (fun b20 => ?_)
  · rw [if_pos b20] at h
    refine E_blk (lv' := [some (vr (some (3, this))), some (vi v1), some (vi v2), some (vi v3), some (vi v4), some (vi v5), none, some (vi v7), none]) (st' := [vi (mI M 3 this 2), vi (12 : Int32), vr (some (10, 0))]) (M1 := M) (pc' := 199) (tb_Reader hγ) [.aload_n 0, .getfield 3, .bipush 12, .aload_n 0, .getfield 113] (by decide +kernel) rfl rfl trivial ?_
    refine E_callV (κ' := k_Works_refuse) (As := [vi (12 : Int32), vi (mI M 3 this 2)]) (st := []) mv_Works_refuse (Or.inr ⟨"ClassWorks", (tbk_mem (j := 6) (k := 126) rfl)⟩) rfl (by decide +kernel) (Nat.le_of_ble_eq_true rfl) (Nat.le_of_ble_eq_true rfl) rfl (by decide) (lk_Works_refuse hγ 0 (12 : Int32) (mI M 3 this 2) _ M h) (fun _ _ => Qr_r) (fun v M21 hp => Qr_k (R := fun st => E γ k_Reader_field 6 202 [some (vr (some (3, this))), some (vi v1), some (vi v2), some (vi v3), some (vi v4), some (vi v5), none, some (vi v7), none] st M21 (Qx (9, 0) (Qv Q) X)) hp (fun i22 h => ?_))
    obtain ⟨e0, h⟩ := h
    rw [e0]
    exact E_throw (by decide) rfl (by decide +kernel) h
  · rw [if_neg b20] at h
    refine E_blk (lv' := [some (vr (some (3, this))), some (vi v1), some (vi v2), some (vi v3), some (vi v4), some (vi v5), none, some (vi v7), none]) (st' := [vi v4]) (M1 := M) (pc' := 205) (tb_Reader hγ) [.iload 4] (by decide +kernel) rfl rfl trivial ?_
    refine E_if_eq (off := 27) (tgt := 232) (by decide +kernel) (by decide) (fun b23 => ?_) (fun b23 => ?_)
    · rw [if_pos b23] at h
      refine E_mask [true, true, true, true, true, true, false, false, false] rfl ?_
      exact lk_Reader_field_j232 hγ this Q X v1 v2 v3 v4 v5 M h
    · rw [if_neg b23] at h
      refine E_blk (lv' := [some (vr (some (3, this))), some (vi v1), some (vi v2), some (vi v3), some (vi v4), some (vi v5), none, some (vi v7), none]) (st' := [vi (v1 &&& (1 : Int32))]) (M1 := M) (pc' := 211) (tb_Reader hγ) [.iload_n 1, .iconst 1, .iand] (by decide +kernel) rfl rfl trivial ?_
      refine E_if_eq (off := 7) (tgt := 218) (by decide +kernel) (by decide) (fun b47 => ?_) (fun b47 => ?_)
      · rw [if_pos b47] at h
        refine E_mask [true, false, false, false, false, false, false, false, false] rfl ?_
        exact lk_Reader_field_j218 hγ this Q X  M h
      · rw [if_neg b47] at h
        refine E_blk (lv' := [some (vr (some (3, this))), some (vi v1), some (vi v2), some (vi v3), some (vi v4), some (vi v5), none, some (vi v7), none]) (st' := [vi v3]) (M1 := M) (pc' := 215) (tb_Reader hγ) [.iload_n 3] (by decide +kernel) rfl rfl trivial ?_
        refine E_if_eq (off := 17) (tgt := 232) (by decide +kernel) (by decide) (fun b50 => ?_) (fun b50 => ?_)
        · rw [if_pos b50] at h
          refine E_mask [true, true, true, true, true, true, false, false, false] rfl ?_
          exact lk_Reader_field_j232 hγ this Q X v1 v2 v3 v4 v5 M h
        · rw [if_neg b50] at h
          refine E_mask [true, false, false, false, false, false, false, false, false] rfl ?_
          exact lk_Reader_field_j218 hγ this Q X  M h
set_option maxRecDepth 4096 in
theorem lk_Reader_field_L101 {γ : Gm} (hγ : Gk γ) (this : Nat) (Q : Mem → Prop) (X : Mem → Prop) : ∀ (n : Nat) (v1 : Int32) (v2 : Int32) (v3 : Int32) (v4 : Int32) (v5 : Int32) (v6 : Int32) (v7 : Int32) (v8 : Int32) (M : Mem), w_Reader_field_L101 this Q X n v1 v2 v3 v4 v5 v6 v7 v8 M → E γ k_Reader_field 6 101 [some (vr (some (3, this))), some (vi v1), some (vi v2), some (vi v3), some (vi v4), some (vi v5), some (vi v6), some (vi v7), some (vi v8)] [] M (Qx (9, 0) (Qv Q) X) := by
  intro n
  induction n with
  | zero => intro v1 v2 v3 v4 v5 v6 v7 v8 M h; exact h.elim
  | succ n ih =>
    intro v1 v2 v3 v4 v5 v6 v7 v8 M h
    unfold w_Reader_field_L101 at h
    refine E_blk (lv' := [some (vr (some (3, this))), some (vi v1), some (vi v2), some (vi v3), some (vi v4), some (vi v5), some (vi v6), some (vi v7), some (vi v8)]) (st' := [vi (v6 + v7), vi v8]) (M1 := M) (pc' := 108) (tb_Reader hγ) [.iload 8, .iload 6, .iload 7, .iadd] (by decide +kernel) rfl rfl trivial ?_
    refine E_icmp_ge (off := 36) (tgt := 144) (by decide +kernel) (by decide) (fun b16 => ?_) (fun b16 => ?_)
    · rw [if_pos b16] at h
      refine E_blk (lv' := [some (vr (some (3, this))), some (vi v1), some (vi v2), some (vi v3), some (vi v4), some (vi v5), some (vi v6), some (vi v7), some (vi v8)]) (st' := [vr (some (3, this))]) (M1 := M) (pc' := 145) (tb_Reader hγ) [.aload_n 0] (by decide +kernel) rfl rfl trivial ?_
      refine E_callV (κ' := k_Reader_isFace) (As := []) (st := []) mv_Reader_isFace (Or.inl (tbk_mem (j := 6) (k := 195) rfl)) rfl (by decide +kernel) (Nat.le_of_ble_eq_true rfl) (Nat.le_of_ble_eq_true rfl) rfl (by decide) (lk_Reader_isFace hγ this _ M h) (fun _ _ => Qi_r) (fun v M17 hp => Qi_k (R := fun st => E γ k_Reader_field 6 148 [some (vr (some (3, this))), some (vi v1), some (vi v2), some (vi v3), some (vi v4), some (vi v5), some (vi v6), some (vi v7), some (vi v8)] st M17 (Qx (9, 0) (Qv Q) X)) hp (fun r18 h => ?_))
      refine E_if_eq (off := 34) (tgt := 182) (by decide +kernel) (by decide) (fun b19 => ?_) (fun b19 => ?_)
      · rw [if_pos b19] at h
        refine E_mask [true, true, true, true, true, true, false, true, false] rfl ?_
        exact lk_Reader_field_j182 hγ this Q X v1 v2 v3 v4 v5 v7 M17 h
      · rw [if_neg b19] at h
        refine E_blk (lv' := [some (vr (some (3, this))), some (vi v1), some (vi v2), some (vi v3), some (vi v4), some (vi v5), some (vi v6), some (vi v7), some (vi v8)]) (st' := [vi (3 : Int32), vi (v1 &&& (3 : Int32))]) (M1 := M17) (pc' := 155) (tb_Reader hγ) [.iload_n 1, .iconst 3, .iand, .iconst 3] (by decide +kernel) rfl rfl trivial ?_
        refine E_icmp_eq (off := 27) (tgt := 182) (by decide +kernel) (by decide) (fun b51 => ?_) (fun b51 => ?_)
        · rw [if_pos b51] at h
          refine E_mask [true, true, true, true, true, true, false, true, false] rfl ?_
          exact lk_Reader_field_j182 hγ this Q X v1 v2 v3 v4 v5 v7 M17 h
        · rw [if_neg b51] at h
          refine E_blk (lv' := [some (vr (some (3, this))), some (vi v1), some (vi v2), some (vi v3), some (vi v4), some (vi v5), some (vi v6), some (vi v7), some (vi v8)]) (st' := [vr (mR M17 3 this 1)]) (M1 := M17) (pc' := 162) (tb_Reader hγ) [.aload_n 0, .getfield 52] (by decide +kernel) rfl rfl trivial ?_
          obtain ⟨i52, ei52, h⟩ := h
          rw [ei52]
          refine E_blk (lv' := [some (vr (some (3, this))), some (vi v1), some (vi v2), some (vi v3), some (vi v4), some (vi v5), some (vi v6), some (vi v7), some (vi v8)]) (st' := [vi (5 : Int32), vr (some (5, i52))]) (M1 := M17) (pc' := 163) (tb_Reader hγ) [.iconst 5] (by decide +kernel) rfl rfl trivial ?_
          refine E_callV (κ' := k_World_asks) (As := [vi (5 : Int32)]) (st := []) mv_World_asks (Or.inl (tbk_mem (j := 6) (k := 151) rfl)) rfl (by decide +kernel) (Nat.le_of_ble_eq_true rfl) (Nat.le_of_ble_eq_true rfl) rfl (by decide) (lk_World_asks hγ i52 (5 : Int32) _ M17 h) (fun _ _ => Qi_r) (fun v M53 hp => Qi_k (R := fun st => E γ k_Reader_field 6 166 [some (vr (some (3, this))), some (vi v1), some (vi v2), some (vi v3), some (vi v4), some (vi v5), some (vi v6), some (vi v7), some (vi v8)] st M53 (Qx (9, 0) (Qv Q) X)) hp (fun r54 h => ?_))
          refine E_if_eq (off := 16) (tgt := 182) (by decide +kernel) (by decide) (fun b55 => ?_) (fun b55 => ?_)
          · rw [if_pos b55] at h
            refine E_mask [true, true, true, true, true, true, false, true, false] rfl ?_
            exact lk_Reader_field_j182 hγ this Q X v1 v2 v3 v4 v5 v7 M53 h
          · rw [if_neg b55] at h
            refine E_blk (lv' := [some (vr (some (3, this))), some (vi v1), some (vi v2), some (vi v3), some (vi v4), some (vi v5), some (vi v6), some (vi v7), some (vi v8)]) (st' := [vi (mI M53 3 this 2), vi (5 : Int32), vr (some (10, 0))]) (M1 := M53) (pc' := 178) (tb_Reader hγ) [.aload_n 0, .getfield 3, .iconst 5, .aload_n 0, .getfield 113] (by decide +kernel) rfl rfl trivial ?_
            refine E_callV (κ' := k_Works_refuse) (As := [vi (5 : Int32), vi (mI M53 3 this 2)]) (st := []) mv_Works_refuse (Or.inr ⟨"ClassWorks", (tbk_mem (j := 6) (k := 126) rfl)⟩) rfl (by decide +kernel) (Nat.le_of_ble_eq_true rfl) (Nat.le_of_ble_eq_true rfl) rfl (by decide) (lk_Works_refuse hγ 0 (5 : Int32) (mI M53 3 this 2) _ M53 h) (fun _ _ => Qr_r) (fun v M56 hp => Qr_k (R := fun st => E γ k_Reader_field 6 181 [some (vr (some (3, this))), some (vi v1), some (vi v2), some (vi v3), some (vi v4), some (vi v5), some (vi v6), some (vi v7), some (vi v8)] st M56 (Qx (9, 0) (Qv Q) X)) hp (fun i57 h => ?_))
            obtain ⟨e0, h⟩ := h
            rw [e0]
            exact E_throw (by decide) rfl (by decide +kernel) h
    · rw [if_neg b16] at h
      refine E_blk (lv' := [some (vr (some (3, this))), some (vi v1), some (vi v2), some (vi v3), some (vi v4), some (vi v5), some (vi v6), some (vi v7), some (vi v8)]) (st' := [vr (mR M 3 this 1)]) (M1 := M) (pc' := 115) (tb_Reader hγ) [.aload_n 0, .getfield 52] (by decide +kernel) rfl rfl trivial ?_
      obtain ⟨i58, ei58, h⟩ := h
      rw [ei58]
      obtain ⟨c59, h⟩ := h
      refine E_blk (lv' := [some (vr (some (3, this))), some (vi v1), some (vi v2), some (vi v3), some (vi v4), some (vi v5), some (vi v6), some (vi v7), some (vi v8)]) (st' := [vi v2, vi (mI M 49 i58 v8.toNatClampNeg)]) (M1 := M) (pc' := 122) (tb_Reader hγ) [.getfield 229, .iload 8, .iaload, .iload_n 2] (by decide +kernel) rfl rfl ⟨c59, trivial⟩ ?_
      refine E_icmp_ne (off := 16) (tgt := 138) (by decide +kernel) (by decide) (fun b60 => ?_) (fun b60 => ?_)
      · rw [if_pos b60] at h
        refine E_blk (lv' := [some (vr (some (3, this))), some (vi v1), some (vi v2), some (vi v3), some (vi v4), some (vi v5), some (vi v6), some (vi v7), some (vi v8)]) (st' := [vi (mI M 3 this 2), vi (3 : Int32), vr (some (10, 0))]) (M1 := M) (pc' := 134) (tb_Reader hγ) [.aload_n 0, .getfield 3, .iconst 3, .aload_n 0, .getfield 113] (by decide +kernel) rfl rfl trivial ?_
        refine E_callV (κ' := k_Works_refuse) (As := [vi (3 : Int32), vi (mI M 3 this 2)]) (st := []) mv_Works_refuse (Or.inr ⟨"ClassWorks", (tbk_mem (j := 6) (k := 126) rfl)⟩) rfl (by decide +kernel) (Nat.le_of_ble_eq_true rfl) (Nat.le_of_ble_eq_true rfl) rfl (by decide) (lk_Works_refuse hγ 0 (3 : Int32) (mI M 3 this 2) _ M h) (fun _ _ => Qr_r) (fun v M61 hp => Qr_k (R := fun st => E γ k_Reader_field 6 137 [some (vr (some (3, this))), some (vi v1), some (vi v2), some (vi v3), some (vi v4), some (vi v5), some (vi v6), some (vi v7), some (vi v8)] st M61 (Qx (9, 0) (Qv Q) X)) hp (fun i62 h => ?_))
        obtain ⟨e0, h⟩ := h
        rw [e0]
        exact E_throw (by decide) rfl (by decide +kernel) h
      · rw [if_neg b60] at h
        refine E_blk (lv' := [some (vr (some (3, this))), some (vi v1), some (vi v2), some (vi v3), some (vi v4), some (vi v5), some (vi v6), some (vi v7), some (vi (v8 + (1 : Int32)))]) (st' := []) (M1 := M) (pc' := 141) (tb_Reader hγ) [.iinc 8 1] (by decide +kernel) rfl rfl trivial ?_
        refine E_goto (off := -40) (tgt := 101) (by decide +kernel) (by decide) ?_
        refine E_mask [true, true, true, true, true, true, true, true, true] rfl ?_
        exact ih v1 v2 v3 v4 v5 v6 v7 (v8 + (1 : Int32)) M h
set_option maxRecDepth 4096 in
theorem lk_Reader_field_j65 {γ : Gm} (hγ : Gk γ) (this : Nat) (Q : Mem → Prop) (X : Mem → Prop) (v1 : Int32) (v2 : Int32) (v3 : Int32) (v4 : Int32) (v5 : Int32) (M : Mem) (h : w_Reader_field_j65 this Q X v1 v2 v3 v4 v5 M) : E γ k_Reader_field 6 65 [some (vr (some (3, this))), some (vi v1), some (vi v2), some (vi v3), some (vi v4), some (vi v5), none, none, none] [] M (Qx (9, 0) (Qv Q) X) := by
  unfold w_Reader_field_j65 at h
  refine E_blk (lv' := [some (vr (some (3, this))), some (vi v1), some (vi v2), some (vi v3), some (vi v4), some (vi v5), none, none, none]) (st' := [vr (some (3, this))]) (M1 := M) (pc' := 66) (tb_Reader hγ) [.aload_n 0] (by decide +kernel) rfl rfl trivial ?_
  refine E_callX (κ' := k_Reader_end) (As := []) (st := []) mv_Reader_end (Or.inl (tbk_mem (j := 6) (k := 191) rfl)) rfl (by decide +kernel) (Nat.le_of_ble_eq_true rfl) (Nat.le_of_ble_eq_true rfl) rfl (by decide) rfl (lk_Reader_end hγ this _ _ M h) (fun _ _ => Qv_r) (fun _ h => h) (fun v M11 hp => Qv_k (R := fun st => E γ k_Reader_field 6 69 [some (vr (some (3, this))), some (vi v1), some (vi v2), some (vi v3), some (vi v4), some (vi v5), none, none, none] st M11 (Qx (9, 0) (Qv Q) X)) hp (fun h => ?_))
  refine E_blk (lv' := [some (vr (some (3, this))), some (vi v1), some (vi v2), some (vi v3), some (vi v4), some (vi v5), none, none, none]) (st' := [vr (mR M11 3 this 1)]) (M1 := M11) (pc' := 73) (tb_Reader hγ) [.aload_n 0, .getfield 52] (by decide +kernel) rfl rfl trivial ?_
  obtain ⟨i12, ei12, h⟩ := h
  rw [ei12]
  obtain ⟨c13, h⟩ := h
  refine E_blk (lv' := [some (vr (some (3, this))), some (vi v1), some (vi v2), some (vi v3), some (vi v4), some (vi v5), some (vi (mI M11 41 i12 (mI M11 3 this 3).toNatClampNeg)), none, none]) (st' := [vr (mR M11 3 this 1)]) (M1 := M11) (pc' := 87) (tb_Reader hγ) [.getfield 223, .aload_n 0, .getfield 188, .iaload, .istore 6, .aload_n 0, .getfield 52] (by decide +kernel) rfl rfl ⟨c13, trivial⟩ ?_
  obtain ⟨i14, ei14, h⟩ := h
  rw [ei14]
  obtain ⟨c15, h⟩ := h
  refine E_blk (lv' := [some (vr (some (3, this))), some (vi v1), some (vi v2), some (vi v3), some (vi v4), some (vi v5), some (vi (mI M11 41 i12 (mI M11 3 this 3).toNatClampNeg)), some (vi (mI M11 42 i14 (mI M11 3 this 3).toNatClampNeg)), some (vi (mI M11 41 i12 (mI M11 3 this 3).toNatClampNeg))]) (st' := []) (M1 := M11) (pc' := 101) (tb_Reader hγ) [.getfield 226, .aload_n 0, .getfield 188, .iaload, .istore 7, .iload 6, .istore 8] (by decide +kernel) rfl rfl ⟨c15, trivial⟩ ?_
  obtain ⟨n63, h⟩ := h
  refine E_mask [true, true, true, true, true, true, true, true, true] rfl ?_
  exact lk_Reader_field_L101 hγ this Q X n63 v1 v2 v3 v4 v5 (mI M11 41 i12 (mI M11 3 this 3).toNatClampNeg) (mI M11 42 i14 (mI M11 3 this 3).toNatClampNeg) (mI M11 41 i12 (mI M11 3 this 3).toNatClampNeg) M11 h
set_option maxRecDepth 4096 in
theorem lk_Reader_field {γ : Gm} (hγ : Gk γ) (this : Nat) (Q : Mem → Prop) (X : Mem → Prop) (M : Mem) (h : w_Reader_field this Q X M) : E γ k_Reader_field 6 0 [some (vr (some (3, this))), none, none, none, none, none, none, none, none] [] M (Qx (9, 0) (Qv Q) X) := by
  unfold w_Reader_field at h
  refine E_blk (lv' := [some (vr (some (3, this))), none, none, none, none, none, none, none, none]) (st' := [vr (some (2, 0))]) (M1 := M) (pc' := 4) (tb_Reader hγ) [.aload_n 0, .getfield 20] (by decide +kernel) rfl rfl trivial ?_
  refine E_callV (κ' := k_Words_next) (As := []) (st := []) mv_Words_next (Or.inl (tbk_mem (j := 6) (k := 53) rfl)) rfl (by decide +kernel) (Nat.le_of_ble_eq_true rfl) (Nat.le_of_ble_eq_true rfl) rfl (by decide) (lk_Words_next hγ 0 _ M h) (fun _ _ => Qv_r) (fun v M1 hp => Qv_k (R := fun st => E γ k_Reader_field 6 7 [some (vr (some (3, this))), none, none, none, none, none, none, none, none] st M1 (Qx (9, 0) (Qv Q) X)) hp (fun h => ?_))
  refine E_blk (lv' := [some (vr (some (3, this))), none, none, none, none, none, none, none, none]) (st' := [vi (-1 : Int32), vi (72 : Int32), vi (69 : Int32), vi (52 : Int32), vr (some (3, this))]) (M1 := M1) (pc' := 15) (tb_Reader hγ) [.aload_n 0, .bipush 52, .bipush 69, .bipush 72, .iconst (.negSucc 0)] (by decide +kernel) rfl rfl trivial ?_
  refine E_callV (κ' := k_Reader_flags) (As := [vi (52 : Int32), vi (69 : Int32), vi (72 : Int32), vi (-1 : Int32)]) (st := []) mv_Reader_flags (Or.inl (tbk_mem (j := 6) (k := 114) rfl)) rfl (by decide +kernel) (Nat.le_of_ble_eq_true rfl) (Nat.le_of_ble_eq_true rfl) rfl (by decide) (lk_Reader_flags hγ this (52 : Int32) (69 : Int32) (72 : Int32) (-1 : Int32) _ M1 h) (fun _ _ => Qi_r) (fun v M2 hp => Qi_k (R := fun st => E γ k_Reader_field 6 18 [some (vr (some (3, this))), none, none, none, none, none, none, none, none] st M2 (Qx (9, 0) (Qv Q) X)) hp (fun r3 h => ?_))
  refine E_blk (lv' := [some (vr (some (3, this))), some (vi r3), none, none, none, none, none, none, none]) (st' := [vr (some (3, this))]) (M1 := M2) (pc' := 20) (tb_Reader hγ) [.istore_n 1, .aload_n 0] (by decide +kernel) rfl rfl trivial ?_
  refine E_callX (κ' := k_Reader_anyName) (As := []) (st := []) mv_Reader_anyName (Or.inl (tbk_mem (j := 6) (k := 172) rfl)) rfl (by decide +kernel) (Nat.le_of_ble_eq_true rfl) (Nat.le_of_ble_eq_true rfl) rfl (by decide) rfl (lk_Reader_anyName hγ this _ _ M2 h) (fun _ _ => Qi_r) (fun _ h => h) (fun v M4 hp => Qi_k (R := fun st => E γ k_Reader_field 6 23 [some (vr (some (3, this))), some (vi r3), none, none, none, none, none, none, none] st M4 (Qx (9, 0) (Qv Q) X)) hp (fun r5 h => ?_))
  refine E_blk (lv' := [some (vr (some (3, this))), some (vi r3), some (vi r5), none, none, none, none, none, none]) (st' := [vr (some (3, this))]) (M1 := M4) (pc' := 25) (tb_Reader hγ) [.istore_n 2, .aload_n 0] (by decide +kernel) rfl rfl trivial ?_
  refine E_callX (κ' := k_Reader_type) (As := []) (st := []) mv_Reader_type (Or.inl (tbk_mem (j := 6) (k := 176) rfl)) rfl (by decide +kernel) (Nat.le_of_ble_eq_true rfl) (Nat.le_of_ble_eq_true rfl) rfl (by decide) rfl (lk_Reader_type hγ this _ _ M4 h) (fun _ _ => Qi_r) (fun _ h => h) (fun v M6 hp => Qi_k (R := fun st => E γ k_Reader_field 6 28 [some (vr (some (3, this))), some (vi r3), some (vi r5), none, none, none, none, none, none] st M6 (Qx (9, 0) (Qv Q) X)) hp (fun r7 h => ?_))
  refine E_blk (lv' := [some (vr (some (3, this))), some (vi r3), some (vi r5), some (vi r7), none, none, none, none, none]) (st' := [vi (61 : Int32), vr (some (2, 0))]) (M1 := M6) (pc' := 35) (tb_Reader hγ) [.istore_n 3, .aload_n 0, .getfield 20, .bipush 61] (by decide +kernel) rfl rfl trivial ?_
  refine E_callV (κ' := k_Words_isSign) (As := [vi (61 : Int32)]) (st := []) mv_Words_isSign (Or.inl (tbk_mem (j := 6) (k := 143) rfl)) rfl (by decide +kernel) (Nat.le_of_ble_eq_true rfl) (Nat.le_of_ble_eq_true rfl) rfl (by decide) (lk_Words_isSign hγ 0 (61 : Int32) _ M6 h) (fun _ _ => Qi_r) (fun v M8 hp => Qi_k (R := fun st => E γ k_Reader_field 6 38 [some (vr (some (3, this))), some (vi r3), some (vi r5), some (vi r7), none, none, none, none, none] st M8 (Qx (9, 0) (Qv Q) X)) hp (fun r9 h => ?_))
  refine E_blk (lv' := [some (vr (some (3, this))), some (vi r3), some (vi r5), some (vi r7), some (vi r9), some (vi (0 : Int32)), none, none, none]) (st' := [vi r9]) (M1 := M8) (pc' := 45) (tb_Reader hγ) [.istore 4, .iconst 0, .istore 5, .iload 4] (by decide +kernel) rfl rfl trivial ?_
  refine E_if_eq (off := 20) (tgt := 65) (by decide +kernel) (by decide) (fun b10 => ?_) (fun b10 => ?_)
  · rw [if_pos b10] at h
    refine E_mask [true, true, true, true, true, true, false, false, false] rfl ?_
    exact lk_Reader_field_j65 hγ this Q X r3 r5 r7 r9 (0 : Int32) M8 h
  · rw [if_neg b10] at h
    refine E_blk (lv' := [some (vr (some (3, this))), some (vi r3), some (vi r5), some (vi r7), some (vi r9), some (vi (0 : Int32)), none, none, none]) (st' := [vr (some (2, 0))]) (M1 := M8) (pc' := 52) (tb_Reader hγ) [.aload_n 0, .getfield 20] (by decide +kernel) rfl rfl trivial ?_
    refine E_callV (κ' := k_Words_next) (As := []) (st := []) mv_Words_next (Or.inl (tbk_mem (j := 6) (k := 53) rfl)) rfl (by decide +kernel) (Nat.le_of_ble_eq_true rfl) (Nat.le_of_ble_eq_true rfl) rfl (by decide) (lk_Words_next hγ 0 _ M8 h) (fun _ _ => Qv_r) (fun v M64 hp => Qv_k (R := fun st => E γ k_Reader_field 6 55 [some (vr (some (3, this))), some (vi r3), some (vi r5), some (vi r7), some (vi r9), some (vi (0 : Int32)), none, none, none] st M64 (Qx (9, 0) (Qv Q) X)) hp (fun h => ?_))
    refine E_blk (lv' := [some (vr (some (3, this))), some (vi r3), some (vi r5), some (vi r7), some (vi r9), some (vi (0 : Int32)), none, none, none]) (st' := [vi (2147483647 : Int32), vi (-2147483648 : Int32), vr (some (3, this))]) (M1 := M64) (pc' := 60) (tb_Reader hγ) [.aload_n 0, .ldc 217, .ldc 218] (by decide +kernel) rfl rfl trivial ?_
    refine E_callX (κ' := k_Reader_number) (As := [vi (-2147483648 : Int32), vi (2147483647 : Int32)]) (st := []) mv_Reader_number (Or.inl (tbk_mem (j := 6) (k := 185) rfl)) rfl (by decide +kernel) (Nat.le_of_ble_eq_true rfl) (Nat.le_of_ble_eq_true rfl) rfl (by decide) rfl (lk_Reader_number hγ this (-2147483648 : Int32) (2147483647 : Int32) _ _ M64 h) (fun _ _ => Qi_r) (fun _ h => h) (fun v M65 hp => Qi_k (R := fun st => E γ k_Reader_field 6 63 [some (vr (some (3, this))), some (vi r3), some (vi r5), some (vi r7), some (vi r9), some (vi (0 : Int32)), none, none, none] st M65 (Qx (9, 0) (Qv Q) X)) hp (fun r66 h => ?_))
    refine E_blk (lv' := [some (vr (some (3, this))), some (vi r3), some (vi r5), some (vi r7), some (vi r9), some (vi r66), none, none, none]) (st' := []) (M1 := M65) (pc' := 65) (tb_Reader hγ) [.istore 5] (by decide +kernel) rfl rfl trivial ?_
    refine E_mask [true, true, true, true, true, true, false, false, false] rfl ?_
    exact lk_Reader_field_j65 hγ this Q X r3 r5 r7 r9 r66 M65 h
def w_Reader_types_j57 (this : Nat) (Q : Mem → Prop) (X : Mem → Prop) (k11 : Mem → Prop)  (M : Mem) : Prop :=
  w_Reader_type this (fun r8 M7 => vp_in (mI M 3 this 18) (mL M7 211 0) ∧ ∃ M10, M10 = (sI (sI M7 211 0 (mI M 3 this 18).toNatClampNeg r8) 3 this 18 ((mI (sI M7 211 0 (mI M 3 this 18).toNatClampNeg r8) 3 this 18) + (1 : Int32))) ∧ k11  M10) X M
def w_Reader_types_j36 (this : Nat) (Q : Mem → Prop) (X : Mem → Prop) (k11 : Mem → Prop)  (M : Mem) : Prop :=
  if (mI M 3 this 17) = 0 then (w_Reader_types_j57 this Q X k11  M) else (if (mI M 3 this 18) = (6 : Int32) then (w_Reader_wrong this (fun i13 M12 => i13 = 0 ∧ X M12) M) else (w_Reader_types_j57 this Q X k11  M))
def w_Reader_types_L11 (this : Nat) (Q : Mem → Prop) (X : Mem → Prop) : Nat → Mem → Prop
  | 0, _ => False
  | n + 1, M => w_Words_isSign 0 (41 : Int32) (fun r3 M2 => if r3 = 0 then (if (mI M2 3 this 18) ≤ 0 then (w_Reader_types_j36 this Q X (w_Reader_types_L11 this Q X n)  M2) else (w_Reader_sign this (44 : Int32) (fun M14 => w_Reader_types_j36 this Q X (w_Reader_types_L11 this Q X n)  M14) X M2)) else (w_Words_next 0 (fun M15 => Q M15) M2)) M
def w_Reader_types (this : Nat) (Q : Mem → Prop) (X : Mem → Prop) (M : Mem) : Prop :=
  w_Reader_sign this (40 : Int32) (fun M1 => ∃ n16 : Nat, w_Reader_types_L11 this Q X n16  (sI M1 3 this 18 (0 : Int32))) X M
set_option maxRecDepth 4096 in
theorem lk_Reader_types_j57 {γ : Gm} (hγ : Gk γ) (this : Nat) (Q : Mem → Prop) (X : Mem → Prop) (k11 : Mem → Prop) (hk11 : ∀  (M : Mem), k11  M → E γ k_Reader_types 6 11 [some (vr (some (3, this)))] [] M (Qx (9, 0) (Qv Q) X))  (M : Mem) (h : w_Reader_types_j57 this Q X k11  M) : E γ k_Reader_types 6 57 [some (vr (some (3, this)))] [] M (Qx (9, 0) (Qv Q) X) := by
  unfold w_Reader_types_j57 at h
  refine E_blk (lv' := [some (vr (some (3, this)))]) (st' := [vr (some (3, this)), vi (mI M 3 this 18), vr (some (211, 0))]) (M1 := M) (pc' := 66) (tb_Reader hγ) [.aload_n 0, .getfield 46, .aload_n 0, .getfield 167, .aload_n 0] (by decide +kernel) rfl rfl trivial ?_
  refine E_callX (κ' := k_Reader_type) (As := []) (st := [vi (mI M 3 this 18), vr (some (211, 0))]) mv_Reader_type (Or.inl (tbk_mem (j := 6) (k := 176) rfl)) rfl (by decide +kernel) (Nat.le_of_ble_eq_true rfl) (Nat.le_of_ble_eq_true rfl) rfl (by decide) rfl (lk_Reader_type hγ this _ _ M h) (fun _ _ => Qi_r) (fun _ h => h) (fun v M7 hp => Qi_k (R := fun st => E γ k_Reader_types 6 69 [some (vr (some (3, this)))] st M7 (Qx (9, 0) (Qv Q) X)) hp (fun r8 h => ?_))
  obtain ⟨c9, h⟩ := h
  refine E_blk (lv' := [some (vr (some (3, this)))]) (st' := []) (M1 := (sI (sI M7 211 0 (mI M 3 this 18).toNatClampNeg r8) 3 this 18 ((mI (sI M7 211 0 (mI M 3 this 18).toNatClampNeg r8) 3 this 18) + (1 : Int32)))) (pc' := 80) (tb_Reader hγ) [.iastore, .aload_n 0, .dup, .getfield 167, .iconst 1, .iadd, .putfield 167] (by decide +kernel) rfl rfl ⟨c9, trivial⟩ ?_
  obtain ⟨M10, eM10, h⟩ := h
  rw [← eM10]
  refine E_goto (off := -69) (tgt := 11) (by decide +kernel) (by decide) ?_
  refine E_mask [true] rfl ?_
  exact hk11  M10 h
set_option maxRecDepth 4096 in
theorem lk_Reader_types_j36 {γ : Gm} (hγ : Gk γ) (this : Nat) (Q : Mem → Prop) (X : Mem → Prop) (k11 : Mem → Prop) (hk11 : ∀  (M : Mem), k11  M → E γ k_Reader_types 6 11 [some (vr (some (3, this)))] [] M (Qx (9, 0) (Qv Q) X))  (M : Mem) (h : w_Reader_types_j36 this Q X k11  M) : E γ k_Reader_types 6 36 [some (vr (some (3, this)))] [] M (Qx (9, 0) (Qv Q) X) := by
  unfold w_Reader_types_j36 at h
  refine E_blk (lv' := [some (vr (some (3, this)))]) (st' := [vi (mI M 3 this 17)]) (M1 := M) (pc' := 40) (tb_Reader hγ) [.aload_n 0, .getfield 170] (by decide +kernel) rfl rfl trivial ?_
  refine E_if_eq (off := 17) (tgt := 57) (by decide +kernel) (by decide) (fun b6 => ?_) (fun b6 => ?_)
  · rw [if_pos b6] at h
    refine E_mask [true] rfl ?_
    exact lk_Reader_types_j57 hγ this Q X k11 hk11  M h
  · rw [if_neg b6] at h
    refine E_blk (lv' := [some (vr (some (3, this)))]) (st' := [vi (6 : Int32), vi (mI M 3 this 18)]) (M1 := M) (pc' := 49) (tb_Reader hγ) [.aload_n 0, .getfield 167, .bipush 6] (by decide +kernel) rfl rfl trivial ?_
    refine E_icmp_ne (off := 8) (tgt := 57) (by decide +kernel) (by decide) (fun b11 => ?_) (fun b11 => ?_)
    · rw [if_pos b11] at h
      refine E_blk (lv' := [some (vr (some (3, this)))]) (st' := [vr (some (3, this))]) (M1 := M) (pc' := 53) (tb_Reader hγ) [.aload_n 0] (by decide +kernel) rfl rfl trivial ?_
      refine E_callV (κ' := k_Reader_wrong) (As := []) (st := []) mv_Reader_wrong (Or.inl (tbk_mem (j := 6) (k := 122) rfl)) rfl (by decide +kernel) (Nat.le_of_ble_eq_true rfl) (Nat.le_of_ble_eq_true rfl) rfl (by decide) (lk_Reader_wrong hγ this _ M h) (fun _ _ => Qr_r) (fun v M12 hp => Qr_k (R := fun st => E γ k_Reader_types 6 56 [some (vr (some (3, this)))] st M12 (Qx (9, 0) (Qv Q) X)) hp (fun i13 h => ?_))
      obtain ⟨e0, h⟩ := h
      rw [e0]
      exact E_throw (by decide) rfl (by decide +kernel) h
    · rw [if_neg b11] at h
      refine E_mask [true] rfl ?_
      exact lk_Reader_types_j57 hγ this Q X k11 hk11  M h
set_option maxRecDepth 4096 in
theorem lk_Reader_types_L11 {γ : Gm} (hγ : Gk γ) (this : Nat) (Q : Mem → Prop) (X : Mem → Prop) : ∀ (n : Nat)  (M : Mem), w_Reader_types_L11 this Q X n  M → E γ k_Reader_types 6 11 [some (vr (some (3, this)))] [] M (Qx (9, 0) (Qv Q) X) := by
  intro n
  induction n with
  | zero => intro  M h; exact h.elim
  | succ n ih =>
    intro  M h
    unfold w_Reader_types_L11 at h
    refine E_blk (lv' := [some (vr (some (3, this)))]) (st' := [vi (41 : Int32), vr (some (2, 0))]) (M1 := M) (pc' := 17) (tb_Reader hγ) [.aload_n 0, .getfield 20, .bipush 41] (by decide +kernel) rfl rfl trivial ?_
    refine E_callV (κ' := k_Words_isSign) (As := [vi (41 : Int32)]) (st := []) mv_Words_isSign (Or.inl (tbk_mem (j := 6) (k := 143) rfl)) rfl (by decide +kernel) (Nat.le_of_ble_eq_true rfl) (Nat.le_of_ble_eq_true rfl) rfl (by decide) (lk_Words_isSign hγ 0 (41 : Int32) _ M h) (fun _ _ => Qi_r) (fun v M2 hp => Qi_k (R := fun st => E γ k_Reader_types 6 20 [some (vr (some (3, this)))] st M2 (Qx (9, 0) (Qv Q) X)) hp (fun r3 h => ?_))
    refine E_if_ne (off := 63) (tgt := 83) (by decide +kernel) (by decide) (fun b4 => ?_) (fun b4 => ?_)
    · rw [if_pos b4] at h
      refine E_blk (lv' := [some (vr (some (3, this)))]) (st' := [vi (mI M2 3 this 18)]) (M1 := M2) (pc' := 27) (tb_Reader hγ) [.aload_n 0, .getfield 167] (by decide +kernel) rfl rfl trivial ?_
      refine E_if_le (off := 9) (tgt := 36) (by decide +kernel) (by decide) (fun b5 => ?_) (fun b5 => ?_)
      · rw [if_pos b5] at h
        refine E_mask [true] rfl ?_
        exact lk_Reader_types_j36 hγ this Q X (w_Reader_types_L11 this Q X n) ih  M2 h
      · rw [if_neg b5] at h
        refine E_blk (lv' := [some (vr (some (3, this)))]) (st' := [vi (44 : Int32), vr (some (3, this))]) (M1 := M2) (pc' := 33) (tb_Reader hγ) [.aload_n 0, .bipush 44] (by decide +kernel) rfl rfl trivial ?_
        refine E_callX (κ' := k_Reader_sign) (As := [vi (44 : Int32)]) (st := []) mv_Reader_sign (Or.inl (tbk_mem (j := 6) (k := 139) rfl)) rfl (by decide +kernel) (Nat.le_of_ble_eq_true rfl) (Nat.le_of_ble_eq_true rfl) rfl (by decide) rfl (lk_Reader_sign hγ this (44 : Int32) _ _ M2 h) (fun _ _ => Qv_r) (fun _ h => h) (fun v M14 hp => Qv_k (R := fun st => E γ k_Reader_types 6 36 [some (vr (some (3, this)))] st M14 (Qx (9, 0) (Qv Q) X)) hp (fun h => ?_))
        refine E_mask [true] rfl ?_
        exact lk_Reader_types_j36 hγ this Q X (w_Reader_types_L11 this Q X n) ih  M14 h
    · rw [if_neg b4] at h
      refine E_blk (lv' := [some (vr (some (3, this)))]) (st' := [vr (some (2, 0))]) (M1 := M2) (pc' := 87) (tb_Reader hγ) [.aload_n 0, .getfield 20] (by decide +kernel) rfl rfl trivial ?_
      refine E_callV (κ' := k_Words_next) (As := []) (st := []) mv_Words_next (Or.inl (tbk_mem (j := 6) (k := 53) rfl)) rfl (by decide +kernel) (Nat.le_of_ble_eq_true rfl) (Nat.le_of_ble_eq_true rfl) rfl (by decide) (lk_Words_next hγ 0 _ M2 h) (fun _ _ => Qv_r) (fun v M15 hp => Qv_k (R := fun st => E γ k_Reader_types 6 90 [some (vr (some (3, this)))] st M15 (Qx (9, 0) (Qv Q) X)) hp (fun h => ?_))
      exact (E_vret rfl (by decide +kernel) h).nx
set_option maxRecDepth 4096 in
theorem lk_Reader_types {γ : Gm} (hγ : Gk γ) (this : Nat) (Q : Mem → Prop) (X : Mem → Prop) (M : Mem) (h : w_Reader_types this Q X M) : E γ k_Reader_types 6 0 [some (vr (some (3, this)))] [] M (Qx (9, 0) (Qv Q) X) := by
  unfold w_Reader_types at h
  refine E_blk (lv' := [some (vr (some (3, this)))]) (st' := [vi (40 : Int32), vr (some (3, this))]) (M1 := M) (pc' := 3) (tb_Reader hγ) [.aload_n 0, .bipush 40] (by decide +kernel) rfl rfl trivial ?_
  refine E_callX (κ' := k_Reader_sign) (As := [vi (40 : Int32)]) (st := []) mv_Reader_sign (Or.inl (tbk_mem (j := 6) (k := 139) rfl)) rfl (by decide +kernel) (Nat.le_of_ble_eq_true rfl) (Nat.le_of_ble_eq_true rfl) rfl (by decide) rfl (lk_Reader_sign hγ this (40 : Int32) _ _ M h) (fun _ _ => Qv_r) (fun _ h => h) (fun v M1 hp => Qv_k (R := fun st => E γ k_Reader_types 6 6 [some (vr (some (3, this)))] st M1 (Qx (9, 0) (Qv Q) X)) hp (fun h => ?_))
  refine E_blk (lv' := [some (vr (some (3, this)))]) (st' := []) (M1 := (sI M1 3 this 18 (0 : Int32))) (pc' := 11) (tb_Reader hγ) [.aload_n 0, .iconst 0, .putfield 167] (by decide +kernel) rfl rfl trivial ?_
  obtain ⟨n16, h⟩ := h
  refine E_mask [true] rfl ?_
  exact lk_Reader_types_L11 hγ this Q X n16  (sI M1 3 this 18 (0 : Int32)) h
def w_Reader_result (this : Nat) (Q : Int32 → Mem → Prop) (X : Mem → Prop) (M : Mem) : Prop :=
  w_Words_isWord 0 (74 : Int32) (fun r2 M1 => if r2 = 0 then (w_Reader_type this (fun r5 M4 => Q r5 M4) X M1) else (w_Words_next 0 (fun M6 => Q (-4 : Int32) M6) M1)) M
set_option maxRecDepth 4096 in
theorem lk_Reader_result {γ : Gm} (hγ : Gk γ) (this : Nat) (Q : Int32 → Mem → Prop) (X : Mem → Prop) (M : Mem) (h : w_Reader_result this Q X M) : E γ k_Reader_result 6 0 [some (vr (some (3, this)))] [] M (Qx (9, 0) (Qi Q) X) := by
  unfold w_Reader_result at h
  refine E_blk (lv' := [some (vr (some (3, this)))]) (st' := [vi (74 : Int32), vr (some (2, 0))]) (M1 := M) (pc' := 6) (tb_Reader hγ) [.aload_n 0, .getfield 20, .bipush 74] (by decide +kernel) rfl rfl trivial ?_
  refine E_callV (κ' := k_Words_isWord) (As := [vi (74 : Int32)]) (st := []) mv_Words_isWord (Or.inl (tbk_mem (j := 6) (k := 118) rfl)) rfl (by decide +kernel) (Nat.le_of_ble_eq_true rfl) (Nat.le_of_ble_eq_true rfl) rfl (by decide) (lk_Words_isWord hγ 0 (74 : Int32) _ M h) (fun _ _ => Qi_r) (fun v M1 hp => Qi_k (R := fun st => E γ k_Reader_result 6 9 [some (vr (some (3, this)))] st M1 (Qx (9, 0) (Qi Q) X)) hp (fun r2 h => ?_))
  refine E_if_ne (off := 8) (tgt := 17) (by decide +kernel) (by decide) (fun b3 => ?_) (fun b3 => ?_)
  · rw [if_pos b3] at h
    refine E_blk (lv' := [some (vr (some (3, this)))]) (st' := [vr (some (3, this))]) (M1 := M1) (pc' := 13) (tb_Reader hγ) [.aload_n 0] (by decide +kernel) rfl rfl trivial ?_
    refine E_callX (κ' := k_Reader_type) (As := []) (st := []) mv_Reader_type (Or.inl (tbk_mem (j := 6) (k := 176) rfl)) rfl (by decide +kernel) (Nat.le_of_ble_eq_true rfl) (Nat.le_of_ble_eq_true rfl) rfl (by decide) rfl (lk_Reader_type hγ this _ _ M1 h) (fun _ _ => Qi_r) (fun _ h => h) (fun v M4 hp => Qi_k (R := fun st => E γ k_Reader_result 6 16 [some (vr (some (3, this)))] st M4 (Qx (9, 0) (Qi Q) X)) hp (fun r5 h => ?_))
    exact (E_iret rfl (by decide +kernel) h).nx
  · rw [if_neg b3] at h
    refine E_blk (lv' := [some (vr (some (3, this)))]) (st' := [vr (some (2, 0))]) (M1 := M1) (pc' := 21) (tb_Reader hγ) [.aload_n 0, .getfield 20] (by decide +kernel) rfl rfl trivial ?_
    refine E_callV (κ' := k_Words_next) (As := []) (st := []) mv_Words_next (Or.inl (tbk_mem (j := 6) (k := 53) rfl)) rfl (by decide +kernel) (Nat.le_of_ble_eq_true rfl) (Nat.le_of_ble_eq_true rfl) rfl (by decide) (lk_Words_next hγ 0 _ M1 h) (fun _ _ => Qv_r) (fun v M6 hp => Qv_k (R := fun st => E γ k_Reader_result 6 24 [some (vr (some (3, this)))] st M6 (Qx (9, 0) (Qi Q) X)) hp (fun h => ?_))
    refine E_blk (lv' := [some (vr (some (3, this)))]) (st' := [vi (-4 : Int32)]) (M1 := M6) (pc' := 26) (tb_Reader hγ) [.bipush (.negSucc 3)] (by decide +kernel) rfl rfl trivial ?_
    exact (E_iret rfl (by decide +kernel) h).nx
def w_World_sameArguments_j59 (this : Nat) (Q : Int32 → Mem → Prop) (k21 : Int32 → Nat → Int32 → Int32 → Int32 → Int32 → Mem → Prop) (v1 : Int32) (v2 : Nat) (v3 : Int32) (v4 : Int32) (v6 : Int32) (s0 : Int32) (M : Mem) : Prop :=
  k21 v1 v2 v3 v4 s0 (v6 + (1 : Int32)) M
def w_World_sameArguments_L21 (this : Nat) (Q : Int32 → Mem → Prop) : Nat → Int32 → Nat → Int32 → Int32 → Int32 → Int32 → Mem → Prop
  | 0, _, _, _, _, _, _, _ => False
  | n + 1, v1, v2, v3, v4, v5, v6, M => if v4 ≤ v6 then ((v5 = 0 ∨ v5 = 1) ∧ Q v5 M) else (if v5 = 0 then ((v5 = 0 ∨ v5 = 1) ∧ Q v5 M) else (vp_in (((6 : Int32) * v1) + v6) (mL M 211 (2 * this + 1)) ∧ vp_in (v3 + v6) (mL M 211 v2) ∧ if (mI M 211 (2 * this + 1) (((6 : Int32) * v1) + v6).toNatClampNeg) = (mI M 211 v2 (v3 + v6).toNatClampNeg) then (w_World_sameArguments_j59 this Q (w_World_sameArguments_L21 this Q n) v1 v2 v3 v4 v6 (1 : Int32) M) else (w_World_sameArguments_j59 this Q (w_World_sameArguments_L21 this Q n) v1 v2 v3 v4 v6 (0 : Int32) M)))
def w_World_sameArguments_j16 (this : Nat) (Q : Int32 → Mem → Prop) (v1 : Int32) (v2 : Nat) (v3 : Int32) (v4 : Int32) (s0 : Int32) (M : Mem) : Prop :=
  ∃ n8 : Nat, w_World_sameArguments_L21 this Q n8 v1 v2 v3 v4 s0 (0 : Int32) M
def w_World_sameArguments (this : Nat) (a1 : Int32) (a2 : Nat) (a3 : Int32) (a4 : Int32) (Q : Int32 → Mem → Prop) (M : Mem) : Prop :=
  vp_in a1 (mL M 58 this) ∧ if (mI M 58 this a1.toNatClampNeg) = a4 then (w_World_sameArguments_j16 this Q a1 a2 a3 a4 (1 : Int32) M) else (w_World_sameArguments_j16 this Q a1 a2 a3 a4 (0 : Int32) M)
set_option maxRecDepth 4096 in
theorem lk_World_sameArguments_j59 {γ : Gm} (hγ : Gk γ) (this : Nat) (Q : Int32 → Mem → Prop) (k21 : Int32 → Nat → Int32 → Int32 → Int32 → Int32 → Mem → Prop) (hk21 : ∀ (v1 : Int32) (v2 : Nat) (v3 : Int32) (v4 : Int32) (v5 : Int32) (v6 : Int32) (M : Mem), k21 v1 v2 v3 v4 v5 v6 M → E γ k_World_sameArguments 0 21 [some (vr (some (5, this))), some (vi v1), some (vr (some (211, v2))), some (vi v3), some (vi v4), some (vi v5), some (vi v6)] [] M (Qi Q)) (v1 : Int32) (v2 : Nat) (v3 : Int32) (v4 : Int32) (v6 : Int32) (s0 : Int32) (M : Mem) (h : w_World_sameArguments_j59 this Q k21 v1 v2 v3 v4 v6 s0 M) : E γ k_World_sameArguments 0 59 [some (vr (some (5, this))), some (vi v1), some (vr (some (211, v2))), some (vi v3), some (vi v4), none, some (vi v6)] [vi s0] M (Qi Q) := by
  unfold w_World_sameArguments_j59 at h
  refine E_blk (lv' := [some (vr (some (5, this))), some (vi v1), some (vr (some (211, v2))), some (vi v3), some (vi v4), some (vi s0), some (vi (v6 + (1 : Int32)))]) (st' := []) (M1 := M) (pc' := 64) (tb_World hγ) [.istore 5, .iinc 6 1] (by decide +kernel) rfl rfl trivial ?_
  refine E_goto (off := -43) (tgt := 21) (by decide +kernel) (by decide) ?_
  refine E_mask [true, true, true, true, true, true, true] rfl ?_
  exact hk21 v1 v2 v3 v4 s0 (v6 + (1 : Int32)) M h
set_option maxRecDepth 4096 in
theorem lk_World_sameArguments_L21 {γ : Gm} (hγ : Gk γ) (this : Nat) (Q : Int32 → Mem → Prop) : ∀ (n : Nat) (v1 : Int32) (v2 : Nat) (v3 : Int32) (v4 : Int32) (v5 : Int32) (v6 : Int32) (M : Mem), w_World_sameArguments_L21 this Q n v1 v2 v3 v4 v5 v6 M → E γ k_World_sameArguments 0 21 [some (vr (some (5, this))), some (vi v1), some (vr (some (211, v2))), some (vi v3), some (vi v4), some (vi v5), some (vi v6)] [] M (Qi Q) := by
  intro n
  induction n with
  | zero => intro v1 v2 v3 v4 v5 v6 M h; exact h.elim
  | succ n ih =>
    intro v1 v2 v3 v4 v5 v6 M h
    unfold w_World_sameArguments_L21 at h
    refine E_blk (lv' := [some (vr (some (5, this))), some (vi v1), some (vr (some (211, v2))), some (vi v3), some (vi v4), some (vi v5), some (vi v6)]) (st' := [vi v4, vi v6]) (M1 := M) (pc' := 25) (tb_World hγ) [.iload 6, .iload 4] (by decide +kernel) rfl rfl trivial ?_
    refine E_icmp_ge (off := 42) (tgt := 67) (by decide +kernel) (by decide) (fun b3 => ?_) (fun b3 => ?_)
    · rw [if_pos b3] at h
      refine E_blk (lv' := [some (vr (some (5, this))), some (vi v1), some (vr (some (211, v2))), some (vi v3), some (vi v4), some (vi v5), some (vi v6)]) (st' := [vi v5]) (M1 := M) (pc' := 69) (tb_World hγ) [.iload 5] (by decide +kernel) rfl rfl trivial ?_
      exact E_zret rfl h.1 (by decide +kernel) h.2
    · rw [if_neg b3] at h
      refine E_blk (lv' := [some (vr (some (5, this))), some (vi v1), some (vr (some (211, v2))), some (vi v3), some (vi v4), some (vi v5), some (vi v6)]) (st' := [vi v5]) (M1 := M) (pc' := 30) (tb_World hγ) [.iload 5] (by decide +kernel) rfl rfl trivial ?_
      refine E_if_eq (off := 37) (tgt := 67) (by decide +kernel) (by decide) (fun b4 => ?_) (fun b4 => ?_)
      · rw [if_pos b4] at h
        refine E_blk (lv' := [some (vr (some (5, this))), some (vi v1), some (vr (some (211, v2))), some (vi v3), some (vi v4), some (vi v5), some (vi v6)]) (st' := [vi v5]) (M1 := M) (pc' := 69) (tb_World hγ) [.iload 5] (by decide +kernel) rfl rfl trivial ?_
        exact E_zret rfl h.1 (by decide +kernel) h.2
      · rw [if_neg b4] at h
        obtain ⟨c5, c6, h⟩ := h
        refine E_blk (lv' := [some (vr (some (5, this))), some (vi v1), some (vr (some (211, v2))), some (vi v3), some (vi v4), some (vi v5), some (vi v6)]) (st' := [vi (mI M 211 v2 (v3 + v6).toNatClampNeg), vi (mI M 211 (2 * this + 1) (((6 : Int32) * v1) + v6).toNatClampNeg)]) (M1 := M) (pc' := 51) (tb_World hγ) [.aload_n 0, .getfield 99, .bipush 6, .iload_n 1, .imul, .iload 6, .iadd, .iaload, .aload_n 2, .iload_n 3, .iload 6, .iadd, .iaload] (by decide +kernel) rfl rfl ⟨c5, c6, trivial⟩ ?_
        refine E_icmp_ne (off := 7) (tgt := 58) (by decide +kernel) (by decide) (fun b7 => ?_) (fun b7 => ?_)
        · rw [if_pos b7] at h
          refine E_blk (lv' := [some (vr (some (5, this))), some (vi v1), some (vr (some (211, v2))), some (vi v3), some (vi v4), some (vi v5), some (vi v6)]) (st' := [vi (1 : Int32)]) (M1 := M) (pc' := 55) (tb_World hγ) [.iconst 1] (by decide +kernel) rfl rfl trivial ?_
          refine E_goto (off := 4) (tgt := 59) (by decide +kernel) (by decide) ?_
          refine E_mask [true, true, true, true, true, false, true] rfl ?_
          exact lk_World_sameArguments_j59 hγ this Q (w_World_sameArguments_L21 this Q n) ih v1 v2 v3 v4 v6 (1 : Int32) M h
        · rw [if_neg b7] at h
          refine E_blk (lv' := [some (vr (some (5, this))), some (vi v1), some (vr (some (211, v2))), some (vi v3), some (vi v4), some (vi v5), some (vi v6)]) (st' := [vi (0 : Int32)]) (M1 := M) (pc' := 59) (tb_World hγ) [.iconst 0] (by decide +kernel) rfl rfl trivial ?_
          refine E_mask [true, true, true, true, true, false, true] rfl ?_
          exact lk_World_sameArguments_j59 hγ this Q (w_World_sameArguments_L21 this Q n) ih v1 v2 v3 v4 v6 (0 : Int32) M h
set_option maxRecDepth 4096 in
theorem lk_World_sameArguments_j16 {γ : Gm} (hγ : Gk γ) (this : Nat) (Q : Int32 → Mem → Prop) (v1 : Int32) (v2 : Nat) (v3 : Int32) (v4 : Int32) (s0 : Int32) (M : Mem) (h : w_World_sameArguments_j16 this Q v1 v2 v3 v4 s0 M) : E γ k_World_sameArguments 0 16 [some (vr (some (5, this))), some (vi v1), some (vr (some (211, v2))), some (vi v3), some (vi v4), none, none] [vi s0] M (Qi Q) := by
  unfold w_World_sameArguments_j16 at h
  refine E_blk (lv' := [some (vr (some (5, this))), some (vi v1), some (vr (some (211, v2))), some (vi v3), some (vi v4), some (vi s0), some (vi (0 : Int32))]) (st' := []) (M1 := M) (pc' := 21) (tb_World hγ) [.istore 5, .iconst 0, .istore 6] (by decide +kernel) rfl rfl trivial ?_
  obtain ⟨n8, h⟩ := h
  refine E_mask [true, true, true, true, true, true, true] rfl ?_
  exact lk_World_sameArguments_L21 hγ this Q n8 v1 v2 v3 v4 s0 (0 : Int32) M h
set_option maxRecDepth 4096 in
theorem lk_World_sameArguments {γ : Gm} (hγ : Gk γ) (this : Nat) (a1 : Int32) (a2 : Nat) (a3 : Int32) (a4 : Int32) (Q : Int32 → Mem → Prop) (M : Mem) (h : w_World_sameArguments this a1 a2 a3 a4 Q M) : E γ k_World_sameArguments 0 0 [some (vr (some (5, this))), some (vi a1), some (vr (some (211, a2))), some (vi a3), some (vi a4), none, none] [] M (Qi Q) := by
  unfold w_World_sameArguments at h
  obtain ⟨c1, h⟩ := h
  refine E_blk (lv' := [some (vr (some (5, this))), some (vi a1), some (vr (some (211, a2))), some (vi a3), some (vi a4), none, none]) (st' := [vi a4, vi (mI M 58 this a1.toNatClampNeg)]) (M1 := M) (pc' := 8) (tb_World hγ) [.aload_n 0, .getfield 96, .iload_n 1, .iaload, .iload 4] (by decide +kernel) rfl rfl ⟨c1, trivial⟩ ?_
  refine E_icmp_ne (off := 7) (tgt := 15) (by decide +kernel) (by decide) (fun b2 => ?_) (fun b2 => ?_)
  · rw [if_pos b2] at h
    refine E_blk (lv' := [some (vr (some (5, this))), some (vi a1), some (vr (some (211, a2))), some (vi a3), some (vi a4), none, none]) (st' := [vi (1 : Int32)]) (M1 := M) (pc' := 12) (tb_World hγ) [.iconst 1] (by decide +kernel) rfl rfl trivial ?_
    refine E_goto (off := 4) (tgt := 16) (by decide +kernel) (by decide) ?_
    refine E_mask [true, true, true, true, true, false, false] rfl ?_
    exact lk_World_sameArguments_j16 hγ this Q a1 a2 a3 a4 (1 : Int32) M h
  · rw [if_neg b2] at h
    refine E_blk (lv' := [some (vr (some (5, this))), some (vi a1), some (vr (some (211, a2))), some (vi a3), some (vi a4), none, none]) (st' := [vi (0 : Int32)]) (M1 := M) (pc' := 16) (tb_World hγ) [.iconst 0] (by decide +kernel) rfl rfl trivial ?_
    refine E_mask [true, true, true, true, true, false, false] rfl ?_
    exact lk_World_sameArguments_j16 hγ this Q a1 a2 a3 a4 (0 : Int32) M h
def w_Reader_askMethod_j320 (this : Nat) (Q : Mem → Prop) (X : Mem → Prop)  (M : Mem) : Prop :=
  w_Works_refuse 0 (7 : Int32) (mI M 3 this 2) (fun i21 M20 => i21 = 0 ∧ X M20) M
def w_Reader_askMethod_j360 (this : Nat) (Q : Mem → Prop) (X : Mem → Prop)  (M : Mem) : Prop :=
  w_Works_refuse 0 (12 : Int32) (mI M 3 this 2) (fun i25 M24 => i25 = 0 ∧ X M24) M
def w_Reader_askMethod_j334 (this : Nat) (Q : Mem → Prop) (X : Mem → Prop)  (M : Mem) : Prop :=
  if (6 : Int32) < (mI M 3 this 18) then (w_Reader_askMethod_j360 this Q X  M) else (∃ i26, (mR M 3 this 1) = some (5, i26) ∧ vp_in (mI M 3 this 3) (mL M 44 i26) ∧ if (mI M 44 i26 (mI M 3 this 3).toNatClampNeg) = (12 : Int32) then (w_Reader_askMethod_j360 this Q X  M) else (Q M))
def w_Reader_askMethod_j296 (this : Nat) (Q : Mem → Prop) (X : Mem → Prop) (v1 : Int32) (v2 : Int32) (v3 : Int32) (M : Mem) : Prop :=
  if v2 = (80 : Int32) then (if v1 = (1 : Int32) then (if 0 < (mI M 3 this 18) then (w_Reader_askMethod_j320 this Q X  M) else (if v3 = (-4 : Int32) then (w_Reader_askMethod_j334 this Q X  M) else (w_Reader_askMethod_j320 this Q X  M))) else (w_Reader_askMethod_j320 this Q X  M)) else (w_Reader_askMethod_j334 this Q X  M)
def w_Reader_askMethod_j282 (this : Nat) (Q : Mem → Prop) (X : Mem → Prop)  (M : Mem) : Prop :=
  w_Works_refuse 0 (7 : Int32) (mI M 3 this 2) (fun i30 M29 => i30 = 0 ∧ X M29) M
def w_Reader_askMethod_j263 (this : Nat) (Q : Mem → Prop) (X : Mem → Prop) (v1 : Int32) (v2 : Int32) (v3 : Int32) (M : Mem) : Prop :=
  if v2 = (79 : Int32) then (if (v1 &&& (11 : Int32)) = 0 then (if v3 = (-4 : Int32) then (w_Reader_askMethod_j296 this Q X v1 v2 v3 M) else (w_Reader_askMethod_j282 this Q X  M)) else (w_Reader_askMethod_j282 this Q X  M)) else (w_Reader_askMethod_j296 this Q X v1 v2 v3 M)
def w_Reader_askMethod_j214 (this : Nat) (Q : Mem → Prop) (X : Mem → Prop) (v1 : Int32) (v2 : Int32) (v3 : Int32) (v4 : Int32) (M : Mem) : Prop :=
  if v4 = 0 then (w_Reader_askMethod_j263 this Q X v1 v2 v3 M) else (∃ i31, (mR M 3 this 1) = some (5, i31) ∧ vp_in (mI M 3 this 3) (mL M 40 i31) ∧ if ((mI M 40 i31 (mI M 3 this 3).toNatClampNeg) &&& (6 : Int32)) = 0 then (∃ i34, (mR M 3 this 1) = some (5, i34) ∧ w_World_asks i34 (6 : Int32) (fun r36 M35 => if r36 = 0 then (w_Reader_askMethod_j263 this Q X v1 v2 v3 M35) else (w_Works_refuse 0 (6 : Int32) (mI M35 3 this 2) (fun i39 M38 => i39 = 0 ∧ X M38) M35)) M) else (w_Reader_askMethod_j263 this Q X v1 v2 v3 M))
def w_Reader_askMethod_j190 (this : Nat) (Q : Mem → Prop) (X : Mem → Prop) (v1 : Int32) (v2 : Int32) (v3 : Int32) (v4 : Int32) (M : Mem) : Prop :=
  ∃ i42, (mR M 3 this 1) = some (5, i42) ∧ w_World_asks i42 (5 : Int32) (fun r44 M43 => if r44 = 0 then (w_Reader_askMethod_j214 this Q X v1 v2 v3 v4 M43) else (w_Works_refuse 0 (5 : Int32) (mI M43 3 this 2) (fun i47 M46 => i47 = 0 ∧ X M46) M43)) M
def w_Reader_askMethod_j170 (this : Nat) (Q : Mem → Prop) (X : Mem → Prop) (v1 : Int32) (v2 : Int32) (v3 : Int32) (v4 : Int32) (M : Mem) : Prop :=
  w_Reader_isFace this (fun r11 M10 => if r11 = 0 then (w_Reader_askMethod_j214 this Q X v1 v2 v3 v4 M10) else (if (v1 &&& (6 : Int32)) = 0 then (if v2 = (79 : Int32) then (w_Reader_askMethod_j190 this Q X v1 v2 v3 v4 M10) else (w_Reader_askMethod_j214 this Q X v1 v2 v3 v4 M10)) else (w_Reader_askMethod_j190 this Q X v1 v2 v3 v4 M10))) M
def w_Reader_askMethod_j133 (this : Nat) (Q : Mem → Prop) (X : Mem → Prop) (v1 : Int32) (v2 : Int32) (v3 : Int32) (s0 : Int32) (M : Mem) : Prop :=
  if s0 = 0 then (w_Reader_askMethod_j170 this Q X v1 v2 v3 s0 M) else (if v1 = (8 : Int32) then (w_Reader_askMethod_j170 this Q X v1 v2 v3 s0 M) else (∃ i49, (mR M 3 this 1) = some (5, i49) ∧ w_World_asks i49 (4 : Int32) (fun r51 M50 => if r51 = 0 then (w_Reader_askMethod_j170 this Q X v1 v2 v3 s0 M50) else (w_Works_refuse 0 (4 : Int32) (mI M50 3 this 2) (fun i54 M53 => i54 = 0 ∧ X M53) M50)) M))
def w_Reader_askMethod_j115 (this : Nat) (Q : Mem → Prop) (X : Mem → Prop) (k14 : Int32 → Int32 → Int32 → Int32 → Mem → Prop) (v1 : Int32) (v2 : Int32) (v3 : Int32) (v4 : Int32) (M : Mem) : Prop :=
  k14 v1 v2 v3 (v4 + (1 : Int32)) M
def w_Reader_askMethod_L14 (this : Nat) (Q : Mem → Prop) (X : Mem → Prop) : Nat → Int32 → Int32 → Int32 → Int32 → Mem → Prop
  | 0, _, _, _, _, _ => False
  | n + 1, v1, v2, v3, v4, M => ∃ i3, (mR M 3 this 1) = some (5, i3) ∧ vp_in (mI M 3 this 3) (mL M 43 i3) ∧ ∃ i5, (mR M 3 this 1) = some (5, i5) ∧ vp_in (mI M 3 this 3) (mL M 44 i5) ∧ if ((mI M 43 i3 (mI M 3 this 3).toNatClampNeg) + (mI M 44 i5 (mI M 3 this 3).toNatClampNeg)) ≤ v4 then (if (v1 &&& (8 : Int32)) = 0 then (w_Reader_askMethod_j133 this Q X v1 v2 v3 (0 : Int32) M) else (w_Reader_askMethod_j133 this Q X v1 v2 v3 (1 : Int32) M)) else (∃ i55, (mR M 3 this 1) = some (5, i55) ∧ vp_in v4 (mL M 56 i55) ∧ if (mI M 56 i55 v4.toNatClampNeg) = v2 then (∃ i58, (mR M 3 this 1) = some (5, i58) ∧ vp_in v4 (mL M 59 i58) ∧ if (mI M 59 i58 v4.toNatClampNeg) = v3 then (if (6 : Int32) < (mI M 3 this 18) then (w_Reader_askMethod_j115 this Q X (w_Reader_askMethod_L14 this Q X n) v1 v2 v3 v4 M) else (∃ i62, (mR M 3 this 1) = some (5, i62) ∧ w_World_sameArguments i62 v4 0 (0 : Int32) (mI M 3 this 18) (fun r64 M63 => if r64 = 0 then (w_Reader_askMethod_j115 this Q X (w_Reader_askMethod_L14 this Q X n) v1 v2 v3 v4 M63) else (w_Works_refuse 0 (3 : Int32) (mI M63 3 this 2) (fun i67 M66 => i67 = 0 ∧ X M66) M63)) M)) else (w_Reader_askMethod_j115 this Q X (w_Reader_askMethod_L14 this Q X n) v1 v2 v3 v4 M)) else (w_Reader_askMethod_j115 this Q X (w_Reader_askMethod_L14 this Q X n) v1 v2 v3 v4 M))
def w_Reader_askMethod (this : Nat) (a1 : Int32) (a2 : Int32) (a3 : Int32) (Q : Mem → Prop) (X : Mem → Prop) (M : Mem) : Prop :=
  ∃ i1, (mR M 3 this 1) = some (5, i1) ∧ vp_in (mI M 3 this 3) (mL M 43 i1) ∧ ∃ n68 : Nat, w_Reader_askMethod_L14 this Q X n68 a1 a2 a3 (mI M 43 i1 (mI M 3 this 3).toNatClampNeg) M
set_option maxRecDepth 4096 in
theorem lk_Reader_askMethod_j320 {γ : Gm} (hγ : Gk γ) (this : Nat) (Q : Mem → Prop) (X : Mem → Prop)  (M : Mem) (h : w_Reader_askMethod_j320 this Q X  M) : E γ k_Reader_askMethod 2 320 [some (vr (some (3, this))), none, none, none, none] [] M (Qx (9, 0) (Qv Q) X) := by
  unfold w_Reader_askMethod_j320 at h
  refine E_blk (lv' := [some (vr (some (3, this))), none, none, none, none]) (st' := [vi (mI M 3 this 2), vi (7 : Int32), vr (some (10, 0))]) (M1 := M) (pc' := 330) (tb_Reader hγ) [.aload_n 0, .getfield 3, .bipush 7, .aload_n 0, .getfield 113] (by decide +kernel) rfl rfl trivial ?_
  refine E_callV (κ' := k_Works_refuse) (As := [vi (7 : Int32), vi (mI M 3 this 2)]) (st := []) mv_Works_refuse (Or.inr ⟨"ClassWorks", (tbk_mem (j := 6) (k := 126) rfl)⟩) rfl (by decide +kernel) (Nat.le_of_ble_eq_true rfl) (Nat.le_of_ble_eq_true rfl) rfl (by decide) (lk_Works_refuse hγ 0 (7 : Int32) (mI M 3 this 2) _ M h) (fun _ _ => Qr_r) (fun v M20 hp => Qr_k (R := fun st => E γ k_Reader_askMethod 2 333 [some (vr (some (3, this))), none, none, none, none] st M20 (Qx (9, 0) (Qv Q) X)) hp (fun i21 h => ?_))
  obtain ⟨e0, h⟩ := h
  rw [e0]
  exact E_throw (by decide) rfl (by decide +kernel) h
set_option maxRecDepth 4096 in
theorem lk_Reader_askMethod_j360 {γ : Gm} (hγ : Gk γ) (this : Nat) (Q : Mem → Prop) (X : Mem → Prop)  (M : Mem) (h : w_Reader_askMethod_j360 this Q X  M) : E γ k_Reader_askMethod 2 360 [some (vr (some (3, this))), none, none, none, none] [] M (Qx (9, 0) (Qv Q) X) := by
  unfold w_Reader_askMethod_j360 at h
  refine E_blk (lv' := [some (vr (some (3, this))), none, none, none, none]) (st' := [vi (mI M 3 this 2), vi (12 : Int32), vr (some (10, 0))]) (M1 := M) (pc' := 370) (tb_Reader hγ) [.aload_n 0, .getfield 3, .bipush 12, .aload_n 0, .getfield 113] (by decide +kernel) rfl rfl trivial ?_
  refine E_callV (κ' := k_Works_refuse) (As := [vi (12 : Int32), vi (mI M 3 this 2)]) (st := []) mv_Works_refuse (Or.inr ⟨"ClassWorks", (tbk_mem (j := 6) (k := 126) rfl)⟩) rfl (by decide +kernel) (Nat.le_of_ble_eq_true rfl) (Nat.le_of_ble_eq_true rfl) rfl (by decide) (lk_Works_refuse hγ 0 (12 : Int32) (mI M 3 this 2) _ M h) (fun _ _ => Qr_r) (fun v M24 hp => Qr_k (R := fun st => E γ k_Reader_askMethod 2 373 [some (vr (some (3, this))), none, none, none, none] st M24 (Qx (9, 0) (Qv Q) X)) hp (fun i25 h => ?_))
  obtain ⟨e0, h⟩ := h
  rw [e0]
  exact E_throw (by decide) rfl (by decide +kernel) h
set_option maxRecDepth 4096 in
theorem lk_Reader_askMethod_j334 {γ : Gm} (hγ : Gk γ) (this : Nat) (Q : Mem → Prop) (X : Mem → Prop)  (M : Mem) (h : w_Reader_askMethod_j334 this Q X  M) : E γ k_Reader_askMethod 2 334 [some (vr (some (3, this))), none, none, none, none] [] M (Qx (9, 0) (Qv Q) X) := by
  unfold w_Reader_askMethod_j334 at h
  refine E_blk (lv' := [some (vr (some (3, this))), none, none, none, none]) (st' := [vi (6 : Int32), vi (mI M 3 this 18)]) (M1 := M) (pc' := 340) (tb_Reader hγ) [.aload_n 0, .getfield 167, .bipush 6] (by decide +kernel) rfl rfl trivial ?_
  refine E_icmp_gt (off := 20) (tgt := 360) (by decide +kernel) (by decide) (fun b23 => ?_) (fun b23 => ?_)
  · rw [if_pos b23] at h
    refine E_mask [true, false, false, false, false] rfl ?_
    exact lk_Reader_askMethod_j360 hγ this Q X  M h
  · rw [if_neg b23] at h
    refine E_blk (lv' := [some (vr (some (3, this))), none, none, none, none]) (st' := [vr (mR M 3 this 1)]) (M1 := M) (pc' := 347) (tb_Reader hγ) [.aload_n 0, .getfield 52] (by decide +kernel) rfl rfl trivial ?_
    obtain ⟨i26, ei26, h⟩ := h
    rw [ei26]
    obtain ⟨c27, h⟩ := h
    refine E_blk (lv' := [some (vr (some (3, this))), none, none, none, none]) (st' := [vi (12 : Int32), vi (mI M 44 i26 (mI M 3 this 3).toNatClampNeg)]) (M1 := M) (pc' := 357) (tb_Reader hγ) [.getfield 269, .aload_n 0, .getfield 188, .iaload, .bipush 12] (by decide +kernel) rfl rfl ⟨c27, trivial⟩ ?_
    refine E_icmp_ne (off := 17) (tgt := 374) (by decide +kernel) (by decide) (fun b28 => ?_) (fun b28 => ?_)
    · rw [if_pos b28] at h
      refine E_mask [true, false, false, false, false] rfl ?_
      exact lk_Reader_askMethod_j360 hγ this Q X  M h
    · rw [if_neg b28] at h
      exact (E_vret rfl (by decide +kernel) h).nx
set_option maxRecDepth 4096 in
theorem lk_Reader_askMethod_j296 {γ : Gm} (hγ : Gk γ) (this : Nat) (Q : Mem → Prop) (X : Mem → Prop) (v1 : Int32) (v2 : Int32) (v3 : Int32) (M : Mem) (h : w_Reader_askMethod_j296 this Q X v1 v2 v3 M) : E γ k_Reader_askMethod 2 296 [some (vr (some (3, this))), some (vi v1), some (vi v2), some (vi v3), none] [] M (Qx (9, 0) (Qv Q) X) := by
  unfold w_Reader_askMethod_j296 at h
  refine E_blk (lv' := [some (vr (some (3, this))), some (vi v1), some (vi v2), some (vi v3), none]) (st' := [vi (80 : Int32), vi v2]) (M1 := M) (pc' := 299) (tb_Reader hγ) [.iload_n 2, .bipush 80] (by decide +kernel) rfl rfl trivial ?_
  refine E_icmp_ne (off := 35) (tgt := 334) (by decide +kernel) (by decide) (fun b17 => ?_) (fun b17 => ?_)
  · rw [if_pos b17] at h
    refine E_blk (lv' := [some (vr (some (3, this))), some (vi v1), some (vi v2), some (vi v3), none]) (st' := [vi (1 : Int32), vi v1]) (M1 := M) (pc' := 304) (tb_Reader hγ) [.iload_n 1, .iconst 1] (by decide +kernel) rfl rfl trivial ?_
    refine E_icmp_ne (off := 16) (tgt := 320) (by decide +kernel) (by decide) (fun b18 => ?_) (fun b18 => ?_)
    · rw [if_pos b18] at h
      refine E_blk (lv' := [some (vr (some (3, this))), some (vi v1), some (vi v2), some (vi v3), none]) (st' := [vi (mI M 3 this 18)]) (M1 := M) (pc' := 311) (tb_Reader hγ) [.aload_n 0, .getfield 167] (by decide +kernel) rfl rfl trivial ?_
      refine E_if_gt (off := 9) (tgt := 320) (by decide +kernel) (by decide) (fun b19 => ?_) (fun b19 => ?_)
      · rw [if_pos b19] at h
        refine E_mask [true, false, false, false, false] rfl ?_
        exact lk_Reader_askMethod_j320 hγ this Q X  M h
      · rw [if_neg b19] at h
        refine E_blk (lv' := [some (vr (some (3, this))), some (vi v1), some (vi v2), some (vi v3), none]) (st' := [vi (-4 : Int32), vi v3]) (M1 := M) (pc' := 317) (tb_Reader hγ) [.iload_n 3, .bipush (.negSucc 3)] (by decide +kernel) rfl rfl trivial ?_
        refine E_icmp_eq (off := 17) (tgt := 334) (by decide +kernel) (by decide) (fun b22 => ?_) (fun b22 => ?_)
        · rw [if_pos b22] at h
          refine E_mask [true, false, false, false, false] rfl ?_
          exact lk_Reader_askMethod_j334 hγ this Q X  M h
        · rw [if_neg b22] at h
          refine E_mask [true, false, false, false, false] rfl ?_
          exact lk_Reader_askMethod_j320 hγ this Q X  M h
    · rw [if_neg b18] at h
      refine E_mask [true, false, false, false, false] rfl ?_
      exact lk_Reader_askMethod_j320 hγ this Q X  M h
  · rw [if_neg b17] at h
    refine E_mask [true, false, false, false, false] rfl ?_
    exact lk_Reader_askMethod_j334 hγ this Q X  M h
set_option maxRecDepth 4096 in
theorem lk_Reader_askMethod_j282 {γ : Gm} (hγ : Gk γ) (this : Nat) (Q : Mem → Prop) (X : Mem → Prop)  (M : Mem) (h : w_Reader_askMethod_j282 this Q X  M) : E γ k_Reader_askMethod 2 282 [some (vr (some (3, this))), none, none, none, none] [] M (Qx (9, 0) (Qv Q) X) := by
  unfold w_Reader_askMethod_j282 at h
  refine E_blk (lv' := [some (vr (some (3, this))), none, none, none, none]) (st' := [vi (mI M 3 this 2), vi (7 : Int32), vr (some (10, 0))]) (M1 := M) (pc' := 292) (tb_Reader hγ) [.aload_n 0, .getfield 3, .bipush 7, .aload_n 0, .getfield 113] (by decide +kernel) rfl rfl trivial ?_
  refine E_callV (κ' := k_Works_refuse) (As := [vi (7 : Int32), vi (mI M 3 this 2)]) (st := []) mv_Works_refuse (Or.inr ⟨"ClassWorks", (tbk_mem (j := 6) (k := 126) rfl)⟩) rfl (by decide +kernel) (Nat.le_of_ble_eq_true rfl) (Nat.le_of_ble_eq_true rfl) rfl (by decide) (lk_Works_refuse hγ 0 (7 : Int32) (mI M 3 this 2) _ M h) (fun _ _ => Qr_r) (fun v M29 hp => Qr_k (R := fun st => E γ k_Reader_askMethod 2 295 [some (vr (some (3, this))), none, none, none, none] st M29 (Qx (9, 0) (Qv Q) X)) hp (fun i30 h => ?_))
  obtain ⟨e0, h⟩ := h
  rw [e0]
  exact E_throw (by decide) rfl (by decide +kernel) h
set_option maxRecDepth 4096 in
theorem lk_Reader_askMethod_j263 {γ : Gm} (hγ : Gk γ) (this : Nat) (Q : Mem → Prop) (X : Mem → Prop) (v1 : Int32) (v2 : Int32) (v3 : Int32) (M : Mem) (h : w_Reader_askMethod_j263 this Q X v1 v2 v3 M) : E γ k_Reader_askMethod 2 263 [some (vr (some (3, this))), some (vi v1), some (vi v2), some (vi v3), none] [] M (Qx (9, 0) (Qv Q) X) := by
  unfold w_Reader_askMethod_j263 at h
  refine E_blk (lv' := [some (vr (some (3, this))), some (vi v1), some (vi v2), some (vi v3), none]) (st' := [vi (79 : Int32), vi v2]) (M1 := M) (pc' := 266) (tb_Reader hγ) [.iload_n 2, .bipush 79] (by decide +kernel) rfl rfl trivial ?_
  refine E_icmp_ne (off := 30) (tgt := 296) (by decide +kernel) (by decide) (fun b14 => ?_) (fun b14 => ?_)
  · rw [if_pos b14] at h
    refine E_blk (lv' := [some (vr (some (3, this))), some (vi v1), some (vi v2), some (vi v3), none]) (st' := [vi (v1 &&& (11 : Int32))]) (M1 := M) (pc' := 273) (tb_Reader hγ) [.iload_n 1, .bipush 11, .iand] (by decide +kernel) rfl rfl trivial ?_
    refine E_if_ne (off := 9) (tgt := 282) (by decide +kernel) (by decide) (fun b15 => ?_) (fun b15 => ?_)
    · rw [if_pos b15] at h
      refine E_blk (lv' := [some (vr (some (3, this))), some (vi v1), some (vi v2), some (vi v3), none]) (st' := [vi (-4 : Int32), vi v3]) (M1 := M) (pc' := 279) (tb_Reader hγ) [.iload_n 3, .bipush (.negSucc 3)] (by decide +kernel) rfl rfl trivial ?_
      refine E_icmp_eq (off := 17) (tgt := 296) (by decide +kernel) (by decide) (fun b16 => ?_) (fun b16 => ?_)
      · rw [if_pos b16] at h
        refine E_mask [true, true, true, true, false] rfl ?_
        exact lk_Reader_askMethod_j296 hγ this Q X v1 v2 v3 M h
      · rw [if_neg b16] at h
        refine E_mask [true, false, false, false, false] rfl ?_
        exact lk_Reader_askMethod_j282 hγ this Q X  M h
    · rw [if_neg b15] at h
      refine E_mask [true, false, false, false, false] rfl ?_
      exact lk_Reader_askMethod_j282 hγ this Q X  M h
  · rw [if_neg b14] at h
    refine E_mask [true, true, true, true, false] rfl ?_
    exact lk_Reader_askMethod_j296 hγ this Q X v1 v2 v3 M h
set_option maxRecDepth 4096 in
theorem lk_Reader_askMethod_j214 {γ : Gm} (hγ : Gk γ) (this : Nat) (Q : Mem → Prop) (X : Mem → Prop) (v1 : Int32) (v2 : Int32) (v3 : Int32) (v4 : Int32) (M : Mem) (h : w_Reader_askMethod_j214 this Q X v1 v2 v3 v4 M) : E γ k_Reader_askMethod 2 214 [some (vr (some (3, this))), some (vi v1), some (vi v2), some (vi v3), some (vi v4)] [] M (Qx (9, 0) (Qv Q) X) := by
  unfold w_Reader_askMethod_j214 at h
  refine E_blk (lv' := [some (vr (some (3, this))), some (vi v1), some (vi v2), some (vi v3), some (vi v4)]) (st' := [vi v4]) (M1 := M) (pc' := 216) (tb_Reader hγ) [.iload 4] (by decide +kernel) rfl rfl trivial ?_
  refine E_if_eq (off := 47) (tgt := 263) (by decide +kernel) (by decide) (fun b13 => ?_) (fun b13 => ?_)
  · rw [if_pos b13] at h
    refine E_mask [true, true, true, true, false] rfl ?_
    exact lk_Reader_askMethod_j263 hγ this Q X v1 v2 v3 M h
  · rw [if_neg b13] at h
    refine E_blk (lv' := [some (vr (some (3, this))), some (vi v1), some (vi v2), some (vi v3), some (vi v4)]) (st' := [vr (mR M 3 this 1)]) (M1 := M) (pc' := 223) (tb_Reader hγ) [.aload_n 0, .getfield 52] (by decide +kernel) rfl rfl trivial ?_
    obtain ⟨i31, ei31, h⟩ := h
    rw [ei31]
    obtain ⟨c32, h⟩ := h
    refine E_blk (lv' := [some (vr (some (3, this))), some (vi v1), some (vi v2), some (vi v3), some (vi v4)]) (st' := [vi ((mI M 40 i31 (mI M 3 this 3).toNatClampNeg) &&& (6 : Int32))]) (M1 := M) (pc' := 234) (tb_Reader hγ) [.getfield 311, .aload_n 0, .getfield 188, .iaload, .bipush 6, .iand] (by decide +kernel) rfl rfl ⟨c32, trivial⟩ ?_
    refine E_if_ne (off := 29) (tgt := 263) (by decide +kernel) (by decide) (fun b33 => ?_) (fun b33 => ?_)
    · rw [if_pos b33] at h
      refine E_blk (lv' := [some (vr (some (3, this))), some (vi v1), some (vi v2), some (vi v3), some (vi v4)]) (st' := [vr (mR M 3 this 1)]) (M1 := M) (pc' := 241) (tb_Reader hγ) [.aload_n 0, .getfield 52] (by decide +kernel) rfl rfl trivial ?_
      obtain ⟨i34, ei34, h⟩ := h
      rw [ei34]
      refine E_blk (lv' := [some (vr (some (3, this))), some (vi v1), some (vi v2), some (vi v3), some (vi v4)]) (st' := [vi (6 : Int32), vr (some (5, i34))]) (M1 := M) (pc' := 243) (tb_Reader hγ) [.bipush 6] (by decide +kernel) rfl rfl trivial ?_
      refine E_callV (κ' := k_World_asks) (As := [vi (6 : Int32)]) (st := []) mv_World_asks (Or.inl (tbk_mem (j := 6) (k := 151) rfl)) rfl (by decide +kernel) (Nat.le_of_ble_eq_true rfl) (Nat.le_of_ble_eq_true rfl) rfl (by decide) (lk_World_asks hγ i34 (6 : Int32) _ M h) (fun _ _ => Qi_r) (fun v M35 hp => Qi_k (R := fun st => E γ k_Reader_askMethod 2 246 [some (vr (some (3, this))), some (vi v1), some (vi v2), some (vi v3), some (vi v4)] st M35 (Qx (9, 0) (Qv Q) X)) hp (fun r36 h => ?_))
      refine E_if_eq (off := 17) (tgt := 263) (by decide +kernel) (by decide) (fun b37 => ?_) (fun b37 => ?_)
      · rw [if_pos b37] at h
        refine E_mask [true, true, true, true, false] rfl ?_
        exact lk_Reader_askMethod_j263 hγ this Q X v1 v2 v3 M35 h
      · rw [if_neg b37] at h
        refine E_blk (lv' := [some (vr (some (3, this))), some (vi v1), some (vi v2), some (vi v3), some (vi v4)]) (st' := [vi (mI M35 3 this 2), vi (6 : Int32), vr (some (10, 0))]) (M1 := M35) (pc' := 259) (tb_Reader hγ) [.aload_n 0, .getfield 3, .bipush 6, .aload_n 0, .getfield 113] (by decide +kernel) rfl rfl trivial ?_
        refine E_callV (κ' := k_Works_refuse) (As := [vi (6 : Int32), vi (mI M35 3 this 2)]) (st := []) mv_Works_refuse (Or.inr ⟨"ClassWorks", (tbk_mem (j := 6) (k := 126) rfl)⟩) rfl (by decide +kernel) (Nat.le_of_ble_eq_true rfl) (Nat.le_of_ble_eq_true rfl) rfl (by decide) (lk_Works_refuse hγ 0 (6 : Int32) (mI M35 3 this 2) _ M35 h) (fun _ _ => Qr_r) (fun v M38 hp => Qr_k (R := fun st => E γ k_Reader_askMethod 2 262 [some (vr (some (3, this))), some (vi v1), some (vi v2), some (vi v3), some (vi v4)] st M38 (Qx (9, 0) (Qv Q) X)) hp (fun i39 h => ?_))
        obtain ⟨e0, h⟩ := h
        rw [e0]
        exact E_throw (by decide) rfl (by decide +kernel) h
    · rw [if_neg b33] at h
      refine E_mask [true, true, true, true, false] rfl ?_
      exact lk_Reader_askMethod_j263 hγ this Q X v1 v2 v3 M h
set_option maxRecDepth 4096 in
theorem lk_Reader_askMethod_j190 {γ : Gm} (hγ : Gk γ) (this : Nat) (Q : Mem → Prop) (X : Mem → Prop) (v1 : Int32) (v2 : Int32) (v3 : Int32) (v4 : Int32) (M : Mem) (h : w_Reader_askMethod_j190 this Q X v1 v2 v3 v4 M) : E γ k_Reader_askMethod 2 190 [some (vr (some (3, this))), some (vi v1), some (vi v2), some (vi v3), some (vi v4)] [] M (Qx (9, 0) (Qv Q) X) := by
  unfold w_Reader_askMethod_j190 at h
  refine E_blk (lv' := [some (vr (some (3, this))), some (vi v1), some (vi v2), some (vi v3), some (vi v4)]) (st' := [vr (mR M 3 this 1)]) (M1 := M) (pc' := 194) (tb_Reader hγ) [.aload_n 0, .getfield 52] (by decide +kernel) rfl rfl trivial ?_
  obtain ⟨i42, ei42, h⟩ := h
  rw [ei42]
  refine E_blk (lv' := [some (vr (some (3, this))), some (vi v1), some (vi v2), some (vi v3), some (vi v4)]) (st' := [vi (5 : Int32), vr (some (5, i42))]) (M1 := M) (pc' := 195) (tb_Reader hγ) [.iconst 5] (by decide +kernel) rfl rfl trivial ?_
  refine E_callV (κ' := k_World_asks) (As := [vi (5 : Int32)]) (st := []) mv_World_asks (Or.inl (tbk_mem (j := 6) (k := 151) rfl)) rfl (by decide +kernel) (Nat.le_of_ble_eq_true rfl) (Nat.le_of_ble_eq_true rfl) rfl (by decide) (lk_World_asks hγ i42 (5 : Int32) _ M h) (fun _ _ => Qi_r) (fun v M43 hp => Qi_k (R := fun st => E γ k_Reader_askMethod 2 198 [some (vr (some (3, this))), some (vi v1), some (vi v2), some (vi v3), some (vi v4)] st M43 (Qx (9, 0) (Qv Q) X)) hp (fun r44 h => ?_))
  refine E_if_eq (off := 16) (tgt := 214) (by decide +kernel) (by decide) (fun b45 => ?_) (fun b45 => ?_)
  · rw [if_pos b45] at h
    refine E_mask [true, true, true, true, true] rfl ?_
    exact lk_Reader_askMethod_j214 hγ this Q X v1 v2 v3 v4 M43 h
  · rw [if_neg b45] at h
    refine E_blk (lv' := [some (vr (some (3, this))), some (vi v1), some (vi v2), some (vi v3), some (vi v4)]) (st' := [vi (mI M43 3 this 2), vi (5 : Int32), vr (some (10, 0))]) (M1 := M43) (pc' := 210) (tb_Reader hγ) [.aload_n 0, .getfield 3, .iconst 5, .aload_n 0, .getfield 113] (by decide +kernel) rfl rfl trivial ?_
    refine E_callV (κ' := k_Works_refuse) (As := [vi (5 : Int32), vi (mI M43 3 this 2)]) (st := []) mv_Works_refuse (Or.inr ⟨"ClassWorks", (tbk_mem (j := 6) (k := 126) rfl)⟩) rfl (by decide +kernel) (Nat.le_of_ble_eq_true rfl) (Nat.le_of_ble_eq_true rfl) rfl (by decide) (lk_Works_refuse hγ 0 (5 : Int32) (mI M43 3 this 2) _ M43 h) (fun _ _ => Qr_r) (fun v M46 hp => Qr_k (R := fun st => E γ k_Reader_askMethod 2 213 [some (vr (some (3, this))), some (vi v1), some (vi v2), some (vi v3), some (vi v4)] st M46 (Qx (9, 0) (Qv Q) X)) hp (fun i47 h => ?_))
    obtain ⟨e0, h⟩ := h
    rw [e0]
    exact E_throw (by decide) rfl (by decide +kernel) h
set_option maxRecDepth 4096 in
theorem lk_Reader_askMethod_j170 {γ : Gm} (hγ : Gk γ) (this : Nat) (Q : Mem → Prop) (X : Mem → Prop) (v1 : Int32) (v2 : Int32) (v3 : Int32) (v4 : Int32) (M : Mem) (h : w_Reader_askMethod_j170 this Q X v1 v2 v3 v4 M) : E γ k_Reader_askMethod 2 170 [some (vr (some (3, this))), some (vi v1), some (vi v2), some (vi v3), some (vi v4)] [] M (Qx (9, 0) (Qv Q) X) := by
  unfold w_Reader_askMethod_j170 at h
  refine E_blk (lv' := [some (vr (some (3, this))), some (vi v1), some (vi v2), some (vi v3), some (vi v4)]) (st' := [vr (some (3, this))]) (M1 := M) (pc' := 171) (tb_Reader hγ) [.aload_n 0] (by decide +kernel) rfl rfl trivial ?_
  refine E_callV (κ' := k_Reader_isFace) (As := []) (st := []) mv_Reader_isFace (Or.inl (tbk_mem (j := 6) (k := 195) rfl)) rfl (by decide +kernel) (Nat.le_of_ble_eq_true rfl) (Nat.le_of_ble_eq_true rfl) rfl (by decide) (lk_Reader_isFace hγ this _ M h) (fun _ _ => Qi_r) (fun v M10 hp => Qi_k (R := fun st => E γ k_Reader_askMethod 2 174 [some (vr (some (3, this))), some (vi v1), some (vi v2), some (vi v3), some (vi v4)] st M10 (Qx (9, 0) (Qv Q) X)) hp (fun r11 h => ?_))
  refine E_if_eq (off := 40) (tgt := 214) (by decide +kernel) (by decide) (fun b12 => ?_) (fun b12 => ?_)
  · rw [if_pos b12] at h
    refine E_mask [true, true, true, true, true] rfl ?_
    exact lk_Reader_askMethod_j214 hγ this Q X v1 v2 v3 v4 M10 h
  · rw [if_neg b12] at h
    refine E_blk (lv' := [some (vr (some (3, this))), some (vi v1), some (vi v2), some (vi v3), some (vi v4)]) (st' := [vi (v1 &&& (6 : Int32))]) (M1 := M10) (pc' := 181) (tb_Reader hγ) [.iload_n 1, .bipush 6, .iand] (by decide +kernel) rfl rfl trivial ?_
    refine E_if_ne (off := 9) (tgt := 190) (by decide +kernel) (by decide) (fun b40 => ?_) (fun b40 => ?_)
    · rw [if_pos b40] at h
      refine E_blk (lv' := [some (vr (some (3, this))), some (vi v1), some (vi v2), some (vi v3), some (vi v4)]) (st' := [vi (79 : Int32), vi v2]) (M1 := M10) (pc' := 187) (tb_Reader hγ) [.iload_n 2, .bipush 79] (by decide +kernel) rfl rfl trivial ?_
      refine E_icmp_ne (off := 27) (tgt := 214) (by decide +kernel) (by decide) (fun b41 => ?_) (fun b41 => ?_)
      · rw [if_pos b41] at h
        refine E_mask [true, true, true, true, true] rfl ?_
        exact lk_Reader_askMethod_j190 hγ this Q X v1 v2 v3 v4 M10 h
      · rw [if_neg b41] at h
        refine E_mask [true, true, true, true, true] rfl ?_
        exact lk_Reader_askMethod_j214 hγ this Q X v1 v2 v3 v4 M10 h
    · rw [if_neg b40] at h
      refine E_mask [true, true, true, true, true] rfl ?_
      exact lk_Reader_askMethod_j190 hγ this Q X v1 v2 v3 v4 M10 h
set_option maxRecDepth 4096 in
theorem lk_Reader_askMethod_j133 {γ : Gm} (hγ : Gk γ) (this : Nat) (Q : Mem → Prop) (X : Mem → Prop) (v1 : Int32) (v2 : Int32) (v3 : Int32) (s0 : Int32) (M : Mem) (h : w_Reader_askMethod_j133 this Q X v1 v2 v3 s0 M) : E γ k_Reader_askMethod 2 133 [some (vr (some (3, this))), some (vi v1), some (vi v2), some (vi v3), none] [vi s0] M (Qx (9, 0) (Qv Q) X) := by
  unfold w_Reader_askMethod_j133 at h
  refine E_blk (lv' := [some (vr (some (3, this))), some (vi v1), some (vi v2), some (vi v3), some (vi s0)]) (st' := [vi s0]) (M1 := M) (pc' := 137) (tb_Reader hγ) [.istore 4, .iload 4] (by decide +kernel) rfl rfl trivial ?_
  refine E_if_eq (off := 33) (tgt := 170) (by decide +kernel) (by decide) (fun b9 => ?_) (fun b9 => ?_)
  · rw [if_pos b9] at h
    refine E_mask [true, true, true, true, true] rfl ?_
    exact lk_Reader_askMethod_j170 hγ this Q X v1 v2 v3 s0 M h
  · rw [if_neg b9] at h
    refine E_blk (lv' := [some (vr (some (3, this))), some (vi v1), some (vi v2), some (vi v3), some (vi s0)]) (st' := [vi (8 : Int32), vi v1]) (M1 := M) (pc' := 143) (tb_Reader hγ) [.iload_n 1, .bipush 8] (by decide +kernel) rfl rfl trivial ?_
    refine E_icmp_eq (off := 27) (tgt := 170) (by decide +kernel) (by decide) (fun b48 => ?_) (fun b48 => ?_)
    · rw [if_pos b48] at h
      refine E_mask [true, true, true, true, true] rfl ?_
      exact lk_Reader_askMethod_j170 hγ this Q X v1 v2 v3 s0 M h
    · rw [if_neg b48] at h
      refine E_blk (lv' := [some (vr (some (3, this))), some (vi v1), some (vi v2), some (vi v3), some (vi s0)]) (st' := [vr (mR M 3 this 1)]) (M1 := M) (pc' := 150) (tb_Reader hγ) [.aload_n 0, .getfield 52] (by decide +kernel) rfl rfl trivial ?_
      obtain ⟨i49, ei49, h⟩ := h
      rw [ei49]
      refine E_blk (lv' := [some (vr (some (3, this))), some (vi v1), some (vi v2), some (vi v3), some (vi s0)]) (st' := [vi (4 : Int32), vr (some (5, i49))]) (M1 := M) (pc' := 151) (tb_Reader hγ) [.iconst 4] (by decide +kernel) rfl rfl trivial ?_
      refine E_callV (κ' := k_World_asks) (As := [vi (4 : Int32)]) (st := []) mv_World_asks (Or.inl (tbk_mem (j := 6) (k := 151) rfl)) rfl (by decide +kernel) (Nat.le_of_ble_eq_true rfl) (Nat.le_of_ble_eq_true rfl) rfl (by decide) (lk_World_asks hγ i49 (4 : Int32) _ M h) (fun _ _ => Qi_r) (fun v M50 hp => Qi_k (R := fun st => E γ k_Reader_askMethod 2 154 [some (vr (some (3, this))), some (vi v1), some (vi v2), some (vi v3), some (vi s0)] st M50 (Qx (9, 0) (Qv Q) X)) hp (fun r51 h => ?_))
      refine E_if_eq (off := 16) (tgt := 170) (by decide +kernel) (by decide) (fun b52 => ?_) (fun b52 => ?_)
      · rw [if_pos b52] at h
        refine E_mask [true, true, true, true, true] rfl ?_
        exact lk_Reader_askMethod_j170 hγ this Q X v1 v2 v3 s0 M50 h
      · rw [if_neg b52] at h
        refine E_blk (lv' := [some (vr (some (3, this))), some (vi v1), some (vi v2), some (vi v3), some (vi s0)]) (st' := [vi (mI M50 3 this 2), vi (4 : Int32), vr (some (10, 0))]) (M1 := M50) (pc' := 166) (tb_Reader hγ) [.aload_n 0, .getfield 3, .iconst 4, .aload_n 0, .getfield 113] (by decide +kernel) rfl rfl trivial ?_
        refine E_callV (κ' := k_Works_refuse) (As := [vi (4 : Int32), vi (mI M50 3 this 2)]) (st := []) mv_Works_refuse (Or.inr ⟨"ClassWorks", (tbk_mem (j := 6) (k := 126) rfl)⟩) rfl (by decide +kernel) (Nat.le_of_ble_eq_true rfl) (Nat.le_of_ble_eq_true rfl) rfl (by decide) (lk_Works_refuse hγ 0 (4 : Int32) (mI M50 3 this 2) _ M50 h) (fun _ _ => Qr_r) (fun v M53 hp => Qr_k (R := fun st => E γ k_Reader_askMethod 2 169 [some (vr (some (3, this))), some (vi v1), some (vi v2), some (vi v3), some (vi s0)] st M53 (Qx (9, 0) (Qv Q) X)) hp (fun i54 h => ?_))
        obtain ⟨e0, h⟩ := h
        rw [e0]
        exact E_throw (by decide) rfl (by decide +kernel) h
set_option maxRecDepth 4096 in
theorem lk_Reader_askMethod_j115 {γ : Gm} (hγ : Gk γ) (this : Nat) (Q : Mem → Prop) (X : Mem → Prop) (k14 : Int32 → Int32 → Int32 → Int32 → Mem → Prop) (hk14 : ∀ (v1 : Int32) (v2 : Int32) (v3 : Int32) (v4 : Int32) (M : Mem), k14 v1 v2 v3 v4 M → E γ k_Reader_askMethod 2 14 [some (vr (some (3, this))), some (vi v1), some (vi v2), some (vi v3), some (vi v4)] [] M (Qx (9, 0) (Qv Q) X)) (v1 : Int32) (v2 : Int32) (v3 : Int32) (v4 : Int32) (M : Mem) (h : w_Reader_askMethod_j115 this Q X k14 v1 v2 v3 v4 M) : E γ k_Reader_askMethod 2 115 [some (vr (some (3, this))), some (vi v1), some (vi v2), some (vi v3), some (vi v4)] [] M (Qx (9, 0) (Qv Q) X) := by
  unfold w_Reader_askMethod_j115 at h
  refine E_blk (lv' := [some (vr (some (3, this))), some (vi v1), some (vi v2), some (vi v3), some (vi (v4 + (1 : Int32)))]) (st' := []) (M1 := M) (pc' := 118) (tb_Reader hγ) [.iinc 4 1] (by decide +kernel) rfl rfl trivial ?_
  refine E_goto (off := -104) (tgt := 14) (by decide +kernel) (by decide) ?_
  refine E_mask [true, true, true, true, true] rfl ?_
  exact hk14 v1 v2 v3 (v4 + (1 : Int32)) M h
set_option maxRecDepth 4096 in
theorem lk_Reader_askMethod_L14 {γ : Gm} (hγ : Gk γ) (this : Nat) (Q : Mem → Prop) (X : Mem → Prop) : ∀ (n : Nat) (v1 : Int32) (v2 : Int32) (v3 : Int32) (v4 : Int32) (M : Mem), w_Reader_askMethod_L14 this Q X n v1 v2 v3 v4 M → E γ k_Reader_askMethod 2 14 [some (vr (some (3, this))), some (vi v1), some (vi v2), some (vi v3), some (vi v4)] [] M (Qx (9, 0) (Qv Q) X) := by
  intro n
  induction n with
  | zero => intro v1 v2 v3 v4 M h; exact h.elim
  | succ n ih =>
    intro v1 v2 v3 v4 M h
    unfold w_Reader_askMethod_L14 at h
    refine E_blk (lv' := [some (vr (some (3, this))), some (vi v1), some (vi v2), some (vi v3), some (vi v4)]) (st' := [vr (mR M 3 this 1), vi v4]) (M1 := M) (pc' := 20) (tb_Reader hγ) [.iload 4, .aload_n 0, .getfield 52] (by decide +kernel) rfl rfl trivial ?_
    obtain ⟨i3, ei3, h⟩ := h
    rw [ei3]
    obtain ⟨c4, h⟩ := h
    refine E_blk (lv' := [some (vr (some (3, this))), some (vi v1), some (vi v2), some (vi v3), some (vi v4)]) (st' := [vr (mR M 3 this 1), vi (mI M 43 i3 (mI M 3 this 3).toNatClampNeg), vi v4]) (M1 := M) (pc' := 32) (tb_Reader hγ) [.getfield 301, .aload_n 0, .getfield 188, .iaload, .aload_n 0, .getfield 52] (by decide +kernel) rfl rfl ⟨c4, trivial⟩ ?_
    obtain ⟨i5, ei5, h⟩ := h
    rw [ei5]
    obtain ⟨c6, h⟩ := h
    refine E_blk (lv' := [some (vr (some (3, this))), some (vi v1), some (vi v2), some (vi v3), some (vi v4)]) (st' := [vi ((mI M 43 i3 (mI M 3 this 3).toNatClampNeg) + (mI M 44 i5 (mI M 3 this 3).toNatClampNeg)), vi v4]) (M1 := M) (pc' := 41) (tb_Reader hγ) [.getfield 269, .aload_n 0, .getfield 188, .iaload, .iadd] (by decide +kernel) rfl rfl ⟨c6, trivial⟩ ?_
    refine E_icmp_ge (off := 80) (tgt := 121) (by decide +kernel) (by decide) (fun b7 => ?_) (fun b7 => ?_)
    · rw [if_pos b7] at h
      refine E_blk (lv' := [some (vr (some (3, this))), some (vi v1), some (vi v2), some (vi v3), some (vi v4)]) (st' := [vi (v1 &&& (8 : Int32))]) (M1 := M) (pc' := 125) (tb_Reader hγ) [.iload_n 1, .bipush 8, .iand] (by decide +kernel) rfl rfl trivial ?_
      refine E_if_eq (off := 7) (tgt := 132) (by decide +kernel) (by decide) (fun b8 => ?_) (fun b8 => ?_)
      · rw [if_pos b8] at h
        refine E_blk (lv' := [some (vr (some (3, this))), some (vi v1), some (vi v2), some (vi v3), some (vi v4)]) (st' := [vi (0 : Int32)]) (M1 := M) (pc' := 133) (tb_Reader hγ) [.iconst 0] (by decide +kernel) rfl rfl trivial ?_
        refine E_mask [true, true, true, true, false] rfl ?_
        exact lk_Reader_askMethod_j133 hγ this Q X v1 v2 v3 (0 : Int32) M h
      · rw [if_neg b8] at h
        refine E_blk (lv' := [some (vr (some (3, this))), some (vi v1), some (vi v2), some (vi v3), some (vi v4)]) (st' := [vi (1 : Int32)]) (M1 := M) (pc' := 129) (tb_Reader hγ) [.iconst 1] (by decide +kernel) rfl rfl trivial ?_
        refine E_goto (off := 4) (tgt := 133) (by decide +kernel) (by decide) ?_
        refine E_mask [true, true, true, true, false] rfl ?_
        exact lk_Reader_askMethod_j133 hγ this Q X v1 v2 v3 (1 : Int32) M h
    · rw [if_neg b7] at h
      refine E_blk (lv' := [some (vr (some (3, this))), some (vi v1), some (vi v2), some (vi v3), some (vi v4)]) (st' := [vr (mR M 3 this 1)]) (M1 := M) (pc' := 48) (tb_Reader hγ) [.aload_n 0, .getfield 52] (by decide +kernel) rfl rfl trivial ?_
      obtain ⟨i55, ei55, h⟩ := h
      rw [ei55]
      obtain ⟨c56, h⟩ := h
      refine E_blk (lv' := [some (vr (some (3, this))), some (vi v1), some (vi v2), some (vi v3), some (vi v4)]) (st' := [vi v2, vi (mI M 56 i55 v4.toNatClampNeg)]) (M1 := M) (pc' := 55) (tb_Reader hγ) [.getfield 304, .iload 4, .iaload, .iload_n 2] (by decide +kernel) rfl rfl ⟨c56, trivial⟩ ?_
      refine E_icmp_ne (off := 60) (tgt := 115) (by decide +kernel) (by decide) (fun b57 => ?_) (fun b57 => ?_)
      · rw [if_pos b57] at h
        refine E_blk (lv' := [some (vr (some (3, this))), some (vi v1), some (vi v2), some (vi v3), some (vi v4)]) (st' := [vr (mR M 3 this 1)]) (M1 := M) (pc' := 62) (tb_Reader hγ) [.aload_n 0, .getfield 52] (by decide +kernel) rfl rfl trivial ?_
        obtain ⟨i58, ei58, h⟩ := h
        rw [ei58]
        obtain ⟨c59, h⟩ := h
        refine E_blk (lv' := [some (vr (some (3, this))), some (vi v1), some (vi v2), some (vi v3), some (vi v4)]) (st' := [vi v3, vi (mI M 59 i58 v4.toNatClampNeg)]) (M1 := M) (pc' := 69) (tb_Reader hγ) [.getfield 272, .iload 4, .iaload, .iload_n 3] (by decide +kernel) rfl rfl ⟨c59, trivial⟩ ?_
        refine E_icmp_ne (off := 46) (tgt := 115) (by decide +kernel) (by decide) (fun b60 => ?_) (fun b60 => ?_)
        · rw [if_pos b60] at h
          refine E_blk (lv' := [some (vr (some (3, this))), some (vi v1), some (vi v2), some (vi v3), some (vi v4)]) (st' := [vi (6 : Int32), vi (mI M 3 this 18)]) (M1 := M) (pc' := 78) (tb_Reader hγ) [.aload_n 0, .getfield 167, .bipush 6] (by decide +kernel) rfl rfl trivial ?_
          refine E_icmp_gt (off := 37) (tgt := 115) (by decide +kernel) (by decide) (fun b61 => ?_) (fun b61 => ?_)
          · rw [if_pos b61] at h
            refine E_mask [true, true, true, true, true] rfl ?_
            exact lk_Reader_askMethod_j115 hγ this Q X (w_Reader_askMethod_L14 this Q X n) ih v1 v2 v3 v4 M h
          · rw [if_neg b61] at h
            refine E_blk (lv' := [some (vr (some (3, this))), some (vi v1), some (vi v2), some (vi v3), some (vi v4)]) (st' := [vr (mR M 3 this 1)]) (M1 := M) (pc' := 85) (tb_Reader hγ) [.aload_n 0, .getfield 52] (by decide +kernel) rfl rfl trivial ?_
            obtain ⟨i62, ei62, h⟩ := h
            rw [ei62]
            refine E_blk (lv' := [some (vr (some (3, this))), some (vi v1), some (vi v2), some (vi v3), some (vi v4)]) (st' := [vi (mI M 3 this 18), vi (0 : Int32), vr (some (211, 0)), vi v4, vr (some (5, i62))]) (M1 := M) (pc' := 96) (tb_Reader hγ) [.iload 4, .aload_n 0, .getfield 46, .iconst 0, .aload_n 0, .getfield 167] (by decide +kernel) rfl rfl trivial ?_
            refine E_callV (κ' := k_World_sameArguments) (As := [vi v4, vr (some (211, 0)), vi (0 : Int32), vi (mI M 3 this 18)]) (st := []) mv_World_sameArguments (Or.inr ⟨"ClassWorks", (tbk_mem (j := 6) (k := 219) rfl)⟩) rfl (by decide +kernel) (Nat.le_of_ble_eq_true rfl) (Nat.le_of_ble_eq_true rfl) rfl (by decide) (lk_World_sameArguments hγ i62 v4 0 (0 : Int32) (mI M 3 this 18) _ M h) (fun _ _ => Qi_r) (fun v M63 hp => Qi_k (R := fun st => E γ k_Reader_askMethod 2 99 [some (vr (some (3, this))), some (vi v1), some (vi v2), some (vi v3), some (vi v4)] st M63 (Qx (9, 0) (Qv Q) X)) hp (fun r64 h => ?_))
            refine E_if_eq (off := 16) (tgt := 115) (by decide +kernel) (by decide) (fun b65 => ?_) (fun b65 => ?_)
            · rw [if_pos b65] at h
              refine E_mask [true, true, true, true, true] rfl ?_
              exact lk_Reader_askMethod_j115 hγ this Q X (w_Reader_askMethod_L14 this Q X n) ih v1 v2 v3 v4 M63 h
            · rw [if_neg b65] at h
              refine E_blk (lv' := [some (vr (some (3, this))), some (vi v1), some (vi v2), some (vi v3), some (vi v4)]) (st' := [vi (mI M63 3 this 2), vi (3 : Int32), vr (some (10, 0))]) (M1 := M63) (pc' := 111) (tb_Reader hγ) [.aload_n 0, .getfield 3, .iconst 3, .aload_n 0, .getfield 113] (by decide +kernel) rfl rfl trivial ?_
              refine E_callV (κ' := k_Works_refuse) (As := [vi (3 : Int32), vi (mI M63 3 this 2)]) (st := []) mv_Works_refuse (Or.inr ⟨"ClassWorks", (tbk_mem (j := 6) (k := 126) rfl)⟩) rfl (by decide +kernel) (Nat.le_of_ble_eq_true rfl) (Nat.le_of_ble_eq_true rfl) rfl (by decide) (lk_Works_refuse hγ 0 (3 : Int32) (mI M63 3 this 2) _ M63 h) (fun _ _ => Qr_r) (fun v M66 hp => Qr_k (R := fun st => E γ k_Reader_askMethod 2 114 [some (vr (some (3, this))), some (vi v1), some (vi v2), some (vi v3), some (vi v4)] st M66 (Qx (9, 0) (Qv Q) X)) hp (fun i67 h => ?_))
              obtain ⟨e0, h⟩ := h
              rw [e0]
              exact E_throw (by decide) rfl (by decide +kernel) h
        · rw [if_neg b60] at h
          refine E_mask [true, true, true, true, true] rfl ?_
          exact lk_Reader_askMethod_j115 hγ this Q X (w_Reader_askMethod_L14 this Q X n) ih v1 v2 v3 v4 M h
      · rw [if_neg b57] at h
        refine E_mask [true, true, true, true, true] rfl ?_
        exact lk_Reader_askMethod_j115 hγ this Q X (w_Reader_askMethod_L14 this Q X n) ih v1 v2 v3 v4 M h
set_option maxRecDepth 4096 in
theorem lk_Reader_askMethod {γ : Gm} (hγ : Gk γ) (this : Nat) (a1 : Int32) (a2 : Int32) (a3 : Int32) (Q : Mem → Prop) (X : Mem → Prop) (M : Mem) (h : w_Reader_askMethod this a1 a2 a3 Q X M) : E γ k_Reader_askMethod 2 0 [some (vr (some (3, this))), some (vi a1), some (vi a2), some (vi a3), none] [] M (Qx (9, 0) (Qv Q) X) := by
  unfold w_Reader_askMethod at h
  refine E_blk (lv' := [some (vr (some (3, this))), some (vi a1), some (vi a2), some (vi a3), none]) (st' := [vr (mR M 3 this 1)]) (M1 := M) (pc' := 4) (tb_Reader hγ) [.aload_n 0, .getfield 52] (by decide +kernel) rfl rfl trivial ?_
  obtain ⟨i1, ei1, h⟩ := h
  rw [ei1]
  obtain ⟨c2, h⟩ := h
  refine E_blk (lv' := [some (vr (some (3, this))), some (vi a1), some (vi a2), some (vi a3), some (vi (mI M 43 i1 (mI M 3 this 3).toNatClampNeg))]) (st' := []) (M1 := M) (pc' := 14) (tb_Reader hγ) [.getfield 301, .aload_n 0, .getfield 188, .iaload, .istore 4] (by decide +kernel) rfl rfl ⟨c2, trivial⟩ ?_
  obtain ⟨n68, h⟩ := h
  refine E_mask [true, true, true, true, true] rfl ?_
  exact lk_Reader_askMethod_L14 hγ this Q X n68 a1 a2 a3 (mI M 43 i1 (mI M 3 this 3).toNatClampNeg) M h
def w_Reader_kindWord_j69 (this : Nat) (Q : Int32 → Mem → Prop) (X : Mem → Prop) (s0 : Int32) (M : Mem) : Prop :=
  w_Words_next 0 (fun M13 => Q s0 M13) M
def w_Reader_kindWord_j35 (this : Nat) (Q : Int32 → Mem → Prop) (X : Mem → Prop)  (M : Mem) : Prop :=
  if (mI M 2 0 5) = (2 : Int32) then (w_Reader_kindWord_j69 this Q X (-1 : Int32) M) else (if (mI M 2 0 5) = (75 : Int32) then (w_Reader_kindWord_j69 this Q X (-2 : Int32) M) else (w_Reader_kindWord_j69 this Q X (-3 : Int32) M))
def w_Reader_kindWord (this : Nat) (Q : Int32 → Mem → Prop) (X : Mem → Prop) (M : Mem) : Prop :=
  w_Words_isWord 0 (2 : Int32) (fun r2 M1 => if r2 = 0 then (w_Words_isWord 0 (75 : Int32) (fun r5 M4 => if r5 = 0 then (w_Words_isWord 0 (76 : Int32) (fun r8 M7 => if r8 = 0 then (w_Reader_type this (fun r11 M10 => Q r11 M10) X M7) else (w_Reader_kindWord_j35 this Q X  M7)) M4) else (w_Reader_kindWord_j35 this Q X  M4)) M1) else (w_Reader_kindWord_j35 this Q X  M1)) M
set_option maxRecDepth 4096 in
theorem lk_Reader_kindWord_j69 {γ : Gm} (hγ : Gk γ) (this : Nat) (Q : Int32 → Mem → Prop) (X : Mem → Prop) (s0 : Int32) (M : Mem) (h : w_Reader_kindWord_j69 this Q X s0 M) : E γ k_Reader_kindWord 6 69 [some (vr (some (3, this))), none] [vi s0] M (Qx (9, 0) (Qi Q) X) := by
  unfold w_Reader_kindWord_j69 at h
  refine E_blk (lv' := [some (vr (some (3, this))), some (vi s0)]) (st' := [vr (some (2, 0))]) (M1 := M) (pc' := 74) (tb_Reader hγ) [.istore_n 1, .aload_n 0, .getfield 20] (by decide +kernel) rfl rfl trivial ?_
  refine E_callV (κ' := k_Words_next) (As := []) (st := []) mv_Words_next (Or.inl (tbk_mem (j := 6) (k := 53) rfl)) rfl (by decide +kernel) (Nat.le_of_ble_eq_true rfl) (Nat.le_of_ble_eq_true rfl) rfl (by decide) (lk_Words_next hγ 0 _ M h) (fun _ _ => Qv_r) (fun v M13 hp => Qv_k (R := fun st => E γ k_Reader_kindWord 6 77 [some (vr (some (3, this))), some (vi s0)] st M13 (Qx (9, 0) (Qi Q) X)) hp (fun h => ?_))
  refine E_blk (lv' := [some (vr (some (3, this))), some (vi s0)]) (st' := [vi s0]) (M1 := M13) (pc' := 78) (tb_Reader hγ) [.iload_n 1] (by decide +kernel) rfl rfl trivial ?_
  exact (E_iret rfl (by decide +kernel) h).nx
set_option maxRecDepth 4096 in
theorem lk_Reader_kindWord_j35 {γ : Gm} (hγ : Gk γ) (this : Nat) (Q : Int32 → Mem → Prop) (X : Mem → Prop)  (M : Mem) (h : w_Reader_kindWord_j35 this Q X  M) : E γ k_Reader_kindWord 6 35 [some (vr (some (3, this))), none] [] M (Qx (9, 0) (Qi Q) X) := by
  unfold w_Reader_kindWord_j35 at h
  refine E_blk (lv' := [some (vr (some (3, this))), none]) (st' := [vi (2 : Int32), vi (mI M 2 0 5)]) (M1 := M) (pc' := 43) (tb_Reader hγ) [.aload_n 0, .getfield 20, .getfield 136, .iconst 2] (by decide +kernel) rfl rfl trivial ?_
  refine E_icmp_ne (off := 7) (tgt := 50) (by decide +kernel) (by decide) (fun b12 => ?_) (fun b12 => ?_)
  · rw [if_pos b12] at h
    refine E_blk (lv' := [some (vr (some (3, this))), none]) (st' := [vi (-1 : Int32)]) (M1 := M) (pc' := 47) (tb_Reader hγ) [.iconst (.negSucc 0)] (by decide +kernel) rfl rfl trivial ?_
    refine E_goto (off := 22) (tgt := 69) (by decide +kernel) (by decide) ?_
    refine E_mask [true, false] rfl ?_
    exact lk_Reader_kindWord_j69 hγ this Q X (-1 : Int32) M h
  · rw [if_neg b12] at h
    refine E_blk (lv' := [some (vr (some (3, this))), none]) (st' := [vi (75 : Int32), vi (mI M 2 0 5)]) (M1 := M) (pc' := 59) (tb_Reader hγ) [.aload_n 0, .getfield 20, .getfield 136, .bipush 75] (by decide +kernel) rfl rfl trivial ?_
    refine E_icmp_ne (off := 8) (tgt := 67) (by decide +kernel) (by decide) (fun b14 => ?_) (fun b14 => ?_)
    · rw [if_pos b14] at h
      refine E_blk (lv' := [some (vr (some (3, this))), none]) (st' := [vi (-2 : Int32)]) (M1 := M) (pc' := 64) (tb_Reader hγ) [.bipush (.negSucc 1)] (by decide +kernel) rfl rfl trivial ?_
      refine E_goto (off := 5) (tgt := 69) (by decide +kernel) (by decide) ?_
      refine E_mask [true, false] rfl ?_
      exact lk_Reader_kindWord_j69 hγ this Q X (-2 : Int32) M h
    · rw [if_neg b14] at h
      refine E_blk (lv' := [some (vr (some (3, this))), none]) (st' := [vi (-3 : Int32)]) (M1 := M) (pc' := 69) (tb_Reader hγ) [.bipush (.negSucc 2)] (by decide +kernel) rfl rfl trivial ?_
      refine E_mask [true, false] rfl ?_
      exact lk_Reader_kindWord_j69 hγ this Q X (-3 : Int32) M h
set_option maxRecDepth 4096 in
theorem lk_Reader_kindWord {γ : Gm} (hγ : Gk γ) (this : Nat) (Q : Int32 → Mem → Prop) (X : Mem → Prop) (M : Mem) (h : w_Reader_kindWord this Q X M) : E γ k_Reader_kindWord 6 0 [some (vr (some (3, this))), none] [] M (Qx (9, 0) (Qi Q) X) := by
  unfold w_Reader_kindWord at h
  refine E_blk (lv' := [some (vr (some (3, this))), none]) (st' := [vi (2 : Int32), vr (some (2, 0))]) (M1 := M) (pc' := 5) (tb_Reader hγ) [.aload_n 0, .getfield 20, .iconst 2] (by decide +kernel) rfl rfl trivial ?_
  refine E_callV (κ' := k_Words_isWord) (As := [vi (2 : Int32)]) (st := []) mv_Words_isWord (Or.inl (tbk_mem (j := 6) (k := 118) rfl)) rfl (by decide +kernel) (Nat.le_of_ble_eq_true rfl) (Nat.le_of_ble_eq_true rfl) rfl (by decide) (lk_Words_isWord hγ 0 (2 : Int32) _ M h) (fun _ _ => Qi_r) (fun v M1 hp => Qi_k (R := fun st => E γ k_Reader_kindWord 6 8 [some (vr (some (3, this))), none] st M1 (Qx (9, 0) (Qi Q) X)) hp (fun r2 h => ?_))
  refine E_if_ne (off := 27) (tgt := 35) (by decide +kernel) (by decide) (fun b3 => ?_) (fun b3 => ?_)
  · rw [if_pos b3] at h
    refine E_blk (lv' := [some (vr (some (3, this))), none]) (st' := [vi (75 : Int32), vr (some (2, 0))]) (M1 := M1) (pc' := 17) (tb_Reader hγ) [.aload_n 0, .getfield 20, .bipush 75] (by decide +kernel) rfl rfl trivial ?_
    refine E_callV (κ' := k_Words_isWord) (As := [vi (75 : Int32)]) (st := []) mv_Words_isWord (Or.inl (tbk_mem (j := 6) (k := 118) rfl)) rfl (by decide +kernel) (Nat.le_of_ble_eq_true rfl) (Nat.le_of_ble_eq_true rfl) rfl (by decide) (lk_Words_isWord hγ 0 (75 : Int32) _ M1 h) (fun _ _ => Qi_r) (fun v M4 hp => Qi_k (R := fun st => E γ k_Reader_kindWord 6 20 [some (vr (some (3, this))), none] st M4 (Qx (9, 0) (Qi Q) X)) hp (fun r5 h => ?_))
    refine E_if_ne (off := 15) (tgt := 35) (by decide +kernel) (by decide) (fun b6 => ?_) (fun b6 => ?_)
    · rw [if_pos b6] at h
      refine E_blk (lv' := [some (vr (some (3, this))), none]) (st' := [vi (76 : Int32), vr (some (2, 0))]) (M1 := M4) (pc' := 29) (tb_Reader hγ) [.aload_n 0, .getfield 20, .bipush 76] (by decide +kernel) rfl rfl trivial ?_
      refine E_callV (κ' := k_Words_isWord) (As := [vi (76 : Int32)]) (st := []) mv_Words_isWord (Or.inl (tbk_mem (j := 6) (k := 118) rfl)) rfl (by decide +kernel) (Nat.le_of_ble_eq_true rfl) (Nat.le_of_ble_eq_true rfl) rfl (by decide) (lk_Words_isWord hγ 0 (76 : Int32) _ M4 h) (fun _ _ => Qi_r) (fun v M7 hp => Qi_k (R := fun st => E γ k_Reader_kindWord 6 32 [some (vr (some (3, this))), none] st M7 (Qx (9, 0) (Qi Q) X)) hp (fun r8 h => ?_))
      refine E_if_eq (off := 47) (tgt := 79) (by decide +kernel) (by decide) (fun b9 => ?_) (fun b9 => ?_)
      · rw [if_pos b9] at h
        refine E_blk (lv' := [some (vr (some (3, this))), none]) (st' := [vr (some (3, this))]) (M1 := M7) (pc' := 80) (tb_Reader hγ) [.aload_n 0] (by decide +kernel) rfl rfl trivial ?_
        refine E_callX (κ' := k_Reader_type) (As := []) (st := []) mv_Reader_type (Or.inl (tbk_mem (j := 6) (k := 176) rfl)) rfl (by decide +kernel) (Nat.le_of_ble_eq_true rfl) (Nat.le_of_ble_eq_true rfl) rfl (by decide) rfl (lk_Reader_type hγ this _ _ M7 h) (fun _ _ => Qi_r) (fun _ h => h) (fun v M10 hp => Qi_k (R := fun st => E γ k_Reader_kindWord 6 83 [some (vr (some (3, this))), none] st M10 (Qx (9, 0) (Qi Q) X)) hp (fun r11 h => ?_))
        exact (E_iret rfl (by decide +kernel) h).nx
      · rw [if_neg b9] at h
        refine E_mask [true, false] rfl ?_
        exact lk_Reader_kindWord_j35 hγ this Q X  M7 h
    · rw [if_neg b6] at h
      refine E_mask [true, false] rfl ?_
      exact lk_Reader_kindWord_j35 hγ this Q X  M4 h
  · rw [if_neg b3] at h
    refine E_mask [true, false] rfl ?_
    exact lk_Reader_kindWord_j35 hγ this Q X  M1 h
def w_Reader_kinds_j44 (this : Nat) (Q : Int32 → Mem → Prop) (X : Mem → Prop) (k2 : Int32 → Int32 → Mem → Prop) (v1 : Int32) (v2 : Int32) (M : Mem) : Prop :=
  ∃ i6, (mR M 3 this 1) = some (5, i6) ∧ ∃ i7, (mR M 3 this 1) = some (5, i7) ∧ w_Reader_kindWord this (fun r9 M8 => vp_in (mI M 5 i7 47) (mL M8 73 i6) ∧ ∃ i11, (mR (sI M8 73 i6 (mI M 5 i7 47).toNatClampNeg r9) 3 this 1) = some (5, i11) ∧ ∃ M12, M12 = (sI (sI M8 73 i6 (mI M 5 i7 47).toNatClampNeg r9) 5 i11 47 ((mI (sI M8 73 i6 (mI M 5 i7 47).toNatClampNeg r9) 5 i11 47) + (1 : Int32))) ∧ k2 v1 (v2 + (1 : Int32)) M12) X M
def w_Reader_kinds_j34 (this : Nat) (Q : Int32 → Mem → Prop) (X : Mem → Prop) (k2 : Int32 → Int32 → Mem → Prop) (v1 : Int32) (v2 : Int32) (M : Mem) : Prop :=
  if v2 ≤ 0 then (w_Reader_kinds_j44 this Q X k2 v1 v2 M) else (w_Reader_sign this (44 : Int32) (fun M13 => w_Reader_kinds_j44 this Q X k2 v1 v2 M13) X M)
def w_Reader_kinds_L2 (this : Nat) (Q : Int32 → Mem → Prop) (X : Mem → Prop) : Nat → Int32 → Int32 → Mem → Prop
  | 0, _, _, _ => False
  | n + 1, v1, v2, M => if v1 = 0 then (w_Words_isSign 0 (59 : Int32) (fun r3 M2 => if r3 = 0 then (w_Reader_kinds_j34 this Q X (w_Reader_kinds_L2 this Q X n) v1 v2 M2) else (Q v2 M2)) M) else (isK (mR M 2 0 3) ∧ if (mR M 2 0 3) = (some (0, 100 + 3)) then (Q v2 M) else (w_Reader_kinds_j34 this Q X (w_Reader_kinds_L2 this Q X n) v1 v2 M))
def w_Reader_kinds (this : Nat) (a1 : Int32) (Q : Int32 → Mem → Prop) (X : Mem → Prop) (M : Mem) : Prop :=
  ∃ n16 : Nat, w_Reader_kinds_L2 this Q X n16 a1 (0 : Int32) M
set_option maxRecDepth 4096 in
theorem lk_Reader_kinds_j44 {γ : Gm} (hγ : Gk γ) (this : Nat) (Q : Int32 → Mem → Prop) (X : Mem → Prop) (k2 : Int32 → Int32 → Mem → Prop) (hk2 : ∀ (v1 : Int32) (v2 : Int32) (M : Mem), k2 v1 v2 M → E γ k_Reader_kinds 7 2 [some (vr (some (3, this))), some (vi v1), some (vi v2)] [] M (Qx (9, 0) (Qi Q) X)) (v1 : Int32) (v2 : Int32) (M : Mem) (h : w_Reader_kinds_j44 this Q X k2 v1 v2 M) : E γ k_Reader_kinds 7 44 [some (vr (some (3, this))), some (vi v1), some (vi v2)] [] M (Qx (9, 0) (Qi Q) X) := by
  unfold w_Reader_kinds_j44 at h
  refine E_blk (lv' := [some (vr (some (3, this))), some (vi v1), some (vi v2)]) (st' := [vr (mR M 3 this 1)]) (M1 := M) (pc' := 48) (tb_Reader hγ) [.aload_n 0, .getfield 52] (by decide +kernel) rfl rfl trivial ?_
  obtain ⟨i6, ei6, h⟩ := h
  rw [ei6]
  refine E_blk (lv' := [some (vr (some (3, this))), some (vi v1), some (vi v2)]) (st' := [vr (mR M 3 this 1), vr (some (73, i6))]) (M1 := M) (pc' := 55) (tb_Reader hγ) [.getfield 328, .aload_n 0, .getfield 52] (by decide +kernel) rfl rfl trivial ?_
  obtain ⟨i7, ei7, h⟩ := h
  rw [ei7]
  refine E_blk (lv' := [some (vr (some (3, this))), some (vi v1), some (vi v2)]) (st' := [vr (some (3, this)), vi (mI M 5 i7 47), vr (some (73, i6))]) (M1 := M) (pc' := 59) (tb_Reader hγ) [.getfield 71, .aload_n 0] (by decide +kernel) rfl rfl trivial ?_
  refine E_callX (κ' := k_Reader_kindWord) (As := []) (st := [vi (mI M 5 i7 47), vr (some (73, i6))]) mv_Reader_kindWord (Or.inl (tbk_mem (j := 6) (k := 236) rfl)) rfl (by decide +kernel) (Nat.le_of_ble_eq_true rfl) (Nat.le_of_ble_eq_true rfl) rfl (by decide) rfl (lk_Reader_kindWord hγ this _ _ M h) (fun _ _ => Qi_r) (fun _ h => h) (fun v M8 hp => Qi_k (R := fun st => E γ k_Reader_kinds 7 62 [some (vr (some (3, this))), some (vi v1), some (vi v2)] st M8 (Qx (9, 0) (Qi Q) X)) hp (fun r9 h => ?_))
  obtain ⟨c10, h⟩ := h
  refine E_blk (lv' := [some (vr (some (3, this))), some (vi v1), some (vi v2)]) (st' := [vr (mR (sI M8 73 i6 (mI M 5 i7 47).toNatClampNeg r9) 3 this 1)]) (M1 := (sI M8 73 i6 (mI M 5 i7 47).toNatClampNeg r9)) (pc' := 67) (tb_Reader hγ) [.iastore, .aload_n 0, .getfield 52] (by decide +kernel) rfl rfl ⟨c10, trivial⟩ ?_
  obtain ⟨i11, ei11, h⟩ := h
  rw [ei11]
  refine E_blk (lv' := [some (vr (some (3, this))), some (vi v1), some (vi v2)]) (st' := []) (M1 := (sI (sI M8 73 i6 (mI M 5 i7 47).toNatClampNeg r9) 5 i11 47 ((mI (sI M8 73 i6 (mI M 5 i7 47).toNatClampNeg r9) 5 i11 47) + (1 : Int32)))) (pc' := 76) (tb_Reader hγ) [.dup, .getfield 71, .iconst 1, .iadd, .putfield 71] (by decide +kernel) rfl rfl trivial ?_
  obtain ⟨M12, eM12, h⟩ := h
  rw [← eM12]
  refine E_blk (lv' := [some (vr (some (3, this))), some (vi v1), some (vi (v2 + (1 : Int32)))]) (st' := []) (M1 := M12) (pc' := 79) (tb_Reader hγ) [.iinc 2 1] (by decide +kernel) rfl rfl trivial ?_
  refine E_goto (off := -77) (tgt := 2) (by decide +kernel) (by decide) ?_
  refine E_mask [true, true, true] rfl ?_
  exact hk2 v1 (v2 + (1 : Int32)) M12 h
set_option maxRecDepth 4096 in
theorem lk_Reader_kinds_j34 {γ : Gm} (hγ : Gk γ) (this : Nat) (Q : Int32 → Mem → Prop) (X : Mem → Prop) (k2 : Int32 → Int32 → Mem → Prop) (hk2 : ∀ (v1 : Int32) (v2 : Int32) (M : Mem), k2 v1 v2 M → E γ k_Reader_kinds 7 2 [some (vr (some (3, this))), some (vi v1), some (vi v2)] [] M (Qx (9, 0) (Qi Q) X)) (v1 : Int32) (v2 : Int32) (M : Mem) (h : w_Reader_kinds_j34 this Q X k2 v1 v2 M) : E γ k_Reader_kinds 7 34 [some (vr (some (3, this))), some (vi v1), some (vi v2)] [] M (Qx (9, 0) (Qi Q) X) := by
  unfold w_Reader_kinds_j34 at h
  refine E_blk (lv' := [some (vr (some (3, this))), some (vi v1), some (vi v2)]) (st' := [vi v2]) (M1 := M) (pc' := 35) (tb_Reader hγ) [.iload_n 2] (by decide +kernel) rfl rfl trivial ?_
  refine E_if_le (off := 9) (tgt := 44) (by decide +kernel) (by decide) (fun b5 => ?_) (fun b5 => ?_)
  · rw [if_pos b5] at h
    refine E_mask [true, true, true] rfl ?_
    exact lk_Reader_kinds_j44 hγ this Q X k2 hk2 v1 v2 M h
  · rw [if_neg b5] at h
    refine E_blk (lv' := [some (vr (some (3, this))), some (vi v1), some (vi v2)]) (st' := [vi (44 : Int32), vr (some (3, this))]) (M1 := M) (pc' := 41) (tb_Reader hγ) [.aload_n 0, .bipush 44] (by decide +kernel) rfl rfl trivial ?_
    refine E_callX (κ' := k_Reader_sign) (As := [vi (44 : Int32)]) (st := []) mv_Reader_sign (Or.inl (tbk_mem (j := 6) (k := 139) rfl)) rfl (by decide +kernel) (Nat.le_of_ble_eq_true rfl) (Nat.le_of_ble_eq_true rfl) rfl (by decide) rfl (lk_Reader_sign hγ this (44 : Int32) _ _ M h) (fun _ _ => Qv_r) (fun _ h => h) (fun v M13 hp => Qv_k (R := fun st => E γ k_Reader_kinds 7 44 [some (vr (some (3, this))), some (vi v1), some (vi v2)] st M13 (Qx (9, 0) (Qi Q) X)) hp (fun h => ?_))
    refine E_mask [true, true, true] rfl ?_
    exact lk_Reader_kinds_j44 hγ this Q X k2 hk2 v1 v2 M13 h
set_option maxRecDepth 4096 in
theorem lk_Reader_kinds_L2 {γ : Gm} (hγ : Gk γ) (this : Nat) (Q : Int32 → Mem → Prop) (X : Mem → Prop) : ∀ (n : Nat) (v1 : Int32) (v2 : Int32) (M : Mem), w_Reader_kinds_L2 this Q X n v1 v2 M → E γ k_Reader_kinds 7 2 [some (vr (some (3, this))), some (vi v1), some (vi v2)] [] M (Qx (9, 0) (Qi Q) X) := by
  intro n
  induction n with
  | zero => intro v1 v2 M h; exact h.elim
  | succ n ih =>
    intro v1 v2 M h
    unfold w_Reader_kinds_L2 at h
    refine E_blk (lv' := [some (vr (some (3, this))), some (vi v1), some (vi v2)]) (st' := [vi v1]) (M1 := M) (pc' := 3) (tb_Reader hγ) [.iload_n 1] (by decide +kernel) rfl rfl trivial ?_
    refine E_if_eq (off := 19) (tgt := 22) (by decide +kernel) (by decide) (fun b1 => ?_) (fun b1 => ?_)
    · rw [if_pos b1] at h
      refine E_blk (lv' := [some (vr (some (3, this))), some (vi v1), some (vi v2)]) (st' := [vi (59 : Int32), vr (some (2, 0))]) (M1 := M) (pc' := 28) (tb_Reader hγ) [.aload_n 0, .getfield 20, .bipush 59] (by decide +kernel) rfl rfl trivial ?_
      refine E_callV (κ' := k_Words_isSign) (As := [vi (59 : Int32)]) (st := []) mv_Words_isSign (Or.inl (tbk_mem (j := 6) (k := 143) rfl)) rfl (by decide +kernel) (Nat.le_of_ble_eq_true rfl) (Nat.le_of_ble_eq_true rfl) rfl (by decide) (lk_Words_isSign hγ 0 (59 : Int32) _ M h) (fun _ _ => Qi_r) (fun v M2 hp => Qi_k (R := fun st => E γ k_Reader_kinds 7 31 [some (vr (some (3, this))), some (vi v1), some (vi v2)] st M2 (Qx (9, 0) (Qi Q) X)) hp (fun r3 h => ?_))
      refine E_if_ne (off := 51) (tgt := 82) (by decide +kernel) (by decide) (fun b4 => ?_) (fun b4 => ?_)
      · rw [if_pos b4] at h
        refine E_mask [true, true, true] rfl ?_
        exact lk_Reader_kinds_j34 hγ this Q X (w_Reader_kinds_L2 this Q X n) ih v1 v2 M2 h
      · rw [if_neg b4] at h
        refine E_blk (lv' := [some (vr (some (3, this))), some (vi v1), some (vi v2)]) (st' := [vi v2]) (M1 := M2) (pc' := 83) (tb_Reader hγ) [.iload_n 2] (by decide +kernel) rfl rfl trivial ?_
        exact (E_iret rfl (by decide +kernel) h).nx
    · rw [if_neg b1] at h
      refine E_blk (lv' := [some (vr (some (3, this))), some (vi v1), some (vi v2)]) (st' := [vr (mR M 2 0 3)]) (M1 := M) (pc' := 13) (tb_Reader hγ) [.aload_n 0, .getfield 20, .getfield 98] (by decide +kernel) rfl rfl trivial ?_
      refine E_gets (κ := k_Reader_kinds) (pc := 13) (j := 3) (idx := 102) (n := "END") hγ.2.1 rfl (tbk_mem (j := 6) (k := 105) rfl) (by decide +kernel) ?_
      obtain ⟨c15, h⟩ := h
      refine E_acmp_eq (off := 66) (tgt := 82) hγ.2.1 c15 (isK_c 3 (by decide)) (by decide +kernel) (by decide) (fun b14 => ?_) (fun b14 => ?_)
      · rw [if_pos b14] at h
        refine E_blk (lv' := [some (vr (some (3, this))), some (vi v1), some (vi v2)]) (st' := [vi v2]) (M1 := M) (pc' := 83) (tb_Reader hγ) [.iload_n 2] (by decide +kernel) rfl rfl trivial ?_
        exact (E_iret rfl (by decide +kernel) h).nx
      · rw [if_neg b14] at h
        refine E_goto (off := 15) (tgt := 34) (by decide +kernel) (by decide) ?_
        refine E_mask [true, true, true] rfl ?_
        exact lk_Reader_kinds_j34 hγ this Q X (w_Reader_kinds_L2 this Q X n) ih v1 v2 M h
set_option maxRecDepth 4096 in
theorem lk_Reader_kinds {γ : Gm} (hγ : Gk γ) (this : Nat) (a1 : Int32) (Q : Int32 → Mem → Prop) (X : Mem → Prop) (M : Mem) (h : w_Reader_kinds this a1 Q X M) : E γ k_Reader_kinds 7 0 [some (vr (some (3, this))), some (vi a1), none] [] M (Qx (9, 0) (Qi Q) X) := by
  unfold w_Reader_kinds at h
  refine E_blk (lv' := [some (vr (some (3, this))), some (vi a1), some (vi (0 : Int32))]) (st' := []) (M1 := M) (pc' := 2) (tb_Reader hγ) [.iconst 0, .istore_n 2] (by decide +kernel) rfl rfl trivial ?_
  obtain ⟨n16, h⟩ := h
  refine E_mask [true, true, true] rfl ?_
  exact lk_Reader_kinds_L2 hγ this Q X n16 a1 (0 : Int32) M h
def w_Reader_frame (this : Nat) (Q : Mem → Prop) (X : Mem → Prop) (M : Mem) : Prop :=
  if (mI M 3 this 14) = 0 then (w_Words_next 0 (fun M2 => ∃ i3, (mR M2 3 this 1) = some (5, i3) ∧ w_Reader_kinds this (0 : Int32) (fun r5 M4 => w_Words_next 0 (fun M6 => w_Reader_kinds this (1 : Int32) (fun r8 M7 => ((1 : Int32) = 0 ∨ (1 : Int32) = 1) ∧ ∃ M10, M10 = (sI (sI (sI M7 3 this 21 r8) 3 this 14 (1 : Int32)) 3 this 15 (mI (sI (sI M7 3 this 21 r8) 3 this 14 (1 : Int32)) 3 this 2)) ∧ Q M10) X M6) (sI M4 3 this 20 r5)) X (sI M2 3 this 19 (mI M2 5 i3 47))) M) else (w_Reader_wrong this (fun i12 M11 => i12 = 0 ∧ X M11) M)
set_option maxRecDepth 4096 in
theorem lk_Reader_frame {γ : Gm} (hγ : Gk γ) (this : Nat) (Q : Mem → Prop) (X : Mem → Prop) (M : Mem) (h : w_Reader_frame this Q X M) : E γ k_Reader_frame 8 0 [some (vr (some (3, this)))] [] M (Qx (9, 0) (Qv Q) X) := by
  unfold w_Reader_frame at h
  refine E_blk (lv' := [some (vr (some (3, this)))]) (st' := [vi (mI M 3 this 14)]) (M1 := M) (pc' := 4) (tb_Reader hγ) [.aload_n 0, .getfield 292] (by decide +kernel) rfl rfl trivial ?_
  refine E_if_eq (off := 8) (tgt := 12) (by decide +kernel) (by decide) (fun b1 => ?_) (fun b1 => ?_)
  · rw [if_pos b1] at h
    refine E_blk (lv' := [some (vr (some (3, this)))]) (st' := [vr (some (2, 0))]) (M1 := M) (pc' := 16) (tb_Reader hγ) [.aload_n 0, .getfield 20] (by decide +kernel) rfl rfl trivial ?_
    refine E_callV (κ' := k_Words_next) (As := []) (st := []) mv_Words_next (Or.inl (tbk_mem (j := 6) (k := 53) rfl)) rfl (by decide +kernel) (Nat.le_of_ble_eq_true rfl) (Nat.le_of_ble_eq_true rfl) rfl (by decide) (lk_Words_next hγ 0 _ M h) (fun _ _ => Qv_r) (fun v M2 hp => Qv_k (R := fun st => E γ k_Reader_frame 8 19 [some (vr (some (3, this)))] st M2 (Qx (9, 0) (Qv Q) X)) hp (fun h => ?_))
    refine E_blk (lv' := [some (vr (some (3, this)))]) (st' := [vr (mR M2 3 this 1), vr (some (3, this))]) (M1 := M2) (pc' := 24) (tb_Reader hγ) [.aload_n 0, .aload_n 0, .getfield 52] (by decide +kernel) rfl rfl trivial ?_
    obtain ⟨i3, ei3, h⟩ := h
    rw [ei3]
    refine E_blk (lv' := [some (vr (some (3, this)))]) (st' := [vi (0 : Int32), vr (some (3, this)), vr (some (3, this))]) (M1 := (sI M2 3 this 19 (mI M2 5 i3 47))) (pc' := 33) (tb_Reader hγ) [.getfield 71, .putfield 336, .aload_n 0, .aload_n 0, .iconst 0] (by decide +kernel) rfl rfl trivial ?_
    refine E_callX (κ' := k_Reader_kinds) (As := [vi (0 : Int32)]) (st := [vr (some (3, this))]) mv_Reader_kinds (Or.inl (tbk_mem (j := 6) (k := 232) rfl)) rfl (by decide +kernel) (Nat.le_of_ble_eq_true rfl) (Nat.le_of_ble_eq_true rfl) rfl (by decide) rfl (lk_Reader_kinds hγ this (0 : Int32) _ _ (sI M2 3 this 19 (mI M2 5 i3 47)) h) (fun _ _ => Qi_r) (fun _ h => h) (fun v M4 hp => Qi_k (R := fun st => E γ k_Reader_frame 8 36 [some (vr (some (3, this)))] st M4 (Qx (9, 0) (Qv Q) X)) hp (fun r5 h => ?_))
    refine E_blk (lv' := [some (vr (some (3, this)))]) (st' := [vr (some (2, 0))]) (M1 := (sI M4 3 this 20 r5)) (pc' := 43) (tb_Reader hγ) [.putfield 343, .aload_n 0, .getfield 20] (by decide +kernel) rfl rfl trivial ?_
    refine E_callV (κ' := k_Words_next) (As := []) (st := []) mv_Words_next (Or.inl (tbk_mem (j := 6) (k := 53) rfl)) rfl (by decide +kernel) (Nat.le_of_ble_eq_true rfl) (Nat.le_of_ble_eq_true rfl) rfl (by decide) (lk_Words_next hγ 0 _ (sI M4 3 this 20 r5) h) (fun _ _ => Qv_r) (fun v M6 hp => Qv_k (R := fun st => E γ k_Reader_frame 8 46 [some (vr (some (3, this)))] st M6 (Qx (9, 0) (Qv Q) X)) hp (fun h => ?_))
    refine E_blk (lv' := [some (vr (some (3, this)))]) (st' := [vi (1 : Int32), vr (some (3, this)), vr (some (3, this))]) (M1 := M6) (pc' := 49) (tb_Reader hγ) [.aload_n 0, .aload_n 0, .iconst 1] (by decide +kernel) rfl rfl trivial ?_
    refine E_callX (κ' := k_Reader_kinds) (As := [vi (1 : Int32)]) (st := [vr (some (3, this))]) mv_Reader_kinds (Or.inl (tbk_mem (j := 6) (k := 232) rfl)) rfl (by decide +kernel) (Nat.le_of_ble_eq_true rfl) (Nat.le_of_ble_eq_true rfl) rfl (by decide) rfl (lk_Reader_kinds hγ this (1 : Int32) _ _ M6 h) (fun _ _ => Qi_r) (fun _ h => h) (fun v M7 hp => Qi_k (R := fun st => E γ k_Reader_frame 8 52 [some (vr (some (3, this)))] st M7 (Qx (9, 0) (Qv Q) X)) hp (fun r8 h => ?_))
    obtain ⟨c9, h⟩ := h
    refine E_blk (lv' := [some (vr (some (3, this)))]) (st' := []) (M1 := (sI (sI (sI M7 3 this 21 r8) 3 this 14 (1 : Int32)) 3 this 15 (mI (sI (sI M7 3 this 21 r8) 3 this 14 (1 : Int32)) 3 this 2))) (pc' := 68) (tb_Reader hγ) [.putfield 346, .aload_n 0, .iconst 1, .putfield 292, .aload_n 0, .aload_n 0, .getfield 113, .putfield 349] (by decide +kernel) rfl rfl ⟨c9, trivial⟩ ?_
    obtain ⟨M10, eM10, h⟩ := h
    rw [← eM10]
    exact (E_vret rfl (by decide +kernel) h).nx
  · rw [if_neg b1] at h
    refine E_blk (lv' := [some (vr (some (3, this)))]) (st' := [vr (some (3, this))]) (M1 := M) (pc' := 8) (tb_Reader hγ) [.aload_n 0] (by decide +kernel) rfl rfl trivial ?_
    refine E_callV (κ' := k_Reader_wrong) (As := []) (st := []) mv_Reader_wrong (Or.inl (tbk_mem (j := 6) (k := 122) rfl)) rfl (by decide +kernel) (Nat.le_of_ble_eq_true rfl) (Nat.le_of_ble_eq_true rfl) rfl (by decide) (lk_Reader_wrong hγ this _ M h) (fun _ _ => Qr_r) (fun v M11 hp => Qr_k (R := fun st => E γ k_Reader_frame 8 11 [some (vr (some (3, this)))] st M11 (Qx (9, 0) (Qv Q) X)) hp (fun i12 h => ?_))
    obtain ⟨e0, h⟩ := h
    rw [e0]
    exact E_throw (by decide) rfl (by decide +kernel) h
def w_Reader_used (this : Nat) (a1 : Int32) (a2 : Int32) (Q : Mem → Prop) (X : Mem → Prop) (M : Mem) : Prop :=
  w_Reader_anyName this (fun r2 M1 => vp_in (mI M 3 this 9) (mL M1 26 this) ∧ vp_in (mI (sI M1 26 this (mI M 3 this 9).toNatClampNeg r2) 3 this 9) (mL (sI M1 26 this (mI M 3 this 9).toNatClampNeg r2) 27 this) ∧ ∃ M5, M5 = (sI (sI M1 26 this (mI M 3 this 9).toNatClampNeg r2) 27 this (mI (sI M1 26 this (mI M 3 this 9).toNatClampNeg r2) 3 this 9).toNatClampNeg a1) ∧ vp_in (mI M5 3 this 9) (mL M5 28 this) ∧ vp_in (mI (sI M5 28 this (mI M5 3 this 9).toNatClampNeg a2) 3 this 9) (mL (sI M5 28 this (mI M5 3 this 9).toNatClampNeg a2) 29 this) ∧ ∃ M8, M8 = (sI (sI M5 28 this (mI M5 3 this 9).toNatClampNeg a2) 29 this (mI (sI M5 28 this (mI M5 3 this 9).toNatClampNeg a2) 3 this 9).toNatClampNeg (mI (sI M5 28 this (mI M5 3 this 9).toNatClampNeg a2) 3 this 2)) ∧ Q (sI M8 3 this 9 ((mI M8 3 this 9) + (1 : Int32)))) X M
set_option maxRecDepth 4096 in
theorem lk_Reader_used {γ : Gm} (hγ : Gk γ) (this : Nat) (a1 : Int32) (a2 : Int32) (Q : Mem → Prop) (X : Mem → Prop) (M : Mem) (h : w_Reader_used this a1 a2 Q X M) : E γ k_Reader_used 5 0 [some (vr (some (3, this))), some (vi a1), some (vi a2)] [] M (Qx (9, 0) (Qv Q) X) := by
  unfold w_Reader_used at h
  refine E_blk (lv' := [some (vr (some (3, this))), some (vi a1), some (vi a2)]) (st' := [vr (some (3, this)), vi (mI M 3 this 9), vr (some (26, this))]) (M1 := M) (pc' := 9) (tb_Reader hγ) [.aload_n 0, .getfield 34, .aload_n 0, .getfield 289, .aload_n 0] (by decide +kernel) rfl rfl trivial ?_
  refine E_callX (κ' := k_Reader_anyName) (As := []) (st := [vi (mI M 3 this 9), vr (some (26, this))]) mv_Reader_anyName (Or.inl (tbk_mem (j := 6) (k := 172) rfl)) rfl (by decide +kernel) (Nat.le_of_ble_eq_true rfl) (Nat.le_of_ble_eq_true rfl) rfl (by decide) rfl (lk_Reader_anyName hγ this _ _ M h) (fun _ _ => Qi_r) (fun _ h => h) (fun v M1 hp => Qi_k (R := fun st => E γ k_Reader_used 5 12 [some (vr (some (3, this))), some (vi a1), some (vi a2)] st M1 (Qx (9, 0) (Qv Q) X)) hp (fun r2 h => ?_))
  obtain ⟨c3, c4, h⟩ := h
  refine E_blk (lv' := [some (vr (some (3, this))), some (vi a1), some (vi a2)]) (st' := []) (M1 := (sI (sI M1 26 this (mI M 3 this 9).toNatClampNeg r2) 27 this (mI (sI M1 26 this (mI M 3 this 9).toNatClampNeg r2) 3 this 9).toNatClampNeg a1)) (pc' := 23) (tb_Reader hγ) [.iastore, .aload_n 0, .getfield 37, .aload_n 0, .getfield 289, .iload_n 1, .iastore] (by decide +kernel) rfl rfl ⟨c3, c4, trivial⟩ ?_
  obtain ⟨M5, eM5, h⟩ := h
  rw [← eM5]
  obtain ⟨c6, c7, h⟩ := h
  refine E_blk (lv' := [some (vr (some (3, this))), some (vi a1), some (vi a2)]) (st' := []) (M1 := (sI (sI M5 28 this (mI M5 3 this 9).toNatClampNeg a2) 29 this (mI (sI M5 28 this (mI M5 3 this 9).toNatClampNeg a2) 3 this 9).toNatClampNeg (mI (sI M5 28 this (mI M5 3 this 9).toNatClampNeg a2) 3 this 2))) (pc' := 46) (tb_Reader hγ) [.aload_n 0, .getfield 40, .aload_n 0, .getfield 289, .iload_n 2, .iastore, .aload_n 0, .getfield 43, .aload_n 0, .getfield 289, .aload_n 0, .getfield 113, .iastore] (by decide +kernel) rfl rfl ⟨c6, c7, trivial⟩ ?_
  obtain ⟨M8, eM8, h⟩ := h
  rw [← eM8]
  refine E_blk (lv' := [some (vr (some (3, this))), some (vi a1), some (vi a2)]) (st' := []) (M1 := (sI M8 3 this 9 ((mI M8 3 this 9) + (1 : Int32)))) (pc' := 56) (tb_Reader hγ) [.aload_n 0, .dup, .getfield 289, .iconst 1, .iadd, .putfield 289] (by decide +kernel) rfl rfl trivial ?_
  exact (E_vret rfl (by decide +kernel) h).nx
def w_Reader_handler_L135 (this : Nat) (Q : Mem → Prop) (X : Mem → Prop) : Nat → Int32 → Int32 → Int32 → Int32 → Mem → Prop
  | 0, _, _, _, _, _ => False
  | n + 1, v1, v2, v3, v4, M => if (3 : Int32) ≤ v4 then (∃ i23, (mR M 3 this 1) = some (5, i23) ∧ vp_in (((4 : Int32) * v3) + (3 : Int32)) (mL M 75 i23) ∧ Q (sI M 75 i23 (((4 : Int32) * v3) + (3 : Int32)).toNatClampNeg v2)) else (vp_in (v1 + v4) (mL M 28 this) ∧ (w_Reader_handler_L135 this Q X n) v1 v2 v3 (v4 + (1 : Int32)) (sI M 28 this (v1 + v4).toNatClampNeg (((4 : Int32) * v3) + v4)))
def w_Reader_handler_j60 (this : Nat) (Q : Mem → Prop) (X : Mem → Prop) (v1 : Int32) (v2 : Int32) (M : Mem) : Prop :=
  w_Reader_end this (fun M10 => ∃ i11, (mR M10 3 this 1) = some (5, i11) ∧ vp_in (mI M10 3 this 4) (mL M10 65 i11) ∧ if (mI M10 65 i11 (mI M10 3 this 4).toNatClampNeg) = (8 : Int32) then (w_Works_refuse 0 (12 : Int32) (mI M10 3 this 2) (fun i15 M14 => i15 = 0 ∧ X M14) M10) else (∃ i16, (mR M10 3 this 1) = some (5, i16) ∧ ∃ i17, (mR M10 3 this 1) = some (5, i17) ∧ ∃ i18, (mR (sI M10 5 i17 51 ((mI M10 5 i17 51) + (1 : Int32))) 3 this 1) = some (5, i18) ∧ vp_in (mI (sI M10 5 i17 51 ((mI M10 5 i17 51) + (1 : Int32))) 3 this 4) (mL (sI M10 5 i17 51 ((mI M10 5 i17 51) + (1 : Int32))) 65 i18) ∧ vp_in (mI (sI M10 5 i17 51 ((mI M10 5 i17 51) + (1 : Int32))) 3 this 4) (mL (sI M10 5 i17 51 ((mI M10 5 i17 51) + (1 : Int32))) 65 i18) ∧ ∃ M21, M21 = (sI (sI M10 5 i17 51 ((mI M10 5 i17 51) + (1 : Int32))) 65 i18 (mI (sI M10 5 i17 51 ((mI M10 5 i17 51) + (1 : Int32))) 3 this 4).toNatClampNeg ((mI (sI M10 5 i17 51 ((mI M10 5 i17 51) + (1 : Int32))) 65 i18 (mI (sI M10 5 i17 51 ((mI M10 5 i17 51) + (1 : Int32))) 3 this 4).toNatClampNeg) + (1 : Int32))) ∧ ∃ n26 : Nat, w_Reader_handler_L135 this Q X n26 v1 v2 (mI M10 5 i16 51) (0 : Int32) M21)) X M
def w_Reader_handler (this : Nat) (Q : Mem → Prop) (X : Mem → Prop) (M : Mem) : Prop :=
  w_Words_next 0 (fun M1 => w_Reader_used this (2 : Int32) (0 : Int32) (fun M2 => w_Reader_used this (3 : Int32) (0 : Int32) (fun M3 => w_Reader_used this (4 : Int32) (0 : Int32) (fun M4 => w_Words_isWord 0 (77 : Int32) (fun r6 M5 => if r6 = 0 then (w_Reader_className this (fun r9 M8 => w_Reader_handler_j60 this Q X (mI M1 3 this 9) r9 M8) X M5) else (w_Words_next 0 (fun M27 => w_Reader_handler_j60 this Q X (mI M1 3 this 9) (77 : Int32) M27) M5)) M4) X M3) X M2) X M1) M
set_option maxRecDepth 4096 in
theorem lk_Reader_handler_L135 {γ : Gm} (hγ : Gk γ) (this : Nat) (Q : Mem → Prop) (X : Mem → Prop) : ∀ (n : Nat) (v1 : Int32) (v2 : Int32) (v3 : Int32) (v4 : Int32) (M : Mem), w_Reader_handler_L135 this Q X n v1 v2 v3 v4 M → E γ k_Reader_handler 6 135 [some (vr (some (3, this))), some (vi v1), some (vi v2), some (vi v3), some (vi v4)] [] M (Qx (9, 0) (Qv Q) X) := by
  intro n
  induction n with
  | zero => intro v1 v2 v3 v4 M h; exact h.elim
  | succ n ih =>
    intro v1 v2 v3 v4 M h
    unfold w_Reader_handler_L135 at h
    refine E_blk (lv' := [some (vr (some (3, this))), some (vi v1), some (vi v2), some (vi v3), some (vi v4)]) (st' := [vi (3 : Int32), vi v4]) (M1 := M) (pc' := 138) (tb_Reader hγ) [.iload 4, .iconst 3] (by decide +kernel) rfl rfl trivial ?_
    refine E_icmp_ge (off := 24) (tgt := 162) (by decide +kernel) (by decide) (fun b22 => ?_) (fun b22 => ?_)
    · rw [if_pos b22] at h
      refine E_blk (lv' := [some (vr (some (3, this))), some (vi v1), some (vi v2), some (vi v3), some (vi v4)]) (st' := [vr (mR M 3 this 1)]) (M1 := M) (pc' := 166) (tb_Reader hγ) [.aload_n 0, .getfield 52] (by decide +kernel) rfl rfl trivial ?_
      obtain ⟨i23, ei23, h⟩ := h
      rw [ei23]
      obtain ⟨c24, h⟩ := h
      refine E_blk (lv' := [some (vr (some (3, this))), some (vi v1), some (vi v2), some (vi v3), some (vi v4)]) (st' := []) (M1 := (sI M 75 i23 (((4 : Int32) * v3) + (3 : Int32)).toNatClampNeg v2)) (pc' := 176) (tb_Reader hγ) [.getfield 359, .iconst 4, .iload_n 3, .imul, .iconst 3, .iadd, .iload_n 2, .iastore] (by decide +kernel) rfl rfl ⟨c24, trivial⟩ ?_
      exact (E_vret rfl (by decide +kernel) h).nx
    · rw [if_neg b22] at h
      obtain ⟨c25, h⟩ := h
      refine E_blk (lv' := [some (vr (some (3, this))), some (vi v1), some (vi v2), some (vi v3), some (vi (v4 + (1 : Int32)))]) (st' := []) (M1 := (sI M 28 this (v1 + v4).toNatClampNeg (((4 : Int32) * v3) + v4))) (pc' := 159) (tb_Reader hγ) [.aload_n 0, .getfield 40, .iload_n 1, .iload 4, .iadd, .iconst 4, .iload_n 3, .imul, .iload 4, .iadd, .iastore, .iinc 4 1] (by decide +kernel) rfl rfl ⟨c25, trivial⟩ ?_
      refine E_goto (off := -24) (tgt := 135) (by decide +kernel) (by decide) ?_
      refine E_mask [true, true, true, true, true] rfl ?_
      exact ih v1 v2 v3 (v4 + (1 : Int32)) (sI M 28 this (v1 + v4).toNatClampNeg (((4 : Int32) * v3) + v4)) h
set_option maxRecDepth 4096 in
theorem lk_Reader_handler_j60 {γ : Gm} (hγ : Gk γ) (this : Nat) (Q : Mem → Prop) (X : Mem → Prop) (v1 : Int32) (v2 : Int32) (M : Mem) (h : w_Reader_handler_j60 this Q X v1 v2 M) : E γ k_Reader_handler 6 60 [some (vr (some (3, this))), some (vi v1), some (vi v2), none, none] [] M (Qx (9, 0) (Qv Q) X) := by
  unfold w_Reader_handler_j60 at h
  refine E_blk (lv' := [some (vr (some (3, this))), some (vi v1), some (vi v2), none, none]) (st' := [vr (some (3, this))]) (M1 := M) (pc' := 61) (tb_Reader hγ) [.aload_n 0] (by decide +kernel) rfl rfl trivial ?_
  refine E_callX (κ' := k_Reader_end) (As := []) (st := []) mv_Reader_end (Or.inl (tbk_mem (j := 6) (k := 191) rfl)) rfl (by decide +kernel) (Nat.le_of_ble_eq_true rfl) (Nat.le_of_ble_eq_true rfl) rfl (by decide) rfl (lk_Reader_end hγ this _ _ M h) (fun _ _ => Qv_r) (fun _ h => h) (fun v M10 hp => Qv_k (R := fun st => E γ k_Reader_handler 6 64 [some (vr (some (3, this))), some (vi v1), some (vi v2), none, none] st M10 (Qx (9, 0) (Qv Q) X)) hp (fun h => ?_))
  refine E_blk (lv' := [some (vr (some (3, this))), some (vi v1), some (vi v2), none, none]) (st' := [vr (mR M10 3 this 1)]) (M1 := M10) (pc' := 68) (tb_Reader hγ) [.aload_n 0, .getfield 52] (by decide +kernel) rfl rfl trivial ?_
  obtain ⟨i11, ei11, h⟩ := h
  rw [ei11]
  obtain ⟨c12, h⟩ := h
  refine E_blk (lv' := [some (vr (some (3, this))), some (vi v1), some (vi v2), none, none]) (st' := [vi (8 : Int32), vi (mI M10 65 i11 (mI M10 3 this 4).toNatClampNeg)]) (M1 := M10) (pc' := 78) (tb_Reader hγ) [.getfield 356, .aload_n 0, .getfield 266, .iaload, .bipush 8] (by decide +kernel) rfl rfl ⟨c12, trivial⟩ ?_
  refine E_icmp_ne (off := 17) (tgt := 95) (by decide +kernel) (by decide) (fun b13 => ?_) (fun b13 => ?_)
  · rw [if_pos b13] at h
    refine E_blk (lv' := [some (vr (some (3, this))), some (vi v1), some (vi v2), none, none]) (st' := [vi (mI M10 3 this 2), vi (12 : Int32), vr (some (10, 0))]) (M1 := M10) (pc' := 91) (tb_Reader hγ) [.aload_n 0, .getfield 3, .bipush 12, .aload_n 0, .getfield 113] (by decide +kernel) rfl rfl trivial ?_
    refine E_callV (κ' := k_Works_refuse) (As := [vi (12 : Int32), vi (mI M10 3 this 2)]) (st := []) mv_Works_refuse (Or.inr ⟨"ClassWorks", (tbk_mem (j := 6) (k := 126) rfl)⟩) rfl (by decide +kernel) (Nat.le_of_ble_eq_true rfl) (Nat.le_of_ble_eq_true rfl) rfl (by decide) (lk_Works_refuse hγ 0 (12 : Int32) (mI M10 3 this 2) _ M10 h) (fun _ _ => Qr_r) (fun v M14 hp => Qr_k (R := fun st => E γ k_Reader_handler 6 94 [some (vr (some (3, this))), some (vi v1), some (vi v2), none, none] st M14 (Qx (9, 0) (Qv Q) X)) hp (fun i15 h => ?_))
    obtain ⟨e0, h⟩ := h
    rw [e0]
    exact E_throw (by decide) rfl (by decide +kernel) h
  · rw [if_neg b13] at h
    refine E_blk (lv' := [some (vr (some (3, this))), some (vi v1), some (vi v2), none, none]) (st' := [vr (mR M10 3 this 1)]) (M1 := M10) (pc' := 99) (tb_Reader hγ) [.aload_n 0, .getfield 52] (by decide +kernel) rfl rfl trivial ?_
    obtain ⟨i16, ei16, h⟩ := h
    rw [ei16]
    refine E_blk (lv' := [some (vr (some (3, this))), some (vi v1), some (vi v2), some (vi (mI M10 5 i16 51)), none]) (st' := [vr (mR M10 3 this 1)]) (M1 := M10) (pc' := 107) (tb_Reader hγ) [.getfield 77, .istore_n 3, .aload_n 0, .getfield 52] (by decide +kernel) rfl rfl trivial ?_
    obtain ⟨i17, ei17, h⟩ := h
    rw [ei17]
    refine E_blk (lv' := [some (vr (some (3, this))), some (vi v1), some (vi v2), some (vi (mI M10 5 i16 51)), none]) (st' := [vr (mR (sI M10 5 i17 51 ((mI M10 5 i17 51) + (1 : Int32))) 3 this 1)]) (M1 := (sI M10 5 i17 51 ((mI M10 5 i17 51) + (1 : Int32)))) (pc' := 120) (tb_Reader hγ) [.dup, .getfield 77, .iconst 1, .iadd, .putfield 77, .aload_n 0, .getfield 52] (by decide +kernel) rfl rfl trivial ?_
    obtain ⟨i18, ei18, h⟩ := h
    rw [ei18]
    obtain ⟨c19, c20, h⟩ := h
    refine E_blk (lv' := [some (vr (some (3, this))), some (vi v1), some (vi v2), some (vi (mI M10 5 i16 51)), none]) (st' := []) (M1 := (sI (sI M10 5 i17 51 ((mI M10 5 i17 51) + (1 : Int32))) 65 i18 (mI (sI M10 5 i17 51 ((mI M10 5 i17 51) + (1 : Int32))) 3 this 4).toNatClampNeg ((mI (sI M10 5 i17 51 ((mI M10 5 i17 51) + (1 : Int32))) 65 i18 (mI (sI M10 5 i17 51 ((mI M10 5 i17 51) + (1 : Int32))) 3 this 4).toNatClampNeg) + (1 : Int32)))) (pc' := 132) (tb_Reader hγ) [.getfield 356, .aload_n 0, .getfield 266, .dup2, .iaload, .iconst 1, .iadd, .iastore] (by decide +kernel) rfl rfl ⟨c19, c20, trivial⟩ ?_
    obtain ⟨M21, eM21, h⟩ := h
    rw [← eM21]
    refine E_blk (lv' := [some (vr (some (3, this))), some (vi v1), some (vi v2), some (vi (mI M10 5 i16 51)), some (vi (0 : Int32))]) (st' := []) (M1 := M21) (pc' := 135) (tb_Reader hγ) [.iconst 0, .istore 4] (by decide +kernel) rfl rfl trivial ?_
    obtain ⟨n26, h⟩ := h
    refine E_mask [true, true, true, true, true] rfl ?_
    exact lk_Reader_handler_L135 hγ this Q X n26 v1 v2 (mI M10 5 i16 51) (0 : Int32) M21 h
set_option maxRecDepth 4096 in
theorem lk_Reader_handler {γ : Gm} (hγ : Gk γ) (this : Nat) (Q : Mem → Prop) (X : Mem → Prop) (M : Mem) (h : w_Reader_handler this Q X M) : E γ k_Reader_handler 6 0 [some (vr (some (3, this))), none, none, none, none] [] M (Qx (9, 0) (Qv Q) X) := by
  unfold w_Reader_handler at h
  refine E_blk (lv' := [some (vr (some (3, this))), none, none, none, none]) (st' := [vr (some (2, 0))]) (M1 := M) (pc' := 4) (tb_Reader hγ) [.aload_n 0, .getfield 20] (by decide +kernel) rfl rfl trivial ?_
  refine E_callV (κ' := k_Words_next) (As := []) (st := []) mv_Words_next (Or.inl (tbk_mem (j := 6) (k := 53) rfl)) rfl (by decide +kernel) (Nat.le_of_ble_eq_true rfl) (Nat.le_of_ble_eq_true rfl) rfl (by decide) (lk_Words_next hγ 0 _ M h) (fun _ _ => Qv_r) (fun v M1 hp => Qv_k (R := fun st => E γ k_Reader_handler 6 7 [some (vr (some (3, this))), none, none, none, none] st M1 (Qx (9, 0) (Qv Q) X)) hp (fun h => ?_))
  refine E_blk (lv' := [some (vr (some (3, this))), some (vi (mI M1 3 this 9)), none, none, none]) (st' := [vi (0 : Int32), vi (2 : Int32), vr (some (3, this))]) (M1 := M1) (pc' := 15) (tb_Reader hγ) [.aload_n 0, .getfield 289, .istore_n 1, .aload_n 0, .iconst 2, .iconst 0] (by decide +kernel) rfl rfl trivial ?_
  refine E_callX (κ' := k_Reader_used) (As := [vi (2 : Int32), vi (0 : Int32)]) (st := []) mv_Reader_used (Or.inl (tbk_mem (j := 7) (k := 4) rfl)) rfl (by decide +kernel) (Nat.le_of_ble_eq_true rfl) (Nat.le_of_ble_eq_true rfl) rfl (by decide) rfl (lk_Reader_used hγ this (2 : Int32) (0 : Int32) _ _ M1 h) (fun _ _ => Qv_r) (fun _ h => h) (fun v M2 hp => Qv_k (R := fun st => E γ k_Reader_handler 6 18 [some (vr (some (3, this))), some (vi (mI M1 3 this 9)), none, none, none] st M2 (Qx (9, 0) (Qv Q) X)) hp (fun h => ?_))
  refine E_blk (lv' := [some (vr (some (3, this))), some (vi (mI M1 3 this 9)), none, none, none]) (st' := [vi (0 : Int32), vi (3 : Int32), vr (some (3, this))]) (M1 := M2) (pc' := 21) (tb_Reader hγ) [.aload_n 0, .iconst 3, .iconst 0] (by decide +kernel) rfl rfl trivial ?_
  refine E_callX (κ' := k_Reader_used) (As := [vi (3 : Int32), vi (0 : Int32)]) (st := []) mv_Reader_used (Or.inl (tbk_mem (j := 7) (k := 4) rfl)) rfl (by decide +kernel) (Nat.le_of_ble_eq_true rfl) (Nat.le_of_ble_eq_true rfl) rfl (by decide) rfl (lk_Reader_used hγ this (3 : Int32) (0 : Int32) _ _ M2 h) (fun _ _ => Qv_r) (fun _ h => h) (fun v M3 hp => Qv_k (R := fun st => E γ k_Reader_handler 6 24 [some (vr (some (3, this))), some (vi (mI M1 3 this 9)), none, none, none] st M3 (Qx (9, 0) (Qv Q) X)) hp (fun h => ?_))
  refine E_blk (lv' := [some (vr (some (3, this))), some (vi (mI M1 3 this 9)), none, none, none]) (st' := [vi (0 : Int32), vi (4 : Int32), vr (some (3, this))]) (M1 := M3) (pc' := 27) (tb_Reader hγ) [.aload_n 0, .iconst 4, .iconst 0] (by decide +kernel) rfl rfl trivial ?_
  refine E_callX (κ' := k_Reader_used) (As := [vi (4 : Int32), vi (0 : Int32)]) (st := []) mv_Reader_used (Or.inl (tbk_mem (j := 7) (k := 4) rfl)) rfl (by decide +kernel) (Nat.le_of_ble_eq_true rfl) (Nat.le_of_ble_eq_true rfl) rfl (by decide) rfl (lk_Reader_used hγ this (4 : Int32) (0 : Int32) _ _ M3 h) (fun _ _ => Qv_r) (fun _ h => h) (fun v M4 hp => Qv_k (R := fun st => E γ k_Reader_handler 6 30 [some (vr (some (3, this))), some (vi (mI M1 3 this 9)), none, none, none] st M4 (Qx (9, 0) (Qv Q) X)) hp (fun h => ?_))
  refine E_blk (lv' := [some (vr (some (3, this))), some (vi (mI M1 3 this 9)), some (vi (77 : Int32)), none, none]) (st' := [vi (77 : Int32), vr (some (2, 0))]) (M1 := M4) (pc' := 39) (tb_Reader hγ) [.bipush 77, .istore_n 2, .aload_n 0, .getfield 20, .bipush 77] (by decide +kernel) rfl rfl trivial ?_
  refine E_callV (κ' := k_Words_isWord) (As := [vi (77 : Int32)]) (st := []) mv_Words_isWord (Or.inl (tbk_mem (j := 6) (k := 118) rfl)) rfl (by decide +kernel) (Nat.le_of_ble_eq_true rfl) (Nat.le_of_ble_eq_true rfl) rfl (by decide) (lk_Words_isWord hγ 0 (77 : Int32) _ M4 h) (fun _ _ => Qi_r) (fun v M5 hp => Qi_k (R := fun st => E γ k_Reader_handler 6 42 [some (vr (some (3, this))), some (vi (mI M1 3 this 9)), some (vi (77 : Int32)), none, none] st M5 (Qx (9, 0) (Qv Q) X)) hp (fun r6 h => ?_))
  refine E_if_eq (off := 13) (tgt := 55) (by decide +kernel) (by decide) (fun b7 => ?_) (fun b7 => ?_)
  · rw [if_pos b7] at h
    refine E_blk (lv' := [some (vr (some (3, this))), some (vi (mI M1 3 this 9)), some (vi (77 : Int32)), none, none]) (st' := [vr (some (3, this))]) (M1 := M5) (pc' := 56) (tb_Reader hγ) [.aload_n 0] (by decide +kernel) rfl rfl trivial ?_
    refine E_callX (κ' := k_Reader_className) (As := []) (st := []) mv_Reader_className (Or.inl (tbk_mem (j := 6) (k := 130) rfl)) rfl (by decide +kernel) (Nat.le_of_ble_eq_true rfl) (Nat.le_of_ble_eq_true rfl) rfl (by decide) rfl (lk_Reader_className hγ this _ _ M5 h) (fun _ _ => Qi_r) (fun _ h => h) (fun v M8 hp => Qi_k (R := fun st => E γ k_Reader_handler 6 59 [some (vr (some (3, this))), some (vi (mI M1 3 this 9)), some (vi (77 : Int32)), none, none] st M8 (Qx (9, 0) (Qv Q) X)) hp (fun r9 h => ?_))
    refine E_blk (lv' := [some (vr (some (3, this))), some (vi (mI M1 3 this 9)), some (vi r9), none, none]) (st' := []) (M1 := M8) (pc' := 60) (tb_Reader hγ) [.istore_n 2] (by decide +kernel) rfl rfl trivial ?_
    refine E_mask [true, true, true, false, false] rfl ?_
    exact lk_Reader_handler_j60 hγ this Q X (mI M1 3 this 9) r9 M8 h
  · rw [if_neg b7] at h
    refine E_blk (lv' := [some (vr (some (3, this))), some (vi (mI M1 3 this 9)), some (vi (77 : Int32)), none, none]) (st' := [vr (some (2, 0))]) (M1 := M5) (pc' := 49) (tb_Reader hγ) [.aload_n 0, .getfield 20] (by decide +kernel) rfl rfl trivial ?_
    refine E_callV (κ' := k_Words_next) (As := []) (st := []) mv_Words_next (Or.inl (tbk_mem (j := 6) (k := 53) rfl)) rfl (by decide +kernel) (Nat.le_of_ble_eq_true rfl) (Nat.le_of_ble_eq_true rfl) rfl (by decide) (lk_Words_next hγ 0 _ M5 h) (fun _ _ => Qv_r) (fun v M27 hp => Qv_k (R := fun st => E γ k_Reader_handler 6 52 [some (vr (some (3, this))), some (vi (mI M1 3 this 9)), some (vi (77 : Int32)), none, none] st M27 (Qx (9, 0) (Qv Q) X)) hp (fun h => ?_))
    refine E_goto (off := 8) (tgt := 60) (by decide +kernel) (by decide) ?_
    refine E_mask [true, true, true, false, false] rfl ?_
    exact lk_Reader_handler_j60 hγ this Q X (mI M1 3 this 9) (77 : Int32) M27 h
def w_Reader_nextCode (this : Nat) (Q : Int32 → Mem → Prop) (M : Mem) : Prop :=
  ∃ i1, (mR M 3 this 1) = some (5, i1) ∧ vp_in (mI M 3 this 4) (mL M 62 i1) ∧ ∃ i3, (mR M 3 this 1) = some (5, i3) ∧ vp_in (mI M 3 this 4) (mL M 63 i3) ∧ Q ((mI M 62 i1 (mI M 3 this 4).toNatClampNeg) + (mI M 63 i3 (mI M 3 this 4).toNatClampNeg)) M
set_option maxRecDepth 4096 in
theorem lk_Reader_nextCode {γ : Gm} (hγ : Gk γ) (this : Nat) (Q : Int32 → Mem → Prop) (M : Mem) (h : w_Reader_nextCode this Q M) : E γ k_Reader_nextCode 0 0 [some (vr (some (3, this)))] [] M (Qi Q) := by
  unfold w_Reader_nextCode at h
  refine E_blk (lv' := [some (vr (some (3, this)))]) (st' := [vr (mR M 3 this 1)]) (M1 := M) (pc' := 4) (tb_Reader hγ) [.aload_n 0, .getfield 52] (by decide +kernel) rfl rfl trivial ?_
  obtain ⟨i1, ei1, h⟩ := h
  rw [ei1]
  obtain ⟨c2, h⟩ := h
  refine E_blk (lv' := [some (vr (some (3, this)))]) (st' := [vr (mR M 3 this 1), vi (mI M 62 i1 (mI M 3 this 4).toNatClampNeg)]) (M1 := M) (pc' := 16) (tb_Reader hγ) [.getfield 333, .aload_n 0, .getfield 266, .iaload, .aload_n 0, .getfield 52] (by decide +kernel) rfl rfl ⟨c2, trivial⟩ ?_
  obtain ⟨i3, ei3, h⟩ := h
  rw [ei3]
  obtain ⟨c4, h⟩ := h
  refine E_blk (lv' := [some (vr (some (3, this)))]) (st' := [vi ((mI M 62 i1 (mI M 3 this 4).toNatClampNeg) + (mI M 63 i3 (mI M 3 this 4).toNatClampNeg))]) (M1 := M) (pc' := 25) (tb_Reader hγ) [.getfield 316, .aload_n 0, .getfield 266, .iaload, .iadd] (by decide +kernel) rfl rfl ⟨c4, trivial⟩ ?_
  exact E_iret rfl (by decide +kernel) h
def w_Reader_addReference_L86 (this : Nat) (Q : Int32 → Mem → Prop) : Nat → Int32 → Int32 → Mem → Prop
  | 0, _, _, _ => False
  | n + 1, v4, v5, M => if (mI M 3 this 18) ≤ v5 then (Q v4 M) else (if (6 : Int32) ≤ v5 then (Q v4 M) else (∃ i17, (mR M 3 this 1) = some (5, i17) ∧ vp_in v5 (mL M 211 0) ∧ vp_in (((6 : Int32) * v4) + v5) (mL M 211 (2 * i17 + 2)) ∧ ∃ M20, M20 = (sI M 211 (2 * i17 + 2) (((6 : Int32) * v4) + v5).toNatClampNeg (mI M 211 0 v5.toNatClampNeg)) ∧ (w_Reader_addReference_L86 this Q n) v4 (v5 + (1 : Int32)) M20))
def w_Reader_addReference (this : Nat) (a1 : Int32) (a2 : Int32) (a3 : Int32) (Q : Int32 → Mem → Prop) (M : Mem) : Prop :=
  ∃ i1, (mR M 3 this 1) = some (5, i1) ∧ ∃ i2, (mR M 3 this 1) = some (5, i2) ∧ ∃ i3, (mR (sI M 5 i2 53 ((mI M 5 i2 53) + (1 : Int32))) 3 this 1) = some (5, i3) ∧ vp_in ((4 : Int32) * (mI M 5 i1 53)) (mL (sI M 5 i2 53 ((mI M 5 i2 53) + (1 : Int32))) 76 i3) ∧ ∃ M5, M5 = (sI (sI M 5 i2 53 ((mI M 5 i2 53) + (1 : Int32))) 76 i3 ((4 : Int32) * (mI M 5 i1 53)).toNatClampNeg a1) ∧ ∃ i6, (mR M5 3 this 1) = some (5, i6) ∧ vp_in (((4 : Int32) * (mI M 5 i1 53)) + (1 : Int32)) (mL M5 76 i6) ∧ ∃ M8, M8 = (sI M5 76 i6 (((4 : Int32) * (mI M 5 i1 53)) + (1 : Int32)).toNatClampNeg a2) ∧ ∃ i9, (mR M8 3 this 1) = some (5, i9) ∧ vp_in (((4 : Int32) * (mI M 5 i1 53)) + (2 : Int32)) (mL M8 76 i9) ∧ ∃ M11, M11 = (sI M8 76 i9 (((4 : Int32) * (mI M 5 i1 53)) + (2 : Int32)).toNatClampNeg a3) ∧ ∃ i12, (mR M11 3 this 1) = some (5, i12) ∧ vp_in (((4 : Int32) * (mI M 5 i1 53)) + (3 : Int32)) (mL M11 76 i12) ∧ ∃ M14, M14 = (sI M11 76 i12 (((4 : Int32) * (mI M 5 i1 53)) + (3 : Int32)).toNatClampNeg (mI M11 3 this 18)) ∧ ∃ n21 : Nat, w_Reader_addReference_L86 this Q n21 (mI M 5 i1 53) (0 : Int32) M14
set_option maxRecDepth 4096 in
theorem lk_Reader_addReference_L86 {γ : Gm} (hγ : Gk γ) (this : Nat) (Q : Int32 → Mem → Prop) : ∀ (n : Nat) (v4 : Int32) (v5 : Int32) (M : Mem), w_Reader_addReference_L86 this Q n v4 v5 M → E γ k_Reader_addReference 0 86 [some (vr (some (3, this))), none, none, none, some (vi v4), some (vi v5)] [] M (Qi Q) := by
  intro n
  induction n with
  | zero => intro v4 v5 M h; exact h.elim
  | succ n ih =>
    intro v4 v5 M h
    unfold w_Reader_addReference_L86 at h
    refine E_blk (lv' := [some (vr (some (3, this))), none, none, none, some (vi v4), some (vi v5)]) (st' := [vi (mI M 3 this 18), vi v5]) (M1 := M) (pc' := 92) (tb_Reader hγ) [.iload 5, .aload_n 0, .getfield 167] (by decide +kernel) rfl rfl trivial ?_
    refine E_icmp_ge (off := 39) (tgt := 131) (by decide +kernel) (by decide) (fun b15 => ?_) (fun b15 => ?_)
    · rw [if_pos b15] at h
      refine E_blk (lv' := [some (vr (some (3, this))), none, none, none, some (vi v4), some (vi v5)]) (st' := [vi v4]) (M1 := M) (pc' := 133) (tb_Reader hγ) [.iload 4] (by decide +kernel) rfl rfl trivial ?_
      exact E_iret rfl (by decide +kernel) h
    · rw [if_neg b15] at h
      refine E_blk (lv' := [some (vr (some (3, this))), none, none, none, some (vi v4), some (vi v5)]) (st' := [vi (6 : Int32), vi v5]) (M1 := M) (pc' := 99) (tb_Reader hγ) [.iload 5, .bipush 6] (by decide +kernel) rfl rfl trivial ?_
      refine E_icmp_ge (off := 32) (tgt := 131) (by decide +kernel) (by decide) (fun b16 => ?_) (fun b16 => ?_)
      · rw [if_pos b16] at h
        refine E_blk (lv' := [some (vr (some (3, this))), none, none, none, some (vi v4), some (vi v5)]) (st' := [vi v4]) (M1 := M) (pc' := 133) (tb_Reader hγ) [.iload 4] (by decide +kernel) rfl rfl trivial ?_
        exact E_iret rfl (by decide +kernel) h
      · rw [if_neg b16] at h
        refine E_blk (lv' := [some (vr (some (3, this))), none, none, none, some (vi v4), some (vi v5)]) (st' := [vr (mR M 3 this 1)]) (M1 := M) (pc' := 106) (tb_Reader hγ) [.aload_n 0, .getfield 52] (by decide +kernel) rfl rfl trivial ?_
        obtain ⟨i17, ei17, h⟩ := h
        rw [ei17]
        obtain ⟨c18, c19, h⟩ := h
        refine E_blk (lv' := [some (vr (some (3, this))), none, none, none, some (vi v4), some (vi v5)]) (st' := []) (M1 := (sI M 211 (2 * i17 + 2) (((6 : Int32) * v4) + v5).toNatClampNeg (mI M 211 0 v5.toNatClampNeg))) (pc' := 125) (tb_Reader hγ) [.getfield 398, .bipush 6, .iload 4, .imul, .iload 5, .iadd, .aload_n 0, .getfield 46, .iload 5, .iaload, .iastore] (by decide +kernel) rfl rfl ⟨c18, c19, trivial⟩ ?_
        obtain ⟨M20, eM20, h⟩ := h
        rw [← eM20]
        refine E_blk (lv' := [some (vr (some (3, this))), none, none, none, some (vi v4), some (vi (v5 + (1 : Int32)))]) (st' := []) (M1 := M20) (pc' := 128) (tb_Reader hγ) [.iinc 5 1] (by decide +kernel) rfl rfl trivial ?_
        refine E_goto (off := -42) (tgt := 86) (by decide +kernel) (by decide) ?_
        refine E_mask [true, false, false, false, true, true] rfl ?_
        exact ih v4 (v5 + (1 : Int32)) M20 h
set_option maxRecDepth 4096 in
theorem lk_Reader_addReference {γ : Gm} (hγ : Gk γ) (this : Nat) (a1 : Int32) (a2 : Int32) (a3 : Int32) (Q : Int32 → Mem → Prop) (M : Mem) (h : w_Reader_addReference this a1 a2 a3 Q M) : E γ k_Reader_addReference 0 0 [some (vr (some (3, this))), some (vi a1), some (vi a2), some (vi a3), none, none] [] M (Qi Q) := by
  unfold w_Reader_addReference at h
  refine E_blk (lv' := [some (vr (some (3, this))), some (vi a1), some (vi a2), some (vi a3), none, none]) (st' := [vr (mR M 3 this 1)]) (M1 := M) (pc' := 4) (tb_Reader hγ) [.aload_n 0, .getfield 52] (by decide +kernel) rfl rfl trivial ?_
  obtain ⟨i1, ei1, h⟩ := h
  rw [ei1]
  refine E_blk (lv' := [some (vr (some (3, this))), some (vi a1), some (vi a2), some (vi a3), some (vi (mI M 5 i1 53)), none]) (st' := [vr (mR M 3 this 1)]) (M1 := M) (pc' := 13) (tb_Reader hγ) [.getfield 80, .istore 4, .aload_n 0, .getfield 52] (by decide +kernel) rfl rfl trivial ?_
  obtain ⟨i2, ei2, h⟩ := h
  rw [ei2]
  refine E_blk (lv' := [some (vr (some (3, this))), some (vi a1), some (vi a2), some (vi a3), some (vi (mI M 5 i1 53)), none]) (st' := [vr (mR (sI M 5 i2 53 ((mI M 5 i2 53) + (1 : Int32))) 3 this 1)]) (M1 := (sI M 5 i2 53 ((mI M 5 i2 53) + (1 : Int32)))) (pc' := 26) (tb_Reader hγ) [.dup, .getfield 80, .iconst 1, .iadd, .putfield 80, .aload_n 0, .getfield 52] (by decide +kernel) rfl rfl trivial ?_
  obtain ⟨i3, ei3, h⟩ := h
  rw [ei3]
  obtain ⟨c4, h⟩ := h
  refine E_blk (lv' := [some (vr (some (3, this))), some (vi a1), some (vi a2), some (vi a3), some (vi (mI M 5 i1 53)), none]) (st' := []) (M1 := (sI (sI M 5 i2 53 ((mI M 5 i2 53) + (1 : Int32))) 76 i3 ((4 : Int32) * (mI M 5 i1 53)).toNatClampNeg a1)) (pc' := 35) (tb_Reader hγ) [.getfield 395, .iconst 4, .iload 4, .imul, .iload_n 1, .iastore] (by decide +kernel) rfl rfl ⟨c4, trivial⟩ ?_
  obtain ⟨M5, eM5, h⟩ := h
  rw [← eM5]
  refine E_blk (lv' := [some (vr (some (3, this))), some (vi a1), some (vi a2), some (vi a3), some (vi (mI M 5 i1 53)), none]) (st' := [vr (mR M5 3 this 1)]) (M1 := M5) (pc' := 39) (tb_Reader hγ) [.aload_n 0, .getfield 52] (by decide +kernel) rfl rfl trivial ?_
  obtain ⟨i6, ei6, h⟩ := h
  rw [ei6]
  obtain ⟨c7, h⟩ := h
  refine E_blk (lv' := [some (vr (some (3, this))), some (vi a1), some (vi a2), some (vi a3), some (vi (mI M 5 i1 53)), none]) (st' := []) (M1 := (sI M5 76 i6 (((4 : Int32) * (mI M 5 i1 53)) + (1 : Int32)).toNatClampNeg a2)) (pc' := 50) (tb_Reader hγ) [.getfield 395, .iconst 4, .iload 4, .imul, .iconst 1, .iadd, .iload_n 2, .iastore] (by decide +kernel) rfl rfl ⟨c7, trivial⟩ ?_
  obtain ⟨M8, eM8, h⟩ := h
  rw [← eM8]
  refine E_blk (lv' := [some (vr (some (3, this))), some (vi a1), some (vi a2), some (vi a3), some (vi (mI M 5 i1 53)), none]) (st' := [vr (mR M8 3 this 1)]) (M1 := M8) (pc' := 54) (tb_Reader hγ) [.aload_n 0, .getfield 52] (by decide +kernel) rfl rfl trivial ?_
  obtain ⟨i9, ei9, h⟩ := h
  rw [ei9]
  obtain ⟨c10, h⟩ := h
  refine E_blk (lv' := [some (vr (some (3, this))), some (vi a1), some (vi a2), some (vi a3), some (vi (mI M 5 i1 53)), none]) (st' := []) (M1 := (sI M8 76 i9 (((4 : Int32) * (mI M 5 i1 53)) + (2 : Int32)).toNatClampNeg a3)) (pc' := 65) (tb_Reader hγ) [.getfield 395, .iconst 4, .iload 4, .imul, .iconst 2, .iadd, .iload_n 3, .iastore] (by decide +kernel) rfl rfl ⟨c10, trivial⟩ ?_
  obtain ⟨M11, eM11, h⟩ := h
  rw [← eM11]
  refine E_blk (lv' := [some (vr (some (3, this))), some (vi a1), some (vi a2), some (vi a3), some (vi (mI M 5 i1 53)), none]) (st' := [vr (mR M11 3 this 1)]) (M1 := M11) (pc' := 69) (tb_Reader hγ) [.aload_n 0, .getfield 52] (by decide +kernel) rfl rfl trivial ?_
  obtain ⟨i12, ei12, h⟩ := h
  rw [ei12]
  obtain ⟨c13, h⟩ := h
  refine E_blk (lv' := [some (vr (some (3, this))), some (vi a1), some (vi a2), some (vi a3), some (vi (mI M 5 i1 53)), none]) (st' := []) (M1 := (sI M11 76 i12 (((4 : Int32) * (mI M 5 i1 53)) + (3 : Int32)).toNatClampNeg (mI M11 3 this 18))) (pc' := 83) (tb_Reader hγ) [.getfield 395, .iconst 4, .iload 4, .imul, .iconst 3, .iadd, .aload_n 0, .getfield 167, .iastore] (by decide +kernel) rfl rfl ⟨c13, trivial⟩ ?_
  obtain ⟨M14, eM14, h⟩ := h
  rw [← eM14]
  refine E_blk (lv' := [some (vr (some (3, this))), some (vi a1), some (vi a2), some (vi a3), some (vi (mI M 5 i1 53)), some (vi (0 : Int32))]) (st' := []) (M1 := M14) (pc' := 86) (tb_Reader hγ) [.iconst 0, .istore 5] (by decide +kernel) rfl rfl trivial ?_
  obtain ⟨n21, h⟩ := h
  refine E_mask [true, false, false, false, true, true] rfl ?_
  exact lk_Reader_addReference_L86 hγ this Q n21 (mI M 5 i1 53) (0 : Int32) M14 h
def w_Reader_member_j52 (this : Nat) (Q : Mem → Prop) (X : Mem → Prop)  (M : Mem) : Prop :=
  w_Reader_wrong this (fun i8 M7 => i8 = 0 ∧ X M7) M
def w_Reader_member_j101 (this : Nat) (Q : Mem → Prop) (X : Mem → Prop) (v1 : Int32) (v3 : Int32) (v4 : Int32) (s0 : Int32) (M : Mem) : Prop :=
  ∃ i16, (mR M 3 this 1) = some (5, i16) ∧ w_Reader_addReference this v3 v4 s0 (fun r18 M17 => vp_in v1 (mL M17 67 i16) ∧ Q (sI M17 67 i16 v1.toNatClampNeg r18)) M
def w_Reader_member_j86 (this : Nat) (Q : Mem → Prop) (X : Mem → Prop) (v1 : Int32) (v2 : Int32) (v3 : Int32) (v4 : Int32) (M : Mem) : Prop :=
  if v2 = 0 then (w_Reader_type this (fun r15 M14 => w_Reader_member_j101 this Q X v1 v3 v4 r15 M14) X M) else (w_Reader_result this (fun r21 M20 => w_Reader_member_j101 this Q X v1 v3 v4 r21 M20) X M)
def w_Reader_member_j57 (this : Nat) (Q : Mem → Prop) (X : Mem → Prop) (v1 : Int32) (v2 : Int32) (v3 : Int32) (M : Mem) : Prop :=
  w_Words_next 0 (fun M11 => if v2 = 0 then (w_Reader_member_j86 this Q X v1 v2 v3 (mI M 2 0 5) (sI M11 3 this 18 (0 : Int32))) else (w_Reader_types this (fun M22 => w_Reader_member_j86 this Q X v1 v2 v3 (mI M 2 0 5) M22) X (sI M11 3 this 18 (0 : Int32)))) M
def w_Reader_member (this : Nat) (a1 : Int32) (a2 : Int32) (Q : Mem → Prop) (X : Mem → Prop) (M : Mem) : Prop :=
  w_Reader_className this (fun r2 M1 => w_Reader_sign this (46 : Int32) (fun M3 => isK (mR M3 2 0 3) ∧ if (mR M3 2 0 3) = (some (0, 100 + 0)) then (if (mI M3 2 0 5) = (80 : Int32) then (w_Reader_member_j52 this Q X  M3) else (if (mI M3 2 0 5) = (79 : Int32) then (if a2 = 0 then (w_Reader_member_j52 this Q X  M3) else (w_Reader_member_j57 this Q X a1 a2 r2 M3)) else (w_Reader_member_j57 this Q X a1 a2 r2 M3))) else (w_Reader_member_j52 this Q X  M3)) X M1) X M
set_option maxRecDepth 4096 in
theorem lk_Reader_member_j52 {γ : Gm} (hγ : Gk γ) (this : Nat) (Q : Mem → Prop) (X : Mem → Prop)  (M : Mem) (h : w_Reader_member_j52 this Q X  M) : E γ k_Reader_member 7 52 [some (vr (some (3, this))), none, none, none, none, none] [] M (Qx (9, 0) (Qv Q) X) := by
  unfold w_Reader_member_j52 at h
  refine E_blk (lv' := [some (vr (some (3, this))), none, none, none, none, none]) (st' := [vr (some (3, this))]) (M1 := M) (pc' := 53) (tb_Reader hγ) [.aload_n 0] (by decide +kernel) rfl rfl trivial ?_
  refine E_callV (κ' := k_Reader_wrong) (As := []) (st := []) mv_Reader_wrong (Or.inl (tbk_mem (j := 6) (k := 122) rfl)) rfl (by decide +kernel) (Nat.le_of_ble_eq_true rfl) (Nat.le_of_ble_eq_true rfl) rfl (by decide) (lk_Reader_wrong hγ this _ M h) (fun _ _ => Qr_r) (fun v M7 hp => Qr_k (R := fun st => E γ k_Reader_member 7 56 [some (vr (some (3, this))), none, none, none, none, none] st M7 (Qx (9, 0) (Qv Q) X)) hp (fun i8 h => ?_))
  obtain ⟨e0, h⟩ := h
  rw [e0]
  exact E_throw (by decide) rfl (by decide +kernel) h
set_option maxRecDepth 4096 in
theorem lk_Reader_member_j101 {γ : Gm} (hγ : Gk γ) (this : Nat) (Q : Mem → Prop) (X : Mem → Prop) (v1 : Int32) (v3 : Int32) (v4 : Int32) (s0 : Int32) (M : Mem) (h : w_Reader_member_j101 this Q X v1 v3 v4 s0 M) : E γ k_Reader_member 7 101 [some (vr (some (3, this))), some (vi v1), none, some (vi v3), some (vi v4), none] [vi s0] M (Qx (9, 0) (Qv Q) X) := by
  unfold w_Reader_member_j101 at h
  refine E_blk (lv' := [some (vr (some (3, this))), some (vi v1), none, some (vi v3), some (vi v4), some (vi s0)]) (st' := [vr (mR M 3 this 1)]) (M1 := M) (pc' := 107) (tb_Reader hγ) [.istore 5, .aload_n 0, .getfield 52] (by decide +kernel) rfl rfl trivial ?_
  obtain ⟨i16, ei16, h⟩ := h
  rw [ei16]
  refine E_blk (lv' := [some (vr (some (3, this))), some (vi v1), none, some (vi v3), some (vi v4), some (vi s0)]) (st' := [vi s0, vi v4, vi v3, vr (some (3, this)), vi v1, vr (some (67, i16))]) (M1 := M) (pc' := 117) (tb_Reader hγ) [.getfield 379, .iload_n 1, .aload_n 0, .iload_n 3, .iload 4, .iload 5] (by decide +kernel) rfl rfl trivial ?_
  refine E_callV (κ' := k_Reader_addReference) (As := [vi v3, vi v4, vi s0]) (st := [vi v1, vr (some (67, i16))]) mv_Reader_addReference (Or.inl (tbk_mem (j := 7) (k := 24) rfl)) rfl (by decide +kernel) (Nat.le_of_ble_eq_true rfl) (Nat.le_of_ble_eq_true rfl) rfl (by decide) (lk_Reader_addReference hγ this v3 v4 s0 _ M h) (fun _ _ => Qi_r) (fun v M17 hp => Qi_k (R := fun st => E γ k_Reader_member 7 120 [some (vr (some (3, this))), some (vi v1), none, some (vi v3), some (vi v4), some (vi s0)] st M17 (Qx (9, 0) (Qv Q) X)) hp (fun r18 h => ?_))
  obtain ⟨c19, h⟩ := h
  refine E_blk (lv' := [some (vr (some (3, this))), some (vi v1), none, some (vi v3), some (vi v4), some (vi s0)]) (st' := []) (M1 := (sI M17 67 i16 v1.toNatClampNeg r18)) (pc' := 121) (tb_Reader hγ) [.iastore] (by decide +kernel) rfl rfl ⟨c19, trivial⟩ ?_
  exact (E_vret rfl (by decide +kernel) h).nx
set_option maxRecDepth 4096 in
theorem lk_Reader_member_j86 {γ : Gm} (hγ : Gk γ) (this : Nat) (Q : Mem → Prop) (X : Mem → Prop) (v1 : Int32) (v2 : Int32) (v3 : Int32) (v4 : Int32) (M : Mem) (h : w_Reader_member_j86 this Q X v1 v2 v3 v4 M) : E γ k_Reader_member 7 86 [some (vr (some (3, this))), some (vi v1), some (vi v2), some (vi v3), some (vi v4), none] [] M (Qx (9, 0) (Qv Q) X) := by
  unfold w_Reader_member_j86 at h
  refine E_blk (lv' := [some (vr (some (3, this))), some (vi v1), some (vi v2), some (vi v3), some (vi v4), none]) (st' := [vi v2]) (M1 := M) (pc' := 87) (tb_Reader hγ) [.iload_n 2] (by decide +kernel) rfl rfl trivial ?_
  refine E_if_eq (off := 10) (tgt := 97) (by decide +kernel) (by decide) (fun b13 => ?_) (fun b13 => ?_)
  · rw [if_pos b13] at h
    refine E_blk (lv' := [some (vr (some (3, this))), some (vi v1), some (vi v2), some (vi v3), some (vi v4), none]) (st' := [vr (some (3, this))]) (M1 := M) (pc' := 98) (tb_Reader hγ) [.aload_n 0] (by decide +kernel) rfl rfl trivial ?_
    refine E_callX (κ' := k_Reader_type) (As := []) (st := []) mv_Reader_type (Or.inl (tbk_mem (j := 6) (k := 176) rfl)) rfl (by decide +kernel) (Nat.le_of_ble_eq_true rfl) (Nat.le_of_ble_eq_true rfl) rfl (by decide) rfl (lk_Reader_type hγ this _ _ M h) (fun _ _ => Qi_r) (fun _ h => h) (fun v M14 hp => Qi_k (R := fun st => E γ k_Reader_member 7 101 [some (vr (some (3, this))), some (vi v1), some (vi v2), some (vi v3), some (vi v4), none] st M14 (Qx (9, 0) (Qv Q) X)) hp (fun r15 h => ?_))
    refine E_mask [true, true, false, true, true, false] rfl ?_
    exact lk_Reader_member_j101 hγ this Q X v1 v3 v4 r15 M14 h
  · rw [if_neg b13] at h
    refine E_blk (lv' := [some (vr (some (3, this))), some (vi v1), some (vi v2), some (vi v3), some (vi v4), none]) (st' := [vr (some (3, this))]) (M1 := M) (pc' := 91) (tb_Reader hγ) [.aload_n 0] (by decide +kernel) rfl rfl trivial ?_
    refine E_callX (κ' := k_Reader_result) (As := []) (st := []) mv_Reader_result (Or.inl (tbk_mem (j := 6) (k := 211) rfl)) rfl (by decide +kernel) (Nat.le_of_ble_eq_true rfl) (Nat.le_of_ble_eq_true rfl) rfl (by decide) rfl (lk_Reader_result hγ this _ _ M h) (fun _ _ => Qi_r) (fun _ h => h) (fun v M20 hp => Qi_k (R := fun st => E γ k_Reader_member 7 94 [some (vr (some (3, this))), some (vi v1), some (vi v2), some (vi v3), some (vi v4), none] st M20 (Qx (9, 0) (Qv Q) X)) hp (fun r21 h => ?_))
    refine E_goto (off := 7) (tgt := 101) (by decide +kernel) (by decide) ?_
    refine E_mask [true, true, false, true, true, false] rfl ?_
    exact lk_Reader_member_j101 hγ this Q X v1 v3 v4 r21 M20 h
set_option maxRecDepth 4096 in
theorem lk_Reader_member_j57 {γ : Gm} (hγ : Gk γ) (this : Nat) (Q : Mem → Prop) (X : Mem → Prop) (v1 : Int32) (v2 : Int32) (v3 : Int32) (M : Mem) (h : w_Reader_member_j57 this Q X v1 v2 v3 M) : E γ k_Reader_member 7 57 [some (vr (some (3, this))), some (vi v1), some (vi v2), some (vi v3), none, none] [] M (Qx (9, 0) (Qv Q) X) := by
  unfold w_Reader_member_j57 at h
  refine E_blk (lv' := [some (vr (some (3, this))), some (vi v1), some (vi v2), some (vi v3), some (vi (mI M 2 0 5)), none]) (st' := [vr (some (2, 0))]) (M1 := M) (pc' := 70) (tb_Reader hγ) [.aload_n 0, .getfield 20, .getfield 136, .istore 4, .aload_n 0, .getfield 20] (by decide +kernel) rfl rfl trivial ?_
  refine E_callV (κ' := k_Words_next) (As := []) (st := []) mv_Words_next (Or.inl (tbk_mem (j := 6) (k := 53) rfl)) rfl (by decide +kernel) (Nat.le_of_ble_eq_true rfl) (Nat.le_of_ble_eq_true rfl) rfl (by decide) (lk_Words_next hγ 0 _ M h) (fun _ _ => Qv_r) (fun v M11 hp => Qv_k (R := fun st => E γ k_Reader_member 7 73 [some (vr (some (3, this))), some (vi v1), some (vi v2), some (vi v3), some (vi (mI M 2 0 5)), none] st M11 (Qx (9, 0) (Qv Q) X)) hp (fun h => ?_))
  refine E_blk (lv' := [some (vr (some (3, this))), some (vi v1), some (vi v2), some (vi v3), some (vi (mI M 2 0 5)), none]) (st' := [vi v2]) (M1 := (sI M11 3 this 18 (0 : Int32))) (pc' := 79) (tb_Reader hγ) [.aload_n 0, .iconst 0, .putfield 167, .iload_n 2] (by decide +kernel) rfl rfl trivial ?_
  refine E_if_eq (off := 7) (tgt := 86) (by decide +kernel) (by decide) (fun b12 => ?_) (fun b12 => ?_)
  · rw [if_pos b12] at h
    refine E_mask [true, true, true, true, true, false] rfl ?_
    exact lk_Reader_member_j86 hγ this Q X v1 v2 v3 (mI M 2 0 5) (sI M11 3 this 18 (0 : Int32)) h
  · rw [if_neg b12] at h
    refine E_blk (lv' := [some (vr (some (3, this))), some (vi v1), some (vi v2), some (vi v3), some (vi (mI M 2 0 5)), none]) (st' := [vr (some (3, this))]) (M1 := (sI M11 3 this 18 (0 : Int32))) (pc' := 83) (tb_Reader hγ) [.aload_n 0] (by decide +kernel) rfl rfl trivial ?_
    refine E_callX (κ' := k_Reader_types) (As := []) (st := []) mv_Reader_types (Or.inl (tbk_mem (j := 6) (k := 207) rfl)) rfl (by decide +kernel) (Nat.le_of_ble_eq_true rfl) (Nat.le_of_ble_eq_true rfl) rfl (by decide) rfl (lk_Reader_types hγ this _ _ (sI M11 3 this 18 (0 : Int32)) h) (fun _ _ => Qv_r) (fun _ h => h) (fun v M22 hp => Qv_k (R := fun st => E γ k_Reader_member 7 86 [some (vr (some (3, this))), some (vi v1), some (vi v2), some (vi v3), some (vi (mI M 2 0 5)), none] st M22 (Qx (9, 0) (Qv Q) X)) hp (fun h => ?_))
    refine E_mask [true, true, true, true, true, false] rfl ?_
    exact lk_Reader_member_j86 hγ this Q X v1 v2 v3 (mI M 2 0 5) M22 h
set_option maxRecDepth 4096 in
theorem lk_Reader_member {γ : Gm} (hγ : Gk γ) (this : Nat) (a1 : Int32) (a2 : Int32) (Q : Mem → Prop) (X : Mem → Prop) (M : Mem) (h : w_Reader_member this a1 a2 Q X M) : E γ k_Reader_member 7 0 [some (vr (some (3, this))), some (vi a1), some (vi a2), none, none, none] [] M (Qx (9, 0) (Qv Q) X) := by
  unfold w_Reader_member at h
  refine E_blk (lv' := [some (vr (some (3, this))), some (vi a1), some (vi a2), none, none, none]) (st' := [vr (some (3, this))]) (M1 := M) (pc' := 1) (tb_Reader hγ) [.aload_n 0] (by decide +kernel) rfl rfl trivial ?_
  refine E_callX (κ' := k_Reader_className) (As := []) (st := []) mv_Reader_className (Or.inl (tbk_mem (j := 6) (k := 130) rfl)) rfl (by decide +kernel) (Nat.le_of_ble_eq_true rfl) (Nat.le_of_ble_eq_true rfl) rfl (by decide) rfl (lk_Reader_className hγ this _ _ M h) (fun _ _ => Qi_r) (fun _ h => h) (fun v M1 hp => Qi_k (R := fun st => E γ k_Reader_member 7 4 [some (vr (some (3, this))), some (vi a1), some (vi a2), none, none, none] st M1 (Qx (9, 0) (Qv Q) X)) hp (fun r2 h => ?_))
  refine E_blk (lv' := [some (vr (some (3, this))), some (vi a1), some (vi a2), some (vi r2), none, none]) (st' := [vi (46 : Int32), vr (some (3, this))]) (M1 := M1) (pc' := 8) (tb_Reader hγ) [.istore_n 3, .aload_n 0, .bipush 46] (by decide +kernel) rfl rfl trivial ?_
  refine E_callX (κ' := k_Reader_sign) (As := [vi (46 : Int32)]) (st := []) mv_Reader_sign (Or.inl (tbk_mem (j := 6) (k := 139) rfl)) rfl (by decide +kernel) (Nat.le_of_ble_eq_true rfl) (Nat.le_of_ble_eq_true rfl) rfl (by decide) rfl (lk_Reader_sign hγ this (46 : Int32) _ _ M1 h) (fun _ _ => Qv_r) (fun _ h => h) (fun v M3 hp => Qv_k (R := fun st => E γ k_Reader_member 7 11 [some (vr (some (3, this))), some (vi a1), some (vi a2), some (vi r2), none, none] st M3 (Qx (9, 0) (Qv Q) X)) hp (fun h => ?_))
  refine E_blk (lv' := [some (vr (some (3, this))), some (vi a1), some (vi a2), some (vi r2), none, none]) (st' := [vr (mR M3 2 0 3)]) (M1 := M3) (pc' := 18) (tb_Reader hγ) [.aload_n 0, .getfield 20, .getfield 98] (by decide +kernel) rfl rfl trivial ?_
  refine E_gets (κ := k_Reader_member) (pc := 18) (j := 0) (idx := 133) (n := "NAME") hγ.2.1 rfl (tbk_mem (j := 6) (k := 134) rfl) (by decide +kernel) ?_
  obtain ⟨c5, h⟩ := h
  refine E_acmp_ne (off := 31) (tgt := 52) hγ.2.1 c5 (isK_c 0 (by decide)) (by decide +kernel) (by decide) (fun b4 => ?_) (fun b4 => ?_)
  · rw [if_pos b4] at h
    refine E_blk (lv' := [some (vr (some (3, this))), some (vi a1), some (vi a2), some (vi r2), none, none]) (st' := [vi (80 : Int32), vi (mI M3 2 0 5)]) (M1 := M3) (pc' := 33) (tb_Reader hγ) [.aload_n 0, .getfield 20, .getfield 136, .bipush 80] (by decide +kernel) rfl rfl trivial ?_
    refine E_icmp_eq (off := 19) (tgt := 52) (by decide +kernel) (by decide) (fun b6 => ?_) (fun b6 => ?_)
    · rw [if_pos b6] at h
      refine E_mask [true, false, false, false, false, false] rfl ?_
      exact lk_Reader_member_j52 hγ this Q X  M3 h
    · rw [if_neg b6] at h
      refine E_blk (lv' := [some (vr (some (3, this))), some (vi a1), some (vi a2), some (vi r2), none, none]) (st' := [vi (79 : Int32), vi (mI M3 2 0 5)]) (M1 := M3) (pc' := 45) (tb_Reader hγ) [.aload_n 0, .getfield 20, .getfield 136, .bipush 79] (by decide +kernel) rfl rfl trivial ?_
      refine E_icmp_ne (off := 12) (tgt := 57) (by decide +kernel) (by decide) (fun b9 => ?_) (fun b9 => ?_)
      · rw [if_pos b9] at h
        refine E_blk (lv' := [some (vr (some (3, this))), some (vi a1), some (vi a2), some (vi r2), none, none]) (st' := [vi a2]) (M1 := M3) (pc' := 49) (tb_Reader hγ) [.iload_n 2] (by decide +kernel) rfl rfl trivial ?_
        refine E_if_ne (off := 8) (tgt := 57) (by decide +kernel) (by decide) (fun b10 => ?_) (fun b10 => ?_)
        · rw [if_pos b10] at h
          refine E_mask [true, false, false, false, false, false] rfl ?_
          exact lk_Reader_member_j52 hγ this Q X  M3 h
        · rw [if_neg b10] at h
          refine E_mask [true, true, true, true, false, false] rfl ?_
          exact lk_Reader_member_j57 hγ this Q X a1 a2 r2 M3 h
      · rw [if_neg b9] at h
        refine E_mask [true, true, true, true, false, false] rfl ?_
        exact lk_Reader_member_j57 hγ this Q X a1 a2 r2 M3 h
  · rw [if_neg b4] at h
    refine E_mask [true, false, false, false, false, false] rfl ?_
    exact lk_Reader_member_j52 hγ this Q X  M3 h
def w_Reader_operands_j209 (this : Nat) (Q : Mem → Prop) (X : Mem → Prop) (k166 : Int32 → Mem → Prop) (v2 : Int32) (M : Mem) : Prop :=
  ∃ i34, (mR M 3 this 1) = some (5, i34) ∧ w_Reader_used this (1 : Int32) (mI M 5 i34 49) (fun M35 => ∃ i36, (mR M35 3 this 1) = some (5, i36) ∧ ∃ i37, (mR (sI M35 5 i36 49 ((mI M35 5 i36 49) + (1 : Int32))) 3 this 1) = some (5, i37) ∧ vp_in v2 (mL (sI M35 5 i36 49 ((mI M35 5 i36 49) + (1 : Int32))) 69 i37) ∧ vp_in v2 (mL (sI M35 5 i36 49 ((mI M35 5 i36 49) + (1 : Int32))) 69 i37) ∧ ∃ M40, M40 = (sI (sI M35 5 i36 49 ((mI M35 5 i36 49) + (1 : Int32))) 69 i37 v2.toNatClampNeg ((mI (sI M35 5 i36 49 ((mI M35 5 i36 49) + (1 : Int32))) 69 i37 v2.toNatClampNeg) + (1 : Int32))) ∧ k166 v2 M40) X M
def w_Reader_operands_j191 (this : Nat) (Q : Mem → Prop) (X : Mem → Prop) (k166 : Int32 → Mem → Prop) (v2 : Int32) (M : Mem) : Prop :=
  ∃ i31, (mR M 3 this 1) = some (5, i31) ∧ vp_in v2 (mL M 69 i31) ∧ if (mI M 69 i31 v2.toNatClampNeg) ≤ 0 then (w_Reader_operands_j209 this Q X k166 v2 M) else (w_Reader_sign this (44 : Int32) (fun M41 => w_Reader_operands_j209 this Q X k166 v2 M41) X M)
def w_Reader_operands_L166 (this : Nat) (Q : Mem → Prop) (X : Mem → Prop) : Nat → Int32 → Mem → Prop
  | 0, _, _ => False
  | n + 1, v2, M => ∃ i28, (mR M 3 this 1) = some (5, i28) ∧ vp_in v2 (mL M 69 i28) ∧ if (mI M 69 i28 v2.toNatClampNeg) = 0 then (w_Reader_operands_j191 this Q X (w_Reader_operands_L166 this Q X n) v2 M) else (isK (mR M 2 0 3) ∧ if (mR M 2 0 3) = (some (0, 100 + 3)) then (Q M) else (w_Reader_operands_j191 this Q X (w_Reader_operands_L166 this Q X n) v2 M))
def w_Reader_operands_j268 (this : Nat) (Q : Mem → Prop) (X : Mem → Prop) (v2 : Int32) (M : Mem) : Prop :=
  ∃ i46, (mR M 3 this 1) = some (5, i46) ∧ w_Reader_className this (fun r48 M47 => vp_in v2 (mL M47 67 i46) ∧ Q (sI M47 67 i46 v2.toNatClampNeg r48)) X M
def w_Reader_operands (this : Nat) (a1 : Int32) (a2 : Int32) (a3 : Int32) (Q : Mem → Prop) (X : Mem → Prop) (M : Mem) : Prop :=
  ∃ i1, (mR M 3 this 1) = some (5, i1) ∧ vp_in a2 (mL M 67 i1) ∧ ∃ i3, (mR (sI M 67 i1 a2.toNatClampNeg (0 : Int32)) 3 this 1) = some (5, i3) ∧ vp_in a2 (mL (sI M 67 i1 a2.toNatClampNeg (0 : Int32)) 68 i3) ∧ ∃ M5, M5 = (sI (sI M 67 i1 a2.toNatClampNeg (0 : Int32)) 68 i3 a2.toNatClampNeg (0 : Int32)) ∧ ∃ i6, (mR M5 3 this 1) = some (5, i6) ∧ vp_in a2 (mL M5 69 i6) ∧ if a1 = (1 : Int32) then (∃ i9, (mR (sI M5 69 i6 a2.toNatClampNeg (0 : Int32)) 3 this 1) = some (5, i9) ∧ w_Reader_number this (-2147483648 : Int32) (2147483647 : Int32) (fun r11 M10 => vp_in a2 (mL M10 67 i9) ∧ Q (sI M10 67 i9 a2.toNatClampNeg r11)) X (sI M5 69 i6 a2.toNatClampNeg (0 : Int32))) else (w_Works_isIn a1 (3 : Int32) (7 : Int32) (fun r14 M13 => if r14 = 0 then (w_Works_isIn a1 (23 : Int32) (39 : Int32) (fun r17 M16 => if r17 = 0 then (if a1 = (40 : Int32) then (∃ i20, (mR M16 3 this 1) = some (5, i20) ∧ w_Reader_number this (-2147483648 : Int32) (2147483647 : Int32) (fun r22 M21 => vp_in a2 (mL M21 67 i20) ∧ ∃ i24, (mR (sI M21 67 i20 a2.toNatClampNeg r22) 3 this 1) = some (5, i24) ∧ ∃ i25, (mR (sI M21 67 i20 a2.toNatClampNeg r22) 3 this 1) = some (5, i25) ∧ vp_in a2 (mL (sI M21 67 i20 a2.toNatClampNeg r22) 68 i24) ∧ ∃ M27, M27 = (sI (sI M21 67 i20 a2.toNatClampNeg r22) 68 i24 a2.toNatClampNeg (mI (sI M21 67 i20 a2.toNatClampNeg r22) 5 i25 49)) ∧ ∃ n44 : Nat, w_Reader_operands_L166 this Q X n44 a2 M27) X M16) else (if a1 = (41 : Int32) then (w_Reader_operands_j268 this Q X a2 M16) else (if a1 = (54 : Int32) then (w_Reader_operands_j268 this Q X a2 M16) else (if a1 = (55 : Int32) then (w_Reader_operands_j268 this Q X a2 M16) else (w_Works_isIn a1 (46 : Int32) (49 : Int32) (fun r53 M52 => if r53 = 0 then (w_Works_isIn a1 (50 : Int32) (53 : Int32) (fun r56 M55 => if r56 = 0 then (Q M55) else (w_Reader_member this a2 (1 : Int32) (fun M58 => Q M58) X M55)) M52) else (w_Reader_member this a2 (0 : Int32) (fun M59 => Q M59) X M52)) M16))))) else (w_Reader_used this (0 : Int32) a2 (fun M60 => Q M60) X M16)) M13) else (∃ i61, (mR M13 3 this 1) = some (5, i61) ∧ w_Reader_number this (0 : Int32) (19 : Int32) (fun r63 M62 => vp_in a2 (mL M62 67 i61) ∧ if a1 = (7 : Int32) then (∃ i66, (mR (sI M62 67 i61 a2.toNatClampNeg r63) 3 this 1) = some (5, i66) ∧ w_Reader_number this (-2147483648 : Int32) (2147483647 : Int32) (fun r68 M67 => vp_in a2 (mL M67 68 i66) ∧ Q (sI M67 68 i66 a2.toNatClampNeg r68)) X (sI M62 67 i61 a2.toNatClampNeg r63)) else (Q (sI M62 67 i61 a2.toNatClampNeg r63))) X M13)) (sI M5 69 i6 a2.toNatClampNeg (0 : Int32)))
set_option maxRecDepth 4096 in
theorem lk_Reader_operands_j209 {γ : Gm} (hγ : Gk γ) (this : Nat) (Q : Mem → Prop) (X : Mem → Prop) (k166 : Int32 → Mem → Prop) (hk166 : ∀ (v2 : Int32) (M : Mem), k166 v2 M → E γ k_Reader_operands 8 166 [some (vr (some (3, this))), none, some (vi v2), none] [] M (Qx (9, 0) (Qv Q) X)) (v2 : Int32) (M : Mem) (h : w_Reader_operands_j209 this Q X k166 v2 M) : E γ k_Reader_operands 8 209 [some (vr (some (3, this))), none, some (vi v2), none] [] M (Qx (9, 0) (Qv Q) X) := by
  unfold w_Reader_operands_j209 at h
  refine E_blk (lv' := [some (vr (some (3, this))), none, some (vi v2), none]) (st' := [vr (mR M 3 this 1), vi (1 : Int32), vr (some (3, this))]) (M1 := M) (pc' := 215) (tb_Reader hγ) [.aload_n 0, .iconst 1, .aload_n 0, .getfield 52] (by decide +kernel) rfl rfl trivial ?_
  obtain ⟨i34, ei34, h⟩ := h
  rw [ei34]
  refine E_blk (lv' := [some (vr (some (3, this))), none, some (vi v2), none]) (st' := [vi (mI M 5 i34 49), vi (1 : Int32), vr (some (3, this))]) (M1 := M) (pc' := 218) (tb_Reader hγ) [.getfield 74] (by decide +kernel) rfl rfl trivial ?_
  refine E_callX (κ' := k_Reader_used) (As := [vi (1 : Int32), vi (mI M 5 i34 49)]) (st := []) mv_Reader_used (Or.inl (tbk_mem (j := 7) (k := 4) rfl)) rfl (by decide +kernel) (Nat.le_of_ble_eq_true rfl) (Nat.le_of_ble_eq_true rfl) rfl (by decide) rfl (lk_Reader_used hγ this (1 : Int32) (mI M 5 i34 49) _ _ M h) (fun _ _ => Qv_r) (fun _ h => h) (fun v M35 hp => Qv_k (R := fun st => E γ k_Reader_operands 8 221 [some (vr (some (3, this))), none, some (vi v2), none] st M35 (Qx (9, 0) (Qv Q) X)) hp (fun h => ?_))
  refine E_blk (lv' := [some (vr (some (3, this))), none, some (vi v2), none]) (st' := [vr (mR M35 3 this 1)]) (M1 := M35) (pc' := 225) (tb_Reader hγ) [.aload_n 0, .getfield 52] (by decide +kernel) rfl rfl trivial ?_
  obtain ⟨i36, ei36, h⟩ := h
  rw [ei36]
  refine E_blk (lv' := [some (vr (some (3, this))), none, some (vi v2), none]) (st' := [vr (mR (sI M35 5 i36 49 ((mI M35 5 i36 49) + (1 : Int32))) 3 this 1)]) (M1 := (sI M35 5 i36 49 ((mI M35 5 i36 49) + (1 : Int32)))) (pc' := 238) (tb_Reader hγ) [.dup, .getfield 74, .iconst 1, .iadd, .putfield 74, .aload_n 0, .getfield 52] (by decide +kernel) rfl rfl trivial ?_
  obtain ⟨i37, ei37, h⟩ := h
  rw [ei37]
  obtain ⟨c38, c39, h⟩ := h
  refine E_blk (lv' := [some (vr (some (3, this))), none, some (vi v2), none]) (st' := []) (M1 := (sI (sI M35 5 i36 49 ((mI M35 5 i36 49) + (1 : Int32))) 69 i37 v2.toNatClampNeg ((mI (sI M35 5 i36 49 ((mI M35 5 i36 49) + (1 : Int32))) 69 i37 v2.toNatClampNeg) + (1 : Int32)))) (pc' := 247) (tb_Reader hγ) [.getfield 385, .iload_n 2, .dup2, .iaload, .iconst 1, .iadd, .iastore] (by decide +kernel) rfl rfl ⟨c38, c39, trivial⟩ ?_
  obtain ⟨M40, eM40, h⟩ := h
  rw [← eM40]
  refine E_goto (off := -81) (tgt := 166) (by decide +kernel) (by decide) ?_
  refine E_mask [true, false, true, false] rfl ?_
  exact hk166 v2 M40 h
set_option maxRecDepth 4096 in
theorem lk_Reader_operands_j191 {γ : Gm} (hγ : Gk γ) (this : Nat) (Q : Mem → Prop) (X : Mem → Prop) (k166 : Int32 → Mem → Prop) (hk166 : ∀ (v2 : Int32) (M : Mem), k166 v2 M → E γ k_Reader_operands 8 166 [some (vr (some (3, this))), none, some (vi v2), none] [] M (Qx (9, 0) (Qv Q) X)) (v2 : Int32) (M : Mem) (h : w_Reader_operands_j191 this Q X k166 v2 M) : E γ k_Reader_operands 8 191 [some (vr (some (3, this))), none, some (vi v2), none] [] M (Qx (9, 0) (Qv Q) X) := by
  unfold w_Reader_operands_j191 at h
  refine E_blk (lv' := [some (vr (some (3, this))), none, some (vi v2), none]) (st' := [vr (mR M 3 this 1)]) (M1 := M) (pc' := 195) (tb_Reader hγ) [.aload_n 0, .getfield 52] (by decide +kernel) rfl rfl trivial ?_
  obtain ⟨i31, ei31, h⟩ := h
  rw [ei31]
  obtain ⟨c32, h⟩ := h
  refine E_blk (lv' := [some (vr (some (3, this))), none, some (vi v2), none]) (st' := [vi (mI M 69 i31 v2.toNatClampNeg)]) (M1 := M) (pc' := 200) (tb_Reader hγ) [.getfield 385, .iload_n 2, .iaload] (by decide +kernel) rfl rfl ⟨c32, trivial⟩ ?_
  refine E_if_le (off := 9) (tgt := 209) (by decide +kernel) (by decide) (fun b33 => ?_) (fun b33 => ?_)
  · rw [if_pos b33] at h
    refine E_mask [true, false, true, false] rfl ?_
    exact lk_Reader_operands_j209 hγ this Q X k166 hk166 v2 M h
  · rw [if_neg b33] at h
    refine E_blk (lv' := [some (vr (some (3, this))), none, some (vi v2), none]) (st' := [vi (44 : Int32), vr (some (3, this))]) (M1 := M) (pc' := 206) (tb_Reader hγ) [.aload_n 0, .bipush 44] (by decide +kernel) rfl rfl trivial ?_
    refine E_callX (κ' := k_Reader_sign) (As := [vi (44 : Int32)]) (st := []) mv_Reader_sign (Or.inl (tbk_mem (j := 6) (k := 139) rfl)) rfl (by decide +kernel) (Nat.le_of_ble_eq_true rfl) (Nat.le_of_ble_eq_true rfl) rfl (by decide) rfl (lk_Reader_sign hγ this (44 : Int32) _ _ M h) (fun _ _ => Qv_r) (fun _ h => h) (fun v M41 hp => Qv_k (R := fun st => E γ k_Reader_operands 8 209 [some (vr (some (3, this))), none, some (vi v2), none] st M41 (Qx (9, 0) (Qv Q) X)) hp (fun h => ?_))
    refine E_mask [true, false, true, false] rfl ?_
    exact lk_Reader_operands_j209 hγ this Q X k166 hk166 v2 M41 h
set_option maxRecDepth 4096 in
theorem lk_Reader_operands_L166 {γ : Gm} (hγ : Gk γ) (this : Nat) (Q : Mem → Prop) (X : Mem → Prop) : ∀ (n : Nat) (v2 : Int32) (M : Mem), w_Reader_operands_L166 this Q X n v2 M → E γ k_Reader_operands 8 166 [some (vr (some (3, this))), none, some (vi v2), none] [] M (Qx (9, 0) (Qv Q) X) := by
  intro n
  induction n with
  | zero => intro v2 M h; exact h.elim
  | succ n ih =>
    intro v2 M h
    unfold w_Reader_operands_L166 at h
    refine E_blk (lv' := [some (vr (some (3, this))), none, some (vi v2), none]) (st' := [vr (mR M 3 this 1)]) (M1 := M) (pc' := 170) (tb_Reader hγ) [.aload_n 0, .getfield 52] (by decide +kernel) rfl rfl trivial ?_
    obtain ⟨i28, ei28, h⟩ := h
    rw [ei28]
    obtain ⟨c29, h⟩ := h
    refine E_blk (lv' := [some (vr (some (3, this))), none, some (vi v2), none]) (st' := [vi (mI M 69 i28 v2.toNatClampNeg)]) (M1 := M) (pc' := 175) (tb_Reader hγ) [.getfield 385, .iload_n 2, .iaload] (by decide +kernel) rfl rfl ⟨c29, trivial⟩ ?_
    refine E_if_eq (off := 16) (tgt := 191) (by decide +kernel) (by decide) (fun b30 => ?_) (fun b30 => ?_)
    · rw [if_pos b30] at h
      refine E_mask [true, false, true, false] rfl ?_
      exact lk_Reader_operands_j191 hγ this Q X (w_Reader_operands_L166 this Q X n) ih v2 M h
    · rw [if_neg b30] at h
      refine E_blk (lv' := [some (vr (some (3, this))), none, some (vi v2), none]) (st' := [vr (mR M 2 0 3)]) (M1 := M) (pc' := 185) (tb_Reader hγ) [.aload_n 0, .getfield 20, .getfield 98] (by decide +kernel) rfl rfl trivial ?_
      refine E_gets (κ := k_Reader_operands) (pc := 185) (j := 3) (idx := 102) (n := "END") hγ.2.1 rfl (tbk_mem (j := 6) (k := 105) rfl) (by decide +kernel) ?_
      obtain ⟨c43, h⟩ := h
      refine E_acmp_eq (off := 133) (tgt := 321) hγ.2.1 c43 (isK_c 3 (by decide)) (by decide +kernel) (by decide) (fun b42 => ?_) (fun b42 => ?_)
      · rw [if_pos b42] at h
        exact (E_vret rfl (by decide +kernel) h).nx
      · rw [if_neg b42] at h
        refine E_mask [true, false, true, false] rfl ?_
        exact lk_Reader_operands_j191 hγ this Q X (w_Reader_operands_L166 this Q X n) ih v2 M h
set_option maxRecDepth 4096 in
theorem lk_Reader_operands_j268 {γ : Gm} (hγ : Gk γ) (this : Nat) (Q : Mem → Prop) (X : Mem → Prop) (v2 : Int32) (M : Mem) (h : w_Reader_operands_j268 this Q X v2 M) : E γ k_Reader_operands 8 268 [some (vr (some (3, this))), none, some (vi v2), none] [] M (Qx (9, 0) (Qv Q) X) := by
  unfold w_Reader_operands_j268 at h
  refine E_blk (lv' := [some (vr (some (3, this))), none, some (vi v2), none]) (st' := [vr (mR M 3 this 1)]) (M1 := M) (pc' := 272) (tb_Reader hγ) [.aload_n 0, .getfield 52] (by decide +kernel) rfl rfl trivial ?_
  obtain ⟨i46, ei46, h⟩ := h
  rw [ei46]
  refine E_blk (lv' := [some (vr (some (3, this))), none, some (vi v2), none]) (st' := [vr (some (3, this)), vi v2, vr (some (67, i46))]) (M1 := M) (pc' := 277) (tb_Reader hγ) [.getfield 379, .iload_n 2, .aload_n 0] (by decide +kernel) rfl rfl trivial ?_
  refine E_callX (κ' := k_Reader_className) (As := []) (st := [vi v2, vr (some (67, i46))]) mv_Reader_className (Or.inl (tbk_mem (j := 6) (k := 130) rfl)) rfl (by decide +kernel) (Nat.le_of_ble_eq_true rfl) (Nat.le_of_ble_eq_true rfl) rfl (by decide) rfl (lk_Reader_className hγ this _ _ M h) (fun _ _ => Qi_r) (fun _ h => h) (fun v M47 hp => Qi_k (R := fun st => E γ k_Reader_operands 8 280 [some (vr (some (3, this))), none, some (vi v2), none] st M47 (Qx (9, 0) (Qv Q) X)) hp (fun r48 h => ?_))
  obtain ⟨c49, h⟩ := h
  refine E_blk (lv' := [some (vr (some (3, this))), none, some (vi v2), none]) (st' := []) (M1 := (sI M47 67 i46 v2.toNatClampNeg r48)) (pc' := 281) (tb_Reader hγ) [.iastore] (by decide +kernel) rfl rfl ⟨c49, trivial⟩ ?_
  refine E_goto (off := 40) (tgt := 321) (by decide +kernel) (by decide) ?_
  exact (E_vret rfl (by decide +kernel) h).nx
set_option maxRecDepth 4096 in
theorem lk_Reader_operands {γ : Gm} (hγ : Gk γ) (this : Nat) (a1 : Int32) (a2 : Int32) (a3 : Int32) (Q : Mem → Prop) (X : Mem → Prop) (M : Mem) (h : w_Reader_operands this a1 a2 a3 Q X M) : E γ k_Reader_operands 8 0 [some (vr (some (3, this))), some (vi a1), some (vi a2), some (vi a3)] [] M (Qx (9, 0) (Qv Q) X) := by
  unfold w_Reader_operands at h
  refine E_blk (lv' := [some (vr (some (3, this))), some (vi a1), some (vi a2), some (vi a3)]) (st' := [vr (mR M 3 this 1)]) (M1 := M) (pc' := 4) (tb_Reader hγ) [.aload_n 0, .getfield 52] (by decide +kernel) rfl rfl trivial ?_
  obtain ⟨i1, ei1, h⟩ := h
  rw [ei1]
  obtain ⟨c2, h⟩ := h
  refine E_blk (lv' := [some (vr (some (3, this))), some (vi a1), some (vi a2), some (vi a3)]) (st' := [vr (mR (sI M 67 i1 a2.toNatClampNeg (0 : Int32)) 3 this 1)]) (M1 := (sI M 67 i1 a2.toNatClampNeg (0 : Int32))) (pc' := 14) (tb_Reader hγ) [.getfield 379, .iload_n 2, .iconst 0, .iastore, .aload_n 0, .getfield 52] (by decide +kernel) rfl rfl ⟨c2, trivial⟩ ?_
  obtain ⟨i3, ei3, h⟩ := h
  rw [ei3]
  obtain ⟨c4, h⟩ := h
  refine E_blk (lv' := [some (vr (some (3, this))), some (vi a1), some (vi a2), some (vi a3)]) (st' := []) (M1 := (sI (sI M 67 i1 a2.toNatClampNeg (0 : Int32)) 68 i3 a2.toNatClampNeg (0 : Int32))) (pc' := 20) (tb_Reader hγ) [.getfield 382, .iload_n 2, .iconst 0, .iastore] (by decide +kernel) rfl rfl ⟨c4, trivial⟩ ?_
  obtain ⟨M5, eM5, h⟩ := h
  rw [← eM5]
  refine E_blk (lv' := [some (vr (some (3, this))), some (vi a1), some (vi a2), some (vi a3)]) (st' := [vr (mR M5 3 this 1)]) (M1 := M5) (pc' := 24) (tb_Reader hγ) [.aload_n 0, .getfield 52] (by decide +kernel) rfl rfl trivial ?_
  obtain ⟨i6, ei6, h⟩ := h
  rw [ei6]
  obtain ⟨c7, h⟩ := h
  refine E_blk (lv' := [some (vr (some (3, this))), some (vi a1), some (vi a2), some (vi a3)]) (st' := [vi (1 : Int32), vi a1]) (M1 := (sI M5 69 i6 a2.toNatClampNeg (0 : Int32))) (pc' := 32) (tb_Reader hγ) [.getfield 385, .iload_n 2, .iconst 0, .iastore, .iload_n 1, .iconst 1] (by decide +kernel) rfl rfl ⟨c7, trivial⟩ ?_
  refine E_icmp_ne (off := 23) (tgt := 55) (by decide +kernel) (by decide) (fun b8 => ?_) (fun b8 => ?_)
  · rw [if_pos b8] at h
    refine E_blk (lv' := [some (vr (some (3, this))), some (vi a1), some (vi a2), some (vi a3)]) (st' := [vr (mR (sI M5 69 i6 a2.toNatClampNeg (0 : Int32)) 3 this 1)]) (M1 := (sI M5 69 i6 a2.toNatClampNeg (0 : Int32))) (pc' := 39) (tb_Reader hγ) [.aload_n 0, .getfield 52] (by decide +kernel) rfl rfl trivial ?_
    obtain ⟨i9, ei9, h⟩ := h
    rw [ei9]
    refine E_blk (lv' := [some (vr (some (3, this))), some (vi a1), some (vi a2), some (vi a3)]) (st' := [vi (2147483647 : Int32), vi (-2147483648 : Int32), vr (some (3, this)), vi a2, vr (some (67, i9))]) (M1 := (sI M5 69 i6 a2.toNatClampNeg (0 : Int32))) (pc' := 48) (tb_Reader hγ) [.getfield 379, .iload_n 2, .aload_n 0, .ldc 217, .ldc 218] (by decide +kernel) rfl rfl trivial ?_
    refine E_callX (κ' := k_Reader_number) (As := [vi (-2147483648 : Int32), vi (2147483647 : Int32)]) (st := [vi a2, vr (some (67, i9))]) mv_Reader_number (Or.inl (tbk_mem (j := 6) (k := 185) rfl)) rfl (by decide +kernel) (Nat.le_of_ble_eq_true rfl) (Nat.le_of_ble_eq_true rfl) rfl (by decide) rfl (lk_Reader_number hγ this (-2147483648 : Int32) (2147483647 : Int32) _ _ (sI M5 69 i6 a2.toNatClampNeg (0 : Int32)) h) (fun _ _ => Qi_r) (fun _ h => h) (fun v M10 hp => Qi_k (R := fun st => E γ k_Reader_operands 8 51 [some (vr (some (3, this))), some (vi a1), some (vi a2), some (vi a3)] st M10 (Qx (9, 0) (Qv Q) X)) hp (fun r11 h => ?_))
    obtain ⟨c12, h⟩ := h
    refine E_blk (lv' := [some (vr (some (3, this))), some (vi a1), some (vi a2), some (vi a3)]) (st' := []) (M1 := (sI M10 67 i9 a2.toNatClampNeg r11)) (pc' := 52) (tb_Reader hγ) [.iastore] (by decide +kernel) rfl rfl ⟨c12, trivial⟩ ?_
    refine E_goto (off := 269) (tgt := 321) (by decide +kernel) (by decide) ?_
    exact (E_vret rfl (by decide +kernel) h).nx
  · rw [if_neg b8] at h
    refine E_blk (lv' := [some (vr (some (3, this))), some (vi a1), some (vi a2), some (vi a3)]) (st' := [vi (7 : Int32), vi (3 : Int32), vi a1]) (M1 := (sI M5 69 i6 a2.toNatClampNeg (0 : Int32))) (pc' := 59) (tb_Reader hγ) [.iload_n 1, .iconst 3, .bipush 7] (by decide +kernel) rfl rfl trivial ?_
    refine E_callS (κ' := k_Works_isIn) (As := [vi a1, vi (3 : Int32), vi (7 : Int32)]) (st := []) ms_Works_isIn (Or.inr ⟨"ClassWorks", (tbk_mem (j := 6) (k := 190) rfl)⟩) rfl (by decide +kernel) (Nat.le_of_ble_eq_true rfl) (Nat.le_of_ble_eq_true rfl) rfl (by decide) (lk_Works_isIn hγ a1 (3 : Int32) (7 : Int32) _ (sI M5 69 i6 a2.toNatClampNeg (0 : Int32)) h) (fun _ _ => Qi_r) (fun v M13 hp => Qi_k (R := fun st => E γ k_Reader_operands 8 62 [some (vr (some (3, this))), some (vi a1), some (vi a2), some (vi a3)] st M13 (Qx (9, 0) (Qv Q) X)) hp (fun r14 h => ?_))
    refine E_if_eq (off := 45) (tgt := 107) (by decide +kernel) (by decide) (fun b15 => ?_) (fun b15 => ?_)
    · rw [if_pos b15] at h
      refine E_blk (lv' := [some (vr (some (3, this))), some (vi a1), some (vi a2), some (vi a3)]) (st' := [vi (39 : Int32), vi (23 : Int32), vi a1]) (M1 := M13) (pc' := 112) (tb_Reader hγ) [.iload_n 1, .bipush 23, .bipush 39] (by decide +kernel) rfl rfl trivial ?_
      refine E_callS (κ' := k_Works_isIn) (As := [vi a1, vi (23 : Int32), vi (39 : Int32)]) (st := []) ms_Works_isIn (Or.inr ⟨"ClassWorks", (tbk_mem (j := 6) (k := 190) rfl)⟩) rfl (by decide +kernel) (Nat.le_of_ble_eq_true rfl) (Nat.le_of_ble_eq_true rfl) rfl (by decide) (lk_Works_isIn hγ a1 (23 : Int32) (39 : Int32) _ M13 h) (fun _ _ => Qi_r) (fun v M16 hp => Qi_k (R := fun st => E γ k_Reader_operands 8 115 [some (vr (some (3, this))), some (vi a1), some (vi a2), some (vi a3)] st M16 (Qx (9, 0) (Qv Q) X)) hp (fun r17 h => ?_))
      refine E_if_eq (off := 12) (tgt := 127) (by decide +kernel) (by decide) (fun b18 => ?_) (fun b18 => ?_)
      · rw [if_pos b18] at h
        refine E_blk (lv' := [some (vr (some (3, this))), some (vi a1), some (vi a2), some (vi a3)]) (st' := [vi (40 : Int32), vi a1]) (M1 := M16) (pc' := 130) (tb_Reader hγ) [.iload_n 1, .bipush 40] (by decide +kernel) rfl rfl trivial ?_
        refine E_icmp_ne (off := 120) (tgt := 250) (by decide +kernel) (by decide) (fun b19 => ?_) (fun b19 => ?_)
        · rw [if_pos b19] at h
          refine E_blk (lv' := [some (vr (some (3, this))), some (vi a1), some (vi a2), some (vi a3)]) (st' := [vr (mR M16 3 this 1)]) (M1 := M16) (pc' := 137) (tb_Reader hγ) [.aload_n 0, .getfield 52] (by decide +kernel) rfl rfl trivial ?_
          obtain ⟨i20, ei20, h⟩ := h
          rw [ei20]
          refine E_blk (lv' := [some (vr (some (3, this))), some (vi a1), some (vi a2), some (vi a3)]) (st' := [vi (2147483647 : Int32), vi (-2147483648 : Int32), vr (some (3, this)), vi a2, vr (some (67, i20))]) (M1 := M16) (pc' := 146) (tb_Reader hγ) [.getfield 379, .iload_n 2, .aload_n 0, .ldc 217, .ldc 218] (by decide +kernel) rfl rfl trivial ?_
          refine E_callX (κ' := k_Reader_number) (As := [vi (-2147483648 : Int32), vi (2147483647 : Int32)]) (st := [vi a2, vr (some (67, i20))]) mv_Reader_number (Or.inl (tbk_mem (j := 6) (k := 185) rfl)) rfl (by decide +kernel) (Nat.le_of_ble_eq_true rfl) (Nat.le_of_ble_eq_true rfl) rfl (by decide) rfl (lk_Reader_number hγ this (-2147483648 : Int32) (2147483647 : Int32) _ _ M16 h) (fun _ _ => Qi_r) (fun _ h => h) (fun v M21 hp => Qi_k (R := fun st => E γ k_Reader_operands 8 149 [some (vr (some (3, this))), some (vi a1), some (vi a2), some (vi a3)] st M21 (Qx (9, 0) (Qv Q) X)) hp (fun r22 h => ?_))
          obtain ⟨c23, h⟩ := h
          refine E_blk (lv' := [some (vr (some (3, this))), some (vi a1), some (vi a2), some (vi a3)]) (st' := [vr (mR (sI M21 67 i20 a2.toNatClampNeg r22) 3 this 1)]) (M1 := (sI M21 67 i20 a2.toNatClampNeg r22)) (pc' := 154) (tb_Reader hγ) [.iastore, .aload_n 0, .getfield 52] (by decide +kernel) rfl rfl ⟨c23, trivial⟩ ?_
          obtain ⟨i24, ei24, h⟩ := h
          rw [ei24]
          refine E_blk (lv' := [some (vr (some (3, this))), some (vi a1), some (vi a2), some (vi a3)]) (st' := [vr (mR (sI M21 67 i20 a2.toNatClampNeg r22) 3 this 1), vi a2, vr (some (68, i24))]) (M1 := (sI M21 67 i20 a2.toNatClampNeg r22)) (pc' := 162) (tb_Reader hγ) [.getfield 382, .iload_n 2, .aload_n 0, .getfield 52] (by decide +kernel) rfl rfl trivial ?_
          obtain ⟨i25, ei25, h⟩ := h
          rw [ei25]
          obtain ⟨c26, h⟩ := h
          refine E_blk (lv' := [some (vr (some (3, this))), some (vi a1), some (vi a2), some (vi a3)]) (st' := []) (M1 := (sI (sI M21 67 i20 a2.toNatClampNeg r22) 68 i24 a2.toNatClampNeg (mI (sI M21 67 i20 a2.toNatClampNeg r22) 5 i25 49))) (pc' := 166) (tb_Reader hγ) [.getfield 74, .iastore] (by decide +kernel) rfl rfl ⟨c26, trivial⟩ ?_
          obtain ⟨M27, eM27, h⟩ := h
          rw [← eM27]
          obtain ⟨n44, h⟩ := h
          refine E_mask [true, false, true, false] rfl ?_
          exact lk_Reader_operands_L166 hγ this Q X n44 a2 M27 h
        · rw [if_neg b19] at h
          refine E_blk (lv' := [some (vr (some (3, this))), some (vi a1), some (vi a2), some (vi a3)]) (st' := [vi (41 : Int32), vi a1]) (M1 := M16) (pc' := 253) (tb_Reader hγ) [.iload_n 1, .bipush 41] (by decide +kernel) rfl rfl trivial ?_
          refine E_icmp_eq (off := 15) (tgt := 268) (by decide +kernel) (by decide) (fun b45 => ?_) (fun b45 => ?_)
          · rw [if_pos b45] at h
            refine E_mask [true, false, true, false] rfl ?_
            exact lk_Reader_operands_j268 hγ this Q X a2 M16 h
          · rw [if_neg b45] at h
            refine E_blk (lv' := [some (vr (some (3, this))), some (vi a1), some (vi a2), some (vi a3)]) (st' := [vi (54 : Int32), vi a1]) (M1 := M16) (pc' := 259) (tb_Reader hγ) [.iload_n 1, .bipush 54] (by decide +kernel) rfl rfl trivial ?_
            refine E_icmp_eq (off := 9) (tgt := 268) (by decide +kernel) (by decide) (fun b50 => ?_) (fun b50 => ?_)
            · rw [if_pos b50] at h
              refine E_mask [true, false, true, false] rfl ?_
              exact lk_Reader_operands_j268 hγ this Q X a2 M16 h
            · rw [if_neg b50] at h
              refine E_blk (lv' := [some (vr (some (3, this))), some (vi a1), some (vi a2), some (vi a3)]) (st' := [vi (55 : Int32), vi a1]) (M1 := M16) (pc' := 265) (tb_Reader hγ) [.iload_n 1, .bipush 55] (by decide +kernel) rfl rfl trivial ?_
              refine E_icmp_ne (off := 19) (tgt := 284) (by decide +kernel) (by decide) (fun b51 => ?_) (fun b51 => ?_)
              · rw [if_pos b51] at h
                refine E_mask [true, false, true, false] rfl ?_
                exact lk_Reader_operands_j268 hγ this Q X a2 M16 h
              · rw [if_neg b51] at h
                refine E_blk (lv' := [some (vr (some (3, this))), some (vi a1), some (vi a2), some (vi a3)]) (st' := [vi (49 : Int32), vi (46 : Int32), vi a1]) (M1 := M16) (pc' := 289) (tb_Reader hγ) [.iload_n 1, .bipush 46, .bipush 49] (by decide +kernel) rfl rfl trivial ?_
                refine E_callS (κ' := k_Works_isIn) (As := [vi a1, vi (46 : Int32), vi (49 : Int32)]) (st := []) ms_Works_isIn (Or.inr ⟨"ClassWorks", (tbk_mem (j := 6) (k := 190) rfl)⟩) rfl (by decide +kernel) (Nat.le_of_ble_eq_true rfl) (Nat.le_of_ble_eq_true rfl) rfl (by decide) (lk_Works_isIn hγ a1 (46 : Int32) (49 : Int32) _ M16 h) (fun _ _ => Qi_r) (fun v M52 hp => Qi_k (R := fun st => E γ k_Reader_operands 8 292 [some (vr (some (3, this))), some (vi a1), some (vi a2), some (vi a3)] st M52 (Qx (9, 0) (Qv Q) X)) hp (fun r53 h => ?_))
                refine E_if_eq (off := 12) (tgt := 304) (by decide +kernel) (by decide) (fun b54 => ?_) (fun b54 => ?_)
                · rw [if_pos b54] at h
                  refine E_blk (lv' := [some (vr (some (3, this))), some (vi a1), some (vi a2), some (vi a3)]) (st' := [vi (53 : Int32), vi (50 : Int32), vi a1]) (M1 := M52) (pc' := 309) (tb_Reader hγ) [.iload_n 1, .bipush 50, .bipush 53] (by decide +kernel) rfl rfl trivial ?_
                  refine E_callS (κ' := k_Works_isIn) (As := [vi a1, vi (50 : Int32), vi (53 : Int32)]) (st := []) ms_Works_isIn (Or.inr ⟨"ClassWorks", (tbk_mem (j := 6) (k := 190) rfl)⟩) rfl (by decide +kernel) (Nat.le_of_ble_eq_true rfl) (Nat.le_of_ble_eq_true rfl) rfl (by decide) (lk_Works_isIn hγ a1 (50 : Int32) (53 : Int32) _ M52 h) (fun _ _ => Qi_r) (fun v M55 hp => Qi_k (R := fun st => E γ k_Reader_operands 8 312 [some (vr (some (3, this))), some (vi a1), some (vi a2), some (vi a3)] st M55 (Qx (9, 0) (Qv Q) X)) hp (fun r56 h => ?_))
                  refine E_if_eq (off := 9) (tgt := 321) (by decide +kernel) (by decide) (fun b57 => ?_) (fun b57 => ?_)
                  · rw [if_pos b57] at h
                    exact (E_vret rfl (by decide +kernel) h).nx
                  · rw [if_neg b57] at h
                    refine E_blk (lv' := [some (vr (some (3, this))), some (vi a1), some (vi a2), some (vi a3)]) (st' := [vi (1 : Int32), vi a2, vr (some (3, this))]) (M1 := M55) (pc' := 318) (tb_Reader hγ) [.aload_n 0, .iload_n 2, .iconst 1] (by decide +kernel) rfl rfl trivial ?_
                    refine E_callX (κ' := k_Reader_member) (As := [vi a2, vi (1 : Int32)]) (st := []) mv_Reader_member (Or.inl (tbk_mem (j := 7) (k := 20) rfl)) rfl (by decide +kernel) (Nat.le_of_ble_eq_true rfl) (Nat.le_of_ble_eq_true rfl) rfl (by decide) rfl (lk_Reader_member hγ this a2 (1 : Int32) _ _ M55 h) (fun _ _ => Qv_r) (fun _ h => h) (fun v M58 hp => Qv_k (R := fun st => E γ k_Reader_operands 8 321 [some (vr (some (3, this))), some (vi a1), some (vi a2), some (vi a3)] st M58 (Qx (9, 0) (Qv Q) X)) hp (fun h => ?_))
                    exact (E_vret rfl (by decide +kernel) h).nx
                · rw [if_neg b54] at h
                  refine E_blk (lv' := [some (vr (some (3, this))), some (vi a1), some (vi a2), some (vi a3)]) (st' := [vi (0 : Int32), vi a2, vr (some (3, this))]) (M1 := M52) (pc' := 298) (tb_Reader hγ) [.aload_n 0, .iload_n 2, .iconst 0] (by decide +kernel) rfl rfl trivial ?_
                  refine E_callX (κ' := k_Reader_member) (As := [vi a2, vi (0 : Int32)]) (st := []) mv_Reader_member (Or.inl (tbk_mem (j := 7) (k := 20) rfl)) rfl (by decide +kernel) (Nat.le_of_ble_eq_true rfl) (Nat.le_of_ble_eq_true rfl) rfl (by decide) rfl (lk_Reader_member hγ this a2 (0 : Int32) _ _ M52 h) (fun _ _ => Qv_r) (fun _ h => h) (fun v M59 hp => Qv_k (R := fun st => E γ k_Reader_operands 8 301 [some (vr (some (3, this))), some (vi a1), some (vi a2), some (vi a3)] st M59 (Qx (9, 0) (Qv Q) X)) hp (fun h => ?_))
                  refine E_goto (off := 20) (tgt := 321) (by decide +kernel) (by decide) ?_
                  exact (E_vret rfl (by decide +kernel) h).nx
      · rw [if_neg b18] at h
        refine E_blk (lv' := [some (vr (some (3, this))), some (vi a1), some (vi a2), some (vi a3)]) (st' := [vi a2, vi (0 : Int32), vr (some (3, this))]) (M1 := M16) (pc' := 121) (tb_Reader hγ) [.aload_n 0, .iconst 0, .iload_n 2] (by decide +kernel) rfl rfl trivial ?_
        refine E_callX (κ' := k_Reader_used) (As := [vi (0 : Int32), vi a2]) (st := []) mv_Reader_used (Or.inl (tbk_mem (j := 7) (k := 4) rfl)) rfl (by decide +kernel) (Nat.le_of_ble_eq_true rfl) (Nat.le_of_ble_eq_true rfl) rfl (by decide) rfl (lk_Reader_used hγ this (0 : Int32) a2 _ _ M16 h) (fun _ _ => Qv_r) (fun _ h => h) (fun v M60 hp => Qv_k (R := fun st => E γ k_Reader_operands 8 124 [some (vr (some (3, this))), some (vi a1), some (vi a2), some (vi a3)] st M60 (Qx (9, 0) (Qv Q) X)) hp (fun h => ?_))
        refine E_goto (off := 197) (tgt := 321) (by decide +kernel) (by decide) ?_
        exact (E_vret rfl (by decide +kernel) h).nx
    · rw [if_neg b15] at h
      refine E_blk (lv' := [some (vr (some (3, this))), some (vi a1), some (vi a2), some (vi a3)]) (st' := [vr (mR M13 3 this 1)]) (M1 := M13) (pc' := 69) (tb_Reader hγ) [.aload_n 0, .getfield 52] (by decide +kernel) rfl rfl trivial ?_
      obtain ⟨i61, ei61, h⟩ := h
      rw [ei61]
      refine E_blk (lv' := [some (vr (some (3, this))), some (vi a1), some (vi a2), some (vi a3)]) (st' := [vi (19 : Int32), vi (0 : Int32), vr (some (3, this)), vi a2, vr (some (67, i61))]) (M1 := M13) (pc' := 77) (tb_Reader hγ) [.getfield 379, .iload_n 2, .aload_n 0, .iconst 0, .bipush 19] (by decide +kernel) rfl rfl trivial ?_
      refine E_callX (κ' := k_Reader_number) (As := [vi (0 : Int32), vi (19 : Int32)]) (st := [vi a2, vr (some (67, i61))]) mv_Reader_number (Or.inl (tbk_mem (j := 6) (k := 185) rfl)) rfl (by decide +kernel) (Nat.le_of_ble_eq_true rfl) (Nat.le_of_ble_eq_true rfl) rfl (by decide) rfl (lk_Reader_number hγ this (0 : Int32) (19 : Int32) _ _ M13 h) (fun _ _ => Qi_r) (fun _ h => h) (fun v M62 hp => Qi_k (R := fun st => E γ k_Reader_operands 8 80 [some (vr (some (3, this))), some (vi a1), some (vi a2), some (vi a3)] st M62 (Qx (9, 0) (Qv Q) X)) hp (fun r63 h => ?_))
      obtain ⟨c64, h⟩ := h
      refine E_blk (lv' := [some (vr (some (3, this))), some (vi a1), some (vi a2), some (vi a3)]) (st' := [vi (7 : Int32), vi a1]) (M1 := (sI M62 67 i61 a2.toNatClampNeg r63)) (pc' := 84) (tb_Reader hγ) [.iastore, .iload_n 1, .bipush 7] (by decide +kernel) rfl rfl ⟨c64, trivial⟩ ?_
      refine E_icmp_ne (off := 237) (tgt := 321) (by decide +kernel) (by decide) (fun b65 => ?_) (fun b65 => ?_)
      · rw [if_pos b65] at h
        refine E_blk (lv' := [some (vr (some (3, this))), some (vi a1), some (vi a2), some (vi a3)]) (st' := [vr (mR (sI M62 67 i61 a2.toNatClampNeg r63) 3 this 1)]) (M1 := (sI M62 67 i61 a2.toNatClampNeg r63)) (pc' := 91) (tb_Reader hγ) [.aload_n 0, .getfield 52] (by decide +kernel) rfl rfl trivial ?_
        obtain ⟨i66, ei66, h⟩ := h
        rw [ei66]
        refine E_blk (lv' := [some (vr (some (3, this))), some (vi a1), some (vi a2), some (vi a3)]) (st' := [vi (2147483647 : Int32), vi (-2147483648 : Int32), vr (some (3, this)), vi a2, vr (some (68, i66))]) (M1 := (sI M62 67 i61 a2.toNatClampNeg r63)) (pc' := 100) (tb_Reader hγ) [.getfield 382, .iload_n 2, .aload_n 0, .ldc 217, .ldc 218] (by decide +kernel) rfl rfl trivial ?_
        refine E_callX (κ' := k_Reader_number) (As := [vi (-2147483648 : Int32), vi (2147483647 : Int32)]) (st := [vi a2, vr (some (68, i66))]) mv_Reader_number (Or.inl (tbk_mem (j := 6) (k := 185) rfl)) rfl (by decide +kernel) (Nat.le_of_ble_eq_true rfl) (Nat.le_of_ble_eq_true rfl) rfl (by decide) rfl (lk_Reader_number hγ this (-2147483648 : Int32) (2147483647 : Int32) _ _ (sI M62 67 i61 a2.toNatClampNeg r63) h) (fun _ _ => Qi_r) (fun _ h => h) (fun v M67 hp => Qi_k (R := fun st => E γ k_Reader_operands 8 103 [some (vr (some (3, this))), some (vi a1), some (vi a2), some (vi a3)] st M67 (Qx (9, 0) (Qv Q) X)) hp (fun r68 h => ?_))
        obtain ⟨c69, h⟩ := h
        refine E_blk (lv' := [some (vr (some (3, this))), some (vi a1), some (vi a2), some (vi a3)]) (st' := []) (M1 := (sI M67 68 i66 a2.toNatClampNeg r68)) (pc' := 104) (tb_Reader hγ) [.iastore] (by decide +kernel) rfl rfl ⟨c69, trivial⟩ ?_
        refine E_goto (off := 217) (tgt := 321) (by decide +kernel) (by decide) ?_
        exact (E_vret rfl (by decide +kernel) h).nx
      · rw [if_neg b65] at h
        exact (E_vret rfl (by decide +kernel) h).nx
def w_Reader_instruction_j213 (this : Nat) (Q : Mem → Prop) (X : Mem → Prop) (s0 : Int32) (s1 : Int32) (s2 : Nat) (M : Mem) : Prop :=
  vp_in s1 (mL M 72 s2) ∧ ((0 : Int32) = 0 ∨ (0 : Int32) = 1) ∧ ∃ i27, (mR (sI (sI M 72 s2 s1.toNatClampNeg s0) 3 this 14 (0 : Int32)) 3 this 1) = some (5, i27) ∧ vp_in (mI (sI (sI M 72 s2 s1.toNatClampNeg s0) 3 this 14 (0 : Int32)) 3 this 4) (mL (sI (sI M 72 s2 s1.toNatClampNeg s0) 3 this 14 (0 : Int32)) 63 i27) ∧ vp_in (mI (sI (sI M 72 s2 s1.toNatClampNeg s0) 3 this 14 (0 : Int32)) 3 this 4) (mL (sI (sI M 72 s2 s1.toNatClampNeg s0) 3 this 14 (0 : Int32)) 63 i27) ∧ ∃ M30, M30 = (sI (sI (sI M 72 s2 s1.toNatClampNeg s0) 3 this 14 (0 : Int32)) 63 i27 (mI (sI (sI M 72 s2 s1.toNatClampNeg s0) 3 this 14 (0 : Int32)) 3 this 4).toNatClampNeg ((mI (sI (sI M 72 s2 s1.toNatClampNeg s0) 3 this 14 (0 : Int32)) 63 i27 (mI (sI (sI M 72 s2 s1.toNatClampNeg s0) 3 this 14 (0 : Int32)) 3 this 4).toNatClampNeg) + (1 : Int32))) ∧ ∃ i31, (mR M30 3 this 1) = some (5, i31) ∧ Q (sI M30 5 i31 39 ((mI M30 5 i31 39) + (1 : Int32)))
def w_Reader_instruction_j189 (this : Nat) (Q : Mem → Prop) (X : Mem → Prop) (v2 : Int32) (s0 : Int32) (s1 : Int32) (s2 : Nat) (M : Mem) : Prop :=
  vp_in s1 (mL M 71 s2) ∧ ∃ i23, (mR (sI M 71 s2 s1.toNatClampNeg s0) 3 this 1) = some (5, i23) ∧ if (mI (sI M 71 s2 s1.toNatClampNeg s0) 3 this 14) = 0 then (w_Reader_instruction_j213 this Q X (0 : Int32) v2 i23 (sI M 71 s2 s1.toNatClampNeg s0)) else (w_Reader_instruction_j213 this Q X (mI (sI M 71 s2 s1.toNatClampNeg s0) 3 this 21) v2 i23 (sI M 71 s2 s1.toNatClampNeg s0))
def w_Reader_instruction_j165 (this : Nat) (Q : Mem → Prop) (X : Mem → Prop) (v2 : Int32) (s0 : Int32) (s1 : Int32) (s2 : Nat) (M : Mem) : Prop :=
  vp_in s1 (mL M 70 s2) ∧ ∃ i20, (mR (sI M 70 s2 s1.toNatClampNeg s0) 3 this 1) = some (5, i20) ∧ if (mI (sI M 70 s2 s1.toNatClampNeg s0) 3 this 14) = 0 then (w_Reader_instruction_j189 this Q X v2 (0 : Int32) v2 i20 (sI M 70 s2 s1.toNatClampNeg s0)) else (w_Reader_instruction_j189 this Q X v2 (mI (sI M 70 s2 s1.toNatClampNeg s0) 3 this 20) v2 i20 (sI M 70 s2 s1.toNatClampNeg s0))
def w_Reader_instruction_j132 (this : Nat) (Q : Mem → Prop) (X : Mem → Prop) (v1 : Int32) (v2 : Int32) (M : Mem) : Prop :=
  ∃ i15, (mR M 3 this 1) = some (5, i15) ∧ vp_in v2 (mL M 66 i15) ∧ ∃ i17, (mR (sI M 66 i15 v2.toNatClampNeg v1) 3 this 1) = some (5, i17) ∧ if (mI (sI M 66 i15 v2.toNatClampNeg v1) 3 this 14) = 0 then (w_Reader_instruction_j165 this Q X v2 (-1 : Int32) v2 i17 (sI M 66 i15 v2.toNatClampNeg v1)) else (w_Reader_instruction_j165 this Q X v2 (mI (sI M 66 i15 v2.toNatClampNeg v1) 3 this 19) v2 i17 (sI M 66 i15 v2.toNatClampNeg v1))
def w_Reader_instruction_j118 (this : Nat) (Q : Mem → Prop) (X : Mem → Prop)  (M : Mem) : Prop :=
  w_Works_refuse 0 (12 : Int32) (mI M 3 this 2) (fun i35 M34 => i35 = 0 ∧ X M34) M
def w_Reader_instruction_j72 (this : Nat) (Q : Mem → Prop) (X : Mem → Prop) (v1 : Int32) (v2 : Int32) (s0 : Int32) (M : Mem) : Prop :=
  ∃ i10, (mR M 3 this 1) = some (5, i10) ∧ w_Reader_operands this v1 v2 s0 (fun M11 => w_Reader_end this (fun M12 => if s0 = 0 then (if (mI M12 3 this 18) ≤ (6 : Int32) then (w_Reader_instruction_j132 this Q X v1 v2 M12) else (∃ i32, (mR M12 3 this 1) = some (5, i32) ∧ if (mI M12 5 i32 53) ≤ (mI M 5 i10 53) then (w_Reader_instruction_j132 this Q X v1 v2 M12) else (w_Reader_instruction_j118 this Q X  M12))) else (w_Reader_instruction_j118 this Q X  M12)) X M11) X M
def w_Reader_instruction_j25 (this : Nat) (Q : Mem → Prop) (X : Mem → Prop)  (M : Mem) : Prop :=
  w_Reader_wrong this (fun i37 M36 => i37 = 0 ∧ X M36) M
def w_Reader_instruction (this : Nat) (Q : Mem → Prop) (X : Mem → Prop) (M : Mem) : Prop :=
  isK (mR M 2 0 3) ∧ if (mR M 2 0 3) = (some (0, 100 + 0)) then (if (mI M 2 0 5) < (62 : Int32) then (w_Words_next 0 (fun M4 => w_Reader_nextCode this (fun r6 M5 => ∃ i7, (mR M5 3 this 1) = some (5, i7) ∧ vp_in (mI M5 3 this 4) (mL M5 63 i7) ∧ if (mI M5 63 i7 (mI M5 3 this 4).toNatClampNeg) = (80 : Int32) then (w_Reader_instruction_j72 this Q X (mI M 2 0 5) r6 (1 : Int32) M5) else (w_Reader_instruction_j72 this Q X (mI M 2 0 5) r6 (0 : Int32) M5)) M4) M) else (w_Reader_instruction_j25 this Q X  M)) else (w_Reader_instruction_j25 this Q X  M)
set_option maxRecDepth 4096 in
theorem lk_Reader_instruction_j213 {γ : Gm} (hγ : Gk γ) (this : Nat) (Q : Mem → Prop) (X : Mem → Prop) (s0 : Int32) (s1 : Int32) (s2 : Nat) (M : Mem) (h : w_Reader_instruction_j213 this Q X s0 s1 s2 M) : E γ k_Reader_instruction 9 213 [some (vr (some (3, this))), none, none, none, none] [vi s0, vi s1, vr (some (72, s2))] M (Qx (9, 0) (Qv Q) X) := by
  unfold w_Reader_instruction_j213 at h
  obtain ⟨c25, c26, h⟩ := h
  refine E_blk (lv' := [some (vr (some (3, this))), none, none, none, none]) (st' := [vr (mR (sI (sI M 72 s2 s1.toNatClampNeg s0) 3 this 14 (0 : Int32)) 3 this 1)]) (M1 := (sI (sI M 72 s2 s1.toNatClampNeg s0) 3 this 14 (0 : Int32))) (pc' := 223) (tb_Reader hγ) [.iastore, .aload_n 0, .iconst 0, .putfield 292, .aload_n 0, .getfield 52] (by decide +kernel) rfl rfl ⟨c25, c26, trivial⟩ ?_
  obtain ⟨i27, ei27, h⟩ := h
  rw [ei27]
  obtain ⟨c28, c29, h⟩ := h
  refine E_blk (lv' := [some (vr (some (3, this))), none, none, none, none]) (st' := []) (M1 := (sI (sI (sI M 72 s2 s1.toNatClampNeg s0) 3 this 14 (0 : Int32)) 63 i27 (mI (sI (sI M 72 s2 s1.toNatClampNeg s0) 3 this 14 (0 : Int32)) 3 this 4).toNatClampNeg ((mI (sI (sI M 72 s2 s1.toNatClampNeg s0) 3 this 14 (0 : Int32)) 63 i27 (mI (sI (sI M 72 s2 s1.toNatClampNeg s0) 3 this 14 (0 : Int32)) 3 this 4).toNatClampNeg) + (1 : Int32)))) (pc' := 235) (tb_Reader hγ) [.getfield 316, .aload_n 0, .getfield 266, .dup2, .iaload, .iconst 1, .iadd, .iastore] (by decide +kernel) rfl rfl ⟨c28, c29, trivial⟩ ?_
  obtain ⟨M30, eM30, h⟩ := h
  rw [← eM30]
  refine E_blk (lv' := [some (vr (some (3, this))), none, none, none, none]) (st' := [vr (mR M30 3 this 1)]) (M1 := M30) (pc' := 239) (tb_Reader hγ) [.aload_n 0, .getfield 52] (by decide +kernel) rfl rfl trivial ?_
  obtain ⟨i31, ei31, h⟩ := h
  rw [ei31]
  refine E_blk (lv' := [some (vr (some (3, this))), none, none, none, none]) (st' := []) (M1 := (sI M30 5 i31 39 ((mI M30 5 i31 39) + (1 : Int32)))) (pc' := 248) (tb_Reader hγ) [.dup, .getfield 68, .iconst 1, .iadd, .putfield 68] (by decide +kernel) rfl rfl trivial ?_
  exact (E_vret rfl (by decide +kernel) h).nx
set_option maxRecDepth 4096 in
theorem lk_Reader_instruction_j189 {γ : Gm} (hγ : Gk γ) (this : Nat) (Q : Mem → Prop) (X : Mem → Prop) (v2 : Int32) (s0 : Int32) (s1 : Int32) (s2 : Nat) (M : Mem) (h : w_Reader_instruction_j189 this Q X v2 s0 s1 s2 M) : E γ k_Reader_instruction 9 189 [some (vr (some (3, this))), none, some (vi v2), none, none] [vi s0, vi s1, vr (some (71, s2))] M (Qx (9, 0) (Qv Q) X) := by
  unfold w_Reader_instruction_j189 at h
  obtain ⟨c22, h⟩ := h
  refine E_blk (lv' := [some (vr (some (3, this))), none, some (vi v2), none, none]) (st' := [vr (mR (sI M 71 s2 s1.toNatClampNeg s0) 3 this 1)]) (M1 := (sI M 71 s2 s1.toNatClampNeg s0)) (pc' := 194) (tb_Reader hγ) [.iastore, .aload_n 0, .getfield 52] (by decide +kernel) rfl rfl ⟨c22, trivial⟩ ?_
  obtain ⟨i23, ei23, h⟩ := h
  rw [ei23]
  refine E_blk (lv' := [some (vr (some (3, this))), none, some (vi v2), none, none]) (st' := [vi (mI (sI M 71 s2 s1.toNatClampNeg s0) 3 this 14), vi v2, vr (some (72, i23))]) (M1 := (sI M 71 s2 s1.toNatClampNeg s0)) (pc' := 202) (tb_Reader hγ) [.getfield 376, .iload_n 2, .aload_n 0, .getfield 292] (by decide +kernel) rfl rfl trivial ?_
  refine E_if_eq (off := 10) (tgt := 212) (by decide +kernel) (by decide) (fun b24 => ?_) (fun b24 => ?_)
  · rw [if_pos b24] at h
    refine E_blk (lv' := [some (vr (some (3, this))), none, some (vi v2), none, none]) (st' := [vi (0 : Int32), vi v2, vr (some (72, i23))]) (M1 := (sI M 71 s2 s1.toNatClampNeg s0)) (pc' := 213) (tb_Reader hγ) [.iconst 0] (by decide +kernel) rfl rfl trivial ?_
    refine E_mask [true, false, false, false, false] rfl ?_
    exact lk_Reader_instruction_j213 hγ this Q X (0 : Int32) v2 i23 (sI M 71 s2 s1.toNatClampNeg s0) h
  · rw [if_neg b24] at h
    refine E_blk (lv' := [some (vr (some (3, this))), none, some (vi v2), none, none]) (st' := [vi (mI (sI M 71 s2 s1.toNatClampNeg s0) 3 this 21), vi v2, vr (some (72, i23))]) (M1 := (sI M 71 s2 s1.toNatClampNeg s0)) (pc' := 209) (tb_Reader hγ) [.aload_n 0, .getfield 346] (by decide +kernel) rfl rfl trivial ?_
    refine E_goto (off := 4) (tgt := 213) (by decide +kernel) (by decide) ?_
    refine E_mask [true, false, false, false, false] rfl ?_
    exact lk_Reader_instruction_j213 hγ this Q X (mI (sI M 71 s2 s1.toNatClampNeg s0) 3 this 21) v2 i23 (sI M 71 s2 s1.toNatClampNeg s0) h
set_option maxRecDepth 4096 in
theorem lk_Reader_instruction_j165 {γ : Gm} (hγ : Gk γ) (this : Nat) (Q : Mem → Prop) (X : Mem → Prop) (v2 : Int32) (s0 : Int32) (s1 : Int32) (s2 : Nat) (M : Mem) (h : w_Reader_instruction_j165 this Q X v2 s0 s1 s2 M) : E γ k_Reader_instruction 9 165 [some (vr (some (3, this))), none, some (vi v2), none, none] [vi s0, vi s1, vr (some (70, s2))] M (Qx (9, 0) (Qv Q) X) := by
  unfold w_Reader_instruction_j165 at h
  obtain ⟨c19, h⟩ := h
  refine E_blk (lv' := [some (vr (some (3, this))), none, some (vi v2), none, none]) (st' := [vr (mR (sI M 70 s2 s1.toNatClampNeg s0) 3 this 1)]) (M1 := (sI M 70 s2 s1.toNatClampNeg s0)) (pc' := 170) (tb_Reader hγ) [.iastore, .aload_n 0, .getfield 52] (by decide +kernel) rfl rfl ⟨c19, trivial⟩ ?_
  obtain ⟨i20, ei20, h⟩ := h
  rw [ei20]
  refine E_blk (lv' := [some (vr (some (3, this))), none, some (vi v2), none, none]) (st' := [vi (mI (sI M 70 s2 s1.toNatClampNeg s0) 3 this 14), vi v2, vr (some (71, i20))]) (M1 := (sI M 70 s2 s1.toNatClampNeg s0)) (pc' := 178) (tb_Reader hγ) [.getfield 373, .iload_n 2, .aload_n 0, .getfield 292] (by decide +kernel) rfl rfl trivial ?_
  refine E_if_eq (off := 10) (tgt := 188) (by decide +kernel) (by decide) (fun b21 => ?_) (fun b21 => ?_)
  · rw [if_pos b21] at h
    refine E_blk (lv' := [some (vr (some (3, this))), none, some (vi v2), none, none]) (st' := [vi (0 : Int32), vi v2, vr (some (71, i20))]) (M1 := (sI M 70 s2 s1.toNatClampNeg s0)) (pc' := 189) (tb_Reader hγ) [.iconst 0] (by decide +kernel) rfl rfl trivial ?_
    refine E_mask [true, false, true, false, false] rfl ?_
    exact lk_Reader_instruction_j189 hγ this Q X v2 (0 : Int32) v2 i20 (sI M 70 s2 s1.toNatClampNeg s0) h
  · rw [if_neg b21] at h
    refine E_blk (lv' := [some (vr (some (3, this))), none, some (vi v2), none, none]) (st' := [vi (mI (sI M 70 s2 s1.toNatClampNeg s0) 3 this 20), vi v2, vr (some (71, i20))]) (M1 := (sI M 70 s2 s1.toNatClampNeg s0)) (pc' := 185) (tb_Reader hγ) [.aload_n 0, .getfield 343] (by decide +kernel) rfl rfl trivial ?_
    refine E_goto (off := 4) (tgt := 189) (by decide +kernel) (by decide) ?_
    refine E_mask [true, false, true, false, false] rfl ?_
    exact lk_Reader_instruction_j189 hγ this Q X v2 (mI (sI M 70 s2 s1.toNatClampNeg s0) 3 this 20) v2 i20 (sI M 70 s2 s1.toNatClampNeg s0) h
set_option maxRecDepth 4096 in
theorem lk_Reader_instruction_j132 {γ : Gm} (hγ : Gk γ) (this : Nat) (Q : Mem → Prop) (X : Mem → Prop) (v1 : Int32) (v2 : Int32) (M : Mem) (h : w_Reader_instruction_j132 this Q X v1 v2 M) : E γ k_Reader_instruction 9 132 [some (vr (some (3, this))), some (vi v1), some (vi v2), none, none] [] M (Qx (9, 0) (Qv Q) X) := by
  unfold w_Reader_instruction_j132 at h
  refine E_blk (lv' := [some (vr (some (3, this))), some (vi v1), some (vi v2), none, none]) (st' := [vr (mR M 3 this 1)]) (M1 := M) (pc' := 136) (tb_Reader hγ) [.aload_n 0, .getfield 52] (by decide +kernel) rfl rfl trivial ?_
  obtain ⟨i15, ei15, h⟩ := h
  rw [ei15]
  obtain ⟨c16, h⟩ := h
  refine E_blk (lv' := [some (vr (some (3, this))), some (vi v1), some (vi v2), none, none]) (st' := [vr (mR (sI M 66 i15 v2.toNatClampNeg v1) 3 this 1)]) (M1 := (sI M 66 i15 v2.toNatClampNeg v1)) (pc' := 146) (tb_Reader hγ) [.getfield 368, .iload_n 2, .iload_n 1, .iastore, .aload_n 0, .getfield 52] (by decide +kernel) rfl rfl ⟨c16, trivial⟩ ?_
  obtain ⟨i17, ei17, h⟩ := h
  rw [ei17]
  refine E_blk (lv' := [some (vr (some (3, this))), some (vi v1), some (vi v2), none, none]) (st' := [vi (mI (sI M 66 i15 v2.toNatClampNeg v1) 3 this 14), vi v2, vr (some (70, i17))]) (M1 := (sI M 66 i15 v2.toNatClampNeg v1)) (pc' := 154) (tb_Reader hγ) [.getfield 371, .iload_n 2, .aload_n 0, .getfield 292] (by decide +kernel) rfl rfl trivial ?_
  refine E_if_eq (off := 10) (tgt := 164) (by decide +kernel) (by decide) (fun b18 => ?_) (fun b18 => ?_)
  · rw [if_pos b18] at h
    refine E_blk (lv' := [some (vr (some (3, this))), some (vi v1), some (vi v2), none, none]) (st' := [vi (-1 : Int32), vi v2, vr (some (70, i17))]) (M1 := (sI M 66 i15 v2.toNatClampNeg v1)) (pc' := 165) (tb_Reader hγ) [.iconst (.negSucc 0)] (by decide +kernel) rfl rfl trivial ?_
    refine E_mask [true, false, true, false, false] rfl ?_
    exact lk_Reader_instruction_j165 hγ this Q X v2 (-1 : Int32) v2 i17 (sI M 66 i15 v2.toNatClampNeg v1) h
  · rw [if_neg b18] at h
    refine E_blk (lv' := [some (vr (some (3, this))), some (vi v1), some (vi v2), none, none]) (st' := [vi (mI (sI M 66 i15 v2.toNatClampNeg v1) 3 this 19), vi v2, vr (some (70, i17))]) (M1 := (sI M 66 i15 v2.toNatClampNeg v1)) (pc' := 161) (tb_Reader hγ) [.aload_n 0, .getfield 336] (by decide +kernel) rfl rfl trivial ?_
    refine E_goto (off := 4) (tgt := 165) (by decide +kernel) (by decide) ?_
    refine E_mask [true, false, true, false, false] rfl ?_
    exact lk_Reader_instruction_j165 hγ this Q X v2 (mI (sI M 66 i15 v2.toNatClampNeg v1) 3 this 19) v2 i17 (sI M 66 i15 v2.toNatClampNeg v1) h
set_option maxRecDepth 4096 in
theorem lk_Reader_instruction_j118 {γ : Gm} (hγ : Gk γ) (this : Nat) (Q : Mem → Prop) (X : Mem → Prop)  (M : Mem) (h : w_Reader_instruction_j118 this Q X  M) : E γ k_Reader_instruction 9 118 [some (vr (some (3, this))), none, none, none, none] [] M (Qx (9, 0) (Qv Q) X) := by
  unfold w_Reader_instruction_j118 at h
  refine E_blk (lv' := [some (vr (some (3, this))), none, none, none, none]) (st' := [vi (mI M 3 this 2), vi (12 : Int32), vr (some (10, 0))]) (M1 := M) (pc' := 128) (tb_Reader hγ) [.aload_n 0, .getfield 3, .bipush 12, .aload_n 0, .getfield 113] (by decide +kernel) rfl rfl trivial ?_
  refine E_callV (κ' := k_Works_refuse) (As := [vi (12 : Int32), vi (mI M 3 this 2)]) (st := []) mv_Works_refuse (Or.inr ⟨"ClassWorks", (tbk_mem (j := 6) (k := 126) rfl)⟩) rfl (by decide +kernel) (Nat.le_of_ble_eq_true rfl) (Nat.le_of_ble_eq_true rfl) rfl (by decide) (lk_Works_refuse hγ 0 (12 : Int32) (mI M 3 this 2) _ M h) (fun _ _ => Qr_r) (fun v M34 hp => Qr_k (R := fun st => E γ k_Reader_instruction 9 131 [some (vr (some (3, this))), none, none, none, none] st M34 (Qx (9, 0) (Qv Q) X)) hp (fun i35 h => ?_))
  obtain ⟨e0, h⟩ := h
  rw [e0]
  exact E_throw (by decide) rfl (by decide +kernel) h
set_option maxRecDepth 4096 in
theorem lk_Reader_instruction_j72 {γ : Gm} (hγ : Gk γ) (this : Nat) (Q : Mem → Prop) (X : Mem → Prop) (v1 : Int32) (v2 : Int32) (s0 : Int32) (M : Mem) (h : w_Reader_instruction_j72 this Q X v1 v2 s0 M) : E γ k_Reader_instruction 9 72 [some (vr (some (3, this))), some (vi v1), some (vi v2), none, none] [vi s0] M (Qx (9, 0) (Qv Q) X) := by
  unfold w_Reader_instruction_j72 at h
  refine E_blk (lv' := [some (vr (some (3, this))), some (vi v1), some (vi v2), some (vi s0), none]) (st' := [vr (mR M 3 this 1)]) (M1 := M) (pc' := 77) (tb_Reader hγ) [.istore_n 3, .aload_n 0, .getfield 52] (by decide +kernel) rfl rfl trivial ?_
  obtain ⟨i10, ei10, h⟩ := h
  rw [ei10]
  refine E_blk (lv' := [some (vr (some (3, this))), some (vi v1), some (vi v2), some (vi s0), some (vi (mI M 5 i10 53))]) (st' := [vi s0, vi v2, vi v1, vr (some (3, this))]) (M1 := M) (pc' := 86) (tb_Reader hγ) [.getfield 80, .istore 4, .aload_n 0, .iload_n 1, .iload_n 2, .iload_n 3] (by decide +kernel) rfl rfl trivial ?_
  refine E_callX (κ' := k_Reader_operands) (As := [vi v1, vi v2, vi s0]) (st := []) mv_Reader_operands (Or.inl (tbk_mem (j := 7) (k := 16) rfl)) rfl (by decide +kernel) (Nat.le_of_ble_eq_true rfl) (Nat.le_of_ble_eq_true rfl) rfl (by decide) rfl (lk_Reader_operands hγ this v1 v2 s0 _ _ M h) (fun _ _ => Qv_r) (fun _ h => h) (fun v M11 hp => Qv_k (R := fun st => E γ k_Reader_instruction 9 89 [some (vr (some (3, this))), some (vi v1), some (vi v2), some (vi s0), some (vi (mI M 5 i10 53))] st M11 (Qx (9, 0) (Qv Q) X)) hp (fun h => ?_))
  refine E_blk (lv' := [some (vr (some (3, this))), some (vi v1), some (vi v2), some (vi s0), some (vi (mI M 5 i10 53))]) (st' := [vr (some (3, this))]) (M1 := M11) (pc' := 90) (tb_Reader hγ) [.aload_n 0] (by decide +kernel) rfl rfl trivial ?_
  refine E_callX (κ' := k_Reader_end) (As := []) (st := []) mv_Reader_end (Or.inl (tbk_mem (j := 6) (k := 191) rfl)) rfl (by decide +kernel) (Nat.le_of_ble_eq_true rfl) (Nat.le_of_ble_eq_true rfl) rfl (by decide) rfl (lk_Reader_end hγ this _ _ M11 h) (fun _ _ => Qv_r) (fun _ h => h) (fun v M12 hp => Qv_k (R := fun st => E γ k_Reader_instruction 9 93 [some (vr (some (3, this))), some (vi v1), some (vi v2), some (vi s0), some (vi (mI M 5 i10 53))] st M12 (Qx (9, 0) (Qv Q) X)) hp (fun h => ?_))
  refine E_blk (lv' := [some (vr (some (3, this))), some (vi v1), some (vi v2), some (vi s0), some (vi (mI M 5 i10 53))]) (st' := [vi s0]) (M1 := M12) (pc' := 94) (tb_Reader hγ) [.iload_n 3] (by decide +kernel) rfl rfl trivial ?_
  refine E_if_ne (off := 24) (tgt := 118) (by decide +kernel) (by decide) (fun b13 => ?_) (fun b13 => ?_)
  · rw [if_pos b13] at h
    refine E_blk (lv' := [some (vr (some (3, this))), some (vi v1), some (vi v2), some (vi s0), some (vi (mI M 5 i10 53))]) (st' := [vi (6 : Int32), vi (mI M12 3 this 18)]) (M1 := M12) (pc' := 103) (tb_Reader hγ) [.aload_n 0, .getfield 167, .bipush 6] (by decide +kernel) rfl rfl trivial ?_
    refine E_icmp_le (off := 29) (tgt := 132) (by decide +kernel) (by decide) (fun b14 => ?_) (fun b14 => ?_)
    · rw [if_pos b14] at h
      refine E_mask [true, true, true, false, false] rfl ?_
      exact lk_Reader_instruction_j132 hγ this Q X v1 v2 M12 h
    · rw [if_neg b14] at h
      refine E_blk (lv' := [some (vr (some (3, this))), some (vi v1), some (vi v2), some (vi s0), some (vi (mI M 5 i10 53))]) (st' := [vr (mR M12 3 this 1)]) (M1 := M12) (pc' := 110) (tb_Reader hγ) [.aload_n 0, .getfield 52] (by decide +kernel) rfl rfl trivial ?_
      obtain ⟨i32, ei32, h⟩ := h
      rw [ei32]
      refine E_blk (lv' := [some (vr (some (3, this))), some (vi v1), some (vi v2), some (vi s0), some (vi (mI M 5 i10 53))]) (st' := [vi (mI M 5 i10 53), vi (mI M12 5 i32 53)]) (M1 := M12) (pc' := 115) (tb_Reader hγ) [.getfield 80, .iload 4] (by decide +kernel) rfl rfl trivial ?_
      refine E_icmp_le (off := 17) (tgt := 132) (by decide +kernel) (by decide) (fun b33 => ?_) (fun b33 => ?_)
      · rw [if_pos b33] at h
        refine E_mask [true, true, true, false, false] rfl ?_
        exact lk_Reader_instruction_j132 hγ this Q X v1 v2 M12 h
      · rw [if_neg b33] at h
        refine E_mask [true, false, false, false, false] rfl ?_
        exact lk_Reader_instruction_j118 hγ this Q X  M12 h
  · rw [if_neg b13] at h
    refine E_mask [true, false, false, false, false] rfl ?_
    exact lk_Reader_instruction_j118 hγ this Q X  M12 h
set_option maxRecDepth 4096 in
theorem lk_Reader_instruction_j25 {γ : Gm} (hγ : Gk γ) (this : Nat) (Q : Mem → Prop) (X : Mem → Prop)  (M : Mem) (h : w_Reader_instruction_j25 this Q X  M) : E γ k_Reader_instruction 9 25 [some (vr (some (3, this))), none, none, none, none] [] M (Qx (9, 0) (Qv Q) X) := by
  unfold w_Reader_instruction_j25 at h
  refine E_blk (lv' := [some (vr (some (3, this))), none, none, none, none]) (st' := [vr (some (3, this))]) (M1 := M) (pc' := 26) (tb_Reader hγ) [.aload_n 0] (by decide +kernel) rfl rfl trivial ?_
  refine E_callV (κ' := k_Reader_wrong) (As := []) (st := []) mv_Reader_wrong (Or.inl (tbk_mem (j := 6) (k := 122) rfl)) rfl (by decide +kernel) (Nat.le_of_ble_eq_true rfl) (Nat.le_of_ble_eq_true rfl) rfl (by decide) (lk_Reader_wrong hγ this _ M h) (fun _ _ => Qr_r) (fun v M36 hp => Qr_k (R := fun st => E γ k_Reader_instruction 9 29 [some (vr (some (3, this))), none, none, none, none] st M36 (Qx (9, 0) (Qv Q) X)) hp (fun i37 h => ?_))
  obtain ⟨e0, h⟩ := h
  rw [e0]
  exact E_throw (by decide) rfl (by decide +kernel) h
set_option maxRecDepth 4096 in
theorem lk_Reader_instruction {γ : Gm} (hγ : Gk γ) (this : Nat) (Q : Mem → Prop) (X : Mem → Prop) (M : Mem) (h : w_Reader_instruction this Q X M) : E γ k_Reader_instruction 9 0 [some (vr (some (3, this))), none, none, none, none] [] M (Qx (9, 0) (Qv Q) X) := by
  unfold w_Reader_instruction at h
  refine E_blk (lv' := [some (vr (some (3, this))), none, none, none, none]) (st' := [vr (mR M 2 0 3)]) (M1 := M) (pc' := 7) (tb_Reader hγ) [.aload_n 0, .getfield 20, .getfield 98] (by decide +kernel) rfl rfl trivial ?_
  refine E_gets (κ := k_Reader_instruction) (pc := 7) (j := 0) (idx := 133) (n := "NAME") hγ.2.1 rfl (tbk_mem (j := 6) (k := 134) rfl) (by decide +kernel) ?_
  obtain ⟨c2, h⟩ := h
  refine E_acmp_ne (off := 15) (tgt := 25) hγ.2.1 c2 (isK_c 0 (by decide)) (by decide +kernel) (by decide) (fun b1 => ?_) (fun b1 => ?_)
  · rw [if_pos b1] at h
    refine E_blk (lv' := [some (vr (some (3, this))), none, none, none, none]) (st' := [vi (62 : Int32), vi (mI M 2 0 5)]) (M1 := M) (pc' := 22) (tb_Reader hγ) [.aload_n 0, .getfield 20, .getfield 136, .bipush 62] (by decide +kernel) rfl rfl trivial ?_
    refine E_icmp_lt (off := 8) (tgt := 30) (by decide +kernel) (by decide) (fun b3 => ?_) (fun b3 => ?_)
    · rw [if_pos b3] at h
      refine E_blk (lv' := [some (vr (some (3, this))), some (vi (mI M 2 0 5)), none, none, none]) (st' := [vr (some (2, 0))]) (M1 := M) (pc' := 42) (tb_Reader hγ) [.aload_n 0, .getfield 20, .getfield 136, .istore_n 1, .aload_n 0, .getfield 20] (by decide +kernel) rfl rfl trivial ?_
      refine E_callV (κ' := k_Words_next) (As := []) (st := []) mv_Words_next (Or.inl (tbk_mem (j := 6) (k := 53) rfl)) rfl (by decide +kernel) (Nat.le_of_ble_eq_true rfl) (Nat.le_of_ble_eq_true rfl) rfl (by decide) (lk_Words_next hγ 0 _ M h) (fun _ _ => Qv_r) (fun v M4 hp => Qv_k (R := fun st => E γ k_Reader_instruction 9 45 [some (vr (some (3, this))), some (vi (mI M 2 0 5)), none, none, none] st M4 (Qx (9, 0) (Qv Q) X)) hp (fun h => ?_))
      refine E_blk (lv' := [some (vr (some (3, this))), some (vi (mI M 2 0 5)), none, none, none]) (st' := [vr (some (3, this))]) (M1 := M4) (pc' := 46) (tb_Reader hγ) [.aload_n 0] (by decide +kernel) rfl rfl trivial ?_
      refine E_callV (κ' := k_Reader_nextCode) (As := []) (st := []) mv_Reader_nextCode (Or.inl (tbk_mem (j := 7) (k := 12) rfl)) rfl (by decide +kernel) (Nat.le_of_ble_eq_true rfl) (Nat.le_of_ble_eq_true rfl) rfl (by decide) (lk_Reader_nextCode hγ this _ M4 h) (fun _ _ => Qi_r) (fun v M5 hp => Qi_k (R := fun st => E γ k_Reader_instruction 9 49 [some (vr (some (3, this))), some (vi (mI M 2 0 5)), none, none, none] st M5 (Qx (9, 0) (Qv Q) X)) hp (fun r6 h => ?_))
      refine E_blk (lv' := [some (vr (some (3, this))), some (vi (mI M 2 0 5)), some (vi r6), none, none]) (st' := [vr (mR M5 3 this 1)]) (M1 := M5) (pc' := 54) (tb_Reader hγ) [.istore_n 2, .aload_n 0, .getfield 52] (by decide +kernel) rfl rfl trivial ?_
      obtain ⟨i7, ei7, h⟩ := h
      rw [ei7]
      obtain ⟨c8, h⟩ := h
      refine E_blk (lv' := [some (vr (some (3, this))), some (vi (mI M 2 0 5)), some (vi r6), none, none]) (st' := [vi (80 : Int32), vi (mI M5 63 i7 (mI M5 3 this 4).toNatClampNeg)]) (M1 := M5) (pc' := 64) (tb_Reader hγ) [.getfield 316, .aload_n 0, .getfield 266, .iaload, .bipush 80] (by decide +kernel) rfl rfl ⟨c8, trivial⟩ ?_
      refine E_icmp_ne (off := 7) (tgt := 71) (by decide +kernel) (by decide) (fun b9 => ?_) (fun b9 => ?_)
      · rw [if_pos b9] at h
        refine E_blk (lv' := [some (vr (some (3, this))), some (vi (mI M 2 0 5)), some (vi r6), none, none]) (st' := [vi (1 : Int32)]) (M1 := M5) (pc' := 68) (tb_Reader hγ) [.iconst 1] (by decide +kernel) rfl rfl trivial ?_
        refine E_goto (off := 4) (tgt := 72) (by decide +kernel) (by decide) ?_
        refine E_mask [true, true, true, false, false] rfl ?_
        exact lk_Reader_instruction_j72 hγ this Q X (mI M 2 0 5) r6 (1 : Int32) M5 h
      · rw [if_neg b9] at h
        refine E_blk (lv' := [some (vr (some (3, this))), some (vi (mI M 2 0 5)), some (vi r6), none, none]) (st' := [vi (0 : Int32)]) (M1 := M5) (pc' := 72) (tb_Reader hγ) [.iconst 0] (by decide +kernel) rfl rfl trivial ?_
        refine E_mask [true, true, true, false, false] rfl ?_
        exact lk_Reader_instruction_j72 hγ this Q X (mI M 2 0 5) r6 (0 : Int32) M5 h
    · rw [if_neg b3] at h
      refine E_mask [true, false, false, false, false] rfl ?_
      exact lk_Reader_instruction_j25 hγ this Q X  M h
  · rw [if_neg b1] at h
    refine E_mask [true, false, false, false, false] rfl ?_
    exact lk_Reader_instruction_j25 hγ this Q X  M h
def w_Reader_bodyLine_j261 (this : Nat) (Q : Int32 → Mem → Prop) (X : Mem → Prop)  (M : Mem) : Prop :=
  w_Reader_instruction this (fun M24 => Q (1 : Int32) M24) X M
def w_Reader_bodyLine_j238 (this : Nat) (Q : Int32 → Mem → Prop) (X : Mem → Prop) (v1 : Int32) (M : Mem) : Prop :=
  if v1 = 0 then (w_Words_isWord 0 (67 : Int32) (fun r22 M21 => if r22 = 0 then (w_Reader_bodyLine_j261 this Q X  M21) else (w_Reader_handler this (fun M25 => Q (1 : Int32) M25) X M21)) M) else (w_Reader_bodyLine_j261 this Q X  M)
def w_Reader_bodyLine_j215 (this : Nat) (Q : Int32 → Mem → Prop) (X : Mem → Prop) (v1 : Int32) (M : Mem) : Prop :=
  if v1 = 0 then (w_Words_isWord 0 (66 : Int32) (fun r18 M17 => if r18 = 0 then (w_Reader_bodyLine_j238 this Q X v1 M17) else (w_Reader_frame this (fun M26 => Q (1 : Int32) M26) X M17)) M) else (w_Reader_bodyLine_j238 this Q X v1 M)
def w_Reader_bodyLine_j158 (this : Nat) (Q : Int32 → Mem → Prop) (X : Mem → Prop) (v1 : Int32) (M : Mem) : Prop :=
  isK (mR M 2 0 3) ∧ if (mR M 2 0 3) = (some (0, 100 + 3)) then (Q (1 : Int32) M) else (if v1 = 0 then (w_Words_isWord 0 (63 : Int32) (fun r8 M7 => if r8 = 0 then (w_Words_isWord 0 (64 : Int32) (fun r11 M10 => if r11 = 0 then (w_Words_isWord 0 (68 : Int32) (fun r14 M13 => if r14 = 0 then (w_Reader_bodyLine_j215 this Q X v1 M13) else (Q (0 : Int32) M13)) M10) else (Q (0 : Int32) M10)) M7) else (Q (0 : Int32) M7)) M) else (w_Reader_bodyLine_j215 this Q X v1 M))
def w_Reader_bodyLine_L2 (this : Nat) (Q : Int32 → Mem → Prop) (X : Mem → Prop) : Nat → Int32 → Mem → Prop
  | 0, _, _ => False
  | n + 1, v1, M => isK (mR M 2 0 3) ∧ if (mR M 2 0 3) = (some (0, 100 + 0)) then (if (mI M 2 0 5) = (79 : Int32) then (w_Reader_bodyLine_j158 this Q X v1 M) else (if (mI M 2 0 5) = (80 : Int32) then (w_Reader_bodyLine_j158 this Q X v1 M) else (w_Words_next 0 (fun M28 => w_Words_isSign 0 (58 : Int32) (fun r30 M29 => if r30 = 0 then (w_Words_next 0 (fun M32 => w_Reader_bodyLine_j158 this Q X v1 M32) (sI M29 2 0 2 (mI M 2 0 4))) else (w_Words_next 0 (fun M33 => vp_in (mI M33 3 this 5) (mL M33 23 this) ∧ ∃ i35, (mR (sI M33 23 this (mI M33 3 this 5).toNatClampNeg (mI M 2 0 5)) 3 this 1) = some (5, i35) ∧ vp_in (mI (sI M33 23 this (mI M33 3 this 5).toNatClampNeg (mI M 2 0 5)) 3 this 4) (mL (sI M33 23 this (mI M33 3 this 5).toNatClampNeg (mI M 2 0 5)) 63 i35) ∧ vp_in (mI (sI M33 23 this (mI M33 3 this 5).toNatClampNeg (mI M 2 0 5)) 3 this 5) (mL (sI M33 23 this (mI M33 3 this 5).toNatClampNeg (mI M 2 0 5)) 24 this) ∧ ∃ M38, M38 = (sI (sI M33 23 this (mI M33 3 this 5).toNatClampNeg (mI M 2 0 5)) 24 this (mI (sI M33 23 this (mI M33 3 this 5).toNatClampNeg (mI M 2 0 5)) 3 this 5).toNatClampNeg (mI (sI M33 23 this (mI M33 3 this 5).toNatClampNeg (mI M 2 0 5)) 63 i35 (mI (sI M33 23 this (mI M33 3 this 5).toNatClampNeg (mI M 2 0 5)) 3 this 4).toNatClampNeg)) ∧ vp_in (mI M38 3 this 5) (mL M38 25 this) ∧ ∃ M40, M40 = (sI (sI M38 25 this (mI M38 3 this 5).toNatClampNeg (mI M38 3 this 2)) 3 this 5 ((mI (sI M38 25 this (mI M38 3 this 5).toNatClampNeg (mI M38 3 this 2)) 3 this 5) + (1 : Int32))) ∧ (w_Reader_bodyLine_L2 this Q X n) (1 : Int32) M40) M29)) M28) M))) else (w_Reader_bodyLine_j158 this Q X v1 M)
def w_Reader_bodyLine (this : Nat) (Q : Int32 → Mem → Prop) (X : Mem → Prop) (M : Mem) : Prop :=
  ∃ n41 : Nat, w_Reader_bodyLine_L2 this Q X n41 (0 : Int32) M
set_option maxRecDepth 4096 in
theorem lk_Reader_bodyLine_j261 {γ : Gm} (hγ : Gk γ) (this : Nat) (Q : Int32 → Mem → Prop) (X : Mem → Prop)  (M : Mem) (h : w_Reader_bodyLine_j261 this Q X  M) : E γ k_Reader_bodyLine 10 261 [some (vr (some (3, this))), none, none, none] [] M (Qx (9, 0) (Qi Q) X) := by
  unfold w_Reader_bodyLine_j261 at h
  refine E_blk (lv' := [some (vr (some (3, this))), none, none, none]) (st' := [vr (some (3, this))]) (M1 := M) (pc' := 262) (tb_Reader hγ) [.aload_n 0] (by decide +kernel) rfl rfl trivial ?_
  refine E_callX (κ' := k_Reader_instruction) (As := []) (st := []) mv_Reader_instruction (Or.inl (tbk_mem (j := 7) (k := 8) rfl)) rfl (by decide +kernel) (Nat.le_of_ble_eq_true rfl) (Nat.le_of_ble_eq_true rfl) rfl (by decide) rfl (lk_Reader_instruction hγ this _ _ M h) (fun _ _ => Qv_r) (fun _ h => h) (fun v M24 hp => Qv_k (R := fun st => E γ k_Reader_bodyLine 10 265 [some (vr (some (3, this))), none, none, none] st M24 (Qx (9, 0) (Qi Q) X)) hp (fun h => ?_))
  refine E_blk (lv' := [some (vr (some (3, this))), none, none, none]) (st' := [vi (1 : Int32)]) (M1 := M24) (pc' := 266) (tb_Reader hγ) [.iconst 1] (by decide +kernel) rfl rfl trivial ?_
  exact (E_zret rfl (Or.inr rfl) (by decide +kernel) h).nx
set_option maxRecDepth 4096 in
theorem lk_Reader_bodyLine_j238 {γ : Gm} (hγ : Gk γ) (this : Nat) (Q : Int32 → Mem → Prop) (X : Mem → Prop) (v1 : Int32) (M : Mem) (h : w_Reader_bodyLine_j238 this Q X v1 M) : E γ k_Reader_bodyLine 10 238 [some (vr (some (3, this))), some (vi v1), none, none] [] M (Qx (9, 0) (Qi Q) X) := by
  unfold w_Reader_bodyLine_j238 at h
  refine E_blk (lv' := [some (vr (some (3, this))), some (vi v1), none, none]) (st' := [vi v1]) (M1 := M) (pc' := 239) (tb_Reader hγ) [.iload_n 1] (by decide +kernel) rfl rfl trivial ?_
  refine E_if_ne (off := 22) (tgt := 261) (by decide +kernel) (by decide) (fun b20 => ?_) (fun b20 => ?_)
  · rw [if_pos b20] at h
    refine E_blk (lv' := [some (vr (some (3, this))), some (vi v1), none, none]) (st' := [vi (67 : Int32), vr (some (2, 0))]) (M1 := M) (pc' := 248) (tb_Reader hγ) [.aload_n 0, .getfield 20, .bipush 67] (by decide +kernel) rfl rfl trivial ?_
    refine E_callV (κ' := k_Words_isWord) (As := [vi (67 : Int32)]) (st := []) mv_Words_isWord (Or.inl (tbk_mem (j := 6) (k := 118) rfl)) rfl (by decide +kernel) (Nat.le_of_ble_eq_true rfl) (Nat.le_of_ble_eq_true rfl) rfl (by decide) (lk_Words_isWord hγ 0 (67 : Int32) _ M h) (fun _ _ => Qi_r) (fun v M21 hp => Qi_k (R := fun st => E γ k_Reader_bodyLine 10 251 [some (vr (some (3, this))), some (vi v1), none, none] st M21 (Qx (9, 0) (Qi Q) X)) hp (fun r22 h => ?_))
    refine E_if_eq (off := 10) (tgt := 261) (by decide +kernel) (by decide) (fun b23 => ?_) (fun b23 => ?_)
    · rw [if_pos b23] at h
      refine E_mask [true, false, false, false] rfl ?_
      exact lk_Reader_bodyLine_j261 hγ this Q X  M21 h
    · rw [if_neg b23] at h
      refine E_blk (lv' := [some (vr (some (3, this))), some (vi v1), none, none]) (st' := [vr (some (3, this))]) (M1 := M21) (pc' := 255) (tb_Reader hγ) [.aload_n 0] (by decide +kernel) rfl rfl trivial ?_
      refine E_callX (κ' := k_Reader_handler) (As := []) (st := []) mv_Reader_handler (Or.inl (tbk_mem (j := 7) (k := 0) rfl)) rfl (by decide +kernel) (Nat.le_of_ble_eq_true rfl) (Nat.le_of_ble_eq_true rfl) rfl (by decide) rfl (lk_Reader_handler hγ this _ _ M21 h) (fun _ _ => Qv_r) (fun _ h => h) (fun v M25 hp => Qv_k (R := fun st => E γ k_Reader_bodyLine 10 258 [some (vr (some (3, this))), some (vi v1), none, none] st M25 (Qx (9, 0) (Qi Q) X)) hp (fun h => ?_))
      refine E_goto (off := 7) (tgt := 265) (by decide +kernel) (by decide) ?_
      refine E_blk (lv' := [some (vr (some (3, this))), some (vi v1), none, none]) (st' := [vi (1 : Int32)]) (M1 := M25) (pc' := 266) (tb_Reader hγ) [.iconst 1] (by decide +kernel) rfl rfl trivial ?_
      exact (E_zret rfl (Or.inr rfl) (by decide +kernel) h).nx
  · rw [if_neg b20] at h
    refine E_mask [true, false, false, false] rfl ?_
    exact lk_Reader_bodyLine_j261 hγ this Q X  M h
set_option maxRecDepth 4096 in
theorem lk_Reader_bodyLine_j215 {γ : Gm} (hγ : Gk γ) (this : Nat) (Q : Int32 → Mem → Prop) (X : Mem → Prop) (v1 : Int32) (M : Mem) (h : w_Reader_bodyLine_j215 this Q X v1 M) : E γ k_Reader_bodyLine 10 215 [some (vr (some (3, this))), some (vi v1), none, none] [] M (Qx (9, 0) (Qi Q) X) := by
  unfold w_Reader_bodyLine_j215 at h
  refine E_blk (lv' := [some (vr (some (3, this))), some (vi v1), none, none]) (st' := [vi v1]) (M1 := M) (pc' := 216) (tb_Reader hγ) [.iload_n 1] (by decide +kernel) rfl rfl trivial ?_
  refine E_if_ne (off := 22) (tgt := 238) (by decide +kernel) (by decide) (fun b16 => ?_) (fun b16 => ?_)
  · rw [if_pos b16] at h
    refine E_blk (lv' := [some (vr (some (3, this))), some (vi v1), none, none]) (st' := [vi (66 : Int32), vr (some (2, 0))]) (M1 := M) (pc' := 225) (tb_Reader hγ) [.aload_n 0, .getfield 20, .bipush 66] (by decide +kernel) rfl rfl trivial ?_
    refine E_callV (κ' := k_Words_isWord) (As := [vi (66 : Int32)]) (st := []) mv_Words_isWord (Or.inl (tbk_mem (j := 6) (k := 118) rfl)) rfl (by decide +kernel) (Nat.le_of_ble_eq_true rfl) (Nat.le_of_ble_eq_true rfl) rfl (by decide) (lk_Words_isWord hγ 0 (66 : Int32) _ M h) (fun _ _ => Qi_r) (fun v M17 hp => Qi_k (R := fun st => E γ k_Reader_bodyLine 10 228 [some (vr (some (3, this))), some (vi v1), none, none] st M17 (Qx (9, 0) (Qi Q) X)) hp (fun r18 h => ?_))
    refine E_if_eq (off := 10) (tgt := 238) (by decide +kernel) (by decide) (fun b19 => ?_) (fun b19 => ?_)
    · rw [if_pos b19] at h
      refine E_mask [true, true, false, false] rfl ?_
      exact lk_Reader_bodyLine_j238 hγ this Q X v1 M17 h
    · rw [if_neg b19] at h
      refine E_blk (lv' := [some (vr (some (3, this))), some (vi v1), none, none]) (st' := [vr (some (3, this))]) (M1 := M17) (pc' := 232) (tb_Reader hγ) [.aload_n 0] (by decide +kernel) rfl rfl trivial ?_
      refine E_callX (κ' := k_Reader_frame) (As := []) (st := []) mv_Reader_frame (Or.inl (tbk_mem (j := 6) (k := 228) rfl)) rfl (by decide +kernel) (Nat.le_of_ble_eq_true rfl) (Nat.le_of_ble_eq_true rfl) rfl (by decide) rfl (lk_Reader_frame hγ this _ _ M17 h) (fun _ _ => Qv_r) (fun _ h => h) (fun v M26 hp => Qv_k (R := fun st => E γ k_Reader_bodyLine 10 235 [some (vr (some (3, this))), some (vi v1), none, none] st M26 (Qx (9, 0) (Qi Q) X)) hp (fun h => ?_))
      refine E_goto (off := 30) (tgt := 265) (by decide +kernel) (by decide) ?_
      refine E_blk (lv' := [some (vr (some (3, this))), some (vi v1), none, none]) (st' := [vi (1 : Int32)]) (M1 := M26) (pc' := 266) (tb_Reader hγ) [.iconst 1] (by decide +kernel) rfl rfl trivial ?_
      exact (E_zret rfl (Or.inr rfl) (by decide +kernel) h).nx
  · rw [if_neg b16] at h
    refine E_mask [true, true, false, false] rfl ?_
    exact lk_Reader_bodyLine_j238 hγ this Q X v1 M h
set_option maxRecDepth 4096 in
theorem lk_Reader_bodyLine_j158 {γ : Gm} (hγ : Gk γ) (this : Nat) (Q : Int32 → Mem → Prop) (X : Mem → Prop) (v1 : Int32) (M : Mem) (h : w_Reader_bodyLine_j158 this Q X v1 M) : E γ k_Reader_bodyLine 10 158 [some (vr (some (3, this))), some (vi v1), none, none] [] M (Qx (9, 0) (Qi Q) X) := by
  unfold w_Reader_bodyLine_j158 at h
  refine E_blk (lv' := [some (vr (some (3, this))), some (vi v1), none, none]) (st' := [vr (mR M 2 0 3)]) (M1 := M) (pc' := 165) (tb_Reader hγ) [.aload_n 0, .getfield 20, .getfield 98] (by decide +kernel) rfl rfl trivial ?_
  refine E_gets (κ := k_Reader_bodyLine) (pc := 165) (j := 3) (idx := 102) (n := "END") hγ.2.1 rfl (tbk_mem (j := 6) (k := 105) rfl) (by decide +kernel) ?_
  obtain ⟨c5, h⟩ := h
  refine E_acmp_ne (off := 5) (tgt := 173) hγ.2.1 c5 (isK_c 3 (by decide)) (by decide +kernel) (by decide) (fun b4 => ?_) (fun b4 => ?_)
  · rw [if_pos b4] at h
    refine E_blk (lv' := [some (vr (some (3, this))), some (vi v1), none, none]) (st' := [vi (1 : Int32)]) (M1 := M) (pc' := 172) (tb_Reader hγ) [.iconst 1] (by decide +kernel) rfl rfl trivial ?_
    exact (E_zret rfl (Or.inr rfl) (by decide +kernel) h).nx
  · rw [if_neg b4] at h
    refine E_blk (lv' := [some (vr (some (3, this))), some (vi v1), none, none]) (st' := [vi v1]) (M1 := M) (pc' := 174) (tb_Reader hγ) [.iload_n 1] (by decide +kernel) rfl rfl trivial ?_
    refine E_if_ne (off := 41) (tgt := 215) (by decide +kernel) (by decide) (fun b6 => ?_) (fun b6 => ?_)
    · rw [if_pos b6] at h
      refine E_blk (lv' := [some (vr (some (3, this))), some (vi v1), none, none]) (st' := [vi (63 : Int32), vr (some (2, 0))]) (M1 := M) (pc' := 183) (tb_Reader hγ) [.aload_n 0, .getfield 20, .bipush 63] (by decide +kernel) rfl rfl trivial ?_
      refine E_callV (κ' := k_Words_isWord) (As := [vi (63 : Int32)]) (st := []) mv_Words_isWord (Or.inl (tbk_mem (j := 6) (k := 118) rfl)) rfl (by decide +kernel) (Nat.le_of_ble_eq_true rfl) (Nat.le_of_ble_eq_true rfl) rfl (by decide) (lk_Words_isWord hγ 0 (63 : Int32) _ M h) (fun _ _ => Qi_r) (fun v M7 hp => Qi_k (R := fun st => E γ k_Reader_bodyLine 10 186 [some (vr (some (3, this))), some (vi v1), none, none] st M7 (Qx (9, 0) (Qi Q) X)) hp (fun r8 h => ?_))
      refine E_if_ne (off := 27) (tgt := 213) (by decide +kernel) (by decide) (fun b9 => ?_) (fun b9 => ?_)
      · rw [if_pos b9] at h
        refine E_blk (lv' := [some (vr (some (3, this))), some (vi v1), none, none]) (st' := [vi (64 : Int32), vr (some (2, 0))]) (M1 := M7) (pc' := 195) (tb_Reader hγ) [.aload_n 0, .getfield 20, .bipush 64] (by decide +kernel) rfl rfl trivial ?_
        refine E_callV (κ' := k_Words_isWord) (As := [vi (64 : Int32)]) (st := []) mv_Words_isWord (Or.inl (tbk_mem (j := 6) (k := 118) rfl)) rfl (by decide +kernel) (Nat.le_of_ble_eq_true rfl) (Nat.le_of_ble_eq_true rfl) rfl (by decide) (lk_Words_isWord hγ 0 (64 : Int32) _ M7 h) (fun _ _ => Qi_r) (fun v M10 hp => Qi_k (R := fun st => E γ k_Reader_bodyLine 10 198 [some (vr (some (3, this))), some (vi v1), none, none] st M10 (Qx (9, 0) (Qi Q) X)) hp (fun r11 h => ?_))
        refine E_if_ne (off := 15) (tgt := 213) (by decide +kernel) (by decide) (fun b12 => ?_) (fun b12 => ?_)
        · rw [if_pos b12] at h
          refine E_blk (lv' := [some (vr (some (3, this))), some (vi v1), none, none]) (st' := [vi (68 : Int32), vr (some (2, 0))]) (M1 := M10) (pc' := 207) (tb_Reader hγ) [.aload_n 0, .getfield 20, .bipush 68] (by decide +kernel) rfl rfl trivial ?_
          refine E_callV (κ' := k_Words_isWord) (As := [vi (68 : Int32)]) (st := []) mv_Words_isWord (Or.inl (tbk_mem (j := 6) (k := 118) rfl)) rfl (by decide +kernel) (Nat.le_of_ble_eq_true rfl) (Nat.le_of_ble_eq_true rfl) rfl (by decide) (lk_Words_isWord hγ 0 (68 : Int32) _ M10 h) (fun _ _ => Qi_r) (fun v M13 hp => Qi_k (R := fun st => E γ k_Reader_bodyLine 10 210 [some (vr (some (3, this))), some (vi v1), none, none] st M13 (Qx (9, 0) (Qi Q) X)) hp (fun r14 h => ?_))
          refine E_if_eq (off := 5) (tgt := 215) (by decide +kernel) (by decide) (fun b15 => ?_) (fun b15 => ?_)
          · rw [if_pos b15] at h
            refine E_mask [true, true, false, false] rfl ?_
            exact lk_Reader_bodyLine_j215 hγ this Q X v1 M13 h
          · rw [if_neg b15] at h
            refine E_blk (lv' := [some (vr (some (3, this))), some (vi v1), none, none]) (st' := [vi (0 : Int32)]) (M1 := M13) (pc' := 214) (tb_Reader hγ) [.iconst 0] (by decide +kernel) rfl rfl trivial ?_
            exact (E_zret rfl (Or.inl rfl) (by decide +kernel) h).nx
        · rw [if_neg b12] at h
          refine E_blk (lv' := [some (vr (some (3, this))), some (vi v1), none, none]) (st' := [vi (0 : Int32)]) (M1 := M10) (pc' := 214) (tb_Reader hγ) [.iconst 0] (by decide +kernel) rfl rfl trivial ?_
          exact (E_zret rfl (Or.inl rfl) (by decide +kernel) h).nx
      · rw [if_neg b9] at h
        refine E_blk (lv' := [some (vr (some (3, this))), some (vi v1), none, none]) (st' := [vi (0 : Int32)]) (M1 := M7) (pc' := 214) (tb_Reader hγ) [.iconst 0] (by decide +kernel) rfl rfl trivial ?_
        exact (E_zret rfl (Or.inl rfl) (by decide +kernel) h).nx
    · rw [if_neg b6] at h
      refine E_mask [true, true, false, false] rfl ?_
      exact lk_Reader_bodyLine_j215 hγ this Q X v1 M h
set_option maxRecDepth 4096 in
theorem lk_Reader_bodyLine_L2 {γ : Gm} (hγ : Gk γ) (this : Nat) (Q : Int32 → Mem → Prop) (X : Mem → Prop) : ∀ (n : Nat) (v1 : Int32) (M : Mem), w_Reader_bodyLine_L2 this Q X n v1 M → E γ k_Reader_bodyLine 10 2 [some (vr (some (3, this))), some (vi v1), none, none] [] M (Qx (9, 0) (Qi Q) X) := by
  intro n
  induction n with
  | zero => intro v1 M h; exact h.elim
  | succ n ih =>
    intro v1 M h
    unfold w_Reader_bodyLine_L2 at h
    refine E_blk (lv' := [some (vr (some (3, this))), some (vi v1), none, none]) (st' := [vr (mR M 2 0 3)]) (M1 := M) (pc' := 9) (tb_Reader hγ) [.aload_n 0, .getfield 20, .getfield 98] (by decide +kernel) rfl rfl trivial ?_
    refine E_gets (κ := k_Reader_bodyLine) (pc := 9) (j := 0) (idx := 133) (n := "NAME") hγ.2.1 rfl (tbk_mem (j := 6) (k := 134) rfl) (by decide +kernel) ?_
    obtain ⟨c2, h⟩ := h
    refine E_acmp_ne (off := 146) (tgt := 158) hγ.2.1 c2 (isK_c 0 (by decide)) (by decide +kernel) (by decide) (fun b1 => ?_) (fun b1 => ?_)
    · rw [if_pos b1] at h
      refine E_blk (lv' := [some (vr (some (3, this))), some (vi v1), none, none]) (st' := [vi (79 : Int32), vi (mI M 2 0 5)]) (M1 := M) (pc' := 24) (tb_Reader hγ) [.aload_n 0, .getfield 20, .getfield 136, .bipush 79] (by decide +kernel) rfl rfl trivial ?_
      refine E_icmp_eq (off := 134) (tgt := 158) (by decide +kernel) (by decide) (fun b3 => ?_) (fun b3 => ?_)
      · rw [if_pos b3] at h
        refine E_mask [true, true, false, false] rfl ?_
        exact lk_Reader_bodyLine_j158 hγ this Q X v1 M h
      · rw [if_neg b3] at h
        refine E_blk (lv' := [some (vr (some (3, this))), some (vi v1), none, none]) (st' := [vi (80 : Int32), vi (mI M 2 0 5)]) (M1 := M) (pc' := 36) (tb_Reader hγ) [.aload_n 0, .getfield 20, .getfield 136, .bipush 80] (by decide +kernel) rfl rfl trivial ?_
        refine E_icmp_eq (off := 122) (tgt := 158) (by decide +kernel) (by decide) (fun b27 => ?_) (fun b27 => ?_)
        · rw [if_pos b27] at h
          refine E_mask [true, true, false, false] rfl ?_
          exact lk_Reader_bodyLine_j158 hγ this Q X v1 M h
        · rw [if_neg b27] at h
          refine E_blk (lv' := [some (vr (some (3, this))), some (vi v1), some (vi (mI M 2 0 4)), some (vi (mI M 2 0 5))]) (st' := [vr (some (2, 0))]) (M1 := M) (pc' := 59) (tb_Reader hγ) [.aload_n 0, .getfield 20, .getfield 110, .istore_n 2, .aload_n 0, .getfield 20, .getfield 136, .istore_n 3, .aload_n 0, .getfield 20] (by decide +kernel) rfl rfl trivial ?_
          refine E_callV (κ' := k_Words_next) (As := []) (st := []) mv_Words_next (Or.inl (tbk_mem (j := 6) (k := 53) rfl)) rfl (by decide +kernel) (Nat.le_of_ble_eq_true rfl) (Nat.le_of_ble_eq_true rfl) rfl (by decide) (lk_Words_next hγ 0 _ M h) (fun _ _ => Qv_r) (fun v M28 hp => Qv_k (R := fun st => E γ k_Reader_bodyLine 10 62 [some (vr (some (3, this))), some (vi v1), some (vi (mI M 2 0 4)), some (vi (mI M 2 0 5))] st M28 (Qx (9, 0) (Qi Q) X)) hp (fun h => ?_))
          refine E_blk (lv' := [some (vr (some (3, this))), some (vi v1), some (vi (mI M 2 0 4)), some (vi (mI M 2 0 5))]) (st' := [vi (58 : Int32), vr (some (2, 0))]) (M1 := M28) (pc' := 68) (tb_Reader hγ) [.aload_n 0, .getfield 20, .bipush 58] (by decide +kernel) rfl rfl trivial ?_
          refine E_callV (κ' := k_Words_isSign) (As := [vi (58 : Int32)]) (st := []) mv_Words_isSign (Or.inl (tbk_mem (j := 6) (k := 143) rfl)) rfl (by decide +kernel) (Nat.le_of_ble_eq_true rfl) (Nat.le_of_ble_eq_true rfl) rfl (by decide) (lk_Words_isSign hγ 0 (58 : Int32) _ M28 h) (fun _ _ => Qi_r) (fun v M29 hp => Qi_k (R := fun st => E γ k_Reader_bodyLine 10 71 [some (vr (some (3, this))), some (vi v1), some (vi (mI M 2 0 4)), some (vi (mI M 2 0 5))] st M29 (Qx (9, 0) (Qi Q) X)) hp (fun r30 h => ?_))
          refine E_if_ne (off := 21) (tgt := 92) (by decide +kernel) (by decide) (fun b31 => ?_) (fun b31 => ?_)
          · rw [if_pos b31] at h
            refine E_blk (lv' := [some (vr (some (3, this))), some (vi v1), some (vi (mI M 2 0 4)), some (vi (mI M 2 0 5))]) (st' := [vr (some (2, 0))]) (M1 := (sI M29 2 0 2 (mI M 2 0 4))) (pc' := 86) (tb_Reader hγ) [.aload_n 0, .getfield 20, .iload_n 2, .putfield 313, .aload_n 0, .getfield 20] (by decide +kernel) rfl rfl trivial ?_
            refine E_callV (κ' := k_Words_next) (As := []) (st := []) mv_Words_next (Or.inl (tbk_mem (j := 6) (k := 53) rfl)) rfl (by decide +kernel) (Nat.le_of_ble_eq_true rfl) (Nat.le_of_ble_eq_true rfl) rfl (by decide) (lk_Words_next hγ 0 _ (sI M29 2 0 2 (mI M 2 0 4)) h) (fun _ _ => Qv_r) (fun v M32 hp => Qv_k (R := fun st => E γ k_Reader_bodyLine 10 89 [some (vr (some (3, this))), some (vi v1), some (vi (mI M 2 0 4)), some (vi (mI M 2 0 5))] st M32 (Qx (9, 0) (Qi Q) X)) hp (fun h => ?_))
            refine E_goto (off := 69) (tgt := 158) (by decide +kernel) (by decide) ?_
            refine E_mask [true, true, false, false] rfl ?_
            exact lk_Reader_bodyLine_j158 hγ this Q X v1 M32 h
          · rw [if_neg b31] at h
            refine E_blk (lv' := [some (vr (some (3, this))), some (vi v1), some (vi (mI M 2 0 4)), some (vi (mI M 2 0 5))]) (st' := [vr (some (2, 0))]) (M1 := M29) (pc' := 96) (tb_Reader hγ) [.aload_n 0, .getfield 20] (by decide +kernel) rfl rfl trivial ?_
            refine E_callV (κ' := k_Words_next) (As := []) (st := []) mv_Words_next (Or.inl (tbk_mem (j := 6) (k := 53) rfl)) rfl (by decide +kernel) (Nat.le_of_ble_eq_true rfl) (Nat.le_of_ble_eq_true rfl) rfl (by decide) (lk_Words_next hγ 0 _ M29 h) (fun _ _ => Qv_r) (fun v M33 hp => Qv_k (R := fun st => E γ k_Reader_bodyLine 10 99 [some (vr (some (3, this))), some (vi v1), some (vi (mI M 2 0 4)), some (vi (mI M 2 0 5))] st M33 (Qx (9, 0) (Qi Q) X)) hp (fun h => ?_))
            obtain ⟨c34, h⟩ := h
            refine E_blk (lv' := [some (vr (some (3, this))), some (vi v1), some (vi (mI M 2 0 4)), some (vi (mI M 2 0 5))]) (st' := [vr (mR (sI M33 23 this (mI M33 3 this 5).toNatClampNeg (mI M 2 0 5)) 3 this 1), vi (mI (sI M33 23 this (mI M33 3 this 5).toNatClampNeg (mI M 2 0 5)) 3 this 5), vr (some (24, this))]) (M1 := (sI M33 23 this (mI M33 3 this 5).toNatClampNeg (mI M 2 0 5))) (pc' := 121) (tb_Reader hγ) [.aload_n 0, .getfield 24, .aload_n 0, .getfield 286, .iload_n 3, .iastore, .aload_n 0, .getfield 28, .aload_n 0, .getfield 286, .aload_n 0, .getfield 52] (by decide +kernel) rfl rfl ⟨c34, trivial⟩ ?_
            obtain ⟨i35, ei35, h⟩ := h
            rw [ei35]
            obtain ⟨c36, c37, h⟩ := h
            refine E_blk (lv' := [some (vr (some (3, this))), some (vi v1), some (vi (mI M 2 0 4)), some (vi (mI M 2 0 5))]) (st' := []) (M1 := (sI (sI M33 23 this (mI M33 3 this 5).toNatClampNeg (mI M 2 0 5)) 24 this (mI (sI M33 23 this (mI M33 3 this 5).toNatClampNeg (mI M 2 0 5)) 3 this 5).toNatClampNeg (mI (sI M33 23 this (mI M33 3 this 5).toNatClampNeg (mI M 2 0 5)) 63 i35 (mI (sI M33 23 this (mI M33 3 this 5).toNatClampNeg (mI M 2 0 5)) 3 this 4).toNatClampNeg))) (pc' := 130) (tb_Reader hγ) [.getfield 316, .aload_n 0, .getfield 266, .iaload, .iastore] (by decide +kernel) rfl rfl ⟨c36, c37, trivial⟩ ?_
            obtain ⟨M38, eM38, h⟩ := h
            rw [← eM38]
            obtain ⟨c39, h⟩ := h
            refine E_blk (lv' := [some (vr (some (3, this))), some (vi v1), some (vi (mI M 2 0 4)), some (vi (mI M 2 0 5))]) (st' := []) (M1 := (sI (sI M38 25 this (mI M38 3 this 5).toNatClampNeg (mI M38 3 this 2)) 3 this 5 ((mI (sI M38 25 this (mI M38 3 this 5).toNatClampNeg (mI M38 3 this 2)) 3 this 5) + (1 : Int32)))) (pc' := 153) (tb_Reader hγ) [.aload_n 0, .getfield 31, .aload_n 0, .getfield 286, .aload_n 0, .getfield 113, .iastore, .aload_n 0, .dup, .getfield 286, .iconst 1, .iadd, .putfield 286] (by decide +kernel) rfl rfl ⟨c39, trivial⟩ ?_
            obtain ⟨M40, eM40, h⟩ := h
            rw [← eM40]
            refine E_blk (lv' := [some (vr (some (3, this))), some (vi (1 : Int32)), some (vi (mI M 2 0 4)), some (vi (mI M 2 0 5))]) (st' := []) (M1 := M40) (pc' := 155) (tb_Reader hγ) [.iconst 1, .istore_n 1] (by decide +kernel) rfl rfl trivial ?_
            refine E_goto (off := -153) (tgt := 2) (by decide +kernel) (by decide) ?_
            refine E_mask [true, true, false, false] rfl ?_
            exact ih (1 : Int32) M40 h
    · rw [if_neg b1] at h
      refine E_mask [true, true, false, false] rfl ?_
      exact lk_Reader_bodyLine_j158 hγ this Q X v1 M h
set_option maxRecDepth 4096 in
theorem lk_Reader_bodyLine {γ : Gm} (hγ : Gk γ) (this : Nat) (Q : Int32 → Mem → Prop) (X : Mem → Prop) (M : Mem) (h : w_Reader_bodyLine this Q X M) : E γ k_Reader_bodyLine 10 0 [some (vr (some (3, this))), none, none, none] [] M (Qx (9, 0) (Qi Q) X) := by
  unfold w_Reader_bodyLine at h
  refine E_blk (lv' := [some (vr (some (3, this))), some (vi (0 : Int32)), none, none]) (st' := []) (M1 := M) (pc' := 2) (tb_Reader hγ) [.iconst 0, .istore_n 1] (by decide +kernel) rfl rfl trivial ?_
  obtain ⟨n41, h⟩ := h
  refine E_mask [true, true, false, false] rfl ?_
  exact lk_Reader_bodyLine_L2 hγ this Q X n41 (0 : Int32) M h
def w_Reader_told_L2 (this : Nat) (Q : Int32 → Mem → Prop) : Nat → Int32 → Int32 → Mem → Prop
  | 0, _, _, _ => False
  | n + 1, v1, v2, M => if (mI M 3 this 5) ≤ v2 then (Q (-2 : Int32) M) else (vp_in v2 (mL M 23 this) ∧ if (mI M 23 this v2.toNatClampNeg) = v1 then (Q v2 M) else ((w_Reader_told_L2 this Q n) v1 (v2 + (1 : Int32)) M))
def w_Reader_told (this : Nat) (a1 : Int32) (Q : Int32 → Mem → Prop) (M : Mem) : Prop :=
  ∃ n4 : Nat, w_Reader_told_L2 this Q n4 a1 (0 : Int32) M
set_option maxRecDepth 4096 in
theorem lk_Reader_told_L2 {γ : Gm} (hγ : Gk γ) (this : Nat) (Q : Int32 → Mem → Prop) : ∀ (n : Nat) (v1 : Int32) (v2 : Int32) (M : Mem), w_Reader_told_L2 this Q n v1 v2 M → E γ k_Reader_told 0 2 [some (vr (some (3, this))), some (vi v1), some (vi v2)] [] M (Qi Q) := by
  intro n
  induction n with
  | zero => intro v1 v2 M h; exact h.elim
  | succ n ih =>
    intro v1 v2 M h
    unfold w_Reader_told_L2 at h
    refine E_blk (lv' := [some (vr (some (3, this))), some (vi v1), some (vi v2)]) (st' := [vi (mI M 3 this 5), vi v2]) (M1 := M) (pc' := 7) (tb_Reader hγ) [.iload_n 2, .aload_n 0, .getfield 286] (by decide +kernel) rfl rfl trivial ?_
    refine E_icmp_ge (off := 21) (tgt := 28) (by decide +kernel) (by decide) (fun b1 => ?_) (fun b1 => ?_)
    · rw [if_pos b1] at h
      refine E_blk (lv' := [some (vr (some (3, this))), some (vi v1), some (vi v2)]) (st' := [vi (-2 : Int32)]) (M1 := M) (pc' := 30) (tb_Reader hγ) [.bipush (.negSucc 1)] (by decide +kernel) rfl rfl trivial ?_
      exact E_iret rfl (by decide +kernel) h
    · rw [if_neg b1] at h
      obtain ⟨c2, h⟩ := h
      refine E_blk (lv' := [some (vr (some (3, this))), some (vi v1), some (vi v2)]) (st' := [vi v1, vi (mI M 23 this v2.toNatClampNeg)]) (M1 := M) (pc' := 17) (tb_Reader hγ) [.aload_n 0, .getfield 24, .iload_n 2, .iaload, .iload_n 1] (by decide +kernel) rfl rfl ⟨c2, trivial⟩ ?_
      refine E_icmp_ne (off := 5) (tgt := 22) (by decide +kernel) (by decide) (fun b3 => ?_) (fun b3 => ?_)
      · rw [if_pos b3] at h
        refine E_blk (lv' := [some (vr (some (3, this))), some (vi v1), some (vi v2)]) (st' := [vi v2]) (M1 := M) (pc' := 21) (tb_Reader hγ) [.iload_n 2] (by decide +kernel) rfl rfl trivial ?_
        exact E_iret rfl (by decide +kernel) h
      · rw [if_neg b3] at h
        refine E_blk (lv' := [some (vr (some (3, this))), some (vi v1), some (vi (v2 + (1 : Int32)))]) (st' := []) (M1 := M) (pc' := 25) (tb_Reader hγ) [.iinc 2 1] (by decide +kernel) rfl rfl trivial ?_
        refine E_goto (off := -23) (tgt := 2) (by decide +kernel) (by decide) ?_
        refine E_mask [true, true, true] rfl ?_
        exact ih v1 (v2 + (1 : Int32)) M h
set_option maxRecDepth 4096 in
theorem lk_Reader_told {γ : Gm} (hγ : Gk γ) (this : Nat) (a1 : Int32) (Q : Int32 → Mem → Prop) (M : Mem) (h : w_Reader_told this a1 Q M) : E γ k_Reader_told 0 0 [some (vr (some (3, this))), some (vi a1), none] [] M (Qi Q) := by
  unfold w_Reader_told at h
  refine E_blk (lv' := [some (vr (some (3, this))), some (vi a1), some (vi (0 : Int32))]) (st' := []) (M1 := M) (pc' := 2) (tb_Reader hγ) [.iconst 0, .istore_n 2] (by decide +kernel) rfl rfl trivial ?_
  obtain ⟨n4, h⟩ := h
  refine E_mask [true, true, true] rfl ?_
  exact lk_Reader_told_L2 hγ this Q n4 a1 (0 : Int32) M h
