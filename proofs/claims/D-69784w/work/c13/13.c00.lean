def k_JString_coder : Kp := (⟨"java/lang/String", "coder", "()B"⟩, prog_23_method_152_code, 1, some (.byte), [])
theorem mvs_JString_coder : MVs k_JString_coder 0 := ⟨rfl, (tbk_mem (j := 1) (k := 53) rfl), (tbk_mem (j := 1) (k := 54) rfl), Or.inl ⟨rfl, (tbk_mem (j := 1) (k := 55) rfl)⟩, ⟨by decide, by decide⟩, by decide +kernel, by decide +kernel, by decide⟩
def k_JString_length : Kp := (⟨"java/lang/String", "length", "()I"⟩, prog_23_method_54_code, 1, some (.int), [])
theorem mvs_JString_length : MVs k_JString_length 0 := ⟨rfl, (tbk_mem (j := 1) (k := 49) rfl), (tbk_mem (j := 1) (k := 50) rfl), Or.inl ⟨rfl, (tbk_mem (j := 1) (k := 51) rfl)⟩, ⟨by decide, by decide⟩, by decide +kernel, by decide +kernel, by decide⟩
def k_JString_isLatin1 : Kp := (⟨"java/lang/String", "isLatin1", "()Z"⟩, prog_23_method_154_code, 1, some (.boolean), [])
theorem mvs_JString_isLatin1 : MVs k_JString_isLatin1 0 := ⟨rfl, (tbk_mem (j := 1) (k := 63) rfl), (tbk_mem (j := 1) (k := 64) rfl), Or.inl ⟨rfl, (tbk_mem (j := 1) (k := 65) rfl)⟩, ⟨by decide, by decide⟩, by decide +kernel, by decide +kernel, by decide⟩
def k_JLatin_canEncode : Kp := (⟨"java/lang/StringLatin1", "canEncode", "(I)Z"⟩, prog_24_method_4_code, 1, some (.boolean), [])
theorem ms_JLatin_canEncode : MSt k_JLatin_canEncode 1 := ⟨(tbk_mem (j := 1) (k := 71) rfl), (tbk_mem (j := 1) (k := 5) rfl), Or.inl ⟨rfl, (tbk_mem (j := 1) (k := 72) rfl)⟩, ⟨by decide, by decide⟩, by decide +kernel, by decide +kernel, by decide⟩
def k_JMath_max : Kp := (⟨"java/lang/Math", "max", "(II)I"⟩, prog_21_method_65_code, 2, some (.int), [])
theorem ms_JMath_max : MSt k_JMath_max 2 := ⟨(tbk_mem (j := 1) (k := 74) rfl), (tbk_mem (j := 1) (k := 6) rfl), Or.inl ⟨rfl, (tbk_mem (j := 1) (k := 75) rfl)⟩, ⟨by decide, by decide⟩, by decide +kernel, by decide +kernel, by decide⟩
def k_JMath_min : Kp := (⟨"java/lang/Math", "min", "(II)I"⟩, prog_21_method_69_code, 2, some (.int), [])
theorem ms_JMath_min : MSt k_JMath_min 2 := ⟨(tbk_mem (j := 1) (k := 77) rfl), (tbk_mem (j := 1) (k := 6) rfl), Or.inl ⟨rfl, (tbk_mem (j := 1) (k := 78) rfl)⟩, ⟨by decide, by decide⟩, by decide +kernel, by decide +kernel, by decide⟩
def k_JLatin_indexOfChar : Kp := (⟨"java/lang/StringLatin1", "indexOfChar", "([BIII)I"⟩, prog_24_method_23_code, 6, some (.int), [])
theorem ms_JLatin_indexOfChar : MSt k_JLatin_indexOfChar 4 := ⟨(tbk_mem (j := 1) (k := 80) rfl), (tbk_mem (j := 1) (k := 5) rfl), Or.inl ⟨rfl, (tbk_mem (j := 1) (k := 81) rfl)⟩, ⟨by decide, by decide⟩, by decide +kernel, by decide +kernel, by decide⟩
def k_JLatin_indexOf : Kp := (⟨"java/lang/StringLatin1", "indexOf", "([BIII)I"⟩, prog_24_method_22_code, 4, some (.int), [])
theorem ms_JLatin_indexOf : MSt k_JLatin_indexOf 4 := ⟨(tbk_mem (j := 1) (k := 68) rfl), (tbk_mem (j := 1) (k := 5) rfl), Or.inl ⟨rfl, (tbk_mem (j := 1) (k := 69) rfl)⟩, ⟨by decide, by decide⟩, by decide +kernel, by decide +kernel, by decide⟩
def k_JString_indexOf : Kp := (⟨"java/lang/String", "indexOf", "(II)I"⟩, prog_23_method_80_code, 3, some (.int), [])
theorem mvs_JString_indexOf : MVs k_JString_indexOf 2 := ⟨rfl, (tbk_mem (j := 1) (k := 59) rfl), (tbk_mem (j := 1) (k := 60) rfl), Or.inl ⟨rfl, (tbk_mem (j := 1) (k := 61) rfl)⟩, ⟨by decide, by decide⟩, by decide +kernel, by decide +kernel, by decide⟩
def k_JPre_checkIndex : Kp := (⟨"jdk/internal/util/Preconditions", "checkIndex", "(IILjava/util/function/BiFunction;)I"⟩, prog_29_method_11_code, 3, some (.int), [])
theorem ms_JPre_checkIndex : MSt k_JPre_checkIndex 3 := ⟨(tbk_mem (j := 1) (k := 142) rfl), (tbk_mem (j := 1) (k := 8) rfl), Or.inl ⟨rfl, (tbk_mem (j := 1) (k := 143) rfl)⟩, ⟨by decide, by decide⟩, by decide +kernel, by decide +kernel, by decide⟩
def k_JString_checkIndex : Kp := (⟨"java/lang/String", "checkIndex", "(II)V"⟩, prog_23_method_155_code, 2, none, [])
theorem ms_JString_checkIndex : MSt k_JString_checkIndex 2 := ⟨(tbk_mem (j := 1) (k := 139) rfl), (tbk_mem (j := 1) (k := 4) rfl), Or.inl ⟨rfl, (tbk_mem (j := 1) (k := 140) rfl)⟩, ⟨by decide, by decide⟩, by decide +kernel, by decide +kernel, by decide⟩
def k_JLatin_charAt : Kp := (⟨"java/lang/StringLatin1", "charAt", "([BI)C"⟩, prog_24_method_2_code, 2, some (.char), [])
theorem ms_JLatin_charAt : MSt k_JLatin_charAt 2 := ⟨(tbk_mem (j := 1) (k := 136) rfl), (tbk_mem (j := 1) (k := 5) rfl), Or.inl ⟨rfl, (tbk_mem (j := 1) (k := 137) rfl)⟩, ⟨by decide, by decide⟩, by decide +kernel, by decide +kernel, by decide⟩
def k_JString_charAt : Kp := (⟨"java/lang/String", "charAt", "(I)C"⟩, prog_23_method_56_code, 2, some (.char), [])
theorem mvs_JString_charAt : MVs k_JString_charAt 1 := ⟨rfl, (tbk_mem (j := 1) (k := 132) rfl), (tbk_mem (j := 1) (k := 133) rfl), Or.inl ⟨rfl, (tbk_mem (j := 1) (k := 134) rfl)⟩, ⟨by decide, by decide⟩, by decide +kernel, by decide +kernel, by decide⟩
def k_Names_numberOf : Kp := (⟨"ClassWorks$Names", "numberOf", "(JI)I"⟩, prog_6_method_3_code, 6, some (.int), [])
theorem mv_Names_numberOf : MV k_Names_numberOf 1 2 := ⟨⟨_, rfl, rfl⟩, by decide, (tbk_mem (j := 1) (k := 153) rfl), Or.inr ⟨(tbk_mem (j := 1) (k := 152) rfl), 5, (tbk_mem (j := 1) (k := 38) rfl)⟩, Or.inl ⟨rfl, (tbk_mem (j := 1) (k := 154) rfl)⟩, ⟨by decide, by decide⟩, by decide +kernel, by decide +kernel, by decide⟩
def k_Names_init : Kp := (⟨"ClassWorks$Names", "<init>", "()V"⟩, prog_6_method_1_code, 8, none, [])
theorem mi_Names_init : MI k_Names_init 0 := ⟨rfl, (tbk_mem (j := 1) (k := 40) rfl), ⟨rfl, rfl, (tbk_mem (j := 1) (k := 41) rfl)⟩, ⟨by decide, by decide⟩, by decide +kernel, by decide +kernel, by decide⟩
def k_JThr_init : Kp := (⟨"java/lang/Throwable", "<init>", "(Ljava/lang/String;Ljava/lang/Throwable;ZZ)V"⟩, prog_27_method_5_code, 5, none, [])
theorem mi_JThr_init : MI k_JThr_init 4 := ⟨rfl, (tbk_mem (j := 1) (k := 225) rfl), ⟨rfl, rfl, (tbk_mem (j := 1) (k := 226) rfl)⟩, ⟨by decide, by decide⟩, by decide +kernel, by decide +kernel, by decide⟩
def k_JExc_init : Kp := (⟨"java/lang/Exception", "<init>", "(Ljava/lang/String;Ljava/lang/Throwable;ZZ)V"⟩, prog_18_method_5_code, 5, none, [])
theorem mi_JExc_init : MI k_JExc_init 4 := ⟨rfl, (tbk_mem (j := 1) (k := 222) rfl), ⟨rfl, rfl, (tbk_mem (j := 1) (k := 223) rfl)⟩, ⟨by decide, by decide⟩, by decide +kernel, by decide +kernel, by decide⟩
def k_JRte_init : Kp := (⟨"java/lang/RuntimeException", "<init>", "(Ljava/lang/String;Ljava/lang/Throwable;ZZ)V"⟩, prog_22_method_5_code, 5, none, [])
theorem mi_JRte_init : MI k_JRte_init 4 := ⟨rfl, (tbk_mem (j := 1) (k := 219) rfl), ⟨rfl, rfl, (tbk_mem (j := 1) (k := 220) rfl)⟩, ⟨by decide, by decide⟩, by decide +kernel, by decide +kernel, by decide⟩
def k_Refusal_init : Kp := (⟨"ClassWorks$Refusal", "<init>", "()V"⟩, prog_8_method_1_code, 1, none, [])
theorem mi_Refusal_init : MI k_Refusal_init 0 := ⟨rfl, (tbk_mem (j := 1) (k := 216) rfl), ⟨rfl, rfl, (tbk_mem (j := 1) (k := 217) rfl)⟩, ⟨by decide, by decide⟩, by decide +kernel, by decide +kernel, by decide⟩
def k_Words_init : Kp := (⟨"ClassWorks$Words", "<init>", "(LClassWorks;)V"⟩, prog_9_method_1_code, 2, none, [])
theorem mi_Words_init : MI k_Words_init 1 := ⟨rfl, (tbk_mem (j := 2) (k := 16) rfl), ⟨rfl, rfl, (tbk_mem (j := 2) (k := 17) rfl)⟩, ⟨by decide, by decide⟩, by decide +kernel, by decide +kernel, by decide⟩
def k_Reader_init : Kp := (⟨"ClassWorks$Reader", "<init>", "(LClassWorks;)V"⟩, prog_7_method_1_code, 2, none, [])
theorem mi_Reader_init : MI k_Reader_init 1 := ⟨rfl, (tbk_mem (j := 2) (k := 10) rfl), ⟨rfl, rfl, (tbk_mem (j := 2) (k := 11) rfl)⟩, ⟨by decide, by decide⟩, by decide +kernel, by decide +kernel, by decide⟩
def k_Checker_init : Kp := (⟨"ClassWorks$Checker", "<init>", "(LClassWorks;)V"⟩, prog_2_method_1_code, 2, none, [])
theorem mi_Checker_init : MI k_Checker_init 1 := ⟨rfl, (tbk_mem (j := 2) (k := 126) rfl), ⟨rfl, rfl, (tbk_mem (j := 2) (k := 127) rfl)⟩, ⟨by decide, by decide⟩, by decide +kernel, by decide +kernel, by decide⟩
def k_Line_init : Kp := (⟨"ClassWorks$Line", "<init>", "(I)V"⟩, prog_4_method_1_code, 2, none, [])
theorem mi_Line_init : MI k_Line_init 1 := ⟨rfl, (tbk_mem (j := 2) (k := 204) rfl), ⟨rfl, rfl, (tbk_mem (j := 2) (k := 205) rfl)⟩, ⟨by decide, by decide⟩, by decide +kernel, by decide +kernel, by decide⟩
def k_Machine_init : Kp := (⟨"ClassWorks$Machine", "<init>", "(LClassWorks;LClassWorks$World;)V"⟩, prog_5_method_1_code, 3, none, [])
theorem mi_Machine_init : MI k_Machine_init 2 := ⟨rfl, (tbk_mem (j := 2) (k := 197) rfl), ⟨rfl, rfl, (tbk_mem (j := 2) (k := 198) rfl)⟩, ⟨by decide, by decide⟩, by decide +kernel, by decide +kernel, by decide⟩
def k_World_init : Kp := (⟨"ClassWorks$World", "<init>", "(LClassWorks;I)V"⟩, prog_10_method_1_code, 4, none, [])
theorem mi_World_init : MI k_World_init 2 := ⟨rfl, (tbk_mem (j := 2) (k := 191) rfl), ⟨rfl, rfl, (tbk_mem (j := 2) (k := 192) rfl)⟩, ⟨by decide, by decide⟩, by decide +kernel, by decide +kernel, by decide⟩
def k_Writer_init : Kp := (⟨"ClassWorks$Writer", "<init>", "(LClassWorks;)V"⟩, prog_11_method_1_code, 2, none, [])
theorem mi_Writer_init : MI k_Writer_init 1 := ⟨rfl, (tbk_mem (j := 5) (k := 98) rfl), ⟨rfl, rfl, (tbk_mem (j := 5) (k := 99) rfl)⟩, ⟨by decide, by decide⟩, by decide +kernel, by decide +kernel, by decide⟩
def k_Works_init : Kp := (⟨"ClassWorks", "<init>", "()V"⟩, prog_1_method_1_code, 1, none, [])
theorem mi_Works_init : MI k_Works_init 0 := ⟨rfl, (tbk_mem (j := 1) (k := 32) rfl), ⟨rfl, rfl, (tbk_mem (j := 1) (k := 33) rfl)⟩, ⟨by decide, by decide⟩, by decide +kernel, by decide +kernel, by decide⟩
def k_Works_isIn : Kp := (⟨"ClassWorks", "isIn", "(III)Z"⟩, prog_1_method_2_code, 3, some (.boolean), [])
theorem ms_Works_isIn : MSt k_Works_isIn 3 := ⟨(tbk_mem (j := 5) (k := 238) rfl), (tbk_mem (j := 1) (k := 1) rfl), Or.inl ⟨rfl, (tbk_mem (j := 5) (k := 239) rfl)⟩, ⟨by decide, by decide⟩, by decide +kernel, by decide +kernel, by decide⟩
def k_Works_lay : Kp := (⟨"ClassWorks", "lay", "(I)V"⟩, prog_1_method_4_code, 3, none, [])
theorem mv_Works_lay : MV k_Works_lay 10 1 := ⟨⟨_, rfl, rfl⟩, by decide, (tbk_mem (j := 5) (k := 231) rfl), Or.inr ⟨(tbk_mem (j := 5) (k := 230) rfl), 31, (tbk_mem (j := 1) (k := 30) rfl)⟩, Or.inl ⟨rfl, (tbk_mem (j := 5) (k := 232) rfl)⟩, ⟨by decide, by decide⟩, by decide +kernel, by decide +kernel, by decide⟩
def k_Works_feed : Kp := (⟨"ClassWorks", "feed", "(IIIII)I"⟩, prog_1_method_3_code, 6, some (.int), [])
theorem mv_Works_feed : MV k_Works_feed 10 5 := ⟨⟨_, rfl, rfl⟩, by decide, (tbk_mem (j := 5) (k := 226) rfl), Or.inl (tbk_mem (j := 5) (k := 227) rfl), Or.inl ⟨rfl, (tbk_mem (j := 5) (k := 228) rfl)⟩, ⟨by decide, by decide⟩, by decide +kernel, by decide +kernel, by decide⟩
def k_Works_cut : Kp := (⟨"ClassWorks", "cut", "(I)I"⟩, prog_1_method_5_code, 2, some (.int), [])
theorem mv_Works_cut : MV k_Works_cut 10 1 := ⟨⟨_, rfl, rfl⟩, by decide, (tbk_mem (j := 5) (k := 234) rfl), Or.inl (tbk_mem (j := 5) (k := 235) rfl), Or.inl ⟨rfl, (tbk_mem (j := 5) (k := 236) rfl)⟩, ⟨by decide, by decide⟩, by decide +kernel, by decide +kernel, by decide⟩
def k_Works_isReference : Kp := (⟨"ClassWorks", "isReference", "(I)Z"⟩, prog_1_method_6_code, 1, some (.boolean), [])
theorem ms_Works_isReference : MSt k_Works_isReference 1 := ⟨(tbk_mem (j := 7) (k := 193) rfl), (tbk_mem (j := 1) (k := 1) rfl), Or.inl ⟨rfl, (tbk_mem (j := 7) (k := 194) rfl)⟩, ⟨by decide, by decide⟩, by decide +kernel, by decide +kernel, by decide⟩
def k_Works_kindOf : Kp := (⟨"ClassWorks", "kindOf", "(I)I"⟩, prog_1_method_7_code, 1, some (.int), [])
theorem ms_Works_kindOf : MSt k_Works_kindOf 1 := ⟨(tbk_mem (j := 6) (k := 181) rfl), (tbk_mem (j := 1) (k := 1) rfl), Or.inl ⟨rfl, (tbk_mem (j := 6) (k := 182) rfl)⟩, ⟨by decide, by decide⟩, by decide +kernel, by decide +kernel, by decide⟩
def k_Works_refuse : Kp := (⟨"ClassWorks", "refuse", "(II)LClassWorks$Refusal;"⟩, prog_1_method_8_code, 3, some (.object "ClassWorks$Refusal"), [])
theorem mv_Works_refuse : MV k_Works_refuse 10 2 := ⟨⟨_, rfl, rfl⟩, by decide, (tbk_mem (j := 6) (k := 128) rfl), Or.inr ⟨(tbk_mem (j := 6) (k := 127) rfl), 31, (tbk_mem (j := 1) (k := 30) rfl)⟩, Or.inl ⟨rfl, (tbk_mem (j := 6) (k := 129) rfl)⟩, ⟨by decide, by decide⟩, by decide +kernel, by decide +kernel, by decide⟩
def k_World_addClass : Kp := (⟨"ClassWorks$World", "addClass", "(III)I"⟩, prog_10_method_3_code, 5, some (.int), [])
theorem mv_World_addClass : MV k_World_addClass 5 3 := ⟨⟨_, rfl, rfl⟩, by decide, (tbk_mem (j := 6) (k := 9) rfl), Or.inl (tbk_mem (j := 6) (k := 10) rfl), Or.inl ⟨rfl, (tbk_mem (j := 6) (k := 11) rfl)⟩, ⟨by decide, by decide⟩, by decide +kernel, by decide +kernel, by decide⟩
def k_World_addMethod : Kp := (⟨"ClassWorks$World", "addMethod", "(II)I"⟩, prog_10_method_4_code, 4, some (.int), [])
theorem mv_World_addMethod : MV k_World_addMethod 5 2 := ⟨⟨_, rfl, rfl⟩, by decide, (tbk_mem (j := 6) (k := 13) rfl), Or.inl (tbk_mem (j := 6) (k := 14) rfl), Or.inl ⟨rfl, (tbk_mem (j := 6) (k := 15) rfl)⟩, ⟨by decide, by decide⟩, by decide +kernel, by decide +kernel, by decide⟩
def k_Line_clear : Kp := (⟨"ClassWorks$Line", "clear", "()V"⟩, prog_4_method_2_code, 1, none, [])
theorem mv_Line_clear : MV k_Line_clear 7 0 := ⟨⟨_, rfl, rfl⟩, by decide, (tbk_mem (j := 6) (k := 21) rfl), Or.inl (tbk_mem (j := 6) (k := 22) rfl), Or.inl ⟨rfl, (tbk_mem (j := 6) (k := 23) rfl)⟩, ⟨by decide, by decide⟩, by decide +kernel, by decide +kernel, by decide⟩
def k_Machine_begin : Kp := (⟨"ClassWorks$Machine", "begin", "()V"⟩, prog_5_method_2_code, 5, none, [])
theorem mv_Machine_begin : MV k_Machine_begin 6 0 := ⟨⟨_, rfl, rfl⟩, by decide, (tbk_mem (j := 6) (k := 17) rfl), Or.inl (tbk_mem (j := 6) (k := 18) rfl), Or.inl ⟨rfl, (tbk_mem (j := 6) (k := 19) rfl)⟩, ⟨by decide, by decide⟩, by decide +kernel, by decide +kernel, by decide⟩
def k_World_begin : Kp := (⟨"ClassWorks$World", "begin", "(I)V"⟩, prog_10_method_2_code, 6, none, [])
theorem mv_World_begin : MV k_World_begin 5 1 := ⟨⟨_, rfl, rfl⟩, by decide, (tbk_mem (j := 6) (k := 5) rfl), Or.inl (tbk_mem (j := 6) (k := 6) rfl), Or.inl ⟨rfl, (tbk_mem (j := 6) (k := 7) rfl)⟩, ⟨by decide, by decide⟩, by decide +kernel, by decide +kernel, by decide⟩
def k_Words_begin : Kp := (⟨"ClassWorks$Words", "begin", "([BI)V"⟩, prog_9_method_2_code, 3, none, [])
theorem mv_Words_begin : MV k_Words_begin 2 2 := ⟨⟨_, rfl, rfl⟩, by decide, (tbk_mem (j := 6) (k := 46) rfl), Or.inl (tbk_mem (j := 6) (k := 47) rfl), Or.inl ⟨rfl, (tbk_mem (j := 6) (k := 48) rfl)⟩, ⟨by decide, by decide⟩, by decide +kernel, by decide +kernel, by decide⟩
def k_Words_peek : Kp := (⟨"ClassWorks$Words", "peek", "(I)I"⟩, prog_9_method_3_code, 2, some (.int), [])
theorem mv_Words_peek : MV k_Words_peek 2 1 := ⟨⟨_, rfl, rfl⟩, by decide, (tbk_mem (j := 6) (k := 59) rfl), Or.inr ⟨(tbk_mem (j := 6) (k := 58) rfl), 7, (tbk_mem (j := 2) (k := 14) rfl)⟩, Or.inl ⟨rfl, (tbk_mem (j := 6) (k := 60) rfl)⟩, ⟨by decide, by decide⟩, by decide +kernel, by decide +kernel, by decide⟩
def k_Words_isLetter : Kp := (⟨"ClassWorks$Words", "isLetter", "(I)Z"⟩, prog_9_method_4_code, 2, some (.boolean), [])
theorem mv_Words_isLetter : MV k_Words_isLetter 2 1 := ⟨⟨_, rfl, rfl⟩, by decide, (tbk_mem (j := 6) (k := 67) rfl), Or.inr ⟨(tbk_mem (j := 6) (k := 66) rfl), 7, (tbk_mem (j := 2) (k := 14) rfl)⟩, Or.inl ⟨rfl, (tbk_mem (j := 6) (k := 68) rfl)⟩, ⟨by decide, by decide⟩, by decide +kernel, by decide +kernel, by decide⟩
def k_Words_isDigit : Kp := (⟨"ClassWorks$Words", "isDigit", "(I)Z"⟩, prog_9_method_5_code, 2, some (.boolean), [])
theorem mv_Words_isDigit : MV k_Words_isDigit 2 1 := ⟨⟨_, rfl, rfl⟩, by decide, (tbk_mem (j := 6) (k := 76) rfl), Or.inr ⟨(tbk_mem (j := 6) (k := 75) rfl), 7, (tbk_mem (j := 2) (k := 14) rfl)⟩, Or.inl ⟨rfl, (tbk_mem (j := 6) (k := 77) rfl)⟩, ⟨by decide, by decide⟩, by decide +kernel, by decide +kernel, by decide⟩
def k_Names_of : Kp := (⟨"ClassWorks$Names", "of", "([BII)I"⟩, prog_6_method_2_code, 9, some (.int), [])
theorem mv_Names_of : MV k_Names_of 1 3 := ⟨⟨_, rfl, rfl⟩, by decide, (tbk_mem (j := 6) (k := 81) rfl), Or.inl (tbk_mem (j := 6) (k := 82) rfl), Or.inl ⟨rfl, (tbk_mem (j := 6) (k := 83) rfl)⟩, ⟨by decide, by decide⟩, by decide +kernel, by decide +kernel, by decide⟩
def k_Words_name : Kp := (⟨"ClassWorks$Words", "name", "()V"⟩, prog_9_method_7_code, 2, none, [])
theorem mv_Words_name : MV k_Words_name 2 0 := ⟨⟨_, rfl, rfl⟩, by decide, (tbk_mem (j := 6) (k := 72) rfl), Or.inr ⟨(tbk_mem (j := 6) (k := 71) rfl), 7, (tbk_mem (j := 2) (k := 14) rfl)⟩, Or.inl ⟨rfl, (tbk_mem (j := 6) (k := 73) rfl)⟩, ⟨by decide, by decide⟩, by decide +kernel, by decide +kernel, by decide⟩
def k_Words_number : Kp := (⟨"ClassWorks$Words", "number", "(Z)V"⟩, prog_9_method_8_code, 7, none, [])
theorem mv_Words_number : MV k_Words_number 2 1 := ⟨⟨_, rfl, rfl⟩, by decide, (tbk_mem (j := 6) (k := 86) rfl), Or.inr ⟨(tbk_mem (j := 6) (k := 85) rfl), 7, (tbk_mem (j := 2) (k := 14) rfl)⟩, Or.inl ⟨rfl, (tbk_mem (j := 6) (k := 87) rfl)⟩, ⟨by decide, by decide⟩, by decide +kernel, by decide +kernel, by decide⟩
def k_Names_at : Kp := (⟨"ClassWorks$Names", "at", "(II)I"⟩, prog_6_method_4_code, 3, some (.int), [])
theorem mv_Names_at : MV k_Names_at 1 2 := ⟨⟨_, rfl, rfl⟩, by decide, (tbk_mem (j := 6) (k := 99) rfl), Or.inl (tbk_mem (j := 6) (k := 100) rfl), Or.inl ⟨rfl, (tbk_mem (j := 6) (k := 101) rfl)⟩, ⟨by decide, by decide⟩, by decide +kernel, by decide +kernel, by decide⟩
def k_Words_special : Kp := (⟨"ClassWorks$Words", "special", "()V"⟩, prog_9_method_9_code, 3, none, [])
theorem mv_Words_special : MV k_Words_special 2 0 := ⟨⟨_, rfl, rfl⟩, by decide, (tbk_mem (j := 6) (k := 96) rfl), Or.inr ⟨(tbk_mem (j := 6) (k := 95) rfl), 7, (tbk_mem (j := 2) (k := 14) rfl)⟩, Or.inl ⟨rfl, (tbk_mem (j := 6) (k := 97) rfl)⟩, ⟨by decide, by decide⟩, by decide +kernel, by decide +kernel, by decide⟩
def w_JString_coder (this : Nat) (Q : Int32 → Mem → Prop) (M : Mem) : Prop :=
  if (1 : Int32) = 0 then (narrow .byte (.int (1 : Int32)) = .int (1 : Int32) ∧ Q (1 : Int32) M) else (this < nStr ∧ narrow .byte (.int (0 : Int32)) = .int (0 : Int32) ∧ Q (0 : Int32) M)
set_option maxRecDepth 4096 in
theorem lk_JString_coder {γ : Gm} (hγ : Gk γ) (this : Nat) (Q : Int32 → Mem → Prop) (M : Mem) (h : w_JString_coder this Q M) : E γ k_JString_coder 0 0 [some (vr (some (0, this)))] [] M (Qi Q) := by
  unfold w_JString_coder at h
  refine E_getZ (κ := k_JString_coder) (pc := 0) (idx := 38) hγ.2.2.2 (tbk_mem (j := 1) (k := 56) rfl) (by decide +kernel) ?_
  refine E_if_eq (off := 10) (tgt := 13) (by decide +kernel) (by decide) (fun b1 => ?_) (fun b1 => ?_)
  · rw [if_pos b1] at h
    refine E_blk (lv' := [some (vr (some (0, this)))]) (st' := [vi (1 : Int32)]) (M1 := M) (pc' := 14) (tb_JString hγ) [.iconst 1] (by decide +kernel) rfl rfl trivial ?_
    exact E_bret rfl h.1 (by decide +kernel) h.2
  · rw [if_neg b1] at h
    refine E_blk (lv' := [some (vr (some (0, this)))]) (st' := [vr (some (0, this))]) (M1 := M) (pc' := 7) (tb_JString hγ) [.aload_n 0] (by decide +kernel) rfl rfl trivial ?_
    obtain ⟨c2, h⟩ := h
    refine E_getC (κ := k_JString_coder) (pc := 7) (k := this) (idx := 15) hγ.2.2.2 c2 (tbk_mem (j := 18) (k := 45) rfl) (by decide +kernel) ?_
    refine E_goto (off := 4) (tgt := 14) (by decide +kernel) (by decide) ?_
    exact E_bret rfl h.1 (by decide +kernel) h.2
set_option maxRecDepth 4096 in
theorem lk0_JString_coder {γ : Gm} (hγ : G0 γ) (this : Nat) (Q : Int32 → Mem → Prop) (M : Mem) (h : w_JString_coder this Q M) : E γ k_JString_coder 0 0 [some (vr (some (0, this)))] [] M (Qi Q) := by
  unfold w_JString_coder at h
  refine E_getZ (κ := k_JString_coder) (pc := 0) (idx := 38) hγ.2.2.2 (tbk_mem (j := 1) (k := 56) rfl) (by decide +kernel) ?_
  refine E_if_eq (off := 10) (tgt := 13) (by decide +kernel) (by decide) (fun b1 => ?_) (fun b1 => ?_)
  · rw [if_pos b1] at h
    refine E_blk (lv' := [some (vr (some (0, this)))]) (st' := [vi (1 : Int32)]) (M1 := M) (pc' := 14) (tb0_JString hγ) [.iconst 1] (by decide +kernel) rfl rfl trivial ?_
    exact E_bret rfl h.1 (by decide +kernel) h.2
  · rw [if_neg b1] at h
    refine E_blk (lv' := [some (vr (some (0, this)))]) (st' := [vr (some (0, this))]) (M1 := M) (pc' := 7) (tb0_JString hγ) [.aload_n 0] (by decide +kernel) rfl rfl trivial ?_
    obtain ⟨c2, h⟩ := h
    refine E_getC (κ := k_JString_coder) (pc := 7) (k := this) (idx := 15) hγ.2.2.2 c2 (tbk_mem (j := 18) (k := 45) rfl) (by decide +kernel) ?_
    refine E_goto (off := 4) (tgt := 14) (by decide +kernel) (by decide) ?_
    exact E_bret rfl h.1 (by decide +kernel) h.2
def w_JString_length (this : Nat) (Q : Int32 → Mem → Prop) (M : Mem) : Prop :=
  this < nStr ∧ 200 ≤ (200 + this) ∧ (200 + this) - 200 < nStr ∧ this < nStr ∧ w_JString_coder this (fun r5 M4 => Q ((Int32.ofNat (stN.getD ((200 + this) - 200) 0)) >>> (r5 &&& 31)) M4) M
set_option maxRecDepth 4096 in
theorem lk_JString_length {γ : Gm} (hγ : Gk γ) (this : Nat) (Q : Int32 → Mem → Prop) (M : Mem) (h : w_JString_length this Q M) : E γ k_JString_length 1 0 [some (vr (some (0, this)))] [] M (Qi Q) := by
  unfold w_JString_length at h
  refine E_blk (lv' := [some (vr (some (0, this)))]) (st' := [vr (some (0, this))]) (M1 := M) (pc' := 1) (tb_JString hγ) [.aload_n 0] (by decide +kernel) rfl rfl trivial ?_
  obtain ⟨c1, h⟩ := h
  refine E_getV (κ := k_JString_length) (pc := 1) (k := this) (idx := 9) hγ.2.2.2 c1 (tbk_mem (j := 18) (k := 44) rfl) (by decide +kernel) ?_
  obtain ⟨c2, c3, h⟩ := h
  refine E_lenS (κ := k_JString_length) (pc := 4) (x := (200 + this)) hγ.2.2.2 c2 c3 (by decide +kernel) ?_
  refine E_blk (lv' := [some (vr (some (0, this)))]) (st' := [vr (some (0, this)), vi (Int32.ofNat (stN.getD ((200 + this) - 200) 0))]) (M1 := M) (pc' := 6) (tb_JString hγ) [.aload_n 0] (by decide +kernel) rfl rfl trivial ?_
  obtain ⟨c6, h⟩ := h
  refine E_callN (κ' := k_JString_coder) (i := this) (As := []) (st := [vi (Int32.ofNat (stN.getD ((200 + this) - 200) 0))]) hγ.2.2.2 c6 mvs_JString_coder (tbk_mem (j := 1) (k := 52) rfl) rfl (by decide +kernel) (Nat.le_of_ble_eq_true rfl) (Nat.le_of_ble_eq_true rfl) rfl (by decide) (lk_JString_coder hγ this _ M h) (fun _ _ => Qi_r) (fun v M4 hp => Qi_k (R := fun st => E γ k_JString_length 1 9 [some (vr (some (0, this)))] st M4 (Qi Q)) hp (fun r5 h => ?_))
  refine E_blk (lv' := [some (vr (some (0, this)))]) (st' := [vi ((Int32.ofNat (stN.getD ((200 + this) - 200) 0)) >>> (r5 &&& 31))]) (M1 := M4) (pc' := 10) (tb_JString hγ) [.ishr] (by decide +kernel) rfl rfl trivial ?_
  exact E_iret rfl (by decide +kernel) h
set_option maxRecDepth 4096 in
theorem lk0_JString_length {γ : Gm} (hγ : G0 γ) (this : Nat) (Q : Int32 → Mem → Prop) (M : Mem) (h : w_JString_length this Q M) : E γ k_JString_length 1 0 [some (vr (some (0, this)))] [] M (Qi Q) := by
  unfold w_JString_length at h
  refine E_blk (lv' := [some (vr (some (0, this)))]) (st' := [vr (some (0, this))]) (M1 := M) (pc' := 1) (tb0_JString hγ) [.aload_n 0] (by decide +kernel) rfl rfl trivial ?_
  obtain ⟨c1, h⟩ := h
  refine E_getV (κ := k_JString_length) (pc := 1) (k := this) (idx := 9) hγ.2.2.2 c1 (tbk_mem (j := 18) (k := 44) rfl) (by decide +kernel) ?_
  obtain ⟨c2, c3, h⟩ := h
  refine E_lenS (κ := k_JString_length) (pc := 4) (x := (200 + this)) hγ.2.2.2 c2 c3 (by decide +kernel) ?_
  refine E_blk (lv' := [some (vr (some (0, this)))]) (st' := [vr (some (0, this)), vi (Int32.ofNat (stN.getD ((200 + this) - 200) 0))]) (M1 := M) (pc' := 6) (tb0_JString hγ) [.aload_n 0] (by decide +kernel) rfl rfl trivial ?_
  obtain ⟨c6, h⟩ := h
  refine E_callN (κ' := k_JString_coder) (i := this) (As := []) (st := [vi (Int32.ofNat (stN.getD ((200 + this) - 200) 0))]) hγ.2.2.2 c6 mvs_JString_coder (tbk_mem (j := 1) (k := 52) rfl) rfl (by decide +kernel) (Nat.le_of_ble_eq_true rfl) (Nat.le_of_ble_eq_true rfl) rfl (by decide) (lk0_JString_coder hγ this _ M h) (fun _ _ => Qi_r) (fun v M4 hp => Qi_k (R := fun st => E γ k_JString_length 1 9 [some (vr (some (0, this)))] st M4 (Qi Q)) hp (fun r5 h => ?_))
  refine E_blk (lv' := [some (vr (some (0, this)))]) (st' := [vi ((Int32.ofNat (stN.getD ((200 + this) - 200) 0)) >>> (r5 &&& 31))]) (M1 := M4) (pc' := 10) (tb0_JString hγ) [.ishr] (by decide +kernel) rfl rfl trivial ?_
  exact E_iret rfl (by decide +kernel) h
def w_JString_isLatin1 (this : Nat) (Q : Int32 → Mem → Prop) (M : Mem) : Prop :=
  if (1 : Int32) = 0 then (Q (0 : Int32) M) else (this < nStr ∧ if (0 : Int32) = 0 then (Q (1 : Int32) M) else (Q (0 : Int32) M))
set_option maxRecDepth 4096 in
theorem lk_JString_isLatin1 {γ : Gm} (hγ : Gk γ) (this : Nat) (Q : Int32 → Mem → Prop) (M : Mem) (h : w_JString_isLatin1 this Q M) : E γ k_JString_isLatin1 0 0 [some (vr (some (0, this)))] [] M (Qi Q) := by
  unfold w_JString_isLatin1 at h
  refine E_getZ (κ := k_JString_isLatin1) (pc := 0) (idx := 38) hγ.2.2.2 (tbk_mem (j := 1) (k := 56) rfl) (by decide +kernel) ?_
  refine E_if_eq (off := 14) (tgt := 17) (by decide +kernel) (by decide) (fun b1 => ?_) (fun b1 => ?_)
  · rw [if_pos b1] at h
    refine E_blk (lv' := [some (vr (some (0, this)))]) (st' := [vi (0 : Int32)]) (M1 := M) (pc' := 18) (tb_JString hγ) [.iconst 0] (by decide +kernel) rfl rfl trivial ?_
    exact E_zret rfl (Or.inl rfl) (by decide +kernel) h
  · rw [if_neg b1] at h
    refine E_blk (lv' := [some (vr (some (0, this)))]) (st' := [vr (some (0, this))]) (M1 := M) (pc' := 7) (tb_JString hγ) [.aload_n 0] (by decide +kernel) rfl rfl trivial ?_
    obtain ⟨c2, h⟩ := h
    refine E_getC (κ := k_JString_isLatin1) (pc := 7) (k := this) (idx := 15) hγ.2.2.2 c2 (tbk_mem (j := 18) (k := 45) rfl) (by decide +kernel) ?_
    refine E_if_ne (off := 7) (tgt := 17) (by decide +kernel) (by decide) (fun b3 => ?_) (fun b3 => ?_)
    · rw [if_pos b3] at h
      refine E_blk (lv' := [some (vr (some (0, this)))]) (st' := [vi (1 : Int32)]) (M1 := M) (pc' := 14) (tb_JString hγ) [.iconst 1] (by decide +kernel) rfl rfl trivial ?_
      refine E_goto (off := 4) (tgt := 18) (by decide +kernel) (by decide) ?_
      exact E_zret rfl (Or.inr rfl) (by decide +kernel) h
    · rw [if_neg b3] at h
      refine E_blk (lv' := [some (vr (some (0, this)))]) (st' := [vi (0 : Int32)]) (M1 := M) (pc' := 18) (tb_JString hγ) [.iconst 0] (by decide +kernel) rfl rfl trivial ?_
      exact E_zret rfl (Or.inl rfl) (by decide +kernel) h
set_option maxRecDepth 4096 in
theorem lk0_JString_isLatin1 {γ : Gm} (hγ : G0 γ) (this : Nat) (Q : Int32 → Mem → Prop) (M : Mem) (h : w_JString_isLatin1 this Q M) : E γ k_JString_isLatin1 0 0 [some (vr (some (0, this)))] [] M (Qi Q) := by
  unfold w_JString_isLatin1 at h
  refine E_getZ (κ := k_JString_isLatin1) (pc := 0) (idx := 38) hγ.2.2.2 (tbk_mem (j := 1) (k := 56) rfl) (by decide +kernel) ?_
  refine E_if_eq (off := 14) (tgt := 17) (by decide +kernel) (by decide) (fun b1 => ?_) (fun b1 => ?_)
  · rw [if_pos b1] at h
    refine E_blk (lv' := [some (vr (some (0, this)))]) (st' := [vi (0 : Int32)]) (M1 := M) (pc' := 18) (tb0_JString hγ) [.iconst 0] (by decide +kernel) rfl rfl trivial ?_
    exact E_zret rfl (Or.inl rfl) (by decide +kernel) h
  · rw [if_neg b1] at h
    refine E_blk (lv' := [some (vr (some (0, this)))]) (st' := [vr (some (0, this))]) (M1 := M) (pc' := 7) (tb0_JString hγ) [.aload_n 0] (by decide +kernel) rfl rfl trivial ?_
    obtain ⟨c2, h⟩ := h
    refine E_getC (κ := k_JString_isLatin1) (pc := 7) (k := this) (idx := 15) hγ.2.2.2 c2 (tbk_mem (j := 18) (k := 45) rfl) (by decide +kernel) ?_
    refine E_if_ne (off := 7) (tgt := 17) (by decide +kernel) (by decide) (fun b3 => ?_) (fun b3 => ?_)
    · rw [if_pos b3] at h
      refine E_blk (lv' := [some (vr (some (0, this)))]) (st' := [vi (1 : Int32)]) (M1 := M) (pc' := 14) (tb0_JString hγ) [.iconst 1] (by decide +kernel) rfl rfl trivial ?_
      refine E_goto (off := 4) (tgt := 18) (by decide +kernel) (by decide) ?_
      exact E_zret rfl (Or.inr rfl) (by decide +kernel) h
    · rw [if_neg b3] at h
      refine E_blk (lv' := [some (vr (some (0, this)))]) (st' := [vi (0 : Int32)]) (M1 := M) (pc' := 18) (tb0_JString hγ) [.iconst 0] (by decide +kernel) rfl rfl trivial ?_
      exact E_zret rfl (Or.inl rfl) (by decide +kernel) h
def w_JLatin_canEncode (a1 : Int32) (Q : Int32 → Mem → Prop) (M : Mem) : Prop :=
  if a1 < 0 then (Q (0 : Int32) M) else (if (255 : Int32) < a1 then (Q (0 : Int32) M) else (Q (1 : Int32) M))
set_option maxRecDepth 4096 in
theorem lk_JLatin_canEncode {γ : Gm} (hγ : Gk γ) (a1 : Int32) (Q : Int32 → Mem → Prop) (M : Mem) (h : w_JLatin_canEncode a1 Q M) : E γ k_JLatin_canEncode 0 0 [some (vi a1)] [] M (Qi Q) := by
  unfold w_JLatin_canEncode at h
  refine E_blk (lv' := [some (vi a1)]) (st' := [vi a1]) (M1 := M) (pc' := 1) (tb_JLatin hγ) [.iload_n 0] (by decide +kernel) rfl rfl trivial ?_
  refine E_if_lt (off := 14) (tgt := 15) (by decide +kernel) (by decide) (fun b1 => ?_) (fun b1 => ?_)
  · rw [if_pos b1] at h
    refine E_blk (lv' := [some (vi a1)]) (st' := [vi (0 : Int32)]) (M1 := M) (pc' := 16) (tb_JLatin hγ) [.iconst 0] (by decide +kernel) rfl rfl trivial ?_
    exact E_zret rfl (Or.inl rfl) (by decide +kernel) h
  · rw [if_neg b1] at h
    refine E_blk (lv' := [some (vi a1)]) (st' := [vi (255 : Int32), vi a1]) (M1 := M) (pc' := 8) (tb_JLatin hγ) [.iload_n 0, .sipush 255] (by decide +kernel) rfl rfl trivial ?_
    refine E_icmp_gt (off := 7) (tgt := 15) (by decide +kernel) (by decide) (fun b2 => ?_) (fun b2 => ?_)
    · rw [if_pos b2] at h
      refine E_blk (lv' := [some (vi a1)]) (st' := [vi (0 : Int32)]) (M1 := M) (pc' := 16) (tb_JLatin hγ) [.iconst 0] (by decide +kernel) rfl rfl trivial ?_
      exact E_zret rfl (Or.inl rfl) (by decide +kernel) h
    · rw [if_neg b2] at h
      refine E_blk (lv' := [some (vi a1)]) (st' := [vi (1 : Int32)]) (M1 := M) (pc' := 12) (tb_JLatin hγ) [.iconst 1] (by decide +kernel) rfl rfl trivial ?_
      refine E_goto (off := 4) (tgt := 16) (by decide +kernel) (by decide) ?_
      exact E_zret rfl (Or.inr rfl) (by decide +kernel) h
set_option maxRecDepth 4096 in
theorem lk0_JLatin_canEncode {γ : Gm} (hγ : G0 γ) (a1 : Int32) (Q : Int32 → Mem → Prop) (M : Mem) (h : w_JLatin_canEncode a1 Q M) : E γ k_JLatin_canEncode 0 0 [some (vi a1)] [] M (Qi Q) := by
  unfold w_JLatin_canEncode at h
  refine E_blk (lv' := [some (vi a1)]) (st' := [vi a1]) (M1 := M) (pc' := 1) (tb0_JLatin hγ) [.iload_n 0] (by decide +kernel) rfl rfl trivial ?_
  refine E_if_lt (off := 14) (tgt := 15) (by decide +kernel) (by decide) (fun b1 => ?_) (fun b1 => ?_)
  · rw [if_pos b1] at h
    refine E_blk (lv' := [some (vi a1)]) (st' := [vi (0 : Int32)]) (M1 := M) (pc' := 16) (tb0_JLatin hγ) [.iconst 0] (by decide +kernel) rfl rfl trivial ?_
    exact E_zret rfl (Or.inl rfl) (by decide +kernel) h
  · rw [if_neg b1] at h
    refine E_blk (lv' := [some (vi a1)]) (st' := [vi (255 : Int32), vi a1]) (M1 := M) (pc' := 8) (tb0_JLatin hγ) [.iload_n 0, .sipush 255] (by decide +kernel) rfl rfl trivial ?_
    refine E_icmp_gt (off := 7) (tgt := 15) (by decide +kernel) (by decide) (fun b2 => ?_) (fun b2 => ?_)
    · rw [if_pos b2] at h
      refine E_blk (lv' := [some (vi a1)]) (st' := [vi (0 : Int32)]) (M1 := M) (pc' := 16) (tb0_JLatin hγ) [.iconst 0] (by decide +kernel) rfl rfl trivial ?_
      exact E_zret rfl (Or.inl rfl) (by decide +kernel) h
    · rw [if_neg b2] at h
      refine E_blk (lv' := [some (vi a1)]) (st' := [vi (1 : Int32)]) (M1 := M) (pc' := 12) (tb0_JLatin hγ) [.iconst 1] (by decide +kernel) rfl rfl trivial ?_
      refine E_goto (off := 4) (tgt := 16) (by decide +kernel) (by decide) ?_
      exact E_zret rfl (Or.inr rfl) (by decide +kernel) h
def w_JMath_max (a1 : Int32) (a2 : Int32) (Q : Int32 → Mem → Prop) (M : Mem) : Prop :=
  if a1 < a2 then (Q a2 M) else (Q a1 M)
set_option maxRecDepth 4096 in
theorem lk_JMath_max {γ : Gm} (hγ : Gk γ) (a1 : Int32) (a2 : Int32) (Q : Int32 → Mem → Prop) (M : Mem) (h : w_JMath_max a1 a2 Q M) : E γ k_JMath_max 0 0 [some (vi a1), some (vi a2)] [] M (Qi Q) := by
  unfold w_JMath_max at h
  refine E_blk (lv' := [some (vi a1), some (vi a2)]) (st' := [vi a2, vi a1]) (M1 := M) (pc' := 2) (tb_JMath hγ) [.iload_n 0, .iload_n 1] (by decide +kernel) rfl rfl trivial ?_
  refine E_icmp_lt (off := 7) (tgt := 9) (by decide +kernel) (by decide) (fun b1 => ?_) (fun b1 => ?_)
  · rw [if_pos b1] at h
    refine E_blk (lv' := [some (vi a1), some (vi a2)]) (st' := [vi a2]) (M1 := M) (pc' := 10) (tb_JMath hγ) [.iload_n 1] (by decide +kernel) rfl rfl trivial ?_
    exact E_iret rfl (by decide +kernel) h
  · rw [if_neg b1] at h
    refine E_blk (lv' := [some (vi a1), some (vi a2)]) (st' := [vi a1]) (M1 := M) (pc' := 6) (tb_JMath hγ) [.iload_n 0] (by decide +kernel) rfl rfl trivial ?_
    refine E_goto (off := 4) (tgt := 10) (by decide +kernel) (by decide) ?_
    exact E_iret rfl (by decide +kernel) h
set_option maxRecDepth 4096 in
theorem lk0_JMath_max {γ : Gm} (hγ : G0 γ) (a1 : Int32) (a2 : Int32) (Q : Int32 → Mem → Prop) (M : Mem) (h : w_JMath_max a1 a2 Q M) : E γ k_JMath_max 0 0 [some (vi a1), some (vi a2)] [] M (Qi Q) := by
  unfold w_JMath_max at h
  refine E_blk (lv' := [some (vi a1), some (vi a2)]) (st' := [vi a2, vi a1]) (M1 := M) (pc' := 2) (tb0_JMath hγ) [.iload_n 0, .iload_n 1] (by decide +kernel) rfl rfl trivial ?_
  refine E_icmp_lt (off := 7) (tgt := 9) (by decide +kernel) (by decide) (fun b1 => ?_) (fun b1 => ?_)
  · rw [if_pos b1] at h
    refine E_blk (lv' := [some (vi a1), some (vi a2)]) (st' := [vi a2]) (M1 := M) (pc' := 10) (tb0_JMath hγ) [.iload_n 1] (by decide +kernel) rfl rfl trivial ?_
    exact E_iret rfl (by decide +kernel) h
  · rw [if_neg b1] at h
    refine E_blk (lv' := [some (vi a1), some (vi a2)]) (st' := [vi a1]) (M1 := M) (pc' := 6) (tb0_JMath hγ) [.iload_n 0] (by decide +kernel) rfl rfl trivial ?_
    refine E_goto (off := 4) (tgt := 10) (by decide +kernel) (by decide) ?_
    exact E_iret rfl (by decide +kernel) h
set_option maxRecDepth 4096 in
theorem lk1_JMath_max {γ : Gm} (hγ : G1 γ) (a1 : Int32) (a2 : Int32) (Q : Int32 → Mem → Prop) (M : Mem) (h : w_JMath_max a1 a2 Q M) : E γ k_JMath_max 0 0 [some (vi a1), some (vi a2)] [] M (Qi Q) := by
  unfold w_JMath_max at h
  refine E_blk (lv' := [some (vi a1), some (vi a2)]) (st' := [vi a2, vi a1]) (M1 := M) (pc' := 2) (tb1_JMath hγ) [.iload_n 0, .iload_n 1] (by decide +kernel) rfl rfl trivial ?_
  refine E_icmp_lt (off := 7) (tgt := 9) (by decide +kernel) (by decide) (fun b1 => ?_) (fun b1 => ?_)
  · rw [if_pos b1] at h
    refine E_blk (lv' := [some (vi a1), some (vi a2)]) (st' := [vi a2]) (M1 := M) (pc' := 10) (tb1_JMath hγ) [.iload_n 1] (by decide +kernel) rfl rfl trivial ?_
    exact E_iret rfl (by decide +kernel) h
  · rw [if_neg b1] at h
    refine E_blk (lv' := [some (vi a1), some (vi a2)]) (st' := [vi a1]) (M1 := M) (pc' := 6) (tb1_JMath hγ) [.iload_n 0] (by decide +kernel) rfl rfl trivial ?_
    refine E_goto (off := 4) (tgt := 10) (by decide +kernel) (by decide) ?_
    exact E_iret rfl (by decide +kernel) h
def w_JMath_min (a1 : Int32) (a2 : Int32) (Q : Int32 → Mem → Prop) (M : Mem) : Prop :=
  if a2 < a1 then (Q a2 M) else (Q a1 M)
set_option maxRecDepth 4096 in
theorem lk_JMath_min {γ : Gm} (hγ : Gk γ) (a1 : Int32) (a2 : Int32) (Q : Int32 → Mem → Prop) (M : Mem) (h : w_JMath_min a1 a2 Q M) : E γ k_JMath_min 0 0 [some (vi a1), some (vi a2)] [] M (Qi Q) := by
  unfold w_JMath_min at h
  refine E_blk (lv' := [some (vi a1), some (vi a2)]) (st' := [vi a2, vi a1]) (M1 := M) (pc' := 2) (tb_JMath hγ) [.iload_n 0, .iload_n 1] (by decide +kernel) rfl rfl trivial ?_
  refine E_icmp_gt (off := 7) (tgt := 9) (by decide +kernel) (by decide) (fun b1 => ?_) (fun b1 => ?_)
  · rw [if_pos b1] at h
    refine E_blk (lv' := [some (vi a1), some (vi a2)]) (st' := [vi a2]) (M1 := M) (pc' := 10) (tb_JMath hγ) [.iload_n 1] (by decide +kernel) rfl rfl trivial ?_
    exact E_iret rfl (by decide +kernel) h
  · rw [if_neg b1] at h
    refine E_blk (lv' := [some (vi a1), some (vi a2)]) (st' := [vi a1]) (M1 := M) (pc' := 6) (tb_JMath hγ) [.iload_n 0] (by decide +kernel) rfl rfl trivial ?_
    refine E_goto (off := 4) (tgt := 10) (by decide +kernel) (by decide) ?_
    exact E_iret rfl (by decide +kernel) h
set_option maxRecDepth 4096 in
theorem lk0_JMath_min {γ : Gm} (hγ : G0 γ) (a1 : Int32) (a2 : Int32) (Q : Int32 → Mem → Prop) (M : Mem) (h : w_JMath_min a1 a2 Q M) : E γ k_JMath_min 0 0 [some (vi a1), some (vi a2)] [] M (Qi Q) := by
  unfold w_JMath_min at h
  refine E_blk (lv' := [some (vi a1), some (vi a2)]) (st' := [vi a2, vi a1]) (M1 := M) (pc' := 2) (tb0_JMath hγ) [.iload_n 0, .iload_n 1] (by decide +kernel) rfl rfl trivial ?_
  refine E_icmp_gt (off := 7) (tgt := 9) (by decide +kernel) (by decide) (fun b1 => ?_) (fun b1 => ?_)
  · rw [if_pos b1] at h
    refine E_blk (lv' := [some (vi a1), some (vi a2)]) (st' := [vi a2]) (M1 := M) (pc' := 10) (tb0_JMath hγ) [.iload_n 1] (by decide +kernel) rfl rfl trivial ?_
    exact E_iret rfl (by decide +kernel) h
  · rw [if_neg b1] at h
    refine E_blk (lv' := [some (vi a1), some (vi a2)]) (st' := [vi a1]) (M1 := M) (pc' := 6) (tb0_JMath hγ) [.iload_n 0] (by decide +kernel) rfl rfl trivial ?_
    refine E_goto (off := 4) (tgt := 10) (by decide +kernel) (by decide) ?_
    exact E_iret rfl (by decide +kernel) h
def w_JLatin_indexOfChar_L7 (Q : Int32 → Mem → Prop) : Nat → Nat → Int32 → Int32 → Int32 → Mem → Prop
  | 0, _, _, _, _, _ => False
  | n + 1, v0, v3, v4, v5, M => if v3 ≤ v5 then (Q (-1 : Int32) M) else (200 ≤ v0 ∧ v0 - 200 < nStr ∧ vp_in v5 (stN.getD (v0 - 200) 0) ∧ if ((stB.getD (v0 - 200) []).getD v5.toNatClampNeg 0) = v4 then (Q v5 M) else ((w_JLatin_indexOfChar_L7 Q n) v0 v3 v4 (v5 + (1 : Int32)) M))
def w_JLatin_indexOfChar (a1 : Nat) (a2 : Int32) (a3 : Int32) (a4 : Int32) (Q : Int32 → Mem → Prop) (M : Mem) : Prop :=
  ∃ n6 : Nat, w_JLatin_indexOfChar_L7 Q n6 a1 a4 a2.toInt8.toInt32 a3 M
set_option maxRecDepth 4096 in
theorem lk_JLatin_indexOfChar_L7 {γ : Gm} (hγ : Gk γ) (Q : Int32 → Mem → Prop) : ∀ (n : Nat) (v0 : Nat) (v3 : Int32) (v4 : Int32) (v5 : Int32) (M : Mem), w_JLatin_indexOfChar_L7 Q n v0 v3 v4 v5 M → E γ k_JLatin_indexOfChar 0 7 [some (vr (some (0, v0))), none, none, some (vi v3), some (vi v4), some (vi v5)] [] M (Qi Q) := by
  intro n
  induction n with
  | zero => intro v0 v3 v4 v5 M h; exact h.elim
  | succ n ih =>
    intro v0 v3 v4 v5 M h
    unfold w_JLatin_indexOfChar_L7 at h
    refine E_blk (lv' := [some (vr (some (0, v0))), none, none, some (vi v3), some (vi v4), some (vi v5)]) (st' := [vi v3, vi v5]) (M1 := M) (pc' := 10) (tb_JLatin hγ) [.iload 5, .iload_n 3] (by decide +kernel) rfl rfl trivial ?_
    refine E_icmp_ge (off := 21) (tgt := 31) (by decide +kernel) (by decide) (fun b1 => ?_) (fun b1 => ?_)
    · rw [if_pos b1] at h
      refine E_blk (lv' := [some (vr (some (0, v0))), none, none, some (vi v3), some (vi v4), some (vi v5)]) (st' := [vi (-1 : Int32)]) (M1 := M) (pc' := 32) (tb_JLatin hγ) [.iconst (.negSucc 0)] (by decide +kernel) rfl rfl trivial ?_
      exact E_iret rfl (by decide +kernel) h
    · rw [if_neg b1] at h
      refine E_blk (lv' := [some (vr (some (0, v0))), none, none, some (vi v3), some (vi v4), some (vi v5)]) (st' := [vi v5, vr (some (0, v0))]) (M1 := M) (pc' := 16) (tb_JLatin hγ) [.aload_n 0, .iload 5] (by decide +kernel) rfl rfl trivial ?_
      obtain ⟨c2, c3, c4, h⟩ := h
      refine E_ldS (κ := k_JLatin_indexOfChar) (pc := 16) (x := v0) (j := v5) hγ.2.2.2 c2 c3 c4 (by decide +kernel) ?_
      refine E_blk (lv' := [some (vr (some (0, v0))), none, none, some (vi v3), some (vi v4), some (vi v5)]) (st' := [vi v4, vi ((stB.getD (v0 - 200) []).getD v5.toNatClampNeg 0)]) (M1 := M) (pc' := 19) (tb_JLatin hγ) [.iload 4] (by decide +kernel) rfl rfl trivial ?_
      refine E_icmp_ne (off := 6) (tgt := 25) (by decide +kernel) (by decide) (fun b5 => ?_) (fun b5 => ?_)
      · rw [if_pos b5] at h
        refine E_blk (lv' := [some (vr (some (0, v0))), none, none, some (vi v3), some (vi v4), some (vi v5)]) (st' := [vi v5]) (M1 := M) (pc' := 24) (tb_JLatin hγ) [.iload 5] (by decide +kernel) rfl rfl trivial ?_
        exact E_iret rfl (by decide +kernel) h
      · rw [if_neg b5] at h
        refine E_blk (lv' := [some (vr (some (0, v0))), none, none, some (vi v3), some (vi v4), some (vi (v5 + (1 : Int32)))]) (st' := []) (M1 := M) (pc' := 28) (tb_JLatin hγ) [.iinc 5 1] (by decide +kernel) rfl rfl trivial ?_
        refine E_goto (off := -21) (tgt := 7) (by decide +kernel) (by decide) ?_
        refine E_mask [true, false, false, true, true, true] rfl ?_
        exact ih v0 v3 v4 (v5 + (1 : Int32)) M h
set_option maxRecDepth 4096 in
theorem lk_JLatin_indexOfChar {γ : Gm} (hγ : Gk γ) (a1 : Nat) (a2 : Int32) (a3 : Int32) (a4 : Int32) (Q : Int32 → Mem → Prop) (M : Mem) (h : w_JLatin_indexOfChar a1 a2 a3 a4 Q M) : E γ k_JLatin_indexOfChar 0 0 [some (vr (some (0, a1))), some (vi a2), some (vi a3), some (vi a4), none, none] [] M (Qi Q) := by
  unfold w_JLatin_indexOfChar at h
  refine E_blk (lv' := [some (vr (some (0, a1))), some (vi a2), some (vi a3), some (vi a4), some (vi a2.toInt8.toInt32), some (vi a3)]) (st' := []) (M1 := M) (pc' := 7) (tb_JLatin hγ) [.iload_n 1, .i2b, .istore 4, .iload_n 2, .istore 5] (by decide +kernel) rfl rfl trivial ?_
  obtain ⟨n6, h⟩ := h
  refine E_mask [true, false, false, true, true, true] rfl ?_
  exact lk_JLatin_indexOfChar_L7 hγ Q n6 a1 a4 a2.toInt8.toInt32 a3 M h
set_option maxRecDepth 4096 in
theorem lk0_JLatin_indexOfChar_L7 {γ : Gm} (hγ : G0 γ) (Q : Int32 → Mem → Prop) : ∀ (n : Nat) (v0 : Nat) (v3 : Int32) (v4 : Int32) (v5 : Int32) (M : Mem), w_JLatin_indexOfChar_L7 Q n v0 v3 v4 v5 M → E γ k_JLatin_indexOfChar 0 7 [some (vr (some (0, v0))), none, none, some (vi v3), some (vi v4), some (vi v5)] [] M (Qi Q) := by
  intro n
  induction n with
  | zero => intro v0 v3 v4 v5 M h; exact h.elim
  | succ n ih =>
    intro v0 v3 v4 v5 M h
    unfold w_JLatin_indexOfChar_L7 at h
    refine E_blk (lv' := [some (vr (some (0, v0))), none, none, some (vi v3), some (vi v4), some (vi v5)]) (st' := [vi v3, vi v5]) (M1 := M) (pc' := 10) (tb0_JLatin hγ) [.iload 5, .iload_n 3] (by decide +kernel) rfl rfl trivial ?_
    refine E_icmp_ge (off := 21) (tgt := 31) (by decide +kernel) (by decide) (fun b1 => ?_) (fun b1 => ?_)
    · rw [if_pos b1] at h
      refine E_blk (lv' := [some (vr (some (0, v0))), none, none, some (vi v3), some (vi v4), some (vi v5)]) (st' := [vi (-1 : Int32)]) (M1 := M) (pc' := 32) (tb0_JLatin hγ) [.iconst (.negSucc 0)] (by decide +kernel) rfl rfl trivial ?_
      exact E_iret rfl (by decide +kernel) h
    · rw [if_neg b1] at h
      refine E_blk (lv' := [some (vr (some (0, v0))), none, none, some (vi v3), some (vi v4), some (vi v5)]) (st' := [vi v5, vr (some (0, v0))]) (M1 := M) (pc' := 16) (tb0_JLatin hγ) [.aload_n 0, .iload 5] (by decide +kernel) rfl rfl trivial ?_
      obtain ⟨c2, c3, c4, h⟩ := h
      refine E_ldS (κ := k_JLatin_indexOfChar) (pc := 16) (x := v0) (j := v5) hγ.2.2.2 c2 c3 c4 (by decide +kernel) ?_
      refine E_blk (lv' := [some (vr (some (0, v0))), none, none, some (vi v3), some (vi v4), some (vi v5)]) (st' := [vi v4, vi ((stB.getD (v0 - 200) []).getD v5.toNatClampNeg 0)]) (M1 := M) (pc' := 19) (tb0_JLatin hγ) [.iload 4] (by decide +kernel) rfl rfl trivial ?_
      refine E_icmp_ne (off := 6) (tgt := 25) (by decide +kernel) (by decide) (fun b5 => ?_) (fun b5 => ?_)
      · rw [if_pos b5] at h
        refine E_blk (lv' := [some (vr (some (0, v0))), none, none, some (vi v3), some (vi v4), some (vi v5)]) (st' := [vi v5]) (M1 := M) (pc' := 24) (tb0_JLatin hγ) [.iload 5] (by decide +kernel) rfl rfl trivial ?_
        exact E_iret rfl (by decide +kernel) h
      · rw [if_neg b5] at h
        refine E_blk (lv' := [some (vr (some (0, v0))), none, none, some (vi v3), some (vi v4), some (vi (v5 + (1 : Int32)))]) (st' := []) (M1 := M) (pc' := 28) (tb0_JLatin hγ) [.iinc 5 1] (by decide +kernel) rfl rfl trivial ?_
        refine E_goto (off := -21) (tgt := 7) (by decide +kernel) (by decide) ?_
        refine E_mask [true, false, false, true, true, true] rfl ?_
        exact ih v0 v3 v4 (v5 + (1 : Int32)) M h
set_option maxRecDepth 4096 in
theorem lk0_JLatin_indexOfChar {γ : Gm} (hγ : G0 γ) (a1 : Nat) (a2 : Int32) (a3 : Int32) (a4 : Int32) (Q : Int32 → Mem → Prop) (M : Mem) (h : w_JLatin_indexOfChar a1 a2 a3 a4 Q M) : E γ k_JLatin_indexOfChar 0 0 [some (vr (some (0, a1))), some (vi a2), some (vi a3), some (vi a4), none, none] [] M (Qi Q) := by
  unfold w_JLatin_indexOfChar at h
  refine E_blk (lv' := [some (vr (some (0, a1))), some (vi a2), some (vi a3), some (vi a4), some (vi a2.toInt8.toInt32), some (vi a3)]) (st' := []) (M1 := M) (pc' := 7) (tb0_JLatin hγ) [.iload_n 1, .i2b, .istore 4, .iload_n 2, .istore 5] (by decide +kernel) rfl rfl trivial ?_
  obtain ⟨n6, h⟩ := h
  refine E_mask [true, false, false, true, true, true] rfl ?_
  exact lk0_JLatin_indexOfChar_L7 hγ Q n6 a1 a4 a2.toInt8.toInt32 a3 M h
def w_JLatin_indexOf (a1 : Nat) (a2 : Int32) (a3 : Int32) (a4 : Int32) (Q : Int32 → Mem → Prop) (M : Mem) : Prop :=
  w_JLatin_canEncode a2 (fun r2 M1 => if r2 = 0 then (Q (-1 : Int32) M1) else (w_JMath_max a3 (0 : Int32) (fun r5 M4 => 200 ≤ a1 ∧ a1 - 200 < nStr ∧ w_JMath_min a4 (Int32.ofNat (stN.getD (a1 - 200) 0)) (fun r9 M8 => if r5 < r9 then (w_JLatin_indexOfChar a1 a2 r5 r9 (fun r12 M11 => Q r12 M11) M8) else (Q (-1 : Int32) M8)) M4) M1)) M
set_option maxRecDepth 4096 in
theorem lk_JLatin_indexOf {γ : Gm} (hγ : Gk γ) (a1 : Nat) (a2 : Int32) (a3 : Int32) (a4 : Int32) (Q : Int32 → Mem → Prop) (M : Mem) (h : w_JLatin_indexOf a1 a2 a3 a4 Q M) : E γ k_JLatin_indexOf 1 0 [some (vr (some (0, a1))), some (vi a2), some (vi a3), some (vi a4)] [] M (Qi Q) := by
  unfold w_JLatin_indexOf at h
  refine E_blk (lv' := [some (vr (some (0, a1))), some (vi a2), some (vi a3), some (vi a4)]) (st' := [vi a2]) (M1 := M) (pc' := 1) (tb_JLatin hγ) [.iload_n 1] (by decide +kernel) rfl rfl trivial ?_
  refine E_callS (κ' := k_JLatin_canEncode) (As := [vi a2]) (st := []) ms_JLatin_canEncode (Or.inl (tbk_mem (j := 1) (k := 70) rfl)) rfl (by decide +kernel) (Nat.le_of_ble_eq_true rfl) (Nat.le_of_ble_eq_true rfl) rfl (by decide) (lk_JLatin_canEncode hγ a2 _ M h) (fun _ _ => Qi_r) (fun v M1 hp => Qi_k (R := fun st => E γ k_JLatin_indexOf 1 4 [some (vr (some (0, a1))), some (vi a2), some (vi a3), some (vi a4)] st M1 (Qi Q)) hp (fun r2 h => ?_))
  refine E_if_ne (off := 5) (tgt := 9) (by decide +kernel) (by decide) (fun b3 => ?_) (fun b3 => ?_)
  · rw [if_pos b3] at h
    refine E_blk (lv' := [some (vr (some (0, a1))), some (vi a2), some (vi a3), some (vi a4)]) (st' := [vi (-1 : Int32)]) (M1 := M1) (pc' := 8) (tb_JLatin hγ) [.iconst (.negSucc 0)] (by decide +kernel) rfl rfl trivial ?_
    exact E_iret rfl (by decide +kernel) h
  · rw [if_neg b3] at h
    refine E_blk (lv' := [some (vr (some (0, a1))), some (vi a2), some (vi a3), some (vi a4)]) (st' := [vi (0 : Int32), vi a3]) (M1 := M1) (pc' := 11) (tb_JLatin hγ) [.iload_n 2, .iconst 0] (by decide +kernel) rfl rfl trivial ?_
    refine E_callS (κ' := k_JMath_max) (As := [vi a3, vi (0 : Int32)]) (st := []) ms_JMath_max (Or.inl (tbk_mem (j := 1) (k := 73) rfl)) rfl (by decide +kernel) (Nat.le_of_ble_eq_true rfl) (Nat.le_of_ble_eq_true rfl) rfl (by decide) (lk_JMath_max hγ a3 (0 : Int32) _ M1 h) (fun _ _ => Qi_r) (fun v M4 hp => Qi_k (R := fun st => E γ k_JLatin_indexOf 1 14 [some (vr (some (0, a1))), some (vi a2), some (vi a3), some (vi a4)] st M4 (Qi Q)) hp (fun r5 h => ?_))
    refine E_blk (lv' := [some (vr (some (0, a1))), some (vi a2), some (vi r5), some (vi a4)]) (st' := [vr (some (0, a1)), vi a4]) (M1 := M4) (pc' := 17) (tb_JLatin hγ) [.istore_n 2, .iload_n 3, .aload_n 0] (by decide +kernel) rfl rfl trivial ?_
    obtain ⟨c6, c7, h⟩ := h
    refine E_lenS (κ := k_JLatin_indexOf) (pc := 17) (x := a1) hγ.2.2.2 c6 c7 (by decide +kernel) ?_
    refine E_callS (κ' := k_JMath_min) (As := [vi a4, vi (Int32.ofNat (stN.getD (a1 - 200) 0))]) (st := []) ms_JMath_min (Or.inl (tbk_mem (j := 1) (k := 76) rfl)) rfl (by decide +kernel) (Nat.le_of_ble_eq_true rfl) (Nat.le_of_ble_eq_true rfl) rfl (by decide) (lk_JMath_min hγ a4 (Int32.ofNat (stN.getD (a1 - 200) 0)) _ M4 h) (fun _ _ => Qi_r) (fun v M8 hp => Qi_k (R := fun st => E γ k_JLatin_indexOf 1 21 [some (vr (some (0, a1))), some (vi a2), some (vi r5), some (vi a4)] st M8 (Qi Q)) hp (fun r9 h => ?_))
    refine E_blk (lv' := [some (vr (some (0, a1))), some (vi a2), some (vi r5), some (vi r9)]) (st' := [vi r9, vi r5]) (M1 := M8) (pc' := 24) (tb_JLatin hγ) [.istore_n 3, .iload_n 2, .iload_n 3] (by decide +kernel) rfl rfl trivial ?_
    refine E_icmp_lt (off := 5) (tgt := 29) (by decide +kernel) (by decide) (fun b10 => ?_) (fun b10 => ?_)
    · rw [if_pos b10] at h
      refine E_blk (lv' := [some (vr (some (0, a1))), some (vi a2), some (vi r5), some (vi r9)]) (st' := [vi r9, vi r5, vi a2, vr (some (0, a1))]) (M1 := M8) (pc' := 33) (tb_JLatin hγ) [.aload_n 0, .iload_n 1, .iload_n 2, .iload_n 3] (by decide +kernel) rfl rfl trivial ?_
      refine E_callS (κ' := k_JLatin_indexOfChar) (As := [vr (some (0, a1)), vi a2, vi r5, vi r9]) (st := []) ms_JLatin_indexOfChar (Or.inl (tbk_mem (j := 1) (k := 79) rfl)) rfl (by decide +kernel) (Nat.le_of_ble_eq_true rfl) (Nat.le_of_ble_eq_true rfl) rfl (by decide) (lk_JLatin_indexOfChar hγ a1 a2 r5 r9 _ M8 h) (fun _ _ => Qi_r) (fun v M11 hp => Qi_k (R := fun st => E γ k_JLatin_indexOf 1 36 [some (vr (some (0, a1))), some (vi a2), some (vi r5), some (vi r9)] st M11 (Qi Q)) hp (fun r12 h => ?_))
      exact E_iret rfl (by decide +kernel) h
    · rw [if_neg b10] at h
      refine E_blk (lv' := [some (vr (some (0, a1))), some (vi a2), some (vi r5), some (vi r9)]) (st' := [vi (-1 : Int32)]) (M1 := M8) (pc' := 28) (tb_JLatin hγ) [.iconst (.negSucc 0)] (by decide +kernel) rfl rfl trivial ?_
      exact E_iret rfl (by decide +kernel) h
set_option maxRecDepth 4096 in
theorem lk0_JLatin_indexOf {γ : Gm} (hγ : G0 γ) (a1 : Nat) (a2 : Int32) (a3 : Int32) (a4 : Int32) (Q : Int32 → Mem → Prop) (M : Mem) (h : w_JLatin_indexOf a1 a2 a3 a4 Q M) : E γ k_JLatin_indexOf 1 0 [some (vr (some (0, a1))), some (vi a2), some (vi a3), some (vi a4)] [] M (Qi Q) := by
  unfold w_JLatin_indexOf at h
  refine E_blk (lv' := [some (vr (some (0, a1))), some (vi a2), some (vi a3), some (vi a4)]) (st' := [vi a2]) (M1 := M) (pc' := 1) (tb0_JLatin hγ) [.iload_n 1] (by decide +kernel) rfl rfl trivial ?_
  refine E_callS (κ' := k_JLatin_canEncode) (As := [vi a2]) (st := []) ms_JLatin_canEncode (Or.inl (tbk_mem (j := 1) (k := 70) rfl)) rfl (by decide +kernel) (Nat.le_of_ble_eq_true rfl) (Nat.le_of_ble_eq_true rfl) rfl (by decide) (lk0_JLatin_canEncode hγ a2 _ M h) (fun _ _ => Qi_r) (fun v M1 hp => Qi_k (R := fun st => E γ k_JLatin_indexOf 1 4 [some (vr (some (0, a1))), some (vi a2), some (vi a3), some (vi a4)] st M1 (Qi Q)) hp (fun r2 h => ?_))
  refine E_if_ne (off := 5) (tgt := 9) (by decide +kernel) (by decide) (fun b3 => ?_) (fun b3 => ?_)
  · rw [if_pos b3] at h
    refine E_blk (lv' := [some (vr (some (0, a1))), some (vi a2), some (vi a3), some (vi a4)]) (st' := [vi (-1 : Int32)]) (M1 := M1) (pc' := 8) (tb0_JLatin hγ) [.iconst (.negSucc 0)] (by decide +kernel) rfl rfl trivial ?_
    exact E_iret rfl (by decide +kernel) h
  · rw [if_neg b3] at h
    refine E_blk (lv' := [some (vr (some (0, a1))), some (vi a2), some (vi a3), some (vi a4)]) (st' := [vi (0 : Int32), vi a3]) (M1 := M1) (pc' := 11) (tb0_JLatin hγ) [.iload_n 2, .iconst 0] (by decide +kernel) rfl rfl trivial ?_
    refine E_callS (κ' := k_JMath_max) (As := [vi a3, vi (0 : Int32)]) (st := []) ms_JMath_max (Or.inl (tbk_mem (j := 1) (k := 73) rfl)) rfl (by decide +kernel) (Nat.le_of_ble_eq_true rfl) (Nat.le_of_ble_eq_true rfl) rfl (by decide) (lk0_JMath_max hγ a3 (0 : Int32) _ M1 h) (fun _ _ => Qi_r) (fun v M4 hp => Qi_k (R := fun st => E γ k_JLatin_indexOf 1 14 [some (vr (some (0, a1))), some (vi a2), some (vi a3), some (vi a4)] st M4 (Qi Q)) hp (fun r5 h => ?_))
    refine E_blk (lv' := [some (vr (some (0, a1))), some (vi a2), some (vi r5), some (vi a4)]) (st' := [vr (some (0, a1)), vi a4]) (M1 := M4) (pc' := 17) (tb0_JLatin hγ) [.istore_n 2, .iload_n 3, .aload_n 0] (by decide +kernel) rfl rfl trivial ?_
    obtain ⟨c6, c7, h⟩ := h
    refine E_lenS (κ := k_JLatin_indexOf) (pc := 17) (x := a1) hγ.2.2.2 c6 c7 (by decide +kernel) ?_
    refine E_callS (κ' := k_JMath_min) (As := [vi a4, vi (Int32.ofNat (stN.getD (a1 - 200) 0))]) (st := []) ms_JMath_min (Or.inl (tbk_mem (j := 1) (k := 76) rfl)) rfl (by decide +kernel) (Nat.le_of_ble_eq_true rfl) (Nat.le_of_ble_eq_true rfl) rfl (by decide) (lk0_JMath_min hγ a4 (Int32.ofNat (stN.getD (a1 - 200) 0)) _ M4 h) (fun _ _ => Qi_r) (fun v M8 hp => Qi_k (R := fun st => E γ k_JLatin_indexOf 1 21 [some (vr (some (0, a1))), some (vi a2), some (vi r5), some (vi a4)] st M8 (Qi Q)) hp (fun r9 h => ?_))
    refine E_blk (lv' := [some (vr (some (0, a1))), some (vi a2), some (vi r5), some (vi r9)]) (st' := [vi r9, vi r5]) (M1 := M8) (pc' := 24) (tb0_JLatin hγ) [.istore_n 3, .iload_n 2, .iload_n 3] (by decide +kernel) rfl rfl trivial ?_
    refine E_icmp_lt (off := 5) (tgt := 29) (by decide +kernel) (by decide) (fun b10 => ?_) (fun b10 => ?_)
    · rw [if_pos b10] at h
      refine E_blk (lv' := [some (vr (some (0, a1))), some (vi a2), some (vi r5), some (vi r9)]) (st' := [vi r9, vi r5, vi a2, vr (some (0, a1))]) (M1 := M8) (pc' := 33) (tb0_JLatin hγ) [.aload_n 0, .iload_n 1, .iload_n 2, .iload_n 3] (by decide +kernel) rfl rfl trivial ?_
      refine E_callS (κ' := k_JLatin_indexOfChar) (As := [vr (some (0, a1)), vi a2, vi r5, vi r9]) (st := []) ms_JLatin_indexOfChar (Or.inl (tbk_mem (j := 1) (k := 79) rfl)) rfl (by decide +kernel) (Nat.le_of_ble_eq_true rfl) (Nat.le_of_ble_eq_true rfl) rfl (by decide) (lk0_JLatin_indexOfChar hγ a1 a2 r5 r9 _ M8 h) (fun _ _ => Qi_r) (fun v M11 hp => Qi_k (R := fun st => E γ k_JLatin_indexOf 1 36 [some (vr (some (0, a1))), some (vi a2), some (vi r5), some (vi r9)] st M11 (Qi Q)) hp (fun r12 h => ?_))
      exact E_iret rfl (by decide +kernel) h
    · rw [if_neg b10] at h
      refine E_blk (lv' := [some (vr (some (0, a1))), some (vi a2), some (vi r5), some (vi r9)]) (st' := [vi (-1 : Int32)]) (M1 := M8) (pc' := 28) (tb0_JLatin hγ) [.iconst (.negSucc 0)] (by decide +kernel) rfl rfl trivial ?_
      exact E_iret rfl (by decide +kernel) h
def w_JString_indexOf (this : Nat) (a1 : Int32) (a2 : Int32) (Q : Int32 → Mem → Prop) (M : Mem) : Prop :=
  this < nStr ∧ w_JString_isLatin1 this (fun r2 M1 => if r2 = 0 then (this < nStr ∧ this < nStr ∧ w_JString_length this (fun r6 M5 => False) M1) else (this < nStr ∧ this < nStr ∧ w_JString_length this (fun r10 M9 => w_JLatin_indexOf (200 + this) a1 a2 r10 (fun r12 M11 => Q r12 M11) M9) M1)) M
set_option maxRecDepth 4096 in
theorem lk_JString_indexOf {γ : Gm} (hγ : Gk γ) (this : Nat) (a1 : Int32) (a2 : Int32) (Q : Int32 → Mem → Prop) (M : Mem) (h : w_JString_indexOf this a1 a2 Q M) : E γ k_JString_indexOf 2 0 [some (vr (some (0, this))), some (vi a1), some (vi a2)] [] M (Qi Q) := by
  unfold w_JString_indexOf at h
  refine E_blk (lv' := [some (vr (some (0, this))), some (vi a1), some (vi a2)]) (st' := [vr (some (0, this))]) (M1 := M) (pc' := 1) (tb_JString hγ) [.aload_n 0] (by decide +kernel) rfl rfl trivial ?_
  obtain ⟨c14, h⟩ := h
  refine E_callN (κ' := k_JString_isLatin1) (i := this) (As := []) (st := []) hγ.2.2.2 c14 mvs_JString_isLatin1 (tbk_mem (j := 1) (k := 62) rfl) rfl (by decide +kernel) (Nat.le_of_ble_eq_true rfl) (Nat.le_of_ble_eq_true rfl) rfl (by decide) (lk_JString_isLatin1 hγ this _ M h) (fun _ _ => Qi_r) (fun v M1 hp => Qi_k (R := fun st => E γ k_JString_indexOf 2 4 [some (vr (some (0, this))), some (vi a1), some (vi a2)] st M1 (Qi Q)) hp (fun r2 h => ?_))
  refine E_if_eq (off := 19) (tgt := 23) (by decide +kernel) (by decide) (fun b3 => ?_) (fun b3 => ?_)
  · rw [if_pos b3] at h
    refine E_blk (lv' := [some (vr (some (0, this))), some (vi a1), some (vi a2)]) (st' := [vr (some (0, this))]) (M1 := M1) (pc' := 24) (tb_JString hγ) [.aload_n 0] (by decide +kernel) rfl rfl trivial ?_
    obtain ⟨c4, h⟩ := h
    refine E_getV (κ := k_JString_indexOf) (pc := 24) (k := this) (idx := 9) hγ.2.2.2 c4 (tbk_mem (j := 18) (k := 44) rfl) (by decide +kernel) ?_
    refine E_blk (lv' := [some (vr (some (0, this))), some (vi a1), some (vi a2)]) (st' := [vr (some (0, this)), vi a2, vi a1, vr (some (0, (200 + this)))]) (M1 := M1) (pc' := 30) (tb_JString hγ) [.iload_n 1, .iload_n 2, .aload_n 0] (by decide +kernel) rfl rfl trivial ?_
    obtain ⟨c7, h⟩ := h
    refine E_callN (κ' := k_JString_length) (i := this) (As := []) (st := [vi a2, vi a1, vr (some (0, (200 + this)))]) hγ.2.2.2 c7 mvs_JString_length (tbk_mem (j := 1) (k := 66) rfl) rfl (by decide +kernel) (Nat.le_of_ble_eq_true rfl) (Nat.le_of_ble_eq_true rfl) rfl (by decide) (lk_JString_length hγ this _ M1 h) (fun _ _ => Qi_r) (fun v M5 hp => Qi_k (R := fun st => E γ k_JString_indexOf 2 33 [some (vr (some (0, this))), some (vi a1), some (vi a2)] st M5 (Qi Q)) hp (fun r6 h => ?_))
    exact h.elim
  · rw [if_neg b3] at h
    refine E_blk (lv' := [some (vr (some (0, this))), some (vi a1), some (vi a2)]) (st' := [vr (some (0, this))]) (M1 := M1) (pc' := 8) (tb_JString hγ) [.aload_n 0] (by decide +kernel) rfl rfl trivial ?_
    obtain ⟨c8, h⟩ := h
    refine E_getV (κ := k_JString_indexOf) (pc := 8) (k := this) (idx := 9) hγ.2.2.2 c8 (tbk_mem (j := 18) (k := 44) rfl) (by decide +kernel) ?_
    refine E_blk (lv' := [some (vr (some (0, this))), some (vi a1), some (vi a2)]) (st' := [vr (some (0, this)), vi a2, vi a1, vr (some (0, (200 + this)))]) (M1 := M1) (pc' := 14) (tb_JString hγ) [.iload_n 1, .iload_n 2, .aload_n 0] (by decide +kernel) rfl rfl trivial ?_
    obtain ⟨c13, h⟩ := h
    refine E_callN (κ' := k_JString_length) (i := this) (As := []) (st := [vi a2, vi a1, vr (some (0, (200 + this)))]) hγ.2.2.2 c13 mvs_JString_length (tbk_mem (j := 1) (k := 66) rfl) rfl (by decide +kernel) (Nat.le_of_ble_eq_true rfl) (Nat.le_of_ble_eq_true rfl) rfl (by decide) (lk_JString_length hγ this _ M1 h) (fun _ _ => Qi_r) (fun v M9 hp => Qi_k (R := fun st => E γ k_JString_indexOf 2 17 [some (vr (some (0, this))), some (vi a1), some (vi a2)] st M9 (Qi Q)) hp (fun r10 h => ?_))
    refine E_callS (κ' := k_JLatin_indexOf) (As := [vr (some (0, (200 + this))), vi a1, vi a2, vi r10]) (st := []) ms_JLatin_indexOf (Or.inl (tbk_mem (j := 1) (k := 67) rfl)) rfl (by decide +kernel) (Nat.le_of_ble_eq_true rfl) (Nat.le_of_ble_eq_true rfl) rfl (by decide) (lk_JLatin_indexOf hγ (200 + this) a1 a2 r10 _ M9 h) (fun _ _ => Qi_r) (fun v M11 hp => Qi_k (R := fun st => E γ k_JString_indexOf 2 20 [some (vr (some (0, this))), some (vi a1), some (vi a2)] st M11 (Qi Q)) hp (fun r12 h => ?_))
    refine E_goto (off := 16) (tgt := 36) (by decide +kernel) (by decide) ?_
    exact E_iret rfl (by decide +kernel) h
set_option maxRecDepth 4096 in
theorem lk0_JString_indexOf {γ : Gm} (hγ : G0 γ) (this : Nat) (a1 : Int32) (a2 : Int32) (Q : Int32 → Mem → Prop) (M : Mem) (h : w_JString_indexOf this a1 a2 Q M) : E γ k_JString_indexOf 2 0 [some (vr (some (0, this))), some (vi a1), some (vi a2)] [] M (Qi Q) := by
  unfold w_JString_indexOf at h
  refine E_blk (lv' := [some (vr (some (0, this))), some (vi a1), some (vi a2)]) (st' := [vr (some (0, this))]) (M1 := M) (pc' := 1) (tb0_JString hγ) [.aload_n 0] (by decide +kernel) rfl rfl trivial ?_
  obtain ⟨c14, h⟩ := h
  refine E_callN (κ' := k_JString_isLatin1) (i := this) (As := []) (st := []) hγ.2.2.2 c14 mvs_JString_isLatin1 (tbk_mem (j := 1) (k := 62) rfl) rfl (by decide +kernel) (Nat.le_of_ble_eq_true rfl) (Nat.le_of_ble_eq_true rfl) rfl (by decide) (lk0_JString_isLatin1 hγ this _ M h) (fun _ _ => Qi_r) (fun v M1 hp => Qi_k (R := fun st => E γ k_JString_indexOf 2 4 [some (vr (some (0, this))), some (vi a1), some (vi a2)] st M1 (Qi Q)) hp (fun r2 h => ?_))
  refine E_if_eq (off := 19) (tgt := 23) (by decide +kernel) (by decide) (fun b3 => ?_) (fun b3 => ?_)
  · rw [if_pos b3] at h
    refine E_blk (lv' := [some (vr (some (0, this))), some (vi a1), some (vi a2)]) (st' := [vr (some (0, this))]) (M1 := M1) (pc' := 24) (tb0_JString hγ) [.aload_n 0] (by decide +kernel) rfl rfl trivial ?_
    obtain ⟨c4, h⟩ := h
    refine E_getV (κ := k_JString_indexOf) (pc := 24) (k := this) (idx := 9) hγ.2.2.2 c4 (tbk_mem (j := 18) (k := 44) rfl) (by decide +kernel) ?_
    refine E_blk (lv' := [some (vr (some (0, this))), some (vi a1), some (vi a2)]) (st' := [vr (some (0, this)), vi a2, vi a1, vr (some (0, (200 + this)))]) (M1 := M1) (pc' := 30) (tb0_JString hγ) [.iload_n 1, .iload_n 2, .aload_n 0] (by decide +kernel) rfl rfl trivial ?_
    obtain ⟨c7, h⟩ := h
    refine E_callN (κ' := k_JString_length) (i := this) (As := []) (st := [vi a2, vi a1, vr (some (0, (200 + this)))]) hγ.2.2.2 c7 mvs_JString_length (tbk_mem (j := 1) (k := 66) rfl) rfl (by decide +kernel) (Nat.le_of_ble_eq_true rfl) (Nat.le_of_ble_eq_true rfl) rfl (by decide) (lk0_JString_length hγ this _ M1 h) (fun _ _ => Qi_r) (fun v M5 hp => Qi_k (R := fun st => E γ k_JString_indexOf 2 33 [some (vr (some (0, this))), some (vi a1), some (vi a2)] st M5 (Qi Q)) hp (fun r6 h => ?_))
    exact h.elim
  · rw [if_neg b3] at h
    refine E_blk (lv' := [some (vr (some (0, this))), some (vi a1), some (vi a2)]) (st' := [vr (some (0, this))]) (M1 := M1) (pc' := 8) (tb0_JString hγ) [.aload_n 0] (by decide +kernel) rfl rfl trivial ?_
    obtain ⟨c8, h⟩ := h
    refine E_getV (κ := k_JString_indexOf) (pc := 8) (k := this) (idx := 9) hγ.2.2.2 c8 (tbk_mem (j := 18) (k := 44) rfl) (by decide +kernel) ?_
    refine E_blk (lv' := [some (vr (some (0, this))), some (vi a1), some (vi a2)]) (st' := [vr (some (0, this)), vi a2, vi a1, vr (some (0, (200 + this)))]) (M1 := M1) (pc' := 14) (tb0_JString hγ) [.iload_n 1, .iload_n 2, .aload_n 0] (by decide +kernel) rfl rfl trivial ?_
    obtain ⟨c13, h⟩ := h
    refine E_callN (κ' := k_JString_length) (i := this) (As := []) (st := [vi a2, vi a1, vr (some (0, (200 + this)))]) hγ.2.2.2 c13 mvs_JString_length (tbk_mem (j := 1) (k := 66) rfl) rfl (by decide +kernel) (Nat.le_of_ble_eq_true rfl) (Nat.le_of_ble_eq_true rfl) rfl (by decide) (lk0_JString_length hγ this _ M1 h) (fun _ _ => Qi_r) (fun v M9 hp => Qi_k (R := fun st => E γ k_JString_indexOf 2 17 [some (vr (some (0, this))), some (vi a1), some (vi a2)] st M9 (Qi Q)) hp (fun r10 h => ?_))
    refine E_callS (κ' := k_JLatin_indexOf) (As := [vr (some (0, (200 + this))), vi a1, vi a2, vi r10]) (st := []) ms_JLatin_indexOf (Or.inl (tbk_mem (j := 1) (k := 67) rfl)) rfl (by decide +kernel) (Nat.le_of_ble_eq_true rfl) (Nat.le_of_ble_eq_true rfl) rfl (by decide) (lk0_JLatin_indexOf hγ (200 + this) a1 a2 r10 _ M9 h) (fun _ _ => Qi_r) (fun v M11 hp => Qi_k (R := fun st => E γ k_JString_indexOf 2 20 [some (vr (some (0, this))), some (vi a1), some (vi a2)] st M11 (Qi Q)) hp (fun r12 h => ?_))
    refine E_goto (off := 16) (tgt := 36) (by decide +kernel) (by decide) ?_
    exact E_iret rfl (by decide +kernel) h
def w_JPre_checkIndex_j9 (Q : Int32 → Mem → Prop) (v0 : Int32) (v1 : Int32) (v2 : Option (Nat × Nat)) (M : Mem) : Prop :=
  False
def w_JPre_checkIndex (a1 : Int32) (a2 : Int32) (a3 : Option (Nat × Nat)) (Q : Int32 → Mem → Prop) (M : Mem) : Prop :=
  if a1 < 0 then (w_JPre_checkIndex_j9 Q a1 a2 a3 M) else (if a1 < a2 then (Q a1 M) else (w_JPre_checkIndex_j9 Q a1 a2 a3 M))
set_option maxRecDepth 4096 in
theorem lk_JPre_checkIndex_j9 {γ : Gm} (hγ : Gk γ) (Q : Int32 → Mem → Prop) (v0 : Int32) (v1 : Int32) (v2 : Option (Nat × Nat)) (M : Mem) (h : w_JPre_checkIndex_j9 Q v0 v1 v2 M) : E γ k_JPre_checkIndex 0 9 [some (vi v0), some (vi v1), some (vr v2)] [] M (Qi Q) := by
  unfold w_JPre_checkIndex_j9 at h
  refine E_blk (lv' := [some (vi v0), some (vi v1), some (vr v2)]) (st' := [vi v1, vi v0, vr v2]) (M1 := M) (pc' := 12) (tb_JPre hγ) [.aload_n 2, .iload_n 0, .iload_n 1] (by decide +kernel) rfl rfl trivial ?_
  exact h.elim
set_option maxRecDepth 4096 in
theorem lk_JPre_checkIndex {γ : Gm} (hγ : Gk γ) (a1 : Int32) (a2 : Int32) (a3 : Option (Nat × Nat)) (Q : Int32 → Mem → Prop) (M : Mem) (h : w_JPre_checkIndex a1 a2 a3 Q M) : E γ k_JPre_checkIndex 0 0 [some (vi a1), some (vi a2), some (vr a3)] [] M (Qi Q) := by
  unfold w_JPre_checkIndex at h
  refine E_blk (lv' := [some (vi a1), some (vi a2), some (vr a3)]) (st' := [vi a1]) (M1 := M) (pc' := 1) (tb_JPre hγ) [.iload_n 0] (by decide +kernel) rfl rfl trivial ?_
  refine E_if_lt (off := 8) (tgt := 9) (by decide +kernel) (by decide) (fun b1 => ?_) (fun b1 => ?_)
  · rw [if_pos b1] at h
    refine E_mask [true, true, true] rfl ?_
    exact lk_JPre_checkIndex_j9 hγ Q a1 a2 a3 M h
  · rw [if_neg b1] at h
    refine E_blk (lv' := [some (vi a1), some (vi a2), some (vr a3)]) (st' := [vi a2, vi a1]) (M1 := M) (pc' := 6) (tb_JPre hγ) [.iload_n 0, .iload_n 1] (by decide +kernel) rfl rfl trivial ?_
    refine E_icmp_lt (off := 10) (tgt := 16) (by decide +kernel) (by decide) (fun b2 => ?_) (fun b2 => ?_)
    · rw [if_pos b2] at h
      refine E_blk (lv' := [some (vi a1), some (vi a2), some (vr a3)]) (st' := [vi a1]) (M1 := M) (pc' := 17) (tb_JPre hγ) [.iload_n 0] (by decide +kernel) rfl rfl trivial ?_
      exact E_iret rfl (by decide +kernel) h
    · rw [if_neg b2] at h
      refine E_mask [true, true, true] rfl ?_
      exact lk_JPre_checkIndex_j9 hγ Q a1 a2 a3 M h
set_option maxRecDepth 4096 in
theorem lk0_JPre_checkIndex_j9 {γ : Gm} (hγ : G0 γ) (Q : Int32 → Mem → Prop) (v0 : Int32) (v1 : Int32) (v2 : Option (Nat × Nat)) (M : Mem) (h : w_JPre_checkIndex_j9 Q v0 v1 v2 M) : E γ k_JPre_checkIndex 0 9 [some (vi v0), some (vi v1), some (vr v2)] [] M (Qi Q) := by
  unfold w_JPre_checkIndex_j9 at h
  refine E_blk (lv' := [some (vi v0), some (vi v1), some (vr v2)]) (st' := [vi v1, vi v0, vr v2]) (M1 := M) (pc' := 12) (tb0_JPre hγ) [.aload_n 2, .iload_n 0, .iload_n 1] (by decide +kernel) rfl rfl trivial ?_
  exact h.elim
set_option maxRecDepth 4096 in
theorem lk0_JPre_checkIndex {γ : Gm} (hγ : G0 γ) (a1 : Int32) (a2 : Int32) (a3 : Option (Nat × Nat)) (Q : Int32 → Mem → Prop) (M : Mem) (h : w_JPre_checkIndex a1 a2 a3 Q M) : E γ k_JPre_checkIndex 0 0 [some (vi a1), some (vi a2), some (vr a3)] [] M (Qi Q) := by
  unfold w_JPre_checkIndex at h
  refine E_blk (lv' := [some (vi a1), some (vi a2), some (vr a3)]) (st' := [vi a1]) (M1 := M) (pc' := 1) (tb0_JPre hγ) [.iload_n 0] (by decide +kernel) rfl rfl trivial ?_
  refine E_if_lt (off := 8) (tgt := 9) (by decide +kernel) (by decide) (fun b1 => ?_) (fun b1 => ?_)
  · rw [if_pos b1] at h
    refine E_mask [true, true, true] rfl ?_
    exact lk0_JPre_checkIndex_j9 hγ Q a1 a2 a3 M h
  · rw [if_neg b1] at h
    refine E_blk (lv' := [some (vi a1), some (vi a2), some (vr a3)]) (st' := [vi a2, vi a1]) (M1 := M) (pc' := 6) (tb0_JPre hγ) [.iload_n 0, .iload_n 1] (by decide +kernel) rfl rfl trivial ?_
    refine E_icmp_lt (off := 10) (tgt := 16) (by decide +kernel) (by decide) (fun b2 => ?_) (fun b2 => ?_)
    · rw [if_pos b2] at h
      refine E_blk (lv' := [some (vi a1), some (vi a2), some (vr a3)]) (st' := [vi a1]) (M1 := M) (pc' := 17) (tb0_JPre hγ) [.iload_n 0] (by decide +kernel) rfl rfl trivial ?_
      exact E_iret rfl (by decide +kernel) h
    · rw [if_neg b2] at h
      refine E_mask [true, true, true] rfl ?_
      exact lk0_JPre_checkIndex_j9 hγ Q a1 a2 a3 M h
def w_JString_checkIndex (a1 : Int32) (a2 : Int32) (Q : Mem → Prop) (M : Mem) : Prop :=
  ∀ r1 : Option (Nat × Nat), w_JPre_checkIndex a1 a2 r1 (fun r3 M2 => Q M2) M
set_option maxRecDepth 4096 in
theorem lk_JString_checkIndex {γ : Gm} (hγ : Gk γ) (a1 : Int32) (a2 : Int32) (Q : Mem → Prop) (M : Mem) (h : w_JString_checkIndex a1 a2 Q M) : E γ k_JString_checkIndex 1 0 [some (vi a1), some (vi a2)] [] M (Qv Q) := by
  unfold w_JString_checkIndex at h
  refine E_blk (lv' := [some (vi a1), some (vi a2)]) (st' := [vi a2, vi a1]) (M1 := M) (pc' := 2) (tb_JString hγ) [.iload_n 0, .iload_n 1] (by decide +kernel) rfl rfl trivial ?_
  refine E_getP (κ := k_JString_checkIndex) (pc := 2) (idx := 1053) hγ.2.2.2 (tbk_mem (j := 1) (k := 100) rfl) (by decide +kernel) (fun r1 => ?_)
  replace h := h r1
  refine E_callS (κ' := k_JPre_checkIndex) (As := [vi a1, vi a2, vr r1]) (st := []) ms_JPre_checkIndex (Or.inl (tbk_mem (j := 1) (k := 141) rfl)) rfl (by decide +kernel) (Nat.le_of_ble_eq_true rfl) (Nat.le_of_ble_eq_true rfl) rfl (by decide) (lk_JPre_checkIndex hγ a1 a2 r1 _ M h) (fun _ _ => Qi_r) (fun v M2 hp => Qi_k (R := fun st => E γ k_JString_checkIndex 1 8 [some (vi a1), some (vi a2)] st M2 (Qv Q)) hp (fun r3 h => ?_))
  refine E_blk (lv' := [some (vi a1), some (vi a2)]) (st' := []) (M1 := M2) (pc' := 9) (tb_JString hγ) [.pop] (by decide +kernel) rfl rfl trivial ?_
  exact E_vret rfl (by decide +kernel) h
set_option maxRecDepth 4096 in
theorem lk0_JString_checkIndex {γ : Gm} (hγ : G0 γ) (a1 : Int32) (a2 : Int32) (Q : Mem → Prop) (M : Mem) (h : w_JString_checkIndex a1 a2 Q M) : E γ k_JString_checkIndex 1 0 [some (vi a1), some (vi a2)] [] M (Qv Q) := by
  unfold w_JString_checkIndex at h
  refine E_blk (lv' := [some (vi a1), some (vi a2)]) (st' := [vi a2, vi a1]) (M1 := M) (pc' := 2) (tb0_JString hγ) [.iload_n 0, .iload_n 1] (by decide +kernel) rfl rfl trivial ?_
  refine E_getP (κ := k_JString_checkIndex) (pc := 2) (idx := 1053) hγ.2.2.2 (tbk_mem (j := 1) (k := 100) rfl) (by decide +kernel) (fun r1 => ?_)
  replace h := h r1
  refine E_callS (κ' := k_JPre_checkIndex) (As := [vi a1, vi a2, vr r1]) (st := []) ms_JPre_checkIndex (Or.inl (tbk_mem (j := 1) (k := 141) rfl)) rfl (by decide +kernel) (Nat.le_of_ble_eq_true rfl) (Nat.le_of_ble_eq_true rfl) rfl (by decide) (lk0_JPre_checkIndex hγ a1 a2 r1 _ M h) (fun _ _ => Qi_r) (fun v M2 hp => Qi_k (R := fun st => E γ k_JString_checkIndex 1 8 [some (vi a1), some (vi a2)] st M2 (Qv Q)) hp (fun r3 h => ?_))
  refine E_blk (lv' := [some (vi a1), some (vi a2)]) (st' := []) (M1 := M2) (pc' := 9) (tb0_JString hγ) [.pop] (by decide +kernel) rfl rfl trivial ?_
  exact E_vret rfl (by decide +kernel) h
def w_JLatin_charAt (a1 : Nat) (a2 : Int32) (Q : Int32 → Mem → Prop) (M : Mem) : Prop :=
  200 ≤ a1 ∧ a1 - 200 < nStr ∧ w_JString_checkIndex a2 (Int32.ofNat (stN.getD (a1 - 200) 0)) (fun M3 => 200 ≤ a1 ∧ a1 - 200 < nStr ∧ vp_in a2 (stN.getD (a1 - 200) 0) ∧ narrow .char (.int (((((stB.getD (a1 - 200) []).getD a2.toNatClampNeg 0) &&& (255 : Int32)).toUInt32 % 65536).toInt32)) = .int (((((stB.getD (a1 - 200) []).getD a2.toNatClampNeg 0) &&& (255 : Int32)).toUInt32 % 65536).toInt32) ∧ Q (((((stB.getD (a1 - 200) []).getD a2.toNatClampNeg 0) &&& (255 : Int32)).toUInt32 % 65536).toInt32) M3) M
set_option maxRecDepth 4096 in
theorem lk_JLatin_charAt {γ : Gm} (hγ : Gk γ) (a1 : Nat) (a2 : Int32) (Q : Int32 → Mem → Prop) (M : Mem) (h : w_JLatin_charAt a1 a2 Q M) : E γ k_JLatin_charAt 2 0 [some (vr (some (0, a1))), some (vi a2)] [] M (Qi Q) := by
  unfold w_JLatin_charAt at h
  refine E_blk (lv' := [some (vr (some (0, a1))), some (vi a2)]) (st' := [vr (some (0, a1)), vi a2]) (M1 := M) (pc' := 2) (tb_JLatin hγ) [.iload_n 1, .aload_n 0] (by decide +kernel) rfl rfl trivial ?_
  obtain ⟨c1, c2, h⟩ := h
  refine E_lenS (κ := k_JLatin_charAt) (pc := 2) (x := a1) hγ.2.2.2 c1 c2 (by decide +kernel) ?_
  refine E_callS (κ' := k_JString_checkIndex) (As := [vi a2, vi (Int32.ofNat (stN.getD (a1 - 200) 0))]) (st := []) ms_JString_checkIndex (Or.inl (tbk_mem (j := 1) (k := 138) rfl)) rfl (by decide +kernel) (Nat.le_of_ble_eq_true rfl) (Nat.le_of_ble_eq_true rfl) rfl (by decide) (lk_JString_checkIndex hγ a2 (Int32.ofNat (stN.getD (a1 - 200) 0)) _ M h) (fun _ _ => Qv_r) (fun v M3 hp => Qv_k (R := fun st => E γ k_JLatin_charAt 2 6 [some (vr (some (0, a1))), some (vi a2)] st M3 (Qi Q)) hp (fun h => ?_))
  refine E_blk (lv' := [some (vr (some (0, a1))), some (vi a2)]) (st' := [vi a2, vr (some (0, a1))]) (M1 := M3) (pc' := 8) (tb_JLatin hγ) [.aload_n 0, .iload_n 1] (by decide +kernel) rfl rfl trivial ?_
  obtain ⟨c4, c5, c6, h⟩ := h
  refine E_ldS (κ := k_JLatin_charAt) (pc := 8) (x := a1) (j := a2) hγ.2.2.2 c4 c5 c6 (by decide +kernel) ?_
  refine E_blk (lv' := [some (vr (some (0, a1))), some (vi a2)]) (st' := [vi (((((stB.getD (a1 - 200) []).getD a2.toNatClampNeg 0) &&& (255 : Int32)).toUInt32 % 65536).toInt32)]) (M1 := M3) (pc' := 14) (tb_JLatin hγ) [.sipush 255, .iand, .i2c] (by decide +kernel) rfl rfl trivial ?_
  exact E_cret rfl h.1 (by decide +kernel) h.2
set_option maxRecDepth 4096 in
theorem lk0_JLatin_charAt {γ : Gm} (hγ : G0 γ) (a1 : Nat) (a2 : Int32) (Q : Int32 → Mem → Prop) (M : Mem) (h : w_JLatin_charAt a1 a2 Q M) : E γ k_JLatin_charAt 2 0 [some (vr (some (0, a1))), some (vi a2)] [] M (Qi Q) := by
  unfold w_JLatin_charAt at h
  refine E_blk (lv' := [some (vr (some (0, a1))), some (vi a2)]) (st' := [vr (some (0, a1)), vi a2]) (M1 := M) (pc' := 2) (tb0_JLatin hγ) [.iload_n 1, .aload_n 0] (by decide +kernel) rfl rfl trivial ?_
  obtain ⟨c1, c2, h⟩ := h
  refine E_lenS (κ := k_JLatin_charAt) (pc := 2) (x := a1) hγ.2.2.2 c1 c2 (by decide +kernel) ?_
  refine E_callS (κ' := k_JString_checkIndex) (As := [vi a2, vi (Int32.ofNat (stN.getD (a1 - 200) 0))]) (st := []) ms_JString_checkIndex (Or.inl (tbk_mem (j := 1) (k := 138) rfl)) rfl (by decide +kernel) (Nat.le_of_ble_eq_true rfl) (Nat.le_of_ble_eq_true rfl) rfl (by decide) (lk0_JString_checkIndex hγ a2 (Int32.ofNat (stN.getD (a1 - 200) 0)) _ M h) (fun _ _ => Qv_r) (fun v M3 hp => Qv_k (R := fun st => E γ k_JLatin_charAt 2 6 [some (vr (some (0, a1))), some (vi a2)] st M3 (Qi Q)) hp (fun h => ?_))
  refine E_blk (lv' := [some (vr (some (0, a1))), some (vi a2)]) (st' := [vi a2, vr (some (0, a1))]) (M1 := M3) (pc' := 8) (tb0_JLatin hγ) [.aload_n 0, .iload_n 1] (by decide +kernel) rfl rfl trivial ?_
  obtain ⟨c4, c5, c6, h⟩ := h
  refine E_ldS (κ := k_JLatin_charAt) (pc := 8) (x := a1) (j := a2) hγ.2.2.2 c4 c5 c6 (by decide +kernel) ?_
  refine E_blk (lv' := [some (vr (some (0, a1))), some (vi a2)]) (st' := [vi (((((stB.getD (a1 - 200) []).getD a2.toNatClampNeg 0) &&& (255 : Int32)).toUInt32 % 65536).toInt32)]) (M1 := M3) (pc' := 14) (tb0_JLatin hγ) [.sipush 255, .iand, .i2c] (by decide +kernel) rfl rfl trivial ?_
  exact E_cret rfl h.1 (by decide +kernel) h.2
def w_JString_charAt (this : Nat) (a1 : Int32) (Q : Int32 → Mem → Prop) (M : Mem) : Prop :=
  this < nStr ∧ w_JString_isLatin1 this (fun r2 M1 => if r2 = 0 then (this < nStr ∧ False) else (this < nStr ∧ w_JLatin_charAt (200 + this) a1 (fun r7 M6 => narrow .char (.int r7) = .int r7 ∧ Q r7 M6) M1)) M
set_option maxRecDepth 4096 in
theorem lk_JString_charAt {γ : Gm} (hγ : Gk γ) (this : Nat) (a1 : Int32) (Q : Int32 → Mem → Prop) (M : Mem) (h : w_JString_charAt this a1 Q M) : E γ k_JString_charAt 3 0 [some (vr (some (0, this))), some (vi a1)] [] M (Qi Q) := by
  unfold w_JString_charAt at h
  refine E_blk (lv' := [some (vr (some (0, this))), some (vi a1)]) (st' := [vr (some (0, this))]) (M1 := M) (pc' := 1) (tb_JString hγ) [.aload_n 0] (by decide +kernel) rfl rfl trivial ?_
  obtain ⟨c8, h⟩ := h
  refine E_callN (κ' := k_JString_isLatin1) (i := this) (As := []) (st := []) hγ.2.2.2 c8 mvs_JString_isLatin1 (tbk_mem (j := 1) (k := 62) rfl) rfl (by decide +kernel) (Nat.le_of_ble_eq_true rfl) (Nat.le_of_ble_eq_true rfl) rfl (by decide) (lk_JString_isLatin1 hγ this _ M h) (fun _ _ => Qi_r) (fun v M1 hp => Qi_k (R := fun st => E γ k_JString_charAt 3 4 [some (vr (some (0, this))), some (vi a1)] st M1 (Qi Q)) hp (fun r2 h => ?_))
  refine E_if_eq (off := 12) (tgt := 16) (by decide +kernel) (by decide) (fun b3 => ?_) (fun b3 => ?_)
  · rw [if_pos b3] at h
    refine E_blk (lv' := [some (vr (some (0, this))), some (vi a1)]) (st' := [vr (some (0, this))]) (M1 := M1) (pc' := 17) (tb_JString hγ) [.aload_n 0] (by decide +kernel) rfl rfl trivial ?_
    obtain ⟨c4, h⟩ := h
    refine E_getV (κ := k_JString_charAt) (pc := 17) (k := this) (idx := 9) hγ.2.2.2 c4 (tbk_mem (j := 18) (k := 44) rfl) (by decide +kernel) ?_
    refine E_blk (lv' := [some (vr (some (0, this))), some (vi a1)]) (st' := [vi a1, vr (some (0, (200 + this)))]) (M1 := M1) (pc' := 21) (tb_JString hγ) [.iload_n 1] (by decide +kernel) rfl rfl trivial ?_
    exact h.elim
  · rw [if_neg b3] at h
    refine E_blk (lv' := [some (vr (some (0, this))), some (vi a1)]) (st' := [vr (some (0, this))]) (M1 := M1) (pc' := 8) (tb_JString hγ) [.aload_n 0] (by decide +kernel) rfl rfl trivial ?_
    obtain ⟨c5, h⟩ := h
    refine E_getV (κ := k_JString_charAt) (pc := 8) (k := this) (idx := 9) hγ.2.2.2 c5 (tbk_mem (j := 18) (k := 44) rfl) (by decide +kernel) ?_
    refine E_blk (lv' := [some (vr (some (0, this))), some (vi a1)]) (st' := [vi a1, vr (some (0, (200 + this)))]) (M1 := M1) (pc' := 12) (tb_JString hγ) [.iload_n 1] (by decide +kernel) rfl rfl trivial ?_
    refine E_callS (κ' := k_JLatin_charAt) (As := [vr (some (0, (200 + this))), vi a1]) (st := []) ms_JLatin_charAt (Or.inl (tbk_mem (j := 1) (k := 135) rfl)) rfl (by decide +kernel) (Nat.le_of_ble_eq_true rfl) (Nat.le_of_ble_eq_true rfl) rfl (by decide) (lk_JLatin_charAt hγ (200 + this) a1 _ M1 h) (fun _ _ => Qi_r) (fun v M6 hp => Qi_k (R := fun st => E γ k_JString_charAt 3 15 [some (vr (some (0, this))), some (vi a1)] st M6 (Qi Q)) hp (fun r7 h => ?_))
    exact E_cret rfl h.1 (by decide +kernel) h.2
set_option maxRecDepth 4096 in
theorem lk0_JString_charAt {γ : Gm} (hγ : G0 γ) (this : Nat) (a1 : Int32) (Q : Int32 → Mem → Prop) (M : Mem) (h : w_JString_charAt this a1 Q M) : E γ k_JString_charAt 3 0 [some (vr (some (0, this))), some (vi a1)] [] M (Qi Q) := by
  unfold w_JString_charAt at h
  refine E_blk (lv' := [some (vr (some (0, this))), some (vi a1)]) (st' := [vr (some (0, this))]) (M1 := M) (pc' := 1) (tb0_JString hγ) [.aload_n 0] (by decide +kernel) rfl rfl trivial ?_
  obtain ⟨c8, h⟩ := h
  refine E_callN (κ' := k_JString_isLatin1) (i := this) (As := []) (st := []) hγ.2.2.2 c8 mvs_JString_isLatin1 (tbk_mem (j := 1) (k := 62) rfl) rfl (by decide +kernel) (Nat.le_of_ble_eq_true rfl) (Nat.le_of_ble_eq_true rfl) rfl (by decide) (lk0_JString_isLatin1 hγ this _ M h) (fun _ _ => Qi_r) (fun v M1 hp => Qi_k (R := fun st => E γ k_JString_charAt 3 4 [some (vr (some (0, this))), some (vi a1)] st M1 (Qi Q)) hp (fun r2 h => ?_))
  refine E_if_eq (off := 12) (tgt := 16) (by decide +kernel) (by decide) (fun b3 => ?_) (fun b3 => ?_)
  · rw [if_pos b3] at h
    refine E_blk (lv' := [some (vr (some (0, this))), some (vi a1)]) (st' := [vr (some (0, this))]) (M1 := M1) (pc' := 17) (tb0_JString hγ) [.aload_n 0] (by decide +kernel) rfl rfl trivial ?_
    obtain ⟨c4, h⟩ := h
    refine E_getV (κ := k_JString_charAt) (pc := 17) (k := this) (idx := 9) hγ.2.2.2 c4 (tbk_mem (j := 18) (k := 44) rfl) (by decide +kernel) ?_
    refine E_blk (lv' := [some (vr (some (0, this))), some (vi a1)]) (st' := [vi a1, vr (some (0, (200 + this)))]) (M1 := M1) (pc' := 21) (tb0_JString hγ) [.iload_n 1] (by decide +kernel) rfl rfl trivial ?_
    exact h.elim
  · rw [if_neg b3] at h
    refine E_blk (lv' := [some (vr (some (0, this))), some (vi a1)]) (st' := [vr (some (0, this))]) (M1 := M1) (pc' := 8) (tb0_JString hγ) [.aload_n 0] (by decide +kernel) rfl rfl trivial ?_
    obtain ⟨c5, h⟩ := h
    refine E_getV (κ := k_JString_charAt) (pc := 8) (k := this) (idx := 9) hγ.2.2.2 c5 (tbk_mem (j := 18) (k := 44) rfl) (by decide +kernel) ?_
    refine E_blk (lv' := [some (vr (some (0, this))), some (vi a1)]) (st' := [vi a1, vr (some (0, (200 + this)))]) (M1 := M1) (pc' := 12) (tb0_JString hγ) [.iload_n 1] (by decide +kernel) rfl rfl trivial ?_
    refine E_callS (κ' := k_JLatin_charAt) (As := [vr (some (0, (200 + this))), vi a1]) (st := []) ms_JLatin_charAt (Or.inl (tbk_mem (j := 1) (k := 135) rfl)) rfl (by decide +kernel) (Nat.le_of_ble_eq_true rfl) (Nat.le_of_ble_eq_true rfl) rfl (by decide) (lk0_JLatin_charAt hγ (200 + this) a1 _ M1 h) (fun _ _ => Qi_r) (fun v M6 hp => Qi_k (R := fun st => E γ k_JString_charAt 3 15 [some (vr (some (0, this))), some (vi a1)] st M6 (Qi Q)) hp (fun r7 h => ?_))
    exact E_cret rfl h.1 (by decide +kernel) h.2
def w_Names_numberOf_j60 (this : Nat) (Q : Int32 → Mem → Prop) (k29 : Int64 → Int32 → Int32 → Int32 → Mem → Prop) (v1 : Int64) (v3 : Int32) (v4 : Int32) (v5 : Int32) (M : Mem) : Prop :=
  vp_in v5 (mL M 21 this) ∧ k29 v1 v3 v4 (mI M 21 this v5.toNatClampNeg) M
def w_Names_numberOf_L29 (this : Nat) (Q : Int32 → Mem → Prop) : Nat → Int64 → Int32 → Int32 → Int32 → Mem → Prop
  | 0, _, _, _, _, _ => False
  | n + 1, v1, v3, v4, v5, M => if v5 < 0 then (vp_in (mI M 1 this 4) (mL M 600 this) ∧ vp_in (mI (sJ M 600 this (mI M 1 this 4).toNatClampNeg v1) 1 this 4) (mL (sJ M 600 this (mI M 1 this 4).toNatClampNeg v1) 20 this) ∧ ∃ M6, M6 = (sI (sJ M 600 this (mI M 1 this 4).toNatClampNeg v1) 20 this (mI (sJ M 600 this (mI M 1 this 4).toNatClampNeg v1) 1 this 4).toNatClampNeg v3) ∧ vp_in v4 (mL M6 22 this) ∧ vp_in (mI M6 1 this 4) (mL M6 21 this) ∧ ∃ M9, M9 = (sI M6 21 this (mI M6 1 this 4).toNatClampNeg (mI M6 22 this v4.toNatClampNeg)) ∧ vp_in v4 (mL M9 22 this) ∧ ∃ M11, M11 = (sI (sI M9 22 this v4.toNatClampNeg (mI M9 1 this 4)) 1 this 4 ((mI (sI M9 22 this v4.toNatClampNeg (mI M9 1 this 4)) 1 this 4) + (1 : Int32))) ∧ Q ((mI M11 1 this 4) - (1 : Int32)) M11) else (vp_in v5 (mL M 600 this) ∧ if (lg_cmp (mJ M 600 this v5.toNatClampNeg) v1) = 0 then (vp_in v5 (mL M 20 this) ∧ if (mI M 20 this v5.toNatClampNeg) = v3 then (Q v5 M) else (w_Names_numberOf_j60 this Q (w_Names_numberOf_L29 this Q n) v1 v3 v4 v5 M)) else (w_Names_numberOf_j60 this Q (w_Names_numberOf_L29 this Q n) v1 v3 v4 v5 M))
def w_Names_numberOf (this : Nat) (a1 : Int64) (a2 : Int32) (Q : Int32 → Mem → Prop) (M : Mem) : Prop :=
  ∃ x1 : Int32, x1 = ((((a1 * (-7046029254386353131 : Int64)).toUInt64 >>> ((51 : Int32).toInt64.toUInt64 &&& Int64.toUInt64 63)).toInt64).toInt32 ^^^ ((a2 * (31 : Int32)) &&& (8191 : Int32))) ∧ vp_in x1 (mL M 22 this) ∧ ∃ n17 : Nat, w_Names_numberOf_L29 this Q n17 a1 a2 x1 (mI M 22 this x1.toNatClampNeg) M
set_option maxRecDepth 4096 in
theorem lk_Names_numberOf_j60 {γ : Gm} (hγ : Gk γ) (this : Nat) (Q : Int32 → Mem → Prop) (k29 : Int64 → Int32 → Int32 → Int32 → Mem → Prop) (hk29 : ∀ (v1 : Int64) (v3 : Int32) (v4 : Int32) (v5 : Int32) (M : Mem), k29 v1 v3 v4 v5 M → E γ k_Names_numberOf 0 29 [some (vr (some (1, this))), some (vl v1), none, some (vi v3), some (vi v4), some (vi v5)] [] M (Qi Q)) (v1 : Int64) (v3 : Int32) (v4 : Int32) (v5 : Int32) (M : Mem) (h : w_Names_numberOf_j60 this Q k29 v1 v3 v4 v5 M) : E γ k_Names_numberOf 0 60 [some (vr (some (1, this))), some (vl v1), none, some (vi v3), some (vi v4), some (vi v5)] [] M (Qi Q) := by
  unfold w_Names_numberOf_j60 at h
  obtain ⟨c16, h⟩ := h
  refine E_blk (lv' := [some (vr (some (1, this))), some (vl v1), none, some (vi v3), some (vi v4), some (vi (mI M 21 this v5.toNatClampNeg))]) (st' := []) (M1 := M) (pc' := 69) (tb_Names hγ) [.aload_n 0, .getfield 20, .iload 5, .iaload, .istore 5] (by decide +kernel) rfl rfl ⟨c16, trivial⟩ ?_
  refine E_goto (off := -40) (tgt := 29) (by decide +kernel) (by decide) ?_
  refine E_mask [true, true, false, true, true, true] rfl ?_
  exact hk29 v1 v3 v4 (mI M 21 this v5.toNatClampNeg) M h
set_option maxRecDepth 4096 in
theorem lk_Names_numberOf_L29 {γ : Gm} (hγ : Gk γ) (this : Nat) (Q : Int32 → Mem → Prop) : ∀ (n : Nat) (v1 : Int64) (v3 : Int32) (v4 : Int32) (v5 : Int32) (M : Mem), w_Names_numberOf_L29 this Q n v1 v3 v4 v5 M → E γ k_Names_numberOf 0 29 [some (vr (some (1, this))), some (vl v1), none, some (vi v3), some (vi v4), some (vi v5)] [] M (Qi Q) := by
  intro n
  induction n with
  | zero => intro v1 v3 v4 v5 M h; exact h.elim
  | succ n ih =>
    intro v1 v3 v4 v5 M h
    unfold w_Names_numberOf_L29 at h
    refine E_blk (lv' := [some (vr (some (1, this))), some (vl v1), none, some (vi v3), some (vi v4), some (vi v5)]) (st' := [vi v5]) (M1 := M) (pc' := 31) (tb_Names hγ) [.iload 5] (by decide +kernel) rfl rfl trivial ?_
    refine E_if_lt (off := 41) (tgt := 72) (by decide +kernel) (by decide) (fun b3 => ?_) (fun b3 => ?_)
    · rw [if_pos b3] at h
      obtain ⟨c4, c5, h⟩ := h
      refine E_blk (lv' := [some (vr (some (1, this))), some (vl v1), none, some (vi v3), some (vi v4), some (vi v5)]) (st' := []) (M1 := (sI (sJ M 600 this (mI M 1 this 4).toNatClampNeg v1) 20 this (mI (sJ M 600 this (mI M 1 this 4).toNatClampNeg v1) 1 this 4).toNatClampNeg v3)) (pc' := 92) (tb_Names hγ) [.aload_n 0, .getfield 10, .aload_n 0, .getfield 54, .lload_n 1, .lastore, .aload_n 0, .getfield 16, .aload_n 0, .getfield 54, .iload_n 3, .iastore] (by decide +kernel) rfl rfl ⟨c4, c5, trivial⟩ ?_
      obtain ⟨M6, eM6, h⟩ := h
      rw [← eM6]
      obtain ⟨c7, c8, h⟩ := h
      refine E_blk (lv' := [some (vr (some (1, this))), some (vl v1), none, some (vi v3), some (vi v4), some (vi v5)]) (st' := []) (M1 := (sI M6 21 this (mI M6 1 this 4).toNatClampNeg (mI M6 22 this v4.toNatClampNeg))) (pc' := 108) (tb_Names hγ) [.aload_n 0, .getfield 20, .aload_n 0, .getfield 54, .aload_n 0, .getfield 23, .iload 4, .iaload, .iastore] (by decide +kernel) rfl rfl ⟨c7, c8, trivial⟩ ?_
      obtain ⟨M9, eM9, h⟩ := h
      rw [← eM9]
      obtain ⟨c10, h⟩ := h
      refine E_blk (lv' := [some (vr (some (1, this))), some (vl v1), none, some (vi v3), some (vi v4), some (vi v5)]) (st' := []) (M1 := (sI (sI M9 22 this v4.toNatClampNeg (mI M9 1 this 4)) 1 this 4 ((mI (sI M9 22 this v4.toNatClampNeg (mI M9 1 this 4)) 1 this 4) + (1 : Int32)))) (pc' := 129) (tb_Names hγ) [.aload_n 0, .getfield 23, .iload 4, .aload_n 0, .getfield 54, .iastore, .aload_n 0, .dup, .getfield 54, .iconst 1, .iadd, .putfield 54] (by decide +kernel) rfl rfl ⟨c10, trivial⟩ ?_
      obtain ⟨M11, eM11, h⟩ := h
      rw [← eM11]
      refine E_blk (lv' := [some (vr (some (1, this))), some (vl v1), none, some (vi v3), some (vi v4), some (vi v5)]) (st' := [vi ((mI M11 1 this 4) - (1 : Int32))]) (M1 := M11) (pc' := 135) (tb_Names hγ) [.aload_n 0, .getfield 54, .iconst 1, .isub] (by decide +kernel) rfl rfl trivial ?_
      exact E_iret rfl (by decide +kernel) h
    · rw [if_neg b3] at h
      obtain ⟨c12, h⟩ := h
      refine E_blk (lv' := [some (vr (some (1, this))), some (vl v1), none, some (vi v3), some (vi v4), some (vi v5)]) (st' := [vi (lg_cmp (mJ M 600 this v5.toNatClampNeg) v1)]) (M1 := M) (pc' := 43) (tb_Names hγ) [.aload_n 0, .getfield 10, .iload 5, .laload, .lload_n 1, .lcmp] (by decide +kernel) rfl rfl ⟨c12, trivial⟩ ?_
      refine E_if_ne (off := 17) (tgt := 60) (by decide +kernel) (by decide) (fun b13 => ?_) (fun b13 => ?_)
      · rw [if_pos b13] at h
        obtain ⟨c14, h⟩ := h
        refine E_blk (lv' := [some (vr (some (1, this))), some (vl v1), none, some (vi v3), some (vi v4), some (vi v5)]) (st' := [vi v3, vi (mI M 20 this v5.toNatClampNeg)]) (M1 := M) (pc' := 54) (tb_Names hγ) [.aload_n 0, .getfield 16, .iload 5, .iaload, .iload_n 3] (by decide +kernel) rfl rfl ⟨c14, trivial⟩ ?_
        refine E_icmp_ne (off := 6) (tgt := 60) (by decide +kernel) (by decide) (fun b15 => ?_) (fun b15 => ?_)
        · rw [if_pos b15] at h
          refine E_blk (lv' := [some (vr (some (1, this))), some (vl v1), none, some (vi v3), some (vi v4), some (vi v5)]) (st' := [vi v5]) (M1 := M) (pc' := 59) (tb_Names hγ) [.iload 5] (by decide +kernel) rfl rfl trivial ?_
          exact E_iret rfl (by decide +kernel) h
        · rw [if_neg b15] at h
          refine E_mask [true, true, false, true, true, true] rfl ?_
          exact lk_Names_numberOf_j60 hγ this Q (w_Names_numberOf_L29 this Q n) ih v1 v3 v4 v5 M h
      · rw [if_neg b13] at h
        refine E_mask [true, true, false, true, true, true] rfl ?_
        exact lk_Names_numberOf_j60 hγ this Q (w_Names_numberOf_L29 this Q n) ih v1 v3 v4 v5 M h
set_option maxRecDepth 4096 in
theorem lk_Names_numberOf {γ : Gm} (hγ : Gk γ) (this : Nat) (a1 : Int64) (a2 : Int32) (Q : Int32 → Mem → Prop) (M : Mem) (h : w_Names_numberOf this a1 a2 Q M) : E γ k_Names_numberOf 0 0 [some (vr (some (1, this))), some (vl a1), none, some (vi a2), none, none] [] M (Qi Q) := by
  unfold w_Names_numberOf at h
  refine E_blk (lv' := [some (vr (some (1, this))), some (vl a1), none, some (vi a2), some (vi ((((a1 * (-7046029254386353131 : Int64)).toUInt64 >>> ((51 : Int32).toInt64.toUInt64 &&& Int64.toUInt64 63)).toInt64).toInt32 ^^^ ((a2 * (31 : Int32)) &&& (8191 : Int32)))), none]) (st' := []) (M1 := M) (pc' := 20) (tb_Names hγ) [.lload_n 1, .ldc2_w 52, .lmul, .bipush 51, .lushr, .l2i, .iload_n 3, .bipush 31, .imul, .sipush 8191, .iand, .ixor, .istore 4] (by decide +kernel) rfl rfl trivial ?_
  obtain ⟨x1, ex1, h⟩ := h
  rw [← ex1]
  obtain ⟨c2, h⟩ := h
  refine E_blk (lv' := [some (vr (some (1, this))), some (vl a1), none, some (vi a2), some (vi x1), some (vi (mI M 22 this x1.toNatClampNeg))]) (st' := []) (M1 := M) (pc' := 29) (tb_Names hγ) [.aload_n 0, .getfield 23, .iload 4, .iaload, .istore 5] (by decide +kernel) rfl rfl ⟨c2, trivial⟩ ?_
  obtain ⟨n17, h⟩ := h
  refine E_mask [true, true, false, true, true, true] rfl ?_
  exact lk_Names_numberOf_L29 hγ this Q n17 a1 a2 x1 (mI M 22 this x1.toNatClampNeg) M h
set_option maxRecDepth 4096 in
theorem lk0_Names_numberOf_j60 {γ : Gm} (hγ : G0 γ) (this : Nat) (Q : Int32 → Mem → Prop) (k29 : Int64 → Int32 → Int32 → Int32 → Mem → Prop) (hk29 : ∀ (v1 : Int64) (v3 : Int32) (v4 : Int32) (v5 : Int32) (M : Mem), k29 v1 v3 v4 v5 M → E γ k_Names_numberOf 0 29 [some (vr (some (1, this))), some (vl v1), none, some (vi v3), some (vi v4), some (vi v5)] [] M (Qi Q)) (v1 : Int64) (v3 : Int32) (v4 : Int32) (v5 : Int32) (M : Mem) (h : w_Names_numberOf_j60 this Q k29 v1 v3 v4 v5 M) : E γ k_Names_numberOf 0 60 [some (vr (some (1, this))), some (vl v1), none, some (vi v3), some (vi v4), some (vi v5)] [] M (Qi Q) := by
  unfold w_Names_numberOf_j60 at h
  obtain ⟨c16, h⟩ := h
  refine E_blk (lv' := [some (vr (some (1, this))), some (vl v1), none, some (vi v3), some (vi v4), some (vi (mI M 21 this v5.toNatClampNeg))]) (st' := []) (M1 := M) (pc' := 69) (tb0_Names hγ) [.aload_n 0, .getfield 20, .iload 5, .iaload, .istore 5] (by decide +kernel) rfl rfl ⟨c16, trivial⟩ ?_
  refine E_goto (off := -40) (tgt := 29) (by decide +kernel) (by decide) ?_
  refine E_mask [true, true, false, true, true, true] rfl ?_
  exact hk29 v1 v3 v4 (mI M 21 this v5.toNatClampNeg) M h
set_option maxRecDepth 4096 in
theorem lk0_Names_numberOf_L29 {γ : Gm} (hγ : G0 γ) (this : Nat) (Q : Int32 → Mem → Prop) : ∀ (n : Nat) (v1 : Int64) (v3 : Int32) (v4 : Int32) (v5 : Int32) (M : Mem), w_Names_numberOf_L29 this Q n v1 v3 v4 v5 M → E γ k_Names_numberOf 0 29 [some (vr (some (1, this))), some (vl v1), none, some (vi v3), some (vi v4), some (vi v5)] [] M (Qi Q) := by
  intro n
  induction n with
  | zero => intro v1 v3 v4 v5 M h; exact h.elim
  | succ n ih =>
    intro v1 v3 v4 v5 M h
    unfold w_Names_numberOf_L29 at h
    refine E_blk (lv' := [some (vr (some (1, this))), some (vl v1), none, some (vi v3), some (vi v4), some (vi v5)]) (st' := [vi v5]) (M1 := M) (pc' := 31) (tb0_Names hγ) [.iload 5] (by decide +kernel) rfl rfl trivial ?_
    refine E_if_lt (off := 41) (tgt := 72) (by decide +kernel) (by decide) (fun b3 => ?_) (fun b3 => ?_)
    · rw [if_pos b3] at h
      obtain ⟨c4, c5, h⟩ := h
      refine E_blk (lv' := [some (vr (some (1, this))), some (vl v1), none, some (vi v3), some (vi v4), some (vi v5)]) (st' := []) (M1 := (sI (sJ M 600 this (mI M 1 this 4).toNatClampNeg v1) 20 this (mI (sJ M 600 this (mI M 1 this 4).toNatClampNeg v1) 1 this 4).toNatClampNeg v3)) (pc' := 92) (tb0_Names hγ) [.aload_n 0, .getfield 10, .aload_n 0, .getfield 54, .lload_n 1, .lastore, .aload_n 0, .getfield 16, .aload_n 0, .getfield 54, .iload_n 3, .iastore] (by decide +kernel) rfl rfl ⟨c4, c5, trivial⟩ ?_
      obtain ⟨M6, eM6, h⟩ := h
      rw [← eM6]
      obtain ⟨c7, c8, h⟩ := h
      refine E_blk (lv' := [some (vr (some (1, this))), some (vl v1), none, some (vi v3), some (vi v4), some (vi v5)]) (st' := []) (M1 := (sI M6 21 this (mI M6 1 this 4).toNatClampNeg (mI M6 22 this v4.toNatClampNeg))) (pc' := 108) (tb0_Names hγ) [.aload_n 0, .getfield 20, .aload_n 0, .getfield 54, .aload_n 0, .getfield 23, .iload 4, .iaload, .iastore] (by decide +kernel) rfl rfl ⟨c7, c8, trivial⟩ ?_
      obtain ⟨M9, eM9, h⟩ := h
      rw [← eM9]
      obtain ⟨c10, h⟩ := h
      refine E_blk (lv' := [some (vr (some (1, this))), some (vl v1), none, some (vi v3), some (vi v4), some (vi v5)]) (st' := []) (M1 := (sI (sI M9 22 this v4.toNatClampNeg (mI M9 1 this 4)) 1 this 4 ((mI (sI M9 22 this v4.toNatClampNeg (mI M9 1 this 4)) 1 this 4) + (1 : Int32)))) (pc' := 129) (tb0_Names hγ) [.aload_n 0, .getfield 23, .iload 4, .aload_n 0, .getfield 54, .iastore, .aload_n 0, .dup, .getfield 54, .iconst 1, .iadd, .putfield 54] (by decide +kernel) rfl rfl ⟨c10, trivial⟩ ?_
      obtain ⟨M11, eM11, h⟩ := h
      rw [← eM11]
      refine E_blk (lv' := [some (vr (some (1, this))), some (vl v1), none, some (vi v3), some (vi v4), some (vi v5)]) (st' := [vi ((mI M11 1 this 4) - (1 : Int32))]) (M1 := M11) (pc' := 135) (tb0_Names hγ) [.aload_n 0, .getfield 54, .iconst 1, .isub] (by decide +kernel) rfl rfl trivial ?_
      exact E_iret rfl (by decide +kernel) h
    · rw [if_neg b3] at h
      obtain ⟨c12, h⟩ := h
      refine E_blk (lv' := [some (vr (some (1, this))), some (vl v1), none, some (vi v3), some (vi v4), some (vi v5)]) (st' := [vi (lg_cmp (mJ M 600 this v5.toNatClampNeg) v1)]) (M1 := M) (pc' := 43) (tb0_Names hγ) [.aload_n 0, .getfield 10, .iload 5, .laload, .lload_n 1, .lcmp] (by decide +kernel) rfl rfl ⟨c12, trivial⟩ ?_
      refine E_if_ne (off := 17) (tgt := 60) (by decide +kernel) (by decide) (fun b13 => ?_) (fun b13 => ?_)
      · rw [if_pos b13] at h
        obtain ⟨c14, h⟩ := h
        refine E_blk (lv' := [some (vr (some (1, this))), some (vl v1), none, some (vi v3), some (vi v4), some (vi v5)]) (st' := [vi v3, vi (mI M 20 this v5.toNatClampNeg)]) (M1 := M) (pc' := 54) (tb0_Names hγ) [.aload_n 0, .getfield 16, .iload 5, .iaload, .iload_n 3] (by decide +kernel) rfl rfl ⟨c14, trivial⟩ ?_
        refine E_icmp_ne (off := 6) (tgt := 60) (by decide +kernel) (by decide) (fun b15 => ?_) (fun b15 => ?_)
        · rw [if_pos b15] at h
          refine E_blk (lv' := [some (vr (some (1, this))), some (vl v1), none, some (vi v3), some (vi v4), some (vi v5)]) (st' := [vi v5]) (M1 := M) (pc' := 59) (tb0_Names hγ) [.iload 5] (by decide +kernel) rfl rfl trivial ?_
          exact E_iret rfl (by decide +kernel) h
        · rw [if_neg b15] at h
          refine E_mask [true, true, false, true, true, true] rfl ?_
          exact lk0_Names_numberOf_j60 hγ this Q (w_Names_numberOf_L29 this Q n) ih v1 v3 v4 v5 M h
      · rw [if_neg b13] at h
        refine E_mask [true, true, false, true, true, true] rfl ?_
        exact lk0_Names_numberOf_j60 hγ this Q (w_Names_numberOf_L29 this Q n) ih v1 v3 v4 v5 M h
set_option maxRecDepth 4096 in
theorem lk0_Names_numberOf {γ : Gm} (hγ : G0 γ) (this : Nat) (a1 : Int64) (a2 : Int32) (Q : Int32 → Mem → Prop) (M : Mem) (h : w_Names_numberOf this a1 a2 Q M) : E γ k_Names_numberOf 0 0 [some (vr (some (1, this))), some (vl a1), none, some (vi a2), none, none] [] M (Qi Q) := by
  unfold w_Names_numberOf at h
  refine E_blk (lv' := [some (vr (some (1, this))), some (vl a1), none, some (vi a2), some (vi ((((a1 * (-7046029254386353131 : Int64)).toUInt64 >>> ((51 : Int32).toInt64.toUInt64 &&& Int64.toUInt64 63)).toInt64).toInt32 ^^^ ((a2 * (31 : Int32)) &&& (8191 : Int32)))), none]) (st' := []) (M1 := M) (pc' := 20) (tb0_Names hγ) [.lload_n 1, .ldc2_w 52, .lmul, .bipush 51, .lushr, .l2i, .iload_n 3, .bipush 31, .imul, .sipush 8191, .iand, .ixor, .istore 4] (by decide +kernel) rfl rfl trivial ?_
  obtain ⟨x1, ex1, h⟩ := h
  rw [← ex1]
  obtain ⟨c2, h⟩ := h
  refine E_blk (lv' := [some (vr (some (1, this))), some (vl a1), none, some (vi a2), some (vi x1), some (vi (mI M 22 this x1.toNatClampNeg))]) (st' := []) (M1 := M) (pc' := 29) (tb0_Names hγ) [.aload_n 0, .getfield 23, .iload 4, .iaload, .istore 5] (by decide +kernel) rfl rfl ⟨c2, trivial⟩ ?_
  obtain ⟨n17, h⟩ := h
  refine E_mask [true, true, false, true, true, true] rfl ?_
  exact lk0_Names_numberOf_L29 hγ this Q n17 a1 a2 x1 (mI M 22 this x1.toNatClampNeg) M h
def w_Names_init_j132 (this : Nat) (Q : Mem → Prop) (k47 : Int32 → Mem → Prop) (k73 : Int32 → Int32 → Int64 → Int32 → Int32 → Mem → Prop) (v1 : Int32) (v2 : Int32) (v3 : Int64) (v5 : Int32) (v6 : Int32) (M : Mem) : Prop :=
  k73 v1 v2 v3 v5 (v6 + (1 : Int32)) M
def w_Names_init_j101 (this : Nat) (Q : Mem → Prop) (k47 : Int32 → Mem → Prop) (k73 : Int32 → Int32 → Int64 → Int32 → Int32 → Mem → Prop) (v1 : Int32) (v2 : Int32) (v3 : Int64) (v5 : Int32) (v6 : Int32) (s0 : Int32) (M : Mem) : Prop :=
  if (8 : Int32) ≤ v6 then (w_Names_init_j132 this Q k47 k73 v1 v2 v3 ((v5 <<< ((8 : Int32) &&& 31)) ||| s0) v6 M) else (w_Names_init_j132 this Q k47 k73 v1 v2 ((v3 <<< ((8 : Int32).toInt64 &&& 63)) ||| s0.toInt64) v5 v6 M)
def w_Names_init_L73 (this : Nat) (Q : Mem → Prop) (k47 : Int32 → Mem → Prop) : Nat → Int32 → Int32 → Int64 → Int32 → Int32 → Mem → Prop
  | 0, _, _, _, _, _, _ => False
  | n + 1, v1, v2, v3, v5, v6, M => if (12 : Int32) ≤ v6 then (LayF FIN0 M ∧ w_Names_numberOf this v3 v5 (fun r35 M34 => k47 (v2 + (1 : Int32)) M34) M) else (if v2 ≤ (v1 + v6) then (w_Names_init_j101 this Q k47 (w_Names_init_L73 this Q k47 n) v1 v2 v3 v5 v6 (0 : Int32) M) else (LayF FIN0 M ∧ 0 < nStr ∧ w_JString_charAt 0 (v1 + v6) (fun r40 M39 => w_Names_init_j101 this Q k47 (w_Names_init_L73 this Q k47 n) v1 v2 v3 v5 v6 r40 M39) M))
def w_Names_init_j65 (this : Nat) (Q : Mem → Prop) (k47 : Int32 → Mem → Prop) (v1 : Int32) (v2 : Int32) (M : Mem) : Prop :=
  ∃ n43 : Nat, w_Names_init_L73 this Q k47 n43 v1 v2 (0 : Int64) (0 : Int32) (0 : Int32) M
def w_Names_init_L47 (this : Nat) (Q : Mem → Prop) : Nat → Int32 → Mem → Prop
  | 0, _, _ => False
  | n + 1, v1, M => LayF FIN0 M ∧ 0 < nStr ∧ w_JString_length 0 (fun r29 M28 => if r29 ≤ v1 then (Q M28) else (LayF FIN0 M28 ∧ 0 < nStr ∧ w_JString_indexOf 0 (32 : Int32) v1 (fun r32 M31 => w_Names_init_j65 this Q (w_Names_init_L47 this Q n) v1 r32 M31) M28)) M
def w_Names_init (this : Nat) (Q : Mem → Prop) (M : Mem) : Prop :=
  ¬ (41200 : Int32) < 0 ∧ (41200 : Int32).toNatClampNeg ≤ 60000000 ∧ ∃ i2, (600, i2) ∉ mN M ∧ ∃ M1, M1 = mk M 600 i2 (41200 : Int32).toNatClampNeg ∧ ∃ M6, M6 = sR M1 1 this 0 (some (600, i2)) ∧ ¬ (41200 : Int32) < 0 ∧ (41200 : Int32).toNatClampNeg ≤ 60000000 ∧ ∃ i8, (20, i8) ∉ mN M6 ∧ ∃ M7, M7 = mk M6 20 i8 (41200 : Int32).toNatClampNeg ∧ ∃ M12, M12 = sR M7 1 this 1 (some (20, i8)) ∧ ¬ (41200 : Int32) < 0 ∧ (41200 : Int32).toNatClampNeg ≤ 60000000 ∧ ∃ i14, (21, i14) ∉ mN M12 ∧ ∃ M13, M13 = mk M12 21 i14 (41200 : Int32).toNatClampNeg ∧ ∃ M18, M18 = sR M13 1 this 2 (some (21, i14)) ∧ ¬ (8192 : Int32) < 0 ∧ (8192 : Int32).toNatClampNeg ≤ 60000000 ∧ ∃ i20, (22, i20) ∉ mN M18 ∧ ∃ M19, M19 = mk M18 22 i20 (8192 : Int32).toNatClampNeg ∧ ∃ M24, M24 = sR M19 1 this 3 (some (22, i20)) ∧ ∃ i25, (mR M24 1 this 3) = some (22, i25) ∧ mL M24 22 i25 < 2 ^ 31 ∧ ∃ M26, M26 = flI M24 22 i25 (-1 : Int32) ∧ ∃ n48 : Nat, w_Names_init_L47 this Q n48 (0 : Int32) M26
set_option maxRecDepth 4096 in
theorem lk_Names_init_j132 {γ : Gm} (hγ : Gr γ) (this : Nat) (Q : Mem → Prop) (k47 : Int32 → Mem → Prop) (k73 : Int32 → Int32 → Int64 → Int32 → Int32 → Mem → Prop) (hk47 : ∀ (v1 : Int32) (M : Mem), k47 v1 M → E γ k_Names_init 4 47 [some (vr (some (1, this))), some (vi v1), none, none, none, none, none, none] [] M (Qv Q)) (hk73 : ∀ (v1 : Int32) (v2 : Int32) (v3 : Int64) (v5 : Int32) (v6 : Int32) (M : Mem), k73 v1 v2 v3 v5 v6 M → E γ k_Names_init 4 73 [some (vr (some (1, this))), some (vi v1), some (vi v2), some (vl v3), none, some (vi v5), some (vi v6), none] [] M (Qv Q)) (v1 : Int32) (v2 : Int32) (v3 : Int64) (v5 : Int32) (v6 : Int32) (M : Mem) (h : w_Names_init_j132 this Q k47 k73 v1 v2 v3 v5 v6 M) : E γ k_Names_init 4 132 [some (vr (some (1, this))), some (vi v1), some (vi v2), some (vl v3), none, some (vi v5), some (vi v6), none] [] M (Qv Q) := by
  unfold w_Names_init_j132 at h
  refine E_blk (lv' := [some (vr (some (1, this))), some (vi v1), some (vi v2), some (vl v3), none, some (vi v5), some (vi (v6 + (1 : Int32))), none]) (st' := []) (M1 := M) (pc' := 135) (tbr_Names hγ) [.iinc 6 1] (by decide +kernel) rfl rfl trivial ?_
  refine E_goto (off := -62) (tgt := 73) (by decide +kernel) (by decide) ?_
  refine E_mask [true, true, true, true, false, true, true, false] rfl ?_
  exact hk73 v1 v2 v3 v5 (v6 + (1 : Int32)) M h
set_option maxRecDepth 4096 in
theorem lk_Names_init_j101 {γ : Gm} (hγ : Gr γ) (this : Nat) (Q : Mem → Prop) (k47 : Int32 → Mem → Prop) (k73 : Int32 → Int32 → Int64 → Int32 → Int32 → Mem → Prop) (hk47 : ∀ (v1 : Int32) (M : Mem), k47 v1 M → E γ k_Names_init 4 47 [some (vr (some (1, this))), some (vi v1), none, none, none, none, none, none] [] M (Qv Q)) (hk73 : ∀ (v1 : Int32) (v2 : Int32) (v3 : Int64) (v5 : Int32) (v6 : Int32) (M : Mem), k73 v1 v2 v3 v5 v6 M → E γ k_Names_init 4 73 [some (vr (some (1, this))), some (vi v1), some (vi v2), some (vl v3), none, some (vi v5), some (vi v6), none] [] M (Qv Q)) (v1 : Int32) (v2 : Int32) (v3 : Int64) (v5 : Int32) (v6 : Int32) (s0 : Int32) (M : Mem) (h : w_Names_init_j101 this Q k47 k73 v1 v2 v3 v5 v6 s0 M) : E γ k_Names_init 4 101 [some (vr (some (1, this))), some (vi v1), some (vi v2), some (vl v3), none, some (vi v5), some (vi v6), none] [vi s0] M (Qv Q) := by
  unfold w_Names_init_j101 at h
  refine E_blk (lv' := [some (vr (some (1, this))), some (vi v1), some (vi v2), some (vl v3), none, some (vi v5), some (vi v6), some (vi s0)]) (st' := [vi (8 : Int32), vi v6]) (M1 := M) (pc' := 107) (tbr_Names hγ) [.istore 7, .iload 6, .bipush 8] (by decide +kernel) rfl rfl trivial ?_
  refine E_icmp_ge (off := 15) (tgt := 122) (by decide +kernel) (by decide) (fun b38 => ?_) (fun b38 => ?_)
  · rw [if_pos b38] at h
    refine E_blk (lv' := [some (vr (some (1, this))), some (vi v1), some (vi v2), some (vl v3), none, some (vi ((v5 <<< ((8 : Int32) &&& 31)) ||| s0)), some (vi v6), some (vi s0)]) (st' := []) (M1 := M) (pc' := 132) (tbr_Names hγ) [.iload 5, .bipush 8, .ishl, .iload 7, .ior, .istore 5] (by decide +kernel) rfl rfl trivial ?_
    refine E_mask [true, true, true, true, false, true, true, false] rfl ?_
    exact lk_Names_init_j132 hγ this Q k47 k73 hk47 hk73 v1 v2 v3 ((v5 <<< ((8 : Int32) &&& 31)) ||| s0) v6 M h
  · rw [if_neg b38] at h
    refine E_blk (lv' := [some (vr (some (1, this))), some (vi v1), some (vi v2), some (vl ((v3 <<< ((8 : Int32).toInt64 &&& 63)) ||| s0.toInt64)), none, some (vi v5), some (vi v6), some (vi s0)]) (st' := []) (M1 := M) (pc' := 119) (tbr_Names hγ) [.lload_n 3, .bipush 8, .lshl, .iload 7, .i2l, .lor, .lstore_n 3] (by decide +kernel) rfl rfl trivial ?_
    refine E_goto (off := 13) (tgt := 132) (by decide +kernel) (by decide) ?_
    refine E_mask [true, true, true, true, false, true, true, false] rfl ?_
    exact lk_Names_init_j132 hγ this Q k47 k73 hk47 hk73 v1 v2 ((v3 <<< ((8 : Int32).toInt64 &&& 63)) ||| s0.toInt64) v5 v6 M h
set_option maxRecDepth 4096 in
theorem lk_Names_init_L73 {γ : Gm} (hγ : Gr γ) (this : Nat) (Q : Mem → Prop) (k47 : Int32 → Mem → Prop) (hk47 : ∀ (v1 : Int32) (M : Mem), k47 v1 M → E γ k_Names_init 4 47 [some (vr (some (1, this))), some (vi v1), none, none, none, none, none, none] [] M (Qv Q)) : ∀ (n : Nat) (v1 : Int32) (v2 : Int32) (v3 : Int64) (v5 : Int32) (v6 : Int32) (M : Mem), w_Names_init_L73 this Q k47 n v1 v2 v3 v5 v6 M → E γ k_Names_init 4 73 [some (vr (some (1, this))), some (vi v1), some (vi v2), some (vl v3), none, some (vi v5), some (vi v6), none] [] M (Qv Q) := by
  intro n
  induction n with
  | zero => intro v1 v2 v3 v5 v6 M h; exact h.elim
  | succ n ih =>
    intro v1 v2 v3 v5 v6 M h
    unfold w_Names_init_L73 at h
    refine E_blk (lv' := [some (vr (some (1, this))), some (vi v1), some (vi v2), some (vl v3), none, some (vi v5), some (vi v6), none]) (st' := [vi (12 : Int32), vi v6]) (M1 := M) (pc' := 77) (tbr_Names hγ) [.iload 6, .bipush 12] (by decide +kernel) rfl rfl trivial ?_
    refine E_icmp_ge (off := 61) (tgt := 138) (by decide +kernel) (by decide) (fun b33 => ?_) (fun b33 => ?_)
    · rw [if_pos b33] at h
      refine E_blk (lv' := [some (vr (some (1, this))), some (vi v1), some (vi v2), some (vl v3), none, some (vi v5), some (vi v6), none]) (st' := [vi v5, vl v3, vr (some (1, this))]) (M1 := M) (pc' := 142) (tbr_Names hγ) [.aload_n 0, .lload_n 3, .iload 5] (by decide +kernel) rfl rfl trivial ?_
      obtain ⟨c36, h⟩ := h
      refine E_callV (κ' := k_Names_numberOf) (As := [vl v3, vi v5]) (st := []) mv_Names_numberOf (Or.inl (tbk_mem (j := 1) (k := 151) rfl)) rfl (by decide +kernel) (Nat.le_of_ble_eq_true rfl) (Nat.le_of_ble_eq_true rfl) rfl (by decide) (E_sw hγ.1 c36 (lk0_Names_numberOf (g0_of hγ) this v3 v5 _ M h)) (fun _ _ => Qi_r) (fun v M34 hp => Qi_k (R := fun st => E γ k_Names_init 4 145 [some (vr (some (1, this))), some (vi v1), some (vi v2), some (vl v3), none, some (vi v5), some (vi v6), none] st M34 (Qv Q)) hp (fun r35 h => ?_))
      refine E_blk (lv' := [some (vr (some (1, this))), some (vi (v2 + (1 : Int32))), some (vi v2), some (vl v3), none, some (vi v5), some (vi v6), none]) (st' := []) (M1 := M34) (pc' := 150) (tbr_Names hγ) [.pop, .iload_n 2, .iconst 1, .iadd, .istore_n 1] (by decide +kernel) rfl rfl trivial ?_
      refine E_goto (off := -103) (tgt := 47) (by decide +kernel) (by decide) ?_
      refine E_mask [true, true, false, false, false, false, false, false] rfl ?_
      exact hk47 (v2 + (1 : Int32)) M34 h
    · rw [if_neg b33] at h
      refine E_blk (lv' := [some (vr (some (1, this))), some (vi v1), some (vi v2), some (vl v3), none, some (vi v5), some (vi v6), none]) (st' := [vi v2, vi (v1 + v6)]) (M1 := M) (pc' := 85) (tbr_Names hγ) [.iload_n 1, .iload 6, .iadd, .iload_n 2] (by decide +kernel) rfl rfl trivial ?_
      refine E_icmp_ge (off := 15) (tgt := 100) (by decide +kernel) (by decide) (fun b37 => ?_) (fun b37 => ?_)
      · rw [if_pos b37] at h
        refine E_blk (lv' := [some (vr (some (1, this))), some (vi v1), some (vi v2), some (vl v3), none, some (vi v5), some (vi v6), none]) (st' := [vi (0 : Int32)]) (M1 := M) (pc' := 101) (tbr_Names hγ) [.iconst 0] (by decide +kernel) rfl rfl trivial ?_
        refine E_mask [true, true, true, true, false, true, true, false] rfl ?_
        exact lk_Names_init_j101 hγ this Q k47 (w_Names_init_L73 this Q k47 n) hk47 ih v1 v2 v3 v5 v6 (0 : Int32) M h
      · rw [if_neg b37] at h
        refine E_ldcS (κ := k_Names_init) (pc := 88) (k := 0) hγ.2.2.2 rfl rfl (by decide +kernel) ?_
        refine E_blk (lv' := [some (vr (some (1, this))), some (vi v1), some (vi v2), some (vl v3), none, some (vi v5), some (vi v6), none]) (st' := [vi (v1 + v6), vr (some (0, 0))]) (M1 := M) (pc' := 94) (tbr_Names hγ) [.iload_n 1, .iload 6, .iadd] (by decide +kernel) rfl rfl trivial ?_
        obtain ⟨c41, h⟩ := h
        obtain ⟨c42, h⟩ := h
        refine E_callN (κ' := k_JString_charAt) (i := 0) (As := [vi (v1 + v6)]) (st := []) hγ.2.2.2 c42 mvs_JString_charAt (tbk_mem (j := 1) (k := 131) rfl) rfl (by decide +kernel) (Nat.le_of_ble_eq_true rfl) (Nat.le_of_ble_eq_true rfl) rfl (by decide) (E_sw hγ.1 c41 (lk0_JString_charAt (g0_of hγ) 0 (v1 + v6) _ M h)) (fun _ _ => Qi_r) (fun v M39 hp => Qi_k (R := fun st => E γ k_Names_init 4 97 [some (vr (some (1, this))), some (vi v1), some (vi v2), some (vl v3), none, some (vi v5), some (vi v6), none] st M39 (Qv Q)) hp (fun r40 h => ?_))
        refine E_goto (off := 4) (tgt := 101) (by decide +kernel) (by decide) ?_
        refine E_mask [true, true, true, true, false, true, true, false] rfl ?_
        exact lk_Names_init_j101 hγ this Q k47 (w_Names_init_L73 this Q k47 n) hk47 ih v1 v2 v3 v5 v6 r40 M39 h
set_option maxRecDepth 4096 in
theorem lk_Names_init_j65 {γ : Gm} (hγ : Gr γ) (this : Nat) (Q : Mem → Prop) (k47 : Int32 → Mem → Prop) (hk47 : ∀ (v1 : Int32) (M : Mem), k47 v1 M → E γ k_Names_init 4 47 [some (vr (some (1, this))), some (vi v1), none, none, none, none, none, none] [] M (Qv Q)) (v1 : Int32) (v2 : Int32) (M : Mem) (h : w_Names_init_j65 this Q k47 v1 v2 M) : E γ k_Names_init 4 65 [some (vr (some (1, this))), some (vi v1), some (vi v2), none, none, none, none, none] [] M (Qv Q) := by
  unfold w_Names_init_j65 at h
  refine E_blk (lv' := [some (vr (some (1, this))), some (vi v1), some (vi v2), some (vl (0 : Int64)), none, some (vi (0 : Int32)), some (vi (0 : Int32)), none]) (st' := []) (M1 := M) (pc' := 73) (tbr_Names hγ) [.lconst 0, .lstore_n 3, .iconst 0, .istore 5, .iconst 0, .istore 6] (by decide +kernel) rfl rfl trivial ?_
  obtain ⟨n43, h⟩ := h
  refine E_mask [true, true, true, true, false, true, true, false] rfl ?_
  exact lk_Names_init_L73 hγ this Q k47 hk47 n43 v1 v2 (0 : Int64) (0 : Int32) (0 : Int32) M h
set_option maxRecDepth 4096 in
theorem lk_Names_init_L47 {γ : Gm} (hγ : Gr γ) (this : Nat) (Q : Mem → Prop) : ∀ (n : Nat) (v1 : Int32) (M : Mem), w_Names_init_L47 this Q n v1 M → E γ k_Names_init 4 47 [some (vr (some (1, this))), some (vi v1), none, none, none, none, none, none] [] M (Qv Q) := by
  intro n
  induction n with
  | zero => intro v1 M h; exact h.elim
  | succ n ih =>
    intro v1 M h
    unfold w_Names_init_L47 at h
    refine E_blk (lv' := [some (vr (some (1, this))), some (vi v1), none, none, none, none, none, none]) (st' := [vi v1]) (M1 := M) (pc' := 48) (tbr_Names hγ) [.iload_n 1] (by decide +kernel) rfl rfl trivial ?_
    refine E_ldcS (κ := k_Names_init) (pc := 48) (k := 0) hγ.2.2.2 rfl rfl (by decide +kernel) ?_
    obtain ⟨c46, h⟩ := h
    obtain ⟨c47, h⟩ := h
    refine E_callN (κ' := k_JString_length) (i := 0) (As := []) (st := [vi v1]) hγ.2.2.2 c47 mvs_JString_length (tbk_mem (j := 1) (k := 48) rfl) rfl (by decide +kernel) (Nat.le_of_ble_eq_true rfl) (Nat.le_of_ble_eq_true rfl) rfl (by decide) (E_sw hγ.1 c46 (lk0_JString_length (g0_of hγ) 0 _ M h)) (fun _ _ => Qi_r) (fun v M28 hp => Qi_k (R := fun st => E γ k_Names_init 4 53 [some (vr (some (1, this))), some (vi v1), none, none, none, none, none, none] st M28 (Qv Q)) hp (fun r29 h => ?_))
    refine E_icmp_ge (off := 100) (tgt := 153) (by decide +kernel) (by decide) (fun b30 => ?_) (fun b30 => ?_)
    · rw [if_pos b30] at h
      exact E_vret rfl (by decide +kernel) h
    · rw [if_neg b30] at h
      refine E_ldcS (κ := k_Names_init) (pc := 56) (k := 0) hγ.2.2.2 rfl rfl (by decide +kernel) ?_
      refine E_blk (lv' := [some (vr (some (1, this))), some (vi v1), none, none, none, none, none, none]) (st' := [vi v1, vi (32 : Int32), vr (some (0, 0))]) (M1 := M28) (pc' := 61) (tbr_Names hγ) [.bipush 32, .iload_n 1] (by decide +kernel) rfl rfl trivial ?_
      obtain ⟨c44, h⟩ := h
      obtain ⟨c45, h⟩ := h
      refine E_callN (κ' := k_JString_indexOf) (i := 0) (As := [vi (32 : Int32), vi v1]) (st := []) hγ.2.2.2 c45 mvs_JString_indexOf (tbk_mem (j := 1) (k := 58) rfl) rfl (by decide +kernel) (Nat.le_of_ble_eq_true rfl) (Nat.le_of_ble_eq_true rfl) rfl (by decide) (E_sw hγ.1 c44 (lk0_JString_indexOf (g0_of hγ) 0 (32 : Int32) v1 _ M28 h)) (fun _ _ => Qi_r) (fun v M31 hp => Qi_k (R := fun st => E γ k_Names_init 4 64 [some (vr (some (1, this))), some (vi v1), none, none, none, none, none, none] st M31 (Qv Q)) hp (fun r32 h => ?_))
      refine E_blk (lv' := [some (vr (some (1, this))), some (vi v1), some (vi r32), none, none, none, none, none]) (st' := []) (M1 := M31) (pc' := 65) (tbr_Names hγ) [.istore_n 2] (by decide +kernel) rfl rfl trivial ?_
      refine E_mask [true, true, true, false, false, false, false, false] rfl ?_
      exact lk_Names_init_j65 hγ this Q (w_Names_init_L47 this Q n) ih v1 r32 M31 h
set_option maxRecDepth 4096 in
theorem lk_Names_init {γ : Gm} (hγ : Gr γ) (this : Nat) (Q : Mem → Prop) (M : Mem) (h : w_Names_init this Q M) : E γ k_Names_init 4 0 [some (vr (some (1, this))), none, none, none, none, none, none, none] [] M (Qv Q) := by
  unfold w_Names_init at h
  refine E_blk (lv' := [some (vr (some (1, this))), none, none, none, none, none, none, none]) (st' := [vr (some (1, this))]) (M1 := M) (pc' := 1) (tbr_Names hγ) [.aload_n 0] (by decide +kernel) rfl rfl trivial ?_
  refine E_objI (κ := k_Names_init) (pc := 1) (idx := 3) (tbk_mem (j := 1) (k := 42) rfl) (by decide +kernel) (Nat.le_of_ble_eq_true rfl) ?_
  refine E_blk (lv' := [some (vr (some (1, this))), none, none, none, none, none, none, none]) (st' := [vi (41200 : Int32), vr (some (1, this))]) (M1 := M) (pc' := 7) (tbr_Names hγ) [.aload_n 0, .ldc 9] (by decide +kernel) rfl rfl trivial ?_
  obtain ⟨c3, c4, i2, c5, M1, eM1, h⟩ := h
  refine E_newa (f := 600) (i := i2) (by decide) (by decide) (FINr_lt hγ.1) c3 c4 c5 (by decide +kernel) ?_
  rw [← eM1]
  obtain ⟨M6, eM6, h⟩ := h
  refine E_putFR (k := 0) ⟨rfl, (by rw [hγ.1]; intro y hy; cases hy), by decide, _, rfl, by decide, rfl, rfl, (tbk_mem (j := 1) (k := 156) rfl)⟩ rfl (by decide +kernel) ?_
  rw [← eM6]
  refine E_blk (lv' := [some (vr (some (1, this))), none, none, none, none, none, none, none]) (st' := [vi (41200 : Int32), vr (some (1, this))]) (M1 := M6) (pc' := 15) (tbr_Names hγ) [.aload_n 0, .ldc 9] (by decide +kernel) rfl rfl trivial ?_
  obtain ⟨c9, c10, i8, c11, M7, eM7, h⟩ := h
  refine E_newa (f := 20) (i := i8) (by decide) (by decide) (FINr_lt hγ.1) c9 c10 c11 (by decide +kernel) ?_
  rw [← eM7]
  obtain ⟨M12, eM12, h⟩ := h
  refine E_putFR (k := 1) ⟨rfl, (by rw [hγ.1]; intro y hy; cases hy), by decide, _, rfl, by decide, rfl, rfl, (tbk_mem (j := 1) (k := 157) rfl)⟩ rfl (by decide +kernel) ?_
  rw [← eM12]
  refine E_blk (lv' := [some (vr (some (1, this))), none, none, none, none, none, none, none]) (st' := [vi (41200 : Int32), vr (some (1, this))]) (M1 := M12) (pc' := 23) (tbr_Names hγ) [.aload_n 0, .ldc 9] (by decide +kernel) rfl rfl trivial ?_
  obtain ⟨c15, c16, i14, c17, M13, eM13, h⟩ := h
  refine E_newa (f := 21) (i := i14) (by decide) (by decide) (FINr_lt hγ.1) c15 c16 c17 (by decide +kernel) ?_
  rw [← eM13]
  obtain ⟨M18, eM18, h⟩ := h
  refine E_putFR (k := 2) ⟨rfl, (by rw [hγ.1]; intro y hy; cases hy), by decide, _, rfl, by decide, rfl, rfl, (tbk_mem (j := 1) (k := 158) rfl)⟩ rfl (by decide +kernel) ?_
  rw [← eM18]
  refine E_blk (lv' := [some (vr (some (1, this))), none, none, none, none, none, none, none]) (st' := [vi (8192 : Int32), vr (some (1, this))]) (M1 := M18) (pc' := 32) (tbr_Names hγ) [.aload_n 0, .sipush 8192] (by decide +kernel) rfl rfl trivial ?_
  obtain ⟨c21, c22, i20, c23, M19, eM19, h⟩ := h
  refine E_newa (f := 22) (i := i20) (by decide) (by decide) (FINr_lt hγ.1) c21 c22 c23 (by decide +kernel) ?_
  rw [← eM19]
  obtain ⟨M24, eM24, h⟩ := h
  refine E_putFR (k := 3) ⟨rfl, (by rw [hγ.1]; intro y hy; cases hy), by decide, _, rfl, by decide, rfl, rfl, (tbk_mem (j := 1) (k := 159) rfl)⟩ rfl (by decide +kernel) ?_
  rw [← eM24]
  refine E_blk (lv' := [some (vr (some (1, this))), none, none, none, none, none, none, none]) (st' := [vr (mR M24 1 this 3)]) (M1 := M24) (pc' := 41) (tbr_Names hγ) [.aload_n 0, .getfield 23] (by decide +kernel) rfl rfl trivial ?_
  obtain ⟨i25, ei25, h⟩ := h
  rw [ei25]
  refine E_blk (lv' := [some (vr (some (1, this))), none, none, none, none, none, none, none]) (st' := [vi (-1 : Int32), vr (some (22, i25))]) (M1 := M24) (pc' := 42) (tbr_Names hγ) [.iconst (.negSucc 0)] (by decide +kernel) rfl rfl trivial ?_
  obtain ⟨c27, M26, eM26, h⟩ := h
  refine E_fillI (st := []) (by decide) (by decide) c27 (tbk_mem (j := 1) (k := 44) rfl) (by decide +kernel) (Nat.le_of_ble_eq_true rfl) ?_
  rw [← eM26]
  refine E_blk (lv' := [some (vr (some (1, this))), some (vi (0 : Int32)), none, none, none, none, none, none]) (st' := []) (M1 := M26) (pc' := 47) (tbr_Names hγ) [.iconst 0, .istore_n 1] (by decide +kernel) rfl rfl trivial ?_
  obtain ⟨n48, h⟩ := h
  refine E_mask [true, true, false, false, false, false, false, false] rfl ?_
  exact lk_Names_init_L47 hγ this Q n48 (0 : Int32) M26 h
def w_JThr_init_j41 (this : Nat) (Q : Mem → Prop) (v1 : Option (Nat × Nat)) (v2 : Option (Nat × Nat)) (v3 : Int32) (M : Mem) : Prop :=
  if v3 = 0 then (Q (sR (sR (sR M 9 this 3 v1) 9 this 0 v2) 9 this 2 none)) else (Q (sR (sR M 9 this 3 v1) 9 this 0 v2))
def w_JThr_init (this : Nat) (a1 : Option (Nat × Nat)) (a2 : Option (Nat × Nat)) (a3 : Int32) (a4 : Int32) (Q : Mem → Prop) (M : Mem) : Prop :=
  ∀ r1 : Option (Nat × Nat), ∀ r2 : Option (Nat × Nat), if a4 = 0 then (∃ M4, M4 = (sR (sR (sR (sR M 9 this 0 (some (9, this))) 9 this 1 r1) 9 this 2 r2) 9 this 1 none) ∧ w_JThr_init_j41 this Q a1 a2 a3 M4) else (False)
set_option maxRecDepth 4096 in
theorem lk_JThr_init_j41 {γ : Gm} (hγ : Gr γ) (this : Nat) (Q : Mem → Prop) (v1 : Option (Nat × Nat)) (v2 : Option (Nat × Nat)) (v3 : Int32) (M : Mem) (h : w_JThr_init_j41 this Q v1 v2 v3 M) : E γ k_JThr_init 1 41 [some (vr (some (9, this))), some (vr v1), some (vr v2), some (vi v3), none] [] M (Qv Q) := by
  unfold w_JThr_init_j41 at h
  refine E_blk (lv' := [some (vr (some (9, this))), some (vr v1), some (vr v2), some (vi v3), none]) (st' := [vi v3]) (M1 := (sR (sR M 9 this 3 v1) 9 this 0 v2)) (pc' := 52) (tbr_JThr hγ) [.aload_n 0, .aload_n 1, .putfield 31, .aload_n 0, .aload_n 2, .putfield 7, .iload_n 3] (by decide +kernel) rfl rfl trivial ?_
  refine E_if_ne (off := 8) (tgt := 60) (by decide +kernel) (by decide) (fun b5 => ?_) (fun b5 => ?_)
  · rw [if_pos b5] at h
    refine E_blk (lv' := [some (vr (some (9, this))), some (vr v1), some (vr v2), some (vi v3), none]) (st' := []) (M1 := (sR (sR (sR M 9 this 3 v1) 9 this 0 v2) 9 this 2 none)) (pc' := 60) (tbr_JThr hγ) [.aload_n 0, .aconst_null, .putfield 24] (by decide +kernel) rfl rfl trivial ?_
    exact E_vret rfl (by decide +kernel) h
  · rw [if_neg b5] at h
    exact E_vret rfl (by decide +kernel) h
set_option maxRecDepth 4096 in
theorem lk_JThr_init {γ : Gm} (hγ : Gr γ) (this : Nat) (a1 : Option (Nat × Nat)) (a2 : Option (Nat × Nat)) (a3 : Int32) (a4 : Int32) (Q : Mem → Prop) (M : Mem) (h : w_JThr_init this a1 a2 a3 a4 Q M) : E γ k_JThr_init 1 0 [some (vr (some (9, this))), some (vr a1), some (vr a2), some (vi a3), some (vi a4)] [] M (Qv Q) := by
  unfold w_JThr_init at h
  refine E_blk (lv' := [some (vr (some (9, this))), some (vr a1), some (vr a2), some (vi a3), some (vi a4)]) (st' := [vr (some (9, this))]) (M1 := M) (pc' := 1) (tbr_JThr hγ) [.aload_n 0] (by decide +kernel) rfl rfl trivial ?_
  refine E_objI (κ := k_JThr_init) (pc := 1) (idx := 1) (tbk_mem (j := 1) (k := 200) rfl) (by decide +kernel) (Nat.le_of_ble_eq_true rfl) ?_
  refine E_blk (lv' := [some (vr (some (9, this))), some (vr a1), some (vr a2), some (vi a3), some (vi a4)]) (st' := [vr (some (9, this))]) (M1 := (sR M 9 this 0 (some (9, this)))) (pc' := 10) (tbr_JThr hγ) [.aload_n 0, .aload_n 0, .putfield 7, .aload_n 0] (by decide +kernel) rfl rfl trivial ?_
  refine E_getT (κ := k_JThr_init) (pc := 10) (idx := 13) hγ.2.2.1.2.2.1 (tbk_mem (j := 1) (k := 201) rfl) (by decide +kernel) (fun r1 => ?_)
  replace h := h r1
  refine E_blk (lv' := [some (vr (some (9, this))), some (vr a1), some (vr a2), some (vi a3), some (vi a4)]) (st' := [vr (some (9, this))]) (M1 := (sR (sR M 9 this 0 (some (9, this))) 9 this 1 r1)) (pc' := 17) (tbr_JThr hγ) [.putfield 17, .aload_n 0] (by decide +kernel) rfl rfl trivial ?_
  refine E_getT (κ := k_JThr_init) (pc := 17) (idx := 20) hγ.2.2.1.2.2.2 (tbk_mem (j := 1) (k := 203) rfl) (by decide +kernel) (fun r2 => ?_)
  replace h := h r2
  refine E_blk (lv' := [some (vr (some (9, this))), some (vr a1), some (vr a2), some (vi a3), some (vi a4)]) (st' := [vi a4]) (M1 := (sR (sR (sR M 9 this 0 (some (9, this))) 9 this 1 r1) 9 this 2 r2)) (pc' := 25) (tbr_JThr hγ) [.putfield 24, .iload 4] (by decide +kernel) rfl rfl trivial ?_
  refine E_if_eq (off := 11) (tgt := 36) (by decide +kernel) (by decide) (fun b3 => ?_) (fun b3 => ?_)
  · rw [if_pos b3] at h
    refine E_blk (lv' := [some (vr (some (9, this))), some (vr a1), some (vr a2), some (vi a3), some (vi a4)]) (st' := []) (M1 := (sR (sR (sR (sR M 9 this 0 (some (9, this))) 9 this 1 r1) 9 this 2 r2) 9 this 1 none)) (pc' := 41) (tbr_JThr hγ) [.aload_n 0, .aconst_null, .putfield 17] (by decide +kernel) rfl rfl trivial ?_
    obtain ⟨M4, eM4, h⟩ := h
    rw [← eM4]
    refine E_mask [true, true, true, true, false] rfl ?_
    exact lk_JThr_init_j41 hγ this Q a1 a2 a3 M4 h
  · rw [if_neg b3] at h
    refine E_blk (lv' := [some (vr (some (9, this))), some (vr a1), some (vr a2), some (vi a3), some (vi a4)]) (st' := [vr (some (9, this))]) (M1 := (sR (sR (sR M 9 this 0 (some (9, this))) 9 this 1 r1) 9 this 2 r2)) (pc' := 29) (tbr_JThr hγ) [.aload_n 0] (by decide +kernel) rfl rfl trivial ?_
    exact h.elim
def w_JExc_init (this : Nat) (a1 : Option (Nat × Nat)) (a2 : Option (Nat × Nat)) (a3 : Int32) (a4 : Int32) (Q : Mem → Prop) (M : Mem) : Prop :=
  w_JThr_init this a1 a2 a3 a4 (fun M1 => Q M1) M
set_option maxRecDepth 4096 in
theorem lk_JExc_init {γ : Gm} (hγ : Gr γ) (this : Nat) (a1 : Option (Nat × Nat)) (a2 : Option (Nat × Nat)) (a3 : Int32) (a4 : Int32) (Q : Mem → Prop) (M : Mem) (h : w_JExc_init this a1 a2 a3 a4 Q M) : E γ k_JExc_init 2 0 [some (vr (some (9, this))), some (vr a1), some (vr a2), some (vi a3), some (vi a4)] [] M (Qv Q) := by
  unfold w_JExc_init at h
  refine E_blk (lv' := [some (vr (some (9, this))), some (vr a1), some (vr a2), some (vi a3), some (vi a4)]) (st' := [vi a4, vi a3, vr a2, vr a1, vr (some (9, this))]) (M1 := M) (pc' := 6) (tbr_JExc hγ) [.aload_n 0, .aload_n 1, .aload_n 2, .iload_n 3, .iload 4] (by decide +kernel) rfl rfl trivial ?_
  refine E_callI (κ' := k_JThr_init) (As := [vr a1, vr a2, vi a3, vi a4]) (st := []) mi_JThr_init (Or.inl (tbk_mem (j := 1) (k := 224) rfl)) rfl (by decide +kernel) (Nat.le_of_ble_eq_true rfl) (Nat.le_of_ble_eq_true rfl) rfl (by decide) (lk_JThr_init hγ this a1 a2 a3 a4 _ M h) (fun _ _ => Qv_r) (fun v M1 hp => Qv_k (R := fun st => E γ k_JExc_init 2 9 [some (vr (some (9, this))), some (vr a1), some (vr a2), some (vi a3), some (vi a4)] st M1 (Qv Q)) hp (fun h => ?_))
  exact E_vret rfl (by decide +kernel) h
def w_JRte_init (this : Nat) (a1 : Option (Nat × Nat)) (a2 : Option (Nat × Nat)) (a3 : Int32) (a4 : Int32) (Q : Mem → Prop) (M : Mem) : Prop :=
  w_JExc_init this a1 a2 a3 a4 (fun M1 => Q M1) M
set_option maxRecDepth 4096 in
theorem lk_JRte_init {γ : Gm} (hγ : Gr γ) (this : Nat) (a1 : Option (Nat × Nat)) (a2 : Option (Nat × Nat)) (a3 : Int32) (a4 : Int32) (Q : Mem → Prop) (M : Mem) (h : w_JRte_init this a1 a2 a3 a4 Q M) : E γ k_JRte_init 3 0 [some (vr (some (9, this))), some (vr a1), some (vr a2), some (vi a3), some (vi a4)] [] M (Qv Q) := by
  unfold w_JRte_init at h
  refine E_blk (lv' := [some (vr (some (9, this))), some (vr a1), some (vr a2), some (vi a3), some (vi a4)]) (st' := [vi a4, vi a3, vr a2, vr a1, vr (some (9, this))]) (M1 := M) (pc' := 6) (tbr_JRte hγ) [.aload_n 0, .aload_n 1, .aload_n 2, .iload_n 3, .iload 4] (by decide +kernel) rfl rfl trivial ?_
  refine E_callI (κ' := k_JExc_init) (As := [vr a1, vr a2, vi a3, vi a4]) (st := []) mi_JExc_init (Or.inl (tbk_mem (j := 1) (k := 221) rfl)) rfl (by decide +kernel) (Nat.le_of_ble_eq_true rfl) (Nat.le_of_ble_eq_true rfl) rfl (by decide) (lk_JExc_init hγ this a1 a2 a3 a4 _ M h) (fun _ _ => Qv_r) (fun v M1 hp => Qv_k (R := fun st => E γ k_JRte_init 3 9 [some (vr (some (9, this))), some (vr a1), some (vr a2), some (vi a3), some (vi a4)] st M1 (Qv Q)) hp (fun h => ?_))
  exact E_vret rfl (by decide +kernel) h
def w_Refusal_init (this : Nat) (Q : Mem → Prop) (M : Mem) : Prop :=
  w_JRte_init this none none (0 : Int32) (0 : Int32) (fun M1 => Q M1) M
set_option maxRecDepth 4096 in
theorem lk_Refusal_init {γ : Gm} (hγ : Gr γ) (this : Nat) (Q : Mem → Prop) (M : Mem) (h : w_Refusal_init this Q M) : E γ k_Refusal_init 4 0 [some (vr (some (9, this)))] [] M (Qv Q) := by
  unfold w_Refusal_init at h
  refine E_blk (lv' := [some (vr (some (9, this)))]) (st' := [vi (0 : Int32), vi (0 : Int32), vr none, vr none, vr (some (9, this))]) (M1 := M) (pc' := 5) (tbr_Refusal hγ) [.aload_n 0, .aconst_null, .aconst_null, .iconst 0, .iconst 0] (by decide +kernel) rfl rfl trivial ?_
  refine E_callI (κ' := k_JRte_init) (As := [vr none, vr none, vi (0 : Int32), vi (0 : Int32)]) (st := []) mi_JRte_init (Or.inl (tbk_mem (j := 1) (k := 218) rfl)) rfl (by decide +kernel) (Nat.le_of_ble_eq_true rfl) (Nat.le_of_ble_eq_true rfl) rfl (by decide) (lk_JRte_init hγ this none none (0 : Int32) (0 : Int32) _ M h) (fun _ _ => Qv_r) (fun v M1 hp => Qv_k (R := fun st => E γ k_Refusal_init 4 8 [some (vr (some (9, this)))] st M1 (Qv Q)) hp (fun h => ?_))
  exact E_vret rfl (by decide +kernel) h
def w_Words_init (this : Nat) (a1 : Nat) (Q : Mem → Prop) (M : Mem) : Prop :=
  ∃ M1, M1 = sR M 2 this 6 (some (10, a1)) ∧ Q M1
set_option maxRecDepth 4096 in
theorem lk_Words_init {γ : Gm} (hγ : Gr γ) (this : Nat) (a1 : Nat) (Q : Mem → Prop) (M : Mem) (h : w_Words_init this a1 Q M) : E γ k_Words_init 1 0 [some (vr (some (2, this))), some (vr (some (10, a1)))] [] M (Qv Q) := by
  unfold w_Words_init at h
  refine E_blk (lv' := [some (vr (some (2, this))), some (vr (some (10, a1)))]) (st' := [vr (some (10, a1)), vr (some (2, this))]) (M1 := M) (pc' := 2) (tbr_Words hγ) [.aload_n 0, .aload_n 1] (by decide +kernel) rfl rfl trivial ?_
  obtain ⟨M1, eM1, h⟩ := h
  refine E_putFR (k := 6) ⟨rfl, (by rw [hγ.1]; intro y hy; cases hy), by decide, _, rfl, by decide, rfl, rfl, (tbk_mem (j := 2) (k := 32) rfl)⟩ rfl (by decide +kernel) ?_
  rw [← eM1]
  refine E_blk (lv' := [some (vr (some (2, this))), some (vr (some (10, a1)))]) (st' := [vr (some (2, this))]) (M1 := M1) (pc' := 6) (tbr_Words hγ) [.aload_n 0] (by decide +kernel) rfl rfl trivial ?_
  refine E_objI (κ := k_Words_init) (pc := 6) (idx := 9) (tbk_mem (j := 2) (k := 18) rfl) (by decide +kernel) (Nat.le_of_ble_eq_true rfl) ?_
  exact E_vret rfl (by decide +kernel) h
def w_Reader_init_j60 (this : Nat) (Q : Mem → Prop)  (M : Mem) : Prop :=
  ¬ (3100 : Int32) < 0 ∧ (3100 : Int32).toNatClampNeg ≤ 60000000 ∧ ∃ i33, (27, i33) ∉ mN M ∧ ∃ M32, M32 = mk M 27 i33 (3100 : Int32).toNatClampNeg ∧ ∃ M37, M37 = sR M32 3 this 11 (some (27, i33)) ∧ ¬ (3100 : Int32) < 0 ∧ (3100 : Int32).toNatClampNeg ≤ 60000000 ∧ ∃ i39, (28, i39) ∉ mN M37 ∧ ∃ M38, M38 = mk M37 28 i39 (3100 : Int32).toNatClampNeg ∧ ∃ M43, M43 = sR M38 3 this 12 (some (28, i39)) ∧ ¬ (3100 : Int32) < 0 ∧ (3100 : Int32).toNatClampNeg ≤ 60000000 ∧ ∃ i45, (29, i45) ∉ mN M43 ∧ ∃ M44, M44 = mk M43 29 i45 (3100 : Int32).toNatClampNeg ∧ ∃ M49, M49 = sR M44 3 this 13 (some (29, i45)) ∧ ¬ (3100 : Int32) < 0 ∧ (3100 : Int32).toNatClampNeg ≤ 60000000 ∧ ∃ i51, (211, i51) ∉ mN M49 ∧ ∃ M50, M50 = mk M49 211 i51 (3100 : Int32).toNatClampNeg ∧ ∃ M55, M55 = sR M50 3 this 16 (some (211, i51)) ∧ ¬ (6 : Int32) < 0 ∧ (6 : Int32).toNatClampNeg ≤ 60000000 ∧ ∃ i57, (30, i57) ∉ mN M55 ∧ ∃ M56, M56 = mk M55 30 i57 (6 : Int32).toNatClampNeg ∧ ∃ M61, M61 = sR M56 3 this 22 (some (30, i57)) ∧ Q M61
def w_Reader_init (this : Nat) (a1 : Nat) (Q : Mem → Prop) (M : Mem) : Prop :=
  ∃ M1, M1 = sR M 3 this 23 (some (10, a1)) ∧ ∃ i3, (2, i3) ∉ mN M1 ∧ ∃ M2, M2 = mk M1 2 i3 7 ∧ ∃ i5, (mR M2 3 this 23) = some (10, i5) ∧ w_Words_init i3 i5 (fun M6 => ∃ M7, M7 = sR M6 3 this 0 (some (2, i3)) ∧ ¬ (3100 : Int32) < 0 ∧ (3100 : Int32).toNatClampNeg ≤ 60000000 ∧ ∃ i9, (23, i9) ∉ mN M7 ∧ ∃ M8, M8 = mk M7 23 i9 (3100 : Int32).toNatClampNeg ∧ ∃ M13, M13 = sR M8 3 this 6 (some (23, i9)) ∧ ¬ (3100 : Int32) < 0 ∧ (3100 : Int32).toNatClampNeg ≤ 60000000 ∧ ∃ i15, (24, i15) ∉ mN M13 ∧ ∃ M14, M14 = mk M13 24 i15 (3100 : Int32).toNatClampNeg ∧ ∃ M19, M19 = sR M14 3 this 7 (some (24, i15)) ∧ ¬ (3100 : Int32) < 0 ∧ (3100 : Int32).toNatClampNeg ≤ 60000000 ∧ ∃ i21, (25, i21) ∉ mN M19 ∧ ∃ M20, M20 = mk M19 25 i21 (3100 : Int32).toNatClampNeg ∧ ∃ M25, M25 = sR M20 3 this 8 (some (25, i21)) ∧ ¬ (3100 : Int32) < 0 ∧ (3100 : Int32).toNatClampNeg ≤ 60000000 ∧ ∃ i27, (26, i27) ∉ mN M25 ∧ ∃ M26, M26 = mk M25 26 i27 (3100 : Int32).toNatClampNeg ∧ ∃ M31, M31 = sR M26 3 this 10 (some (26, i27)) ∧ w_Reader_init_j60 this Q  M31) M2
set_option maxRecDepth 4096 in
theorem lk_Reader_init_j60 {γ : Gm} (hγ : Gr γ) (this : Nat) (Q : Mem → Prop)  (M : Mem) (h : w_Reader_init_j60 this Q  M) : E γ k_Reader_init 2 60 [some (vr (some (3, this))), none] [] M (Qv Q) := by
  unfold w_Reader_init_j60 at h
  refine E_blk (lv' := [some (vr (some (3, this))), none]) (st' := [vi (3100 : Int32), vr (some (3, this))]) (M1 := M) (pc' := 64) (tbr_Reader hγ) [.aload_n 0, .sipush 3100] (by decide +kernel) rfl rfl trivial ?_
  obtain ⟨c34, c35, i33, c36, M32, eM32, h⟩ := h
  refine E_newa (f := 27) (i := i33) (by decide) (by decide) (FINr_lt hγ.1) c34 c35 c36 (by decide +kernel) ?_
  rw [← eM32]
  obtain ⟨M37, eM37, h⟩ := h
  refine E_putFR (k := 11) ⟨rfl, (by rw [hγ.1]; intro y hy; cases hy), by decide, _, rfl, by decide, rfl, rfl, (tbk_mem (j := 2) (k := 60) rfl)⟩ rfl (by decide +kernel) ?_
  rw [← eM37]
  refine E_blk (lv' := [some (vr (some (3, this))), none]) (st' := [vi (3100 : Int32), vr (some (3, this))]) (M1 := M37) (pc' := 73) (tbr_Reader hγ) [.aload_n 0, .sipush 3100] (by decide +kernel) rfl rfl trivial ?_
  obtain ⟨c40, c41, i39, c42, M38, eM38, h⟩ := h
  refine E_newa (f := 28) (i := i39) (by decide) (by decide) (FINr_lt hγ.1) c40 c41 c42 (by decide +kernel) ?_
  rw [← eM38]
  obtain ⟨M43, eM43, h⟩ := h
  refine E_putFR (k := 12) ⟨rfl, (by rw [hγ.1]; intro y hy; cases hy), by decide, _, rfl, by decide, rfl, rfl, (tbk_mem (j := 2) (k := 61) rfl)⟩ rfl (by decide +kernel) ?_
  rw [← eM43]
  refine E_blk (lv' := [some (vr (some (3, this))), none]) (st' := [vi (3100 : Int32), vr (some (3, this))]) (M1 := M43) (pc' := 82) (tbr_Reader hγ) [.aload_n 0, .sipush 3100] (by decide +kernel) rfl rfl trivial ?_
  obtain ⟨c46, c47, i45, c48, M44, eM44, h⟩ := h
  refine E_newa (f := 29) (i := i45) (by decide) (by decide) (FINr_lt hγ.1) c46 c47 c48 (by decide +kernel) ?_
  rw [← eM44]
  obtain ⟨M49, eM49, h⟩ := h
  refine E_putFR (k := 13) ⟨rfl, (by rw [hγ.1]; intro y hy; cases hy), by decide, _, rfl, by decide, rfl, rfl, (tbk_mem (j := 2) (k := 62) rfl)⟩ rfl (by decide +kernel) ?_
  rw [← eM49]
  refine E_blk (lv' := [some (vr (some (3, this))), none]) (st' := [vi (3100 : Int32), vr (some (3, this))]) (M1 := M49) (pc' := 91) (tbr_Reader hγ) [.aload_n 0, .sipush 3100] (by decide +kernel) rfl rfl trivial ?_
  obtain ⟨c52, c53, i51, c54, M50, eM50, h⟩ := h
  refine E_newa (f := 211) (i := i51) (by decide) (by decide) (FINr_lt hγ.1) c52 c53 c54 (by decide +kernel) ?_
  rw [← eM50]
  obtain ⟨M55, eM55, h⟩ := h
  refine E_putFR (k := 16) ⟨rfl, (by rw [hγ.1]; intro y hy; cases hy), by decide, _, rfl, by decide, rfl, rfl, (tbk_mem (j := 2) (k := 65) rfl)⟩ rfl (by decide +kernel) ?_
  rw [← eM55]
  refine E_blk (lv' := [some (vr (some (3, this))), none]) (st' := [vi (6 : Int32), vr (some (3, this))]) (M1 := M55) (pc' := 99) (tbr_Reader hγ) [.aload_n 0, .bipush 6] (by decide +kernel) rfl rfl trivial ?_
  obtain ⟨c58, c59, i57, c60, M56, eM56, h⟩ := h
  refine E_newa (f := 30) (i := i57) (by decide) (by decide) (FINr_lt hγ.1) c58 c59 c60 (by decide +kernel) ?_
  rw [← eM56]
  obtain ⟨M61, eM61, h⟩ := h
  refine E_putFR (k := 22) ⟨rfl, (by rw [hγ.1]; intro y hy; cases hy), by decide, _, rfl, by decide, rfl, rfl, (tbk_mem (j := 2) (k := 71) rfl)⟩ rfl (by decide +kernel) ?_
  rw [← eM61]
  exact E_vret rfl (by decide +kernel) h
set_option maxRecDepth 4096 in
theorem lk_Reader_init {γ : Gm} (hγ : Gr γ) (this : Nat) (a1 : Nat) (Q : Mem → Prop) (M : Mem) (h : w_Reader_init this a1 Q M) : E γ k_Reader_init 2 0 [some (vr (some (3, this))), some (vr (some (10, a1)))] [] M (Qv Q) := by
  unfold w_Reader_init at h
  refine E_blk (lv' := [some (vr (some (3, this))), some (vr (some (10, a1)))]) (st' := [vr (some (10, a1)), vr (some (3, this))]) (M1 := M) (pc' := 2) (tbr_Reader hγ) [.aload_n 0, .aload_n 1] (by decide +kernel) rfl rfl trivial ?_
  obtain ⟨M1, eM1, h⟩ := h
  refine E_putFR (k := 23) ⟨rfl, (by rw [hγ.1]; intro y hy; cases hy), by decide, _, rfl, by decide, rfl, rfl, (tbk_mem (j := 2) (k := 73) rfl)⟩ rfl (by decide +kernel) ?_
  rw [← eM1]
  refine E_blk (lv' := [some (vr (some (3, this))), some (vr (some (10, a1)))]) (st' := [vr (some (3, this))]) (M1 := M1) (pc' := 6) (tbr_Reader hγ) [.aload_n 0] (by decide +kernel) rfl rfl trivial ?_
  refine E_objI (κ := k_Reader_init) (pc := 6) (idx := 9) (tbk_mem (j := 2) (k := 12) rfl) (by decide +kernel) (Nat.le_of_ble_eq_true rfl) ?_
  refine E_blk (lv' := [some (vr (some (3, this))), some (vr (some (10, a1)))]) (st' := [vr (some (3, this))]) (M1 := M1) (pc' := 10) (tbr_Reader hγ) [.aload_n 0] (by decide +kernel) rfl rfl trivial ?_
  obtain ⟨i3, c4, M2, eM2, h⟩ := h
  refine E_new (κ := k_Reader_init) (f := 2) (i := i3) (n := 7) (idx := 15) ⟨by decide, _, rfl, by decide, (tbk_mem (j := 2) (k := 13) rfl), (tbk_mem (j := 2) (k := 14) rfl), (tbk_mem (j := 1) (k := 15) rfl)⟩ (by rw [hγ.1]; intro y hy; cases hy) c4 (by decide +kernel) ?_
  rw [← eM2]
  refine E_blk (lv' := [some (vr (some (3, this))), some (vr (some (10, a1)))]) (st' := [vr (mR M2 3 this 23), vr (some (2, i3)), vr (some (2, i3)), vr (some (3, this))]) (M1 := M2) (pc' := 18) (tbr_Reader hγ) [.dup, .aload_n 0, .getfield 3] (by decide +kernel) rfl rfl trivial ?_
  obtain ⟨i5, ei5, h⟩ := h
  rw [ei5]
  refine E_callI (κ' := k_Words_init) (As := [vr (some (10, i5))]) (st := [vr (some (2, i3)), vr (some (3, this))]) mi_Words_init (Or.inr ⟨"ClassWorks", (tbk_mem (j := 2) (k := 15) rfl)⟩) rfl (by decide +kernel) (Nat.le_of_ble_eq_true rfl) (Nat.le_of_ble_eq_true rfl) rfl (by decide) (lk_Words_init hγ i3 i5 _ M2 h) (fun _ _ => Qv_r) (fun v M6 hp => Qv_k (R := fun st => E γ k_Reader_init 2 21 [some (vr (some (3, this))), some (vr (some (10, a1)))] st M6 (Qv Q)) hp (fun h => ?_))
  obtain ⟨M7, eM7, h⟩ := h
  refine E_putFR (k := 0) ⟨rfl, (by rw [hγ.1]; intro y hy; cases hy), by decide, _, rfl, by decide, rfl, rfl, (tbk_mem (j := 2) (k := 48) rfl)⟩ rfl (by decide +kernel) ?_
  rw [← eM7]
  refine E_blk (lv' := [some (vr (some (3, this))), some (vr (some (10, a1)))]) (st' := [vi (3100 : Int32), vr (some (3, this))]) (M1 := M7) (pc' := 28) (tbr_Reader hγ) [.aload_n 0, .sipush 3100] (by decide +kernel) rfl rfl trivial ?_
  obtain ⟨c10, c11, i9, c12, M8, eM8, h⟩ := h
  refine E_newa (f := 23) (i := i9) (by decide) (by decide) (FINr_lt hγ.1) c10 c11 c12 (by decide +kernel) ?_
  rw [← eM8]
  obtain ⟨M13, eM13, h⟩ := h
  refine E_putFR (k := 6) ⟨rfl, (by rw [hγ.1]; intro y hy; cases hy), by decide, _, rfl, by decide, rfl, rfl, (tbk_mem (j := 2) (k := 55) rfl)⟩ rfl (by decide +kernel) ?_
  rw [← eM13]
  refine E_blk (lv' := [some (vr (some (3, this))), some (vr (some (10, a1)))]) (st' := [vi (3100 : Int32), vr (some (3, this))]) (M1 := M13) (pc' := 37) (tbr_Reader hγ) [.aload_n 0, .sipush 3100] (by decide +kernel) rfl rfl trivial ?_
  obtain ⟨c16, c17, i15, c18, M14, eM14, h⟩ := h
  refine E_newa (f := 24) (i := i15) (by decide) (by decide) (FINr_lt hγ.1) c16 c17 c18 (by decide +kernel) ?_
  rw [← eM14]
  obtain ⟨M19, eM19, h⟩ := h
  refine E_putFR (k := 7) ⟨rfl, (by rw [hγ.1]; intro y hy; cases hy), by decide, _, rfl, by decide, rfl, rfl, (tbk_mem (j := 2) (k := 56) rfl)⟩ rfl (by decide +kernel) ?_
  rw [← eM19]
  refine E_blk (lv' := [some (vr (some (3, this))), some (vr (some (10, a1)))]) (st' := [vi (3100 : Int32), vr (some (3, this))]) (M1 := M19) (pc' := 46) (tbr_Reader hγ) [.aload_n 0, .sipush 3100] (by decide +kernel) rfl rfl trivial ?_
  obtain ⟨c22, c23, i21, c24, M20, eM20, h⟩ := h
  refine E_newa (f := 25) (i := i21) (by decide) (by decide) (FINr_lt hγ.1) c22 c23 c24 (by decide +kernel) ?_
  rw [← eM20]
  obtain ⟨M25, eM25, h⟩ := h
  refine E_putFR (k := 8) ⟨rfl, (by rw [hγ.1]; intro y hy; cases hy), by decide, _, rfl, by decide, rfl, rfl, (tbk_mem (j := 2) (k := 57) rfl)⟩ rfl (by decide +kernel) ?_
  rw [← eM25]
  refine E_blk (lv' := [some (vr (some (3, this))), some (vr (some (10, a1)))]) (st' := [vi (3100 : Int32), vr (some (3, this))]) (M1 := M25) (pc' := 55) (tbr_Reader hγ) [.aload_n 0, .sipush 3100] (by decide +kernel) rfl rfl trivial ?_
  obtain ⟨c28, c29, i27, c30, M26, eM26, h⟩ := h
  refine E_newa (f := 26) (i := i27) (by decide) (by decide) (FINr_lt hγ.1) c28 c29 c30 (by decide +kernel) ?_
  rw [← eM26]
  obtain ⟨M31, eM31, h⟩ := h
  refine E_putFR (k := 10) ⟨rfl, (by rw [hγ.1]; intro y hy; cases hy), by decide, _, rfl, by decide, rfl, rfl, (tbk_mem (j := 2) (k := 59) rfl)⟩ rfl (by decide +kernel) ?_
  rw [← eM31]
  refine E_mask [true, false] rfl ?_
  exact lk_Reader_init_j60 hγ this Q  M31 h
def w_Checker_init_j59 (this : Nat) (Q : Mem → Prop)  (M : Mem) : Prop :=
  Q M
def w_Checker_init (this : Nat) (a1 : Nat) (Q : Mem → Prop) (M : Mem) : Prop :=
  ∃ M1, M1 = sR M 4 this 18 (some (10, a1)) ∧ ¬ (20 : Int32) < 0 ∧ (20 : Int32).toNatClampNeg ≤ 60000000 ∧ ∃ i3, (31, i3) ∉ mN M1 ∧ ∃ M2, M2 = mk M1 31 i3 (20 : Int32).toNatClampNeg ∧ ∃ M7, M7 = sR M2 4 this 0 (some (31, i3)) ∧ ¬ (24 : Int32) < 0 ∧ (24 : Int32).toNatClampNeg ≤ 60000000 ∧ ∃ i9, (32, i9) ∉ mN M7 ∧ ∃ M8, M8 = mk M7 32 i9 (24 : Int32).toNatClampNeg ∧ ∃ M13, M13 = sR M8 4 this 1 (some (32, i9)) ∧ ¬ (80 : Int32) < 0 ∧ (80 : Int32).toNatClampNeg ≤ 60000000 ∧ ∃ i15, (510, i15) ∉ mN M13 ∧ ∃ M14, M14 = mk M13 510 i15 (80 : Int32).toNatClampNeg ∧ ∃ M19, M19 = sR M14 4 this 11 (some (510, i15)) ∧ ¬ (80 : Int32) < 0 ∧ (80 : Int32).toNatClampNeg ≤ 60000000 ∧ ∃ i21, (33, i21) ∉ mN M19 ∧ ∃ M20, M20 = mk M19 33 i21 (80 : Int32).toNatClampNeg ∧ ∃ M25, M25 = sR M20 4 this 12 (some (33, i21)) ∧ ¬ (3200 : Int32) < 0 ∧ (3200 : Int32).toNatClampNeg ≤ 60000000 ∧ ∃ i27, (34, i27) ∉ mN M25 ∧ ∃ M26, M26 = mk M25 34 i27 (3200 : Int32).toNatClampNeg ∧ ∃ M31, M31 = sR M26 4 this 13 (some (34, i27)) ∧ ¬ (3200 : Int32) < 0 ∧ (3200 : Int32).toNatClampNeg ≤ 60000000 ∧ ∃ i33, (35, i33) ∉ mN M31 ∧ ∃ M32, M32 = mk M31 35 i33 (3200 : Int32).toNatClampNeg ∧ ∃ M37, M37 = sR M32 4 this 17 (some (35, i33)) ∧ w_Checker_init_j59 this Q  M37
set_option maxRecDepth 4096 in
theorem lk_Checker_init_j59 {γ : Gm} (hγ : Gr γ) (this : Nat) (Q : Mem → Prop)  (M : Mem) (h : w_Checker_init_j59 this Q  M) : E γ k_Checker_init 1 59 [none, none] [] M (Qv Q) := by
  unfold w_Checker_init_j59 at h
  exact E_vret rfl (by decide +kernel) h
set_option maxRecDepth 4096 in
theorem lk_Checker_init {γ : Gm} (hγ : Gr γ) (this : Nat) (a1 : Nat) (Q : Mem → Prop) (M : Mem) (h : w_Checker_init this a1 Q M) : E γ k_Checker_init 1 0 [some (vr (some (4, this))), some (vr (some (10, a1)))] [] M (Qv Q) := by
  unfold w_Checker_init at h
  refine E_blk (lv' := [some (vr (some (4, this))), some (vr (some (10, a1)))]) (st' := [vr (some (10, a1)), vr (some (4, this))]) (M1 := M) (pc' := 2) (tbr_Checker hγ) [.aload_n 0, .aload_n 1] (by decide +kernel) rfl rfl trivial ?_
  obtain ⟨M1, eM1, h⟩ := h
  refine E_putFR (k := 18) ⟨rfl, (by rw [hγ.1]; intro y hy; cases hy), by decide, _, rfl, by decide, rfl, rfl, (tbk_mem (j := 2) (k := 147) rfl)⟩ rfl (by decide +kernel) ?_
  rw [← eM1]
  refine E_blk (lv' := [some (vr (some (4, this))), some (vr (some (10, a1)))]) (st' := [vr (some (4, this))]) (M1 := M1) (pc' := 6) (tbr_Checker hγ) [.aload_n 0] (by decide +kernel) rfl rfl trivial ?_
  refine E_objI (κ := k_Checker_init) (pc := 6) (idx := 9) (tbk_mem (j := 2) (k := 128) rfl) (by decide +kernel) (Nat.le_of_ble_eq_true rfl) ?_
  refine E_blk (lv' := [some (vr (some (4, this))), some (vr (some (10, a1)))]) (st' := [vi (20 : Int32), vr (some (4, this))]) (M1 := M1) (pc' := 12) (tbr_Checker hγ) [.aload_n 0, .bipush 20] (by decide +kernel) rfl rfl trivial ?_
  obtain ⟨c4, c5, i3, c6, M2, eM2, h⟩ := h
  refine E_newa (f := 31) (i := i3) (by decide) (by decide) (FINr_lt hγ.1) c4 c5 c6 (by decide +kernel) ?_
  rw [← eM2]
  obtain ⟨M7, eM7, h⟩ := h
  refine E_putFR (k := 0) ⟨rfl, (by rw [hγ.1]; intro y hy; cases hy), by decide, _, rfl, by decide, rfl, rfl, (tbk_mem (j := 2) (k := 129) rfl)⟩ rfl (by decide +kernel) ?_
  rw [← eM7]
  refine E_blk (lv' := [some (vr (some (4, this))), some (vr (some (10, a1)))]) (st' := [vi (24 : Int32), vr (some (4, this))]) (M1 := M7) (pc' := 20) (tbr_Checker hγ) [.aload_n 0, .bipush 24] (by decide +kernel) rfl rfl trivial ?_
  obtain ⟨c10, c11, i9, c12, M8, eM8, h⟩ := h
  refine E_newa (f := 32) (i := i9) (by decide) (by decide) (FINr_lt hγ.1) c10 c11 c12 (by decide +kernel) ?_
  rw [← eM8]
  obtain ⟨M13, eM13, h⟩ := h
  refine E_putFR (k := 1) ⟨rfl, (by rw [hγ.1]; intro y hy; cases hy), by decide, _, rfl, by decide, rfl, rfl, (tbk_mem (j := 2) (k := 130) rfl)⟩ rfl (by decide +kernel) ?_
  rw [← eM13]
  refine E_blk (lv' := [some (vr (some (4, this))), some (vr (some (10, a1)))]) (st' := [vi (80 : Int32), vr (some (4, this))]) (M1 := M13) (pc' := 28) (tbr_Checker hγ) [.aload_n 0, .bipush 80] (by decide +kernel) rfl rfl trivial ?_
  obtain ⟨c16, c17, i15, c18, M14, eM14, h⟩ := h
  refine E_newa (f := 510) (i := i15) (by decide) (by decide) (FINr_lt hγ.1) c16 c17 c18 (by decide +kernel) ?_
  rw [← eM14]
  obtain ⟨M19, eM19, h⟩ := h
  refine E_putFR (k := 11) ⟨rfl, (by rw [hγ.1]; intro y hy; cases hy), by decide, _, rfl, by decide, rfl, rfl, (tbk_mem (j := 2) (k := 140) rfl)⟩ rfl (by decide +kernel) ?_
  rw [← eM19]
  refine E_blk (lv' := [some (vr (some (4, this))), some (vr (some (10, a1)))]) (st' := [vi (80 : Int32), vr (some (4, this))]) (M1 := M19) (pc' := 36) (tbr_Checker hγ) [.aload_n 0, .bipush 80] (by decide +kernel) rfl rfl trivial ?_
  obtain ⟨c22, c23, i21, c24, M20, eM20, h⟩ := h
  refine E_newa (f := 33) (i := i21) (by decide) (by decide) (FINr_lt hγ.1) c22 c23 c24 (by decide +kernel) ?_
  rw [← eM20]
  obtain ⟨M25, eM25, h⟩ := h
  refine E_putFR (k := 12) ⟨rfl, (by rw [hγ.1]; intro y hy; cases hy), by decide, _, rfl, by decide, rfl, rfl, (tbk_mem (j := 2) (k := 141) rfl)⟩ rfl (by decide +kernel) ?_
  rw [← eM25]
  refine E_blk (lv' := [some (vr (some (4, this))), some (vr (some (10, a1)))]) (st' := [vi (3200 : Int32), vr (some (4, this))]) (M1 := M25) (pc' := 45) (tbr_Checker hγ) [.aload_n 0, .sipush 3200] (by decide +kernel) rfl rfl trivial ?_
  obtain ⟨c28, c29, i27, c30, M26, eM26, h⟩ := h
  refine E_newa (f := 34) (i := i27) (by decide) (by decide) (FINr_lt hγ.1) c28 c29 c30 (by decide +kernel) ?_
  rw [← eM26]
  obtain ⟨M31, eM31, h⟩ := h
  refine E_putFR (k := 13) ⟨rfl, (by rw [hγ.1]; intro y hy; cases hy), by decide, _, rfl, by decide, rfl, rfl, (tbk_mem (j := 2) (k := 142) rfl)⟩ rfl (by decide +kernel) ?_
  rw [← eM31]
  refine E_blk (lv' := [some (vr (some (4, this))), some (vr (some (10, a1)))]) (st' := [vi (3200 : Int32), vr (some (4, this))]) (M1 := M31) (pc' := 54) (tbr_Checker hγ) [.aload_n 0, .sipush 3200] (by decide +kernel) rfl rfl trivial ?_
  obtain ⟨c34, c35, i33, c36, M32, eM32, h⟩ := h
  refine E_newa (f := 35) (i := i33) (by decide) (by decide) (FINr_lt hγ.1) c34 c35 c36 (by decide +kernel) ?_
  rw [← eM32]
  obtain ⟨M37, eM37, h⟩ := h
  refine E_putFR (k := 17) ⟨rfl, (by rw [hγ.1]; intro y hy; cases hy), by decide, _, rfl, by decide, rfl, rfl, (tbk_mem (j := 2) (k := 146) rfl)⟩ rfl (by decide +kernel) ?_
  rw [← eM37]
  refine E_mask [false, false] rfl ?_
  exact lk_Checker_init_j59 hγ this Q  M37 h
def w_Line_init_j62 (this : Nat) (Q : Mem → Prop) (v1 : Int32) (M : Mem) : Prop :=
  ¬ (6 : Int32) < 0 ∧ (6 : Int32).toNatClampNeg ≤ 60000000 ∧ ∃ i44, (95, i44) ∉ mN M ∧ ∃ M43, M43 = mk M 95 i44 (6 : Int32).toNatClampNeg ∧ ∃ M48, M48 = sR M43 7 this 17 (some (95, i44)) ∧ ∃ M49, M49 = sI M48 7 this 0 v1 ∧ Q M49
def w_Line_init (this : Nat) (a1 : Int32) (Q : Mem → Prop) (M : Mem) : Prop :=
  ¬ (91 : Int32) < 0 ∧ (91 : Int32).toNatClampNeg ≤ 60000000 ∧ ∃ i2, (89, i2) ∉ mN M ∧ ∃ M1, M1 = mk M 89 i2 (91 : Int32).toNatClampNeg ∧ ∃ M6, M6 = sR M1 7 this 3 (some (89, i2)) ∧ ¬ (91 : Int32) < 0 ∧ (91 : Int32).toNatClampNeg ≤ 60000000 ∧ ∃ i8, (90, i8) ∉ mN M6 ∧ ∃ M7, M7 = mk M6 90 i8 (91 : Int32).toNatClampNeg ∧ ∃ M12, M12 = sR M7 7 this 4 (some (90, i8)) ∧ ¬ (91 : Int32) < 0 ∧ (91 : Int32).toNatClampNeg ≤ 60000000 ∧ ∃ i14, (91, i14) ∉ mN M12 ∧ ∃ M13, M13 = mk M12 91 i14 (91 : Int32).toNatClampNeg ∧ ∃ M18, M18 = sR M13 7 this 5 (some (91, i14)) ∧ ¬ (91 : Int32) < 0 ∧ (91 : Int32).toNatClampNeg ≤ 60000000 ∧ ∃ i20, (92, i20) ∉ mN M18 ∧ ∃ M19, M19 = mk M18 92 i20 (91 : Int32).toNatClampNeg ∧ ∃ M24, M24 = sR M19 7 this 6 (some (92, i20)) ∧ ¬ (91 : Int32) < 0 ∧ (91 : Int32).toNatClampNeg ≤ 60000000 ∧ ∃ i26, (93, i26) ∉ mN M24 ∧ ∃ M25, M25 = mk M24 93 i26 (91 : Int32).toNatClampNeg ∧ ∃ M30, M30 = sR M25 7 this 7 (some (93, i26)) ∧ ¬ (3640 : Int32) < 0 ∧ (3640 : Int32).toNatClampNeg ≤ 60000000 ∧ ∃ i32, (94, i32) ∉ mN M30 ∧ ∃ M31, M31 = mk M30 94 i32 (3640 : Int32).toNatClampNeg ∧ ∃ M36, M36 = sR M31 7 this 8 (some (94, i32)) ∧ ¬ (3640 : Int32) < 0 ∧ (3640 : Int32).toNatClampNeg ≤ 60000000 ∧ ∃ i38, (514, i38) ∉ mN M36 ∧ ∃ M37, M37 = mk M36 514 i38 (3640 : Int32).toNatClampNeg ∧ ∃ M42, M42 = sR M37 7 this 9 (some (514, i38)) ∧ w_Line_init_j62 this Q a1 M42
set_option maxRecDepth 4096 in
theorem lk_Line_init_j62 {γ : Gm} (hγ : Gr γ) (this : Nat) (Q : Mem → Prop) (v1 : Int32) (M : Mem) (h : w_Line_init_j62 this Q v1 M) : E γ k_Line_init 1 62 [some (vr (some (7, this))), some (vi v1)] [] M (Qv Q) := by
  unfold w_Line_init_j62 at h
  refine E_blk (lv' := [some (vr (some (7, this))), some (vi v1)]) (st' := [vi (6 : Int32), vr (some (7, this))]) (M1 := M) (pc' := 65) (tbr_Line hγ) [.aload_n 0, .bipush 6] (by decide +kernel) rfl rfl trivial ?_
  obtain ⟨c45, c46, i44, c47, M43, eM43, h⟩ := h
  refine E_newa (f := 95) (i := i44) (by decide) (by decide) (FINr_lt hγ.1) c45 c46 c47 (by decide +kernel) ?_
  rw [← eM43]
  obtain ⟨M48, eM48, h⟩ := h
  refine E_putFR (k := 17) ⟨rfl, (by rw [hγ.1]; intro y hy; cases hy), by decide, _, rfl, by decide, rfl, rfl, (tbk_mem (j := 3) (k := 13) rfl)⟩ rfl (by decide +kernel) ?_
  rw [← eM48]
  refine E_blk (lv' := [some (vr (some (7, this))), some (vi v1)]) (st' := [vi v1, vr (some (7, this))]) (M1 := M48) (pc' := 72) (tbr_Line hγ) [.aload_n 0, .iload_n 1] (by decide +kernel) rfl rfl trivial ?_
  obtain ⟨M49, eM49, h⟩ := h
  refine E_putFI (k := 0) ⟨rfl, (by rw [hγ.1]; intro y hy; cases hy), by decide, _, rfl, by decide, rfl, rfl, (tbk_mem (j := 2) (k := 207) rfl)⟩ rfl rfl (by decide +kernel) ?_
  rw [← eM49]
  exact E_vret rfl (by decide +kernel) h
set_option maxRecDepth 4096 in
theorem lk_Line_init {γ : Gm} (hγ : Gr γ) (this : Nat) (a1 : Int32) (Q : Mem → Prop) (M : Mem) (h : w_Line_init this a1 Q M) : E γ k_Line_init 1 0 [some (vr (some (7, this))), some (vi a1)] [] M (Qv Q) := by
  unfold w_Line_init at h
  refine E_blk (lv' := [some (vr (some (7, this))), some (vi a1)]) (st' := [vr (some (7, this))]) (M1 := M) (pc' := 1) (tbr_Line hγ) [.aload_n 0] (by decide +kernel) rfl rfl trivial ?_
  refine E_objI (κ := k_Line_init) (pc := 1) (idx := 3) (tbk_mem (j := 2) (k := 206) rfl) (by decide +kernel) (Nat.le_of_ble_eq_true rfl) ?_
  refine E_blk (lv' := [some (vr (some (7, this))), some (vi a1)]) (st' := [vi (91 : Int32), vr (some (7, this))]) (M1 := M) (pc' := 7) (tbr_Line hγ) [.aload_n 0, .bipush 91] (by decide +kernel) rfl rfl trivial ?_
  obtain ⟨c3, c4, i2, c5, M1, eM1, h⟩ := h
  refine E_newa (f := 89) (i := i2) (by decide) (by decide) (FINr_lt hγ.1) c3 c4 c5 (by decide +kernel) ?_
  rw [← eM1]
  obtain ⟨M6, eM6, h⟩ := h
  refine E_putFR (k := 3) ⟨rfl, (by rw [hγ.1]; intro y hy; cases hy), by decide, _, rfl, by decide, rfl, rfl, (tbk_mem (j := 2) (k := 214) rfl)⟩ rfl (by decide +kernel) ?_
  rw [← eM6]
  refine E_blk (lv' := [some (vr (some (7, this))), some (vi a1)]) (st' := [vi (91 : Int32), vr (some (7, this))]) (M1 := M6) (pc' := 15) (tbr_Line hγ) [.aload_n 0, .bipush 91] (by decide +kernel) rfl rfl trivial ?_
  obtain ⟨c9, c10, i8, c11, M7, eM7, h⟩ := h
  refine E_newa (f := 90) (i := i8) (by decide) (by decide) (FINr_lt hγ.1) c9 c10 c11 (by decide +kernel) ?_
  rw [← eM7]
  obtain ⟨M12, eM12, h⟩ := h
  refine E_putFR (k := 4) ⟨rfl, (by rw [hγ.1]; intro y hy; cases hy), by decide, _, rfl, by decide, rfl, rfl, (tbk_mem (j := 2) (k := 217) rfl)⟩ rfl (by decide +kernel) ?_
  rw [← eM12]
  refine E_blk (lv' := [some (vr (some (7, this))), some (vi a1)]) (st' := [vi (91 : Int32), vr (some (7, this))]) (M1 := M12) (pc' := 23) (tbr_Line hγ) [.aload_n 0, .bipush 91] (by decide +kernel) rfl rfl trivial ?_
  obtain ⟨c15, c16, i14, c17, M13, eM13, h⟩ := h
  refine E_newa (f := 91) (i := i14) (by decide) (by decide) (FINr_lt hγ.1) c15 c16 c17 (by decide +kernel) ?_
  rw [← eM13]
  obtain ⟨M18, eM18, h⟩ := h
  refine E_putFR (k := 5) ⟨rfl, (by rw [hγ.1]; intro y hy; cases hy), by decide, _, rfl, by decide, rfl, rfl, (tbk_mem (j := 2) (k := 220) rfl)⟩ rfl (by decide +kernel) ?_
  rw [← eM18]
  refine E_blk (lv' := [some (vr (some (7, this))), some (vi a1)]) (st' := [vi (91 : Int32), vr (some (7, this))]) (M1 := M18) (pc' := 31) (tbr_Line hγ) [.aload_n 0, .bipush 91] (by decide +kernel) rfl rfl trivial ?_
  obtain ⟨c21, c22, i20, c23, M19, eM19, h⟩ := h
  refine E_newa (f := 92) (i := i20) (by decide) (by decide) (FINr_lt hγ.1) c21 c22 c23 (by decide +kernel) ?_
  rw [← eM19]
  obtain ⟨M24, eM24, h⟩ := h
  refine E_putFR (k := 6) ⟨rfl, (by rw [hγ.1]; intro y hy; cases hy), by decide, _, rfl, by decide, rfl, rfl, (tbk_mem (j := 2) (k := 223) rfl)⟩ rfl (by decide +kernel) ?_
  rw [← eM24]
  refine E_blk (lv' := [some (vr (some (7, this))), some (vi a1)]) (st' := [vi (91 : Int32), vr (some (7, this))]) (M1 := M24) (pc' := 39) (tbr_Line hγ) [.aload_n 0, .bipush 91] (by decide +kernel) rfl rfl trivial ?_
  obtain ⟨c27, c28, i26, c29, M25, eM25, h⟩ := h
  refine E_newa (f := 93) (i := i26) (by decide) (by decide) (FINr_lt hγ.1) c27 c28 c29 (by decide +kernel) ?_
  rw [← eM25]
  obtain ⟨M30, eM30, h⟩ := h
  refine E_putFR (k := 7) ⟨rfl, (by rw [hγ.1]; intro y hy; cases hy), by decide, _, rfl, by decide, rfl, rfl, (tbk_mem (j := 2) (k := 225) rfl)⟩ rfl (by decide +kernel) ?_
  rw [← eM30]
  refine E_blk (lv' := [some (vr (some (7, this))), some (vi a1)]) (st' := [vi (3640 : Int32), vr (some (7, this))]) (M1 := M30) (pc' := 48) (tbr_Line hγ) [.aload_n 0, .sipush 3640] (by decide +kernel) rfl rfl trivial ?_
  obtain ⟨c33, c34, i32, c35, M31, eM31, h⟩ := h
  refine E_newa (f := 94) (i := i32) (by decide) (by decide) (FINr_lt hγ.1) c33 c34 c35 (by decide +kernel) ?_
  rw [← eM31]
  obtain ⟨M36, eM36, h⟩ := h
  refine E_putFR (k := 8) ⟨rfl, (by rw [hγ.1]; intro y hy; cases hy), by decide, _, rfl, by decide, rfl, rfl, (tbk_mem (j := 2) (k := 227) rfl)⟩ rfl (by decide +kernel) ?_
  rw [← eM36]
  refine E_blk (lv' := [some (vr (some (7, this))), some (vi a1)]) (st' := [vi (3640 : Int32), vr (some (7, this))]) (M1 := M36) (pc' := 57) (tbr_Line hγ) [.aload_n 0, .sipush 3640] (by decide +kernel) rfl rfl trivial ?_
  obtain ⟨c39, c40, i38, c41, M37, eM37, h⟩ := h
  refine E_newa (f := 514) (i := i38) (by decide) (by decide) (FINr_lt hγ.1) c39 c40 c41 (by decide +kernel) ?_
  rw [← eM37]
  obtain ⟨M42, eM42, h⟩ := h
  refine E_putFR (k := 9) ⟨rfl, (by rw [hγ.1]; intro y hy; cases hy), by decide, _, rfl, by decide, rfl, rfl, (tbk_mem (j := 2) (k := 230) rfl)⟩ rfl (by decide +kernel) ?_
  rw [← eM42]
  refine E_mask [true, true] rfl ?_
  exact lk_Line_init_j62 hγ this Q a1 M42 h
def w_Machine_init_j50 (this : Nat) (Q : Mem → Prop) (v2 : Nat) (M : Mem) : Prop :=
  ∃ i26, (mR M 6 this 1) = some (700, i26) ∧ vp_in (0 : Int32) (mL M 700 i26) ∧ ∃ i28, (mR M 700 i26 (0 : Int32).toNatClampNeg) = some (7, i28) ∧ ¬ (801 : Int32) < 0 ∧ (801 : Int32).toNatClampNeg ≤ 60000000 ∧ ∃ i30, (79, i30) ∉ mN (sR M 6 this 2 (some (7, i28))) ∧ ∃ M29, M29 = mk (sR M 6 this 2 (some (7, i28))) 79 i30 (801 : Int32).toNatClampNeg ∧ ∃ M34, M34 = sR M29 6 this 8 (some (79, i30)) ∧ ¬ (801 : Int32) < 0 ∧ (801 : Int32).toNatClampNeg ≤ 60000000 ∧ ∃ i36, (80, i36) ∉ mN M34 ∧ ∃ M35, M35 = mk M34 80 i36 (801 : Int32).toNatClampNeg ∧ ∃ M40, M40 = sR M35 6 this 9 (some (80, i36)) ∧ ¬ (801 : Int32) < 0 ∧ (801 : Int32).toNatClampNeg ≤ 60000000 ∧ ∃ i42, (81, i42) ∉ mN M40 ∧ ∃ M41, M41 = mk M40 81 i42 (801 : Int32).toNatClampNeg ∧ ∃ M46, M46 = sR M41 6 this 10 (some (81, i42)) ∧ ¬ (801 : Int32) < 0 ∧ (801 : Int32).toNatClampNeg ≤ 60000000 ∧ ∃ i48, (301, i48) ∉ mN M46 ∧ ∃ M47, M47 = mk M46 301 i48 (801 : Int32).toNatClampNeg ∧ ∃ M52, M52 = sR M47 6 this 11 (some (301, i48)) ∧ ¬ (801 : Int32) < 0 ∧ (801 : Int32).toNatClampNeg ≤ 60000000 ∧ ∃ i54, (301, i54) ∉ mN M52 ∧ ∃ M53, M53 = mk M52 301 i54 (801 : Int32).toNatClampNeg ∧ ∃ M58, M58 = sR M53 6 this 12 (some (301, i54)) ∧ ¬ (802 : Int32) < 0 ∧ (802 : Int32).toNatClampNeg ≤ 60000000 ∧ ∃ i60, (512, i60) ∉ mN M58 ∧ ∃ M59, M59 = mk M58 512 i60 (802 : Int32).toNatClampNeg ∧ ∃ M64, M64 = sR M59 6 this 13 (some (512, i60)) ∧ ¬ (801 : Int32) < 0 ∧ (801 : Int32).toNatClampNeg ≤ 60000000 ∧ ∃ i66, (513, i66) ∉ mN M64 ∧ ∃ M65, M65 = mk M64 513 i66 (801 : Int32).toNatClampNeg ∧ ∃ M70, M70 = sR M65 6 this 16 (some (513, i66)) ∧ ¬ (801 : Int32) < 0 ∧ (801 : Int32).toNatClampNeg ≤ 60000000 ∧ ∃ i72, (82, i72) ∉ mN M70 ∧ ∃ M71, M71 = mk M70 82 i72 (801 : Int32).toNatClampNeg ∧ ∃ M76, M76 = sR M71 6 this 17 (some (82, i72)) ∧ ¬ (4000 : Int32) < 0 ∧ (4000 : Int32).toNatClampNeg ≤ 60000000 ∧ ∃ i78, (83, i78) ∉ mN M76 ∧ ∃ M77, M77 = mk M76 83 i78 (4000 : Int32).toNatClampNeg ∧ ∃ M82, M82 = sR M77 6 this 19 (some (83, i78)) ∧ ¬ (4000 : Int32) < 0 ∧ (4000 : Int32).toNatClampNeg ≤ 60000000 ∧ ∃ i84, (84, i84) ∉ mN M82 ∧ ∃ M83, M83 = mk M82 84 i84 (4000 : Int32).toNatClampNeg ∧ ∃ M88, M88 = sR M83 6 this 20 (some (84, i84)) ∧ ¬ (64 : Int32) < 0 ∧ (64 : Int32).toNatClampNeg ≤ 60000000 ∧ ∃ i90, (301, i90) ∉ mN M88 ∧ ∃ M89, M89 = mk M88 301 i90 (64 : Int32).toNatClampNeg ∧ ¬ (64 : Int32) < 0 ∧ (64 : Int32).toNatClampNeg ≤ 60000000 ∧ ∃ i95, (301, i95) ∉ mN (sR M89 6 this 22 (some (301, i90))) ∧ ∃ M94, M94 = mk (sR M89 6 this 22 (some (301, i90))) 301 i95 (64 : Int32).toNatClampNeg ∧ ¬ (64 : Int32) < 0 ∧ (64 : Int32).toNatClampNeg ≤ 60000000 ∧ ∃ i100, (301, i100) ∉ mN (sR M94 6 this 23 (some (301, i95))) ∧ ∃ M99, M99 = mk (sR M94 6 this 23 (some (301, i95))) 301 i100 (64 : Int32).toNatClampNeg ∧ ¬ (64 : Int32) < 0 ∧ (64 : Int32).toNatClampNeg ≤ 60000000 ∧ ∃ i105, (301, i105) ∉ mN (sR M99 6 this 24 (some (301, i100))) ∧ ∃ M104, M104 = mk (sR M99 6 this 24 (some (301, i100))) 301 i105 (64 : Int32).toNatClampNeg ∧ ¬ (51 : Int32) < 0 ∧ (51 : Int32).toNatClampNeg ≤ 60000000 ∧ ∃ i110, (85, i110) ∉ mN (sR M104 6 this 25 (some (301, i105))) ∧ ∃ M109, M109 = mk (sR M104 6 this 25 (some (301, i105))) 85 i110 (51 : Int32).toNatClampNeg ∧ ∃ M114, M114 = sR M109 6 this 27 (some (85, i110)) ∧ ¬ (51 : Int32) < 0 ∧ (51 : Int32).toNatClampNeg ≤ 60000000 ∧ ∃ i116, (86, i116) ∉ mN M114 ∧ ∃ M115, M115 = mk M114 86 i116 (51 : Int32).toNatClampNeg ∧ ∃ M120, M120 = sR M115 6 this 28 (some (86, i116)) ∧ ¬ (2000 : Int32) < 0 ∧ (2000 : Int32).toNatClampNeg ≤ 60000000 ∧ ∃ i122, (87, i122) ∉ mN M120 ∧ ∃ M121, M121 = mk M120 87 i122 (2000 : Int32).toNatClampNeg ∧ ∃ M126, M126 = sR M121 6 this 30 (some (87, i122)) ∧ ¬ (62 : Int32) < 0 ∧ (62 : Int32).toNatClampNeg ≤ 60000000 ∧ ∃ i128, (88, i128) ∉ mN M126 ∧ ∃ M127, M127 = mk M126 88 i128 (62 : Int32).toNatClampNeg ∧ ∃ M132, M132 = sR M127 6 this 31 (some (88, i128)) ∧ ∃ M133, M133 = sR M132 6 this 0 (some (5, v2)) ∧ Q M133
def w_Machine_init (this : Nat) (a1 : Nat) (a2 : Nat) (Q : Mem → Prop) (M : Mem) : Prop :=
  ∃ M1, M1 = sR M 6 this 37 (some (10, a1)) ∧ ¬ (3 : Int32) < 0 ∧ (3 : Int32).toNatClampNeg ≤ 60000000 ∧ ∃ i3, (700, i3) ∉ mN M1 ∧ ∃ M2, M2 = mk M1 700 i3 (3 : Int32).toNatClampNeg ∧ ∃ i8, (7, i8) ∉ mN M2 ∧ ∃ M7, M7 = mk M2 7 i8 20 ∧ w_Line_init i8 (0 : Int32) (fun M10 => vp_in (0 : Int32) (mL M10 700 i3) ∧ ∃ M12, M12 = sR M10 700 i3 (0 : Int32).toNatClampNeg (some (7, i8)) ∧ ∃ i14, (7, i14) ∉ mN M12 ∧ ∃ M13, M13 = mk M12 7 i14 20 ∧ w_Line_init i14 (1 : Int32) (fun M16 => vp_in (1 : Int32) (mL M16 700 i3) ∧ ∃ M18, M18 = sR M16 700 i3 (1 : Int32).toNatClampNeg (some (7, i14)) ∧ ∃ i20, (7, i20) ∉ mN M18 ∧ ∃ M19, M19 = mk M18 7 i20 20 ∧ w_Line_init i20 (2 : Int32) (fun M22 => vp_in (2 : Int32) (mL M22 700 i3) ∧ ∃ M24, M24 = sR M22 700 i3 (2 : Int32).toNatClampNeg (some (7, i20)) ∧ ∃ M25, M25 = sR M24 6 this 1 (some (700, i3)) ∧ w_Machine_init_j50 this Q a2 M25) M19) M13) M7
set_option maxRecDepth 4096 in
theorem lk_Machine_init_j50 {γ : Gm} (hγ : Gr γ) (this : Nat) (Q : Mem → Prop) (v2 : Nat) (M : Mem) (h : w_Machine_init_j50 this Q v2 M) : E γ k_Machine_init 2 50 [some (vr (some (6, this))), none, some (vr (some (5, v2)))] [] M (Qv Q) := by
  unfold w_Machine_init_j50 at h
  refine E_blk (lv' := [some (vr (some (6, this))), none, some (vr (some (5, v2)))]) (st' := [vr (mR M 6 this 1), vr (some (6, this))]) (M1 := M) (pc' := 55) (tbr_Machine hγ) [.aload_n 0, .aload_n 0, .getfield 20] (by decide +kernel) rfl rfl trivial ?_
  obtain ⟨i26, ei26, h⟩ := h
  rw [ei26]
  obtain ⟨c27, h⟩ := h
  refine E_blk (lv' := [some (vr (some (6, this))), none, some (vr (some (5, v2)))]) (st' := [vr (mR M 700 i26 (0 : Int32).toNatClampNeg), vr (some (6, this))]) (M1 := M) (pc' := 57) (tbr_Machine hγ) [.iconst 0, .aaload] (by decide +kernel) rfl rfl ⟨c27, trivial⟩ ?_
  obtain ⟨i28, ei28, h⟩ := h
  rw [ei28]
  refine E_blk (lv' := [some (vr (some (6, this))), none, some (vr (some (5, v2)))]) (st' := [vi (801 : Int32), vr (some (6, this))]) (M1 := (sR M 6 this 2 (some (7, i28)))) (pc' := 64) (tbr_Machine hγ) [.putfield 24, .aload_n 0, .sipush 801] (by decide +kernel) rfl rfl trivial ?_
  obtain ⟨c31, c32, i30, c33, M29, eM29, h⟩ := h
  refine E_newa (f := 79) (i := i30) (by decide) (by decide) (FINr_lt hγ.1) c31 c32 c33 (by decide +kernel) ?_
  rw [← eM29]
  obtain ⟨M34, eM34, h⟩ := h
  refine E_putFR (k := 8) ⟨rfl, (by rw [hγ.1]; intro y hy; cases hy), by decide, _, rfl, by decide, rfl, rfl, (tbk_mem (j := 3) (k := 73) rfl)⟩ rfl (by decide +kernel) ?_
  rw [← eM34]
  refine E_blk (lv' := [some (vr (some (6, this))), none, some (vr (some (5, v2)))]) (st' := [vi (801 : Int32), vr (some (6, this))]) (M1 := M34) (pc' := 73) (tbr_Machine hγ) [.aload_n 0, .sipush 801] (by decide +kernel) rfl rfl trivial ?_
  obtain ⟨c37, c38, i36, c39, M35, eM35, h⟩ := h
  refine E_newa (f := 80) (i := i36) (by decide) (by decide) (FINr_lt hγ.1) c37 c38 c39 (by decide +kernel) ?_
  rw [← eM35]
  obtain ⟨M40, eM40, h⟩ := h
  refine E_putFR (k := 9) ⟨rfl, (by rw [hγ.1]; intro y hy; cases hy), by decide, _, rfl, by decide, rfl, rfl, (tbk_mem (j := 3) (k := 75) rfl)⟩ rfl (by decide +kernel) ?_
  rw [← eM40]
  refine E_blk (lv' := [some (vr (some (6, this))), none, some (vr (some (5, v2)))]) (st' := [vi (801 : Int32), vr (some (6, this))]) (M1 := M40) (pc' := 82) (tbr_Machine hγ) [.aload_n 0, .sipush 801] (by decide +kernel) rfl rfl trivial ?_
  obtain ⟨c43, c44, i42, c45, M41, eM41, h⟩ := h
  refine E_newa (f := 81) (i := i42) (by decide) (by decide) (FINr_lt hγ.1) c43 c44 c45 (by decide +kernel) ?_
  rw [← eM41]
  obtain ⟨M46, eM46, h⟩ := h
  refine E_putFR (k := 10) ⟨rfl, (by rw [hγ.1]; intro y hy; cases hy), by decide, _, rfl, by decide, rfl, rfl, (tbk_mem (j := 3) (k := 77) rfl)⟩ rfl (by decide +kernel) ?_
  rw [← eM46]
  refine E_blk (lv' := [some (vr (some (6, this))), none, some (vr (some (5, v2)))]) (st' := [vi (801 : Int32), vr (some (6, this))]) (M1 := M46) (pc' := 91) (tbr_Machine hγ) [.aload_n 0, .sipush 801] (by decide +kernel) rfl rfl trivial ?_
  obtain ⟨c49, c50, i48, c51, M47, eM47, h⟩ := h
  refine E_newa (f := 301) (i := i48) (by decide) (by decide) (FINr_lt hγ.1) c49 c50 c51 (by decide +kernel) ?_
  rw [← eM47]
  obtain ⟨M52, eM52, h⟩ := h
  refine E_putFR (k := 11) ⟨rfl, (by rw [hγ.1]; intro y hy; cases hy), by decide, _, rfl, by decide, rfl, rfl, (tbk_mem (j := 3) (k := 79) rfl)⟩ rfl (by decide +kernel) ?_
  rw [← eM52]
  refine E_blk (lv' := [some (vr (some (6, this))), none, some (vr (some (5, v2)))]) (st' := [vi (801 : Int32), vr (some (6, this))]) (M1 := M52) (pc' := 100) (tbr_Machine hγ) [.aload_n 0, .sipush 801] (by decide +kernel) rfl rfl trivial ?_
  obtain ⟨c55, c56, i54, c57, M53, eM53, h⟩ := h
  refine E_newa (f := 301) (i := i54) (by decide) (by decide) (FINr_lt hγ.1) c55 c56 c57 (by decide +kernel) ?_
  rw [← eM53]
  obtain ⟨M58, eM58, h⟩ := h
  refine E_putFR (k := 12) ⟨rfl, (by rw [hγ.1]; intro y hy; cases hy), by decide, _, rfl, by decide, rfl, rfl, (tbk_mem (j := 3) (k := 81) rfl)⟩ rfl (by decide +kernel) ?_
  rw [← eM58]
  refine E_blk (lv' := [some (vr (some (6, this))), none, some (vr (some (5, v2)))]) (st' := [vi (802 : Int32), vr (some (6, this))]) (M1 := M58) (pc' := 109) (tbr_Machine hγ) [.aload_n 0, .sipush 802] (by decide +kernel) rfl rfl trivial ?_
  obtain ⟨c61, c62, i60, c63, M59, eM59, h⟩ := h
  refine E_newa (f := 512) (i := i60) (by decide) (by decide) (FINr_lt hγ.1) c61 c62 c63 (by decide +kernel) ?_
  rw [← eM59]
  obtain ⟨M64, eM64, h⟩ := h
  refine E_putFR (k := 13) ⟨rfl, (by rw [hγ.1]; intro y hy; cases hy), by decide, _, rfl, by decide, rfl, rfl, (tbk_mem (j := 3) (k := 82) rfl)⟩ rfl (by decide +kernel) ?_
  rw [← eM64]
  refine E_blk (lv' := [some (vr (some (6, this))), none, some (vr (some (5, v2)))]) (st' := [vi (801 : Int32), vr (some (6, this))]) (M1 := M64) (pc' := 118) (tbr_Machine hγ) [.aload_n 0, .sipush 801] (by decide +kernel) rfl rfl trivial ?_
  obtain ⟨c67, c68, i66, c69, M65, eM65, h⟩ := h
  refine E_newa (f := 513) (i := i66) (by decide) (by decide) (FINr_lt hγ.1) c67 c68 c69 (by decide +kernel) ?_
  rw [← eM65]
  obtain ⟨M70, eM70, h⟩ := h
  refine E_putFR (k := 16) ⟨rfl, (by rw [hγ.1]; intro y hy; cases hy), by decide, _, rfl, by decide, rfl, rfl, (tbk_mem (j := 3) (k := 86) rfl)⟩ rfl (by decide +kernel) ?_
  rw [← eM70]
  refine E_blk (lv' := [some (vr (some (6, this))), none, some (vr (some (5, v2)))]) (st' := [vi (801 : Int32), vr (some (6, this))]) (M1 := M70) (pc' := 127) (tbr_Machine hγ) [.aload_n 0, .sipush 801] (by decide +kernel) rfl rfl trivial ?_
  obtain ⟨c73, c74, i72, c75, M71, eM71, h⟩ := h
  refine E_newa (f := 82) (i := i72) (by decide) (by decide) (FINr_lt hγ.1) c73 c74 c75 (by decide +kernel) ?_
  rw [← eM71]
  obtain ⟨M76, eM76, h⟩ := h
  refine E_putFR (k := 17) ⟨rfl, (by rw [hγ.1]; intro y hy; cases hy), by decide, _, rfl, by decide, rfl, rfl, (tbk_mem (j := 3) (k := 87) rfl)⟩ rfl (by decide +kernel) ?_
  rw [← eM76]
  refine E_blk (lv' := [some (vr (some (6, this))), none, some (vr (some (5, v2)))]) (st' := [vi (4000 : Int32), vr (some (6, this))]) (M1 := M76) (pc' := 136) (tbr_Machine hγ) [.aload_n 0, .sipush 4000] (by decide +kernel) rfl rfl trivial ?_
  obtain ⟨c79, c80, i78, c81, M77, eM77, h⟩ := h
  refine E_newa (f := 83) (i := i78) (by decide) (by decide) (FINr_lt hγ.1) c79 c80 c81 (by decide +kernel) ?_
  rw [← eM77]
  obtain ⟨M82, eM82, h⟩ := h
  refine E_putFR (k := 19) ⟨rfl, (by rw [hγ.1]; intro y hy; cases hy), by decide, _, rfl, by decide, rfl, rfl, (tbk_mem (j := 3) (k := 89) rfl)⟩ rfl (by decide +kernel) ?_
  rw [← eM82]
  refine E_blk (lv' := [some (vr (some (6, this))), none, some (vr (some (5, v2)))]) (st' := [vi (4000 : Int32), vr (some (6, this))]) (M1 := M82) (pc' := 145) (tbr_Machine hγ) [.aload_n 0, .sipush 4000] (by decide +kernel) rfl rfl trivial ?_
  obtain ⟨c85, c86, i84, c87, M83, eM83, h⟩ := h
  refine E_newa (f := 84) (i := i84) (by decide) (by decide) (FINr_lt hγ.1) c85 c86 c87 (by decide +kernel) ?_
  rw [← eM83]
  obtain ⟨M88, eM88, h⟩ := h
  refine E_putFR (k := 20) ⟨rfl, (by rw [hγ.1]; intro y hy; cases hy), by decide, _, rfl, by decide, rfl, rfl, (tbk_mem (j := 3) (k := 90) rfl)⟩ rfl (by decide +kernel) ?_
  rw [← eM88]
  refine E_blk (lv' := [some (vr (some (6, this))), none, some (vr (some (5, v2)))]) (st' := [vi (64 : Int32), vr (some (6, this))]) (M1 := M88) (pc' := 153) (tbr_Machine hγ) [.aload_n 0, .bipush 64] (by decide +kernel) rfl rfl trivial ?_
  obtain ⟨c91, c92, i90, c93, M89, eM89, h⟩ := h
  refine E_newa (f := 301) (i := i90) (by decide) (by decide) (FINr_lt hγ.1) c91 c92 c93 (by decide +kernel) ?_
  rw [← eM89]
  refine E_blk (lv' := [some (vr (some (6, this))), none, some (vr (some (5, v2)))]) (st' := [vi (64 : Int32), vr (some (6, this))]) (M1 := (sR M89 6 this 22 (some (301, i90)))) (pc' := 161) (tbr_Machine hγ) [.putfield 60, .aload_n 0, .bipush 64] (by decide +kernel) rfl rfl trivial ?_
  obtain ⟨c96, c97, i95, c98, M94, eM94, h⟩ := h
  refine E_newa (f := 301) (i := i95) (by decide) (by decide) (FINr_lt hγ.1) c96 c97 c98 (by decide +kernel) ?_
  rw [← eM94]
  refine E_blk (lv' := [some (vr (some (6, this))), none, some (vr (some (5, v2)))]) (st' := [vi (64 : Int32), vr (some (6, this))]) (M1 := (sR M94 6 this 23 (some (301, i95)))) (pc' := 169) (tbr_Machine hγ) [.putfield 63, .aload_n 0, .bipush 64] (by decide +kernel) rfl rfl trivial ?_
  obtain ⟨c101, c102, i100, c103, M99, eM99, h⟩ := h
  refine E_newa (f := 301) (i := i100) (by decide) (by decide) (FINr_lt hγ.1) c101 c102 c103 (by decide +kernel) ?_
  rw [← eM99]
  refine E_blk (lv' := [some (vr (some (6, this))), none, some (vr (some (5, v2)))]) (st' := [vi (64 : Int32), vr (some (6, this))]) (M1 := (sR M99 6 this 24 (some (301, i100)))) (pc' := 177) (tbr_Machine hγ) [.putfield 66, .aload_n 0, .bipush 64] (by decide +kernel) rfl rfl trivial ?_
  obtain ⟨c106, c107, i105, c108, M104, eM104, h⟩ := h
  refine E_newa (f := 301) (i := i105) (by decide) (by decide) (FINr_lt hγ.1) c106 c107 c108 (by decide +kernel) ?_
  rw [← eM104]
  refine E_blk (lv' := [some (vr (some (6, this))), none, some (vr (some (5, v2)))]) (st' := [vi (51 : Int32), vr (some (6, this))]) (M1 := (sR M104 6 this 25 (some (301, i105)))) (pc' := 185) (tbr_Machine hγ) [.putfield 69, .aload_n 0, .bipush 51] (by decide +kernel) rfl rfl trivial ?_
  obtain ⟨c111, c112, i110, c113, M109, eM109, h⟩ := h
  refine E_newa (f := 85) (i := i110) (by decide) (by decide) (FINr_lt hγ.1) c111 c112 c113 (by decide +kernel) ?_
  rw [← eM109]
  obtain ⟨M114, eM114, h⟩ := h
  refine E_putFR (k := 27) ⟨rfl, (by rw [hγ.1]; intro y hy; cases hy), by decide, _, rfl, by decide, rfl, rfl, (tbk_mem (j := 3) (k := 99) rfl)⟩ rfl (by decide +kernel) ?_
  rw [← eM114]
  refine E_blk (lv' := [some (vr (some (6, this))), none, some (vr (some (5, v2)))]) (st' := [vi (51 : Int32), vr (some (6, this))]) (M1 := M114) (pc' := 193) (tbr_Machine hγ) [.aload_n 0, .bipush 51] (by decide +kernel) rfl rfl trivial ?_
  obtain ⟨c117, c118, i116, c119, M115, eM115, h⟩ := h
  refine E_newa (f := 86) (i := i116) (by decide) (by decide) (FINr_lt hγ.1) c117 c118 c119 (by decide +kernel) ?_
  rw [← eM115]
  obtain ⟨M120, eM120, h⟩ := h
  refine E_putFR (k := 28) ⟨rfl, (by rw [hγ.1]; intro y hy; cases hy), by decide, _, rfl, by decide, rfl, rfl, (tbk_mem (j := 3) (k := 101) rfl)⟩ rfl (by decide +kernel) ?_
  rw [← eM120]
  refine E_blk (lv' := [some (vr (some (6, this))), none, some (vr (some (5, v2)))]) (st' := [vi (2000 : Int32), vr (some (6, this))]) (M1 := M120) (pc' := 202) (tbr_Machine hγ) [.aload_n 0, .sipush 2000] (by decide +kernel) rfl rfl trivial ?_
  obtain ⟨c123, c124, i122, c125, M121, eM121, h⟩ := h
  refine E_newa (f := 87) (i := i122) (by decide) (by decide) (FINr_lt hγ.1) c123 c124 c125 (by decide +kernel) ?_
  rw [← eM121]
  obtain ⟨M126, eM126, h⟩ := h
  refine E_putFR (k := 30) ⟨rfl, (by rw [hγ.1]; intro y hy; cases hy), by decide, _, rfl, by decide, rfl, rfl, (tbk_mem (j := 3) (k := 104) rfl)⟩ rfl (by decide +kernel) ?_
  rw [← eM126]
  refine E_blk (lv' := [some (vr (some (6, this))), none, some (vr (some (5, v2)))]) (st' := [vi (62 : Int32), vr (some (6, this))]) (M1 := M126) (pc' := 210) (tbr_Machine hγ) [.aload_n 0, .bipush 62] (by decide +kernel) rfl rfl trivial ?_
  obtain ⟨c129, c130, i128, c131, M127, eM127, h⟩ := h
  refine E_newa (f := 88) (i := i128) (by decide) (by decide) (FINr_lt hγ.1) c129 c130 c131 (by decide +kernel) ?_
  rw [← eM127]
  obtain ⟨M132, eM132, h⟩ := h
  refine E_putFR (k := 31) ⟨rfl, (by rw [hγ.1]; intro y hy; cases hy), by decide, _, rfl, by decide, rfl, rfl, (tbk_mem (j := 3) (k := 106) rfl)⟩ rfl (by decide +kernel) ?_
  rw [← eM132]
  refine E_blk (lv' := [some (vr (some (6, this))), none, some (vr (some (5, v2)))]) (st' := [vr (some (5, v2)), vr (some (6, this))]) (M1 := M132) (pc' := 217) (tbr_Machine hγ) [.aload_n 0, .aload_n 2] (by decide +kernel) rfl rfl trivial ?_
  obtain ⟨M133, eM133, h⟩ := h
  refine E_putFR (k := 0) ⟨rfl, (by rw [hγ.1]; intro y hy; cases hy), by decide, _, rfl, by decide, rfl, rfl, (tbk_mem (j := 3) (k := 60) rfl)⟩ rfl (by decide +kernel) ?_
  rw [← eM133]
  exact E_vret rfl (by decide +kernel) h
set_option maxRecDepth 4096 in
theorem lk_Machine_init {γ : Gm} (hγ : Gr γ) (this : Nat) (a1 : Nat) (a2 : Nat) (Q : Mem → Prop) (M : Mem) (h : w_Machine_init this a1 a2 Q M) : E γ k_Machine_init 2 0 [some (vr (some (6, this))), some (vr (some (10, a1))), some (vr (some (5, a2)))] [] M (Qv Q) := by
  unfold w_Machine_init at h
  refine E_blk (lv' := [some (vr (some (6, this))), some (vr (some (10, a1))), some (vr (some (5, a2)))]) (st' := [vr (some (10, a1)), vr (some (6, this))]) (M1 := M) (pc' := 2) (tbr_Machine hγ) [.aload_n 0, .aload_n 1] (by decide +kernel) rfl rfl trivial ?_
  obtain ⟨M1, eM1, h⟩ := h
  refine E_putFR (k := 37) ⟨rfl, (by rw [hγ.1]; intro y hy; cases hy), by decide, _, rfl, by decide, rfl, rfl, (tbk_mem (j := 3) (k := 114) rfl)⟩ rfl (by decide +kernel) ?_
  rw [← eM1]
  refine E_blk (lv' := [some (vr (some (6, this))), some (vr (some (10, a1))), some (vr (some (5, a2)))]) (st' := [vr (some (6, this))]) (M1 := M1) (pc' := 6) (tbr_Machine hγ) [.aload_n 0] (by decide +kernel) rfl rfl trivial ?_
  refine E_objI (κ := k_Machine_init) (pc := 6) (idx := 9) (tbk_mem (j := 2) (k := 199) rfl) (by decide +kernel) (Nat.le_of_ble_eq_true rfl) ?_
  refine E_blk (lv' := [some (vr (some (6, this))), some (vr (some (10, a1))), some (vr (some (5, a2)))]) (st' := [vi (3 : Int32), vr (some (6, this))]) (M1 := M1) (pc' := 11) (tbr_Machine hγ) [.aload_n 0, .iconst 3] (by decide +kernel) rfl rfl trivial ?_
  obtain ⟨c4, c5, i3, c6, M2, eM2, h⟩ := h
  refine E_newq (κ := k_Machine_init) (f := 700) (i := i3) (idx := 15) hγ.2.2.1.2.1 (by decide) (by decide) (FINr_lt hγ.1) (tbk_mem (j := 2) (k := 200) rfl) c4 c5 c6 (by decide +kernel) ?_
  rw [← eM2]
  refine E_blk (lv' := [some (vr (some (6, this))), some (vr (some (10, a1))), some (vr (some (5, a2)))]) (st' := [vi (0 : Int32), vr (some (700, i3)), vr (some (700, i3)), vr (some (6, this))]) (M1 := M2) (pc' := 16) (tbr_Machine hγ) [.dup, .iconst 0] (by decide +kernel) rfl rfl trivial ?_
  obtain ⟨i8, c9, M7, eM7, h⟩ := h
  refine E_new (κ := k_Machine_init) (f := 7) (i := i8) (n := 20) (idx := 15) ⟨by decide, _, rfl, by decide, (tbk_mem (j := 2) (k := 200) rfl), (tbk_mem (j := 2) (k := 202) rfl), (tbk_mem (j := 1) (k := 19) rfl)⟩ (by rw [hγ.1]; intro y hy; cases hy) c9 (by decide +kernel) ?_
  rw [← eM7]
  refine E_blk (lv' := [some (vr (some (6, this))), some (vr (some (10, a1))), some (vr (some (5, a2)))]) (st' := [vi (0 : Int32), vr (some (7, i8)), vr (some (7, i8)), vi (0 : Int32), vr (some (700, i3)), vr (some (700, i3)), vr (some (6, this))]) (M1 := M7) (pc' := 21) (tbr_Machine hγ) [.dup, .iconst 0] (by decide +kernel) rfl rfl trivial ?_
  refine E_callI (κ' := k_Line_init) (As := [vi (0 : Int32)]) (st := [vr (some (7, i8)), vi (0 : Int32), vr (some (700, i3)), vr (some (700, i3)), vr (some (6, this))]) mi_Line_init (Or.inl (tbk_mem (j := 2) (k := 203) rfl)) rfl (by decide +kernel) (Nat.le_of_ble_eq_true rfl) (Nat.le_of_ble_eq_true rfl) rfl (by decide) (lk_Line_init hγ i8 (0 : Int32) _ M7 h) (fun _ _ => Qv_r) (fun v M10 hp => Qv_k (R := fun st => E γ k_Machine_init 2 24 [some (vr (some (6, this))), some (vr (some (10, a1))), some (vr (some (5, a2)))] st M10 (Qv Q)) hp (fun h => ?_))
  obtain ⟨c11, M12, eM12, h⟩ := h
  refine E_astR (g := 7) (k := i8) hγ.2.2.1.1 (FINr_lt hγ.1) (by decide) c11 (by decide +kernel) (by unfold okel; decide) ?_
  rw [← eM12]
  refine E_blk (lv' := [some (vr (some (6, this))), some (vr (some (10, a1))), some (vr (some (5, a2)))]) (st' := [vi (1 : Int32), vr (some (700, i3)), vr (some (700, i3)), vr (some (6, this))]) (M1 := M12) (pc' := 27) (tbr_Machine hγ) [.dup, .iconst 1] (by decide +kernel) rfl rfl trivial ?_
  obtain ⟨i14, c15, M13, eM13, h⟩ := h
  refine E_new (κ := k_Machine_init) (f := 7) (i := i14) (n := 20) (idx := 15) ⟨by decide, _, rfl, by decide, (tbk_mem (j := 2) (k := 200) rfl), (tbk_mem (j := 2) (k := 202) rfl), (tbk_mem (j := 1) (k := 19) rfl)⟩ (by rw [hγ.1]; intro y hy; cases hy) c15 (by decide +kernel) ?_
  rw [← eM13]
  refine E_blk (lv' := [some (vr (some (6, this))), some (vr (some (10, a1))), some (vr (some (5, a2)))]) (st' := [vi (1 : Int32), vr (some (7, i14)), vr (some (7, i14)), vi (1 : Int32), vr (some (700, i3)), vr (some (700, i3)), vr (some (6, this))]) (M1 := M13) (pc' := 32) (tbr_Machine hγ) [.dup, .iconst 1] (by decide +kernel) rfl rfl trivial ?_
  refine E_callI (κ' := k_Line_init) (As := [vi (1 : Int32)]) (st := [vr (some (7, i14)), vi (1 : Int32), vr (some (700, i3)), vr (some (700, i3)), vr (some (6, this))]) mi_Line_init (Or.inl (tbk_mem (j := 2) (k := 203) rfl)) rfl (by decide +kernel) (Nat.le_of_ble_eq_true rfl) (Nat.le_of_ble_eq_true rfl) rfl (by decide) (lk_Line_init hγ i14 (1 : Int32) _ M13 h) (fun _ _ => Qv_r) (fun v M16 hp => Qv_k (R := fun st => E γ k_Machine_init 2 35 [some (vr (some (6, this))), some (vr (some (10, a1))), some (vr (some (5, a2)))] st M16 (Qv Q)) hp (fun h => ?_))
  obtain ⟨c17, M18, eM18, h⟩ := h
  refine E_astR (g := 7) (k := i14) hγ.2.2.1.1 (FINr_lt hγ.1) (by decide) c17 (by decide +kernel) (by unfold okel; decide) ?_
  rw [← eM18]
  refine E_blk (lv' := [some (vr (some (6, this))), some (vr (some (10, a1))), some (vr (some (5, a2)))]) (st' := [vi (2 : Int32), vr (some (700, i3)), vr (some (700, i3)), vr (some (6, this))]) (M1 := M18) (pc' := 38) (tbr_Machine hγ) [.dup, .iconst 2] (by decide +kernel) rfl rfl trivial ?_
  obtain ⟨i20, c21, M19, eM19, h⟩ := h
  refine E_new (κ := k_Machine_init) (f := 7) (i := i20) (n := 20) (idx := 15) ⟨by decide, _, rfl, by decide, (tbk_mem (j := 2) (k := 200) rfl), (tbk_mem (j := 2) (k := 202) rfl), (tbk_mem (j := 1) (k := 19) rfl)⟩ (by rw [hγ.1]; intro y hy; cases hy) c21 (by decide +kernel) ?_
  rw [← eM19]
  refine E_blk (lv' := [some (vr (some (6, this))), some (vr (some (10, a1))), some (vr (some (5, a2)))]) (st' := [vi (2 : Int32), vr (some (7, i20)), vr (some (7, i20)), vi (2 : Int32), vr (some (700, i3)), vr (some (700, i3)), vr (some (6, this))]) (M1 := M19) (pc' := 43) (tbr_Machine hγ) [.dup, .iconst 2] (by decide +kernel) rfl rfl trivial ?_
  refine E_callI (κ' := k_Line_init) (As := [vi (2 : Int32)]) (st := [vr (some (7, i20)), vi (2 : Int32), vr (some (700, i3)), vr (some (700, i3)), vr (some (6, this))]) mi_Line_init (Or.inl (tbk_mem (j := 2) (k := 203) rfl)) rfl (by decide +kernel) (Nat.le_of_ble_eq_true rfl) (Nat.le_of_ble_eq_true rfl) rfl (by decide) (lk_Line_init hγ i20 (2 : Int32) _ M19 h) (fun _ _ => Qv_r) (fun v M22 hp => Qv_k (R := fun st => E γ k_Machine_init 2 46 [some (vr (some (6, this))), some (vr (some (10, a1))), some (vr (some (5, a2)))] st M22 (Qv Q)) hp (fun h => ?_))
  obtain ⟨c23, M24, eM24, h⟩ := h
  refine E_astR (g := 7) (k := i20) hγ.2.2.1.1 (FINr_lt hγ.1) (by decide) c23 (by decide +kernel) (by unfold okel; decide) ?_
  rw [← eM24]
  obtain ⟨M25, eM25, h⟩ := h
  refine E_putFR (k := 1) ⟨rfl, (by rw [hγ.1]; intro y hy; cases hy), by decide, _, rfl, by decide, rfl, rfl, (tbk_mem (j := 3) (k := 61) rfl)⟩ rfl (by decide +kernel) ?_
  rw [← eM25]
  refine E_mask [true, false, true] rfl ?_
  exact lk_Machine_init_j50 hγ this Q a2 M25 h
def w_World_init_j403 (this : Nat) (Q : Mem → Prop) (v2 : Int32) (M : Mem) : Prop :=
  ¬ (2 : Int32) = 0 ∧ ¬ ((v2 / (2 : Int32)) + (1 : Int32)) < 0 ∧ ((v2 / (2 : Int32)) + (1 : Int32)).toNatClampNeg ≤ 60000000 ∧ ∃ i267, (74, i267) ∉ mN M ∧ ∃ M266, M266 = mk M 74 i267 ((v2 / (2 : Int32)) + (1 : Int32)).toNatClampNeg ∧ ∃ M271, M271 = sR M266 5 this 50 (some (74, i267)) ∧ ¬ (40 : Int32) = 0 ∧ LayF FIN0 M271 ∧ w_JMath_min (360 : Int32) ((v2 / (40 : Int32)) + (1 : Int32)) (fun r274 M273 => ¬ ((32 : Int32) * r274) < 0 ∧ ((32 : Int32) * r274).toNatClampNeg ≤ 60000000 ∧ ∃ i276, (75, i276) ∉ mN M273 ∧ ∃ M275, M275 = mk M273 75 i276 ((32 : Int32) * r274).toNatClampNeg ∧ ∃ M280, M280 = sR M275 5 this 52 (some (75, i276)) ∧ ¬ (11 : Int32) = 0 ∧ ¬ ((4 : Int32) * ((v2 / (11 : Int32)) + (5 : Int32))) < 0 ∧ ((4 : Int32) * ((v2 / (11 : Int32)) + (5 : Int32))).toNatClampNeg ≤ 60000000 ∧ ∃ i283, (76, i283) ∉ mN M280 ∧ ∃ M282, M282 = mk M280 76 i283 ((4 : Int32) * ((v2 / (11 : Int32)) + (5 : Int32))).toNatClampNeg ∧ ∃ M287, M287 = sR M282 5 this 54 (some (76, i283)) ∧ ¬ (11 : Int32) = 0 ∧ ¬ ((6 : Int32) * ((v2 / (11 : Int32)) + (5 : Int32))) < 0 ∧ ((6 : Int32) * ((v2 / (11 : Int32)) + (5 : Int32))).toNatClampNeg ≤ 60000000 ∧ ∃ i290, (211, i290) ∉ mN M287 ∧ ∃ M289, M289 = mk M287 211 i290 ((6 : Int32) * ((v2 / (11 : Int32)) + (5 : Int32))).toNatClampNeg ∧ ∃ M294, M294 = sR M289 5 this 55 (some (211, i290)) ∧ Q M294) M271
def w_World_init_j337 (this : Nat) (Q : Mem → Prop) (v2 : Int32) (M : Mem) : Prop :=
  ¬ (3 : Int32) = 0 ∧ ¬ ((v2 / (3 : Int32)) + (1 : Int32)) < 0 ∧ ((v2 / (3 : Int32)) + (1 : Int32)).toNatClampNeg ≤ 60000000 ∧ ∃ i217, (66, i217) ∉ mN M ∧ ∃ M216, M216 = mk M 66 i217 ((v2 / (3 : Int32)) + (1 : Int32)).toNatClampNeg ∧ ∃ M221, M221 = sR M216 5 this 40 (some (66, i217)) ∧ ¬ ((v2 / (3 : Int32)) + (1 : Int32)) < 0 ∧ ((v2 / (3 : Int32)) + (1 : Int32)).toNatClampNeg ≤ 60000000 ∧ ∃ i223, (67, i223) ∉ mN M221 ∧ ∃ M222, M222 = mk M221 67 i223 ((v2 / (3 : Int32)) + (1 : Int32)).toNatClampNeg ∧ ∃ M227, M227 = sR M222 5 this 41 (some (67, i223)) ∧ ¬ ((v2 / (3 : Int32)) + (1 : Int32)) < 0 ∧ ((v2 / (3 : Int32)) + (1 : Int32)).toNatClampNeg ≤ 60000000 ∧ ∃ i229, (68, i229) ∉ mN M227 ∧ ∃ M228, M228 = mk M227 68 i229 ((v2 / (3 : Int32)) + (1 : Int32)).toNatClampNeg ∧ ∃ M233, M233 = sR M228 5 this 42 (some (68, i229)) ∧ ¬ ((v2 / (3 : Int32)) + (1 : Int32)) < 0 ∧ ((v2 / (3 : Int32)) + (1 : Int32)).toNatClampNeg ≤ 60000000 ∧ ∃ i235, (69, i235) ∉ mN M233 ∧ ∃ M234, M234 = mk M233 69 i235 ((v2 / (3 : Int32)) + (1 : Int32)).toNatClampNeg ∧ ∃ M239, M239 = sR M234 5 this 43 (some (69, i235)) ∧ ¬ ((v2 / (3 : Int32)) + (1 : Int32)) < 0 ∧ ((v2 / (3 : Int32)) + (1 : Int32)).toNatClampNeg ≤ 60000000 ∧ ∃ i241, (70, i241) ∉ mN M239 ∧ ∃ M240, M240 = mk M239 70 i241 ((v2 / (3 : Int32)) + (1 : Int32)).toNatClampNeg ∧ ∃ M245, M245 = sR M240 5 this 44 (some (70, i241)) ∧ ¬ ((v2 / (3 : Int32)) + (1 : Int32)) < 0 ∧ ((v2 / (3 : Int32)) + (1 : Int32)).toNatClampNeg ≤ 60000000 ∧ ∃ i247, (71, i247) ∉ mN M245 ∧ ∃ M246, M246 = mk M245 71 i247 ((v2 / (3 : Int32)) + (1 : Int32)).toNatClampNeg ∧ ∃ M251, M251 = sR M246 5 this 45 (some (71, i247)) ∧ ¬ ((v2 / (3 : Int32)) + (1 : Int32)) < 0 ∧ ((v2 / (3 : Int32)) + (1 : Int32)).toNatClampNeg ≤ 60000000 ∧ ∃ i253, (72, i253) ∉ mN M251 ∧ ∃ M252, M252 = mk M251 72 i253 ((v2 / (3 : Int32)) + (1 : Int32)).toNatClampNeg ∧ ∃ M257, M257 = sR M252 5 this 46 (some (72, i253)) ∧ ¬ (2 : Int32) = 0 ∧ ¬ ((v2 / (2 : Int32)) + (1 : Int32)) < 0 ∧ ((v2 / (2 : Int32)) + (1 : Int32)).toNatClampNeg ≤ 60000000 ∧ ∃ i260, (73, i260) ∉ mN M257 ∧ ∃ M259, M259 = mk M257 73 i260 ((v2 / (2 : Int32)) + (1 : Int32)).toNatClampNeg ∧ ∃ M264, M264 = sR M259 5 this 48 (some (73, i260)) ∧ w_World_init_j403 this Q v2 M264
def w_World_init_j260 (this : Nat) (Q : Mem → Prop) (v2 : Int32) (M : Mem) : Prop :=
  ¬ (381 : Int32) < 0 ∧ (381 : Int32).toNatClampNeg ≤ 60000000 ∧ ∃ i168, (61, i168) ∉ mN M ∧ ∃ M167, M167 = mk M 61 i168 (381 : Int32).toNatClampNeg ∧ ∃ M172, M172 = sR M167 5 this 34 (some (61, i168)) ∧ ¬ (381 : Int32) < 0 ∧ (381 : Int32).toNatClampNeg ≤ 60000000 ∧ ∃ i174, (62, i174) ∉ mN M172 ∧ ∃ M173, M173 = mk M172 62 i174 (381 : Int32).toNatClampNeg ∧ ∃ M178, M178 = sR M173 5 this 35 (some (62, i174)) ∧ ¬ (381 : Int32) < 0 ∧ (381 : Int32).toNatClampNeg ≤ 60000000 ∧ ∃ i180, (63, i180) ∉ mN M178 ∧ ∃ M179, M179 = mk M178 63 i180 (381 : Int32).toNatClampNeg ∧ ∃ M184, M184 = sR M179 5 this 36 (some (63, i180)) ∧ ¬ (381 : Int32) < 0 ∧ (381 : Int32).toNatClampNeg ≤ 60000000 ∧ ∃ i186, (64, i186) ∉ mN M184 ∧ ∃ M185, M185 = mk M184 64 i186 (381 : Int32).toNatClampNeg ∧ ∃ M190, M190 = sR M185 5 this 37 (some (64, i186)) ∧ ¬ (381 : Int32) < 0 ∧ (381 : Int32).toNatClampNeg ≤ 60000000 ∧ ∃ i192, (65, i192) ∉ mN M190 ∧ ∃ M191, M191 = mk M190 65 i192 (381 : Int32).toNatClampNeg ∧ ∃ M196, M196 = sR M191 5 this 38 (some (65, i192)) ∧ ¬ (51 : Int32) < 0 ∧ (51 : Int32).toNatClampNeg ≤ 60000000 ∧ ∃ i198, (77, i198) ∉ mN M196 ∧ ∃ M197, M197 = mk M196 77 i198 (51 : Int32).toNatClampNeg ∧ ∃ M202, M202 = sR M197 5 this 59 (some (77, i198)) ∧ ¬ (52 : Int32) < 0 ∧ (52 : Int32).toNatClampNeg ≤ 60000000 ∧ ∃ i204, (78, i204) ∉ mN M202 ∧ ∃ M203, M203 = mk M202 78 i204 (52 : Int32).toNatClampNeg ∧ ∃ M208, M208 = sR M203 5 this 60 (some (78, i204)) ∧ ∃ i210, (6, i210) ∉ mN M208 ∧ ∃ M209, M209 = mk M208 6 i210 38 ∧ ∃ i212, (mR M209 5 this 64) = some (10, i212) ∧ w_Machine_init i210 i212 this (fun M213 => ∃ M214, M214 = sR M213 5 this 63 (some (6, i210)) ∧ w_World_init_j337 this Q v2 M214) M209
def w_World_init_j190 (this : Nat) (Q : Mem → Prop) (v2 : Int32) (M : Mem) : Prop :=
  ∃ M124, M124 = sI M 5 this 25 (381 : Int32) ∧ ¬ (381 : Int32) < 0 ∧ (381 : Int32).toNatClampNeg ≤ 60000000 ∧ ∃ i126, (55, i126) ∉ mN M124 ∧ ∃ M125, M125 = mk M124 55 i126 (381 : Int32).toNatClampNeg ∧ ∃ M130, M130 = sR M125 5 this 27 (some (55, i126)) ∧ ¬ (381 : Int32) < 0 ∧ (381 : Int32).toNatClampNeg ≤ 60000000 ∧ ∃ i132, (56, i132) ∉ mN M130 ∧ ∃ M131, M131 = mk M130 56 i132 (381 : Int32).toNatClampNeg ∧ ∃ M136, M136 = sR M131 5 this 28 (some (56, i132)) ∧ ¬ (381 : Int32) < 0 ∧ (381 : Int32).toNatClampNeg ≤ 60000000 ∧ ∃ i138, (57, i138) ∉ mN M136 ∧ ∃ M137, M137 = mk M136 57 i138 (381 : Int32).toNatClampNeg ∧ ∃ M142, M142 = sR M137 5 this 29 (some (57, i138)) ∧ ¬ (381 : Int32) < 0 ∧ (381 : Int32).toNatClampNeg ≤ 60000000 ∧ ∃ i144, (58, i144) ∉ mN M142 ∧ ∃ M143, M143 = mk M142 58 i144 (381 : Int32).toNatClampNeg ∧ ∃ M148, M148 = sR M143 5 this 30 (some (58, i144)) ∧ ¬ (2286 : Int32) < 0 ∧ (2286 : Int32).toNatClampNeg ≤ 60000000 ∧ ∃ i150, (211, i150) ∉ mN M148 ∧ ∃ M149, M149 = mk M148 211 i150 (2286 : Int32).toNatClampNeg ∧ ∃ M154, M154 = sR M149 5 this 31 (some (211, i150)) ∧ ¬ (381 : Int32) < 0 ∧ (381 : Int32).toNatClampNeg ≤ 60000000 ∧ ∃ i156, (59, i156) ∉ mN M154 ∧ ∃ M155, M155 = mk M154 59 i156 (381 : Int32).toNatClampNeg ∧ ∃ M160, M160 = sR M155 5 this 32 (some (59, i156)) ∧ ¬ (381 : Int32) < 0 ∧ (381 : Int32).toNatClampNeg ≤ 60000000 ∧ ∃ i162, (60, i162) ∉ mN M160 ∧ ∃ M161, M161 = mk M160 60 i162 (381 : Int32).toNatClampNeg ∧ ∃ M166, M166 = sR M161 5 this 33 (some (60, i162)) ∧ w_World_init_j260 this Q v2 M166
def w_World_init_j120 (this : Nat) (Q : Mem → Prop) (v2 : Int32) (M : Mem) : Prop :=
  ∃ M81, M81 = sI M 5 this 16 (240 : Int32) ∧ ¬ (240 : Int32) < 0 ∧ (240 : Int32).toNatClampNeg ≤ 60000000 ∧ ∃ i83, (49, i83) ∉ mN M81 ∧ ∃ M82, M82 = mk M81 49 i83 (240 : Int32).toNatClampNeg ∧ ∃ M87, M87 = sR M82 5 this 18 (some (49, i83)) ∧ ¬ (240 : Int32) < 0 ∧ (240 : Int32).toNatClampNeg ≤ 60000000 ∧ ∃ i89, (50, i89) ∉ mN M87 ∧ ∃ M88, M88 = mk M87 50 i89 (240 : Int32).toNatClampNeg ∧ ∃ M93, M93 = sR M88 5 this 19 (some (50, i89)) ∧ ¬ (240 : Int32) < 0 ∧ (240 : Int32).toNatClampNeg ≤ 60000000 ∧ ∃ i95, (51, i95) ∉ mN M93 ∧ ∃ M94, M94 = mk M93 51 i95 (240 : Int32).toNatClampNeg ∧ ∃ M99, M99 = sR M94 5 this 20 (some (51, i95)) ∧ ¬ (240 : Int32) < 0 ∧ (240 : Int32).toNatClampNeg ≤ 60000000 ∧ ∃ i101, (52, i101) ∉ mN M99 ∧ ∃ M100, M100 = mk M99 52 i101 (240 : Int32).toNatClampNeg ∧ ∃ M105, M105 = sR M100 5 this 21 (some (52, i101)) ∧ ¬ (240 : Int32) < 0 ∧ (240 : Int32).toNatClampNeg ≤ 60000000 ∧ ∃ i107, (511, i107) ∉ mN M105 ∧ ∃ M106, M106 = mk M105 511 i107 (240 : Int32).toNatClampNeg ∧ ∃ M111, M111 = sR M106 5 this 22 (some (511, i107)) ∧ ¬ (240 : Int32) < 0 ∧ (240 : Int32).toNatClampNeg ≤ 60000000 ∧ ∃ i113, (53, i113) ∉ mN M111 ∧ ∃ M112, M112 = mk M111 53 i113 (240 : Int32).toNatClampNeg ∧ ∃ M117, M117 = sR M112 5 this 23 (some (53, i113)) ∧ ¬ (240 : Int32) < 0 ∧ (240 : Int32).toNatClampNeg ≤ 60000000 ∧ ∃ i119, (54, i119) ∉ mN M117 ∧ ∃ M118, M118 = mk M117 54 i119 (240 : Int32).toNatClampNeg ∧ ∃ M123, M123 = sR M118 5 this 24 (some (54, i119)) ∧ w_World_init_j190 this Q v2 M123
def w_World_init_j56 (this : Nat) (Q : Mem → Prop) (v2 : Int32) (M : Mem) : Prop :=
  ¬ (51 : Int32) < 0 ∧ (51 : Int32).toNatClampNeg ≤ 60000000 ∧ ∃ i34, (41, i34) ∉ mN M ∧ ∃ M33, M33 = mk M 41 i34 (51 : Int32).toNatClampNeg ∧ ∃ M38, M38 = sR M33 5 this 8 (some (41, i34)) ∧ ¬ (51 : Int32) < 0 ∧ (51 : Int32).toNatClampNeg ≤ 60000000 ∧ ∃ i40, (42, i40) ∉ mN M38 ∧ ∃ M39, M39 = mk M38 42 i40 (51 : Int32).toNatClampNeg ∧ ∃ M44, M44 = sR M39 5 this 9 (some (42, i40)) ∧ ¬ (51 : Int32) < 0 ∧ (51 : Int32).toNatClampNeg ≤ 60000000 ∧ ∃ i46, (43, i46) ∉ mN M44 ∧ ∃ M45, M45 = mk M44 43 i46 (51 : Int32).toNatClampNeg ∧ ∃ M50, M50 = sR M45 5 this 10 (some (43, i46)) ∧ ¬ (51 : Int32) < 0 ∧ (51 : Int32).toNatClampNeg ≤ 60000000 ∧ ∃ i52, (44, i52) ∉ mN M50 ∧ ∃ M51, M51 = mk M50 44 i52 (51 : Int32).toNatClampNeg ∧ ∃ M56, M56 = sR M51 5 this 11 (some (44, i52)) ∧ ¬ (51 : Int32) < 0 ∧ (51 : Int32).toNatClampNeg ≤ 60000000 ∧ ∃ i58, (45, i58) ∉ mN M56 ∧ ∃ M57, M57 = mk M56 45 i58 (51 : Int32).toNatClampNeg ∧ ∃ M62, M62 = sR M57 5 this 12 (some (45, i58)) ∧ ¬ (51 : Int32) < 0 ∧ (51 : Int32).toNatClampNeg ≤ 60000000 ∧ ∃ i64, (46, i64) ∉ mN M62 ∧ ∃ M63, M63 = mk M62 46 i64 (51 : Int32).toNatClampNeg ∧ ∃ M68, M68 = sR M63 5 this 13 (some (46, i64)) ∧ ¬ (51 : Int32) < 0 ∧ (51 : Int32).toNatClampNeg ≤ 60000000 ∧ ∃ i70, (47, i70) ∉ mN M68 ∧ ∃ M69, M69 = mk M68 47 i70 (51 : Int32).toNatClampNeg ∧ ∃ M74, M74 = sR M69 5 this 14 (some (47, i70)) ∧ ¬ (51 : Int32) < 0 ∧ (51 : Int32).toNatClampNeg ≤ 60000000 ∧ ∃ i76, (48, i76) ∉ mN M74 ∧ ∃ M75, M75 = mk M74 48 i76 (51 : Int32).toNatClampNeg ∧ ∃ M80, M80 = sR M75 5 this 15 (some (48, i76)) ∧ w_World_init_j120 this Q v2 M80
def w_World_init (this : Nat) (a1 : Nat) (a2 : Int32) (Q : Mem → Prop) (M : Mem) : Prop :=
  ∃ M1, M1 = sR M 5 this 64 (some (10, a1)) ∧ ∃ M2, M2 = sI M1 5 this 0 (51 : Int32) ∧ ¬ (51 : Int32) < 0 ∧ (51 : Int32).toNatClampNeg ≤ 60000000 ∧ ∃ i4, (36, i4) ∉ mN M2 ∧ ∃ M3, M3 = mk M2 36 i4 (51 : Int32).toNatClampNeg ∧ ∃ M8, M8 = sR M3 5 this 3 (some (36, i4)) ∧ ¬ (51 : Int32) < 0 ∧ (51 : Int32).toNatClampNeg ≤ 60000000 ∧ ∃ i10, (37, i10) ∉ mN M8 ∧ ∃ M9, M9 = mk M8 37 i10 (51 : Int32).toNatClampNeg ∧ ∃ M14, M14 = sR M9 5 this 4 (some (37, i10)) ∧ ¬ (204 : Int32) < 0 ∧ (204 : Int32).toNatClampNeg ≤ 60000000 ∧ ∃ i16, (38, i16) ∉ mN M14 ∧ ∃ M15, M15 = mk M14 38 i16 (204 : Int32).toNatClampNeg ∧ ∃ M20, M20 = sR M15 5 this 5 (some (38, i16)) ∧ ¬ (51 : Int32) < 0 ∧ (51 : Int32).toNatClampNeg ≤ 60000000 ∧ ∃ i22, (39, i22) ∉ mN M20 ∧ ∃ M21, M21 = mk M20 39 i22 (51 : Int32).toNatClampNeg ∧ ∃ M26, M26 = sR M21 5 this 6 (some (39, i22)) ∧ ¬ (51 : Int32) < 0 ∧ (51 : Int32).toNatClampNeg ≤ 60000000 ∧ ∃ i28, (40, i28) ∉ mN M26 ∧ ∃ M27, M27 = mk M26 40 i28 (51 : Int32).toNatClampNeg ∧ ∃ M32, M32 = sR M27 5 this 7 (some (40, i28)) ∧ w_World_init_j56 this Q a2 M32
set_option maxRecDepth 4096 in
theorem lk_World_init_j403 {γ : Gm} (hγ : Gr γ) (this : Nat) (Q : Mem → Prop) (v2 : Int32) (M : Mem) (h : w_World_init_j403 this Q v2 M) : E γ k_World_init 3 403 [some (vr (some (5, this))), none, some (vi v2), none] [] M (Qv Q) := by
  unfold w_World_init_j403 at h
  obtain ⟨c265, h⟩ := h
  refine E_blk (lv' := [some (vr (some (5, this))), none, some (vi v2), none]) (st' := [vi ((v2 / (2 : Int32)) + (1 : Int32)), vr (some (5, this))]) (M1 := M) (pc' := 409) (tbr_World hγ) [.aload_n 0, .iload_n 2, .iconst 2, .idiv, .iconst 1, .iadd] (by decide +kernel) rfl rfl ⟨c265, trivial⟩ ?_
  obtain ⟨c268, c269, i267, c270, M266, eM266, h⟩ := h
  refine E_newa (f := 74) (i := i267) (by decide) (by decide) (FINr_lt hγ.1) c268 c269 c270 (by decide +kernel) ?_
  rw [← eM266]
  obtain ⟨M271, eM271, h⟩ := h
  refine E_putFR (k := 50) ⟨rfl, (by rw [hγ.1]; intro y hy; cases hy), by decide, _, rfl, by decide, rfl, rfl, (tbk_mem (j := 4) (k := 161) rfl)⟩ rfl (by decide +kernel) ?_
  rw [← eM271]
  obtain ⟨c272, h⟩ := h
  refine E_blk (lv' := [some (vr (some (5, this))), none, some (vi v2), none]) (st' := [vi ((v2 / (40 : Int32)) + (1 : Int32)), vi (360 : Int32), vi (32 : Int32), vr (some (5, this))]) (M1 := M271) (pc' := 426) (tbr_World hγ) [.aload_n 0, .bipush 32, .sipush 360, .iload_n 2, .bipush 40, .idiv, .iconst 1, .iadd] (by decide +kernel) rfl rfl ⟨c272, trivial⟩ ?_
  obtain ⟨c295, h⟩ := h
  refine E_callS (κ' := k_JMath_min) (As := [vi (360 : Int32), vi ((v2 / (40 : Int32)) + (1 : Int32))]) (st := [vi (32 : Int32), vr (some (5, this))]) ms_JMath_min (Or.inl (tbk_mem (j := 3) (k := 192) rfl)) rfl (by decide +kernel) (Nat.le_of_ble_eq_true rfl) (Nat.le_of_ble_eq_true rfl) rfl (by decide) (E_sw hγ.1 c295 (lk0_JMath_min (g0_of hγ) (360 : Int32) ((v2 / (40 : Int32)) + (1 : Int32)) _ M271 h)) (fun _ _ => Qi_r) (fun v M273 hp => Qi_k (R := fun st => E γ k_World_init 3 429 [some (vr (some (5, this))), none, some (vi v2), none] st M273 (Qv Q)) hp (fun r274 h => ?_))
  refine E_blk (lv' := [some (vr (some (5, this))), none, some (vi v2), none]) (st' := [vi ((32 : Int32) * r274), vr (some (5, this))]) (M1 := M273) (pc' := 430) (tbr_World hγ) [.imul] (by decide +kernel) rfl rfl trivial ?_
  obtain ⟨c277, c278, i276, c279, M275, eM275, h⟩ := h
  refine E_newa (f := 75) (i := i276) (by decide) (by decide) (FINr_lt hγ.1) c277 c278 c279 (by decide +kernel) ?_
  rw [← eM275]
  obtain ⟨M280, eM280, h⟩ := h
  refine E_putFR (k := 52) ⟨rfl, (by rw [hγ.1]; intro y hy; cases hy), by decide, _, rfl, by decide, rfl, rfl, (tbk_mem (j := 4) (k := 169) rfl)⟩ rfl (by decide +kernel) ?_
  rw [← eM280]
  obtain ⟨c281, h⟩ := h
  refine E_blk (lv' := [some (vr (some (5, this))), none, some (vi v2), none]) (st' := [vi ((4 : Int32) * ((v2 / (11 : Int32)) + (5 : Int32))), vr (some (5, this))]) (M1 := M280) (pc' := 444) (tbr_World hγ) [.aload_n 0, .iconst 4, .iload_n 2, .bipush 11, .idiv, .iconst 5, .iadd, .imul] (by decide +kernel) rfl rfl ⟨c281, trivial⟩ ?_
  obtain ⟨c284, c285, i283, c286, M282, eM282, h⟩ := h
  refine E_newa (f := 76) (i := i283) (by decide) (by decide) (FINr_lt hγ.1) c284 c285 c286 (by decide +kernel) ?_
  rw [← eM282]
  obtain ⟨M287, eM287, h⟩ := h
  refine E_putFR (k := 54) ⟨rfl, (by rw [hγ.1]; intro y hy; cases hy), by decide, _, rfl, by decide, rfl, rfl, (tbk_mem (j := 4) (k := 177) rfl)⟩ rfl (by decide +kernel) ?_
  rw [← eM287]
  obtain ⟨c288, h⟩ := h
  refine E_blk (lv' := [some (vr (some (5, this))), none, some (vi v2), none]) (st' := [vi ((6 : Int32) * ((v2 / (11 : Int32)) + (5 : Int32))), vr (some (5, this))]) (M1 := M287) (pc' := 459) (tbr_World hγ) [.aload_n 0, .bipush 6, .iload_n 2, .bipush 11, .idiv, .iconst 5, .iadd, .imul] (by decide +kernel) rfl rfl ⟨c288, trivial⟩ ?_
  obtain ⟨c291, c292, i290, c293, M289, eM289, h⟩ := h
  refine E_newa (f := 211) (i := i290) (by decide) (by decide) (FINr_lt hγ.1) c291 c292 c293 (by decide +kernel) ?_
  rw [← eM289]
  obtain ⟨M294, eM294, h⟩ := h
  refine E_putFR (k := 55) ⟨rfl, (by rw [hγ.1]; intro y hy; cases hy), by decide, _, rfl, by decide, rfl, rfl, (tbk_mem (j := 4) (k := 179) rfl)⟩ rfl (by decide +kernel) ?_
  rw [← eM294]
  exact E_vret rfl (by decide +kernel) h
set_option maxRecDepth 4096 in
theorem lk_World_init_j337 {γ : Gm} (hγ : Gr γ) (this : Nat) (Q : Mem → Prop) (v2 : Int32) (M : Mem) (h : w_World_init_j337 this Q v2 M) : E γ k_World_init 3 337 [some (vr (some (5, this))), none, some (vi v2), none] [] M (Qv Q) := by
  unfold w_World_init_j337 at h
  obtain ⟨c215, h⟩ := h
  refine E_blk (lv' := [some (vr (some (5, this))), none, some (vi v2), some (vi ((v2 / (3 : Int32)) + (1 : Int32)))]) (st' := [vi ((v2 / (3 : Int32)) + (1 : Int32)), vr (some (5, this))]) (M1 := M) (pc' := 345) (tbr_World hγ) [.iload_n 2, .iconst 3, .idiv, .iconst 1, .iadd, .istore_n 3, .aload_n 0, .iload_n 3] (by decide +kernel) rfl rfl ⟨c215, trivial⟩ ?_
  obtain ⟨c218, c219, i217, c220, M216, eM216, h⟩ := h
  refine E_newa (f := 66) (i := i217) (by decide) (by decide) (FINr_lt hγ.1) c218 c219 c220 (by decide +kernel) ?_
  rw [← eM216]
  obtain ⟨M221, eM221, h⟩ := h
  refine E_putFR (k := 40) ⟨rfl, (by rw [hγ.1]; intro y hy; cases hy), by decide, _, rfl, by decide, rfl, rfl, (tbk_mem (j := 4) (k := 113) rfl)⟩ rfl (by decide +kernel) ?_
  rw [← eM221]
  refine E_blk (lv' := [some (vr (some (5, this))), none, some (vi v2), some (vi ((v2 / (3 : Int32)) + (1 : Int32)))]) (st' := [vi ((v2 / (3 : Int32)) + (1 : Int32)), vr (some (5, this))]) (M1 := M221) (pc' := 352) (tbr_World hγ) [.aload_n 0, .iload_n 3] (by decide +kernel) rfl rfl trivial ?_
  obtain ⟨c224, c225, i223, c226, M222, eM222, h⟩ := h
  refine E_newa (f := 67) (i := i223) (by decide) (by decide) (FINr_lt hγ.1) c224 c225 c226 (by decide +kernel) ?_
  rw [← eM222]
  obtain ⟨M227, eM227, h⟩ := h
  refine E_putFR (k := 41) ⟨rfl, (by rw [hγ.1]; intro y hy; cases hy), by decide, _, rfl, by decide, rfl, rfl, (tbk_mem (j := 4) (k := 119) rfl)⟩ rfl (by decide +kernel) ?_
  rw [← eM227]
  refine E_blk (lv' := [some (vr (some (5, this))), none, some (vi v2), some (vi ((v2 / (3 : Int32)) + (1 : Int32)))]) (st' := [vi ((v2 / (3 : Int32)) + (1 : Int32)), vr (some (5, this))]) (M1 := M227) (pc' := 359) (tbr_World hγ) [.aload_n 0, .iload_n 3] (by decide +kernel) rfl rfl trivial ?_
  obtain ⟨c230, c231, i229, c232, M228, eM228, h⟩ := h
  refine E_newa (f := 68) (i := i229) (by decide) (by decide) (FINr_lt hγ.1) c230 c231 c232 (by decide +kernel) ?_
  rw [← eM228]
  obtain ⟨M233, eM233, h⟩ := h
  refine E_putFR (k := 42) ⟨rfl, (by rw [hγ.1]; intro y hy; cases hy), by decide, _, rfl, by decide, rfl, rfl, (tbk_mem (j := 4) (k := 125) rfl)⟩ rfl (by decide +kernel) ?_
  rw [← eM233]
  refine E_blk (lv' := [some (vr (some (5, this))), none, some (vi v2), some (vi ((v2 / (3 : Int32)) + (1 : Int32)))]) (st' := [vi ((v2 / (3 : Int32)) + (1 : Int32)), vr (some (5, this))]) (M1 := M233) (pc' := 366) (tbr_World hγ) [.aload_n 0, .iload_n 3] (by decide +kernel) rfl rfl trivial ?_
  obtain ⟨c236, c237, i235, c238, M234, eM234, h⟩ := h
  refine E_newa (f := 69) (i := i235) (by decide) (by decide) (FINr_lt hγ.1) c236 c237 c238 (by decide +kernel) ?_
  rw [← eM234]
  obtain ⟨M239, eM239, h⟩ := h
  refine E_putFR (k := 43) ⟨rfl, (by rw [hγ.1]; intro y hy; cases hy), by decide, _, rfl, by decide, rfl, rfl, (tbk_mem (j := 4) (k := 131) rfl)⟩ rfl (by decide +kernel) ?_
  rw [← eM239]
  refine E_blk (lv' := [some (vr (some (5, this))), none, some (vi v2), some (vi ((v2 / (3 : Int32)) + (1 : Int32)))]) (st' := [vi ((v2 / (3 : Int32)) + (1 : Int32)), vr (some (5, this))]) (M1 := M239) (pc' := 373) (tbr_World hγ) [.aload_n 0, .iload_n 3] (by decide +kernel) rfl rfl trivial ?_
  obtain ⟨c242, c243, i241, c244, M240, eM240, h⟩ := h
  refine E_newa (f := 70) (i := i241) (by decide) (by decide) (FINr_lt hγ.1) c242 c243 c244 (by decide +kernel) ?_
  rw [← eM240]
  obtain ⟨M245, eM245, h⟩ := h
  refine E_putFR (k := 44) ⟨rfl, (by rw [hγ.1]; intro y hy; cases hy), by decide, _, rfl, by decide, rfl, rfl, (tbk_mem (j := 4) (k := 137) rfl)⟩ rfl (by decide +kernel) ?_
  rw [← eM245]
  refine E_blk (lv' := [some (vr (some (5, this))), none, some (vi v2), some (vi ((v2 / (3 : Int32)) + (1 : Int32)))]) (st' := [vi ((v2 / (3 : Int32)) + (1 : Int32)), vr (some (5, this))]) (M1 := M245) (pc' := 380) (tbr_World hγ) [.aload_n 0, .iload_n 3] (by decide +kernel) rfl rfl trivial ?_
  obtain ⟨c248, c249, i247, c250, M246, eM246, h⟩ := h
  refine E_newa (f := 71) (i := i247) (by decide) (by decide) (FINr_lt hγ.1) c248 c249 c250 (by decide +kernel) ?_
  rw [← eM246]
  obtain ⟨M251, eM251, h⟩ := h
  refine E_putFR (k := 45) ⟨rfl, (by rw [hγ.1]; intro y hy; cases hy), by decide, _, rfl, by decide, rfl, rfl, (tbk_mem (j := 4) (k := 142) rfl)⟩ rfl (by decide +kernel) ?_
  rw [← eM251]
  refine E_blk (lv' := [some (vr (some (5, this))), none, some (vi v2), some (vi ((v2 / (3 : Int32)) + (1 : Int32)))]) (st' := [vi ((v2 / (3 : Int32)) + (1 : Int32)), vr (some (5, this))]) (M1 := M251) (pc' := 387) (tbr_World hγ) [.aload_n 0, .iload_n 3] (by decide +kernel) rfl rfl trivial ?_
  obtain ⟨c254, c255, i253, c256, M252, eM252, h⟩ := h
  refine E_newa (f := 72) (i := i253) (by decide) (by decide) (FINr_lt hγ.1) c254 c255 c256 (by decide +kernel) ?_
  rw [← eM252]
  obtain ⟨M257, eM257, h⟩ := h
  refine E_putFR (k := 46) ⟨rfl, (by rw [hγ.1]; intro y hy; cases hy), by decide, _, rfl, by decide, rfl, rfl, (tbk_mem (j := 4) (k := 147) rfl)⟩ rfl (by decide +kernel) ?_
  rw [← eM257]
  obtain ⟨c258, h⟩ := h
  refine E_blk (lv' := [some (vr (some (5, this))), none, some (vi v2), some (vi ((v2 / (3 : Int32)) + (1 : Int32)))]) (st' := [vi ((v2 / (2 : Int32)) + (1 : Int32)), vr (some (5, this))]) (M1 := M257) (pc' := 398) (tbr_World hγ) [.aload_n 0, .iload_n 2, .iconst 2, .idiv, .iconst 1, .iadd] (by decide +kernel) rfl rfl ⟨c258, trivial⟩ ?_
  obtain ⟨c261, c262, i260, c263, M259, eM259, h⟩ := h
  refine E_newa (f := 73) (i := i260) (by decide) (by decide) (FINr_lt hγ.1) c261 c262 c263 (by decide +kernel) ?_
  rw [← eM259]
  obtain ⟨M264, eM264, h⟩ := h
  refine E_putFR (k := 48) ⟨rfl, (by rw [hγ.1]; intro y hy; cases hy), by decide, _, rfl, by decide, rfl, rfl, (tbk_mem (j := 4) (k := 154) rfl)⟩ rfl (by decide +kernel) ?_
  rw [← eM264]
  refine E_mask [true, false, true, false] rfl ?_
  exact lk_World_init_j403 hγ this Q v2 M264 h
set_option maxRecDepth 4096 in
theorem lk_World_init_j260 {γ : Gm} (hγ : Gr γ) (this : Nat) (Q : Mem → Prop) (v2 : Int32) (M : Mem) (h : w_World_init_j260 this Q v2 M) : E γ k_World_init 3 260 [some (vr (some (5, this))), none, some (vi v2), none] [] M (Qv Q) := by
  unfold w_World_init_j260 at h
  refine E_blk (lv' := [some (vr (some (5, this))), none, some (vi v2), none]) (st' := [vi (381 : Int32), vr (some (5, this))]) (M1 := M) (pc' := 264) (tbr_World hγ) [.aload_n 0, .sipush 381] (by decide +kernel) rfl rfl trivial ?_
  obtain ⟨c169, c170, i168, c171, M167, eM167, h⟩ := h
  refine E_newa (f := 61) (i := i168) (by decide) (by decide) (FINr_lt hγ.1) c169 c170 c171 (by decide +kernel) ?_
  rw [← eM167]
  obtain ⟨M172, eM172, h⟩ := h
  refine E_putFR (k := 34) ⟨rfl, (by rw [hγ.1]; intro y hy; cases hy), by decide, _, rfl, by decide, rfl, rfl, (tbk_mem (j := 4) (k := 84) rfl)⟩ rfl (by decide +kernel) ?_
  rw [← eM172]
  refine E_blk (lv' := [some (vr (some (5, this))), none, some (vi v2), none]) (st' := [vi (381 : Int32), vr (some (5, this))]) (M1 := M172) (pc' := 273) (tbr_World hγ) [.aload_n 0, .sipush 381] (by decide +kernel) rfl rfl trivial ?_
  obtain ⟨c175, c176, i174, c177, M173, eM173, h⟩ := h
  refine E_newa (f := 62) (i := i174) (by decide) (by decide) (FINr_lt hγ.1) c175 c176 c177 (by decide +kernel) ?_
  rw [← eM173]
  obtain ⟨M178, eM178, h⟩ := h
  refine E_putFR (k := 35) ⟨rfl, (by rw [hγ.1]; intro y hy; cases hy), by decide, _, rfl, by decide, rfl, rfl, (tbk_mem (j := 4) (k := 89) rfl)⟩ rfl (by decide +kernel) ?_
  rw [← eM178]
  refine E_blk (lv' := [some (vr (some (5, this))), none, some (vi v2), none]) (st' := [vi (381 : Int32), vr (some (5, this))]) (M1 := M178) (pc' := 282) (tbr_World hγ) [.aload_n 0, .sipush 381] (by decide +kernel) rfl rfl trivial ?_
  obtain ⟨c181, c182, i180, c183, M179, eM179, h⟩ := h
  refine E_newa (f := 63) (i := i180) (by decide) (by decide) (FINr_lt hγ.1) c181 c182 c183 (by decide +kernel) ?_
  rw [← eM179]
  obtain ⟨M184, eM184, h⟩ := h
  refine E_putFR (k := 36) ⟨rfl, (by rw [hγ.1]; intro y hy; cases hy), by decide, _, rfl, by decide, rfl, rfl, (tbk_mem (j := 4) (k := 95) rfl)⟩ rfl (by decide +kernel) ?_
  rw [← eM184]
  refine E_blk (lv' := [some (vr (some (5, this))), none, some (vi v2), none]) (st' := [vi (381 : Int32), vr (some (5, this))]) (M1 := M184) (pc' := 291) (tbr_World hγ) [.aload_n 0, .sipush 381] (by decide +kernel) rfl rfl trivial ?_
  obtain ⟨c187, c188, i186, c189, M185, eM185, h⟩ := h
  refine E_newa (f := 64) (i := i186) (by decide) (by decide) (FINr_lt hγ.1) c187 c188 c189 (by decide +kernel) ?_
  rw [← eM185]
  obtain ⟨M190, eM190, h⟩ := h
  refine E_putFR (k := 37) ⟨rfl, (by rw [hγ.1]; intro y hy; cases hy), by decide, _, rfl, by decide, rfl, rfl, (tbk_mem (j := 4) (k := 100) rfl)⟩ rfl (by decide +kernel) ?_
  rw [← eM190]
  refine E_blk (lv' := [some (vr (some (5, this))), none, some (vi v2), none]) (st' := [vi (381 : Int32), vr (some (5, this))]) (M1 := M190) (pc' := 300) (tbr_World hγ) [.aload_n 0, .sipush 381] (by decide +kernel) rfl rfl trivial ?_
  obtain ⟨c193, c194, i192, c195, M191, eM191, h⟩ := h
  refine E_newa (f := 65) (i := i192) (by decide) (by decide) (FINr_lt hγ.1) c193 c194 c195 (by decide +kernel) ?_
  rw [← eM191]
  obtain ⟨M196, eM196, h⟩ := h
  refine E_putFR (k := 38) ⟨rfl, (by rw [hγ.1]; intro y hy; cases hy), by decide, _, rfl, by decide, rfl, rfl, (tbk_mem (j := 4) (k := 105) rfl)⟩ rfl (by decide +kernel) ?_
  rw [← eM196]
  refine E_blk (lv' := [some (vr (some (5, this))), none, some (vi v2), none]) (st' := [vi (51 : Int32), vr (some (5, this))]) (M1 := M196) (pc' := 308) (tbr_World hγ) [.aload_n 0, .bipush 51] (by decide +kernel) rfl rfl trivial ?_
  obtain ⟨c199, c200, i198, c201, M197, eM197, h⟩ := h
  refine E_newa (f := 77) (i := i198) (by decide) (by decide) (FINr_lt hγ.1) c199 c200 c201 (by decide +kernel) ?_
  rw [← eM197]
  obtain ⟨M202, eM202, h⟩ := h
  refine E_putFR (k := 59) ⟨rfl, (by rw [hγ.1]; intro y hy; cases hy), by decide, _, rfl, by decide, rfl, rfl, (tbk_mem (j := 4) (k := 193) rfl)⟩ rfl (by decide +kernel) ?_
  rw [← eM202]
  refine E_blk (lv' := [some (vr (some (5, this))), none, some (vi v2), none]) (st' := [vi (52 : Int32), vr (some (5, this))]) (M1 := M202) (pc' := 316) (tbr_World hγ) [.aload_n 0, .bipush 52] (by decide +kernel) rfl rfl trivial ?_
  obtain ⟨c205, c206, i204, c207, M203, eM203, h⟩ := h
  refine E_newa (f := 78) (i := i204) (by decide) (by decide) (FINr_lt hγ.1) c205 c206 c207 (by decide +kernel) ?_
  rw [← eM203]
  obtain ⟨M208, eM208, h⟩ := h
  refine E_putFR (k := 60) ⟨rfl, (by rw [hγ.1]; intro y hy; cases hy), by decide, _, rfl, by decide, rfl, rfl, (tbk_mem (j := 4) (k := 194) rfl)⟩ rfl (by decide +kernel) ?_
  rw [← eM208]
  refine E_blk (lv' := [some (vr (some (5, this))), none, some (vi v2), none]) (st' := [vr (some (5, this))]) (M1 := M208) (pc' := 322) (tbr_World hγ) [.aload_n 0] (by decide +kernel) rfl rfl trivial ?_
  obtain ⟨i210, c211, M209, eM209, h⟩ := h
  refine E_new (κ := k_World_init) (f := 6) (i := i210) (n := 38) (idx := 129) ⟨by decide, _, rfl, by decide, (tbk_mem (j := 2) (k := 194) rfl), (tbk_mem (j := 2) (k := 195) rfl), (tbk_mem (j := 1) (k := 18) rfl)⟩ (by rw [hγ.1]; intro y hy; cases hy) c211 (by decide +kernel) ?_
  rw [← eM209]
  refine E_blk (lv' := [some (vr (some (5, this))), none, some (vi v2), none]) (st' := [vr (mR M209 5 this 64), vr (some (6, i210)), vr (some (6, i210)), vr (some (5, this))]) (M1 := M209) (pc' := 330) (tbr_World hγ) [.dup, .aload_n 0, .getfield 3] (by decide +kernel) rfl rfl trivial ?_
  obtain ⟨i212, ei212, h⟩ := h
  rw [ei212]
  refine E_blk (lv' := [some (vr (some (5, this))), none, some (vi v2), none]) (st' := [vr (some (5, this)), vr (some (10, i212)), vr (some (6, i210)), vr (some (6, i210)), vr (some (5, this))]) (M1 := M209) (pc' := 331) (tbr_World hγ) [.aload_n 0] (by decide +kernel) rfl rfl trivial ?_
  refine E_callI (κ' := k_Machine_init) (As := [vr (some (10, i212)), vr (some (5, this))]) (st := [vr (some (6, i210)), vr (some (5, this))]) mi_Machine_init (Or.inl (tbk_mem (j := 2) (k := 196) rfl)) rfl (by decide +kernel) (Nat.le_of_ble_eq_true rfl) (Nat.le_of_ble_eq_true rfl) rfl (by decide) (lk_Machine_init hγ i210 i212 this _ M209 h) (fun _ _ => Qv_r) (fun v M213 hp => Qv_k (R := fun st => E γ k_World_init 3 334 [some (vr (some (5, this))), none, some (vi v2), none] st M213 (Qv Q)) hp (fun h => ?_))
  obtain ⟨M214, eM214, h⟩ := h
  refine E_putFR (k := 63) ⟨rfl, (by rw [hγ.1]; intro y hy; cases hy), by decide, _, rfl, by decide, rfl, rfl, (tbk_mem (j := 4) (k := 197) rfl)⟩ rfl (by decide +kernel) ?_
  rw [← eM214]
  refine E_mask [true, false, true, false] rfl ?_
  exact lk_World_init_j337 hγ this Q v2 M214 h
set_option maxRecDepth 4096 in
theorem lk_World_init_j190 {γ : Gm} (hγ : Gr γ) (this : Nat) (Q : Mem → Prop) (v2 : Int32) (M : Mem) (h : w_World_init_j190 this Q v2 M) : E γ k_World_init 3 190 [some (vr (some (5, this))), none, some (vi v2), none] [] M (Qv Q) := by
  unfold w_World_init_j190 at h
  refine E_blk (lv' := [some (vr (some (5, this))), none, some (vi v2), none]) (st' := [vi (381 : Int32), vr (some (5, this))]) (M1 := M) (pc' := 194) (tbr_World hγ) [.aload_n 0, .sipush 381] (by decide +kernel) rfl rfl trivial ?_
  obtain ⟨M124, eM124, h⟩ := h
  refine E_putFI (k := 25) ⟨rfl, (by rw [hγ.1]; intro y hy; cases hy), by decide, _, rfl, by decide, rfl, rfl, (tbk_mem (j := 4) (k := 45) rfl)⟩ rfl rfl (by decide +kernel) ?_
  rw [← eM124]
  refine E_blk (lv' := [some (vr (some (5, this))), none, some (vi v2), none]) (st' := [vi (381 : Int32), vr (some (5, this))]) (M1 := M124) (pc' := 201) (tbr_World hγ) [.aload_n 0, .sipush 381] (by decide +kernel) rfl rfl trivial ?_
  obtain ⟨c127, c128, i126, c129, M125, eM125, h⟩ := h
  refine E_newa (f := 55) (i := i126) (by decide) (by decide) (FINr_lt hγ.1) c127 c128 c129 (by decide +kernel) ?_
  rw [← eM125]
  obtain ⟨M130, eM130, h⟩ := h
  refine E_putFR (k := 27) ⟨rfl, (by rw [hγ.1]; intro y hy; cases hy), by decide, _, rfl, by decide, rfl, rfl, (tbk_mem (j := 4) (k := 48) rfl)⟩ rfl (by decide +kernel) ?_
  rw [← eM130]
  refine E_blk (lv' := [some (vr (some (5, this))), none, some (vi v2), none]) (st' := [vi (381 : Int32), vr (some (5, this))]) (M1 := M130) (pc' := 210) (tbr_World hγ) [.aload_n 0, .sipush 381] (by decide +kernel) rfl rfl trivial ?_
  obtain ⟨c133, c134, i132, c135, M131, eM131, h⟩ := h
  refine E_newa (f := 56) (i := i132) (by decide) (by decide) (FINr_lt hγ.1) c133 c134 c135 (by decide +kernel) ?_
  rw [← eM131]
  obtain ⟨M136, eM136, h⟩ := h
  refine E_putFR (k := 28) ⟨rfl, (by rw [hγ.1]; intro y hy; cases hy), by decide, _, rfl, by decide, rfl, rfl, (tbk_mem (j := 4) (k := 52) rfl)⟩ rfl (by decide +kernel) ?_
  rw [← eM136]
  refine E_blk (lv' := [some (vr (some (5, this))), none, some (vi v2), none]) (st' := [vi (381 : Int32), vr (some (5, this))]) (M1 := M136) (pc' := 219) (tbr_World hγ) [.aload_n 0, .sipush 381] (by decide +kernel) rfl rfl trivial ?_
  obtain ⟨c139, c140, i138, c141, M137, eM137, h⟩ := h
  refine E_newa (f := 57) (i := i138) (by decide) (by decide) (FINr_lt hγ.1) c139 c140 c141 (by decide +kernel) ?_
  rw [← eM137]
  obtain ⟨M142, eM142, h⟩ := h
  refine E_putFR (k := 29) ⟨rfl, (by rw [hγ.1]; intro y hy; cases hy), by decide, _, rfl, by decide, rfl, rfl, (tbk_mem (j := 4) (k := 58) rfl)⟩ rfl (by decide +kernel) ?_
  rw [← eM142]
  refine E_blk (lv' := [some (vr (some (5, this))), none, some (vi v2), none]) (st' := [vi (381 : Int32), vr (some (5, this))]) (M1 := M142) (pc' := 228) (tbr_World hγ) [.aload_n 0, .sipush 381] (by decide +kernel) rfl rfl trivial ?_
  obtain ⟨c145, c146, i144, c147, M143, eM143, h⟩ := h
  refine E_newa (f := 58) (i := i144) (by decide) (by decide) (FINr_lt hγ.1) c145 c146 c147 (by decide +kernel) ?_
  rw [← eM143]
  obtain ⟨M148, eM148, h⟩ := h
  refine E_putFR (k := 30) ⟨rfl, (by rw [hγ.1]; intro y hy; cases hy), by decide, _, rfl, by decide, rfl, rfl, (tbk_mem (j := 4) (k := 63) rfl)⟩ rfl (by decide +kernel) ?_
  rw [← eM148]
  refine E_blk (lv' := [some (vr (some (5, this))), none, some (vi v2), none]) (st' := [vi (2286 : Int32), vr (some (5, this))]) (M1 := M148) (pc' := 237) (tbr_World hγ) [.aload_n 0, .sipush 2286] (by decide +kernel) rfl rfl trivial ?_
  obtain ⟨c151, c152, i150, c153, M149, eM149, h⟩ := h
  refine E_newa (f := 211) (i := i150) (by decide) (by decide) (FINr_lt hγ.1) c151 c152 c153 (by decide +kernel) ?_
  rw [← eM149]
  obtain ⟨M154, eM154, h⟩ := h
  refine E_putFR (k := 31) ⟨rfl, (by rw [hγ.1]; intro y hy; cases hy), by decide, _, rfl, by decide, rfl, rfl, (tbk_mem (j := 4) (k := 69) rfl)⟩ rfl (by decide +kernel) ?_
  rw [← eM154]
  refine E_blk (lv' := [some (vr (some (5, this))), none, some (vi v2), none]) (st' := [vi (381 : Int32), vr (some (5, this))]) (M1 := M154) (pc' := 246) (tbr_World hγ) [.aload_n 0, .sipush 381] (by decide +kernel) rfl rfl trivial ?_
  obtain ⟨c157, c158, i156, c159, M155, eM155, h⟩ := h
  refine E_newa (f := 59) (i := i156) (by decide) (by decide) (FINr_lt hγ.1) c157 c158 c159 (by decide +kernel) ?_
  rw [← eM155]
  obtain ⟨M160, eM160, h⟩ := h
  refine E_putFR (k := 32) ⟨rfl, (by rw [hγ.1]; intro y hy; cases hy), by decide, _, rfl, by decide, rfl, rfl, (tbk_mem (j := 4) (k := 74) rfl)⟩ rfl (by decide +kernel) ?_
  rw [← eM160]
  refine E_blk (lv' := [some (vr (some (5, this))), none, some (vi v2), none]) (st' := [vi (381 : Int32), vr (some (5, this))]) (M1 := M160) (pc' := 255) (tbr_World hγ) [.aload_n 0, .sipush 381] (by decide +kernel) rfl rfl trivial ?_
  obtain ⟨c163, c164, i162, c165, M161, eM161, h⟩ := h
  refine E_newa (f := 60) (i := i162) (by decide) (by decide) (FINr_lt hγ.1) c163 c164 c165 (by decide +kernel) ?_
  rw [← eM161]
  obtain ⟨M166, eM166, h⟩ := h
  refine E_putFR (k := 33) ⟨rfl, (by rw [hγ.1]; intro y hy; cases hy), by decide, _, rfl, by decide, rfl, rfl, (tbk_mem (j := 4) (k := 79) rfl)⟩ rfl (by decide +kernel) ?_
  rw [← eM166]
  refine E_mask [true, false, true, false] rfl ?_
  exact lk_World_init_j260 hγ this Q v2 M166 h
set_option maxRecDepth 4096 in
theorem lk_World_init_j120 {γ : Gm} (hγ : Gr γ) (this : Nat) (Q : Mem → Prop) (v2 : Int32) (M : Mem) (h : w_World_init_j120 this Q v2 M) : E γ k_World_init 3 120 [some (vr (some (5, this))), none, some (vi v2), none] [] M (Qv Q) := by
  unfold w_World_init_j120 at h
  refine E_blk (lv' := [some (vr (some (5, this))), none, some (vi v2), none]) (st' := [vi (240 : Int32), vr (some (5, this))]) (M1 := M) (pc' := 124) (tbr_World hγ) [.aload_n 0, .sipush 240] (by decide +kernel) rfl rfl trivial ?_
  obtain ⟨M81, eM81, h⟩ := h
  refine E_putFI (k := 16) ⟨rfl, (by rw [hγ.1]; intro y hy; cases hy), by decide, _, rfl, by decide, rfl, rfl, (tbk_mem (j := 4) (k := 12) rfl)⟩ rfl rfl (by decide +kernel) ?_
  rw [← eM81]
  refine E_blk (lv' := [some (vr (some (5, this))), none, some (vi v2), none]) (st' := [vi (240 : Int32), vr (some (5, this))]) (M1 := M81) (pc' := 131) (tbr_World hγ) [.aload_n 0, .sipush 240] (by decide +kernel) rfl rfl trivial ?_
  obtain ⟨c84, c85, i83, c86, M82, eM82, h⟩ := h
  refine E_newa (f := 49) (i := i83) (by decide) (by decide) (FINr_lt hγ.1) c84 c85 c86 (by decide +kernel) ?_
  rw [← eM82]
  obtain ⟨M87, eM87, h⟩ := h
  refine E_putFR (k := 18) ⟨rfl, (by rw [hγ.1]; intro y hy; cases hy), by decide, _, rfl, by decide, rfl, rfl, (tbk_mem (j := 4) (k := 15) rfl)⟩ rfl (by decide +kernel) ?_
  rw [← eM87]
  refine E_blk (lv' := [some (vr (some (5, this))), none, some (vi v2), none]) (st' := [vi (240 : Int32), vr (some (5, this))]) (M1 := M87) (pc' := 140) (tbr_World hγ) [.aload_n 0, .sipush 240] (by decide +kernel) rfl rfl trivial ?_
  obtain ⟨c90, c91, i89, c92, M88, eM88, h⟩ := h
  refine E_newa (f := 50) (i := i89) (by decide) (by decide) (FINr_lt hγ.1) c90 c91 c92 (by decide +kernel) ?_
  rw [← eM88]
  obtain ⟨M93, eM93, h⟩ := h
  refine E_putFR (k := 19) ⟨rfl, (by rw [hγ.1]; intro y hy; cases hy), by decide, _, rfl, by decide, rfl, rfl, (tbk_mem (j := 4) (k := 19) rfl)⟩ rfl (by decide +kernel) ?_
  rw [← eM93]
  refine E_blk (lv' := [some (vr (some (5, this))), none, some (vi v2), none]) (st' := [vi (240 : Int32), vr (some (5, this))]) (M1 := M93) (pc' := 149) (tbr_World hγ) [.aload_n 0, .sipush 240] (by decide +kernel) rfl rfl trivial ?_
  obtain ⟨c96, c97, i95, c98, M94, eM94, h⟩ := h
  refine E_newa (f := 51) (i := i95) (by decide) (by decide) (FINr_lt hγ.1) c96 c97 c98 (by decide +kernel) ?_
  rw [← eM94]
  obtain ⟨M99, eM99, h⟩ := h
  refine E_putFR (k := 20) ⟨rfl, (by rw [hγ.1]; intro y hy; cases hy), by decide, _, rfl, by decide, rfl, rfl, (tbk_mem (j := 4) (k := 24) rfl)⟩ rfl (by decide +kernel) ?_
  rw [← eM99]
  refine E_blk (lv' := [some (vr (some (5, this))), none, some (vi v2), none]) (st' := [vi (240 : Int32), vr (some (5, this))]) (M1 := M99) (pc' := 158) (tbr_World hγ) [.aload_n 0, .sipush 240] (by decide +kernel) rfl rfl trivial ?_
  obtain ⟨c102, c103, i101, c104, M100, eM100, h⟩ := h
  refine E_newa (f := 52) (i := i101) (by decide) (by decide) (FINr_lt hγ.1) c102 c103 c104 (by decide +kernel) ?_
  rw [← eM100]
  obtain ⟨M105, eM105, h⟩ := h
  refine E_putFR (k := 21) ⟨rfl, (by rw [hγ.1]; intro y hy; cases hy), by decide, _, rfl, by decide, rfl, rfl, (tbk_mem (j := 4) (k := 29) rfl)⟩ rfl (by decide +kernel) ?_
  rw [← eM105]
  refine E_blk (lv' := [some (vr (some (5, this))), none, some (vi v2), none]) (st' := [vi (240 : Int32), vr (some (5, this))]) (M1 := M105) (pc' := 167) (tbr_World hγ) [.aload_n 0, .sipush 240] (by decide +kernel) rfl rfl trivial ?_
  obtain ⟨c108, c109, i107, c110, M106, eM106, h⟩ := h
  refine E_newa (f := 511) (i := i107) (by decide) (by decide) (FINr_lt hγ.1) c108 c109 c110 (by decide +kernel) ?_
  rw [← eM106]
  obtain ⟨M111, eM111, h⟩ := h
  refine E_putFR (k := 22) ⟨rfl, (by rw [hγ.1]; intro y hy; cases hy), by decide, _, rfl, by decide, rfl, rfl, (tbk_mem (j := 4) (k := 34) rfl)⟩ rfl (by decide +kernel) ?_
  rw [← eM111]
  refine E_blk (lv' := [some (vr (some (5, this))), none, some (vi v2), none]) (st' := [vi (240 : Int32), vr (some (5, this))]) (M1 := M111) (pc' := 176) (tbr_World hγ) [.aload_n 0, .sipush 240] (by decide +kernel) rfl rfl trivial ?_
  obtain ⟨c114, c115, i113, c116, M112, eM112, h⟩ := h
  refine E_newa (f := 53) (i := i113) (by decide) (by decide) (FINr_lt hγ.1) c114 c115 c116 (by decide +kernel) ?_
  rw [← eM112]
  obtain ⟨M117, eM117, h⟩ := h
  refine E_putFR (k := 23) ⟨rfl, (by rw [hγ.1]; intro y hy; cases hy), by decide, _, rfl, by decide, rfl, rfl, (tbk_mem (j := 4) (k := 38) rfl)⟩ rfl (by decide +kernel) ?_
  rw [← eM117]
  refine E_blk (lv' := [some (vr (some (5, this))), none, some (vi v2), none]) (st' := [vi (240 : Int32), vr (some (5, this))]) (M1 := M117) (pc' := 185) (tbr_World hγ) [.aload_n 0, .sipush 240] (by decide +kernel) rfl rfl trivial ?_
  obtain ⟨c120, c121, i119, c122, M118, eM118, h⟩ := h
  refine E_newa (f := 54) (i := i119) (by decide) (by decide) (FINr_lt hγ.1) c120 c121 c122 (by decide +kernel) ?_
  rw [← eM118]
  obtain ⟨M123, eM123, h⟩ := h
  refine E_putFR (k := 24) ⟨rfl, (by rw [hγ.1]; intro y hy; cases hy), by decide, _, rfl, by decide, rfl, rfl, (tbk_mem (j := 4) (k := 41) rfl)⟩ rfl (by decide +kernel) ?_
  rw [← eM123]
  refine E_mask [true, false, true, false] rfl ?_
  exact lk_World_init_j190 hγ this Q v2 M123 h
set_option maxRecDepth 4096 in
theorem lk_World_init_j56 {γ : Gm} (hγ : Gr γ) (this : Nat) (Q : Mem → Prop) (v2 : Int32) (M : Mem) (h : w_World_init_j56 this Q v2 M) : E γ k_World_init 3 56 [some (vr (some (5, this))), none, some (vi v2), none] [] M (Qv Q) := by
  unfold w_World_init_j56 at h
  refine E_blk (lv' := [some (vr (some (5, this))), none, some (vi v2), none]) (st' := [vi (51 : Int32), vr (some (5, this))]) (M1 := M) (pc' := 59) (tbr_World hγ) [.aload_n 0, .bipush 51] (by decide +kernel) rfl rfl trivial ?_
  obtain ⟨c35, c36, i34, c37, M33, eM33, h⟩ := h
  refine E_newa (f := 41) (i := i34) (by decide) (by decide) (FINr_lt hγ.1) c35 c36 c37 (by decide +kernel) ?_
  rw [← eM33]
  obtain ⟨M38, eM38, h⟩ := h
  refine E_putFR (k := 8) ⟨rfl, (by rw [hγ.1]; intro y hy; cases hy), by decide, _, rfl, by decide, rfl, rfl, (tbk_mem (j := 3) (k := 222) rfl)⟩ rfl (by decide +kernel) ?_
  rw [← eM38]
  refine E_blk (lv' := [some (vr (some (5, this))), none, some (vi v2), none]) (st' := [vi (51 : Int32), vr (some (5, this))]) (M1 := M38) (pc' := 67) (tbr_World hγ) [.aload_n 0, .bipush 51] (by decide +kernel) rfl rfl trivial ?_
  obtain ⟨c41, c42, i40, c43, M39, eM39, h⟩ := h
  refine E_newa (f := 42) (i := i40) (by decide) (by decide) (FINr_lt hγ.1) c41 c42 c43 (by decide +kernel) ?_
  rw [← eM39]
  obtain ⟨M44, eM44, h⟩ := h
  refine E_putFR (k := 9) ⟨rfl, (by rw [hγ.1]; intro y hy; cases hy), by decide, _, rfl, by decide, rfl, rfl, (tbk_mem (j := 3) (k := 227) rfl)⟩ rfl (by decide +kernel) ?_
  rw [← eM44]
  refine E_blk (lv' := [some (vr (some (5, this))), none, some (vi v2), none]) (st' := [vi (51 : Int32), vr (some (5, this))]) (M1 := M44) (pc' := 75) (tbr_World hγ) [.aload_n 0, .bipush 51] (by decide +kernel) rfl rfl trivial ?_
  obtain ⟨c47, c48, i46, c49, M45, eM45, h⟩ := h
  refine E_newa (f := 43) (i := i46) (by decide) (by decide) (FINr_lt hγ.1) c47 c48 c49 (by decide +kernel) ?_
  rw [← eM45]
  obtain ⟨M50, eM50, h⟩ := h
  refine E_putFR (k := 10) ⟨rfl, (by rw [hγ.1]; intro y hy; cases hy), by decide, _, rfl, by decide, rfl, rfl, (tbk_mem (j := 3) (k := 232) rfl)⟩ rfl (by decide +kernel) ?_
  rw [← eM50]
  refine E_blk (lv' := [some (vr (some (5, this))), none, some (vi v2), none]) (st' := [vi (51 : Int32), vr (some (5, this))]) (M1 := M50) (pc' := 83) (tbr_World hγ) [.aload_n 0, .bipush 51] (by decide +kernel) rfl rfl trivial ?_
  obtain ⟨c53, c54, i52, c55, M51, eM51, h⟩ := h
  refine E_newa (f := 44) (i := i52) (by decide) (by decide) (FINr_lt hγ.1) c53 c54 c55 (by decide +kernel) ?_
  rw [← eM51]
  obtain ⟨M56, eM56, h⟩ := h
  refine E_putFR (k := 11) ⟨rfl, (by rw [hγ.1]; intro y hy; cases hy), by decide, _, rfl, by decide, rfl, rfl, (tbk_mem (j := 3) (k := 238) rfl)⟩ rfl (by decide +kernel) ?_
  rw [← eM56]
  refine E_blk (lv' := [some (vr (some (5, this))), none, some (vi v2), none]) (st' := [vi (51 : Int32), vr (some (5, this))]) (M1 := M56) (pc' := 91) (tbr_World hγ) [.aload_n 0, .bipush 51] (by decide +kernel) rfl rfl trivial ?_
  obtain ⟨c59, c60, i58, c61, M57, eM57, h⟩ := h
  refine E_newa (f := 45) (i := i58) (by decide) (by decide) (FINr_lt hγ.1) c59 c60 c61 (by decide +kernel) ?_
  rw [← eM57]
  obtain ⟨M62, eM62, h⟩ := h
  refine E_putFR (k := 12) ⟨rfl, (by rw [hγ.1]; intro y hy; cases hy), by decide, _, rfl, by decide, rfl, rfl, (tbk_mem (j := 4) (k := 4) rfl)⟩ rfl (by decide +kernel) ?_
  rw [← eM62]
  refine E_blk (lv' := [some (vr (some (5, this))), none, some (vi v2), none]) (st' := [vi (51 : Int32), vr (some (5, this))]) (M1 := M62) (pc' := 99) (tbr_World hγ) [.aload_n 0, .bipush 51] (by decide +kernel) rfl rfl trivial ?_
  obtain ⟨c65, c66, i64, c67, M63, eM63, h⟩ := h
  refine E_newa (f := 46) (i := i64) (by decide) (by decide) (FINr_lt hγ.1) c65 c66 c67 (by decide +kernel) ?_
  rw [← eM63]
  obtain ⟨M68, eM68, h⟩ := h
  refine E_putFR (k := 13) ⟨rfl, (by rw [hγ.1]; intro y hy; cases hy), by decide, _, rfl, by decide, rfl, rfl, (tbk_mem (j := 4) (k := 6) rfl)⟩ rfl (by decide +kernel) ?_
  rw [← eM68]
  refine E_blk (lv' := [some (vr (some (5, this))), none, some (vi v2), none]) (st' := [vi (51 : Int32), vr (some (5, this))]) (M1 := M68) (pc' := 107) (tbr_World hγ) [.aload_n 0, .bipush 51] (by decide +kernel) rfl rfl trivial ?_
  obtain ⟨c71, c72, i70, c73, M69, eM69, h⟩ := h
  refine E_newa (f := 47) (i := i70) (by decide) (by decide) (FINr_lt hγ.1) c71 c72 c73 (by decide +kernel) ?_
  rw [← eM69]
  obtain ⟨M74, eM74, h⟩ := h
  refine E_putFR (k := 14) ⟨rfl, (by rw [hγ.1]; intro y hy; cases hy), by decide, _, rfl, by decide, rfl, rfl, (tbk_mem (j := 4) (k := 9) rfl)⟩ rfl (by decide +kernel) ?_
  rw [← eM74]
  refine E_blk (lv' := [some (vr (some (5, this))), none, some (vi v2), none]) (st' := [vi (51 : Int32), vr (some (5, this))]) (M1 := M74) (pc' := 115) (tbr_World hγ) [.aload_n 0, .bipush 51] (by decide +kernel) rfl rfl trivial ?_
  obtain ⟨c77, c78, i76, c79, M75, eM75, h⟩ := h
  refine E_newa (f := 48) (i := i76) (by decide) (by decide) (FINr_lt hγ.1) c77 c78 c79 (by decide +kernel) ?_
  rw [← eM75]
  obtain ⟨M80, eM80, h⟩ := h
  refine E_putFR (k := 15) ⟨rfl, (by rw [hγ.1]; intro y hy; cases hy), by decide, _, rfl, by decide, rfl, rfl, (tbk_mem (j := 4) (k := 10) rfl)⟩ rfl (by decide +kernel) ?_
  rw [← eM80]
  refine E_mask [true, false, true, false] rfl ?_
  exact lk_World_init_j120 hγ this Q v2 M80 h
set_option maxRecDepth 4096 in
theorem lk_World_init {γ : Gm} (hγ : Gr γ) (this : Nat) (a1 : Nat) (a2 : Int32) (Q : Mem → Prop) (M : Mem) (h : w_World_init this a1 a2 Q M) : E γ k_World_init 3 0 [some (vr (some (5, this))), some (vr (some (10, a1))), some (vi a2), none] [] M (Qv Q) := by
  unfold w_World_init at h
  refine E_blk (lv' := [some (vr (some (5, this))), some (vr (some (10, a1))), some (vi a2), none]) (st' := [vr (some (10, a1)), vr (some (5, this))]) (M1 := M) (pc' := 2) (tbr_World hγ) [.aload_n 0, .aload_n 1] (by decide +kernel) rfl rfl trivial ?_
  obtain ⟨M1, eM1, h⟩ := h
  refine E_putFR (k := 64) ⟨rfl, (by rw [hγ.1]; intro y hy; cases hy), by decide, _, rfl, by decide, rfl, rfl, (tbk_mem (j := 4) (k := 199) rfl)⟩ rfl (by decide +kernel) ?_
  rw [← eM1]
  refine E_blk (lv' := [some (vr (some (5, this))), some (vr (some (10, a1))), some (vi a2), none]) (st' := [vr (some (5, this))]) (M1 := M1) (pc' := 6) (tbr_World hγ) [.aload_n 0] (by decide +kernel) rfl rfl trivial ?_
  refine E_objI (κ := k_World_init) (pc := 6) (idx := 9) (tbk_mem (j := 2) (k := 193) rfl) (by decide +kernel) (Nat.le_of_ble_eq_true rfl) ?_
  refine E_blk (lv' := [some (vr (some (5, this))), some (vr (some (10, a1))), some (vi a2), none]) (st' := [vi (51 : Int32), vr (some (5, this))]) (M1 := M1) (pc' := 12) (tbr_World hγ) [.aload_n 0, .bipush 51] (by decide +kernel) rfl rfl trivial ?_
  obtain ⟨M2, eM2, h⟩ := h
  refine E_putFI (k := 0) ⟨rfl, (by rw [hγ.1]; intro y hy; cases hy), by decide, _, rfl, by decide, rfl, rfl, (tbk_mem (j := 3) (k := 193) rfl)⟩ rfl rfl (by decide +kernel) ?_
  rw [← eM2]
  refine E_blk (lv' := [some (vr (some (5, this))), some (vr (some (10, a1))), some (vi a2), none]) (st' := [vi (51 : Int32), vr (some (5, this))]) (M1 := M2) (pc' := 18) (tbr_World hγ) [.aload_n 0, .bipush 51] (by decide +kernel) rfl rfl trivial ?_
  obtain ⟨c5, c6, i4, c7, M3, eM3, h⟩ := h
  refine E_newa (f := 36) (i := i4) (by decide) (by decide) (FINr_lt hγ.1) c5 c6 c7 (by decide +kernel) ?_
  rw [← eM3]
  obtain ⟨M8, eM8, h⟩ := h
  refine E_putFR (k := 3) ⟨rfl, (by rw [hγ.1]; intro y hy; cases hy), by decide, _, rfl, by decide, rfl, rfl, (tbk_mem (j := 3) (k := 200) rfl)⟩ rfl (by decide +kernel) ?_
  rw [← eM8]
  refine E_blk (lv' := [some (vr (some (5, this))), some (vr (some (10, a1))), some (vi a2), none]) (st' := [vi (51 : Int32), vr (some (5, this))]) (M1 := M8) (pc' := 26) (tbr_World hγ) [.aload_n 0, .bipush 51] (by decide +kernel) rfl rfl trivial ?_
  obtain ⟨c11, c12, i10, c13, M9, eM9, h⟩ := h
  refine E_newa (f := 37) (i := i10) (by decide) (by decide) (FINr_lt hγ.1) c11 c12 c13 (by decide +kernel) ?_
  rw [← eM9]
  obtain ⟨M14, eM14, h⟩ := h
  refine E_putFR (k := 4) ⟨rfl, (by rw [hγ.1]; intro y hy; cases hy), by decide, _, rfl, by decide, rfl, rfl, (tbk_mem (j := 3) (k := 204) rfl)⟩ rfl (by decide +kernel) ?_
  rw [← eM14]
  refine E_blk (lv' := [some (vr (some (5, this))), some (vr (some (10, a1))), some (vi a2), none]) (st' := [vi (204 : Int32), vr (some (5, this))]) (M1 := M14) (pc' := 35) (tbr_World hγ) [.aload_n 0, .sipush 204] (by decide +kernel) rfl rfl trivial ?_
  obtain ⟨c17, c18, i16, c19, M15, eM15, h⟩ := h
  refine E_newa (f := 38) (i := i16) (by decide) (by decide) (FINr_lt hγ.1) c17 c18 c19 (by decide +kernel) ?_
  rw [← eM15]
  obtain ⟨M20, eM20, h⟩ := h
  refine E_putFR (k := 5) ⟨rfl, (by rw [hγ.1]; intro y hy; cases hy), by decide, _, rfl, by decide, rfl, rfl, (tbk_mem (j := 3) (k := 207) rfl)⟩ rfl (by decide +kernel) ?_
  rw [← eM20]
  refine E_blk (lv' := [some (vr (some (5, this))), some (vr (some (10, a1))), some (vi a2), none]) (st' := [vi (51 : Int32), vr (some (5, this))]) (M1 := M20) (pc' := 43) (tbr_World hγ) [.aload_n 0, .bipush 51] (by decide +kernel) rfl rfl trivial ?_
  obtain ⟨c23, c24, i22, c25, M21, eM21, h⟩ := h
  refine E_newa (f := 39) (i := i22) (by decide) (by decide) (FINr_lt hγ.1) c23 c24 c25 (by decide +kernel) ?_
  rw [← eM21]
  obtain ⟨M26, eM26, h⟩ := h
  refine E_putFR (k := 6) ⟨rfl, (by rw [hγ.1]; intro y hy; cases hy), by decide, _, rfl, by decide, rfl, rfl, (tbk_mem (j := 3) (k := 212) rfl)⟩ rfl (by decide +kernel) ?_
  rw [← eM26]
  refine E_blk (lv' := [some (vr (some (5, this))), some (vr (some (10, a1))), some (vi a2), none]) (st' := [vi (51 : Int32), vr (some (5, this))]) (M1 := M26) (pc' := 51) (tbr_World hγ) [.aload_n 0, .bipush 51] (by decide +kernel) rfl rfl trivial ?_
  obtain ⟨c29, c30, i28, c31, M27, eM27, h⟩ := h
  refine E_newa (f := 40) (i := i28) (by decide) (by decide) (FINr_lt hγ.1) c29 c30 c31 (by decide +kernel) ?_
  rw [← eM27]
  obtain ⟨M32, eM32, h⟩ := h
  refine E_putFR (k := 7) ⟨rfl, (by rw [hγ.1]; intro y hy; cases hy), by decide, _, rfl, by decide, rfl, rfl, (tbk_mem (j := 3) (k := 217) rfl)⟩ rfl (by decide +kernel) ?_
  rw [← eM32]
  refine E_mask [true, false, true, false] rfl ?_
  exact lk_World_init_j56 hγ this Q a2 M32 h
def w_Writer_init (this : Nat) (a1 : Nat) (Q : Mem → Prop) (M : Mem) : Prop :=
  ∃ M1, M1 = sR M 8 this 6 (some (10, a1)) ∧ ¬ (26000 : Int32) < 0 ∧ (26000 : Int32).toNatClampNeg ≤ 60000000 ∧ ∃ i3, (410, i3) ∉ mN M1 ∧ ∃ M2, M2 = mk M1 410 i3 (26000 : Int32).toNatClampNeg ∧ ∃ M7, M7 = sR M2 8 this 0 (some (410, i3)) ∧ ¬ (81 : Int32) < 0 ∧ (81 : Int32).toNatClampNeg ≤ 60000000 ∧ ∃ i9, (96, i9) ∉ mN M7 ∧ ∃ M8, M8 = mk M7 96 i9 (81 : Int32).toNatClampNeg ∧ ∃ M13, M13 = sR M8 8 this 4 (some (96, i9)) ∧ Q M13
set_option maxRecDepth 4096 in
theorem lk_Writer_init {γ : Gm} (hγ : Gr γ) (this : Nat) (a1 : Nat) (Q : Mem → Prop) (M : Mem) (h : w_Writer_init this a1 Q M) : E γ k_Writer_init 1 0 [some (vr (some (8, this))), some (vr (some (10, a1)))] [] M (Qv Q) := by
  unfold w_Writer_init at h
  refine E_blk (lv' := [some (vr (some (8, this))), some (vr (some (10, a1)))]) (st' := [vr (some (10, a1)), vr (some (8, this))]) (M1 := M) (pc' := 2) (tbr_Writer hγ) [.aload_n 0, .aload_n 1] (by decide +kernel) rfl rfl trivial ?_
  obtain ⟨M1, eM1, h⟩ := h
  refine E_putFR (k := 6) ⟨rfl, (by rw [hγ.1]; intro y hy; cases hy), by decide, _, rfl, by decide, rfl, rfl, (tbk_mem (j := 5) (k := 109) rfl)⟩ rfl (by decide +kernel) ?_
  rw [← eM1]
  refine E_blk (lv' := [some (vr (some (8, this))), some (vr (some (10, a1)))]) (st' := [vr (some (8, this))]) (M1 := M1) (pc' := 6) (tbr_Writer hγ) [.aload_n 0] (by decide +kernel) rfl rfl trivial ?_
  refine E_objI (κ := k_Writer_init) (pc := 6) (idx := 9) (tbk_mem (j := 5) (k := 100) rfl) (by decide +kernel) (Nat.le_of_ble_eq_true rfl) ?_
  refine E_blk (lv' := [some (vr (some (8, this))), some (vr (some (10, a1)))]) (st' := [vi (26000 : Int32), vr (some (8, this))]) (M1 := M1) (pc' := 13) (tbr_Writer hγ) [.aload_n 0, .sipush 26000] (by decide +kernel) rfl rfl trivial ?_
  obtain ⟨c4, c5, i3, c6, M2, eM2, h⟩ := h
  refine E_newa (f := 410) (i := i3) (by decide) (by decide) (FINr_lt hγ.1) c4 c5 c6 (by decide +kernel) ?_
  rw [← eM2]
  obtain ⟨M7, eM7, h⟩ := h
  refine E_putFR (k := 0) ⟨rfl, (by rw [hγ.1]; intro y hy; cases hy), by decide, _, rfl, by decide, rfl, rfl, (tbk_mem (j := 5) (k := 101) rfl)⟩ rfl (by decide +kernel) ?_
  rw [← eM7]
  refine E_blk (lv' := [some (vr (some (8, this))), some (vr (some (10, a1)))]) (st' := [vi (81 : Int32), vr (some (8, this))]) (M1 := M7) (pc' := 21) (tbr_Writer hγ) [.aload_n 0, .bipush 81] (by decide +kernel) rfl rfl trivial ?_
  obtain ⟨c10, c11, i9, c12, M8, eM8, h⟩ := h
  refine E_newa (f := 96) (i := i9) (by decide) (by decide) (FINr_lt hγ.1) c10 c11 c12 (by decide +kernel) ?_
  rw [← eM8]
  obtain ⟨M13, eM13, h⟩ := h
  refine E_putFR (k := 4) ⟨rfl, (by rw [hγ.1]; intro y hy; cases hy), by decide, _, rfl, by decide, rfl, rfl, (tbk_mem (j := 5) (k := 107) rfl)⟩ rfl (by decide +kernel) ?_
  rw [← eM13]
  exact E_vret rfl (by decide +kernel) h
def w_Works_init_j266 (this : Nat) (Q : Mem → Prop)  (M : Mem) : Prop :=
  ¬ (256 : Int32) < 0 ∧ (256 : Int32).toNatClampNeg ≤ 60000000 ∧ ∃ i143, (103, i143) ∉ mN M ∧ ∃ M142, M142 = mk M 103 i143 (256 : Int32).toNatClampNeg ∧ ∃ M147, M147 = sR M142 10 this 28 (some (103, i143)) ∧ ¬ (256 : Int32) < 0 ∧ (256 : Int32).toNatClampNeg ≤ 60000000 ∧ ∃ i149, (104, i149) ∉ mN M147 ∧ ∃ M148, M148 = mk M147 104 i149 (256 : Int32).toNatClampNeg ∧ ∃ M153, M153 = sR M148 10 this 29 (some (104, i149)) ∧ Q M153
def w_Works_init_j209 (this : Nat) (Q : Mem → Prop)  (M : Mem) : Prop :=
  ∃ i115, (8, i115) ∉ mN (sI M 10 this 21 (-2 : Int32)) ∧ ∃ M114, M114 = mk (sI M 10 this 21 (-2 : Int32)) 8 i115 7 ∧ w_Writer_init i115 this (fun M117 => ∃ M118, M118 = sR M117 10 this 22 (some (8, i115)) ∧ ∃ i120, (4, i120) ∉ mN M118 ∧ ∃ M119, M119 = mk M118 4 i120 19 ∧ w_Checker_init i120 this (fun M122 => ∃ M123, M123 = sR M122 10 this 23 (some (4, i120)) ∧ ¬ (381 : Int32) < 0 ∧ (381 : Int32).toNatClampNeg ≤ 60000000 ∧ ∃ i125, (101, i125) ∉ mN M123 ∧ ∃ M124, M124 = mk M123 101 i125 (381 : Int32).toNatClampNeg ∧ ∃ M129, M129 = sR M124 10 this 24 (some (101, i125)) ∧ ¬ (381 : Int32) < 0 ∧ (381 : Int32).toNatClampNeg ≤ 60000000 ∧ ∃ i131, (102, i131) ∉ mN M129 ∧ ∃ M130, M130 = mk M129 102 i131 (381 : Int32).toNatClampNeg ∧ ∃ M135, M135 = sR M130 10 this 25 (some (102, i131)) ∧ ¬ (381 : Int32) < 0 ∧ (381 : Int32).toNatClampNeg ≤ 60000000 ∧ ∃ i137, (517, i137) ∉ mN M135 ∧ ∃ M136, M136 = mk M135 517 i137 (381 : Int32).toNatClampNeg ∧ ∃ M141, M141 = sR M136 10 this 26 (some (517, i137)) ∧ w_Works_init_j266 this Q  M141) M119) M114
def w_Works_init_j110 (this : Nat) (Q : Mem → Prop)  (M : Mem) : Prop :=
  ¬ (40 : Int32) < 0 ∧ (40 : Int32).toNatClampNeg ≤ 60000000 ∧ ∃ i55, (98, i55) ∉ mN M ∧ ∃ M54, M54 = mk M 98 i55 (40 : Int32).toNatClampNeg ∧ ∃ M59, M59 = sR M54 10 this 12 (some (98, i55)) ∧ ¬ (360 : Int32) < 0 ∧ (360 : Int32).toNatClampNeg ≤ 60000000 ∧ ∃ i61, (516, i61) ∉ mN M59 ∧ ∃ M60, M60 = mk M59 516 i61 (360 : Int32).toNatClampNeg ∧ ∃ M65, M65 = sR M60 10 this 13 (some (516, i61)) ∧ ¬ (360 : Int32) < 0 ∧ (360 : Int32).toNatClampNeg ≤ 60000000 ∧ ∃ i67, (99, i67) ∉ mN M65 ∧ ∃ M66, M66 = mk M65 99 i67 (360 : Int32).toNatClampNeg ∧ ∃ M71, M71 = sR M66 10 this 14 (some (99, i67)) ∧ ¬ (360 : Int32) < 0 ∧ (360 : Int32).toNatClampNeg ≤ 60000000 ∧ ∃ i73, (100, i73) ∉ mN M71 ∧ ∃ M72, M72 = mk M71 100 i73 (360 : Int32).toNatClampNeg ∧ ∃ M77, M77 = sR M72 10 this 15 (some (100, i73)) ∧ ¬ (1260 : Int32) < 0 ∧ (1260 : Int32).toNatClampNeg ≤ 60000000 ∧ ∃ i79, (400, i79) ∉ mN M77 ∧ ∃ M78, M78 = mk M77 400 i79 (1260 : Int32).toNatClampNeg ∧ ∃ M83, M83 = sR M78 10 this 18 (some (400, i79)) ∧ ¬ (3 : Int32) < 0 ∧ (3 : Int32).toNatClampNeg ≤ 60000000 ∧ ∃ i85, (702, i85) ∉ mN M83 ∧ ∃ M84, M84 = mk M83 702 i85 (3 : Int32).toNatClampNeg ∧ ∃ M89, M89 = sR M84 10 this 19 (some (702, i85)) ∧ ¬ (3 : Int32) < 0 ∧ (3 : Int32).toNatClampNeg ≤ 60000000 ∧ ∃ i91, (702, i91) ∉ mN M89 ∧ ∃ M90, M90 = mk M89 702 i91 (3 : Int32).toNatClampNeg ∧ ∃ i96, (5, i96) ∉ mN M90 ∧ ∃ M95, M95 = mk M90 5 i96 65 ∧ w_World_init i96 this (82000 : Int32) (fun M98 => vp_in (0 : Int32) (mL M98 702 i91) ∧ ∃ M100, M100 = sR M98 702 i91 (0 : Int32).toNatClampNeg (some (5, i96)) ∧ ∃ i102, (5, i102) ∉ mN M100 ∧ ∃ M101, M101 = mk M100 5 i102 65 ∧ w_World_init i102 this (82000 : Int32) (fun M104 => vp_in (1 : Int32) (mL M104 702 i91) ∧ ∃ M106, M106 = sR M104 702 i91 (1 : Int32).toNatClampNeg (some (5, i102)) ∧ ∃ i108, (5, i108) ∉ mN M106 ∧ ∃ M107, M107 = mk M106 5 i108 65 ∧ w_World_init i108 this (82000 : Int32) (fun M110 => vp_in (2 : Int32) (mL M110 702 i91) ∧ ∃ M112, M112 = sR M110 702 i91 (2 : Int32).toNatClampNeg (some (5, i108)) ∧ ∃ M113, M113 = sR M112 10 this 20 (some (702, i91)) ∧ w_Works_init_j209 this Q  M113) M107) M101) M95
def w_Works_init_j52 (this : Nat) (Q : Mem → Prop)  (M : Mem) : Prop :=
  ∃ i30, (3, i30) ∉ mN M ∧ ∃ M29, M29 = mk M 3 i30 24 ∧ w_Reader_init i30 this (fun M32 => ∃ M33, M33 = sR M32 10 this 6 (some (3, i30)) ∧ ∃ i35, (4, i35) ∉ mN M33 ∧ ∃ M34, M34 = mk M33 4 i35 19 ∧ w_Checker_init i35 this (fun M37 => ∃ M38, M38 = sR M37 10 this 7 (some (4, i35)) ∧ ∃ i40, (5, i40) ∉ mN (sI M38 10 this 8 (60000 : Int32)) ∧ ∃ M39, M39 = mk (sI M38 10 this 8 (60000 : Int32)) 5 i40 65 ∧ w_World_init i40 this (1300 : Int32) (fun M42 => ∃ M43, M43 = sR M42 10 this 9 (some (5, i40)) ∧ ¬ (40 : Int32) < 0 ∧ ¬ (1260 : Int32) < 0 ∧ (40 : Int32).toNatClampNeg ≤ 1000000 ∧ (1260 : Int32).toNatClampNeg ≤ 1000000 ∧ ∃ i50, (701, i50) ∉ mN M43 ∧ ∃ i51, (∀ t, t < (40 : Int32).toNatClampNeg → (400, i51 + t) ∉ mN M43) ∧ ∃ M52, M52 = mmk M43 701 i50 (40 : Int32).toNatClampNeg 400 i51 (1260 : Int32).toNatClampNeg (40 : Int32).toNatClampNeg ∧ ∃ M53, M53 = sR M52 10 this 11 (some (701, i50)) ∧ w_Works_init_j110 this Q  M53) M39) M34) M29
def w_Works_init (this : Nat) (Q : Mem → Prop) (M : Mem) : Prop :=
  ¬ (6000 : Int32) < 0 ∧ (6000 : Int32).toNatClampNeg ≤ 60000000 ∧ ∃ i2, (400, i2) ∉ mN M ∧ ∃ M1, M1 = mk M 400 i2 (6000 : Int32).toNatClampNeg ∧ ∃ M6, M6 = sR M1 10 this 0 (some (400, i2)) ∧ ∃ i8, (1, i8) ∉ mN M6 ∧ ∃ M7, M7 = mk M6 1 i8 5 ∧ w_Names_init i8 (fun M10 => ∃ M11, M11 = sR M10 10 this 2 (some (1, i8)) ∧ ¬ (51 : Int32) < 0 ∧ (51 : Int32).toNatClampNeg ≤ 60000000 ∧ ∃ i13, (515, i13) ∉ mN M11 ∧ ∃ M12, M12 = mk M11 515 i13 (51 : Int32).toNatClampNeg ∧ ∃ M17, M17 = sR M12 10 this 3 (some (515, i13)) ∧ ¬ (255 : Int32) < 0 ∧ (255 : Int32).toNatClampNeg ≤ 60000000 ∧ ∃ i19, (97, i19) ∉ mN M17 ∧ ∃ M18, M18 = mk M17 97 i19 (255 : Int32).toNatClampNeg ∧ ∃ M23, M23 = sR M18 10 this 4 (some (97, i19)) ∧ ∃ i25, (9, i25) ∉ mN M23 ∧ ∃ M24, M24 = mk M23 9 i25 8 ∧ w_Refusal_init i25 (fun M27 => ∃ M28, M28 = sR M27 10 this 5 (some (9, i25)) ∧ w_Works_init_j52 this Q  M28) M24) M7
set_option maxRecDepth 4096 in
theorem lk_Works_init_j266 {γ : Gm} (hγ : Gr γ) (this : Nat) (Q : Mem → Prop)  (M : Mem) (h : w_Works_init_j266 this Q  M) : E γ k_Works_init 5 266 [some (vr (some (10, this)))] [] M (Qv Q) := by
  unfold w_Works_init_j266 at h
  refine E_blk (lv' := [some (vr (some (10, this)))]) (st' := [vi (256 : Int32), vr (some (10, this))]) (M1 := M) (pc' := 270) (tbr_Works hγ) [.aload_n 0, .sipush 256] (by decide +kernel) rfl rfl trivial ?_
  obtain ⟨c144, c145, i143, c146, M142, eM142, h⟩ := h
  refine E_newa (f := 103) (i := i143) (by decide) (by decide) (FINr_lt hγ.1) c144 c145 c146 (by decide +kernel) ?_
  rw [← eM142]
  obtain ⟨M147, eM147, h⟩ := h
  refine E_putFR (k := 28) ⟨rfl, (by rw [hγ.1]; intro y hy; cases hy), by decide, _, rfl, by decide, rfl, rfl, (tbk_mem (j := 5) (k := 159) rfl)⟩ rfl (by decide +kernel) ?_
  rw [← eM147]
  refine E_blk (lv' := [some (vr (some (10, this)))]) (st' := [vi (256 : Int32), vr (some (10, this))]) (M1 := M147) (pc' := 279) (tbr_Works hγ) [.aload_n 0, .sipush 256] (by decide +kernel) rfl rfl trivial ?_
  obtain ⟨c150, c151, i149, c152, M148, eM148, h⟩ := h
  refine E_newa (f := 104) (i := i149) (by decide) (by decide) (FINr_lt hγ.1) c150 c151 c152 (by decide +kernel) ?_
  rw [← eM148]
  obtain ⟨M153, eM153, h⟩ := h
  refine E_putFR (k := 29) ⟨rfl, (by rw [hγ.1]; intro y hy; cases hy), by decide, _, rfl, by decide, rfl, rfl, (tbk_mem (j := 5) (k := 160) rfl)⟩ rfl (by decide +kernel) ?_
  rw [← eM153]
  exact E_vret rfl (by decide +kernel) h
set_option maxRecDepth 4096 in
theorem lk_Works_init_j209 {γ : Gm} (hγ : Gr γ) (this : Nat) (Q : Mem → Prop)  (M : Mem) (h : w_Works_init_j209 this Q  M) : E γ k_Works_init 5 209 [some (vr (some (10, this)))] [] M (Qv Q) := by
  unfold w_Works_init_j209 at h
  refine E_blk (lv' := [some (vr (some (10, this)))]) (st' := [vr (some (10, this))]) (M1 := (sI M 10 this 21 (-2 : Int32))) (pc' := 216) (tbr_Works hγ) [.aload_n 0, .bipush (.negSucc 1), .putfield 93, .aload_n 0] (by decide +kernel) rfl rfl trivial ?_
  obtain ⟨i115, c116, M114, eM114, h⟩ := h
  refine E_new (κ := k_Works_init) (f := 8) (i := i115) (n := 7) (idx := 96) ⟨by decide, _, rfl, by decide, (tbk_mem (j := 5) (k := 95) rfl), (tbk_mem (j := 5) (k := 96) rfl), (tbk_mem (j := 1) (k := 20) rfl)⟩ (by rw [hγ.1]; intro y hy; cases hy) c116 (by decide +kernel) ?_
  rw [← eM114]
  refine E_blk (lv' := [some (vr (some (10, this)))]) (st' := [vr (some (10, this)), vr (some (8, i115)), vr (some (8, i115)), vr (some (10, this))]) (M1 := M114) (pc' := 221) (tbr_Works hγ) [.dup, .aload_n 0] (by decide +kernel) rfl rfl trivial ?_
  refine E_callI (κ' := k_Writer_init) (As := [vr (some (10, this))]) (st := [vr (some (8, i115)), vr (some (10, this))]) mi_Writer_init (Or.inr ⟨"ClassWorks", (tbk_mem (j := 5) (k := 97) rfl)⟩) rfl (by decide +kernel) (Nat.le_of_ble_eq_true rfl) (Nat.le_of_ble_eq_true rfl) rfl (by decide) (lk_Writer_init hγ i115 this _ M114 h) (fun _ _ => Qv_r) (fun v M117 hp => Qv_k (R := fun st => E γ k_Works_init 5 224 [some (vr (some (10, this)))] st M117 (Qv Q)) hp (fun h => ?_))
  obtain ⟨M118, eM118, h⟩ := h
  refine E_putFR (k := 22) ⟨rfl, (by rw [hγ.1]; intro y hy; cases hy), by decide, _, rfl, by decide, rfl, rfl, (tbk_mem (j := 5) (k := 153) rfl)⟩ rfl (by decide +kernel) ?_
  rw [← eM118]
  refine E_blk (lv' := [some (vr (some (10, this)))]) (st' := [vr (some (10, this))]) (M1 := M118) (pc' := 228) (tbr_Works hγ) [.aload_n 0] (by decide +kernel) rfl rfl trivial ?_
  obtain ⟨i120, c121, M119, eM119, h⟩ := h
  refine E_new (κ := k_Works_init) (f := 4) (i := i120) (n := 19) (idx := 44) ⟨by decide, _, rfl, by decide, (tbk_mem (j := 2) (k := 123) rfl), (tbk_mem (j := 2) (k := 124) rfl), (tbk_mem (j := 1) (k := 16) rfl)⟩ (by rw [hγ.1]; intro y hy; cases hy) c121 (by decide +kernel) ?_
  rw [← eM119]
  refine E_blk (lv' := [some (vr (some (10, this)))]) (st' := [vr (some (10, this)), vr (some (4, i120)), vr (some (4, i120)), vr (some (10, this))]) (M1 := M119) (pc' := 233) (tbr_Works hγ) [.dup, .aload_n 0] (by decide +kernel) rfl rfl trivial ?_
  refine E_callI (κ' := k_Checker_init) (As := [vr (some (10, this))]) (st := [vr (some (4, i120)), vr (some (10, this))]) mi_Checker_init (Or.inr ⟨"ClassWorks", (tbk_mem (j := 2) (k := 125) rfl)⟩) rfl (by decide +kernel) (Nat.le_of_ble_eq_true rfl) (Nat.le_of_ble_eq_true rfl) rfl (by decide) (lk_Checker_init hγ i120 this _ M119 h) (fun _ _ => Qv_r) (fun v M122 hp => Qv_k (R := fun st => E γ k_Works_init 5 236 [some (vr (some (10, this)))] st M122 (Qv Q)) hp (fun h => ?_))
  obtain ⟨M123, eM123, h⟩ := h
  refine E_putFR (k := 23) ⟨rfl, (by rw [hγ.1]; intro y hy; cases hy), by decide, _, rfl, by decide, rfl, rfl, (tbk_mem (j := 5) (k := 154) rfl)⟩ rfl (by decide +kernel) ?_
  rw [← eM123]
  refine E_blk (lv' := [some (vr (some (10, this)))]) (st' := [vi (381 : Int32), vr (some (10, this))]) (M1 := M123) (pc' := 243) (tbr_Works hγ) [.aload_n 0, .sipush 381] (by decide +kernel) rfl rfl trivial ?_
  obtain ⟨c126, c127, i125, c128, M124, eM124, h⟩ := h
  refine E_newa (f := 101) (i := i125) (by decide) (by decide) (FINr_lt hγ.1) c126 c127 c128 (by decide +kernel) ?_
  rw [← eM124]
  obtain ⟨M129, eM129, h⟩ := h
  refine E_putFR (k := 24) ⟨rfl, (by rw [hγ.1]; intro y hy; cases hy), by decide, _, rfl, by decide, rfl, rfl, (tbk_mem (j := 5) (k := 155) rfl)⟩ rfl (by decide +kernel) ?_
  rw [← eM129]
  refine E_blk (lv' := [some (vr (some (10, this)))]) (st' := [vi (381 : Int32), vr (some (10, this))]) (M1 := M129) (pc' := 252) (tbr_Works hγ) [.aload_n 0, .sipush 381] (by decide +kernel) rfl rfl trivial ?_
  obtain ⟨c132, c133, i131, c134, M130, eM130, h⟩ := h
  refine E_newa (f := 102) (i := i131) (by decide) (by decide) (FINr_lt hγ.1) c132 c133 c134 (by decide +kernel) ?_
  rw [← eM130]
  obtain ⟨M135, eM135, h⟩ := h
  refine E_putFR (k := 25) ⟨rfl, (by rw [hγ.1]; intro y hy; cases hy), by decide, _, rfl, by decide, rfl, rfl, (tbk_mem (j := 5) (k := 156) rfl)⟩ rfl (by decide +kernel) ?_
  rw [← eM135]
  refine E_blk (lv' := [some (vr (some (10, this)))]) (st' := [vi (381 : Int32), vr (some (10, this))]) (M1 := M135) (pc' := 261) (tbr_Works hγ) [.aload_n 0, .sipush 381] (by decide +kernel) rfl rfl trivial ?_
  obtain ⟨c138, c139, i137, c140, M136, eM136, h⟩ := h
  refine E_newa (f := 517) (i := i137) (by decide) (by decide) (FINr_lt hγ.1) c138 c139 c140 (by decide +kernel) ?_
  rw [← eM136]
  obtain ⟨M141, eM141, h⟩ := h
  refine E_putFR (k := 26) ⟨rfl, (by rw [hγ.1]; intro y hy; cases hy), by decide, _, rfl, by decide, rfl, rfl, (tbk_mem (j := 5) (k := 157) rfl)⟩ rfl (by decide +kernel) ?_
  rw [← eM141]
  refine E_mask [true] rfl ?_
  exact lk_Works_init_j266 hγ this Q  M141 h
set_option maxRecDepth 4096 in
theorem lk_Works_init_j110 {γ : Gm} (hγ : Gr γ) (this : Nat) (Q : Mem → Prop)  (M : Mem) (h : w_Works_init_j110 this Q  M) : E γ k_Works_init 5 110 [some (vr (some (10, this)))] [] M (Qv Q) := by
  unfold w_Works_init_j110 at h
  refine E_blk (lv' := [some (vr (some (10, this)))]) (st' := [vi (40 : Int32), vr (some (10, this))]) (M1 := M) (pc' := 113) (tbr_Works hγ) [.aload_n 0, .bipush 40] (by decide +kernel) rfl rfl trivial ?_
  obtain ⟨c56, c57, i55, c58, M54, eM54, h⟩ := h
  refine E_newa (f := 98) (i := i55) (by decide) (by decide) (FINr_lt hγ.1) c56 c57 c58 (by decide +kernel) ?_
  rw [← eM54]
  obtain ⟨M59, eM59, h⟩ := h
  refine E_putFR (k := 12) ⟨rfl, (by rw [hγ.1]; intro y hy; cases hy), by decide, _, rfl, by decide, rfl, rfl, (tbk_mem (j := 5) (k := 143) rfl)⟩ rfl (by decide +kernel) ?_
  rw [← eM59]
  refine E_blk (lv' := [some (vr (some (10, this)))]) (st' := [vi (360 : Int32), vr (some (10, this))]) (M1 := M59) (pc' := 122) (tbr_Works hγ) [.aload_n 0, .sipush 360] (by decide +kernel) rfl rfl trivial ?_
  obtain ⟨c62, c63, i61, c64, M60, eM60, h⟩ := h
  refine E_newa (f := 516) (i := i61) (by decide) (by decide) (FINr_lt hγ.1) c62 c63 c64 (by decide +kernel) ?_
  rw [← eM60]
  obtain ⟨M65, eM65, h⟩ := h
  refine E_putFR (k := 13) ⟨rfl, (by rw [hγ.1]; intro y hy; cases hy), by decide, _, rfl, by decide, rfl, rfl, (tbk_mem (j := 5) (k := 144) rfl)⟩ rfl (by decide +kernel) ?_
  rw [← eM65]
  refine E_blk (lv' := [some (vr (some (10, this)))]) (st' := [vi (360 : Int32), vr (some (10, this))]) (M1 := M65) (pc' := 131) (tbr_Works hγ) [.aload_n 0, .sipush 360] (by decide +kernel) rfl rfl trivial ?_
  obtain ⟨c68, c69, i67, c70, M66, eM66, h⟩ := h
  refine E_newa (f := 99) (i := i67) (by decide) (by decide) (FINr_lt hγ.1) c68 c69 c70 (by decide +kernel) ?_
  rw [← eM66]
  obtain ⟨M71, eM71, h⟩ := h
  refine E_putFR (k := 14) ⟨rfl, (by rw [hγ.1]; intro y hy; cases hy), by decide, _, rfl, by decide, rfl, rfl, (tbk_mem (j := 5) (k := 145) rfl)⟩ rfl (by decide +kernel) ?_
  rw [← eM71]
  refine E_blk (lv' := [some (vr (some (10, this)))]) (st' := [vi (360 : Int32), vr (some (10, this))]) (M1 := M71) (pc' := 140) (tbr_Works hγ) [.aload_n 0, .sipush 360] (by decide +kernel) rfl rfl trivial ?_
  obtain ⟨c74, c75, i73, c76, M72, eM72, h⟩ := h
  refine E_newa (f := 100) (i := i73) (by decide) (by decide) (FINr_lt hγ.1) c74 c75 c76 (by decide +kernel) ?_
  rw [← eM72]
  obtain ⟨M77, eM77, h⟩ := h
  refine E_putFR (k := 15) ⟨rfl, (by rw [hγ.1]; intro y hy; cases hy), by decide, _, rfl, by decide, rfl, rfl, (tbk_mem (j := 5) (k := 146) rfl)⟩ rfl (by decide +kernel) ?_
  rw [← eM77]
  refine E_blk (lv' := [some (vr (some (10, this)))]) (st' := [vi (1260 : Int32), vr (some (10, this))]) (M1 := M77) (pc' := 149) (tbr_Works hγ) [.aload_n 0, .sipush 1260] (by decide +kernel) rfl rfl trivial ?_
  obtain ⟨c80, c81, i79, c82, M78, eM78, h⟩ := h
  refine E_newa (f := 400) (i := i79) (by decide) (by decide) (FINr_lt hγ.1) c80 c81 c82 (by decide +kernel) ?_
  rw [← eM78]
  obtain ⟨M83, eM83, h⟩ := h
  refine E_putFR (k := 18) ⟨rfl, (by rw [hγ.1]; intro y hy; cases hy), by decide, _, rfl, by decide, rfl, rfl, (tbk_mem (j := 5) (k := 149) rfl)⟩ rfl (by decide +kernel) ?_
  rw [← eM83]
  refine E_blk (lv' := [some (vr (some (10, this)))]) (st' := [vi (3 : Int32), vr (some (10, this))]) (M1 := M83) (pc' := 156) (tbr_Works hγ) [.aload_n 0, .iconst 3] (by decide +kernel) rfl rfl trivial ?_
  obtain ⟨c86, c87, i85, c88, M84, eM84, h⟩ := h
  refine E_newq (κ := k_Works_init) (f := 702) (i := i85) (idx := 56) hγ.2.2.1.2.1 (by decide) (by decide) (FINr_lt hγ.1) (tbk_mem (j := 2) (k := 188) rfl) c86 c87 c88 (by decide +kernel) ?_
  rw [← eM84]
  obtain ⟨M89, eM89, h⟩ := h
  refine E_putFR (k := 19) ⟨rfl, (by rw [hγ.1]; intro y hy; cases hy), by decide, _, rfl, by decide, rfl, rfl, (tbk_mem (j := 5) (k := 150) rfl)⟩ rfl (by decide +kernel) ?_
  rw [← eM89]
  refine E_blk (lv' := [some (vr (some (10, this)))]) (st' := [vi (3 : Int32), vr (some (10, this))]) (M1 := M89) (pc' := 164) (tbr_Works hγ) [.aload_n 0, .iconst 3] (by decide +kernel) rfl rfl trivial ?_
  obtain ⟨c92, c93, i91, c94, M90, eM90, h⟩ := h
  refine E_newq (κ := k_Works_init) (f := 702) (i := i91) (idx := 56) hγ.2.2.1.2.1 (by decide) (by decide) (FINr_lt hγ.1) (tbk_mem (j := 2) (k := 188) rfl) c92 c93 c94 (by decide +kernel) ?_
  rw [← eM90]
  refine E_blk (lv' := [some (vr (some (10, this)))]) (st' := [vi (0 : Int32), vr (some (702, i91)), vr (some (702, i91)), vr (some (10, this))]) (M1 := M90) (pc' := 169) (tbr_Works hγ) [.dup, .iconst 0] (by decide +kernel) rfl rfl trivial ?_
  obtain ⟨i96, c97, M95, eM95, h⟩ := h
  refine E_new (κ := k_Works_init) (f := 5) (i := i96) (n := 65) (idx := 56) ⟨by decide, _, rfl, by decide, (tbk_mem (j := 2) (k := 188) rfl), (tbk_mem (j := 2) (k := 189) rfl), (tbk_mem (j := 1) (k := 17) rfl)⟩ (by rw [hγ.1]; intro y hy; cases hy) c97 (by decide +kernel) ?_
  rw [← eM95]
  refine E_blk (lv' := [some (vr (some (10, this)))]) (st' := [vi (82000 : Int32), vr (some (10, this)), vr (some (5, i96)), vr (some (5, i96)), vi (0 : Int32), vr (some (702, i91)), vr (some (702, i91)), vr (some (10, this))]) (M1 := M95) (pc' := 176) (tbr_Works hγ) [.dup, .aload_n 0, .ldc 89] (by decide +kernel) rfl rfl trivial ?_
  refine E_callI (κ' := k_World_init) (As := [vr (some (10, this)), vi (82000 : Int32)]) (st := [vr (some (5, i96)), vi (0 : Int32), vr (some (702, i91)), vr (some (702, i91)), vr (some (10, this))]) mi_World_init (Or.inl (tbk_mem (j := 2) (k := 190) rfl)) rfl (by decide +kernel) (Nat.le_of_ble_eq_true rfl) (Nat.le_of_ble_eq_true rfl) rfl (by decide) (lk_World_init hγ i96 this (82000 : Int32) _ M95 h) (fun _ _ => Qv_r) (fun v M98 hp => Qv_k (R := fun st => E γ k_Works_init 5 179 [some (vr (some (10, this)))] st M98 (Qv Q)) hp (fun h => ?_))
  obtain ⟨c99, M100, eM100, h⟩ := h
  refine E_astR (g := 5) (k := i96) hγ.2.2.1.1 (FINr_lt hγ.1) (by decide) c99 (by decide +kernel) (by unfold okel; decide) ?_
  rw [← eM100]
  refine E_blk (lv' := [some (vr (some (10, this)))]) (st' := [vi (1 : Int32), vr (some (702, i91)), vr (some (702, i91)), vr (some (10, this))]) (M1 := M100) (pc' := 182) (tbr_Works hγ) [.dup, .iconst 1] (by decide +kernel) rfl rfl trivial ?_
  obtain ⟨i102, c103, M101, eM101, h⟩ := h
  refine E_new (κ := k_Works_init) (f := 5) (i := i102) (n := 65) (idx := 56) ⟨by decide, _, rfl, by decide, (tbk_mem (j := 2) (k := 188) rfl), (tbk_mem (j := 2) (k := 189) rfl), (tbk_mem (j := 1) (k := 17) rfl)⟩ (by rw [hγ.1]; intro y hy; cases hy) c103 (by decide +kernel) ?_
  rw [← eM101]
  refine E_blk (lv' := [some (vr (some (10, this)))]) (st' := [vi (82000 : Int32), vr (some (10, this)), vr (some (5, i102)), vr (some (5, i102)), vi (1 : Int32), vr (some (702, i91)), vr (some (702, i91)), vr (some (10, this))]) (M1 := M101) (pc' := 189) (tbr_Works hγ) [.dup, .aload_n 0, .ldc 89] (by decide +kernel) rfl rfl trivial ?_
  refine E_callI (κ' := k_World_init) (As := [vr (some (10, this)), vi (82000 : Int32)]) (st := [vr (some (5, i102)), vi (1 : Int32), vr (some (702, i91)), vr (some (702, i91)), vr (some (10, this))]) mi_World_init (Or.inl (tbk_mem (j := 2) (k := 190) rfl)) rfl (by decide +kernel) (Nat.le_of_ble_eq_true rfl) (Nat.le_of_ble_eq_true rfl) rfl (by decide) (lk_World_init hγ i102 this (82000 : Int32) _ M101 h) (fun _ _ => Qv_r) (fun v M104 hp => Qv_k (R := fun st => E γ k_Works_init 5 192 [some (vr (some (10, this)))] st M104 (Qv Q)) hp (fun h => ?_))
  obtain ⟨c105, M106, eM106, h⟩ := h
  refine E_astR (g := 5) (k := i102) hγ.2.2.1.1 (FINr_lt hγ.1) (by decide) c105 (by decide +kernel) (by unfold okel; decide) ?_
  rw [← eM106]
  refine E_blk (lv' := [some (vr (some (10, this)))]) (st' := [vi (2 : Int32), vr (some (702, i91)), vr (some (702, i91)), vr (some (10, this))]) (M1 := M106) (pc' := 195) (tbr_Works hγ) [.dup, .iconst 2] (by decide +kernel) rfl rfl trivial ?_
  obtain ⟨i108, c109, M107, eM107, h⟩ := h
  refine E_new (κ := k_Works_init) (f := 5) (i := i108) (n := 65) (idx := 56) ⟨by decide, _, rfl, by decide, (tbk_mem (j := 2) (k := 188) rfl), (tbk_mem (j := 2) (k := 189) rfl), (tbk_mem (j := 1) (k := 17) rfl)⟩ (by rw [hγ.1]; intro y hy; cases hy) c109 (by decide +kernel) ?_
  rw [← eM107]
  refine E_blk (lv' := [some (vr (some (10, this)))]) (st' := [vi (82000 : Int32), vr (some (10, this)), vr (some (5, i108)), vr (some (5, i108)), vi (2 : Int32), vr (some (702, i91)), vr (some (702, i91)), vr (some (10, this))]) (M1 := M107) (pc' := 202) (tbr_Works hγ) [.dup, .aload_n 0, .ldc 89] (by decide +kernel) rfl rfl trivial ?_
  refine E_callI (κ' := k_World_init) (As := [vr (some (10, this)), vi (82000 : Int32)]) (st := [vr (some (5, i108)), vi (2 : Int32), vr (some (702, i91)), vr (some (702, i91)), vr (some (10, this))]) mi_World_init (Or.inl (tbk_mem (j := 2) (k := 190) rfl)) rfl (by decide +kernel) (Nat.le_of_ble_eq_true rfl) (Nat.le_of_ble_eq_true rfl) rfl (by decide) (lk_World_init hγ i108 this (82000 : Int32) _ M107 h) (fun _ _ => Qv_r) (fun v M110 hp => Qv_k (R := fun st => E γ k_Works_init 5 205 [some (vr (some (10, this)))] st M110 (Qv Q)) hp (fun h => ?_))
  obtain ⟨c111, M112, eM112, h⟩ := h
  refine E_astR (g := 5) (k := i108) hγ.2.2.1.1 (FINr_lt hγ.1) (by decide) c111 (by decide +kernel) (by unfold okel; decide) ?_
  rw [← eM112]
  obtain ⟨M113, eM113, h⟩ := h
  refine E_putFR (k := 20) ⟨rfl, (by rw [hγ.1]; intro y hy; cases hy), by decide, _, rfl, by decide, rfl, rfl, (tbk_mem (j := 5) (k := 151) rfl)⟩ rfl (by decide +kernel) ?_
  rw [← eM113]
  refine E_mask [true] rfl ?_
  exact lk_Works_init_j209 hγ this Q  M113 h
set_option maxRecDepth 4096 in
theorem lk_Works_init_j52 {γ : Gm} (hγ : Gr γ) (this : Nat) (Q : Mem → Prop)  (M : Mem) (h : w_Works_init_j52 this Q  M) : E γ k_Works_init 5 52 [some (vr (some (10, this)))] [] M (Qv Q) := by
  unfold w_Works_init_j52 at h
  refine E_blk (lv' := [some (vr (some (10, this)))]) (st' := [vr (some (10, this))]) (M1 := M) (pc' := 53) (tbr_Works hγ) [.aload_n 0] (by decide +kernel) rfl rfl trivial ?_
  obtain ⟨i30, c31, M29, eM29, h⟩ := h
  refine E_new (κ := k_Works_init) (f := 3) (i := i30) (n := 24) (idx := 35) ⟨by decide, _, rfl, by decide, (tbk_mem (j := 2) (k := 7) rfl), (tbk_mem (j := 2) (k := 8) rfl), (tbk_mem (j := 1) (k := 14) rfl)⟩ (by rw [hγ.1]; intro y hy; cases hy) c31 (by decide +kernel) ?_
  rw [← eM29]
  refine E_blk (lv' := [some (vr (some (10, this)))]) (st' := [vr (some (10, this)), vr (some (3, i30)), vr (some (3, i30)), vr (some (10, this))]) (M1 := M29) (pc' := 58) (tbr_Works hγ) [.dup, .aload_n 0] (by decide +kernel) rfl rfl trivial ?_
  refine E_callI (κ' := k_Reader_init) (As := [vr (some (10, this))]) (st := [vr (some (3, i30)), vr (some (10, this))]) mi_Reader_init (Or.inr ⟨"ClassWorks", (tbk_mem (j := 2) (k := 9) rfl)⟩) rfl (by decide +kernel) (Nat.le_of_ble_eq_true rfl) (Nat.le_of_ble_eq_true rfl) rfl (by decide) (lk_Reader_init hγ i30 this _ M29 h) (fun _ _ => Qv_r) (fun v M32 hp => Qv_k (R := fun st => E γ k_Works_init 5 61 [some (vr (some (10, this)))] st M32 (Qv Q)) hp (fun h => ?_))
  obtain ⟨M33, eM33, h⟩ := h
  refine E_putFR (k := 6) ⟨rfl, (by rw [hγ.1]; intro y hy; cases hy), by decide, _, rfl, by decide, rfl, rfl, (tbk_mem (j := 5) (k := 135) rfl)⟩ rfl (by decide +kernel) ?_
  rw [← eM33]
  refine E_blk (lv' := [some (vr (some (10, this)))]) (st' := [vr (some (10, this))]) (M1 := M33) (pc' := 65) (tbr_Works hγ) [.aload_n 0] (by decide +kernel) rfl rfl trivial ?_
  obtain ⟨i35, c36, M34, eM34, h⟩ := h
  refine E_new (κ := k_Works_init) (f := 4) (i := i35) (n := 19) (idx := 44) ⟨by decide, _, rfl, by decide, (tbk_mem (j := 2) (k := 123) rfl), (tbk_mem (j := 2) (k := 124) rfl), (tbk_mem (j := 1) (k := 16) rfl)⟩ (by rw [hγ.1]; intro y hy; cases hy) c36 (by decide +kernel) ?_
  rw [← eM34]
  refine E_blk (lv' := [some (vr (some (10, this)))]) (st' := [vr (some (10, this)), vr (some (4, i35)), vr (some (4, i35)), vr (some (10, this))]) (M1 := M34) (pc' := 70) (tbr_Works hγ) [.dup, .aload_n 0] (by decide +kernel) rfl rfl trivial ?_
  refine E_callI (κ' := k_Checker_init) (As := [vr (some (10, this))]) (st := [vr (some (4, i35)), vr (some (10, this))]) mi_Checker_init (Or.inr ⟨"ClassWorks", (tbk_mem (j := 2) (k := 125) rfl)⟩) rfl (by decide +kernel) (Nat.le_of_ble_eq_true rfl) (Nat.le_of_ble_eq_true rfl) rfl (by decide) (lk_Checker_init hγ i35 this _ M34 h) (fun _ _ => Qv_r) (fun v M37 hp => Qv_k (R := fun st => E γ k_Works_init 5 73 [some (vr (some (10, this)))] st M37 (Qv Q)) hp (fun h => ?_))
  obtain ⟨M38, eM38, h⟩ := h
  refine E_putFR (k := 7) ⟨rfl, (by rw [hγ.1]; intro y hy; cases hy), by decide, _, rfl, by decide, rfl, rfl, (tbk_mem (j := 5) (k := 136) rfl)⟩ rfl (by decide +kernel) ?_
  rw [← eM38]
  refine E_blk (lv' := [some (vr (some (10, this)))]) (st' := [vr (some (10, this))]) (M1 := (sI M38 10 this 8 (60000 : Int32))) (pc' := 83) (tbr_Works hγ) [.aload_n 0, .ldc 51, .putfield 52, .aload_n 0] (by decide +kernel) rfl rfl trivial ?_
  obtain ⟨i40, c41, M39, eM39, h⟩ := h
  refine E_new (κ := k_Works_init) (f := 5) (i := i40) (n := 65) (idx := 56) ⟨by decide, _, rfl, by decide, (tbk_mem (j := 2) (k := 188) rfl), (tbk_mem (j := 2) (k := 189) rfl), (tbk_mem (j := 1) (k := 17) rfl)⟩ (by rw [hγ.1]; intro y hy; cases hy) c41 (by decide +kernel) ?_
  rw [← eM39]
  refine E_blk (lv' := [some (vr (some (10, this)))]) (st' := [vi (1300 : Int32), vr (some (10, this)), vr (some (5, i40)), vr (some (5, i40)), vr (some (10, this))]) (M1 := M39) (pc' := 91) (tbr_Works hγ) [.dup, .aload_n 0, .sipush 1300] (by decide +kernel) rfl rfl trivial ?_
  refine E_callI (κ' := k_World_init) (As := [vr (some (10, this)), vi (1300 : Int32)]) (st := [vr (some (5, i40)), vr (some (10, this))]) mi_World_init (Or.inl (tbk_mem (j := 2) (k := 190) rfl)) rfl (by decide +kernel) (Nat.le_of_ble_eq_true rfl) (Nat.le_of_ble_eq_true rfl) rfl (by decide) (lk_World_init hγ i40 this (1300 : Int32) _ M39 h) (fun _ _ => Qv_r) (fun v M42 hp => Qv_k (R := fun st => E γ k_Works_init 5 94 [some (vr (some (10, this)))] st M42 (Qv Q)) hp (fun h => ?_))
  obtain ⟨M43, eM43, h⟩ := h
  refine E_putFR (k := 9) ⟨rfl, (by rw [hγ.1]; intro y hy; cases hy), by decide, _, rfl, by decide, rfl, rfl, (tbk_mem (j := 5) (k := 140) rfl)⟩ rfl (by decide +kernel) ?_
  rw [← eM43]
  refine E_blk (lv' := [some (vr (some (10, this)))]) (st' := [vi (1260 : Int32), vi (40 : Int32), vr (some (10, this))]) (M1 := M43) (pc' := 103) (tbr_Works hγ) [.aload_n 0, .bipush 40, .sipush 1260] (by decide +kernel) rfl rfl trivial ?_
  obtain ⟨c44, c45, c46, c47, i50, c48, i51, c49, M52, eM52, h⟩ := h
  refine E_multi (κ := k_Works_init) (pc := 103) (idx := 65) (f := 701) (i := i50) (g := 400) (b := i51) hγ.2.2.1.1 (by decide) (by decide) rfl rfl (by decide) (FINr_lt hγ.1) (tbk_mem (j := 5) (k := 91) rfl) c44 c45 c46 c47 c48 c49 (by decide +kernel) ?_
  rw [← eM52]
  obtain ⟨M53, eM53, h⟩ := h
  refine E_putFR (k := 11) ⟨rfl, (by rw [hγ.1]; intro y hy; cases hy), by decide, _, rfl, by decide, rfl, rfl, (tbk_mem (j := 5) (k := 142) rfl)⟩ rfl (by decide +kernel) ?_
  rw [← eM53]
  refine E_mask [true] rfl ?_
  exact lk_Works_init_j110 hγ this Q  M53 h
set_option maxRecDepth 4096 in
theorem lk_Works_init {γ : Gm} (hγ : Gr γ) (this : Nat) (Q : Mem → Prop) (M : Mem) (h : w_Works_init this Q M) : E γ k_Works_init 5 0 [some (vr (some (10, this)))] [] M (Qv Q) := by
  unfold w_Works_init at h
  refine E_blk (lv' := [some (vr (some (10, this)))]) (st' := [vr (some (10, this))]) (M1 := M) (pc' := 1) (tbr_Works hγ) [.aload_n 0] (by decide +kernel) rfl rfl trivial ?_
  refine E_objI (κ := k_Works_init) (pc := 1) (idx := 3) (tbk_mem (j := 1) (k := 34) rfl) (by decide +kernel) (Nat.le_of_ble_eq_true rfl) ?_
  refine E_blk (lv' := [some (vr (some (10, this)))]) (st' := [vi (6000 : Int32), vr (some (10, this))]) (M1 := M) (pc' := 8) (tbr_Works hγ) [.aload_n 0, .sipush 6000] (by decide +kernel) rfl rfl trivial ?_
  obtain ⟨c3, c4, i2, c5, M1, eM1, h⟩ := h
  refine E_newa (f := 400) (i := i2) (by decide) (by decide) (FINr_lt hγ.1) c3 c4 c5 (by decide +kernel) ?_
  rw [← eM1]
  obtain ⟨M6, eM6, h⟩ := h
  refine E_putFR (k := 0) ⟨rfl, (by rw [hγ.1]; intro y hy; cases hy), by decide, _, rfl, by decide, rfl, rfl, (tbk_mem (j := 5) (k := 125) rfl)⟩ rfl (by decide +kernel) ?_
  rw [← eM6]
  refine E_blk (lv' := [some (vr (some (10, this)))]) (st' := [vr (some (10, this))]) (M1 := M6) (pc' := 14) (tbr_Works hγ) [.aload_n 0] (by decide +kernel) rfl rfl trivial ?_
  obtain ⟨i8, c9, M7, eM7, h⟩ := h
  refine E_new (κ := k_Works_init) (f := 1) (i := i8) (n := 5) (idx := 13) ⟨by decide, _, rfl, by decide, (tbk_mem (j := 1) (k := 37) rfl), (tbk_mem (j := 1) (k := 38) rfl), (tbk_mem (j := 1) (k := 2) rfl)⟩ (by rw [hγ.1]; intro y hy; cases hy) c9 (by decide +kernel) ?_
  rw [← eM7]
  refine E_blk (lv' := [some (vr (some (10, this)))]) (st' := [vr (some (1, i8)), vr (some (1, i8)), vr (some (10, this))]) (M1 := M7) (pc' := 18) (tbr_Works hγ) [.dup] (by decide +kernel) rfl rfl trivial ?_
  refine E_callI (κ' := k_Names_init) (As := []) (st := [vr (some (1, i8)), vr (some (10, this))]) mi_Names_init (Or.inl (tbk_mem (j := 1) (k := 39) rfl)) rfl (by decide +kernel) (Nat.le_of_ble_eq_true rfl) (Nat.le_of_ble_eq_true rfl) rfl (by decide) (lk_Names_init hγ i8 _ M7 h) (fun _ _ => Qv_r) (fun v M10 hp => Qv_k (R := fun st => E γ k_Works_init 5 21 [some (vr (some (10, this)))] st M10 (Qv Q)) hp (fun h => ?_))
  obtain ⟨M11, eM11, h⟩ := h
  refine E_putFR (k := 2) ⟨rfl, (by rw [hγ.1]; intro y hy; cases hy), by decide, _, rfl, by decide, rfl, rfl, (tbk_mem (j := 5) (k := 127) rfl)⟩ rfl (by decide +kernel) ?_
  rw [← eM11]
  refine E_blk (lv' := [some (vr (some (10, this)))]) (st' := [vi (51 : Int32), vr (some (10, this))]) (M1 := M11) (pc' := 27) (tbr_Works hγ) [.aload_n 0, .bipush 51] (by decide +kernel) rfl rfl trivial ?_
  obtain ⟨c14, c15, i13, c16, M12, eM12, h⟩ := h
  refine E_newa (f := 515) (i := i13) (by decide) (by decide) (FINr_lt hγ.1) c14 c15 c16 (by decide +kernel) ?_
  rw [← eM12]
  obtain ⟨M17, eM17, h⟩ := h
  refine E_putFR (k := 3) ⟨rfl, (by rw [hγ.1]; intro y hy; cases hy), by decide, _, rfl, by decide, rfl, rfl, (tbk_mem (j := 5) (k := 130) rfl)⟩ rfl (by decide +kernel) ?_
  rw [← eM17]
  refine E_blk (lv' := [some (vr (some (10, this)))]) (st' := [vi (255 : Int32), vr (some (10, this))]) (M1 := M17) (pc' := 36) (tbr_Works hγ) [.aload_n 0, .sipush 255] (by decide +kernel) rfl rfl trivial ?_
  obtain ⟨c20, c21, i19, c22, M18, eM18, h⟩ := h
  refine E_newa (f := 97) (i := i19) (by decide) (by decide) (FINr_lt hγ.1) c20 c21 c22 (by decide +kernel) ?_
  rw [← eM18]
  obtain ⟨M23, eM23, h⟩ := h
  refine E_putFR (k := 4) ⟨rfl, (by rw [hγ.1]; intro y hy; cases hy), by decide, _, rfl, by decide, rfl, rfl, (tbk_mem (j := 5) (k := 132) rfl)⟩ rfl (by decide +kernel) ?_
  rw [← eM23]
  refine E_blk (lv' := [some (vr (some (10, this)))]) (st' := [vr (some (10, this))]) (M1 := M23) (pc' := 42) (tbr_Works hγ) [.aload_n 0] (by decide +kernel) rfl rfl trivial ?_
  obtain ⟨i25, c26, M24, eM24, h⟩ := h
  refine E_new (κ := k_Works_init) (f := 9) (i := i25) (n := 8) (idx := 28) ⟨by decide, _, rfl, by decide, (tbk_mem (j := 1) (k := 175) rfl), (tbk_mem (j := 1) (k := 176) rfl), (tbk_mem (j := 1) (k := 13) rfl)⟩ (by rw [hγ.1]; intro y hy; cases hy) c26 (by decide +kernel) ?_
  rw [← eM24]
  refine E_blk (lv' := [some (vr (some (10, this)))]) (st' := [vr (some (9, i25)), vr (some (9, i25)), vr (some (10, this))]) (M1 := M24) (pc' := 46) (tbr_Works hγ) [.dup] (by decide +kernel) rfl rfl trivial ?_
  refine E_callI (κ' := k_Refusal_init) (As := []) (st := [vr (some (9, i25)), vr (some (10, this))]) mi_Refusal_init (Or.inl (tbk_mem (j := 1) (k := 215) rfl)) rfl (by decide +kernel) (Nat.le_of_ble_eq_true rfl) (Nat.le_of_ble_eq_true rfl) rfl (by decide) (lk_Refusal_init hγ i25 _ M24 h) (fun _ _ => Qv_r) (fun v M27 hp => Qv_k (R := fun st => E γ k_Works_init 5 49 [some (vr (some (10, this)))] st M27 (Qv Q)) hp (fun h => ?_))
  obtain ⟨M28, eM28, h⟩ := h
  refine E_putFR (k := 5) ⟨rfl, (by rw [hγ.1]; intro y hy; cases hy), by decide, _, rfl, by decide, rfl, rfl, (tbk_mem (j := 5) (k := 134) rfl)⟩ rfl (by decide +kernel) ?_
  rw [← eM28]
  refine E_mask [true] rfl ?_
  exact lk_Works_init_j52 hγ this Q  M28 h
def w_Works_isIn (a1 : Int32) (a2 : Int32) (a3 : Int32) (Q : Int32 → Mem → Prop) (M : Mem) : Prop :=
  if a1 < a2 then (Q (0 : Int32) M) else (if a3 < a1 then (Q (0 : Int32) M) else (Q (1 : Int32) M))
set_option maxRecDepth 4096 in
theorem lk_Works_isIn {γ : Gm} (hγ : Gk γ) (a1 : Int32) (a2 : Int32) (a3 : Int32) (Q : Int32 → Mem → Prop) (M : Mem) (h : w_Works_isIn a1 a2 a3 Q M) : E γ k_Works_isIn 0 0 [some (vi a1), some (vi a2), some (vi a3)] [] M (Qi Q) := by
  unfold w_Works_isIn at h
  refine E_blk (lv' := [some (vi a1), some (vi a2), some (vi a3)]) (st' := [vi a2, vi a1]) (M1 := M) (pc' := 2) (tb_Works hγ) [.iload_n 0, .iload_n 1] (by decide +kernel) rfl rfl trivial ?_
  refine E_icmp_lt (off := 12) (tgt := 14) (by decide +kernel) (by decide) (fun b1 => ?_) (fun b1 => ?_)
  · rw [if_pos b1] at h
    refine E_blk (lv' := [some (vi a1), some (vi a2), some (vi a3)]) (st' := [vi (0 : Int32)]) (M1 := M) (pc' := 15) (tb_Works hγ) [.iconst 0] (by decide +kernel) rfl rfl trivial ?_
    exact E_zret rfl (Or.inl rfl) (by decide +kernel) h
  · rw [if_neg b1] at h
    refine E_blk (lv' := [some (vi a1), some (vi a2), some (vi a3)]) (st' := [vi a3, vi a1]) (M1 := M) (pc' := 7) (tb_Works hγ) [.iload_n 0, .iload_n 2] (by decide +kernel) rfl rfl trivial ?_
    refine E_icmp_gt (off := 7) (tgt := 14) (by decide +kernel) (by decide) (fun b2 => ?_) (fun b2 => ?_)
    · rw [if_pos b2] at h
      refine E_blk (lv' := [some (vi a1), some (vi a2), some (vi a3)]) (st' := [vi (0 : Int32)]) (M1 := M) (pc' := 15) (tb_Works hγ) [.iconst 0] (by decide +kernel) rfl rfl trivial ?_
      exact E_zret rfl (Or.inl rfl) (by decide +kernel) h
    · rw [if_neg b2] at h
      refine E_blk (lv' := [some (vi a1), some (vi a2), some (vi a3)]) (st' := [vi (1 : Int32)]) (M1 := M) (pc' := 11) (tb_Works hγ) [.iconst 1] (by decide +kernel) rfl rfl trivial ?_
      refine E_goto (off := 4) (tgt := 15) (by decide +kernel) (by decide) ?_
      exact E_zret rfl (Or.inr rfl) (by decide +kernel) h
def w_Works_lay_L3 (this : Nat) (Q : Mem → Prop) : Nat → Int32 → Int32 → Mem → Prop
  | 0, _, _, _ => False
  | n + 1, v1, v2, M => if v2 < 0 then (Q M) else (vp_in (mI M 10 this 1) (mL M 400 0) ∧ ∃ M3, M3 = (sI M 400 0 (mI M 10 this 1).toNatClampNeg (((v1 >>> (v2 &&& 31)).toInt8.toInt32).toInt8.toInt32)) ∧ (w_Works_lay_L3 this Q n) v1 (v2 + (-8 : Int32)) (sI M3 10 this 1 ((mI M3 10 this 1) + (1 : Int32))))
def w_Works_lay (this : Nat) (a1 : Int32) (Q : Mem → Prop) (M : Mem) : Prop :=
  ∃ n4 : Nat, w_Works_lay_L3 this Q n4 a1 (24 : Int32) M
set_option maxRecDepth 4096 in
theorem lk_Works_lay_L3 {γ : Gm} (hγ : Gk γ) (this : Nat) (Q : Mem → Prop) : ∀ (n : Nat) (v1 : Int32) (v2 : Int32) (M : Mem), w_Works_lay_L3 this Q n v1 v2 M → E γ k_Works_lay 0 3 [some (vr (some (10, this))), some (vi v1), some (vi v2)] [] M (Qv Q) := by
  intro n
  induction n with
  | zero => intro v1 v2 M h; exact h.elim
  | succ n ih =>
    intro v1 v2 M h
    unfold w_Works_lay_L3 at h
    refine E_blk (lv' := [some (vr (some (10, this))), some (vi v1), some (vi v2)]) (st' := [vi v2]) (M1 := M) (pc' := 4) (tb_Works hγ) [.iload_n 2] (by decide +kernel) rfl rfl trivial ?_
    refine E_if_lt (off := 32) (tgt := 36) (by decide +kernel) (by decide) (fun b1 => ?_) (fun b1 => ?_)
    · rw [if_pos b1] at h
      exact E_vret rfl (by decide +kernel) h
    · rw [if_neg b1] at h
      obtain ⟨c2, h⟩ := h
      refine E_blk (lv' := [some (vr (some (10, this))), some (vi v1), some (vi v2)]) (st' := []) (M1 := (sI M 400 0 (mI M 10 this 1).toNatClampNeg (((v1 >>> (v2 &&& 31)).toInt8.toInt32).toInt8.toInt32))) (pc' := 20) (tb_Works hγ) [.aload_n 0, .getfield 9, .aload_n 0, .getfield 121, .iload_n 1, .iload_n 2, .ishr, .i2b, .bastore] (by decide +kernel) rfl rfl ⟨c2, trivial⟩ ?_
      obtain ⟨M3, eM3, h⟩ := h
      rw [← eM3]
      refine E_blk (lv' := [some (vr (some (10, this))), some (vi v1), some (vi (v2 + (-8 : Int32)))]) (st' := []) (M1 := (sI M3 10 this 1 ((mI M3 10 this 1) + (1 : Int32)))) (pc' := 33) (tb_Works hγ) [.aload_n 0, .dup, .getfield 121, .iconst 1, .iadd, .putfield 121, .iinc 2 (.negSucc 7)] (by decide +kernel) rfl rfl trivial ?_
      refine E_goto (off := -30) (tgt := 3) (by decide +kernel) (by decide) ?_
      refine E_mask [true, true, true] rfl ?_
      exact ih v1 (v2 + (-8 : Int32)) (sI M3 10 this 1 ((mI M3 10 this 1) + (1 : Int32))) h
set_option maxRecDepth 4096 in
theorem lk_Works_lay {γ : Gm} (hγ : Gk γ) (this : Nat) (a1 : Int32) (Q : Mem → Prop) (M : Mem) (h : w_Works_lay this a1 Q M) : E γ k_Works_lay 0 0 [some (vr (some (10, this))), some (vi a1), none] [] M (Qv Q) := by
  unfold w_Works_lay at h
  refine E_blk (lv' := [some (vr (some (10, this))), some (vi a1), some (vi (24 : Int32))]) (st' := []) (M1 := M) (pc' := 3) (tb_Works hγ) [.bipush 24, .istore_n 2] (by decide +kernel) rfl rfl trivial ?_
  obtain ⟨n4, h⟩ := h
  refine E_mask [true, true, true] rfl ?_
  exact lk_Works_lay_L3 hγ this Q n4 a1 (24 : Int32) M h
def w_Works_feed (this : Nat) (a1 : Int32) (a2 : Int32) (a3 : Int32) (a4 : Int32) (a5 : Int32) (Q : Int32 → Mem → Prop) (M : Mem) : Prop :=
  if ((mI M 10 this 1) + (20 : Int32)) ≤ (6000 : Int32) then (w_Works_lay this a1 (fun M2 => w_Works_lay this a2 (fun M3 => w_Works_lay this a3 (fun M4 => w_Works_lay this a4 (fun M5 => w_Works_lay this a5 (fun M6 => Q (mI M6 10 this 1) M6) M5) M4) M3) M2) M) else (Q (-3 : Int32) M)
set_option maxRecDepth 4096 in
theorem lk_Works_feed {γ : Gm} (hγ : Gk γ) (this : Nat) (a1 : Int32) (a2 : Int32) (a3 : Int32) (a4 : Int32) (a5 : Int32) (Q : Int32 → Mem → Prop) (M : Mem) (h : w_Works_feed this a1 a2 a3 a4 a5 Q M) : E γ k_Works_feed 1 0 [some (vr (some (10, this))), some (vi a1), some (vi a2), some (vi a3), some (vi a4), some (vi a5)] [] M (Qi Q) := by
  unfold w_Works_feed at h
  refine E_blk (lv' := [some (vr (some (10, this))), some (vi a1), some (vi a2), some (vi a3), some (vi a4), some (vi a5)]) (st' := [vi (6000 : Int32), vi ((mI M 10 this 1) + (20 : Int32))]) (M1 := M) (pc' := 10) (tb_Works hγ) [.aload_n 0, .getfield 121, .bipush 20, .iadd, .sipush 6000] (by decide +kernel) rfl rfl trivial ?_
  refine E_icmp_le (off := 6) (tgt := 16) (by decide +kernel) (by decide) (fun b1 => ?_) (fun b1 => ?_)
  · rw [if_pos b1] at h
    refine E_blk (lv' := [some (vr (some (10, this))), some (vi a1), some (vi a2), some (vi a3), some (vi a4), some (vi a5)]) (st' := [vi a1, vr (some (10, this))]) (M1 := M) (pc' := 18) (tb_Works hγ) [.aload_n 0, .iload_n 1] (by decide +kernel) rfl rfl trivial ?_
    refine E_callV (κ' := k_Works_lay) (As := [vi a1]) (st := []) mv_Works_lay (Or.inl (tbk_mem (j := 5) (k := 229) rfl)) rfl (by decide +kernel) (Nat.le_of_ble_eq_true rfl) (Nat.le_of_ble_eq_true rfl) rfl (by decide) (lk_Works_lay hγ this a1 _ M h) (fun _ _ => Qv_r) (fun v M2 hp => Qv_k (R := fun st => E γ k_Works_feed 1 21 [some (vr (some (10, this))), some (vi a1), some (vi a2), some (vi a3), some (vi a4), some (vi a5)] st M2 (Qi Q)) hp (fun h => ?_))
    refine E_blk (lv' := [some (vr (some (10, this))), some (vi a1), some (vi a2), some (vi a3), some (vi a4), some (vi a5)]) (st' := [vi a2, vr (some (10, this))]) (M1 := M2) (pc' := 23) (tb_Works hγ) [.aload_n 0, .iload_n 2] (by decide +kernel) rfl rfl trivial ?_
    refine E_callV (κ' := k_Works_lay) (As := [vi a2]) (st := []) mv_Works_lay (Or.inl (tbk_mem (j := 5) (k := 229) rfl)) rfl (by decide +kernel) (Nat.le_of_ble_eq_true rfl) (Nat.le_of_ble_eq_true rfl) rfl (by decide) (lk_Works_lay hγ this a2 _ M2 h) (fun _ _ => Qv_r) (fun v M3 hp => Qv_k (R := fun st => E γ k_Works_feed 1 26 [some (vr (some (10, this))), some (vi a1), some (vi a2), some (vi a3), some (vi a4), some (vi a5)] st M3 (Qi Q)) hp (fun h => ?_))
    refine E_blk (lv' := [some (vr (some (10, this))), some (vi a1), some (vi a2), some (vi a3), some (vi a4), some (vi a5)]) (st' := [vi a3, vr (some (10, this))]) (M1 := M3) (pc' := 28) (tb_Works hγ) [.aload_n 0, .iload_n 3] (by decide +kernel) rfl rfl trivial ?_
    refine E_callV (κ' := k_Works_lay) (As := [vi a3]) (st := []) mv_Works_lay (Or.inl (tbk_mem (j := 5) (k := 229) rfl)) rfl (by decide +kernel) (Nat.le_of_ble_eq_true rfl) (Nat.le_of_ble_eq_true rfl) rfl (by decide) (lk_Works_lay hγ this a3 _ M3 h) (fun _ _ => Qv_r) (fun v M4 hp => Qv_k (R := fun st => E γ k_Works_feed 1 31 [some (vr (some (10, this))), some (vi a1), some (vi a2), some (vi a3), some (vi a4), some (vi a5)] st M4 (Qi Q)) hp (fun h => ?_))
    refine E_blk (lv' := [some (vr (some (10, this))), some (vi a1), some (vi a2), some (vi a3), some (vi a4), some (vi a5)]) (st' := [vi a4, vr (some (10, this))]) (M1 := M4) (pc' := 34) (tb_Works hγ) [.aload_n 0, .iload 4] (by decide +kernel) rfl rfl trivial ?_
    refine E_callV (κ' := k_Works_lay) (As := [vi a4]) (st := []) mv_Works_lay (Or.inl (tbk_mem (j := 5) (k := 229) rfl)) rfl (by decide +kernel) (Nat.le_of_ble_eq_true rfl) (Nat.le_of_ble_eq_true rfl) rfl (by decide) (lk_Works_lay hγ this a4 _ M4 h) (fun _ _ => Qv_r) (fun v M5 hp => Qv_k (R := fun st => E γ k_Works_feed 1 37 [some (vr (some (10, this))), some (vi a1), some (vi a2), some (vi a3), some (vi a4), some (vi a5)] st M5 (Qi Q)) hp (fun h => ?_))
    refine E_blk (lv' := [some (vr (some (10, this))), some (vi a1), some (vi a2), some (vi a3), some (vi a4), some (vi a5)]) (st' := [vi a5, vr (some (10, this))]) (M1 := M5) (pc' := 40) (tb_Works hγ) [.aload_n 0, .iload 5] (by decide +kernel) rfl rfl trivial ?_
    refine E_callV (κ' := k_Works_lay) (As := [vi a5]) (st := []) mv_Works_lay (Or.inl (tbk_mem (j := 5) (k := 229) rfl)) rfl (by decide +kernel) (Nat.le_of_ble_eq_true rfl) (Nat.le_of_ble_eq_true rfl) rfl (by decide) (lk_Works_lay hγ this a5 _ M5 h) (fun _ _ => Qv_r) (fun v M6 hp => Qv_k (R := fun st => E γ k_Works_feed 1 43 [some (vr (some (10, this))), some (vi a1), some (vi a2), some (vi a3), some (vi a4), some (vi a5)] st M6 (Qi Q)) hp (fun h => ?_))
    refine E_blk (lv' := [some (vr (some (10, this))), some (vi a1), some (vi a2), some (vi a3), some (vi a4), some (vi a5)]) (st' := [vi (mI M6 10 this 1)]) (M1 := M6) (pc' := 47) (tb_Works hγ) [.aload_n 0, .getfield 121] (by decide +kernel) rfl rfl trivial ?_
    exact E_iret rfl (by decide +kernel) h
  · rw [if_neg b1] at h
    refine E_blk (lv' := [some (vr (some (10, this))), some (vi a1), some (vi a2), some (vi a3), some (vi a4), some (vi a5)]) (st' := [vi (-3 : Int32)]) (M1 := M) (pc' := 15) (tb_Works hγ) [.bipush (.negSucc 2)] (by decide +kernel) rfl rfl trivial ?_
    exact E_iret rfl (by decide +kernel) h
def w_Works_cut (this : Nat) (a1 : Int32) (Q : Int32 → Mem → Prop) (M : Mem) : Prop :=
  w_Works_isIn a1 (0 : Int32) (mI M 10 this 1) (fun r2 M1 => if r2 = 0 then (Q (-1 : Int32) M1) else (Q (mI (sI M1 10 this 1 ((mI M1 10 this 1) - a1)) 10 this 1) (sI M1 10 this 1 ((mI M1 10 this 1) - a1)))) M
set_option maxRecDepth 4096 in
theorem lk_Works_cut {γ : Gm} (hγ : Gk γ) (this : Nat) (a1 : Int32) (Q : Int32 → Mem → Prop) (M : Mem) (h : w_Works_cut this a1 Q M) : E γ k_Works_cut 1 0 [some (vr (some (10, this))), some (vi a1)] [] M (Qi Q) := by
  unfold w_Works_cut at h
  refine E_blk (lv' := [some (vr (some (10, this))), some (vi a1)]) (st' := [vi (mI M 10 this 1), vi (0 : Int32), vi a1]) (M1 := M) (pc' := 6) (tb_Works hγ) [.iload_n 1, .iconst 0, .aload_n 0, .getfield 121] (by decide +kernel) rfl rfl trivial ?_
  refine E_callS (κ' := k_Works_isIn) (As := [vi a1, vi (0 : Int32), vi (mI M 10 this 1)]) (st := []) ms_Works_isIn (Or.inl (tbk_mem (j := 5) (k := 237) rfl)) rfl (by decide +kernel) (Nat.le_of_ble_eq_true rfl) (Nat.le_of_ble_eq_true rfl) rfl (by decide) (lk_Works_isIn hγ a1 (0 : Int32) (mI M 10 this 1) _ M h) (fun _ _ => Qi_r) (fun v M1 hp => Qi_k (R := fun st => E γ k_Works_cut 1 9 [some (vr (some (10, this))), some (vi a1)] st M1 (Qi Q)) hp (fun r2 h => ?_))
  refine E_if_ne (off := 5) (tgt := 14) (by decide +kernel) (by decide) (fun b3 => ?_) (fun b3 => ?_)
  · rw [if_pos b3] at h
    refine E_blk (lv' := [some (vr (some (10, this))), some (vi a1)]) (st' := [vi (-1 : Int32)]) (M1 := M1) (pc' := 13) (tb_Works hγ) [.iconst (.negSucc 0)] (by decide +kernel) rfl rfl trivial ?_
    exact E_iret rfl (by decide +kernel) h
  · rw [if_neg b3] at h
    refine E_blk (lv' := [some (vr (some (10, this))), some (vi a1)]) (st' := [vi (mI (sI M1 10 this 1 ((mI M1 10 this 1) - a1)) 10 this 1)]) (M1 := (sI M1 10 this 1 ((mI M1 10 this 1) - a1))) (pc' := 28) (tb_Works hγ) [.aload_n 0, .dup, .getfield 121, .iload_n 1, .isub, .putfield 121, .aload_n 0, .getfield 121] (by decide +kernel) rfl rfl trivial ?_
    exact E_iret rfl (by decide +kernel) h
def w_Works_isReference (a1 : Int32) (Q : Int32 → Mem → Prop) (M : Mem) : Prop :=
  if (1 : Int32) ≤ a1 then (Q (1 : Int32) M) else (if a1 = (-1 : Int32) then (Q (1 : Int32) M) else (Q (0 : Int32) M))
set_option maxRecDepth 4096 in
theorem lk_Works_isReference {γ : Gm} (hγ : Gk γ) (a1 : Int32) (Q : Int32 → Mem → Prop) (M : Mem) (h : w_Works_isReference a1 Q M) : E γ k_Works_isReference 0 0 [some (vi a1)] [] M (Qi Q) := by
  unfold w_Works_isReference at h
  refine E_blk (lv' := [some (vi a1)]) (st' := [vi (1 : Int32), vi a1]) (M1 := M) (pc' := 2) (tb_Works hγ) [.iload_n 0, .iconst 1] (by decide +kernel) rfl rfl trivial ?_
  refine E_icmp_ge (off := 8) (tgt := 10) (by decide +kernel) (by decide) (fun b1 => ?_) (fun b1 => ?_)
  · rw [if_pos b1] at h
    refine E_blk (lv' := [some (vi a1)]) (st' := [vi (1 : Int32)]) (M1 := M) (pc' := 11) (tb_Works hγ) [.iconst 1] (by decide +kernel) rfl rfl trivial ?_
    refine E_goto (off := 4) (tgt := 15) (by decide +kernel) (by decide) ?_
    exact E_zret rfl (Or.inr rfl) (by decide +kernel) h
  · rw [if_neg b1] at h
    refine E_blk (lv' := [some (vi a1)]) (st' := [vi (-1 : Int32), vi a1]) (M1 := M) (pc' := 7) (tb_Works hγ) [.iload_n 0, .iconst (.negSucc 0)] (by decide +kernel) rfl rfl trivial ?_
    refine E_icmp_ne (off := 7) (tgt := 14) (by decide +kernel) (by decide) (fun b2 => ?_) (fun b2 => ?_)
    · rw [if_pos b2] at h
      refine E_blk (lv' := [some (vi a1)]) (st' := [vi (1 : Int32)]) (M1 := M) (pc' := 11) (tb_Works hγ) [.iconst 1] (by decide +kernel) rfl rfl trivial ?_
      refine E_goto (off := 4) (tgt := 15) (by decide +kernel) (by decide) ?_
      exact E_zret rfl (Or.inr rfl) (by decide +kernel) h
    · rw [if_neg b2] at h
      refine E_blk (lv' := [some (vi a1)]) (st' := [vi (0 : Int32)]) (M1 := M) (pc' := 15) (tb_Works hγ) [.iconst 0] (by decide +kernel) rfl rfl trivial ?_
      exact E_zret rfl (Or.inl rfl) (by decide +kernel) h
def w_Works_kindOf (a1 : Int32) (Q : Int32 → Mem → Prop) (M : Mem) : Prop :=
  Q (a1 + (2 : Int32)) M
set_option maxRecDepth 4096 in
theorem lk_Works_kindOf {γ : Gm} (hγ : Gk γ) (a1 : Int32) (Q : Int32 → Mem → Prop) (M : Mem) (h : w_Works_kindOf a1 Q M) : E γ k_Works_kindOf 0 0 [some (vi a1)] [] M (Qi Q) := by
  unfold w_Works_kindOf at h
  refine E_blk (lv' := [some (vi a1)]) (st' := [vi (a1 + (2 : Int32))]) (M1 := M) (pc' := 3) (tb_Works hγ) [.iload_n 0, .iconst 2, .iadd] (by decide +kernel) rfl rfl trivial ?_
  exact E_iret rfl (by decide +kernel) h
def w_Works_refuse (this : Nat) (a1 : Int32) (a2 : Int32) (Q : Nat → Mem → Prop) (M : Mem) : Prop :=
  Q 0 (sI (sI M 9 0 5 a1) 9 0 6 a2)
set_option maxRecDepth 4096 in
theorem lk_Works_refuse {γ : Gm} (hγ : Gk γ) (this : Nat) (a1 : Int32) (a2 : Int32) (Q : Nat → Mem → Prop) (M : Mem) (h : w_Works_refuse this a1 a2 Q M) : E γ k_Works_refuse 0 0 [some (vr (some (10, this))), some (vi a1), some (vi a2)] [] M (Qr 9 Q) := by
  unfold w_Works_refuse at h
  refine E_blk (lv' := [some (vr (some (10, this))), some (vi a1), some (vi a2)]) (st' := [vr (some (9, 0))]) (M1 := (sI (sI M 9 0 5 a1) 9 0 6 a2)) (pc' := 20) (tb_Works hγ) [.aload_n 0, .getfield 31, .iload_n 1, .putfield 132, .aload_n 0, .getfield 31, .iload_n 2, .putfield 135, .aload_n 0, .getfield 31] (by decide +kernel) rfl rfl trivial ?_
  exact E_aret rfl rfl (by decide +kernel) h
def w_World_addClass (this : Nat) (a1 : Int32) (a2 : Int32) (a3 : Int32) (Q : Int32 → Mem → Prop) (M : Mem) : Prop :=
  vp_in (mI M 5 this 2) (mL (sI M 5 this 2 ((mI M 5 this 2) + (1 : Int32))) 36 this) ∧ ∃ M2, M2 = (sI (sI M 5 this 2 ((mI M 5 this 2) + (1 : Int32))) 36 this (mI M 5 this 2).toNatClampNeg a1) ∧ vp_in (mI M 5 this 2) (mL M2 37 this) ∧ vp_in (mI M 5 this 2) (mL (sI M2 37 this (mI M 5 this 2).toNatClampNeg a2) 39 this) ∧ ∃ M5, M5 = (sI (sI M2 37 this (mI M 5 this 2).toNatClampNeg a2) 39 this (mI M 5 this 2).toNatClampNeg (0 : Int32)) ∧ vp_in (mI M 5 this 2) (mL M5 40 this) ∧ vp_in (mI M 5 this 2) (mL (sI M5 40 this (mI M 5 this 2).toNatClampNeg a3) 41 this) ∧ ∃ M8, M8 = (sI (sI M5 40 this (mI M 5 this 2).toNatClampNeg a3) 41 this (mI M 5 this 2).toNatClampNeg (mI (sI M5 40 this (mI M 5 this 2).toNatClampNeg a3) 5 this 17)) ∧ vp_in (mI M 5 this 2) (mL M8 42 this) ∧ vp_in (mI M 5 this 2) (mL (sI M8 42 this (mI M 5 this 2).toNatClampNeg (0 : Int32)) 43 this) ∧ ∃ M11, M11 = (sI (sI M8 42 this (mI M 5 this 2).toNatClampNeg (0 : Int32)) 43 this (mI M 5 this 2).toNatClampNeg (mI (sI M8 42 this (mI M 5 this 2).toNatClampNeg (0 : Int32)) 5 this 26)) ∧ vp_in (mI M 5 this 2) (mL M11 44 this) ∧ vp_in (mI M 5 this 2) (mL (sI M11 44 this (mI M 5 this 2).toNatClampNeg (0 : Int32)) 45 this) ∧ ∃ M14, M14 = (sI (sI M11 44 this (mI M 5 this 2).toNatClampNeg (0 : Int32)) 45 this (mI M 5 this 2).toNatClampNeg (0 : Int32)) ∧ vp_in (mI M 5 this 2) (mL M14 46 this) ∧ vp_in (mI M 5 this 2) (mL (sI M14 46 this (mI M 5 this 2).toNatClampNeg (0 : Int32)) 47 this) ∧ ∃ M17, M17 = (sI (sI M14 46 this (mI M 5 this 2).toNatClampNeg (0 : Int32)) 47 this (mI M 5 this 2).toNatClampNeg (0 : Int32)) ∧ vp_in (mI M 5 this 2) (mL M17 48 this) ∧ Q (mI M 5 this 2) (sI M17 48 this (mI M 5 this 2).toNatClampNeg (0 : Int32))
set_option maxRecDepth 4096 in
theorem lk_World_addClass {γ : Gm} (hγ : Gk γ) (this : Nat) (a1 : Int32) (a2 : Int32) (a3 : Int32) (Q : Int32 → Mem → Prop) (M : Mem) (h : w_World_addClass this a1 a2 a3 Q M) : E γ k_World_addClass 0 0 [some (vr (some (5, this))), some (vi a1), some (vi a2), some (vi a3), none] [] M (Qi Q) := by
  unfold w_World_addClass at h
  obtain ⟨c1, h⟩ := h
  refine E_blk (lv' := [some (vr (some (5, this))), some (vi a1), some (vi a2), some (vi a3), some (vi (mI M 5 this 2))]) (st' := []) (M1 := (sI (sI M 5 this 2 ((mI M 5 this 2) + (1 : Int32))) 36 this (mI M 5 this 2).toNatClampNeg a1)) (pc' := 24) (tb_World hγ) [.aload_n 0, .getfield 192, .istore 4, .aload_n 0, .dup, .getfield 192, .iconst 1, .iadd, .putfield 192, .aload_n 0, .getfield 19, .iload 4, .iload_n 1, .iastore] (by decide +kernel) rfl rfl ⟨c1, trivial⟩ ?_
  obtain ⟨M2, eM2, h⟩ := h
  rw [← eM2]
  obtain ⟨c3, c4, h⟩ := h
  refine E_blk (lv' := [some (vr (some (5, this))), some (vi a1), some (vi a2), some (vi a3), some (vi (mI M 5 this 2))]) (st' := []) (M1 := (sI (sI M2 37 this (mI M 5 this 2).toNatClampNeg a2) 39 this (mI M 5 this 2).toNatClampNeg (0 : Int32))) (pc' := 40) (tb_World hγ) [.aload_n 0, .getfield 23, .iload 4, .iload_n 2, .iastore, .aload_n 0, .getfield 29, .iload 4, .iconst 0, .iastore] (by decide +kernel) rfl rfl ⟨c3, c4, trivial⟩ ?_
  obtain ⟨M5, eM5, h⟩ := h
  rw [← eM5]
  obtain ⟨c6, c7, h⟩ := h
  refine E_blk (lv' := [some (vr (some (5, this))), some (vi a1), some (vi a2), some (vi a3), some (vi (mI M 5 this 2))]) (st' := []) (M1 := (sI (sI M5 40 this (mI M 5 this 2).toNatClampNeg a3) 41 this (mI M 5 this 2).toNatClampNeg (mI (sI M5 40 this (mI M 5 this 2).toNatClampNeg a3) 5 this 17))) (pc' := 59) (tb_World hγ) [.aload_n 0, .getfield 32, .iload 4, .iload_n 3, .iastore, .aload_n 0, .getfield 35, .iload 4, .aload_n 0, .getfield 195, .iastore] (by decide +kernel) rfl rfl ⟨c6, c7, trivial⟩ ?_
  obtain ⟨M8, eM8, h⟩ := h
  rw [← eM8]
  obtain ⟨c9, c10, h⟩ := h
  refine E_blk (lv' := [some (vr (some (5, this))), some (vi a1), some (vi a2), some (vi a3), some (vi (mI M 5 this 2))]) (st' := []) (M1 := (sI (sI M8 42 this (mI M 5 this 2).toNatClampNeg (0 : Int32)) 43 this (mI M 5 this 2).toNatClampNeg (mI (sI M8 42 this (mI M 5 this 2).toNatClampNeg (0 : Int32)) 5 this 26))) (pc' := 78) (tb_World hγ) [.aload_n 0, .getfield 38, .iload 4, .iconst 0, .iastore, .aload_n 0, .getfield 41, .iload 4, .aload_n 0, .getfield 198, .iastore] (by decide +kernel) rfl rfl ⟨c9, c10, trivial⟩ ?_
  obtain ⟨M11, eM11, h⟩ := h
  rw [← eM11]
  obtain ⟨c12, c13, h⟩ := h
  refine E_blk (lv' := [some (vr (some (5, this))), some (vi a1), some (vi a2), some (vi a3), some (vi (mI M 5 this 2))]) (st' := []) (M1 := (sI (sI M11 44 this (mI M 5 this 2).toNatClampNeg (0 : Int32)) 45 this (mI M 5 this 2).toNatClampNeg (0 : Int32))) (pc' := 94) (tb_World hγ) [.aload_n 0, .getfield 44, .iload 4, .iconst 0, .iastore, .aload_n 0, .getfield 47, .iload 4, .iconst 0, .iastore] (by decide +kernel) rfl rfl ⟨c12, c13, trivial⟩ ?_
  obtain ⟨M14, eM14, h⟩ := h
  rw [← eM14]
  obtain ⟨c15, c16, h⟩ := h
  refine E_blk (lv' := [some (vr (some (5, this))), some (vi a1), some (vi a2), some (vi a3), some (vi (mI M 5 this 2))]) (st' := []) (M1 := (sI (sI M14 46 this (mI M 5 this 2).toNatClampNeg (0 : Int32)) 47 this (mI M 5 this 2).toNatClampNeg (0 : Int32))) (pc' := 110) (tb_World hγ) [.aload_n 0, .getfield 50, .iload 4, .iconst 0, .iastore, .aload_n 0, .getfield 53, .iload 4, .iconst 0, .iastore] (by decide +kernel) rfl rfl ⟨c15, c16, trivial⟩ ?_
  obtain ⟨M17, eM17, h⟩ := h
  rw [← eM17]
  obtain ⟨c18, h⟩ := h
  refine E_blk (lv' := [some (vr (some (5, this))), some (vi a1), some (vi a2), some (vi a3), some (vi (mI M 5 this 2))]) (st' := [vi (mI M 5 this 2)]) (M1 := (sI M17 48 this (mI M 5 this 2).toNatClampNeg (0 : Int32))) (pc' := 120) (tb_World hγ) [.aload_n 0, .getfield 56, .iload 4, .iconst 0, .iastore, .iload 4] (by decide +kernel) rfl rfl ⟨c18, trivial⟩ ?_
  exact E_iret rfl (by decide +kernel) h
def w_World_addMethod (this : Nat) (a1 : Int32) (a2 : Int32) (Q : Int32 → Mem → Prop) (M : Mem) : Prop :=
  vp_in (mI M 5 this 26) (mL (sI M 5 this 26 ((mI M 5 this 26) + (1 : Int32))) 55 this) ∧ ∃ M2, M2 = (sI (sI M 5 this 26 ((mI M 5 this 26) + (1 : Int32))) 55 this (mI M 5 this 26).toNatClampNeg ((mI (sI M 5 this 26 ((mI M 5 this 26) + (1 : Int32))) 5 this 2) - (1 : Int32))) ∧ vp_in (mI M 5 this 26) (mL M2 56 this) ∧ vp_in (mI M 5 this 26) (mL (sI M2 56 this (mI M 5 this 26).toNatClampNeg a1) 57 this) ∧ ∃ M5, M5 = (sI (sI M2 56 this (mI M 5 this 26).toNatClampNeg a1) 57 this (mI M 5 this 26).toNatClampNeg a2) ∧ vp_in (mI M 5 this 26) (mL M5 58 this) ∧ vp_in (mI M 5 this 26) (mL (sI M5 58 this (mI M 5 this 26).toNatClampNeg (0 : Int32)) 60 this) ∧ ∃ M8, M8 = (sI (sI M5 58 this (mI M 5 this 26).toNatClampNeg (0 : Int32)) 60 this (mI M 5 this 26).toNatClampNeg (0 : Int32)) ∧ vp_in (mI M 5 this 26) (mL M8 61 this) ∧ vp_in (mI M 5 this 26) (mL (sI M8 61 this (mI M 5 this 26).toNatClampNeg (0 : Int32)) 62 this) ∧ ∃ M11, M11 = (sI (sI M8 61 this (mI M 5 this 26).toNatClampNeg (0 : Int32)) 62 this (mI M 5 this 26).toNatClampNeg (mI (sI M8 61 this (mI M 5 this 26).toNatClampNeg (0 : Int32)) 5 this 39)) ∧ vp_in (mI M 5 this 26) (mL M11 63 this) ∧ vp_in (mI M 5 this 26) (mL (sI M11 63 this (mI M 5 this 26).toNatClampNeg (0 : Int32)) 64 this) ∧ ∃ M14, M14 = (sI (sI M11 63 this (mI M 5 this 26).toNatClampNeg (0 : Int32)) 64 this (mI M 5 this 26).toNatClampNeg (mI (sI M11 63 this (mI M 5 this 26).toNatClampNeg (0 : Int32)) 5 this 51)) ∧ vp_in (mI M 5 this 26) (mL M14 65 this) ∧ Q (mI M 5 this 26) (sI M14 65 this (mI M 5 this 26).toNatClampNeg (0 : Int32))
set_option maxRecDepth 4096 in
theorem lk_World_addMethod {γ : Gm} (hγ : Gk γ) (this : Nat) (a1 : Int32) (a2 : Int32) (Q : Int32 → Mem → Prop) (M : Mem) (h : w_World_addMethod this a1 a2 Q M) : E γ k_World_addMethod 0 0 [some (vr (some (5, this))), some (vi a1), some (vi a2), none] [] M (Qi Q) := by
  unfold w_World_addMethod at h
  obtain ⟨c1, h⟩ := h
  refine E_blk (lv' := [some (vr (some (5, this))), some (vi a1), some (vi a2), some (vi (mI M 5 this 26))]) (st' := []) (M1 := (sI (sI M 5 this 26 ((mI M 5 this 26) + (1 : Int32))) 55 this (mI M 5 this 26).toNatClampNeg ((mI (sI M 5 this 26 ((mI M 5 this 26) + (1 : Int32))) 5 this 2) - (1 : Int32)))) (pc' := 27) (tb_World hγ) [.aload_n 0, .getfield 198, .istore_n 3, .aload_n 0, .dup, .getfield 198, .iconst 1, .iadd, .putfield 198, .aload_n 0, .getfield 87, .iload_n 3, .aload_n 0, .getfield 192, .iconst 1, .isub, .iastore] (by decide +kernel) rfl rfl ⟨c1, trivial⟩ ?_
  obtain ⟨M2, eM2, h⟩ := h
  rw [← eM2]
  obtain ⟨c3, c4, h⟩ := h
  refine E_blk (lv' := [some (vr (some (5, this))), some (vi a1), some (vi a2), some (vi (mI M 5 this 26))]) (st' := []) (M1 := (sI (sI M2 56 this (mI M 5 this 26).toNatClampNeg a1) 57 this (mI M 5 this 26).toNatClampNeg a2)) (pc' := 41) (tb_World hγ) [.aload_n 0, .getfield 90, .iload_n 3, .iload_n 1, .iastore, .aload_n 0, .getfield 93, .iload_n 3, .iload_n 2, .iastore] (by decide +kernel) rfl rfl ⟨c3, c4, trivial⟩ ?_
  obtain ⟨M5, eM5, h⟩ := h
  rw [← eM5]
  obtain ⟨c6, c7, h⟩ := h
  refine E_blk (lv' := [some (vr (some (5, this))), some (vi a1), some (vi a2), some (vi (mI M 5 this 26))]) (st' := []) (M1 := (sI (sI M5 58 this (mI M 5 this 26).toNatClampNeg (0 : Int32)) 60 this (mI M 5 this 26).toNatClampNeg (0 : Int32))) (pc' := 55) (tb_World hγ) [.aload_n 0, .getfield 96, .iload_n 3, .iconst 0, .iastore, .aload_n 0, .getfield 105, .iload_n 3, .iconst 0, .iastore] (by decide +kernel) rfl rfl ⟨c6, c7, trivial⟩ ?_
  obtain ⟨M8, eM8, h⟩ := h
  rw [← eM8]
  obtain ⟨c9, c10, h⟩ := h
  refine E_blk (lv' := [some (vr (some (5, this))), some (vi a1), some (vi a2), some (vi (mI M 5 this 26))]) (st' := []) (M1 := (sI (sI M8 61 this (mI M 5 this 26).toNatClampNeg (0 : Int32)) 62 this (mI M 5 this 26).toNatClampNeg (mI (sI M8 61 this (mI M 5 this 26).toNatClampNeg (0 : Int32)) 5 this 39))) (pc' := 72) (tb_World hγ) [.aload_n 0, .getfield 108, .iload_n 3, .iconst 0, .iastore, .aload_n 0, .getfield 111, .iload_n 3, .aload_n 0, .getfield 201, .iastore] (by decide +kernel) rfl rfl ⟨c9, c10, trivial⟩ ?_
  obtain ⟨M11, eM11, h⟩ := h
  rw [← eM11]
  obtain ⟨c12, c13, h⟩ := h
  refine E_blk (lv' := [some (vr (some (5, this))), some (vi a1), some (vi a2), some (vi (mI M 5 this 26))]) (st' := []) (M1 := (sI (sI M11 63 this (mI M 5 this 26).toNatClampNeg (0 : Int32)) 64 this (mI M 5 this 26).toNatClampNeg (mI (sI M11 63 this (mI M 5 this 26).toNatClampNeg (0 : Int32)) 5 this 51))) (pc' := 89) (tb_World hγ) [.aload_n 0, .getfield 114, .iload_n 3, .iconst 0, .iastore, .aload_n 0, .getfield 117, .iload_n 3, .aload_n 0, .getfield 210, .iastore] (by decide +kernel) rfl rfl ⟨c12, c13, trivial⟩ ?_
  obtain ⟨M14, eM14, h⟩ := h
  rw [← eM14]
  obtain ⟨c15, h⟩ := h
  refine E_blk (lv' := [some (vr (some (5, this))), some (vi a1), some (vi a2), some (vi (mI M 5 this 26))]) (st' := [vi (mI M 5 this 26)]) (M1 := (sI M14 65 this (mI M 5 this 26).toNatClampNeg (0 : Int32))) (pc' := 97) (tb_World hγ) [.aload_n 0, .getfield 120, .iload_n 3, .iconst 0, .iastore, .iload_n 3] (by decide +kernel) rfl rfl ⟨c15, trivial⟩ ?_
  exact E_iret rfl (by decide +kernel) h
def w_Line_clear (this : Nat) (Q : Mem → Prop) (M : Mem) : Prop :=
  ((0 : Int32) = 0 ∨ (0 : Int32) = 1) ∧ ∃ M2, M2 = (sI (sI (sI M 7 this 1 (0 : Int32)) 7 this 2 (0 : Int32)) 7 this 10 (0 : Int32)) ∧ ∃ M3, M3 = (sI (sI (sI M2 7 this 11 (0 : Int32)) 7 this 12 (0 : Int32)) 7 this 13 (0 : Int32)) ∧ ∃ M4, M4 = (sI (sI (sI M3 7 this 14 (0 : Int32)) 7 this 15 (-2 : Int32)) 7 this 16 (0 : Int32)) ∧ Q (sI (sI M4 7 this 18 (0 : Int32)) 7 this 19 (-1 : Int32))
set_option maxRecDepth 4096 in
theorem lk_Line_clear {γ : Gm} (hγ : Gk γ) (this : Nat) (Q : Mem → Prop) (M : Mem) (h : w_Line_clear this Q M) : E γ k_Line_clear 0 0 [some (vr (some (7, this)))] [] M (Qv Q) := by
  unfold w_Line_clear at h
  obtain ⟨c1, h⟩ := h
  refine E_blk (lv' := [some (vr (some (7, this)))]) (st' := []) (M1 := (sI (sI (sI M 7 this 1 (0 : Int32)) 7 this 2 (0 : Int32)) 7 this 10 (0 : Int32))) (pc' := 15) (tb_Line hγ) [.aload_n 0, .iconst 0, .putfield 41, .aload_n 0, .iconst 0, .putfield 44, .aload_n 0, .iconst 0, .putfield 47] (by decide +kernel) rfl rfl ⟨c1, trivial⟩ ?_
  obtain ⟨M2, eM2, h⟩ := h
  rw [← eM2]
  refine E_blk (lv' := [some (vr (some (7, this)))]) (st' := []) (M1 := (sI (sI (sI M2 7 this 11 (0 : Int32)) 7 this 12 (0 : Int32)) 7 this 13 (0 : Int32))) (pc' := 30) (tb_Line hγ) [.aload_n 0, .iconst 0, .putfield 51, .aload_n 0, .iconst 0, .putfield 54, .aload_n 0, .iconst 0, .putfield 57] (by decide +kernel) rfl rfl trivial ?_
  obtain ⟨M3, eM3, h⟩ := h
  rw [← eM3]
  refine E_blk (lv' := [some (vr (some (7, this)))]) (st' := []) (M1 := (sI (sI (sI M3 7 this 14 (0 : Int32)) 7 this 15 (-2 : Int32)) 7 this 16 (0 : Int32))) (pc' := 46) (tb_Line hγ) [.aload_n 0, .iconst 0, .putfield 60, .aload_n 0, .bipush (.negSucc 1), .putfield 63, .aload_n 0, .iconst 0, .putfield 66] (by decide +kernel) rfl rfl trivial ?_
  obtain ⟨M4, eM4, h⟩ := h
  rw [← eM4]
  refine E_blk (lv' := [some (vr (some (7, this)))]) (st' := []) (M1 := (sI (sI M4 7 this 18 (0 : Int32)) 7 this 19 (-1 : Int32))) (pc' := 56) (tb_Line hγ) [.aload_n 0, .iconst 0, .putfield 69, .aload_n 0, .iconst (.negSucc 0), .putfield 72] (by decide +kernel) rfl rfl trivial ?_
  exact E_vret rfl (by decide +kernel) h
def w_Machine_begin_L10 (this : Nat) (Q : Mem → Prop) : Nat → Int32 → Int32 → Mem → Prop
  | 0, _, _, _ => False
  | n + 1, v2, v3, M => if v2 ≤ v3 then (∃ M2, M2 = (sI (sI (sI M 6 this 3 (0 : Int32)) 6 this 5 (50 : Int32)) 6 this 4 (mI (sI (sI M 6 this 3 (0 : Int32)) 6 this 5 (50 : Int32)) 6 this 5)) ∧ ∃ M3, M3 = (sI (sI (sI M2 6 this 6 (0 : Int32)) 6 this 7 (0 : Int32)) 6 this 21 (0 : Int32)) ∧ ∃ M4, M4 = (sI (sI (sI M3 6 this 26 (0 : Int32)) 6 this 14 (1 : Int32)) 6 this 15 (0 : Int32)) ∧ mL M4 512 this < 2 ^ 31 ∧ ∃ M5, M5 = flI M4 512 this (0 : Int32) ∧ mL (sI M5 6 this 29 (0 : Int32)) 88 this < 2 ^ 31 ∧ ∃ M7, M7 = flI (sI M5 6 this 29 (0 : Int32)) 88 this (0 : Int32) ∧ Q M7) else (vp_in v3 (mL M 700 this) ∧ ∃ i10, (mR M 700 this v3.toNatClampNeg) = some (7, i10) ∧ w_Line_clear i10 (fun M11 => (w_Machine_begin_L10 this Q n) v2 (v3 + (1 : Int32)) M11) M)
def w_Machine_begin (this : Nat) (Q : Mem → Prop) (M : Mem) : Prop :=
  ∃ n12 : Nat, w_Machine_begin_L10 this Q n12 (Int32.ofNat (mL M 700 this)) (0 : Int32) M
set_option maxRecDepth 4096 in
theorem lk_Machine_begin_L10 {γ : Gm} (hγ : Gk γ) (this : Nat) (Q : Mem → Prop) : ∀ (n : Nat) (v2 : Int32) (v3 : Int32) (M : Mem), w_Machine_begin_L10 this Q n v2 v3 M → E γ k_Machine_begin 1 10 [some (vr (some (6, this))), some (vr (some (700, this))), some (vi v2), some (vi v3), none] [] M (Qv Q) := by
  intro n
  induction n with
  | zero => intro v2 v3 M h; exact h.elim
  | succ n ih =>
    intro v2 v3 M h
    unfold w_Machine_begin_L10 at h
    refine E_blk (lv' := [some (vr (some (6, this))), some (vr (some (700, this))), some (vi v2), some (vi v3), none]) (st' := [vi v2, vi v3]) (M1 := M) (pc' := 12) (tb_Machine hγ) [.iload_n 3, .iload_n 2] (by decide +kernel) rfl rfl trivial ?_
    refine E_icmp_ge (off := 19) (tgt := 31) (by decide +kernel) (by decide) (fun b1 => ?_) (fun b1 => ?_)
    · rw [if_pos b1] at h
      refine E_blk (lv' := [some (vr (some (6, this))), some (vr (some (700, this))), some (vi v2), some (vi v3), none]) (st' := []) (M1 := (sI (sI (sI M 6 this 3 (0 : Int32)) 6 this 5 (50 : Int32)) 6 this 4 (mI (sI (sI M 6 this 3 (0 : Int32)) 6 this 5 (50 : Int32)) 6 this 5))) (pc' := 50) (tb_Machine hγ) [.aload_n 0, .iconst 0, .putfield 91, .aload_n 0, .bipush 50, .putfield 95, .aload_n 0, .aload_n 0, .getfield 95, .putfield 98] (by decide +kernel) rfl rfl trivial ?_
      obtain ⟨M2, eM2, h⟩ := h
      rw [← eM2]
      refine E_blk (lv' := [some (vr (some (6, this))), some (vr (some (700, this))), some (vi v2), some (vi v3), none]) (st' := []) (M1 := (sI (sI (sI M2 6 this 6 (0 : Int32)) 6 this 7 (0 : Int32)) 6 this 21 (0 : Int32))) (pc' := 65) (tb_Machine hγ) [.aload_n 0, .iconst 0, .putfield 101, .aload_n 0, .iconst 0, .putfield 104, .aload_n 0, .iconst 0, .putfield 107] (by decide +kernel) rfl rfl trivial ?_
      obtain ⟨M3, eM3, h⟩ := h
      rw [← eM3]
      refine E_blk (lv' := [some (vr (some (6, this))), some (vr (some (700, this))), some (vi v2), some (vi v3), none]) (st' := []) (M1 := (sI (sI (sI M3 6 this 26 (0 : Int32)) 6 this 14 (1 : Int32)) 6 this 15 (0 : Int32))) (pc' := 80) (tb_Machine hγ) [.aload_n 0, .iconst 0, .putfield 110, .aload_n 0, .iconst 1, .putfield 113, .aload_n 0, .iconst 0, .putfield 116] (by decide +kernel) rfl rfl trivial ?_
      obtain ⟨M4, eM4, h⟩ := h
      rw [← eM4]
      refine E_blk (lv' := [some (vr (some (6, this))), some (vr (some (700, this))), some (vi v2), some (vi v3), none]) (st' := [vi (0 : Int32), vr (some (512, this))]) (M1 := M4) (pc' := 85) (tb_Machine hγ) [.aload_n 0, .getfield 44, .iconst 0] (by decide +kernel) rfl rfl trivial ?_
      obtain ⟨c6, M5, eM5, h⟩ := h
      refine E_fillZ (st := []) (by decide) (by decide) (by decide) c6 (tbk_mem (j := 6) (k := 24) rfl) (by decide +kernel) (Nat.le_of_ble_eq_true rfl) ?_
      rw [← eM5]
      refine E_blk (lv' := [some (vr (some (6, this))), some (vr (some (700, this))), some (vi v2), some (vi v3), none]) (st' := [vi (0 : Int32), vr (some (88, this))]) (M1 := (sI M5 6 this 29 (0 : Int32))) (pc' := 98) (tb_Machine hγ) [.aload_n 0, .iconst 0, .putfield 125, .aload_n 0, .getfield 81, .iconst 0] (by decide +kernel) rfl rfl trivial ?_
      obtain ⟨c8, M7, eM7, h⟩ := h
      refine E_fillI (st := []) (by decide) (by decide) c8 (tbk_mem (j := 6) (k := 27) rfl) (by decide +kernel) (Nat.le_of_ble_eq_true rfl) ?_
      rw [← eM7]
      exact E_vret rfl (by decide +kernel) h
    · rw [if_neg b1] at h
      obtain ⟨c9, h⟩ := h
      refine E_blk (lv' := [some (vr (some (6, this))), some (vr (some (700, this))), some (vi v2), some (vi v3), none]) (st' := [vr (mR M 700 this v3.toNatClampNeg)]) (M1 := M) (pc' := 18) (tb_Machine hγ) [.aload_n 1, .iload_n 3, .aaload] (by decide +kernel) rfl rfl ⟨c9, trivial⟩ ?_
      obtain ⟨i10, ei10, h⟩ := h
      rw [ei10]
      refine E_blk (lv' := [some (vr (some (6, this))), some (vr (some (700, this))), some (vi v2), some (vi v3), some (vr (some (7, i10)))]) (st' := [vr (some (7, i10))]) (M1 := M) (pc' := 22) (tb_Machine hγ) [.astore 4, .aload 4] (by decide +kernel) rfl rfl trivial ?_
      refine E_callV (κ' := k_Line_clear) (As := []) (st := []) mv_Line_clear (Or.inl (tbk_mem (j := 6) (k := 20) rfl)) rfl (by decide +kernel) (Nat.le_of_ble_eq_true rfl) (Nat.le_of_ble_eq_true rfl) rfl (by decide) (lk_Line_clear hγ i10 _ M h) (fun _ _ => Qv_r) (fun v M11 hp => Qv_k (R := fun st => E γ k_Machine_begin 1 25 [some (vr (some (6, this))), some (vr (some (700, this))), some (vi v2), some (vi v3), some (vr (some (7, i10)))] st M11 (Qv Q)) hp (fun h => ?_))
      refine E_blk (lv' := [some (vr (some (6, this))), some (vr (some (700, this))), some (vi v2), some (vi (v3 + (1 : Int32))), some (vr (some (7, i10)))]) (st' := []) (M1 := M11) (pc' := 28) (tb_Machine hγ) [.iinc 3 1] (by decide +kernel) rfl rfl trivial ?_
      refine E_goto (off := -18) (tgt := 10) (by decide +kernel) (by decide) ?_
      refine E_mask [true, true, true, true, false] rfl ?_
      exact ih v2 (v3 + (1 : Int32)) M11 h
set_option maxRecDepth 4096 in
theorem lk_Machine_begin {γ : Gm} (hγ : Gk γ) (this : Nat) (Q : Mem → Prop) (M : Mem) (h : w_Machine_begin this Q M) : E γ k_Machine_begin 1 0 [some (vr (some (6, this))), none, none, none, none] [] M (Qv Q) := by
  unfold w_Machine_begin at h
  refine E_blk (lv' := [some (vr (some (6, this))), some (vr (some (700, this))), some (vi (Int32.ofNat (mL M 700 this))), some (vi (0 : Int32)), none]) (st' := []) (M1 := M) (pc' := 10) (tb_Machine hγ) [.aload_n 0, .getfield 20, .astore_n 1, .aload_n 1, .arraylength, .istore_n 2, .iconst 0, .istore_n 3] (by decide +kernel) rfl rfl trivial ?_
  obtain ⟨n12, h⟩ := h
  refine E_mask [true, true, true, true, false] rfl ?_
  exact lk_Machine_begin_L10 hγ this Q n12 (Int32.ofNat (mL M 700 this)) (0 : Int32) M h
def w_World_begin_j102 (this : Nat) (Q : Mem → Prop) (k65 : Int32 → Mem → Prop) (v2 : Int32) (s0 : Int32) (M : Mem) : Prop :=
  w_World_addClass this ((81 : Int32) + v2) s0 (0 : Int32) (fun r9 M8 => w_World_addMethod this (79 : Int32) (0 : Int32) (fun r11 M10 => vp_in r11 (mL M10 59 this) ∧ vp_in r9 (mL (sI M10 59 this r11.toNatClampNeg (-4 : Int32)) 44 this) ∧ ∃ M14, M14 = (sI (sI M10 59 this r11.toNatClampNeg (-4 : Int32)) 44 this r9.toNatClampNeg (1 : Int32)) ∧ vp_in r9 (mL M14 45 this) ∧ vp_in r9 (mL (sI M14 45 this r9.toNatClampNeg (1 : Int32)) 46 this) ∧ ∃ M17, M17 = (sI (sI M14 45 this r9.toNatClampNeg (1 : Int32)) 46 this r9.toNatClampNeg (2 : Int32)) ∧ k65 (v2 + (1 : Int32)) M17) M8) M
def w_World_begin_L65 (this : Nat) (Q : Mem → Prop) : Nat → Int32 → Mem → Prop
  | 0, _, _ => False
  | n + 1, v2, M => if (21 : Int32) ≤ v2 then (w_Machine_begin this (fun M6 => Q M6) M) else (if v2 = 0 then (w_World_begin_j102 this Q (w_World_begin_L65 this Q n) v2 (-1 : Int32) M) else (if v2 = (1 : Int32) then (w_World_begin_j102 this Q (w_World_begin_L65 this Q n) v2 (81 : Int32) M) else (if v2 ≤ (10 : Int32) then (w_World_begin_j102 this Q (w_World_begin_L65 this Q n) v2 (82 : Int32) M) else (w_World_begin_j102 this Q (w_World_begin_L65 this Q n) v2 (91 : Int32) M))))
def w_World_begin (this : Nat) (a1 : Int32) (Q : Mem → Prop) (M : Mem) : Prop :=
  ∃ M1, M1 = (sI (sI (sI M 5 this 1 a1) 5 this 56 (-2 : Int32)) 5 this 57 (-2 : Int32)) ∧ ∃ M2, M2 = (sI (sI (sI M1 5 this 58 (-2 : Int32)) 5 this 2 (0 : Int32)) 5 this 17 (0 : Int32)) ∧ ∃ M3, M3 = (sI (sI (sI M2 5 this 26 (0 : Int32)) 5 this 39 (0 : Int32)) 5 this 47 (0 : Int32)) ∧ ∃ M4, M4 = (sI (sI (sI M3 5 this 49 (0 : Int32)) 5 this 51 (0 : Int32)) 5 this 53 (4 : Int32)) ∧ ∃ n20 : Nat, w_World_begin_L65 this Q n20 (0 : Int32) M4
set_option maxRecDepth 4096 in
theorem lk_World_begin_j102 {γ : Gm} (hγ : Gk γ) (this : Nat) (Q : Mem → Prop) (k65 : Int32 → Mem → Prop) (hk65 : ∀ (v2 : Int32) (M : Mem), k65 v2 M → E γ k_World_begin 2 65 [some (vr (some (5, this))), none, some (vi v2), none, none, none] [] M (Qv Q)) (v2 : Int32) (s0 : Int32) (M : Mem) (h : w_World_begin_j102 this Q k65 v2 s0 M) : E γ k_World_begin 2 102 [some (vr (some (5, this))), none, some (vi v2), none, none, none] [vi s0] M (Qv Q) := by
  unfold w_World_begin_j102 at h
  refine E_blk (lv' := [some (vr (some (5, this))), none, some (vi v2), some (vi s0), none, none]) (st' := [vi (0 : Int32), vi s0, vi ((81 : Int32) + v2), vr (some (5, this))]) (M1 := M) (pc' := 110) (tb_World hγ) [.istore_n 3, .aload_n 0, .bipush 81, .iload_n 2, .iadd, .iload_n 3, .iconst 0] (by decide +kernel) rfl rfl trivial ?_
  refine E_callV (κ' := k_World_addClass) (As := [vi ((81 : Int32) + v2), vi s0, vi (0 : Int32)]) (st := []) mv_World_addClass (Or.inl (tbk_mem (j := 6) (k := 8) rfl)) rfl (by decide +kernel) (Nat.le_of_ble_eq_true rfl) (Nat.le_of_ble_eq_true rfl) rfl (by decide) (lk_World_addClass hγ this ((81 : Int32) + v2) s0 (0 : Int32) _ M h) (fun _ _ => Qi_r) (fun v M8 hp => Qi_k (R := fun st => E γ k_World_begin 2 113 [some (vr (some (5, this))), none, some (vi v2), some (vi s0), none, none] st M8 (Qv Q)) hp (fun r9 h => ?_))
  refine E_blk (lv' := [some (vr (some (5, this))), none, some (vi v2), some (vi s0), some (vi r9), none]) (st' := [vi (0 : Int32), vi (79 : Int32), vr (some (5, this))]) (M1 := M8) (pc' := 119) (tb_World hγ) [.istore 4, .aload_n 0, .bipush 79, .iconst 0] (by decide +kernel) rfl rfl trivial ?_
  refine E_callV (κ' := k_World_addMethod) (As := [vi (79 : Int32), vi (0 : Int32)]) (st := []) mv_World_addMethod (Or.inl (tbk_mem (j := 6) (k := 12) rfl)) rfl (by decide +kernel) (Nat.le_of_ble_eq_true rfl) (Nat.le_of_ble_eq_true rfl) rfl (by decide) (lk_World_addMethod hγ this (79 : Int32) (0 : Int32) _ M8 h) (fun _ _ => Qi_r) (fun v M10 hp => Qi_k (R := fun st => E γ k_World_begin 2 122 [some (vr (some (5, this))), none, some (vi v2), some (vi s0), some (vi r9), none] st M10 (Qv Q)) hp (fun r11 h => ?_))
  obtain ⟨c12, c13, h⟩ := h
  refine E_blk (lv' := [some (vr (some (5, this))), none, some (vi v2), some (vi s0), some (vi r9), some (vi r11)]) (st' := []) (M1 := (sI (sI M10 59 this r11.toNatClampNeg (-4 : Int32)) 44 this r9.toNatClampNeg (1 : Int32))) (pc' := 141) (tb_World hγ) [.istore 5, .aload_n 0, .getfield 102, .iload 5, .bipush (.negSucc 3), .iastore, .aload_n 0, .getfield 44, .iload 4, .iconst 1, .iastore] (by decide +kernel) rfl rfl ⟨c12, c13, trivial⟩ ?_
  obtain ⟨M14, eM14, h⟩ := h
  rw [← eM14]
  obtain ⟨c15, c16, h⟩ := h
  refine E_blk (lv' := [some (vr (some (5, this))), none, some (vi v2), some (vi s0), some (vi r9), some (vi r11)]) (st' := []) (M1 := (sI (sI M14 45 this r9.toNatClampNeg (1 : Int32)) 46 this r9.toNatClampNeg (2 : Int32))) (pc' := 157) (tb_World hγ) [.aload_n 0, .getfield 47, .iload 4, .iconst 1, .iastore, .aload_n 0, .getfield 50, .iload 4, .iconst 2, .iastore] (by decide +kernel) rfl rfl ⟨c15, c16, trivial⟩ ?_
  obtain ⟨M17, eM17, h⟩ := h
  rw [← eM17]
  refine E_blk (lv' := [some (vr (some (5, this))), none, some (vi (v2 + (1 : Int32))), some (vi s0), some (vi r9), some (vi r11)]) (st' := []) (M1 := M17) (pc' := 160) (tb_World hγ) [.iinc 2 1] (by decide +kernel) rfl rfl trivial ?_
  refine E_goto (off := -95) (tgt := 65) (by decide +kernel) (by decide) ?_
  refine E_mask [true, false, true, false, false, false] rfl ?_
  exact hk65 (v2 + (1 : Int32)) M17 h
set_option maxRecDepth 4096 in
theorem lk_World_begin_L65 {γ : Gm} (hγ : Gk γ) (this : Nat) (Q : Mem → Prop) : ∀ (n : Nat) (v2 : Int32) (M : Mem), w_World_begin_L65 this Q n v2 M → E γ k_World_begin 2 65 [some (vr (some (5, this))), none, some (vi v2), none, none, none] [] M (Qv Q) := by
  intro n
  induction n with
  | zero => intro v2 M h; exact h.elim
  | succ n ih =>
    intro v2 M h
    unfold w_World_begin_L65 at h
    refine E_blk (lv' := [some (vr (some (5, this))), none, some (vi v2), none, none, none]) (st' := [vi (21 : Int32), vi v2]) (M1 := M) (pc' := 68) (tb_World hγ) [.iload_n 2, .bipush 21] (by decide +kernel) rfl rfl trivial ?_
    refine E_icmp_ge (off := 95) (tgt := 163) (by decide +kernel) (by decide) (fun b5 => ?_) (fun b5 => ?_)
    · rw [if_pos b5] at h
      refine E_blk (lv' := [some (vr (some (5, this))), none, some (vi v2), none, none, none]) (st' := [vr (some (6, this))]) (M1 := M) (pc' := 167) (tb_World hγ) [.aload_n 0, .getfield 134] (by decide +kernel) rfl rfl trivial ?_
      refine E_callV (κ' := k_Machine_begin) (As := []) (st := []) mv_Machine_begin (Or.inl (tbk_mem (j := 6) (k := 16) rfl)) rfl (by decide +kernel) (Nat.le_of_ble_eq_true rfl) (Nat.le_of_ble_eq_true rfl) rfl (by decide) (lk_Machine_begin hγ this _ M h) (fun _ _ => Qv_r) (fun v M6 hp => Qv_k (R := fun st => E γ k_World_begin 2 170 [some (vr (some (5, this))), none, some (vi v2), none, none, none] st M6 (Qv Q)) hp (fun h => ?_))
      exact E_vret rfl (by decide +kernel) h
    · rw [if_neg b5] at h
      refine E_blk (lv' := [some (vr (some (5, this))), none, some (vi v2), none, none, none]) (st' := [vi v2]) (M1 := M) (pc' := 72) (tb_World hγ) [.iload_n 2] (by decide +kernel) rfl rfl trivial ?_
      refine E_if_ne (off := 7) (tgt := 79) (by decide +kernel) (by decide) (fun b7 => ?_) (fun b7 => ?_)
      · rw [if_pos b7] at h
        refine E_blk (lv' := [some (vr (some (5, this))), none, some (vi v2), none, none, none]) (st' := [vi (-1 : Int32)]) (M1 := M) (pc' := 76) (tb_World hγ) [.iconst (.negSucc 0)] (by decide +kernel) rfl rfl trivial ?_
        refine E_goto (off := 26) (tgt := 102) (by decide +kernel) (by decide) ?_
        refine E_mask [true, false, true, false, false, false] rfl ?_
        exact lk_World_begin_j102 hγ this Q (w_World_begin_L65 this Q n) ih v2 (-1 : Int32) M h
      · rw [if_neg b7] at h
        refine E_blk (lv' := [some (vr (some (5, this))), none, some (vi v2), none, none, none]) (st' := [vi (1 : Int32), vi v2]) (M1 := M) (pc' := 81) (tb_World hγ) [.iload_n 2, .iconst 1] (by decide +kernel) rfl rfl trivial ?_
        refine E_icmp_ne (off := 8) (tgt := 89) (by decide +kernel) (by decide) (fun b18 => ?_) (fun b18 => ?_)
        · rw [if_pos b18] at h
          refine E_blk (lv' := [some (vr (some (5, this))), none, some (vi v2), none, none, none]) (st' := [vi (81 : Int32)]) (M1 := M) (pc' := 86) (tb_World hγ) [.bipush 81] (by decide +kernel) rfl rfl trivial ?_
          refine E_goto (off := 16) (tgt := 102) (by decide +kernel) (by decide) ?_
          refine E_mask [true, false, true, false, false, false] rfl ?_
          exact lk_World_begin_j102 hγ this Q (w_World_begin_L65 this Q n) ih v2 (81 : Int32) M h
        · rw [if_neg b18] at h
          refine E_blk (lv' := [some (vr (some (5, this))), none, some (vi v2), none, none, none]) (st' := [vi (10 : Int32), vi v2]) (M1 := M) (pc' := 92) (tb_World hγ) [.iload_n 2, .bipush 10] (by decide +kernel) rfl rfl trivial ?_
          refine E_icmp_le (off := 8) (tgt := 100) (by decide +kernel) (by decide) (fun b19 => ?_) (fun b19 => ?_)
          · rw [if_pos b19] at h
            refine E_blk (lv' := [some (vr (some (5, this))), none, some (vi v2), none, none, none]) (st' := [vi (82 : Int32)]) (M1 := M) (pc' := 102) (tb_World hγ) [.bipush 82] (by decide +kernel) rfl rfl trivial ?_
            refine E_mask [true, false, true, false, false, false] rfl ?_
            exact lk_World_begin_j102 hγ this Q (w_World_begin_L65 this Q n) ih v2 (82 : Int32) M h
          · rw [if_neg b19] at h
            refine E_blk (lv' := [some (vr (some (5, this))), none, some (vi v2), none, none, none]) (st' := [vi (91 : Int32)]) (M1 := M) (pc' := 97) (tb_World hγ) [.bipush 91] (by decide +kernel) rfl rfl trivial ?_
            refine E_goto (off := 5) (tgt := 102) (by decide +kernel) (by decide) ?_
            refine E_mask [true, false, true, false, false, false] rfl ?_
            exact lk_World_begin_j102 hγ this Q (w_World_begin_L65 this Q n) ih v2 (91 : Int32) M h
set_option maxRecDepth 4096 in
theorem lk_World_begin {γ : Gm} (hγ : Gk γ) (this : Nat) (a1 : Int32) (Q : Mem → Prop) (M : Mem) (h : w_World_begin this a1 Q M) : E γ k_World_begin 2 0 [some (vr (some (5, this))), some (vi a1), none, none, none, none] [] M (Qv Q) := by
  unfold w_World_begin at h
  refine E_blk (lv' := [some (vr (some (5, this))), some (vi a1), none, none, none, none]) (st' := []) (M1 := (sI (sI (sI M 5 this 1 a1) 5 this 56 (-2 : Int32)) 5 this 57 (-2 : Int32))) (pc' := 17) (tb_World hγ) [.aload_n 0, .iload_n 1, .putfield 180, .aload_n 0, .bipush (.negSucc 1), .putfield 183, .aload_n 0, .bipush (.negSucc 1), .putfield 186] (by decide +kernel) rfl rfl trivial ?_
  obtain ⟨M1, eM1, h⟩ := h
  rw [← eM1]
  refine E_blk (lv' := [some (vr (some (5, this))), some (vi a1), none, none, none, none]) (st' := []) (M1 := (sI (sI (sI M1 5 this 58 (-2 : Int32)) 5 this 2 (0 : Int32)) 5 this 17 (0 : Int32))) (pc' := 33) (tb_World hγ) [.aload_n 0, .bipush (.negSucc 1), .putfield 189, .aload_n 0, .iconst 0, .putfield 192, .aload_n 0, .iconst 0, .putfield 195] (by decide +kernel) rfl rfl trivial ?_
  obtain ⟨M2, eM2, h⟩ := h
  rw [← eM2]
  refine E_blk (lv' := [some (vr (some (5, this))), some (vi a1), none, none, none, none]) (st' := []) (M1 := (sI (sI (sI M2 5 this 26 (0 : Int32)) 5 this 39 (0 : Int32)) 5 this 47 (0 : Int32))) (pc' := 48) (tb_World hγ) [.aload_n 0, .iconst 0, .putfield 198, .aload_n 0, .iconst 0, .putfield 201, .aload_n 0, .iconst 0, .putfield 204] (by decide +kernel) rfl rfl trivial ?_
  obtain ⟨M3, eM3, h⟩ := h
  rw [← eM3]
  refine E_blk (lv' := [some (vr (some (5, this))), some (vi a1), none, none, none, none]) (st' := []) (M1 := (sI (sI (sI M3 5 this 49 (0 : Int32)) 5 this 51 (0 : Int32)) 5 this 53 (4 : Int32))) (pc' := 63) (tb_World hγ) [.aload_n 0, .iconst 0, .putfield 207, .aload_n 0, .iconst 0, .putfield 210, .aload_n 0, .iconst 4, .putfield 213] (by decide +kernel) rfl rfl trivial ?_
  obtain ⟨M4, eM4, h⟩ := h
  rw [← eM4]
  refine E_blk (lv' := [some (vr (some (5, this))), some (vi a1), some (vi (0 : Int32)), none, none, none]) (st' := []) (M1 := M4) (pc' := 65) (tb_World hγ) [.iconst 0, .istore_n 2] (by decide +kernel) rfl rfl trivial ?_
  obtain ⟨n20, h⟩ := h
  refine E_mask [true, false, true, false, false, false] rfl ?_
  exact lk_World_begin_L65 hγ this Q n20 (0 : Int32) M4 h
def w_Words_begin (this : Nat) (a1 : Nat) (a2 : Int32) (Q : Mem → Prop) (M : Mem) : Prop :=
  ∃ M1, M1 = (sI (sI (sR M 2 this 0 (some (400, a1))) 2 this 1 a2) 2 this 2 (0 : Int32)) ∧ Q M1
set_option maxRecDepth 4096 in
theorem lk_Words_begin {γ : Gm} (hγ : Gk γ) (this : Nat) (a1 : Nat) (a2 : Int32) (Q : Mem → Prop) (M : Mem) (h : w_Words_begin this a1 a2 Q M) : E γ k_Words_begin 0 0 [some (vr (some (2, this))), some (vr (some (400, a1))), some (vi a2)] [] M (Qv Q) := by
  unfold w_Words_begin at h
  refine E_blk (lv' := [some (vr (some (2, this))), some (vr (some (400, a1))), some (vi a2)]) (st' := []) (M1 := (sI (sI (sR M 2 this 0 (some (400, a1))) 2 this 1 a2) 2 this 2 (0 : Int32))) (pc' := 15) (tb_Words hγ) [.aload_n 0, .aload_n 1, .putfield 15, .aload_n 0, .iload_n 2, .putfield 19, .aload_n 0, .iconst 0, .putfield 23] (by decide +kernel) rfl rfl trivial ?_
  obtain ⟨M1, eM1, h⟩ := h
  rw [← eM1]
  exact E_vret rfl (by decide +kernel) h
def w_Words_peek (this : Nat) (a1 : Int32) (Q : Int32 → Mem → Prop) (M : Mem) : Prop :=
  if (mI M 2 this 1) ≤ a1 then (Q (10 : Int32) M) else (∃ i2, (mR M 2 this 0) = some (400, i2) ∧ vp_in a1 (mL M 400 i2) ∧ Q (mI M 400 i2 a1.toNatClampNeg) M)
set_option maxRecDepth 4096 in
theorem lk_Words_peek {γ : Gm} (hγ : Gk γ) (this : Nat) (a1 : Int32) (Q : Int32 → Mem → Prop) (M : Mem) (h : w_Words_peek this a1 Q M) : E γ k_Words_peek 0 0 [some (vr (some (2, this))), some (vi a1)] [] M (Qi Q) := by
  unfold w_Words_peek at h
  refine E_blk (lv' := [some (vr (some (2, this))), some (vi a1)]) (st' := [vi (mI M 2 this 1), vi a1]) (M1 := M) (pc' := 5) (tb_Words hγ) [.iload_n 1, .aload_n 0, .getfield 19] (by decide +kernel) rfl rfl trivial ?_
  refine E_icmp_ge (off := 12) (tgt := 17) (by decide +kernel) (by decide) (fun b1 => ?_) (fun b1 => ?_)
  · rw [if_pos b1] at h
    refine E_blk (lv' := [some (vr (some (2, this))), some (vi a1)]) (st' := [vi (10 : Int32)]) (M1 := M) (pc' := 19) (tb_Words hγ) [.bipush 10] (by decide +kernel) rfl rfl trivial ?_
    exact E_iret rfl (by decide +kernel) h
  · rw [if_neg b1] at h
    refine E_blk (lv' := [some (vr (some (2, this))), some (vi a1)]) (st' := [vr (mR M 2 this 0)]) (M1 := M) (pc' := 12) (tb_Words hγ) [.aload_n 0, .getfield 15] (by decide +kernel) rfl rfl trivial ?_
    obtain ⟨i2, ei2, h⟩ := h
    rw [ei2]
    obtain ⟨c3, h⟩ := h
    refine E_blk (lv' := [some (vr (some (2, this))), some (vi a1)]) (st' := [vi (mI M 400 i2 a1.toNatClampNeg)]) (M1 := M) (pc' := 14) (tb_Words hγ) [.iload_n 1, .baload] (by decide +kernel) rfl rfl ⟨c3, trivial⟩ ?_
    refine E_goto (off := 5) (tgt := 19) (by decide +kernel) (by decide) ?_
    exact E_iret rfl (by decide +kernel) h
def w_Words_isLetter (this : Nat) (a1 : Int32) (Q : Int32 → Mem → Prop) (M : Mem) : Prop :=
  w_Works_isIn a1 (97 : Int32) (122 : Int32) (fun r2 M1 => if r2 = 0 then (w_Works_isIn a1 (65 : Int32) (90 : Int32) (fun r5 M4 => if r5 = 0 then (if a1 = (95 : Int32) then (Q (1 : Int32) M4) else (Q (0 : Int32) M4)) else (Q (1 : Int32) M4)) M1) else (Q (1 : Int32) M1)) M
set_option maxRecDepth 4096 in
theorem lk_Words_isLetter {γ : Gm} (hγ : Gk γ) (this : Nat) (a1 : Int32) (Q : Int32 → Mem → Prop) (M : Mem) (h : w_Words_isLetter this a1 Q M) : E γ k_Words_isLetter 1 0 [some (vr (some (2, this))), some (vi a1)] [] M (Qi Q) := by
  unfold w_Words_isLetter at h
  refine E_blk (lv' := [some (vr (some (2, this))), some (vi a1)]) (st' := [vi (122 : Int32), vi (97 : Int32), vi a1]) (M1 := M) (pc' := 5) (tb_Words hγ) [.iload_n 1, .bipush 97, .bipush 122] (by decide +kernel) rfl rfl trivial ?_
  refine E_callS (κ' := k_Works_isIn) (As := [vi a1, vi (97 : Int32), vi (122 : Int32)]) (st := []) ms_Works_isIn (Or.inr ⟨"ClassWorks", (tbk_mem (j := 6) (k := 69) rfl)⟩) rfl (by decide +kernel) (Nat.le_of_ble_eq_true rfl) (Nat.le_of_ble_eq_true rfl) rfl (by decide) (lk_Works_isIn hγ a1 (97 : Int32) (122 : Int32) _ M h) (fun _ _ => Qi_r) (fun v M1 hp => Qi_k (R := fun st => E γ k_Words_isLetter 1 8 [some (vr (some (2, this))), some (vi a1)] st M1 (Qi Q)) hp (fun r2 h => ?_))
  refine E_if_ne (off := 20) (tgt := 28) (by decide +kernel) (by decide) (fun b3 => ?_) (fun b3 => ?_)
  · rw [if_pos b3] at h
    refine E_blk (lv' := [some (vr (some (2, this))), some (vi a1)]) (st' := [vi (90 : Int32), vi (65 : Int32), vi a1]) (M1 := M1) (pc' := 16) (tb_Words hγ) [.iload_n 1, .bipush 65, .bipush 90] (by decide +kernel) rfl rfl trivial ?_
    refine E_callS (κ' := k_Works_isIn) (As := [vi a1, vi (65 : Int32), vi (90 : Int32)]) (st := []) ms_Works_isIn (Or.inr ⟨"ClassWorks", (tbk_mem (j := 6) (k := 69) rfl)⟩) rfl (by decide +kernel) (Nat.le_of_ble_eq_true rfl) (Nat.le_of_ble_eq_true rfl) rfl (by decide) (lk_Works_isIn hγ a1 (65 : Int32) (90 : Int32) _ M1 h) (fun _ _ => Qi_r) (fun v M4 hp => Qi_k (R := fun st => E γ k_Words_isLetter 1 19 [some (vr (some (2, this))), some (vi a1)] st M4 (Qi Q)) hp (fun r5 h => ?_))
    refine E_if_ne (off := 9) (tgt := 28) (by decide +kernel) (by decide) (fun b6 => ?_) (fun b6 => ?_)
    · rw [if_pos b6] at h
      refine E_blk (lv' := [some (vr (some (2, this))), some (vi a1)]) (st' := [vi (95 : Int32), vi a1]) (M1 := M4) (pc' := 25) (tb_Words hγ) [.iload_n 1, .bipush 95] (by decide +kernel) rfl rfl trivial ?_
      refine E_icmp_ne (off := 7) (tgt := 32) (by decide +kernel) (by decide) (fun b7 => ?_) (fun b7 => ?_)
      · rw [if_pos b7] at h
        refine E_blk (lv' := [some (vr (some (2, this))), some (vi a1)]) (st' := [vi (1 : Int32)]) (M1 := M4) (pc' := 29) (tb_Words hγ) [.iconst 1] (by decide +kernel) rfl rfl trivial ?_
        refine E_goto (off := 4) (tgt := 33) (by decide +kernel) (by decide) ?_
        exact E_zret rfl (Or.inr rfl) (by decide +kernel) h
      · rw [if_neg b7] at h
        refine E_blk (lv' := [some (vr (some (2, this))), some (vi a1)]) (st' := [vi (0 : Int32)]) (M1 := M4) (pc' := 33) (tb_Words hγ) [.iconst 0] (by decide +kernel) rfl rfl trivial ?_
        exact E_zret rfl (Or.inl rfl) (by decide +kernel) h
    · rw [if_neg b6] at h
      refine E_blk (lv' := [some (vr (some (2, this))), some (vi a1)]) (st' := [vi (1 : Int32)]) (M1 := M4) (pc' := 29) (tb_Words hγ) [.iconst 1] (by decide +kernel) rfl rfl trivial ?_
      refine E_goto (off := 4) (tgt := 33) (by decide +kernel) (by decide) ?_
      exact E_zret rfl (Or.inr rfl) (by decide +kernel) h
  · rw [if_neg b3] at h
    refine E_blk (lv' := [some (vr (some (2, this))), some (vi a1)]) (st' := [vi (1 : Int32)]) (M1 := M1) (pc' := 29) (tb_Words hγ) [.iconst 1] (by decide +kernel) rfl rfl trivial ?_
    refine E_goto (off := 4) (tgt := 33) (by decide +kernel) (by decide) ?_
    exact E_zret rfl (Or.inr rfl) (by decide +kernel) h
def w_Words_isDigit (this : Nat) (a1 : Int32) (Q : Int32 → Mem → Prop) (M : Mem) : Prop :=
  w_Works_isIn a1 (48 : Int32) (57 : Int32) (fun r2 M1 => (r2 = 0 ∨ r2 = 1) ∧ Q r2 M1) M
set_option maxRecDepth 4096 in
theorem lk_Words_isDigit {γ : Gm} (hγ : Gk γ) (this : Nat) (a1 : Int32) (Q : Int32 → Mem → Prop) (M : Mem) (h : w_Words_isDigit this a1 Q M) : E γ k_Words_isDigit 1 0 [some (vr (some (2, this))), some (vi a1)] [] M (Qi Q) := by
  unfold w_Words_isDigit at h
  refine E_blk (lv' := [some (vr (some (2, this))), some (vi a1)]) (st' := [vi (57 : Int32), vi (48 : Int32), vi a1]) (M1 := M) (pc' := 5) (tb_Words hγ) [.iload_n 1, .bipush 48, .bipush 57] (by decide +kernel) rfl rfl trivial ?_
  refine E_callS (κ' := k_Works_isIn) (As := [vi a1, vi (48 : Int32), vi (57 : Int32)]) (st := []) ms_Works_isIn (Or.inr ⟨"ClassWorks", (tbk_mem (j := 6) (k := 69) rfl)⟩) rfl (by decide +kernel) (Nat.le_of_ble_eq_true rfl) (Nat.le_of_ble_eq_true rfl) rfl (by decide) (lk_Works_isIn hγ a1 (48 : Int32) (57 : Int32) _ M h) (fun _ _ => Qi_r) (fun v M1 hp => Qi_k (R := fun st => E γ k_Words_isDigit 1 8 [some (vr (some (2, this))), some (vi a1)] st M1 (Qi Q)) hp (fun r2 h => ?_))
  exact E_zret rfl h.1 (by decide +kernel) h.2
def w_Names_of_j67 (this : Nat) (Q : Int32 → Mem → Prop) (k9 : Nat → Int32 → Int32 → Int64 → Int32 → Int32 → Mem → Prop) (v1 : Nat) (v2 : Int32) (v3 : Int32) (v4 : Int64) (v6 : Int32) (v7 : Int32) (M : Mem) : Prop :=
  k9 v1 v2 v3 v4 v6 (v7 + (1 : Int32)) M
def w_Names_of_j34 (this : Nat) (Q : Int32 → Mem → Prop) (k9 : Nat → Int32 → Int32 → Int64 → Int32 → Int32 → Mem → Prop) (v1 : Nat) (v2 : Int32) (v3 : Int32) (v4 : Int64) (v6 : Int32) (v7 : Int32) (s0 : Int32) (M : Mem) : Prop :=
  if (8 : Int32) ≤ v7 then (w_Names_of_j67 this Q k9 v1 v2 v3 v4 ((v6 <<< ((8 : Int32) &&& 31)) ||| s0) v7 M) else (w_Names_of_j67 this Q k9 v1 v2 v3 ((v4 <<< ((8 : Int32).toInt64 &&& 63)) ||| s0.toInt64) v6 v7 M)
def w_Names_of_L9 (this : Nat) (Q : Int32 → Mem → Prop) : Nat → Nat → Int32 → Int32 → Int64 → Int32 → Int32 → Mem → Prop
  | 0, _, _, _, _, _, _, _ => False
  | n + 1, v1, v2, v3, v4, v6, v7, M => if (12 : Int32) ≤ v7 then (w_Names_numberOf this v4 v6 (fun r3 M2 => Q r3 M2) M) else (if v3 ≤ (v2 + v7) then (w_Names_of_j34 this Q (w_Names_of_L9 this Q n) v1 v2 v3 v4 v6 v7 (0 : Int32) M) else (vp_in (v2 + v7) (mL M 400 v1) ∧ w_Names_of_j34 this Q (w_Names_of_L9 this Q n) v1 v2 v3 v4 v6 v7 (mI M 400 v1 (v2 + v7).toNatClampNeg) M))
def w_Names_of (this : Nat) (a1 : Nat) (a2 : Int32) (a3 : Int32) (Q : Int32 → Mem → Prop) (M : Mem) : Prop :=
  ∃ n7 : Nat, w_Names_of_L9 this Q n7 a1 a2 a3 (0 : Int64) (0 : Int32) (0 : Int32) M
set_option maxRecDepth 4096 in
theorem lk_Names_of_j67 {γ : Gm} (hγ : Gk γ) (this : Nat) (Q : Int32 → Mem → Prop) (k9 : Nat → Int32 → Int32 → Int64 → Int32 → Int32 → Mem → Prop) (hk9 : ∀ (v1 : Nat) (v2 : Int32) (v3 : Int32) (v4 : Int64) (v6 : Int32) (v7 : Int32) (M : Mem), k9 v1 v2 v3 v4 v6 v7 M → E γ k_Names_of 1 9 [some (vr (some (1, this))), some (vr (some (400, v1))), some (vi v2), some (vi v3), some (vl v4), none, some (vi v6), some (vi v7), none] [] M (Qi Q)) (v1 : Nat) (v2 : Int32) (v3 : Int32) (v4 : Int64) (v6 : Int32) (v7 : Int32) (M : Mem) (h : w_Names_of_j67 this Q k9 v1 v2 v3 v4 v6 v7 M) : E γ k_Names_of 1 67 [some (vr (some (1, this))), some (vr (some (400, v1))), some (vi v2), some (vi v3), some (vl v4), none, some (vi v6), some (vi v7), none] [] M (Qi Q) := by
  unfold w_Names_of_j67 at h
  refine E_blk (lv' := [some (vr (some (1, this))), some (vr (some (400, v1))), some (vi v2), some (vi v3), some (vl v4), none, some (vi v6), some (vi (v7 + (1 : Int32))), none]) (st' := []) (M1 := M) (pc' := 70) (tb_Names hγ) [.iinc 7 1] (by decide +kernel) rfl rfl trivial ?_
  refine E_goto (off := -61) (tgt := 9) (by decide +kernel) (by decide) ?_
  refine E_mask [true, true, true, true, true, false, true, true, false] rfl ?_
  exact hk9 v1 v2 v3 v4 v6 (v7 + (1 : Int32)) M h
set_option maxRecDepth 4096 in
theorem lk_Names_of_j34 {γ : Gm} (hγ : Gk γ) (this : Nat) (Q : Int32 → Mem → Prop) (k9 : Nat → Int32 → Int32 → Int64 → Int32 → Int32 → Mem → Prop) (hk9 : ∀ (v1 : Nat) (v2 : Int32) (v3 : Int32) (v4 : Int64) (v6 : Int32) (v7 : Int32) (M : Mem), k9 v1 v2 v3 v4 v6 v7 M → E γ k_Names_of 1 9 [some (vr (some (1, this))), some (vr (some (400, v1))), some (vi v2), some (vi v3), some (vl v4), none, some (vi v6), some (vi v7), none] [] M (Qi Q)) (v1 : Nat) (v2 : Int32) (v3 : Int32) (v4 : Int64) (v6 : Int32) (v7 : Int32) (s0 : Int32) (M : Mem) (h : w_Names_of_j34 this Q k9 v1 v2 v3 v4 v6 v7 s0 M) : E γ k_Names_of 1 34 [some (vr (some (1, this))), some (vr (some (400, v1))), some (vi v2), some (vi v3), some (vl v4), none, some (vi v6), some (vi v7), none] [vi s0] M (Qi Q) := by
  unfold w_Names_of_j34 at h
  refine E_blk (lv' := [some (vr (some (1, this))), some (vr (some (400, v1))), some (vi v2), some (vi v3), some (vl v4), none, some (vi v6), some (vi v7), some (vi s0)]) (st' := [vi (8 : Int32), vi v7]) (M1 := M) (pc' := 40) (tb_Names hγ) [.istore 8, .iload 7, .bipush 8] (by decide +kernel) rfl rfl trivial ?_
  refine E_icmp_ge (off := 17) (tgt := 57) (by decide +kernel) (by decide) (fun b5 => ?_) (fun b5 => ?_)
  · rw [if_pos b5] at h
    refine E_blk (lv' := [some (vr (some (1, this))), some (vr (some (400, v1))), some (vi v2), some (vi v3), some (vl v4), none, some (vi ((v6 <<< ((8 : Int32) &&& 31)) ||| s0)), some (vi v7), some (vi s0)]) (st' := []) (M1 := M) (pc' := 67) (tb_Names hγ) [.iload 6, .bipush 8, .ishl, .iload 8, .ior, .istore 6] (by decide +kernel) rfl rfl trivial ?_
    refine E_mask [true, true, true, true, true, false, true, true, false] rfl ?_
    exact lk_Names_of_j67 hγ this Q k9 hk9 v1 v2 v3 v4 ((v6 <<< ((8 : Int32) &&& 31)) ||| s0) v7 M h
  · rw [if_neg b5] at h
    refine E_blk (lv' := [some (vr (some (1, this))), some (vr (some (400, v1))), some (vi v2), some (vi v3), some (vl ((v4 <<< ((8 : Int32).toInt64 &&& 63)) ||| s0.toInt64)), none, some (vi v6), some (vi v7), some (vi s0)]) (st' := []) (M1 := M) (pc' := 54) (tb_Names hγ) [.lload 4, .bipush 8, .lshl, .iload 8, .i2l, .lor, .lstore 4] (by decide +kernel) rfl rfl trivial ?_
    refine E_goto (off := 13) (tgt := 67) (by decide +kernel) (by decide) ?_
    refine E_mask [true, true, true, true, true, false, true, true, false] rfl ?_
    exact lk_Names_of_j67 hγ this Q k9 hk9 v1 v2 v3 ((v4 <<< ((8 : Int32).toInt64 &&& 63)) ||| s0.toInt64) v6 v7 M h
set_option maxRecDepth 4096 in
theorem lk_Names_of_L9 {γ : Gm} (hγ : Gk γ) (this : Nat) (Q : Int32 → Mem → Prop) : ∀ (n : Nat) (v1 : Nat) (v2 : Int32) (v3 : Int32) (v4 : Int64) (v6 : Int32) (v7 : Int32) (M : Mem), w_Names_of_L9 this Q n v1 v2 v3 v4 v6 v7 M → E γ k_Names_of 1 9 [some (vr (some (1, this))), some (vr (some (400, v1))), some (vi v2), some (vi v3), some (vl v4), none, some (vi v6), some (vi v7), none] [] M (Qi Q) := by
  intro n
  induction n with
  | zero => intro v1 v2 v3 v4 v6 v7 M h; exact h.elim
  | succ n ih =>
    intro v1 v2 v3 v4 v6 v7 M h
    unfold w_Names_of_L9 at h
    refine E_blk (lv' := [some (vr (some (1, this))), some (vr (some (400, v1))), some (vi v2), some (vi v3), some (vl v4), none, some (vi v6), some (vi v7), none]) (st' := [vi (12 : Int32), vi v7]) (M1 := M) (pc' := 13) (tb_Names hγ) [.iload 7, .bipush 12] (by decide +kernel) rfl rfl trivial ?_
    refine E_icmp_ge (off := 60) (tgt := 73) (by decide +kernel) (by decide) (fun b1 => ?_) (fun b1 => ?_)
    · rw [if_pos b1] at h
      refine E_blk (lv' := [some (vr (some (1, this))), some (vr (some (400, v1))), some (vi v2), some (vi v3), some (vl v4), none, some (vi v6), some (vi v7), none]) (st' := [vi v6, vl v4, vr (some (1, this))]) (M1 := M) (pc' := 78) (tb_Names hγ) [.aload_n 0, .lload 4, .iload 6] (by decide +kernel) rfl rfl trivial ?_
      refine E_callV (κ' := k_Names_numberOf) (As := [vl v4, vi v6]) (st := []) mv_Names_numberOf (Or.inl (tbk_mem (j := 1) (k := 151) rfl)) rfl (by decide +kernel) (Nat.le_of_ble_eq_true rfl) (Nat.le_of_ble_eq_true rfl) rfl (by decide) (lk_Names_numberOf hγ this v4 v6 _ M h) (fun _ _ => Qi_r) (fun v M2 hp => Qi_k (R := fun st => E γ k_Names_of 1 81 [some (vr (some (1, this))), some (vr (some (400, v1))), some (vi v2), some (vi v3), some (vl v4), none, some (vi v6), some (vi v7), none] st M2 (Qi Q)) hp (fun r3 h => ?_))
      exact E_iret rfl (by decide +kernel) h
    · rw [if_neg b1] at h
      refine E_blk (lv' := [some (vr (some (1, this))), some (vr (some (400, v1))), some (vi v2), some (vi v3), some (vl v4), none, some (vi v6), some (vi v7), none]) (st' := [vi v3, vi (v2 + v7)]) (M1 := M) (pc' := 21) (tb_Names hγ) [.iload_n 2, .iload 7, .iadd, .iload_n 3] (by decide +kernel) rfl rfl trivial ?_
      refine E_icmp_ge (off := 12) (tgt := 33) (by decide +kernel) (by decide) (fun b4 => ?_) (fun b4 => ?_)
      · rw [if_pos b4] at h
        refine E_blk (lv' := [some (vr (some (1, this))), some (vr (some (400, v1))), some (vi v2), some (vi v3), some (vl v4), none, some (vi v6), some (vi v7), none]) (st' := [vi (0 : Int32)]) (M1 := M) (pc' := 34) (tb_Names hγ) [.iconst 0] (by decide +kernel) rfl rfl trivial ?_
        refine E_mask [true, true, true, true, true, false, true, true, false] rfl ?_
        exact lk_Names_of_j34 hγ this Q (w_Names_of_L9 this Q n) ih v1 v2 v3 v4 v6 v7 (0 : Int32) M h
      · rw [if_neg b4] at h
        obtain ⟨c6, h⟩ := h
        refine E_blk (lv' := [some (vr (some (1, this))), some (vr (some (400, v1))), some (vi v2), some (vi v3), some (vl v4), none, some (vi v6), some (vi v7), none]) (st' := [vi (mI M 400 v1 (v2 + v7).toNatClampNeg)]) (M1 := M) (pc' := 30) (tb_Names hγ) [.aload_n 1, .iload_n 2, .iload 7, .iadd, .baload] (by decide +kernel) rfl rfl ⟨c6, trivial⟩ ?_
        refine E_goto (off := 4) (tgt := 34) (by decide +kernel) (by decide) ?_
        refine E_mask [true, true, true, true, true, false, true, true, false] rfl ?_
        exact lk_Names_of_j34 hγ this Q (w_Names_of_L9 this Q n) ih v1 v2 v3 v4 v6 v7 (mI M 400 v1 (v2 + v7).toNatClampNeg) M h
set_option maxRecDepth 4096 in
theorem lk_Names_of {γ : Gm} (hγ : Gk γ) (this : Nat) (a1 : Nat) (a2 : Int32) (a3 : Int32) (Q : Int32 → Mem → Prop) (M : Mem) (h : w_Names_of this a1 a2 a3 Q M) : E γ k_Names_of 1 0 [some (vr (some (1, this))), some (vr (some (400, a1))), some (vi a2), some (vi a3), none, none, none, none, none] [] M (Qi Q) := by
  unfold w_Names_of at h
  refine E_blk (lv' := [some (vr (some (1, this))), some (vr (some (400, a1))), some (vi a2), some (vi a3), some (vl (0 : Int64)), none, some (vi (0 : Int32)), some (vi (0 : Int32)), none]) (st' := []) (M1 := M) (pc' := 9) (tb_Names hγ) [.lconst 0, .lstore 4, .iconst 0, .istore 6, .iconst 0, .istore 7] (by decide +kernel) rfl rfl trivial ?_
  obtain ⟨n7, h⟩ := h
  refine E_mask [true, true, true, true, true, false, true, true, false] rfl ?_
  exact lk_Names_of_L9 hγ this Q n7 a1 a2 a3 (0 : Int64) (0 : Int32) (0 : Int32) M h
def w_Words_name_j29 (this : Nat) (Q : Mem → Prop) (k5 : Int32 → Mem → Prop) (v1 : Int32) (M : Mem) : Prop :=
  k5 (v1 + (1 : Int32)) M
def w_Words_name_L5 (this : Nat) (Q : Mem → Prop) : Nat → Int32 → Mem → Prop
  | 0, _, _ => False
  | n + 1, v1, M => w_Words_peek this v1 (fun r2 M1 => w_Words_isLetter this r2 (fun r4 M3 => if r4 = 0 then (w_Words_peek this v1 (fun r7 M6 => w_Words_isDigit this r7 (fun r9 M8 => if r9 = 0 then (if (v1 - (mI M8 2 this 2)) ≤ (12 : Int32) then (∃ i12, (mR (sR M8 2 this 3 (some (0, 100 + 0))) 2 this 0) = some (400, i12) ∧ w_Names_of 0 i12 (mI (sR M8 2 this 3 (some (0, 100 + 0))) 2 this 2) v1 (fun r14 M13 => Q (sI (sI M13 2 this 5 r14) 2 this 2 v1)) (sR M8 2 this 3 (some (0, 100 + 0)))) else (Q M8)) else (w_Words_name_j29 this Q (w_Words_name_L5 this Q n) v1 M8)) M6) M3) else (w_Words_name_j29 this Q (w_Words_name_L5 this Q n) v1 M3)) M1) M
def w_Words_name (this : Nat) (Q : Mem → Prop) (M : Mem) : Prop :=
  ∃ n15 : Nat, w_Words_name_L5 this Q n15 (mI M 2 this 2) M
set_option maxRecDepth 4096 in
theorem lk_Words_name_j29 {γ : Gm} (hγ : Gk γ) (this : Nat) (Q : Mem → Prop) (k5 : Int32 → Mem → Prop) (hk5 : ∀ (v1 : Int32) (M : Mem), k5 v1 M → E γ k_Words_name 2 5 [some (vr (some (2, this))), some (vi v1)] [] M (Qv Q)) (v1 : Int32) (M : Mem) (h : w_Words_name_j29 this Q k5 v1 M) : E γ k_Words_name 2 29 [some (vr (some (2, this))), some (vi v1)] [] M (Qv Q) := by
  unfold w_Words_name_j29 at h
  refine E_blk (lv' := [some (vr (some (2, this))), some (vi (v1 + (1 : Int32)))]) (st' := []) (M1 := M) (pc' := 32) (tb_Words hγ) [.iinc 1 1] (by decide +kernel) rfl rfl trivial ?_
  refine E_goto (off := -27) (tgt := 5) (by decide +kernel) (by decide) ?_
  refine E_mask [true, true] rfl ?_
  exact hk5 (v1 + (1 : Int32)) M h
set_option maxRecDepth 4096 in
theorem lk_Words_name_L5 {γ : Gm} (hγ : Gk γ) (this : Nat) (Q : Mem → Prop) : ∀ (n : Nat) (v1 : Int32) (M : Mem), w_Words_name_L5 this Q n v1 M → E γ k_Words_name 2 5 [some (vr (some (2, this))), some (vi v1)] [] M (Qv Q) := by
  intro n
  induction n with
  | zero => intro v1 M h; exact h.elim
  | succ n ih =>
    intro v1 M h
    unfold w_Words_name_L5 at h
    refine E_blk (lv' := [some (vr (some (2, this))), some (vi v1)]) (st' := [vi v1, vr (some (2, this)), vr (some (2, this))]) (M1 := M) (pc' := 8) (tb_Words hγ) [.aload_n 0, .aload_n 0, .iload_n 1] (by decide +kernel) rfl rfl trivial ?_
    refine E_callV (κ' := k_Words_peek) (As := [vi v1]) (st := [vr (some (2, this))]) mv_Words_peek (Or.inl (tbk_mem (j := 6) (k := 57) rfl)) rfl (by decide +kernel) (Nat.le_of_ble_eq_true rfl) (Nat.le_of_ble_eq_true rfl) rfl (by decide) (lk_Words_peek hγ this v1 _ M h) (fun _ _ => Qi_r) (fun v M1 hp => Qi_k (R := fun st => E γ k_Words_name 2 11 [some (vr (some (2, this))), some (vi v1)] st M1 (Qv Q)) hp (fun r2 h => ?_))
    refine E_callV (κ' := k_Words_isLetter) (As := [vi r2]) (st := []) mv_Words_isLetter (Or.inl (tbk_mem (j := 6) (k := 65) rfl)) rfl (by decide +kernel) (Nat.le_of_ble_eq_true rfl) (Nat.le_of_ble_eq_true rfl) rfl (by decide) (lk_Words_isLetter hγ this r2 _ M1 h) (fun _ _ => Qi_r) (fun v M3 hp => Qi_k (R := fun st => E γ k_Words_name 2 14 [some (vr (some (2, this))), some (vi v1)] st M3 (Qv Q)) hp (fun r4 h => ?_))
    refine E_if_ne (off := 15) (tgt := 29) (by decide +kernel) (by decide) (fun b5 => ?_) (fun b5 => ?_)
    · rw [if_pos b5] at h
      refine E_blk (lv' := [some (vr (some (2, this))), some (vi v1)]) (st' := [vi v1, vr (some (2, this)), vr (some (2, this))]) (M1 := M3) (pc' := 20) (tb_Words hγ) [.aload_n 0, .aload_n 0, .iload_n 1] (by decide +kernel) rfl rfl trivial ?_
      refine E_callV (κ' := k_Words_peek) (As := [vi v1]) (st := [vr (some (2, this))]) mv_Words_peek (Or.inl (tbk_mem (j := 6) (k := 57) rfl)) rfl (by decide +kernel) (Nat.le_of_ble_eq_true rfl) (Nat.le_of_ble_eq_true rfl) rfl (by decide) (lk_Words_peek hγ this v1 _ M3 h) (fun _ _ => Qi_r) (fun v M6 hp => Qi_k (R := fun st => E γ k_Words_name 2 23 [some (vr (some (2, this))), some (vi v1)] st M6 (Qv Q)) hp (fun r7 h => ?_))
      refine E_callV (κ' := k_Words_isDigit) (As := [vi r7]) (st := []) mv_Words_isDigit (Or.inl (tbk_mem (j := 6) (k := 74) rfl)) rfl (by decide +kernel) (Nat.le_of_ble_eq_true rfl) (Nat.le_of_ble_eq_true rfl) rfl (by decide) (lk_Words_isDigit hγ this r7 _ M6 h) (fun _ _ => Qi_r) (fun v M8 hp => Qi_k (R := fun st => E γ k_Words_name 2 26 [some (vr (some (2, this))), some (vi v1)] st M8 (Qv Q)) hp (fun r9 h => ?_))
      refine E_if_eq (off := 9) (tgt := 35) (by decide +kernel) (by decide) (fun b10 => ?_) (fun b10 => ?_)
      · rw [if_pos b10] at h
        refine E_blk (lv' := [some (vr (some (2, this))), some (vi v1)]) (st' := [vi (12 : Int32), vi (v1 - (mI M8 2 this 2))]) (M1 := M8) (pc' := 43) (tb_Words hγ) [.iload_n 1, .aload_n 0, .getfield 23, .isub, .bipush 12] (by decide +kernel) rfl rfl trivial ?_
        refine E_icmp_le (off := 4) (tgt := 47) (by decide +kernel) (by decide) (fun b11 => ?_) (fun b11 => ?_)
        · rw [if_pos b11] at h
          refine E_blk (lv' := [some (vr (some (2, this))), some (vi v1)]) (st' := [vr (some (2, this))]) (M1 := M8) (pc' := 48) (tb_Words hγ) [.aload_n 0] (by decide +kernel) rfl rfl trivial ?_
          refine E_gets (κ := k_Words_name) (pc := 48) (j := 0) (idx := 72) (n := "NAME") hγ.2.1 rfl (tbk_mem (j := 6) (k := 78) rfl) (by decide +kernel) ?_
          refine E_blk (lv' := [some (vr (some (2, this))), some (vi v1)]) (st' := [vr (mR (sR M8 2 this 3 (some (0, 100 + 0))) 2 this 0), vr (some (1, 0)), vr (some (2, this))]) (M1 := (sR M8 2 this 3 (some (0, 100 + 0)))) (pc' := 66) (tb_Words hγ) [.putfield 43, .aload_n 0, .aload_n 0, .getfield 3, .getfield 75, .aload_n 0, .getfield 15] (by decide +kernel) rfl rfl trivial ?_
          obtain ⟨i12, ei12, h⟩ := h
          rw [ei12]
          refine E_blk (lv' := [some (vr (some (2, this))), some (vi v1)]) (st' := [vi v1, vi (mI (sR M8 2 this 3 (some (0, 100 + 0))) 2 this 2), vr (some (400, i12)), vr (some (1, 0)), vr (some (2, this))]) (M1 := (sR M8 2 this 3 (some (0, 100 + 0)))) (pc' := 71) (tb_Words hγ) [.aload_n 0, .getfield 23, .iload_n 1] (by decide +kernel) rfl rfl trivial ?_
          refine E_callV (κ' := k_Names_of) (As := [vr (some (400, i12)), vi (mI (sR M8 2 this 3 (some (0, 100 + 0))) 2 this 2), vi v1]) (st := [vr (some (2, this))]) mv_Names_of (Or.inl (tbk_mem (j := 6) (k := 80) rfl)) rfl (by decide +kernel) (Nat.le_of_ble_eq_true rfl) (Nat.le_of_ble_eq_true rfl) rfl (by decide) (lk_Names_of hγ 0 i12 (mI (sR M8 2 this 3 (some (0, 100 + 0))) 2 this 2) v1 _ (sR M8 2 this 3 (some (0, 100 + 0))) h) (fun _ _ => Qi_r) (fun v M13 hp => Qi_k (R := fun st => E γ k_Words_name 2 74 [some (vr (some (2, this))), some (vi v1)] st M13 (Qv Q)) hp (fun r14 h => ?_))
          refine E_blk (lv' := [some (vr (some (2, this))), some (vi v1)]) (st' := []) (M1 := (sI (sI M13 2 this 5 r14) 2 this 2 v1)) (pc' := 82) (tb_Words hγ) [.putfield 69, .aload_n 0, .iload_n 1, .putfield 23] (by decide +kernel) rfl rfl trivial ?_
          exact E_vret rfl (by decide +kernel) h
        · rw [if_neg b11] at h
          exact E_vret rfl (by decide +kernel) h
      · rw [if_neg b10] at h
        refine E_mask [true, true] rfl ?_
        exact lk_Words_name_j29 hγ this Q (w_Words_name_L5 this Q n) ih v1 M8 h
    · rw [if_neg b5] at h
      refine E_mask [true, true] rfl ?_
      exact lk_Words_name_j29 hγ this Q (w_Words_name_L5 this Q n) ih v1 M3 h
set_option maxRecDepth 4096 in
theorem lk_Words_name {γ : Gm} (hγ : Gk γ) (this : Nat) (Q : Mem → Prop) (M : Mem) (h : w_Words_name this Q M) : E γ k_Words_name 2 0 [some (vr (some (2, this))), none] [] M (Qv Q) := by
  unfold w_Words_name at h
  refine E_blk (lv' := [some (vr (some (2, this))), some (vi (mI M 2 this 2))]) (st' := []) (M1 := M) (pc' := 5) (tb_Words hγ) [.aload_n 0, .getfield 23, .istore_n 1] (by decide +kernel) rfl rfl trivial ?_
  obtain ⟨n15, h⟩ := h
  refine E_mask [true, true] rfl ?_
  exact lk_Words_name_L5 hγ this Q n15 (mI M 2 this 2) M h
def w_Words_number_j98 (this : Nat) (Q : Mem → Prop) (v3 : Int32) (v4 : Int64) (M : Mem) : Prop :=
  if (lg_cmp v4 (-2147483648 : Int64)) < 0 then (Q M) else (if (lg_cmp v4 (2147483647 : Int64)) ≤ 0 then (∃ M14, M14 = (sI (sI (sR M 2 this 3 (some (0, 100 + 1))) 2 this 5 v4.toInt32) 2 this 2 v3) ∧ Q M14) else (Q M))
def w_Words_number_L57 (this : Nat) (Q : Mem → Prop) : Nat → Int32 → Int32 → Int64 → Int32 → Mem → Prop
  | 0, _, _, _, _, _ => False
  | n + 1, v1, v3, v4, v6, M => if v3 ≤ v6 then (if v1 = 0 then (w_Words_number_j98 this Q v3 v4 M) else (w_Words_number_j98 this Q v3 (-v4) M)) else (w_Words_peek this v6 (fun r16 M15 => (w_Words_number_L57 this Q n) v1 v3 ((((10 : Int64) * v4) + r16.toInt64) - (48 : Int64)) (v6 + (1 : Int32)) M15) M)
def w_Words_number_L20 (this : Nat) (Q : Mem → Prop) : Nat → Int32 → Int32 → Int32 → Mem → Prop
  | 0, _, _, _, _ => False
  | n + 1, v1, v2, v3, M => w_Words_peek this v3 (fun r3 M2 => w_Words_isDigit this r3 (fun r5 M4 => if r5 = 0 then (w_Works_isIn (v3 - v2) (1 : Int32) (10 : Int32) (fun r8 M7 => if r8 = 0 then (Q M7) else (∃ n17 : Nat, w_Words_number_L57 this Q n17 v1 v3 (0 : Int64) v2 M7)) M4) else ((w_Words_number_L20 this Q n) v1 v2 (v3 + (1 : Int32)) M4)) M2) M
def w_Words_number_j17 (this : Nat) (Q : Mem → Prop) (v1 : Int32) (s0 : Int32) (M : Mem) : Prop :=
  ∃ n18 : Nat, w_Words_number_L20 this Q n18 v1 s0 s0 M
def w_Words_number (this : Nat) (a1 : Int32) (Q : Mem → Prop) (M : Mem) : Prop :=
  if a1 = 0 then (w_Words_number_j17 this Q a1 (mI M 2 this 2) M) else (w_Words_number_j17 this Q a1 ((mI M 2 this 2) + (1 : Int32)) M)
set_option maxRecDepth 4096 in
theorem lk_Words_number_j98 {γ : Gm} (hγ : Gk γ) (this : Nat) (Q : Mem → Prop) (v3 : Int32) (v4 : Int64) (M : Mem) (h : w_Words_number_j98 this Q v3 v4 M) : E γ k_Words_number 2 98 [some (vr (some (2, this))), none, none, some (vi v3), some (vl v4), none, none] [] M (Qv Q) := by
  unfold w_Words_number_j98 at h
  refine E_blk (lv' := [some (vr (some (2, this))), none, none, some (vi v3), some (vl v4), none, none]) (st' := [vi (lg_cmp v4 (-2147483648 : Int64))]) (M1 := M) (pc' := 104) (tb_Words hγ) [.lload 4, .ldc2_w 91, .lcmp] (by decide +kernel) rfl rfl trivial ?_
  refine E_if_lt (off := 12) (tgt := 116) (by decide +kernel) (by decide) (fun b12 => ?_) (fun b12 => ?_)
  · rw [if_pos b12] at h
    exact E_vret rfl (by decide +kernel) h
  · rw [if_neg b12] at h
    refine E_blk (lv' := [some (vr (some (2, this))), none, none, some (vi v3), some (vl v4), none, none]) (st' := [vi (lg_cmp v4 (2147483647 : Int64))]) (M1 := M) (pc' := 113) (tb_Words hγ) [.lload 4, .ldc2_w 93, .lcmp] (by decide +kernel) rfl rfl trivial ?_
    refine E_if_le (off := 4) (tgt := 117) (by decide +kernel) (by decide) (fun b13 => ?_) (fun b13 => ?_)
    · rw [if_pos b13] at h
      refine E_blk (lv' := [some (vr (some (2, this))), none, none, some (vi v3), some (vl v4), none, none]) (st' := [vr (some (2, this))]) (M1 := M) (pc' := 118) (tb_Words hγ) [.aload_n 0] (by decide +kernel) rfl rfl trivial ?_
      refine E_gets (κ := k_Words_number) (pc := 118) (j := 1) (idx := 95) (n := "NUMBER") hγ.2.1 rfl (tbk_mem (j := 6) (k := 92) rfl) (by decide +kernel) ?_
      refine E_blk (lv' := [some (vr (some (2, this))), none, none, some (vi v3), some (vl v4), none, none]) (st' := []) (M1 := (sI (sI (sR M 2 this 3 (some (0, 100 + 1))) 2 this 5 v4.toInt32) 2 this 2 v3)) (pc' := 136) (tb_Words hγ) [.putfield 43, .aload_n 0, .lload 4, .l2i, .putfield 69, .aload_n 0, .iload_n 3, .putfield 23] (by decide +kernel) rfl rfl trivial ?_
      obtain ⟨M14, eM14, h⟩ := h
      rw [← eM14]
      exact E_vret rfl (by decide +kernel) h
    · rw [if_neg b13] at h
      exact E_vret rfl (by decide +kernel) h
set_option maxRecDepth 4096 in
theorem lk_Words_number_L57 {γ : Gm} (hγ : Gk γ) (this : Nat) (Q : Mem → Prop) : ∀ (n : Nat) (v1 : Int32) (v3 : Int32) (v4 : Int64) (v6 : Int32) (M : Mem), w_Words_number_L57 this Q n v1 v3 v4 v6 M → E γ k_Words_number 2 57 [some (vr (some (2, this))), some (vi v1), none, some (vi v3), some (vl v4), none, some (vi v6)] [] M (Qv Q) := by
  intro n
  induction n with
  | zero => intro v1 v3 v4 v6 M h; exact h.elim
  | succ n ih =>
    intro v1 v3 v4 v6 M h
    unfold w_Words_number_L57 at h
    refine E_blk (lv' := [some (vr (some (2, this))), some (vi v1), none, some (vi v3), some (vl v4), none, some (vi v6)]) (st' := [vi v3, vi v6]) (M1 := M) (pc' := 60) (tb_Words hγ) [.iload 6, .iload_n 3] (by decide +kernel) rfl rfl trivial ?_
    refine E_icmp_ge (off := 29) (tgt := 89) (by decide +kernel) (by decide) (fun b10 => ?_) (fun b10 => ?_)
    · rw [if_pos b10] at h
      refine E_blk (lv' := [some (vr (some (2, this))), some (vi v1), none, some (vi v3), some (vl v4), none, some (vi v6)]) (st' := [vi v1]) (M1 := M) (pc' := 90) (tb_Words hγ) [.iload_n 1] (by decide +kernel) rfl rfl trivial ?_
      refine E_if_eq (off := 8) (tgt := 98) (by decide +kernel) (by decide) (fun b11 => ?_) (fun b11 => ?_)
      · rw [if_pos b11] at h
        refine E_mask [true, false, false, true, true, false, false] rfl ?_
        exact lk_Words_number_j98 hγ this Q v3 v4 M h
      · rw [if_neg b11] at h
        refine E_blk (lv' := [some (vr (some (2, this))), some (vi v1), none, some (vi v3), some (vl (-v4)), none, some (vi v6)]) (st' := []) (M1 := M) (pc' := 98) (tb_Words hγ) [.lload 4, .lneg, .lstore 4] (by decide +kernel) rfl rfl trivial ?_
        refine E_mask [true, false, false, true, true, false, false] rfl ?_
        exact lk_Words_number_j98 hγ this Q v3 (-v4) M h
    · rw [if_neg b10] at h
      refine E_blk (lv' := [some (vr (some (2, this))), some (vi v1), none, some (vi v3), some (vl v4), none, some (vi v6)]) (st' := [vi v6, vr (some (2, this)), vl ((10 : Int64) * v4)]) (M1 := M) (pc' := 72) (tb_Words hγ) [.ldc2_w 85, .lload 4, .lmul, .aload_n 0, .iload 6] (by decide +kernel) rfl rfl trivial ?_
      refine E_callV (κ' := k_Words_peek) (As := [vi v6]) (st := [vl ((10 : Int64) * v4)]) mv_Words_peek (Or.inl (tbk_mem (j := 6) (k := 57) rfl)) rfl (by decide +kernel) (Nat.le_of_ble_eq_true rfl) (Nat.le_of_ble_eq_true rfl) rfl (by decide) (lk_Words_peek hγ this v6 _ M h) (fun _ _ => Qi_r) (fun v M15 hp => Qi_k (R := fun st => E γ k_Words_number 2 75 [some (vr (some (2, this))), some (vi v1), none, some (vi v3), some (vl v4), none, some (vi v6)] st M15 (Qv Q)) hp (fun r16 h => ?_))
      refine E_blk (lv' := [some (vr (some (2, this))), some (vi v1), none, some (vi v3), some (vl ((((10 : Int64) * v4) + r16.toInt64) - (48 : Int64))), none, some (vi (v6 + (1 : Int32)))]) (st' := []) (M1 := M15) (pc' := 86) (tb_Words hγ) [.i2l, .ladd, .ldc2_w 87, .lsub, .lstore 4, .iinc 6 1] (by decide +kernel) rfl rfl trivial ?_
      refine E_goto (off := -29) (tgt := 57) (by decide +kernel) (by decide) ?_
      refine E_mask [true, true, false, true, true, false, true] rfl ?_
      exact ih v1 v3 ((((10 : Int64) * v4) + r16.toInt64) - (48 : Int64)) (v6 + (1 : Int32)) M15 h
set_option maxRecDepth 4096 in
theorem lk_Words_number_L20 {γ : Gm} (hγ : Gk γ) (this : Nat) (Q : Mem → Prop) : ∀ (n : Nat) (v1 : Int32) (v2 : Int32) (v3 : Int32) (M : Mem), w_Words_number_L20 this Q n v1 v2 v3 M → E γ k_Words_number 2 20 [some (vr (some (2, this))), some (vi v1), some (vi v2), some (vi v3), none, none, none] [] M (Qv Q) := by
  intro n
  induction n with
  | zero => intro v1 v2 v3 M h; exact h.elim
  | succ n ih =>
    intro v1 v2 v3 M h
    unfold w_Words_number_L20 at h
    refine E_blk (lv' := [some (vr (some (2, this))), some (vi v1), some (vi v2), some (vi v3), none, none, none]) (st' := [vi v3, vr (some (2, this)), vr (some (2, this))]) (M1 := M) (pc' := 23) (tb_Words hγ) [.aload_n 0, .aload_n 0, .iload_n 3] (by decide +kernel) rfl rfl trivial ?_
    refine E_callV (κ' := k_Words_peek) (As := [vi v3]) (st := [vr (some (2, this))]) mv_Words_peek (Or.inl (tbk_mem (j := 6) (k := 57) rfl)) rfl (by decide +kernel) (Nat.le_of_ble_eq_true rfl) (Nat.le_of_ble_eq_true rfl) rfl (by decide) (lk_Words_peek hγ this v3 _ M h) (fun _ _ => Qi_r) (fun v M2 hp => Qi_k (R := fun st => E γ k_Words_number 2 26 [some (vr (some (2, this))), some (vi v1), some (vi v2), some (vi v3), none, none, none] st M2 (Qv Q)) hp (fun r3 h => ?_))
    refine E_callV (κ' := k_Words_isDigit) (As := [vi r3]) (st := []) mv_Words_isDigit (Or.inl (tbk_mem (j := 6) (k := 74) rfl)) rfl (by decide +kernel) (Nat.le_of_ble_eq_true rfl) (Nat.le_of_ble_eq_true rfl) rfl (by decide) (lk_Words_isDigit hγ this r3 _ M2 h) (fun _ _ => Qi_r) (fun v M4 hp => Qi_k (R := fun st => E γ k_Words_number 2 29 [some (vr (some (2, this))), some (vi v1), some (vi v2), some (vi v3), none, none, none] st M4 (Qv Q)) hp (fun r5 h => ?_))
    refine E_if_eq (off := 9) (tgt := 38) (by decide +kernel) (by decide) (fun b6 => ?_) (fun b6 => ?_)
    · rw [if_pos b6] at h
      refine E_blk (lv' := [some (vr (some (2, this))), some (vi v1), some (vi v2), some (vi v3), none, none, none]) (st' := [vi (10 : Int32), vi (1 : Int32), vi (v3 - v2)]) (M1 := M4) (pc' := 44) (tb_Words hγ) [.iload_n 3, .iload_n 2, .isub, .iconst 1, .bipush 10] (by decide +kernel) rfl rfl trivial ?_
      refine E_callS (κ' := k_Works_isIn) (As := [vi (v3 - v2), vi (1 : Int32), vi (10 : Int32)]) (st := []) ms_Works_isIn (Or.inr ⟨"ClassWorks", (tbk_mem (j := 6) (k := 69) rfl)⟩) rfl (by decide +kernel) (Nat.le_of_ble_eq_true rfl) (Nat.le_of_ble_eq_true rfl) rfl (by decide) (lk_Works_isIn hγ (v3 - v2) (1 : Int32) (10 : Int32) _ M4 h) (fun _ _ => Qi_r) (fun v M7 hp => Qi_k (R := fun st => E γ k_Words_number 2 47 [some (vr (some (2, this))), some (vi v1), some (vi v2), some (vi v3), none, none, none] st M7 (Qv Q)) hp (fun r8 h => ?_))
      refine E_if_ne (off := 4) (tgt := 51) (by decide +kernel) (by decide) (fun b9 => ?_) (fun b9 => ?_)
      · rw [if_pos b9] at h
        exact E_vret rfl (by decide +kernel) h
      · rw [if_neg b9] at h
        refine E_blk (lv' := [some (vr (some (2, this))), some (vi v1), some (vi v2), some (vi v3), some (vl (0 : Int64)), none, some (vi v2)]) (st' := []) (M1 := M7) (pc' := 57) (tb_Words hγ) [.lconst 0, .lstore 4, .iload_n 2, .istore 6] (by decide +kernel) rfl rfl trivial ?_
        obtain ⟨n17, h⟩ := h
        refine E_mask [true, true, false, true, true, false, true] rfl ?_
        exact lk_Words_number_L57 hγ this Q n17 v1 v3 (0 : Int64) v2 M7 h
    · rw [if_neg b6] at h
      refine E_blk (lv' := [some (vr (some (2, this))), some (vi v1), some (vi v2), some (vi (v3 + (1 : Int32))), none, none, none]) (st' := []) (M1 := M4) (pc' := 35) (tb_Words hγ) [.iinc 3 1] (by decide +kernel) rfl rfl trivial ?_
      refine E_goto (off := -15) (tgt := 20) (by decide +kernel) (by decide) ?_
      refine E_mask [true, true, true, true, false, false, false] rfl ?_
      exact ih v1 v2 (v3 + (1 : Int32)) M4 h
set_option maxRecDepth 4096 in
theorem lk_Words_number_j17 {γ : Gm} (hγ : Gk γ) (this : Nat) (Q : Mem → Prop) (v1 : Int32) (s0 : Int32) (M : Mem) (h : w_Words_number_j17 this Q v1 s0 M) : E γ k_Words_number 2 17 [some (vr (some (2, this))), some (vi v1), none, none, none, none, none] [vi s0] M (Qv Q) := by
  unfold w_Words_number_j17 at h
  refine E_blk (lv' := [some (vr (some (2, this))), some (vi v1), some (vi s0), some (vi s0), none, none, none]) (st' := []) (M1 := M) (pc' := 20) (tb_Words hγ) [.istore_n 2, .iload_n 2, .istore_n 3] (by decide +kernel) rfl rfl trivial ?_
  obtain ⟨n18, h⟩ := h
  refine E_mask [true, true, true, true, false, false, false] rfl ?_
  exact lk_Words_number_L20 hγ this Q n18 v1 s0 s0 M h
set_option maxRecDepth 4096 in
theorem lk_Words_number {γ : Gm} (hγ : Gk γ) (this : Nat) (a1 : Int32) (Q : Mem → Prop) (M : Mem) (h : w_Words_number this a1 Q M) : E γ k_Words_number 2 0 [some (vr (some (2, this))), some (vi a1), none, none, none, none, none] [] M (Qv Q) := by
  unfold w_Words_number at h
  refine E_blk (lv' := [some (vr (some (2, this))), some (vi a1), none, none, none, none, none]) (st' := [vi a1]) (M1 := M) (pc' := 1) (tb_Words hγ) [.iload_n 1] (by decide +kernel) rfl rfl trivial ?_
  refine E_if_eq (off := 12) (tgt := 13) (by decide +kernel) (by decide) (fun b1 => ?_) (fun b1 => ?_)
  · rw [if_pos b1] at h
    refine E_blk (lv' := [some (vr (some (2, this))), some (vi a1), none, none, none, none, none]) (st' := [vi (mI M 2 this 2)]) (M1 := M) (pc' := 17) (tb_Words hγ) [.aload_n 0, .getfield 23] (by decide +kernel) rfl rfl trivial ?_
    refine E_mask [true, true, false, false, false, false, false] rfl ?_
    exact lk_Words_number_j17 hγ this Q a1 (mI M 2 this 2) M h
  · rw [if_neg b1] at h
    refine E_blk (lv' := [some (vr (some (2, this))), some (vi a1), none, none, none, none, none]) (st' := [vi ((mI M 2 this 2) + (1 : Int32))]) (M1 := M) (pc' := 10) (tb_Words hγ) [.aload_n 0, .getfield 23, .iconst 1, .iadd] (by decide +kernel) rfl rfl trivial ?_
    refine E_goto (off := 7) (tgt := 17) (by decide +kernel) (by decide) ?_
    refine E_mask [true, true, false, false, false, false, false] rfl ?_
    exact lk_Words_number_j17 hγ this Q a1 ((mI M 2 this 2) + (1 : Int32)) M h
def w_Names_at (this : Nat) (a1 : Int32) (a2 : Int32) (Q : Int32 → Mem → Prop) (M : Mem) : Prop :=
  if (8 : Int32) ≤ a2 then (if (12 : Int32) ≤ a2 then (Q (0 : Int32) M) else (vp_in a1 (mL M 20 this) ∧ Q (((mI M 20 this a1.toNatClampNeg).toUInt32 >>> (((24 : Int32) - ((8 : Int32) * (a2 - (8 : Int32)))).toUInt32 &&& Int32.toUInt32 31)).toInt32 &&& (255 : Int32)) M)) else (vp_in a1 (mL M 600 this) ∧ Q ((((mJ M 600 this a1.toNatClampNeg).toUInt64 >>> (((56 : Int32) - ((8 : Int32) * a2)).toInt64.toUInt64 &&& Int64.toUInt64 63)).toInt64 &&& (255 : Int64)).toInt32) M)
set_option maxRecDepth 4096 in
theorem lk_Names_at {γ : Gm} (hγ : Gk γ) (this : Nat) (a1 : Int32) (a2 : Int32) (Q : Int32 → Mem → Prop) (M : Mem) (h : w_Names_at this a1 a2 Q M) : E γ k_Names_at 0 0 [some (vr (some (1, this))), some (vi a1), some (vi a2)] [] M (Qi Q) := by
  unfold w_Names_at at h
  refine E_blk (lv' := [some (vr (some (1, this))), some (vi a1), some (vi a2)]) (st' := [vi (8 : Int32), vi a2]) (M1 := M) (pc' := 3) (tb_Names hγ) [.iload_n 2, .bipush 8] (by decide +kernel) rfl rfl trivial ?_
  refine E_icmp_ge (off := 25) (tgt := 28) (by decide +kernel) (by decide) (fun b1 => ?_) (fun b1 => ?_)
  · rw [if_pos b1] at h
    refine E_blk (lv' := [some (vr (some (1, this))), some (vi a1), some (vi a2)]) (st' := [vi (12 : Int32), vi a2]) (M1 := M) (pc' := 31) (tb_Names hγ) [.iload_n 2, .bipush 12] (by decide +kernel) rfl rfl trivial ?_
    refine E_icmp_ge (off := 27) (tgt := 58) (by decide +kernel) (by decide) (fun b2 => ?_) (fun b2 => ?_)
    · rw [if_pos b2] at h
      refine E_blk (lv' := [some (vr (some (1, this))), some (vi a1), some (vi a2)]) (st' := [vi (0 : Int32)]) (M1 := M) (pc' := 59) (tb_Names hγ) [.iconst 0] (by decide +kernel) rfl rfl trivial ?_
      exact E_iret rfl (by decide +kernel) h
    · rw [if_neg b2] at h
      obtain ⟨c3, h⟩ := h
      refine E_blk (lv' := [some (vr (some (1, this))), some (vi a1), some (vi a2)]) (st' := [vi (((mI M 20 this a1.toNatClampNeg).toUInt32 >>> (((24 : Int32) - ((8 : Int32) * (a2 - (8 : Int32)))).toUInt32 &&& Int32.toUInt32 31)).toInt32 &&& (255 : Int32))]) (M1 := M) (pc' := 55) (tb_Names hγ) [.aload_n 0, .getfield 16, .iload_n 1, .iaload, .bipush 24, .bipush 8, .iload_n 2, .bipush 8, .isub, .imul, .isub, .iushr, .sipush 255, .iand] (by decide +kernel) rfl rfl ⟨c3, trivial⟩ ?_
      refine E_goto (off := 4) (tgt := 59) (by decide +kernel) (by decide) ?_
      exact E_iret rfl (by decide +kernel) h
  · rw [if_neg b1] at h
    obtain ⟨c4, h⟩ := h
    refine E_blk (lv' := [some (vr (some (1, this))), some (vi a1), some (vi a2)]) (st' := [vi ((((mJ M 600 this a1.toNatClampNeg).toUInt64 >>> (((56 : Int32) - ((8 : Int32) * a2)).toInt64.toUInt64 &&& Int64.toUInt64 63)).toInt64 &&& (255 : Int64)).toInt32)]) (M1 := M) (pc' := 25) (tb_Names hγ) [.aload_n 0, .getfield 10, .iload_n 1, .laload, .bipush 56, .bipush 8, .iload_n 2, .imul, .isub, .lushr, .ldc2_w 58, .land, .l2i] (by decide +kernel) rfl rfl ⟨c4, trivial⟩ ?_
    refine E_goto (off := 34) (tgt := 59) (by decide +kernel) (by decide) ?_
    exact E_iret rfl (by decide +kernel) h
def w_Words_special_j57 (this : Nat) (Q : Mem → Prop) (k3 : Int32 → Mem → Prop) (v1 : Int32) (v2 : Int32) (M : Mem) : Prop :=
  w_Names_at 0 v1 v2 (fun r6 M5 => if r6 ≤ 0 then (∃ M8, M8 = (sI (sI (sR M5 2 this 3 (some (0, 100 + 0))) 2 this 5 v1) 2 this 2 ((mI (sI (sR M5 2 this 3 (some (0, 100 + 0))) 2 this 5 v1) 2 this 2) + v2)) ∧ Q M8) else (k3 (v1 + (1 : Int32)) M5)) M
def w_Words_special_L11 (this : Nat) (Q : Mem → Prop) (k3 : Int32 → Mem → Prop) : Nat → Int32 → Int32 → Mem → Prop
  | 0, _, _, _ => False
  | n + 1, v1, v2, M => w_Names_at 0 v1 v2 (fun r3 M2 => if r3 ≤ 0 then (w_Words_special_j57 this Q k3 v1 v2 M2) else (w_Words_peek this ((mI M2 2 this 2) + v2) (fun r10 M9 => w_Names_at 0 v1 v2 (fun r12 M11 => if r10 = r12 then ((w_Words_special_L11 this Q k3 n) v1 (v2 + (1 : Int32)) M11) else (w_Words_special_j57 this Q k3 v1 v2 M11)) M9) M2)) M
def w_Words_special_L3 (this : Nat) (Q : Mem → Prop) : Nat → Int32 → Mem → Prop
  | 0, _, _ => False
  | n + 1, v1, M => if (80 : Int32) < v1 then (Q M) else (∃ n14 : Nat, w_Words_special_L11 this Q (w_Words_special_L3 this Q n) n14 v1 (0 : Int32) M)
def w_Words_special (this : Nat) (Q : Mem → Prop) (M : Mem) : Prop :=
  ∃ n15 : Nat, w_Words_special_L3 this Q n15 (79 : Int32) M
set_option maxRecDepth 4096 in
theorem lk_Words_special_j57 {γ : Gm} (hγ : Gk γ) (this : Nat) (Q : Mem → Prop) (k3 : Int32 → Mem → Prop) (hk3 : ∀ (v1 : Int32) (M : Mem), k3 v1 M → E γ k_Words_special 1 3 [some (vr (some (2, this))), some (vi v1), none] [] M (Qv Q)) (v1 : Int32) (v2 : Int32) (M : Mem) (h : w_Words_special_j57 this Q k3 v1 v2 M) : E γ k_Words_special 1 57 [some (vr (some (2, this))), some (vi v1), some (vi v2)] [] M (Qv Q) := by
  unfold w_Words_special_j57 at h
  refine E_blk (lv' := [some (vr (some (2, this))), some (vi v1), some (vi v2)]) (st' := [vi v2, vi v1, vr (some (1, 0))]) (M1 := M) (pc' := 66) (tb_Words hγ) [.aload_n 0, .getfield 3, .getfield 75, .iload_n 1, .iload_n 2] (by decide +kernel) rfl rfl trivial ?_
  refine E_callV (κ' := k_Names_at) (As := [vi v1, vi v2]) (st := []) mv_Names_at (Or.inl (tbk_mem (j := 6) (k := 98) rfl)) rfl (by decide +kernel) (Nat.le_of_ble_eq_true rfl) (Nat.le_of_ble_eq_true rfl) rfl (by decide) (lk_Names_at hγ 0 v1 v2 _ M h) (fun _ _ => Qi_r) (fun v M5 hp => Qi_k (R := fun st => E γ k_Words_special 1 69 [some (vr (some (2, this))), some (vi v1), some (vi v2)] st M5 (Qv Q)) hp (fun r6 h => ?_))
  refine E_if_le (off := 6) (tgt := 75) (by decide +kernel) (by decide) (fun b7 => ?_) (fun b7 => ?_)
  · rw [if_pos b7] at h
    refine E_blk (lv' := [some (vr (some (2, this))), some (vi v1), some (vi v2)]) (st' := [vr (some (2, this))]) (M1 := M5) (pc' := 76) (tb_Words hγ) [.aload_n 0] (by decide +kernel) rfl rfl trivial ?_
    refine E_gets (κ := k_Words_special) (pc := 76) (j := 0) (idx := 72) (n := "NAME") hγ.2.1 rfl (tbk_mem (j := 6) (k := 78) rfl) (by decide +kernel) ?_
    refine E_blk (lv' := [some (vr (some (2, this))), some (vi v1), some (vi v2)]) (st' := []) (M1 := (sI (sI (sR M5 2 this 3 (some (0, 100 + 0))) 2 this 5 v1) 2 this 2 ((mI (sI (sR M5 2 this 3 (some (0, 100 + 0))) 2 this 5 v1) 2 this 2) + v2))) (pc' := 97) (tb_Words hγ) [.putfield 43, .aload_n 0, .iload_n 1, .putfield 69, .aload_n 0, .dup, .getfield 23, .iload_n 2, .iadd, .putfield 23] (by decide +kernel) rfl rfl trivial ?_
    obtain ⟨M8, eM8, h⟩ := h
    rw [← eM8]
    exact E_vret rfl (by decide +kernel) h
  · rw [if_neg b7] at h
    refine E_goto (off := 26) (tgt := 98) (by decide +kernel) (by decide) ?_
    refine E_blk (lv' := [some (vr (some (2, this))), some (vi (v1 + (1 : Int32))), some (vi v2)]) (st' := []) (M1 := M5) (pc' := 101) (tb_Words hγ) [.iinc 1 1] (by decide +kernel) rfl rfl trivial ?_
    refine E_goto (off := -98) (tgt := 3) (by decide +kernel) (by decide) ?_
    refine E_mask [true, true, false] rfl ?_
    exact hk3 (v1 + (1 : Int32)) M5 h
set_option maxRecDepth 4096 in
theorem lk_Words_special_L11 {γ : Gm} (hγ : Gk γ) (this : Nat) (Q : Mem → Prop) (k3 : Int32 → Mem → Prop) (hk3 : ∀ (v1 : Int32) (M : Mem), k3 v1 M → E γ k_Words_special 1 3 [some (vr (some (2, this))), some (vi v1), none] [] M (Qv Q)) : ∀ (n : Nat) (v1 : Int32) (v2 : Int32) (M : Mem), w_Words_special_L11 this Q k3 n v1 v2 M → E γ k_Words_special 1 11 [some (vr (some (2, this))), some (vi v1), some (vi v2)] [] M (Qv Q) := by
  intro n
  induction n with
  | zero => intro v1 v2 M h; exact h.elim
  | succ n ih =>
    intro v1 v2 M h
    unfold w_Words_special_L11 at h
    refine E_blk (lv' := [some (vr (some (2, this))), some (vi v1), some (vi v2)]) (st' := [vi v2, vi v1, vr (some (1, 0))]) (M1 := M) (pc' := 20) (tb_Words hγ) [.aload_n 0, .getfield 3, .getfield 75, .iload_n 1, .iload_n 2] (by decide +kernel) rfl rfl trivial ?_
    refine E_callV (κ' := k_Names_at) (As := [vi v1, vi v2]) (st := []) mv_Names_at (Or.inl (tbk_mem (j := 6) (k := 98) rfl)) rfl (by decide +kernel) (Nat.le_of_ble_eq_true rfl) (Nat.le_of_ble_eq_true rfl) rfl (by decide) (lk_Names_at hγ 0 v1 v2 _ M h) (fun _ _ => Qi_r) (fun v M2 hp => Qi_k (R := fun st => E γ k_Words_special 1 23 [some (vr (some (2, this))), some (vi v1), some (vi v2)] st M2 (Qv Q)) hp (fun r3 h => ?_))
    refine E_if_le (off := 34) (tgt := 57) (by decide +kernel) (by decide) (fun b4 => ?_) (fun b4 => ?_)
    · rw [if_pos b4] at h
      refine E_mask [true, true, true] rfl ?_
      exact lk_Words_special_j57 hγ this Q k3 hk3 v1 v2 M2 h
    · rw [if_neg b4] at h
      refine E_blk (lv' := [some (vr (some (2, this))), some (vi v1), some (vi v2)]) (st' := [vi ((mI M2 2 this 2) + v2), vr (some (2, this))]) (M1 := M2) (pc' := 33) (tb_Words hγ) [.aload_n 0, .aload_n 0, .getfield 23, .iload_n 2, .iadd] (by decide +kernel) rfl rfl trivial ?_
      refine E_callV (κ' := k_Words_peek) (As := [vi ((mI M2 2 this 2) + v2)]) (st := []) mv_Words_peek (Or.inl (tbk_mem (j := 6) (k := 57) rfl)) rfl (by decide +kernel) (Nat.le_of_ble_eq_true rfl) (Nat.le_of_ble_eq_true rfl) rfl (by decide) (lk_Words_peek hγ this ((mI M2 2 this 2) + v2) _ M2 h) (fun _ _ => Qi_r) (fun v M9 hp => Qi_k (R := fun st => E γ k_Words_special 1 36 [some (vr (some (2, this))), some (vi v1), some (vi v2)] st M9 (Qv Q)) hp (fun r10 h => ?_))
      refine E_blk (lv' := [some (vr (some (2, this))), some (vi v1), some (vi v2)]) (st' := [vi v2, vi v1, vr (some (1, 0)), vi r10]) (M1 := M9) (pc' := 45) (tb_Words hγ) [.aload_n 0, .getfield 3, .getfield 75, .iload_n 1, .iload_n 2] (by decide +kernel) rfl rfl trivial ?_
      refine E_callV (κ' := k_Names_at) (As := [vi v1, vi v2]) (st := [vi r10]) mv_Names_at (Or.inl (tbk_mem (j := 6) (k := 98) rfl)) rfl (by decide +kernel) (Nat.le_of_ble_eq_true rfl) (Nat.le_of_ble_eq_true rfl) rfl (by decide) (lk_Names_at hγ 0 v1 v2 _ M9 h) (fun _ _ => Qi_r) (fun v M11 hp => Qi_k (R := fun st => E γ k_Words_special 1 48 [some (vr (some (2, this))), some (vi v1), some (vi v2)] st M11 (Qv Q)) hp (fun r12 h => ?_))
      refine E_icmp_ne (off := 9) (tgt := 57) (by decide +kernel) (by decide) (fun b13 => ?_) (fun b13 => ?_)
      · rw [if_pos b13] at h
        refine E_blk (lv' := [some (vr (some (2, this))), some (vi v1), some (vi (v2 + (1 : Int32)))]) (st' := []) (M1 := M11) (pc' := 54) (tb_Words hγ) [.iinc 2 1] (by decide +kernel) rfl rfl trivial ?_
        refine E_goto (off := -43) (tgt := 11) (by decide +kernel) (by decide) ?_
        refine E_mask [true, true, true] rfl ?_
        exact ih v1 (v2 + (1 : Int32)) M11 h
      · rw [if_neg b13] at h
        refine E_mask [true, true, true] rfl ?_
        exact lk_Words_special_j57 hγ this Q k3 hk3 v1 v2 M11 h
set_option maxRecDepth 4096 in
theorem lk_Words_special_L3 {γ : Gm} (hγ : Gk γ) (this : Nat) (Q : Mem → Prop) : ∀ (n : Nat) (v1 : Int32) (M : Mem), w_Words_special_L3 this Q n v1 M → E γ k_Words_special 1 3 [some (vr (some (2, this))), some (vi v1), none] [] M (Qv Q) := by
  intro n
  induction n with
  | zero => intro v1 M h; exact h.elim
  | succ n ih =>
    intro v1 M h
    unfold w_Words_special_L3 at h
    refine E_blk (lv' := [some (vr (some (2, this))), some (vi v1), none]) (st' := [vi (80 : Int32), vi v1]) (M1 := M) (pc' := 6) (tb_Words hγ) [.iload_n 1, .bipush 80] (by decide +kernel) rfl rfl trivial ?_
    refine E_icmp_gt (off := 98) (tgt := 104) (by decide +kernel) (by decide) (fun b1 => ?_) (fun b1 => ?_)
    · rw [if_pos b1] at h
      exact E_vret rfl (by decide +kernel) h
    · rw [if_neg b1] at h
      refine E_blk (lv' := [some (vr (some (2, this))), some (vi v1), some (vi (0 : Int32))]) (st' := []) (M1 := M) (pc' := 11) (tb_Words hγ) [.iconst 0, .istore_n 2] (by decide +kernel) rfl rfl trivial ?_
      obtain ⟨n14, h⟩ := h
      refine E_mask [true, true, true] rfl ?_
      exact lk_Words_special_L11 hγ this Q (w_Words_special_L3 this Q n) ih n14 v1 (0 : Int32) M h
set_option maxRecDepth 4096 in
theorem lk_Words_special {γ : Gm} (hγ : Gk γ) (this : Nat) (Q : Mem → Prop) (M : Mem) (h : w_Words_special this Q M) : E γ k_Words_special 1 0 [some (vr (some (2, this))), none, none] [] M (Qv Q) := by
  unfold w_Words_special at h
  refine E_blk (lv' := [some (vr (some (2, this))), some (vi (79 : Int32)), none]) (st' := []) (M1 := M) (pc' := 3) (tb_Words hγ) [.bipush 79, .istore_n 1] (by decide +kernel) rfl rfl trivial ?_
  obtain ⟨n15, h⟩ := h
  refine E_mask [true, true, false] rfl ?_
  exact lk_Words_special_L3 hγ this Q n15 (79 : Int32) M h
