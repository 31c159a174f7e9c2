def k_Checker_ends : Kp := (⟨"ClassWorks$Checker", "ends", "(I)Z"⟩, prog_2_method_51_code, 4, some (.boolean), [])
theorem mv_Checker_ends : MV k_Checker_ends 4 1 := ⟨⟨_, rfl, rfl⟩, by decide, (tbk_mem (j := 8) (k := 66) rfl), Or.inr ⟨(tbk_mem (j := 8) (k := 65) rfl), 19, (tbk_mem (j := 2) (k := 124) rfl)⟩, Or.inl ⟨rfl, (tbk_mem (j := 8) (k := 67) rfl)⟩, ⟨by decide, by decide⟩, by decide +kernel, by decide +kernel, by decide⟩
def k_Checker_one : Kp := (⟨"ClassWorks$Checker", "one", "()Z"⟩, prog_2_method_9_code, 4, some (.boolean), [])
theorem mv_Checker_one : MV k_Checker_one 4 0 := ⟨⟨_, rfl, rfl⟩, by decide, (tbk_mem (j := 7) (k := 133) rfl), Or.inr ⟨(tbk_mem (j := 7) (k := 132) rfl), 19, (tbk_mem (j := 2) (k := 124) rfl)⟩, Or.inl ⟨rfl, (tbk_mem (j := 7) (k := 134) rfl)⟩, ⟨by decide, by decide⟩, by decide +kernel, by decide +kernel, by decide⟩
def k_Checker_all : Kp := (⟨"ClassWorks$Checker", "all", "()V"⟩, prog_2_method_7_code, 1, none, [])
theorem mv_Checker_all : MV k_Checker_all 4 0 := ⟨⟨_, rfl, rfl⟩, by decide, (tbk_mem (j := 7) (k := 116) rfl), Or.inr ⟨(tbk_mem (j := 7) (k := 115) rfl), 19, (tbk_mem (j := 2) (k := 124) rfl)⟩, Or.inl ⟨rfl, (tbk_mem (j := 7) (k := 117) rfl)⟩, ⟨by decide, by decide⟩, by decide +kernel, by decide +kernel, by decide⟩
def k_Checker_check : Kp := (⟨"ClassWorks$Checker", "check", "(LClassWorks$World;I)I"⟩, prog_2_method_2_code, 4, some (.int), [])
theorem mv_Checker_check : MV k_Checker_check 4 2 := ⟨⟨_, rfl, rfl⟩, by decide, (tbk_mem (j := 7) (k := 111) rfl), Or.inl (tbk_mem (j := 7) (k := 112) rfl), Or.inl ⟨rfl, (tbk_mem (j := 7) (k := 113) rfl)⟩, ⟨by decide, by decide⟩, by decide +kernel, by decide +kernel, by decide⟩
def k_World_ask : Kp := (⟨"ClassWorks$World", "ask", "(I)I"⟩, prog_10_method_14_code, 5, some (.int), [])
theorem mv_World_ask : MV k_World_ask 5 1 := ⟨⟨_, rfl, rfl⟩, by decide, (tbk_mem (j := 7) (k := 82) rfl), Or.inr ⟨(tbk_mem (j := 7) (k := 81) rfl), 65, (tbk_mem (j := 2) (k := 189) rfl)⟩, Or.inl ⟨rfl, (tbk_mem (j := 7) (k := 83) rfl)⟩, ⟨by decide, by decide⟩, by decide +kernel, by decide +kernel, by decide⟩
def k_World_link : Kp := (⟨"ClassWorks$World", "link", "(I)I"⟩, prog_10_method_13_code, 2, some (.int), [])
theorem mv_World_link : MV k_World_link 5 1 := ⟨⟨_, rfl, rfl⟩, by decide, (tbk_mem (j := 7) (k := 77) rfl), Or.inl (tbk_mem (j := 7) (k := 78) rfl), Or.inl ⟨rfl, (tbk_mem (j := 7) (k := 79) rfl)⟩, ⟨by decide, by decide⟩, by decide +kernel, by decide +kernel, by decide⟩
def k_Machine_linkedClass : Kp := (⟨"ClassWorks$Machine", "linkedClass", "(I)I"⟩, prog_5_method_32_code, 4, some (.int), [])
theorem mv_Machine_linkedClass : MV k_Machine_linkedClass 6 1 := ⟨⟨_, rfl, rfl⟩, by decide, (tbk_mem (j := 8) (k := 142) rfl), Or.inr ⟨(tbk_mem (j := 8) (k := 141) rfl), 38, (tbk_mem (j := 2) (k := 195) rfl)⟩, Or.inl ⟨rfl, (tbk_mem (j := 8) (k := 143) rfl)⟩, ⟨by decide, by decide⟩, by decide +kernel, by decide +kernel, by decide⟩
def k_World_typesOf : Kp := (⟨"ClassWorks$World", "typesOf", "(I)I"⟩, prog_10_method_25_code, 2, some (.int), [])
theorem mv_World_typesOf : MV k_World_typesOf 5 1 := ⟨⟨_, rfl, rfl⟩, by decide, (tbk_mem (j := 8) (k := 168) rfl), Or.inr ⟨(tbk_mem (j := 8) (k := 167) rfl), 65, (tbk_mem (j := 2) (k := 189) rfl)⟩, Or.inl ⟨rfl, (tbk_mem (j := 8) (k := 169) rfl)⟩, ⟨by decide, by decide⟩, by decide +kernel, by decide +kernel, by decide⟩
def k_World_isLike : Kp := (⟨"ClassWorks$World", "isLike", "(II)Z"⟩, prog_10_method_24_code, 3, some (.boolean), [])
theorem mv_World_isLike : MV k_World_isLike 5 2 := ⟨⟨_, rfl, rfl⟩, by decide, (tbk_mem (j := 8) (k := 162) rfl), Or.inr ⟨(tbk_mem (j := 8) (k := 161) rfl), 65, (tbk_mem (j := 2) (k := 189) rfl)⟩, Or.inl ⟨rfl, (tbk_mem (j := 8) (k := 163) rfl)⟩, ⟨by decide, by decide⟩, by decide +kernel, by decide +kernel, by decide⟩
def k_World_ownLike : Kp := (⟨"ClassWorks$World", "ownLike", "(III)I"⟩, prog_10_method_30_code, 5, some (.int), [])
theorem mv_World_ownLike : MV k_World_ownLike 5 3 := ⟨⟨_, rfl, rfl⟩, by decide, (tbk_mem (j := 8) (k := 157) rfl), Or.inl (tbk_mem (j := 8) (k := 158) rfl), Or.inl ⟨rfl, (tbk_mem (j := 8) (k := 159) rfl)⟩, ⟨by decide, by decide⟩, by decide +kernel, by decide +kernel, by decide⟩
def k_World_nextStamp : Kp := (⟨"ClassWorks$World", "nextStamp", "()V"⟩, prog_10_method_12_code, 1, none, [])
theorem mv_World_nextStamp : MV k_World_nextStamp 5 0 := ⟨⟨_, rfl, rfl⟩, by decide, (tbk_mem (j := 8) (k := 178) rfl), Or.inr ⟨(tbk_mem (j := 8) (k := 177) rfl), 65, (tbk_mem (j := 2) (k := 189) rfl)⟩, Or.inl ⟨rfl, (tbk_mem (j := 8) (k := 179) rfl)⟩, ⟨by decide, by decide⟩, by decide +kernel, by decide +kernel, by decide⟩
def k_World_lookInFaces : Kp := (⟨"ClassWorks$World", "lookInFaces", "(III)V"⟩, prog_10_method_32_code, 7, none, [])
theorem mv_World_lookInFaces : MV k_World_lookInFaces 5 3 := ⟨⟨_, rfl, rfl⟩, by decide, (tbk_mem (j := 8) (k := 183) rfl), Or.inr ⟨(tbk_mem (j := 8) (k := 182) rfl), 65, (tbk_mem (j := 2) (k := 189) rfl)⟩, Or.inl ⟨rfl, (tbk_mem (j := 8) (k := 184) rfl)⟩, ⟨by decide, by decide⟩, by decide +kernel, by decide +kernel, by decide⟩
def k_World_method : Kp := (⟨"ClassWorks$World", "method", "(III)I"⟩, prog_10_method_31_code, 6, some (.int), [])
theorem mv_World_method : MV k_World_method 5 3 := ⟨⟨_, rfl, rfl⟩, by decide, (tbk_mem (j := 8) (k := 172) rfl), Or.inl (tbk_mem (j := 8) (k := 173) rfl), Or.inl ⟨rfl, (tbk_mem (j := 8) (k := 174) rfl)⟩, ⟨by decide, by decide⟩, by decide +kernel, by decide +kernel, by decide⟩
def k_Machine_findMethod : Kp := (⟨"ClassWorks$Machine", "findMethod", "(III)I"⟩, prog_5_method_35_code, 8, some (.int), [])
theorem mv_Machine_findMethod : MV k_Machine_findMethod 6 3 := ⟨⟨_, rfl, rfl⟩, by decide, (tbk_mem (j := 8) (k := 137) rfl), Or.inr ⟨(tbk_mem (j := 8) (k := 136) rfl), 38, (tbk_mem (j := 2) (k := 195) rfl)⟩, Or.inl ⟨rfl, (tbk_mem (j := 8) (k := 138) rfl)⟩, ⟨by decide, by decide⟩, by decide +kernel, by decide +kernel, by decide⟩
def k_Machine_lengthen : Kp := (⟨"ClassWorks$Machine", "lengthen", "()V"⟩, prog_5_method_26_code, 6, none, [])
theorem mv_Machine_lengthen : MV k_Machine_lengthen 6 0 := ⟨⟨_, rfl, rfl⟩, by decide, (tbk_mem (j := 8) (k := 196) rfl), Or.inr ⟨(tbk_mem (j := 8) (k := 195) rfl), 38, (tbk_mem (j := 2) (k := 195) rfl)⟩, Or.inl ⟨rfl, (tbk_mem (j := 8) (k := 197) rfl)⟩, ⟨by decide, by decide⟩, by decide +kernel, by decide +kernel, by decide⟩
def k_Machine_event : Kp := (⟨"ClassWorks$Machine", "event", "(III)V"⟩, prog_5_method_3_code, 5, none, [])
theorem mv_Machine_event : MV k_Machine_event 6 3 := ⟨⟨_, rfl, rfl⟩, by decide, (tbk_mem (j := 8) (k := 205) rfl), Or.inr ⟨(tbk_mem (j := 8) (k := 204) rfl), 38, (tbk_mem (j := 2) (k := 195) rfl)⟩, Or.inl ⟨rfl, (tbk_mem (j := 8) (k := 206) rfl)⟩, ⟨by decide, by decide⟩, by decide +kernel, by decide +kernel, by decide⟩
def k_Machine_classOf : Kp := (⟨"ClassWorks$Machine", "classOf", "(I)I"⟩, prog_5_method_27_code, 2, some (.int), [])
theorem mv_Machine_classOf : MV k_Machine_classOf 6 1 := ⟨⟨_, rfl, rfl⟩, by decide, (tbk_mem (j := 8) (k := 209) rfl), Or.inr ⟨(tbk_mem (j := 8) (k := 208) rfl), 38, (tbk_mem (j := 2) (k := 195) rfl)⟩, Or.inl ⟨rfl, (tbk_mem (j := 8) (k := 210) rfl)⟩, ⟨by decide, by decide⟩, by decide +kernel, by decide +kernel, by decide⟩
def k_World_isBelow : Kp := (⟨"ClassWorks$World", "isBelow", "(II)Z"⟩, prog_10_method_11_code, 7, some (.boolean), [])
theorem mv_World_isBelow : MV k_World_isBelow 5 2 := ⟨⟨_, rfl, rfl⟩, by decide, (tbk_mem (j := 8) (k := 212) rfl), Or.inl (tbk_mem (j := 8) (k := 213) rfl), Or.inl ⟨rfl, (tbk_mem (j := 8) (k := 214) rfl)⟩, ⟨by decide, by decide⟩, by decide +kernel, by decide +kernel, by decide⟩
def k_Machine_set : Kp := (⟨"ClassWorks$Machine", "set", "(IIZ)V"⟩, prog_5_method_14_code, 4, none, [])
theorem mv_Machine_set : MV k_Machine_set 6 3 := ⟨⟨_, rfl, rfl⟩, by decide, (tbk_mem (j := 8) (k := 221) rfl), Or.inr ⟨(tbk_mem (j := 8) (k := 220) rfl), 38, (tbk_mem (j := 2) (k := 195) rfl)⟩, Or.inl ⟨rfl, (tbk_mem (j := 8) (k := 222) rfl)⟩, ⟨by decide, by decide⟩, by decide +kernel, by decide +kernel, by decide⟩
def k_Machine_methodEvent : Kp := (⟨"ClassWorks$Machine", "methodEvent", "(II)V"⟩, prog_5_method_4_code, 3, none, [])
theorem mv_Machine_methodEvent : MV k_Machine_methodEvent 6 2 := ⟨⟨_, rfl, rfl⟩, by decide, (tbk_mem (j := 8) (k := 225) rfl), Or.inr ⟨(tbk_mem (j := 8) (k := 224) rfl), 38, (tbk_mem (j := 2) (k := 195) rfl)⟩, Or.inl ⟨rfl, (tbk_mem (j := 8) (k := 226) rfl)⟩, ⟨by decide, by decide⟩, by decide +kernel, by decide +kernel, by decide⟩
def k_Machine_handled : Kp := (⟨"ClassWorks$Machine", "handled", "(II)Z"⟩, prog_5_method_30_code, 7, some (.boolean), [])
theorem mv_Machine_handled : MV k_Machine_handled 6 2 := ⟨⟨_, rfl, rfl⟩, by decide, (tbk_mem (j := 8) (k := 217) rfl), Or.inr ⟨(tbk_mem (j := 8) (k := 216) rfl), 38, (tbk_mem (j := 2) (k := 195) rfl)⟩, Or.inl ⟨rfl, (tbk_mem (j := 8) (k := 218) rfl)⟩, ⟨by decide, by decide⟩, by decide +kernel, by decide +kernel, by decide⟩
def k_Machine_ruleOf : Kp := (⟨"ClassWorks$Machine", "ruleOf", "(I)I"⟩, prog_5_method_28_code, 2, some (.int), [])
theorem mv_Machine_ruleOf : MV k_Machine_ruleOf 6 1 := ⟨⟨_, rfl, rfl⟩, by decide, (tbk_mem (j := 8) (k := 229) rfl), Or.inr ⟨(tbk_mem (j := 8) (k := 228) rfl), 38, (tbk_mem (j := 2) (k := 195) rfl)⟩, Or.inl ⟨rfl, (tbk_mem (j := 8) (k := 230) rfl)⟩, ⟨by decide, by decide⟩, by decide +kernel, by decide +kernel, by decide⟩
def k_Machine_throwOne : Kp := (⟨"ClassWorks$Machine", "throwOne", "(I)V"⟩, prog_5_method_29_code, 4, none, [])
theorem mv_Machine_throwOne : MV k_Machine_throwOne 6 1 := ⟨⟨_, rfl, rfl⟩, by decide, (tbk_mem (j := 8) (k := 201) rfl), Or.inr ⟨(tbk_mem (j := 8) (k := 200) rfl), 38, (tbk_mem (j := 2) (k := 195) rfl)⟩, Or.inl ⟨rfl, (tbk_mem (j := 8) (k := 202) rfl)⟩, ⟨by decide, by decide⟩, by decide +kernel, by decide +kernel, by decide⟩
def k_Machine_fail : Kp := (⟨"ClassWorks$Machine", "fail", "(II)V"⟩, prog_5_method_25_code, 3, none, [])
theorem mv_Machine_fail : MV k_Machine_fail 6 2 := ⟨⟨_, rfl, rfl⟩, by decide, (tbk_mem (j := 8) (k := 192) rfl), Or.inr ⟨(tbk_mem (j := 8) (k := 191) rfl), 38, (tbk_mem (j := 2) (k := 195) rfl)⟩, Or.inl ⟨rfl, (tbk_mem (j := 8) (k := 193) rfl)⟩, ⟨by decide, by decide⟩, by decide +kernel, by decide +kernel, by decide⟩
def k_Machine_fails : Kp := (⟨"ClassWorks$Machine", "fails", "(I)V"⟩, prog_5_method_13_code, 2, none, [])
theorem mv_Machine_fails : MV k_Machine_fails 6 1 := ⟨⟨_, rfl, rfl⟩, by decide, (tbk_mem (j := 8) (k := 188) rfl), Or.inr ⟨(tbk_mem (j := 8) (k := 187) rfl), 38, (tbk_mem (j := 2) (k := 195) rfl)⟩, Or.inl ⟨rfl, (tbk_mem (j := 8) (k := 189) rfl)⟩, ⟨by decide, by decide⟩, by decide +kernel, by decide +kernel, by decide⟩
def k_Machine_begins : Kp := (⟨"ClassWorks$Machine", "begins", "(I)V"⟩, prog_5_method_18_code, 3, none, [])
theorem mv_Machine_begins : MV k_Machine_begins 6 1 := ⟨⟨_, rfl, rfl⟩, by decide, (tbk_mem (j := 9) (k := 1) rfl), Or.inr ⟨(tbk_mem (j := 9) (k := 0) rfl), 38, (tbk_mem (j := 2) (k := 195) rfl)⟩, Or.inl ⟨rfl, (tbk_mem (j := 9) (k := 2) rfl)⟩, ⟨by decide, by decide⟩, by decide +kernel, by decide +kernel, by decide⟩
def k_Machine_mustStart : Kp := (⟨"ClassWorks$Machine", "mustStart", "(I)I"⟩, prog_5_method_17_code, 3, some (.int), [])
theorem mv_Machine_mustStart : MV k_Machine_mustStart 6 1 := ⟨⟨_, rfl, rfl⟩, by decide, (tbk_mem (j := 8) (k := 237) rfl), Or.inr ⟨(tbk_mem (j := 8) (k := 236) rfl), 38, (tbk_mem (j := 2) (k := 195) rfl)⟩, Or.inl ⟨rfl, (tbk_mem (j := 8) (k := 238) rfl)⟩, ⟨by decide, by decide⟩, by decide +kernel, by decide +kernel, by decide⟩
def k_Machine_isReady : Kp := (⟨"ClassWorks$Machine", "isReady", "(I)Z"⟩, prog_5_method_16_code, 3, some (.boolean), [])
theorem mv_Machine_isReady : MV k_Machine_isReady 6 1 := ⟨⟨_, rfl, rfl⟩, by decide, (tbk_mem (j := 8) (k := 233) rfl), Or.inr ⟨(tbk_mem (j := 8) (k := 232) rfl), 38, (tbk_mem (j := 2) (k := 195) rfl)⟩, Or.inl ⟨rfl, (tbk_mem (j := 8) (k := 234) rfl)⟩, ⟨by decide, by decide⟩, by decide +kernel, by decide +kernel, by decide⟩
def k_Machine_enter : Kp := (⟨"ClassWorks$Machine", "enter", "(I)Z"⟩, prog_5_method_15_code, 4, some (.boolean), [])
theorem mv_Machine_enter : MV k_Machine_enter 6 1 := ⟨⟨_, rfl, rfl⟩, by decide, (tbk_mem (j := 9) (k := 5) rfl), Or.inr ⟨(tbk_mem (j := 9) (k := 4) rfl), 38, (tbk_mem (j := 2) (k := 195) rfl)⟩, Or.inl ⟨rfl, (tbk_mem (j := 9) (k := 6) rfl)⟩, ⟨by decide, by decide⟩, by decide +kernel, by decide +kernel, by decide⟩
def k_Machine_first : Kp := (⟨"ClassWorks$Machine", "first", "()V"⟩, prog_5_method_12_code, 3, none, [])
theorem mv_Machine_first : MV k_Machine_first 6 0 := ⟨⟨_, rfl, rfl⟩, by decide, (tbk_mem (j := 8) (k := 133) rfl), Or.inr ⟨(tbk_mem (j := 8) (k := 132) rfl), 38, (tbk_mem (j := 2) (k := 195) rfl)⟩, Or.inl ⟨rfl, (tbk_mem (j := 8) (k := 134) rfl)⟩, ⟨by decide, by decide⟩, by decide +kernel, by decide +kernel, by decide⟩
def k_Machine_ownStart : Kp := (⟨"ClassWorks$Machine", "ownStart", "(I)I"⟩, prog_5_method_24_code, 3, some (.int), [])
theorem mv_Machine_ownStart : MV k_Machine_ownStart 6 1 := ⟨⟨_, rfl, rfl⟩, by decide, (tbk_mem (j := 9) (k := 13) rfl), Or.inl (tbk_mem (j := 9) (k := 14) rfl), Or.inl ⟨rfl, (tbk_mem (j := 9) (k := 15) rfl)⟩, ⟨by decide, by decide⟩, by decide +kernel, by decide +kernel, by decide⟩
def k_Machine_startEnds : Kp := (⟨"ClassWorks$Machine", "startEnds", "(I)V"⟩, prog_5_method_20_code, 2, none, [])
theorem mv_Machine_startEnds : MV k_Machine_startEnds 6 1 := ⟨⟨_, rfl, rfl⟩, by decide, (tbk_mem (j := 9) (k := 18) rfl), Or.inr ⟨(tbk_mem (j := 9) (k := 17) rfl), 38, (tbk_mem (j := 2) (k := 195) rfl)⟩, Or.inl ⟨rfl, (tbk_mem (j := 9) (k := 19) rfl)⟩, ⟨by decide, by decide⟩, by decide +kernel, by decide +kernel, by decide⟩
def k_Machine_start : Kp := (⟨"ClassWorks$Machine", "start", "(I)V"⟩, prog_5_method_19_code, 4, none, [])
theorem mv_Machine_start : MV k_Machine_start 6 1 := ⟨⟨_, rfl, rfl⟩, by decide, (tbk_mem (j := 9) (k := 9) rfl), Or.inr ⟨(tbk_mem (j := 9) (k := 8) rfl), 38, (tbk_mem (j := 2) (k := 195) rfl)⟩, Or.inl ⟨rfl, (tbk_mem (j := 9) (k := 10) rfl)⟩, ⟨by decide, by decide⟩, by decide +kernel, by decide +kernel, by decide⟩
def k_World_fieldByFaces : Kp := (⟨"ClassWorks$World", "fieldByFaces", "(III)I"⟩, prog_10_method_27_code, 6, some (.int), [])
theorem mv_World_fieldByFaces : MV k_World_fieldByFaces 5 3 := ⟨⟨_, rfl, rfl⟩, by decide, (tbk_mem (j := 9) (k := 40) rfl), Or.inr ⟨(tbk_mem (j := 9) (k := 39) rfl), 65, (tbk_mem (j := 2) (k := 189) rfl)⟩, Or.inl ⟨rfl, (tbk_mem (j := 9) (k := 41) rfl)⟩, ⟨by decide, by decide⟩, by decide +kernel, by decide +kernel, by decide⟩
def k_World_field : Kp := (⟨"ClassWorks$World", "field", "(III)I"⟩, prog_10_method_26_code, 6, some (.int), [])
theorem mv_World_field : MV k_World_field 5 3 := ⟨⟨_, rfl, rfl⟩, by decide, (tbk_mem (j := 9) (k := 35) rfl), Or.inl (tbk_mem (j := 9) (k := 36) rfl), Or.inl ⟨rfl, (tbk_mem (j := 9) (k := 37) rfl)⟩, ⟨by decide, by decide⟩, by decide +kernel, by decide +kernel, by decide⟩
def k_World_classOfField : Kp := (⟨"ClassWorks$World", "classOfField", "(I)I"⟩, prog_10_method_29_code, 3, some (.int), [])
theorem mv_World_classOfField : MV k_World_classOfField 5 1 := ⟨⟨_, rfl, rfl⟩, by decide, (tbk_mem (j := 9) (k := 43) rfl), Or.inl (tbk_mem (j := 9) (k := 44) rfl), Or.inl ⟨rfl, (tbk_mem (j := 9) (k := 45) rfl)⟩, ⟨by decide, by decide⟩, by decide +kernel, by decide +kernel, by decide⟩
def k_Machine_findField : Kp := (⟨"ClassWorks$Machine", "findField", "(IZZI)I"⟩, prog_5_method_34_code, 10, some (.int), [])
theorem mv_Machine_findField : MV k_Machine_findField 6 4 := ⟨⟨_, rfl, rfl⟩, by decide, (tbk_mem (j := 9) (k := 31) rfl), Or.inr ⟨(tbk_mem (j := 9) (k := 30) rfl), 38, (tbk_mem (j := 2) (k := 195) rfl)⟩, Or.inl ⟨rfl, (tbk_mem (j := 9) (k := 32) rfl)⟩, ⟨by decide, by decide⟩, by decide +kernel, by decide +kernel, by decide⟩
def k_Machine_finds : Kp := (⟨"ClassWorks$Machine", "finds", "(II)I"⟩, prog_5_method_36_code, 6, some (.int), [])
theorem mv_Machine_finds : MV k_Machine_finds 6 2 := ⟨⟨_, rfl, rfl⟩, by decide, (tbk_mem (j := 9) (k := 25) rfl), Or.inl (tbk_mem (j := 9) (k := 26) rfl), Or.inl ⟨rfl, (tbk_mem (j := 9) (k := 27) rfl)⟩, ⟨by decide, by decide⟩, by decide +kernel, by decide +kernel, by decide⟩
def k_Machine_number : Kp := (⟨"ClassWorks$Machine", "number", "(I)I"⟩, prog_5_method_38_code, 2, some (.int), [])
theorem mv_Machine_number : MV k_Machine_number 6 1 := ⟨⟨_, rfl, rfl⟩, by decide, (tbk_mem (j := 9) (k := 48) rfl), Or.inr ⟨(tbk_mem (j := 9) (k := 47) rfl), 38, (tbk_mem (j := 2) (k := 195) rfl)⟩, Or.inl ⟨rfl, (tbk_mem (j := 9) (k := 49) rfl)⟩, ⟨by decide, by decide⟩, by decide +kernel, by decide +kernel, by decide⟩
def k_Machine_step : Kp := (⟨"ClassWorks$Machine", "step", "(I)V"⟩, prog_5_method_43_code, 2, none, [])
theorem mv_Machine_step : MV k_Machine_step 6 1 := ⟨⟨_, rfl, rfl⟩, by decide, (tbk_mem (j := 9) (k := 52) rfl), Or.inr ⟨(tbk_mem (j := 9) (k := 51) rfl), 38, (tbk_mem (j := 2) (k := 195) rfl)⟩, Or.inl ⟨rfl, (tbk_mem (j := 9) (k := 53) rfl)⟩, ⟨by decide, by decide⟩, by decide +kernel, by decide +kernel, by decide⟩
def k_Machine_push : Kp := (⟨"ClassWorks$Machine", "push", "(IZ)V"⟩, prog_5_method_39_code, 3, none, [])
theorem mv_Machine_push : MV k_Machine_push 6 2 := ⟨⟨_, rfl, rfl⟩, by decide, (tbk_mem (j := 9) (k := 68) rfl), Or.inr ⟨(tbk_mem (j := 9) (k := 67) rfl), 38, (tbk_mem (j := 2) (k := 195) rfl)⟩, Or.inl ⟨rfl, (tbk_mem (j := 9) (k := 69) rfl)⟩, ⟨by decide, by decide⟩, by decide +kernel, by decide +kernel, by decide⟩
def k_Machine_comes : Kp := (⟨"ClassWorks$Machine", "comes", "(IIZ)V"⟩, prog_5_method_40_code, 4, none, [])
theorem mv_Machine_comes : MV k_Machine_comes 6 3 := ⟨⟨_, rfl, rfl⟩, by decide, (tbk_mem (j := 9) (k := 64) rfl), Or.inr ⟨(tbk_mem (j := 9) (k := 63) rfl), 38, (tbk_mem (j := 2) (k := 195) rfl)⟩, Or.inl ⟨rfl, (tbk_mem (j := 9) (k := 65) rfl)⟩, ⟨by decide, by decide⟩, by decide +kernel, by decide +kernel, by decide⟩
def k_Machine_goesTo : Kp := (⟨"ClassWorks$Machine", "goesTo", "(II)V"⟩, prog_5_method_41_code, 3, none, [])
theorem mv_Machine_goesTo : MV k_Machine_goesTo 6 2 := ⟨⟨_, rfl, rfl⟩, by decide, (tbk_mem (j := 9) (k := 72) rfl), Or.inr ⟨(tbk_mem (j := 9) (k := 71) rfl), 38, (tbk_mem (j := 2) (k := 195) rfl)⟩, Or.inl ⟨rfl, (tbk_mem (j := 9) (k := 73) rfl)⟩, ⟨by decide, by decide⟩, by decide +kernel, by decide +kernel, by decide⟩
def w_Checker_ends_j139 (this : Nat) (Q : Int32 → Mem → Prop) (s0 : Int32) (M : Mem) : Prop :=
  (s0 = 0 ∨ s0 = 1) ∧ if (mI (sI M 4 this 3 s0) 4 this 3) = 0 then (Q (1 : Int32) (sI M 4 this 3 s0)) else (∃ i13, (mR (sI M 4 this 3 s0) 4 this 4) = some (5, i13) ∧ vp_in (mI (sI M 4 this 3 s0) 4 this 6) (mL (sI M 4 this 3 s0) 63 i13) ∧ if (mI (sI M 4 this 3 s0) 4 this 7) < ((mI (sI M 4 this 3 s0) 63 i13 (mI (sI M 4 this 3 s0) 4 this 6).toNatClampNeg) - (1 : Int32)) then (Q (1 : Int32) (sI M 4 this 3 s0)) else (w_Checker_breaks this (35 : Int32) (fun r17 M16 => if r17 = 0 then (Q (0 : Int32) M16) else (Q (1 : Int32) M16)) (sI M 4 this 3 s0)))
def w_Checker_ends_j138 (this : Nat) (Q : Int32 → Mem → Prop)  (M : Mem) : Prop :=
  w_Checker_ends_j139 this Q (0 : Int32) M
def w_Checker_ends_j104 (this : Nat) (Q : Int32 → Mem → Prop) (v2 : Int32) (M : Mem) : Prop :=
  if v2 = (23 : Int32) then (w_Checker_ends_j138 this Q  M) else (if v2 = (40 : Int32) then (w_Checker_ends_j138 this Q  M) else (if v2 = (56 : Int32) then (w_Checker_ends_j138 this Q  M) else (w_Works_isIn v2 (57 : Int32) (59 : Int32) (fun r22 M21 => if r22 = 0 then (w_Checker_ends_j139 this Q (1 : Int32) M21) else (w_Checker_ends_j138 this Q  M21)) M)))
def w_Checker_ends_L41 (this : Nat) (Q : Int32 → Mem → Prop) : Nat → Int32 → Int32 → Int32 → Mem → Prop
  | 0, _, _, _, _ => False
  | n + 1, v1, v2, v3, M => if v2 = (40 : Int32) then (∃ i7, (mR M 4 this 4) = some (5, i7) ∧ vp_in v1 (mL M 69 i7) ∧ if (mI M 69 i7 v1.toNatClampNeg) < v3 then (w_Checker_ends_j104 this Q v2 M) else (∃ i24, (mR M 4 this 4) = some (5, i24) ∧ ∃ i25, (mR M 4 this 4) = some (5, i25) ∧ vp_in v1 (mL M 68 i25) ∧ ∃ i27, (mR M 4 this 4) = some (5, i27) ∧ vp_in v1 (mL M 69 i27) ∧ ¬ (mI M 69 i27 v1.toNatClampNeg) = 0 ∧ vp_in ((mI M 68 i25 v1.toNatClampNeg) + (v3 - v3 / (mI M 69 i27 v1.toNatClampNeg) * (mI M 69 i27 v1.toNatClampNeg))) (mL M 74 i24) ∧ w_Checker_goes this (mI M 74 i24 ((mI M 68 i25 v1.toNatClampNeg) + (v3 - v3 / (mI M 69 i27 v1.toNatClampNeg) * (mI M 69 i27 v1.toNatClampNeg))).toNatClampNeg) (fun r32 M31 => if r32 = 0 then (Q (0 : Int32) M31) else ((w_Checker_ends_L41 this Q n) v1 v2 (v3 + (1 : Int32)) M31)) M)) else (w_Checker_ends_j104 this Q v2 M)
def w_Checker_ends_j39 (this : Nat) (Q : Int32 → Mem → Prop) (v1 : Int32) (v2 : Int32) (M : Mem) : Prop :=
  ∃ n34 : Nat, w_Checker_ends_L41 this Q n34 v1 v2 (1 : Int32) M
def w_Checker_ends (this : Nat) (a1 : Int32) (Q : Int32 → Mem → Prop) (M : Mem) : Prop :=
  ∃ i1, (mR M 4 this 4) = some (5, i1) ∧ vp_in a1 (mL M 66 i1) ∧ w_Works_isIn (mI M 66 i1 a1.toNatClampNeg) (23 : Int32) (39 : Int32) (fun r4 M3 => if r4 = 0 then (w_Checker_ends_j39 this Q a1 (mI M 66 i1 a1.toNatClampNeg) M3) else (∃ i35, (mR M3 4 this 4) = some (5, i35) ∧ vp_in a1 (mL M3 67 i35) ∧ w_Checker_goes this (mI M3 67 i35 a1.toNatClampNeg) (fun r38 M37 => if r38 = 0 then (Q (0 : Int32) M37) else (w_Checker_ends_j39 this Q a1 (mI M 66 i1 a1.toNatClampNeg) M37)) M3)) M
set_option maxRecDepth 4096 in
theorem lk_Checker_ends_j139 {γ : Gm} (hγ : Gk γ) (this : Nat) (Q : Int32 → Mem → Prop) (s0 : Int32) (M : Mem) (h : w_Checker_ends_j139 this Q s0 M) : E γ k_Checker_ends 5 139 [some (vr (some (4, this))), none, none, none] [vi s0, vr (some (4, this))] M (Qi Q) := by
  unfold w_Checker_ends_j139 at h
  obtain ⟨c11, h⟩ := h
  refine E_blk (lv' := [some (vr (some (4, this))), none, none, none]) (st' := [vi (mI (sI M 4 this 3 s0) 4 this 3)]) (M1 := (sI M 4 this 3 s0)) (pc' := 146) (tb_Checker hγ) [.putfield 105, .aload_n 0, .getfield 105] (by decide +kernel) rfl rfl ⟨c11, trivial⟩ ?_
  refine E_if_eq (off := 33) (tgt := 179) (by decide +kernel) (by decide) (fun b12 => ?_) (fun b12 => ?_)
  · rw [if_pos b12] at h
    refine E_blk (lv' := [some (vr (some (4, this))), none, none, none]) (st' := [vi (1 : Int32)]) (M1 := (sI M 4 this 3 s0)) (pc' := 180) (tb_Checker hγ) [.iconst 1] (by decide +kernel) rfl rfl trivial ?_
    refine E_goto (off := 4) (tgt := 184) (by decide +kernel) (by decide) ?_
    exact E_zret rfl (Or.inr rfl) (by decide +kernel) h
  · rw [if_neg b12] at h
    refine E_blk (lv' := [some (vr (some (4, this))), none, none, none]) (st' := [vr (mR (sI M 4 this 3 s0) 4 this 4), vi (mI (sI M 4 this 3 s0) 4 this 7)]) (M1 := (sI M 4 this 3 s0)) (pc' := 157) (tb_Checker hγ) [.aload_n 0, .getfield 69, .aload_n 0, .getfield 35] (by decide +kernel) rfl rfl trivial ?_
    obtain ⟨i13, ei13, h⟩ := h
    rw [ei13]
    obtain ⟨c14, h⟩ := h
    refine E_blk (lv' := [some (vr (some (4, this))), none, none, none]) (st' := [vi ((mI (sI M 4 this 3 s0) 63 i13 (mI (sI M 4 this 3 s0) 4 this 6).toNatClampNeg) - (1 : Int32)), vi (mI (sI M 4 this 3 s0) 4 this 7)]) (M1 := (sI M 4 this 3 s0)) (pc' := 167) (tb_Checker hγ) [.getfield 112, .aload_n 0, .getfield 54, .iaload, .iconst 1, .isub] (by decide +kernel) rfl rfl ⟨c14, trivial⟩ ?_
    refine E_icmp_lt (off := 12) (tgt := 179) (by decide +kernel) (by decide) (fun b15 => ?_) (fun b15 => ?_)
    · rw [if_pos b15] at h
      refine E_blk (lv' := [some (vr (some (4, this))), none, none, none]) (st' := [vi (1 : Int32)]) (M1 := (sI M 4 this 3 s0)) (pc' := 180) (tb_Checker hγ) [.iconst 1] (by decide +kernel) rfl rfl trivial ?_
      refine E_goto (off := 4) (tgt := 184) (by decide +kernel) (by decide) ?_
      exact E_zret rfl (Or.inr rfl) (by decide +kernel) h
    · rw [if_neg b15] at h
      refine E_blk (lv' := [some (vr (some (4, this))), none, none, none]) (st' := [vi (35 : Int32), vr (some (4, this))]) (M1 := (sI M 4 this 3 s0)) (pc' := 173) (tb_Checker hγ) [.aload_n 0, .bipush 35] (by decide +kernel) rfl rfl trivial ?_
      refine E_callV (κ' := k_Checker_breaks) (As := [vi (35 : Int32)]) (st := []) mv_Checker_breaks (Or.inl (tbk_mem (j := 7) (k := 147) rfl)) rfl (by decide +kernel) (Nat.le_of_ble_eq_true rfl) (Nat.le_of_ble_eq_true rfl) rfl (by decide) (lk_Checker_breaks hγ this (35 : Int32) _ (sI M 4 this 3 s0) h) (fun _ _ => Qi_r) (fun v M16 hp => Qi_k (R := fun st => E γ k_Checker_ends 5 176 [some (vr (some (4, this))), none, none, none] st M16 (Qi Q)) hp (fun r17 h => ?_))
      refine E_if_eq (off := 7) (tgt := 183) (by decide +kernel) (by decide) (fun b18 => ?_) (fun b18 => ?_)
      · rw [if_pos b18] at h
        refine E_blk (lv' := [some (vr (some (4, this))), none, none, none]) (st' := [vi (0 : Int32)]) (M1 := M16) (pc' := 184) (tb_Checker hγ) [.iconst 0] (by decide +kernel) rfl rfl trivial ?_
        exact E_zret rfl (Or.inl rfl) (by decide +kernel) h
      · rw [if_neg b18] at h
        refine E_blk (lv' := [some (vr (some (4, this))), none, none, none]) (st' := [vi (1 : Int32)]) (M1 := M16) (pc' := 180) (tb_Checker hγ) [.iconst 1] (by decide +kernel) rfl rfl trivial ?_
        refine E_goto (off := 4) (tgt := 184) (by decide +kernel) (by decide) ?_
        exact E_zret rfl (Or.inr rfl) (by decide +kernel) h
set_option maxRecDepth 4096 in
theorem lk_Checker_ends_j138 {γ : Gm} (hγ : Gk γ) (this : Nat) (Q : Int32 → Mem → Prop)  (M : Mem) (h : w_Checker_ends_j138 this Q  M) : E γ k_Checker_ends 5 138 [some (vr (some (4, this))), none, none, none] [vr (some (4, this))] M (Qi Q) := by
  unfold w_Checker_ends_j138 at h
  refine E_blk (lv' := [some (vr (some (4, this))), none, none, none]) (st' := [vi (0 : Int32), vr (some (4, this))]) (M1 := M) (pc' := 139) (tb_Checker hγ) [.iconst 0] (by decide +kernel) rfl rfl trivial ?_
  refine E_mask [true, false, false, false] rfl ?_
  exact lk_Checker_ends_j139 hγ this Q (0 : Int32) M h
set_option maxRecDepth 4096 in
theorem lk_Checker_ends_j104 {γ : Gm} (hγ : Gk γ) (this : Nat) (Q : Int32 → Mem → Prop) (v2 : Int32) (M : Mem) (h : w_Checker_ends_j104 this Q v2 M) : E γ k_Checker_ends 5 104 [some (vr (some (4, this))), none, some (vi v2), none] [] M (Qi Q) := by
  unfold w_Checker_ends_j104 at h
  refine E_blk (lv' := [some (vr (some (4, this))), none, some (vi v2), none]) (st' := [vi (23 : Int32), vi v2, vr (some (4, this))]) (M1 := M) (pc' := 108) (tb_Checker hγ) [.aload_n 0, .iload_n 2, .bipush 23] (by decide +kernel) rfl rfl trivial ?_
  refine E_icmp_eq (off := 30) (tgt := 138) (by decide +kernel) (by decide) (fun b10 => ?_) (fun b10 => ?_)
  · rw [if_pos b10] at h
    refine E_mask [true, false, false, false] rfl ?_
    exact lk_Checker_ends_j138 hγ this Q  M h
  · rw [if_neg b10] at h
    refine E_blk (lv' := [some (vr (some (4, this))), none, some (vi v2), none]) (st' := [vi (40 : Int32), vi v2, vr (some (4, this))]) (M1 := M) (pc' := 114) (tb_Checker hγ) [.iload_n 2, .bipush 40] (by decide +kernel) rfl rfl trivial ?_
    refine E_icmp_eq (off := 24) (tgt := 138) (by decide +kernel) (by decide) (fun b19 => ?_) (fun b19 => ?_)
    · rw [if_pos b19] at h
      refine E_mask [true, false, false, false] rfl ?_
      exact lk_Checker_ends_j138 hγ this Q  M h
    · rw [if_neg b19] at h
      refine E_blk (lv' := [some (vr (some (4, this))), none, some (vi v2), none]) (st' := [vi (56 : Int32), vi v2, vr (some (4, this))]) (M1 := M) (pc' := 120) (tb_Checker hγ) [.iload_n 2, .bipush 56] (by decide +kernel) rfl rfl trivial ?_
      refine E_icmp_eq (off := 18) (tgt := 138) (by decide +kernel) (by decide) (fun b20 => ?_) (fun b20 => ?_)
      · rw [if_pos b20] at h
        refine E_mask [true, false, false, false] rfl ?_
        exact lk_Checker_ends_j138 hγ this Q  M h
      · rw [if_neg b20] at h
        refine E_blk (lv' := [some (vr (some (4, this))), none, some (vi v2), none]) (st' := [vi (59 : Int32), vi (57 : Int32), vi v2, vr (some (4, this))]) (M1 := M) (pc' := 128) (tb_Checker hγ) [.iload_n 2, .bipush 57, .bipush 59] (by decide +kernel) rfl rfl trivial ?_
        refine E_callS (κ' := k_Works_isIn) (As := [vi v2, vi (57 : Int32), vi (59 : Int32)]) (st := [vr (some (4, this))]) ms_Works_isIn (Or.inr ⟨"ClassWorks", (tbk_mem (j := 7) (k := 207) rfl)⟩) rfl (by decide +kernel) (Nat.le_of_ble_eq_true rfl) (Nat.le_of_ble_eq_true rfl) rfl (by decide) (lk_Works_isIn hγ v2 (57 : Int32) (59 : Int32) _ M h) (fun _ _ => Qi_r) (fun v M21 hp => Qi_k (R := fun st => E γ k_Checker_ends 5 131 [some (vr (some (4, this))), none, some (vi v2), none] st M21 (Qi Q)) hp (fun r22 h => ?_))
        refine E_if_ne (off := 7) (tgt := 138) (by decide +kernel) (by decide) (fun b23 => ?_) (fun b23 => ?_)
        · rw [if_pos b23] at h
          refine E_blk (lv' := [some (vr (some (4, this))), none, some (vi v2), none]) (st' := [vi (1 : Int32), vr (some (4, this))]) (M1 := M21) (pc' := 135) (tb_Checker hγ) [.iconst 1] (by decide +kernel) rfl rfl trivial ?_
          refine E_goto (off := 4) (tgt := 139) (by decide +kernel) (by decide) ?_
          refine E_mask [true, false, false, false] rfl ?_
          exact lk_Checker_ends_j139 hγ this Q (1 : Int32) M21 h
        · rw [if_neg b23] at h
          refine E_mask [true, false, false, false] rfl ?_
          exact lk_Checker_ends_j138 hγ this Q  M21 h
set_option maxRecDepth 4096 in
theorem lk_Checker_ends_L41 {γ : Gm} (hγ : Gk γ) (this : Nat) (Q : Int32 → Mem → Prop) : ∀ (n : Nat) (v1 : Int32) (v2 : Int32) (v3 : Int32) (M : Mem), w_Checker_ends_L41 this Q n v1 v2 v3 M → E γ k_Checker_ends 5 41 [some (vr (some (4, this))), some (vi v1), some (vi v2), some (vi v3)] [] M (Qi Q) := by
  intro n
  induction n with
  | zero => intro v1 v2 v3 M h; exact h.elim
  | succ n ih =>
    intro v1 v2 v3 M h
    unfold w_Checker_ends_L41 at h
    refine E_blk (lv' := [some (vr (some (4, this))), some (vi v1), some (vi v2), some (vi v3)]) (st' := [vi (40 : Int32), vi v2]) (M1 := M) (pc' := 44) (tb_Checker hγ) [.iload_n 2, .bipush 40] (by decide +kernel) rfl rfl trivial ?_
    refine E_icmp_ne (off := 60) (tgt := 104) (by decide +kernel) (by decide) (fun b6 => ?_) (fun b6 => ?_)
    · rw [if_pos b6] at h
      refine E_blk (lv' := [some (vr (some (4, this))), some (vi v1), some (vi v2), some (vi v3)]) (st' := [vr (mR M 4 this 4), vi v3]) (M1 := M) (pc' := 52) (tb_Checker hγ) [.iload_n 3, .aload_n 0, .getfield 35] (by decide +kernel) rfl rfl trivial ?_
      obtain ⟨i7, ei7, h⟩ := h
      rw [ei7]
      obtain ⟨c8, h⟩ := h
      refine E_blk (lv' := [some (vr (some (4, this))), some (vi v1), some (vi v2), some (vi v3)]) (st' := [vi (mI M 69 i7 v1.toNatClampNeg), vi v3]) (M1 := M) (pc' := 57) (tb_Checker hγ) [.getfield 211, .iload_n 1, .iaload] (by decide +kernel) rfl rfl ⟨c8, trivial⟩ ?_
      refine E_icmp_gt (off := 47) (tgt := 104) (by decide +kernel) (by decide) (fun b9 => ?_) (fun b9 => ?_)
      · rw [if_pos b9] at h
        refine E_mask [true, false, true, false] rfl ?_
        exact lk_Checker_ends_j104 hγ this Q v2 M h
      · rw [if_neg b9] at h
        refine E_blk (lv' := [some (vr (some (4, this))), some (vi v1), some (vi v2), some (vi v3)]) (st' := [vr (mR M 4 this 4), vr (some (4, this))]) (M1 := M) (pc' := 65) (tb_Checker hγ) [.aload_n 0, .aload_n 0, .getfield 35] (by decide +kernel) rfl rfl trivial ?_
        obtain ⟨i24, ei24, h⟩ := h
        rw [ei24]
        refine E_blk (lv' := [some (vr (some (4, this))), some (vi v1), some (vi v2), some (vi v3)]) (st' := [vr (mR M 4 this 4), vr (some (74, i24)), vr (some (4, this))]) (M1 := M) (pc' := 72) (tb_Checker hγ) [.getfield 214, .aload_n 0, .getfield 35] (by decide +kernel) rfl rfl trivial ?_
        obtain ⟨i25, ei25, h⟩ := h
        rw [ei25]
        obtain ⟨c26, h⟩ := h
        refine E_blk (lv' := [some (vr (some (4, this))), some (vi v1), some (vi v2), some (vi v3)]) (st' := [vr (mR M 4 this 4), vi v3, vi (mI M 68 i25 v1.toNatClampNeg), vr (some (74, i24)), vr (some (4, this))]) (M1 := M) (pc' := 82) (tb_Checker hγ) [.getfield 217, .iload_n 1, .iaload, .iload_n 3, .aload_n 0, .getfield 35] (by decide +kernel) rfl rfl ⟨c26, trivial⟩ ?_
        obtain ⟨i27, ei27, h⟩ := h
        rw [ei27]
        obtain ⟨c28, c29, c30, h⟩ := h
        refine E_blk (lv' := [some (vr (some (4, this))), some (vi v1), some (vi v2), some (vi v3)]) (st' := [vi (mI M 74 i24 ((mI M 68 i25 v1.toNatClampNeg) + (v3 - v3 / (mI M 69 i27 v1.toNatClampNeg) * (mI M 69 i27 v1.toNatClampNeg))).toNatClampNeg), vr (some (4, this))]) (M1 := M) (pc' := 90) (tb_Checker hγ) [.getfield 211, .iload_n 1, .iaload, .irem, .iadd, .iaload] (by decide +kernel) rfl rfl ⟨c28, c29, c30, trivial⟩ ?_
        refine E_callV (κ' := k_Checker_goes) (As := [vi (mI M 74 i24 ((mI M 68 i25 v1.toNatClampNeg) + (v3 - v3 / (mI M 69 i27 v1.toNatClampNeg) * (mI M 69 i27 v1.toNatClampNeg))).toNatClampNeg)]) (st := []) mv_Checker_goes (Or.inl (tbk_mem (j := 7) (k := 139) rfl)) rfl (by decide +kernel) (Nat.le_of_ble_eq_true rfl) (Nat.le_of_ble_eq_true rfl) rfl (by decide) (lk_Checker_goes hγ this (mI M 74 i24 ((mI M 68 i25 v1.toNatClampNeg) + (v3 - v3 / (mI M 69 i27 v1.toNatClampNeg) * (mI M 69 i27 v1.toNatClampNeg))).toNatClampNeg) _ M h) (fun _ _ => Qi_r) (fun v M31 hp => Qi_k (R := fun st => E γ k_Checker_ends 5 93 [some (vr (some (4, this))), some (vi v1), some (vi v2), some (vi v3)] st M31 (Qi Q)) hp (fun r32 h => ?_))
        refine E_if_ne (off := 5) (tgt := 98) (by decide +kernel) (by decide) (fun b33 => ?_) (fun b33 => ?_)
        · rw [if_pos b33] at h
          refine E_blk (lv' := [some (vr (some (4, this))), some (vi v1), some (vi v2), some (vi v3)]) (st' := [vi (0 : Int32)]) (M1 := M31) (pc' := 97) (tb_Checker hγ) [.iconst 0] (by decide +kernel) rfl rfl trivial ?_
          exact E_zret rfl (Or.inl rfl) (by decide +kernel) h
        · rw [if_neg b33] at h
          refine E_blk (lv' := [some (vr (some (4, this))), some (vi v1), some (vi v2), some (vi (v3 + (1 : Int32)))]) (st' := []) (M1 := M31) (pc' := 101) (tb_Checker hγ) [.iinc 3 1] (by decide +kernel) rfl rfl trivial ?_
          refine E_goto (off := -60) (tgt := 41) (by decide +kernel) (by decide) ?_
          refine E_mask [true, true, true, true] rfl ?_
          exact ih v1 v2 (v3 + (1 : Int32)) M31 h
    · rw [if_neg b6] at h
      refine E_mask [true, false, true, false] rfl ?_
      exact lk_Checker_ends_j104 hγ this Q v2 M h
set_option maxRecDepth 4096 in
theorem lk_Checker_ends_j39 {γ : Gm} (hγ : Gk γ) (this : Nat) (Q : Int32 → Mem → Prop) (v1 : Int32) (v2 : Int32) (M : Mem) (h : w_Checker_ends_j39 this Q v1 v2 M) : E γ k_Checker_ends 5 39 [some (vr (some (4, this))), some (vi v1), some (vi v2), none] [] M (Qi Q) := by
  unfold w_Checker_ends_j39 at h
  refine E_blk (lv' := [some (vr (some (4, this))), some (vi v1), some (vi v2), some (vi (1 : Int32))]) (st' := []) (M1 := M) (pc' := 41) (tb_Checker hγ) [.iconst 1, .istore_n 3] (by decide +kernel) rfl rfl trivial ?_
  obtain ⟨n34, h⟩ := h
  refine E_mask [true, true, true, true] rfl ?_
  exact lk_Checker_ends_L41 hγ this Q n34 v1 v2 (1 : Int32) M h
set_option maxRecDepth 4096 in
theorem lk_Checker_ends {γ : Gm} (hγ : Gk γ) (this : Nat) (a1 : Int32) (Q : Int32 → Mem → Prop) (M : Mem) (h : w_Checker_ends this a1 Q M) : E γ k_Checker_ends 5 0 [some (vr (some (4, this))), some (vi a1), none, none] [] M (Qi Q) := by
  unfold w_Checker_ends at h
  refine E_blk (lv' := [some (vr (some (4, this))), some (vi a1), none, none]) (st' := [vr (mR M 4 this 4)]) (M1 := M) (pc' := 4) (tb_Checker hγ) [.aload_n 0, .getfield 35] (by decide +kernel) rfl rfl trivial ?_
  obtain ⟨i1, ei1, h⟩ := h
  rw [ei1]
  obtain ⟨c2, h⟩ := h
  refine E_blk (lv' := [some (vr (some (4, this))), some (vi a1), some (vi (mI M 66 i1 a1.toNatClampNeg)), none]) (st' := [vi (39 : Int32), vi (23 : Int32), vi (mI M 66 i1 a1.toNatClampNeg)]) (M1 := M) (pc' := 15) (tb_Checker hγ) [.getfield 198, .iload_n 1, .iaload, .istore_n 2, .iload_n 2, .bipush 23, .bipush 39] (by decide +kernel) rfl rfl ⟨c2, trivial⟩ ?_
  refine E_callS (κ' := k_Works_isIn) (As := [vi (mI M 66 i1 a1.toNatClampNeg), vi (23 : Int32), vi (39 : Int32)]) (st := []) ms_Works_isIn (Or.inr ⟨"ClassWorks", (tbk_mem (j := 7) (k := 207) rfl)⟩) rfl (by decide +kernel) (Nat.le_of_ble_eq_true rfl) (Nat.le_of_ble_eq_true rfl) rfl (by decide) (lk_Works_isIn hγ (mI M 66 i1 a1.toNatClampNeg) (23 : Int32) (39 : Int32) _ M h) (fun _ _ => Qi_r) (fun v M3 hp => Qi_k (R := fun st => E γ k_Checker_ends 5 18 [some (vr (some (4, this))), some (vi a1), some (vi (mI M 66 i1 a1.toNatClampNeg)), none] st M3 (Qi Q)) hp (fun r4 h => ?_))
  refine E_if_eq (off := 21) (tgt := 39) (by decide +kernel) (by decide) (fun b5 => ?_) (fun b5 => ?_)
  · rw [if_pos b5] at h
    refine E_mask [true, true, true, false] rfl ?_
    exact lk_Checker_ends_j39 hγ this Q a1 (mI M 66 i1 a1.toNatClampNeg) M3 h
  · rw [if_neg b5] at h
    refine E_blk (lv' := [some (vr (some (4, this))), some (vi a1), some (vi (mI M 66 i1 a1.toNatClampNeg)), none]) (st' := [vr (mR M3 4 this 4), vr (some (4, this))]) (M1 := M3) (pc' := 26) (tb_Checker hγ) [.aload_n 0, .aload_n 0, .getfield 35] (by decide +kernel) rfl rfl trivial ?_
    obtain ⟨i35, ei35, h⟩ := h
    rw [ei35]
    obtain ⟨c36, h⟩ := h
    refine E_blk (lv' := [some (vr (some (4, this))), some (vi a1), some (vi (mI M 66 i1 a1.toNatClampNeg)), none]) (st' := [vi (mI M3 67 i35 a1.toNatClampNeg), vr (some (4, this))]) (M1 := M3) (pc' := 31) (tb_Checker hγ) [.getfield 205, .iload_n 1, .iaload] (by decide +kernel) rfl rfl ⟨c36, trivial⟩ ?_
    refine E_callV (κ' := k_Checker_goes) (As := [vi (mI M3 67 i35 a1.toNatClampNeg)]) (st := []) mv_Checker_goes (Or.inl (tbk_mem (j := 7) (k := 139) rfl)) rfl (by decide +kernel) (Nat.le_of_ble_eq_true rfl) (Nat.le_of_ble_eq_true rfl) rfl (by decide) (lk_Checker_goes hγ this (mI M3 67 i35 a1.toNatClampNeg) _ M3 h) (fun _ _ => Qi_r) (fun v M37 hp => Qi_k (R := fun st => E γ k_Checker_ends 5 34 [some (vr (some (4, this))), some (vi a1), some (vi (mI M 66 i1 a1.toNatClampNeg)), none] st M37 (Qi Q)) hp (fun r38 h => ?_))
    refine E_if_ne (off := 5) (tgt := 39) (by decide +kernel) (by decide) (fun b39 => ?_) (fun b39 => ?_)
    · rw [if_pos b39] at h
      refine E_blk (lv' := [some (vr (some (4, this))), some (vi a1), some (vi (mI M 66 i1 a1.toNatClampNeg)), none]) (st' := [vi (0 : Int32)]) (M1 := M37) (pc' := 38) (tb_Checker hγ) [.iconst 0] (by decide +kernel) rfl rfl trivial ?_
      exact E_zret rfl (Or.inl rfl) (by decide +kernel) h
    · rw [if_neg b39] at h
      refine E_mask [true, true, true, false] rfl ?_
      exact lk_Checker_ends_j39 hγ this Q a1 (mI M 66 i1 a1.toNatClampNeg) M37 h
def w_Checker_one_j177 (this : Nat) (Q : Int32 → Mem → Prop) (v1 : Int32) (M : Mem) : Prop :=
  w_Checker_keep this (fun M9 => w_Checker_handlers this (fun r11 M10 => if r11 = 0 then (Q (0 : Int32) M10) else (w_Checker_act this v1 (fun r14 M13 => if r14 = 0 then (Q (0 : Int32) M13) else (w_Checker_ends this v1 (fun r17 M16 => if r17 = 0 then (Q (0 : Int32) M16) else (Q (1 : Int32) M16)) M13)) M10)) M9) M
def w_Checker_one_L114 (this : Nat) (Q : Int32 → Mem → Prop) : Nat → Int32 → Int32 → Int32 → Mem → Prop
  | 0, _, _, _, _ => False
  | n + 1, v1, v2, v3, M => if (mI M 4 this 2) ≤ v3 then (((1 : Int32) = 0 ∨ (1 : Int32) = 1) ∧ w_Checker_one_j177 this Q v1 (sI M 4 this 3 (1 : Int32))) else (∃ i31, (mR M 4 this 4) = some (5, i31) ∧ ∃ i32, (mR M 4 this 4) = some (5, i32) ∧ vp_in v1 (mL M 71 i32) ∧ vp_in ((v2 + (mI M 71 i32 v1.toNatClampNeg)) + v3) (mL M 73 i31) ∧ vp_in v3 (mL M 32 this) ∧ ∃ M36, M36 = (sI M 32 this v3.toNatClampNeg (mI M 73 i31 ((v2 + (mI M 71 i32 v1.toNatClampNeg)) + v3).toNatClampNeg)) ∧ (w_Checker_one_L114 this Q n) v1 v2 (v3 + (1 : Int32)) M36)
def w_Checker_one_j92 (this : Nat) (Q : Int32 → Mem → Prop) (k42 : Int32 → Int32 → Int32 → Mem → Prop) (v1 : Int32) (v2 : Int32) (v3 : Int32) (s0 : Int32) (s1 : Int32) (M : Mem) : Prop :=
  vp_in s1 (mL M 31 this) ∧ k42 v1 v2 (v3 + (1 : Int32)) (sI M 31 this s1.toNatClampNeg s0)
def w_Checker_one_L42 (this : Nat) (Q : Int32 → Mem → Prop) : Nat → Int32 → Int32 → Int32 → Mem → Prop
  | 0, _, _, _, _ => False
  | n + 1, v1, v2, v3, M => ∃ i24, (mR M 4 this 4) = some (5, i24) ∧ vp_in (mI M 4 this 6) (mL M 61 i24) ∧ if (mI M 61 i24 (mI M 4 this 6).toNatClampNeg) ≤ v3 then (∃ i27, (mR M 4 this 4) = some (5, i27) ∧ vp_in v1 (mL M 72 i27) ∧ ∃ n37 : Nat, w_Checker_one_L114 this Q n37 v1 v2 (0 : Int32) (sI M 4 this 2 (mI M 72 i27 v1.toNatClampNeg))) else (∃ i38, (mR M 4 this 4) = some (5, i38) ∧ vp_in v1 (mL M 71 i38) ∧ if (mI M 71 i38 v1.toNatClampNeg) ≤ v3 then (w_Checker_one_j92 this Q (w_Checker_one_L42 this Q n) v1 v2 v3 (-2 : Int32) v3 M) else (∃ i42, (mR M 4 this 4) = some (5, i42) ∧ vp_in (v2 + v3) (mL M 73 i42) ∧ w_Checker_one_j92 this Q (w_Checker_one_L42 this Q n) v1 v2 v3 (mI M 73 i42 (v2 + v3).toNatClampNeg) v3 M))
def w_Checker_one (this : Nat) (Q : Int32 → Mem → Prop) (M : Mem) : Prop :=
  w_Checker_code this (fun r2 M1 => ∃ i3, (mR M1 4 this 4) = some (5, i3) ∧ vp_in r2 (mL M1 70 i3) ∧ if (mI M1 70 i3 r2.toNatClampNeg) < 0 then (if (mI M1 4 this 3) = 0 then (w_Checker_breaks this (36 : Int32) (fun r8 M7 => (r8 = 0 ∨ r8 = 1) ∧ Q r8 M7) M1) else (w_Checker_one_j177 this Q r2 M1)) else (w_Checker_goes this (mI M1 4 this 7) (fun r20 M19 => if r20 = 0 then (Q (0 : Int32) M19) else (∃ i22, (mR M19 4 this 4) = some (5, i22) ∧ vp_in r2 (mL M19 70 i22) ∧ ∃ n44 : Nat, w_Checker_one_L42 this Q n44 r2 (mI M19 70 i22 r2.toNatClampNeg) (0 : Int32) M19)) M1)) M
set_option maxRecDepth 4096 in
theorem lk_Checker_one_j177 {γ : Gm} (hγ : Gk γ) (this : Nat) (Q : Int32 → Mem → Prop) (v1 : Int32) (M : Mem) (h : w_Checker_one_j177 this Q v1 M) : E γ k_Checker_one 9 177 [some (vr (some (4, this))), some (vi v1), none, none] [] M (Qi Q) := by
  unfold w_Checker_one_j177 at h
  refine E_blk (lv' := [some (vr (some (4, this))), some (vi v1), none, none]) (st' := [vr (some (4, this))]) (M1 := M) (pc' := 178) (tb_Checker hγ) [.aload_n 0] (by decide +kernel) rfl rfl trivial ?_
  refine E_callV (κ' := k_Checker_keep) (As := []) (st := []) mv_Checker_keep (Or.inl (tbk_mem (j := 7) (k := 169) rfl)) rfl (by decide +kernel) (Nat.le_of_ble_eq_true rfl) (Nat.le_of_ble_eq_true rfl) rfl (by decide) (lk_Checker_keep hγ this _ M h) (fun _ _ => Qv_r) (fun v M9 hp => Qv_k (R := fun st => E γ k_Checker_one 9 181 [some (vr (some (4, this))), some (vi v1), none, none] st M9 (Qi Q)) hp (fun h => ?_))
  refine E_blk (lv' := [some (vr (some (4, this))), some (vi v1), none, none]) (st' := [vr (some (4, this))]) (M1 := M9) (pc' := 182) (tb_Checker hγ) [.aload_n 0] (by decide +kernel) rfl rfl trivial ?_
  refine E_callV (κ' := k_Checker_handlers) (As := []) (st := []) mv_Checker_handlers (Or.inl (tbk_mem (j := 7) (k := 176) rfl)) rfl (by decide +kernel) (Nat.le_of_ble_eq_true rfl) (Nat.le_of_ble_eq_true rfl) rfl (by decide) (lk_Checker_handlers hγ this _ M9 h) (fun _ _ => Qi_r) (fun v M10 hp => Qi_k (R := fun st => E γ k_Checker_one 9 185 [some (vr (some (4, this))), some (vi v1), none, none] st M10 (Qi Q)) hp (fun r11 h => ?_))
  refine E_if_eq (off := 23) (tgt := 208) (by decide +kernel) (by decide) (fun b12 => ?_) (fun b12 => ?_)
  · rw [if_pos b12] at h
    refine E_blk (lv' := [some (vr (some (4, this))), some (vi v1), none, none]) (st' := [vi (0 : Int32)]) (M1 := M10) (pc' := 209) (tb_Checker hγ) [.iconst 0] (by decide +kernel) rfl rfl trivial ?_
    exact E_zret rfl (Or.inl rfl) (by decide +kernel) h
  · rw [if_neg b12] at h
    refine E_blk (lv' := [some (vr (some (4, this))), some (vi v1), none, none]) (st' := [vi v1, vr (some (4, this))]) (M1 := M10) (pc' := 190) (tb_Checker hγ) [.aload_n 0, .iload_n 1] (by decide +kernel) rfl rfl trivial ?_
    refine E_callV (κ' := k_Checker_act) (As := [vi v1]) (st := []) mv_Checker_act (Or.inl (tbk_mem (j := 7) (k := 203) rfl)) rfl (by decide +kernel) (Nat.le_of_ble_eq_true rfl) (Nat.le_of_ble_eq_true rfl) rfl (by decide) (lk_Checker_act hγ this v1 _ M10 h) (fun _ _ => Qi_r) (fun v M13 hp => Qi_k (R := fun st => E γ k_Checker_one 9 193 [some (vr (some (4, this))), some (vi v1), none, none] st M13 (Qi Q)) hp (fun r14 h => ?_))
    refine E_if_eq (off := 15) (tgt := 208) (by decide +kernel) (by decide) (fun b15 => ?_) (fun b15 => ?_)
    · rw [if_pos b15] at h
      refine E_blk (lv' := [some (vr (some (4, this))), some (vi v1), none, none]) (st' := [vi (0 : Int32)]) (M1 := M13) (pc' := 209) (tb_Checker hγ) [.iconst 0] (by decide +kernel) rfl rfl trivial ?_
      exact E_zret rfl (Or.inl rfl) (by decide +kernel) h
    · rw [if_neg b15] at h
      refine E_blk (lv' := [some (vr (some (4, this))), some (vi v1), none, none]) (st' := [vi v1, vr (some (4, this))]) (M1 := M13) (pc' := 198) (tb_Checker hγ) [.aload_n 0, .iload_n 1] (by decide +kernel) rfl rfl trivial ?_
      refine E_callV (κ' := k_Checker_ends) (As := [vi v1]) (st := []) mv_Checker_ends (Or.inl (tbk_mem (j := 8) (k := 64) rfl)) rfl (by decide +kernel) (Nat.le_of_ble_eq_true rfl) (Nat.le_of_ble_eq_true rfl) rfl (by decide) (lk_Checker_ends hγ this v1 _ M13 h) (fun _ _ => Qi_r) (fun v M16 hp => Qi_k (R := fun st => E γ k_Checker_one 9 201 [some (vr (some (4, this))), some (vi v1), none, none] st M16 (Qi Q)) hp (fun r17 h => ?_))
      refine E_if_eq (off := 7) (tgt := 208) (by decide +kernel) (by decide) (fun b18 => ?_) (fun b18 => ?_)
      · rw [if_pos b18] at h
        refine E_blk (lv' := [some (vr (some (4, this))), some (vi v1), none, none]) (st' := [vi (0 : Int32)]) (M1 := M16) (pc' := 209) (tb_Checker hγ) [.iconst 0] (by decide +kernel) rfl rfl trivial ?_
        exact E_zret rfl (Or.inl rfl) (by decide +kernel) h
      · rw [if_neg b18] at h
        refine E_blk (lv' := [some (vr (some (4, this))), some (vi v1), none, none]) (st' := [vi (1 : Int32)]) (M1 := M16) (pc' := 205) (tb_Checker hγ) [.iconst 1] (by decide +kernel) rfl rfl trivial ?_
        refine E_goto (off := 4) (tgt := 209) (by decide +kernel) (by decide) ?_
        exact E_zret rfl (Or.inr rfl) (by decide +kernel) h
set_option maxRecDepth 4096 in
theorem lk_Checker_one_L114 {γ : Gm} (hγ : Gk γ) (this : Nat) (Q : Int32 → Mem → Prop) : ∀ (n : Nat) (v1 : Int32) (v2 : Int32) (v3 : Int32) (M : Mem), w_Checker_one_L114 this Q n v1 v2 v3 M → E γ k_Checker_one 9 114 [some (vr (some (4, this))), some (vi v1), some (vi v2), some (vi v3)] [] M (Qi Q) := by
  intro n
  induction n with
  | zero => intro v1 v2 v3 M h; exact h.elim
  | succ n ih =>
    intro v1 v2 v3 M h
    unfold w_Checker_one_L114 at h
    refine E_blk (lv' := [some (vr (some (4, this))), some (vi v1), some (vi v2), some (vi v3)]) (st' := [vi (mI M 4 this 2), vi v3]) (M1 := M) (pc' := 119) (tb_Checker hγ) [.iload_n 3, .aload_n 0, .getfield 102] (by decide +kernel) rfl rfl trivial ?_
    refine E_icmp_ge (off := 36) (tgt := 155) (by decide +kernel) (by decide) (fun b29 => ?_) (fun b29 => ?_)
    · rw [if_pos b29] at h
      obtain ⟨c30, h⟩ := h
      refine E_blk (lv' := [some (vr (some (4, this))), some (vi v1), some (vi v2), some (vi v3)]) (st' := []) (M1 := (sI M 4 this 3 (1 : Int32))) (pc' := 160) (tb_Checker hγ) [.aload_n 0, .iconst 1, .putfield 105] (by decide +kernel) rfl rfl ⟨c30, trivial⟩ ?_
      refine E_goto (off := 17) (tgt := 177) (by decide +kernel) (by decide) ?_
      refine E_mask [true, true, false, false] rfl ?_
      exact lk_Checker_one_j177 hγ this Q v1 (sI M 4 this 3 (1 : Int32)) h
    · rw [if_neg b29] at h
      refine E_blk (lv' := [some (vr (some (4, this))), some (vi v1), some (vi v2), some (vi v3)]) (st' := [vr (mR M 4 this 4), vi v3, vr (some (32, this))]) (M1 := M) (pc' := 131) (tb_Checker hγ) [.aload_n 0, .getfield 19, .iload_n 3, .aload_n 0, .getfield 35] (by decide +kernel) rfl rfl trivial ?_
      obtain ⟨i31, ei31, h⟩ := h
      rw [ei31]
      refine E_blk (lv' := [some (vr (some (4, this))), some (vi v1), some (vi v2), some (vi v3)]) (st' := [vr (mR M 4 this 4), vi v2, vr (some (73, i31)), vi v3, vr (some (32, this))]) (M1 := M) (pc' := 139) (tb_Checker hγ) [.getfield 134, .iload_n 2, .aload_n 0, .getfield 35] (by decide +kernel) rfl rfl trivial ?_
      obtain ⟨i32, ei32, h⟩ := h
      rw [ei32]
      obtain ⟨c33, c34, c35, h⟩ := h
      refine E_blk (lv' := [some (vr (some (4, this))), some (vi v1), some (vi v2), some (vi v3)]) (st' := []) (M1 := (sI M 32 this v3.toNatClampNeg (mI M 73 i31 ((v2 + (mI M 71 i32 v1.toNatClampNeg)) + v3).toNatClampNeg))) (pc' := 149) (tb_Checker hγ) [.getfield 131, .iload_n 1, .iaload, .iadd, .iload_n 3, .iadd, .iaload, .iastore] (by decide +kernel) rfl rfl ⟨c33, c34, c35, trivial⟩ ?_
      obtain ⟨M36, eM36, h⟩ := h
      rw [← eM36]
      refine E_blk (lv' := [some (vr (some (4, this))), some (vi v1), some (vi v2), some (vi (v3 + (1 : Int32)))]) (st' := []) (M1 := M36) (pc' := 152) (tb_Checker hγ) [.iinc 3 1] (by decide +kernel) rfl rfl trivial ?_
      refine E_goto (off := -38) (tgt := 114) (by decide +kernel) (by decide) ?_
      refine E_mask [true, true, true, true] rfl ?_
      exact ih v1 v2 (v3 + (1 : Int32)) M36 h
set_option maxRecDepth 4096 in
theorem lk_Checker_one_j92 {γ : Gm} (hγ : Gk γ) (this : Nat) (Q : Int32 → Mem → Prop) (k42 : Int32 → Int32 → Int32 → Mem → Prop) (hk42 : ∀ (v1 : Int32) (v2 : Int32) (v3 : Int32) (M : Mem), k42 v1 v2 v3 M → E γ k_Checker_one 9 42 [some (vr (some (4, this))), some (vi v1), some (vi v2), some (vi v3)] [] M (Qi Q)) (v1 : Int32) (v2 : Int32) (v3 : Int32) (s0 : Int32) (s1 : Int32) (M : Mem) (h : w_Checker_one_j92 this Q k42 v1 v2 v3 s0 s1 M) : E γ k_Checker_one 9 92 [some (vr (some (4, this))), some (vi v1), some (vi v2), some (vi v3)] [vi s0, vi s1, vr (some (31, this))] M (Qi Q) := by
  unfold w_Checker_one_j92 at h
  obtain ⟨c41, h⟩ := h
  refine E_blk (lv' := [some (vr (some (4, this))), some (vi v1), some (vi v2), some (vi (v3 + (1 : Int32)))]) (st' := []) (M1 := (sI M 31 this s1.toNatClampNeg s0)) (pc' := 96) (tb_Checker hγ) [.iastore, .iinc 3 1] (by decide +kernel) rfl rfl ⟨c41, trivial⟩ ?_
  refine E_goto (off := -54) (tgt := 42) (by decide +kernel) (by decide) ?_
  refine E_mask [true, true, true, true] rfl ?_
  exact hk42 v1 v2 (v3 + (1 : Int32)) (sI M 31 this s1.toNatClampNeg s0) h
set_option maxRecDepth 4096 in
theorem lk_Checker_one_L42 {γ : Gm} (hγ : Gk γ) (this : Nat) (Q : Int32 → Mem → Prop) : ∀ (n : Nat) (v1 : Int32) (v2 : Int32) (v3 : Int32) (M : Mem), w_Checker_one_L42 this Q n v1 v2 v3 M → E γ k_Checker_one 9 42 [some (vr (some (4, this))), some (vi v1), some (vi v2), some (vi v3)] [] M (Qi Q) := by
  intro n
  induction n with
  | zero => intro v1 v2 v3 M h; exact h.elim
  | succ n ih =>
    intro v1 v2 v3 M h
    unfold w_Checker_one_L42 at h
    refine E_blk (lv' := [some (vr (some (4, this))), some (vi v1), some (vi v2), some (vi v3)]) (st' := [vr (mR M 4 this 4), vi v3]) (M1 := M) (pc' := 47) (tb_Checker hγ) [.iload_n 3, .aload_n 0, .getfield 35] (by decide +kernel) rfl rfl trivial ?_
    obtain ⟨i24, ei24, h⟩ := h
    rw [ei24]
    obtain ⟨c25, h⟩ := h
    refine E_blk (lv' := [some (vr (some (4, this))), some (vi v1), some (vi v2), some (vi v3)]) (st' := [vi (mI M 61 i24 (mI M 4 this 6).toNatClampNeg), vi v3]) (M1 := M) (pc' := 55) (tb_Checker hγ) [.getfield 85, .aload_n 0, .getfield 54, .iaload] (by decide +kernel) rfl rfl ⟨c25, trivial⟩ ?_
    refine E_icmp_ge (off := 44) (tgt := 99) (by decide +kernel) (by decide) (fun b26 => ?_) (fun b26 => ?_)
    · rw [if_pos b26] at h
      refine E_blk (lv' := [some (vr (some (4, this))), some (vi v1), some (vi v2), some (vi v3)]) (st' := [vr (mR M 4 this 4), vr (some (4, this))]) (M1 := M) (pc' := 104) (tb_Checker hγ) [.aload_n 0, .aload_n 0, .getfield 35] (by decide +kernel) rfl rfl trivial ?_
      obtain ⟨i27, ei27, h⟩ := h
      rw [ei27]
      obtain ⟨c28, h⟩ := h
      refine E_blk (lv' := [some (vr (some (4, this))), some (vi v1), some (vi v2), some (vi (0 : Int32))]) (st' := []) (M1 := (sI M 4 this 2 (mI M 72 i27 v1.toNatClampNeg))) (pc' := 114) (tb_Checker hγ) [.getfield 137, .iload_n 1, .iaload, .putfield 102, .iconst 0, .istore_n 3] (by decide +kernel) rfl rfl ⟨c28, trivial⟩ ?_
      obtain ⟨n37, h⟩ := h
      refine E_mask [true, true, true, true] rfl ?_
      exact lk_Checker_one_L114 hγ this Q n37 v1 v2 (0 : Int32) (sI M 4 this 2 (mI M 72 i27 v1.toNatClampNeg)) h
    · rw [if_neg b26] at h
      refine E_blk (lv' := [some (vr (some (4, this))), some (vi v1), some (vi v2), some (vi v3)]) (st' := [vr (mR M 4 this 4), vi v3, vi v3, vr (some (31, this))]) (M1 := M) (pc' := 68) (tb_Checker hγ) [.aload_n 0, .getfield 15, .iload_n 3, .iload_n 3, .aload_n 0, .getfield 35] (by decide +kernel) rfl rfl trivial ?_
      obtain ⟨i38, ei38, h⟩ := h
      rw [ei38]
      obtain ⟨c39, h⟩ := h
      refine E_blk (lv' := [some (vr (some (4, this))), some (vi v1), some (vi v2), some (vi v3)]) (st' := [vi (mI M 71 i38 v1.toNatClampNeg), vi v3, vi v3, vr (some (31, this))]) (M1 := M) (pc' := 73) (tb_Checker hγ) [.getfield 131, .iload_n 1, .iaload] (by decide +kernel) rfl rfl ⟨c39, trivial⟩ ?_
      refine E_icmp_ge (off := 17) (tgt := 90) (by decide +kernel) (by decide) (fun b40 => ?_) (fun b40 => ?_)
      · rw [if_pos b40] at h
        refine E_blk (lv' := [some (vr (some (4, this))), some (vi v1), some (vi v2), some (vi v3)]) (st' := [vi (-2 : Int32), vi v3, vr (some (31, this))]) (M1 := M) (pc' := 92) (tb_Checker hγ) [.bipush (.negSucc 1)] (by decide +kernel) rfl rfl trivial ?_
        refine E_mask [true, true, true, true] rfl ?_
        exact lk_Checker_one_j92 hγ this Q (w_Checker_one_L42 this Q n) ih v1 v2 v3 (-2 : Int32) v3 M h
      · rw [if_neg b40] at h
        refine E_blk (lv' := [some (vr (some (4, this))), some (vi v1), some (vi v2), some (vi v3)]) (st' := [vr (mR M 4 this 4), vi v3, vr (some (31, this))]) (M1 := M) (pc' := 80) (tb_Checker hγ) [.aload_n 0, .getfield 35] (by decide +kernel) rfl rfl trivial ?_
        obtain ⟨i42, ei42, h⟩ := h
        rw [ei42]
        obtain ⟨c43, h⟩ := h
        refine E_blk (lv' := [some (vr (some (4, this))), some (vi v1), some (vi v2), some (vi v3)]) (st' := [vi (mI M 73 i42 (v2 + v3).toNatClampNeg), vi v3, vr (some (31, this))]) (M1 := M) (pc' := 87) (tb_Checker hγ) [.getfield 134, .iload_n 2, .iload_n 3, .iadd, .iaload] (by decide +kernel) rfl rfl ⟨c43, trivial⟩ ?_
        refine E_goto (off := 5) (tgt := 92) (by decide +kernel) (by decide) ?_
        refine E_mask [true, true, true, true] rfl ?_
        exact lk_Checker_one_j92 hγ this Q (w_Checker_one_L42 this Q n) ih v1 v2 v3 (mI M 73 i42 (v2 + v3).toNatClampNeg) v3 M h
set_option maxRecDepth 4096 in
theorem lk_Checker_one {γ : Gm} (hγ : Gk γ) (this : Nat) (Q : Int32 → Mem → Prop) (M : Mem) (h : w_Checker_one this Q M) : E γ k_Checker_one 9 0 [some (vr (some (4, this))), none, none, none] [] M (Qi Q) := by
  unfold w_Checker_one at h
  refine E_blk (lv' := [some (vr (some (4, this))), none, none, none]) (st' := [vr (some (4, this))]) (M1 := M) (pc' := 1) (tb_Checker hγ) [.aload_n 0] (by decide +kernel) rfl rfl trivial ?_
  refine E_callV (κ' := k_Checker_code) (As := []) (st := []) mv_Checker_code (Or.inl (tbk_mem (j := 7) (k := 135) rfl)) rfl (by decide +kernel) (Nat.le_of_ble_eq_true rfl) (Nat.le_of_ble_eq_true rfl) rfl (by decide) (lk_Checker_code hγ this _ M h) (fun _ _ => Qi_r) (fun v M1 hp => Qi_k (R := fun st => E γ k_Checker_one 9 4 [some (vr (some (4, this))), none, none, none] st M1 (Qi Q)) hp (fun r2 h => ?_))
  refine E_blk (lv' := [some (vr (some (4, this))), some (vi r2), none, none]) (st' := [vr (mR M1 4 this 4)]) (M1 := M1) (pc' := 9) (tb_Checker hγ) [.istore_n 1, .aload_n 0, .getfield 35] (by decide +kernel) rfl rfl trivial ?_
  obtain ⟨i3, ei3, h⟩ := h
  rw [ei3]
  obtain ⟨c4, h⟩ := h
  refine E_blk (lv' := [some (vr (some (4, this))), some (vi r2), none, none]) (st' := [vi (mI M1 70 i3 r2.toNatClampNeg)]) (M1 := M1) (pc' := 14) (tb_Checker hγ) [.getfield 124, .iload_n 1, .iaload] (by decide +kernel) rfl rfl ⟨c4, trivial⟩ ?_
  refine E_if_lt (off := 149) (tgt := 163) (by decide +kernel) (by decide) (fun b5 => ?_) (fun b5 => ?_)
  · rw [if_pos b5] at h
    refine E_blk (lv' := [some (vr (some (4, this))), some (vi r2), none, none]) (st' := [vi (mI M1 4 this 3)]) (M1 := M1) (pc' := 167) (tb_Checker hγ) [.aload_n 0, .getfield 105] (by decide +kernel) rfl rfl trivial ?_
    refine E_if_ne (off := 10) (tgt := 177) (by decide +kernel) (by decide) (fun b6 => ?_) (fun b6 => ?_)
    · rw [if_pos b6] at h
      refine E_blk (lv' := [some (vr (some (4, this))), some (vi r2), none, none]) (st' := [vi (36 : Int32), vr (some (4, this))]) (M1 := M1) (pc' := 173) (tb_Checker hγ) [.aload_n 0, .bipush 36] (by decide +kernel) rfl rfl trivial ?_
      refine E_callV (κ' := k_Checker_breaks) (As := [vi (36 : Int32)]) (st := []) mv_Checker_breaks (Or.inl (tbk_mem (j := 7) (k := 147) rfl)) rfl (by decide +kernel) (Nat.le_of_ble_eq_true rfl) (Nat.le_of_ble_eq_true rfl) rfl (by decide) (lk_Checker_breaks hγ this (36 : Int32) _ M1 h) (fun _ _ => Qi_r) (fun v M7 hp => Qi_k (R := fun st => E γ k_Checker_one 9 176 [some (vr (some (4, this))), some (vi r2), none, none] st M7 (Qi Q)) hp (fun r8 h => ?_))
      exact E_zret rfl h.1 (by decide +kernel) h.2
    · rw [if_neg b6] at h
      refine E_mask [true, true, false, false] rfl ?_
      exact lk_Checker_one_j177 hγ this Q r2 M1 h
  · rw [if_neg b5] at h
    refine E_blk (lv' := [some (vr (some (4, this))), some (vi r2), none, none]) (st' := [vi (mI M1 4 this 7), vr (some (4, this))]) (M1 := M1) (pc' := 22) (tb_Checker hγ) [.aload_n 0, .aload_n 0, .getfield 69] (by decide +kernel) rfl rfl trivial ?_
    refine E_callV (κ' := k_Checker_goes) (As := [vi (mI M1 4 this 7)]) (st := []) mv_Checker_goes (Or.inl (tbk_mem (j := 7) (k := 139) rfl)) rfl (by decide +kernel) (Nat.le_of_ble_eq_true rfl) (Nat.le_of_ble_eq_true rfl) rfl (by decide) (lk_Checker_goes hγ this (mI M1 4 this 7) _ M1 h) (fun _ _ => Qi_r) (fun v M19 hp => Qi_k (R := fun st => E γ k_Checker_one 9 25 [some (vr (some (4, this))), some (vi r2), none, none] st M19 (Qi Q)) hp (fun r20 h => ?_))
    refine E_if_ne (off := 5) (tgt := 30) (by decide +kernel) (by decide) (fun b21 => ?_) (fun b21 => ?_)
    · rw [if_pos b21] at h
      refine E_blk (lv' := [some (vr (some (4, this))), some (vi r2), none, none]) (st' := [vi (0 : Int32)]) (M1 := M19) (pc' := 29) (tb_Checker hγ) [.iconst 0] (by decide +kernel) rfl rfl trivial ?_
      exact E_zret rfl (Or.inl rfl) (by decide +kernel) h
    · rw [if_neg b21] at h
      refine E_blk (lv' := [some (vr (some (4, this))), some (vi r2), none, none]) (st' := [vr (mR M19 4 this 4)]) (M1 := M19) (pc' := 34) (tb_Checker hγ) [.aload_n 0, .getfield 35] (by decide +kernel) rfl rfl trivial ?_
      obtain ⟨i22, ei22, h⟩ := h
      rw [ei22]
      obtain ⟨c23, h⟩ := h
      refine E_blk (lv' := [some (vr (some (4, this))), some (vi r2), some (vi (mI M19 70 i22 r2.toNatClampNeg)), some (vi (0 : Int32))]) (st' := []) (M1 := M19) (pc' := 42) (tb_Checker hγ) [.getfield 124, .iload_n 1, .iaload, .istore_n 2, .iconst 0, .istore_n 3] (by decide +kernel) rfl rfl ⟨c23, trivial⟩ ?_
      obtain ⟨n44, h⟩ := h
      refine E_mask [true, true, true, true] rfl ?_
      exact lk_Checker_one_L42 hγ this Q n44 r2 (mI M19 70 i22 r2.toNatClampNeg) (0 : Int32) M19 h
def w_Checker_all_L9 (this : Nat) (Q : Mem → Prop) : Nat → Mem → Prop
  | 0, _ => False
  | n + 1, M => ∃ i2, (mR M 4 this 4) = some (5, i2) ∧ vp_in (mI M 4 this 6) (mL M 63 i2) ∧ if (mI M 63 i2 (mI M 4 this 6).toNatClampNeg) ≤ (mI M 4 this 7) then (Q (sI M 4 this 7 ((mI M 4 this 7) - (1 : Int32)))) else (w_Checker_one this (fun r6 M5 => if r6 = 0 then (Q M5) else ((w_Checker_all_L9 this Q n)  (sI M5 4 this 7 ((mI M5 4 this 7) + (1 : Int32))))) M)
def w_Checker_all (this : Nat) (Q : Mem → Prop) (M : Mem) : Prop :=
  w_Checker_begin this (fun M1 => ∃ n8 : Nat, w_Checker_all_L9 this Q n8  (sI M1 4 this 7 (0 : Int32))) M
set_option maxRecDepth 4096 in
theorem lk_Checker_all_L9 {γ : Gm} (hγ : Gk γ) (this : Nat) (Q : Mem → Prop) : ∀ (n : Nat)  (M : Mem), w_Checker_all_L9 this Q n  M → E γ k_Checker_all 10 9 [some (vr (some (4, this)))] [] M (Qv Q) := by
  intro n
  induction n with
  | zero => intro  M h; exact h.elim
  | succ n ih =>
    intro  M h
    unfold w_Checker_all_L9 at h
    refine E_blk (lv' := [some (vr (some (4, this)))]) (st' := [vr (mR M 4 this 4), vi (mI M 4 this 7)]) (M1 := M) (pc' := 17) (tb_Checker hγ) [.aload_n 0, .getfield 69, .aload_n 0, .getfield 35] (by decide +kernel) rfl rfl trivial ?_
    obtain ⟨i2, ei2, h⟩ := h
    rw [ei2]
    obtain ⟨c3, h⟩ := h
    refine E_blk (lv' := [some (vr (some (4, this)))]) (st' := [vi (mI M 63 i2 (mI M 4 this 6).toNatClampNeg), vi (mI M 4 this 7)]) (M1 := M) (pc' := 25) (tb_Checker hγ) [.getfield 112, .aload_n 0, .getfield 54, .iaload] (by decide +kernel) rfl rfl ⟨c3, trivial⟩ ?_
    refine E_icmp_ge (off := 24) (tgt := 49) (by decide +kernel) (by decide) (fun b4 => ?_) (fun b4 => ?_)
    · rw [if_pos b4] at h
      refine E_blk (lv' := [some (vr (some (4, this)))]) (st' := []) (M1 := (sI M 4 this 7 ((mI M 4 this 7) - (1 : Int32)))) (pc' := 59) (tb_Checker hγ) [.aload_n 0, .dup, .getfield 69, .iconst 1, .isub, .putfield 69] (by decide +kernel) rfl rfl trivial ?_
      exact E_vret rfl (by decide +kernel) h
    · rw [if_neg b4] at h
      refine E_blk (lv' := [some (vr (some (4, this)))]) (st' := [vr (some (4, this))]) (M1 := M) (pc' := 29) (tb_Checker hγ) [.aload_n 0] (by decide +kernel) rfl rfl trivial ?_
      refine E_callV (κ' := k_Checker_one) (As := []) (st := []) mv_Checker_one (Or.inl (tbk_mem (j := 7) (k := 131) rfl)) rfl (by decide +kernel) (Nat.le_of_ble_eq_true rfl) (Nat.le_of_ble_eq_true rfl) rfl (by decide) (lk_Checker_one hγ this _ M h) (fun _ _ => Qi_r) (fun v M5 hp => Qi_k (R := fun st => E γ k_Checker_all 10 32 [some (vr (some (4, this)))] st M5 (Qv Q)) hp (fun r6 h => ?_))
      refine E_if_ne (off := 4) (tgt := 36) (by decide +kernel) (by decide) (fun b7 => ?_) (fun b7 => ?_)
      · rw [if_pos b7] at h
        exact E_vret rfl (by decide +kernel) h
      · rw [if_neg b7] at h
        refine E_blk (lv' := [some (vr (some (4, this)))]) (st' := []) (M1 := (sI M5 4 this 7 ((mI M5 4 this 7) + (1 : Int32)))) (pc' := 46) (tb_Checker hγ) [.aload_n 0, .dup, .getfield 69, .iconst 1, .iadd, .putfield 69] (by decide +kernel) rfl rfl trivial ?_
        refine E_goto (off := -37) (tgt := 9) (by decide +kernel) (by decide) ?_
        refine E_mask [true] rfl ?_
        exact ih  (sI M5 4 this 7 ((mI M5 4 this 7) + (1 : Int32))) h
set_option maxRecDepth 4096 in
theorem lk_Checker_all {γ : Gm} (hγ : Gk γ) (this : Nat) (Q : Mem → Prop) (M : Mem) (h : w_Checker_all this Q M) : E γ k_Checker_all 10 0 [some (vr (some (4, this)))] [] M (Qv Q) := by
  unfold w_Checker_all at h
  refine E_blk (lv' := [some (vr (some (4, this)))]) (st' := [vr (some (4, this))]) (M1 := M) (pc' := 1) (tb_Checker hγ) [.aload_n 0] (by decide +kernel) rfl rfl trivial ?_
  refine E_callV (κ' := k_Checker_begin) (As := []) (st := []) mv_Checker_begin (Or.inl (tbk_mem (j := 7) (k := 118) rfl)) rfl (by decide +kernel) (Nat.le_of_ble_eq_true rfl) (Nat.le_of_ble_eq_true rfl) rfl (by decide) (lk_Checker_begin hγ this _ M h) (fun _ _ => Qv_r) (fun v M1 hp => Qv_k (R := fun st => E γ k_Checker_all 10 4 [some (vr (some (4, this)))] st M1 (Qv Q)) hp (fun h => ?_))
  refine E_blk (lv' := [some (vr (some (4, this)))]) (st' := []) (M1 := (sI M1 4 this 7 (0 : Int32))) (pc' := 9) (tb_Checker hγ) [.aload_n 0, .iconst 0, .putfield 69] (by decide +kernel) rfl rfl trivial ?_
  obtain ⟨n8, h⟩ := h
  refine E_mask [true] rfl ?_
  exact lk_Checker_all_L9 hγ this Q n8  (sI M1 4 this 7 (0 : Int32)) h
def w_Checker_check_j133 (this : Nat) (Q : Int32 → Mem → Prop) (k20 : Int32 → Int32 → Mem → Prop) (v2 : Int32) (v3 : Int32) (M : Mem) : Prop :=
  k20 v2 (v3 + (1 : Int32)) M
def w_Checker_check_L20 (this : Nat) (Q : Int32 → Mem → Prop) : Nat → Int32 → Int32 → Mem → Prop
  | 0, _, _, _ => False
  | n + 1, v2, v3, M => ∃ i4, (mR M 4 this 4) = some (5, i4) ∧ vp_in v2 (mL M 43 i4) ∧ ∃ i6, (mR M 4 this 4) = some (5, i6) ∧ vp_in v2 (mL M 44 i6) ∧ if ((mI M 43 i4 v2.toNatClampNeg) + (mI M 44 i6 v2.toNatClampNeg)) ≤ v3 then (Q (1 : Int32) M) else (∃ i9, (mR M 4 this 4) = some (5, i9) ∧ vp_in v3 (mL M 57 i9) ∧ if ((mI M 57 i9 v3.toNatClampNeg) &&& (8 : Int32)) = 0 then (w_Checker_all this (fun M12 => if (mI M12 4 this 8) = 0 then (w_Checker_check_j133 this Q (w_Checker_check_L20 this Q n) v2 v3 M12) else (∃ i14, (mR M12 4 this 4) = some (5, i14) ∧ ∃ i15, (mR (sI M12 5 i14 56 v2) 4 this 4) = some (5, i15) ∧ ∃ i16, (mR (sI M12 5 i14 56 v2) 4 this 4) = some (5, i16) ∧ vp_in v2 (mL (sI M12 5 i14 56 v2) 43 i16) ∧ ∃ M18, M18 = (sI (sI M12 5 i14 56 v2) 5 i15 57 (v3 - (mI (sI M12 5 i14 56 v2) 43 i16 v2.toNatClampNeg))) ∧ ∃ i19, (mR M18 4 this 4) = some (5, i19) ∧ Q (((100 : Int32) * (mI (sI M18 5 i19 58 (mI M18 4 this 7)) 4 this 8)) + (17 : Int32)) (sI M18 5 i19 58 (mI M18 4 this 7)))) (sI (sI M 4 this 6 v3) 4 this 8 (0 : Int32))) else (w_Checker_check_j133 this Q (w_Checker_check_L20 this Q n) v2 v3 M))
def w_Checker_check (this : Nat) (a1 : Nat) (a2 : Int32) (Q : Int32 → Mem → Prop) (M : Mem) : Prop :=
  ∃ i1, (mR (sI (sR M 4 this 4 (some (5, a1))) 4 this 5 a2) 4 this 4) = some (5, i1) ∧ vp_in a2 (mL (sI (sR M 4 this 4 (some (5, a1))) 4 this 5 a2) 43 i1) ∧ ∃ x3 : Int32, x3 = (mI (sI (sR M 4 this 4 (some (5, a1))) 4 this 5 a2) 43 i1 a2.toNatClampNeg) ∧ ∃ n20 : Nat, w_Checker_check_L20 this Q n20 a2 x3 (sI (sR M 4 this 4 (some (5, a1))) 4 this 5 a2)
set_option maxRecDepth 4096 in
theorem lk_Checker_check_j133 {γ : Gm} (hγ : Gk γ) (this : Nat) (Q : Int32 → Mem → Prop) (k20 : Int32 → Int32 → Mem → Prop) (hk20 : ∀ (v2 : Int32) (v3 : Int32) (M : Mem), k20 v2 v3 M → E γ k_Checker_check 11 20 [some (vr (some (4, this))), none, some (vi v2), some (vi v3)] [] M (Qi Q)) (v2 : Int32) (v3 : Int32) (M : Mem) (h : w_Checker_check_j133 this Q k20 v2 v3 M) : E γ k_Checker_check 11 133 [some (vr (some (4, this))), none, some (vi v2), some (vi v3)] [] M (Qi Q) := by
  unfold w_Checker_check_j133 at h
  refine E_blk (lv' := [some (vr (some (4, this))), none, some (vi v2), some (vi (v3 + (1 : Int32)))]) (st' := []) (M1 := M) (pc' := 136) (tb_Checker hγ) [.iinc 3 1] (by decide +kernel) rfl rfl trivial ?_
  refine E_goto (off := -116) (tgt := 20) (by decide +kernel) (by decide) ?_
  refine E_mask [true, false, true, true] rfl ?_
  exact hk20 v2 (v3 + (1 : Int32)) M h
set_option maxRecDepth 4096 in
theorem lk_Checker_check_L20 {γ : Gm} (hγ : Gk γ) (this : Nat) (Q : Int32 → Mem → Prop) : ∀ (n : Nat) (v2 : Int32) (v3 : Int32) (M : Mem), w_Checker_check_L20 this Q n v2 v3 M → E γ k_Checker_check 11 20 [some (vr (some (4, this))), none, some (vi v2), some (vi v3)] [] M (Qi Q) := by
  intro n
  induction n with
  | zero => intro v2 v3 M h; exact h.elim
  | succ n ih =>
    intro v2 v3 M h
    unfold w_Checker_check_L20 at h
    refine E_blk (lv' := [some (vr (some (4, this))), none, some (vi v2), some (vi v3)]) (st' := [vr (mR M 4 this 4), vi v3]) (M1 := M) (pc' := 25) (tb_Checker hγ) [.iload_n 3, .aload_n 0, .getfield 35] (by decide +kernel) rfl rfl trivial ?_
    obtain ⟨i4, ei4, h⟩ := h
    rw [ei4]
    obtain ⟨c5, h⟩ := h
    refine E_blk (lv' := [some (vr (some (4, this))), none, some (vi v2), some (vi v3)]) (st' := [vr (mR M 4 this 4), vi (mI M 43 i4 v2.toNatClampNeg), vi v3]) (M1 := M) (pc' := 34) (tb_Checker hγ) [.getfield 43, .iload_n 2, .iaload, .aload_n 0, .getfield 35] (by decide +kernel) rfl rfl ⟨c5, trivial⟩ ?_
    obtain ⟨i6, ei6, h⟩ := h
    rw [ei6]
    obtain ⟨c7, h⟩ := h
    refine E_blk (lv' := [some (vr (some (4, this))), none, some (vi v2), some (vi v3)]) (st' := [vi ((mI M 43 i4 v2.toNatClampNeg) + (mI M 44 i6 v2.toNatClampNeg)), vi v3]) (M1 := M) (pc' := 40) (tb_Checker hγ) [.getfield 48, .iload_n 2, .iaload, .iadd] (by decide +kernel) rfl rfl ⟨c7, trivial⟩ ?_
    refine E_icmp_ge (off := 99) (tgt := 139) (by decide +kernel) (by decide) (fun b8 => ?_) (fun b8 => ?_)
    · rw [if_pos b8] at h
      refine E_blk (lv' := [some (vr (some (4, this))), none, some (vi v2), some (vi v3)]) (st' := [vi (1 : Int32)]) (M1 := M) (pc' := 140) (tb_Checker hγ) [.iconst 1] (by decide +kernel) rfl rfl trivial ?_
      exact E_iret rfl (by decide +kernel) h
    · rw [if_neg b8] at h
      refine E_blk (lv' := [some (vr (some (4, this))), none, some (vi v2), some (vi v3)]) (st' := [vr (mR M 4 this 4)]) (M1 := M) (pc' := 47) (tb_Checker hγ) [.aload_n 0, .getfield 35] (by decide +kernel) rfl rfl trivial ?_
      obtain ⟨i9, ei9, h⟩ := h
      rw [ei9]
      obtain ⟨c10, h⟩ := h
      refine E_blk (lv' := [some (vr (some (4, this))), none, some (vi v2), some (vi v3)]) (st' := [vi ((mI M 57 i9 v3.toNatClampNeg) &&& (8 : Int32))]) (M1 := M) (pc' := 55) (tb_Checker hγ) [.getfield 51, .iload_n 3, .iaload, .bipush 8, .iand] (by decide +kernel) rfl rfl ⟨c10, trivial⟩ ?_
      refine E_if_eq (off := 6) (tgt := 61) (by decide +kernel) (by decide) (fun b11 => ?_) (fun b11 => ?_)
      · rw [if_pos b11] at h
        refine E_blk (lv' := [some (vr (some (4, this))), none, some (vi v2), some (vi v3)]) (st' := [vr (some (4, this))]) (M1 := (sI (sI M 4 this 6 v3) 4 this 8 (0 : Int32))) (pc' := 72) (tb_Checker hγ) [.aload_n 0, .iload_n 3, .putfield 54, .aload_n 0, .iconst 0, .putfield 57, .aload_n 0] (by decide +kernel) rfl rfl trivial ?_
        refine E_callV (κ' := k_Checker_all) (As := []) (st := []) mv_Checker_all (Or.inl (tbk_mem (j := 7) (k := 114) rfl)) rfl (by decide +kernel) (Nat.le_of_ble_eq_true rfl) (Nat.le_of_ble_eq_true rfl) rfl (by decide) (lk_Checker_all hγ this _ (sI (sI M 4 this 6 v3) 4 this 8 (0 : Int32)) h) (fun _ _ => Qv_r) (fun v M12 hp => Qv_k (R := fun st => E γ k_Checker_check 11 75 [some (vr (some (4, this))), none, some (vi v2), some (vi v3)] st M12 (Qi Q)) hp (fun h => ?_))
        refine E_blk (lv' := [some (vr (some (4, this))), none, some (vi v2), some (vi v3)]) (st' := [vi (mI M12 4 this 8)]) (M1 := M12) (pc' := 79) (tb_Checker hγ) [.aload_n 0, .getfield 57] (by decide +kernel) rfl rfl trivial ?_
        refine E_if_ne (off := 6) (tgt := 85) (by decide +kernel) (by decide) (fun b13 => ?_) (fun b13 => ?_)
        · rw [if_pos b13] at h
          refine E_goto (off := 51) (tgt := 133) (by decide +kernel) (by decide) ?_
          refine E_mask [true, false, true, true] rfl ?_
          exact lk_Checker_check_j133 hγ this Q (w_Checker_check_L20 this Q n) ih v2 v3 M12 h
        · rw [if_neg b13] at h
          refine E_blk (lv' := [some (vr (some (4, this))), none, some (vi v2), some (vi v3)]) (st' := [vr (mR M12 4 this 4)]) (M1 := M12) (pc' := 89) (tb_Checker hγ) [.aload_n 0, .getfield 35] (by decide +kernel) rfl rfl trivial ?_
          obtain ⟨i14, ei14, h⟩ := h
          rw [ei14]
          refine E_blk (lv' := [some (vr (some (4, this))), none, some (vi v2), some (vi v3)]) (st' := [vr (mR (sI M12 5 i14 56 v2) 4 this 4)]) (M1 := (sI M12 5 i14 56 v2)) (pc' := 97) (tb_Checker hγ) [.iload_n 2, .putfield 63, .aload_n 0, .getfield 35] (by decide +kernel) rfl rfl trivial ?_
          obtain ⟨i15, ei15, h⟩ := h
          rw [ei15]
          refine E_blk (lv' := [some (vr (some (4, this))), none, some (vi v2), some (vi v3)]) (st' := [vr (mR (sI M12 5 i14 56 v2) 4 this 4), vi v3, vr (some (5, i15))]) (M1 := (sI M12 5 i14 56 v2)) (pc' := 102) (tb_Checker hγ) [.iload_n 3, .aload_n 0, .getfield 35] (by decide +kernel) rfl rfl trivial ?_
          obtain ⟨i16, ei16, h⟩ := h
          rw [ei16]
          obtain ⟨c17, h⟩ := h
          refine E_blk (lv' := [some (vr (some (4, this))), none, some (vi v2), some (vi v3)]) (st' := []) (M1 := (sI (sI M12 5 i14 56 v2) 5 i15 57 (v3 - (mI (sI M12 5 i14 56 v2) 43 i16 v2.toNatClampNeg)))) (pc' := 111) (tb_Checker hγ) [.getfield 43, .iload_n 2, .iaload, .isub, .putfield 66] (by decide +kernel) rfl rfl ⟨c17, trivial⟩ ?_
          obtain ⟨M18, eM18, h⟩ := h
          rw [← eM18]
          refine E_blk (lv' := [some (vr (some (4, this))), none, some (vi v2), some (vi v3)]) (st' := [vr (mR M18 4 this 4)]) (M1 := M18) (pc' := 115) (tb_Checker hγ) [.aload_n 0, .getfield 35] (by decide +kernel) rfl rfl trivial ?_
          obtain ⟨i19, ei19, h⟩ := h
          rw [ei19]
          refine E_blk (lv' := [some (vr (some (4, this))), none, some (vi v2), some (vi v3)]) (st' := [vi (((100 : Int32) * (mI (sI M18 5 i19 58 (mI M18 4 this 7)) 4 this 8)) + (17 : Int32))]) (M1 := (sI M18 5 i19 58 (mI M18 4 this 7))) (pc' := 132) (tb_Checker hγ) [.aload_n 0, .getfield 69, .putfield 72, .bipush 100, .aload_n 0, .getfield 57, .imul, .bipush 17, .iadd] (by decide +kernel) rfl rfl trivial ?_
          exact E_iret rfl (by decide +kernel) h
      · rw [if_neg b11] at h
        refine E_goto (off := 75) (tgt := 133) (by decide +kernel) (by decide) ?_
        refine E_mask [true, false, true, true] rfl ?_
        exact lk_Checker_check_j133 hγ this Q (w_Checker_check_L20 this Q n) ih v2 v3 M h
set_option maxRecDepth 4096 in
theorem lk_Checker_check {γ : Gm} (hγ : Gk γ) (this : Nat) (a1 : Nat) (a2 : Int32) (Q : Int32 → Mem → Prop) (M : Mem) (h : w_Checker_check this a1 a2 Q M) : E γ k_Checker_check 11 0 [some (vr (some (4, this))), some (vr (some (5, a1))), some (vi a2), none] [] M (Qi Q) := by
  unfold w_Checker_check at h
  refine E_blk (lv' := [some (vr (some (4, this))), some (vr (some (5, a1))), some (vi a2), none]) (st' := [vr (mR (sI (sR M 4 this 4 (some (5, a1))) 4 this 5 a2) 4 this 4)]) (M1 := (sI (sR M 4 this 4 (some (5, a1))) 4 this 5 a2)) (pc' := 14) (tb_Checker hγ) [.aload_n 0, .aload_n 1, .putfield 35, .aload_n 0, .iload_n 2, .putfield 39, .aload_n 0, .getfield 35] (by decide +kernel) rfl rfl trivial ?_
  obtain ⟨i1, ei1, h⟩ := h
  rw [ei1]
  obtain ⟨c2, h⟩ := h
  refine E_blk (lv' := [some (vr (some (4, this))), some (vr (some (5, a1))), some (vi a2), some (vi (mI (sI (sR M 4 this 4 (some (5, a1))) 4 this 5 a2) 43 i1 a2.toNatClampNeg))]) (st' := []) (M1 := (sI (sR M 4 this 4 (some (5, a1))) 4 this 5 a2)) (pc' := 20) (tb_Checker hγ) [.getfield 43, .iload_n 2, .iaload, .istore_n 3] (by decide +kernel) rfl rfl ⟨c2, trivial⟩ ?_
  obtain ⟨x3, ex3, h⟩ := h
  rw [← ex3]
  obtain ⟨n20, h⟩ := h
  refine E_mask [true, false, true, true] rfl ?_
  exact lk_Checker_check_L20 hγ this Q n20 a2 x3 (sI (sR M 4 this 4 (some (5, a1))) 4 this 5 a2) h
def wk_World_ask_j205 (K : Nat → Int32 → (Int32 → Mem → Prop) → Mem → Prop) (this : Nat) (Q : Int32 → Mem → Prop) (v1 : Int32) (M : Mem) : Prop :=
  w_World_up this v1 (fun r22 M21 => w_World_lay this v1 r22 (fun M23 => w_Checker_check 0 this v1 (fun r25 M24 => Q r25 M24) M23) M21) M
def wk_World_ask_L129 (K : Nat → Int32 → (Int32 → Mem → Prop) → Mem → Prop) (this : Nat) (Q : Int32 → Mem → Prop) : Nat → Int32 → Int32 → Mem → Prop
  | 0, _, _, _ => False
  | n + 1, v1, v3, M => vp_in v1 (mL M 39 this) ∧ if (mI M 39 this v1.toNatClampNeg) ≤ v3 then (w_World_asks this (25 : Int32) (fun r19 M18 => if r19 = 0 then (wk_World_ask_j205 K this Q v1 M18) else (w_World_up this v1 (fun r27 M26 => w_World_changesFinal this v1 r27 (fun r29 M28 => if r29 = 0 then (wk_World_ask_j205 K this Q v1 M28) else (Q (2515 : Int32) M28)) M26) M18)) M) else (vp_in (((4 : Int32) * v1) + v3) (mL M 38 this) ∧ w_World_find this (mI M 38 this (((4 : Int32) * v1) + v3).toNatClampNeg) (fun r33 M32 => K this r33 (fun r35 M34 => if r35 = (1 : Int32) then ((wk_World_ask_L129 K this Q n) v1 (v3 + (1 : Int32)) M34) else (vp_in r33 (mL M34 45 this) ∧ Q (mI M34 45 this r33.toNatClampNeg) M34)) M32) M)
def wk_World_ask_L57 (K : Nat → Int32 → (Int32 → Mem → Prop) → Mem → Prop) (this : Nat) (Q : Int32 → Mem → Prop) : Nat → Int32 → Int32 → Int32 → Mem → Prop
  | 0, _, _, _, _ => False
  | n + 1, v1, v2, v3, M => vp_in v1 (mL M 39 this) ∧ if (mI M 39 this v1.toNatClampNeg) ≤ v3 then (K this v2 (fun r14 M13 => if r14 = (1 : Int32) then (∃ n38 : Nat, wk_World_ask_L129 K this Q n38 v1 (0 : Int32) M13) else (vp_in v2 (mL M13 45 this) ∧ Q (mI M13 45 this v2.toNatClampNeg) M13)) M) else (vp_in (((4 : Int32) * v1) + v3) (mL M 38 this) ∧ w_World_find this (mI M 38 this (((4 : Int32) * v1) + v3).toNatClampNeg) (fun r42 M41 => if 0 ≤ r42 then (w_World_isFace this r42 (fun r45 M44 => if r45 = 0 then (Q (2315 : Int32) M44) else ((wk_World_ask_L57 K this Q n) v1 v2 (v3 + (1 : Int32)) M44)) M41) else (Q (2211 : Int32) M41)) M)
def wk_World_ask_j55 (K : Nat → Int32 → (Int32 → Mem → Prop) → Mem → Prop) (this : Nat) (Q : Int32 → Mem → Prop) (v1 : Int32) (v2 : Int32) (M : Mem) : Prop :=
  ∃ n47 : Nat, wk_World_ask_L57 K this Q n47 v1 v2 (0 : Int32) M
def wk_World_ask (K : Nat → Int32 → (Int32 → Mem → Prop) → Mem → Prop) (this : Nat) (a1 : Int32) (Q : Int32 → Mem → Prop) (M : Mem) : Prop :=
  w_World_comesBack this a1 (fun r2 M1 => if r2 = 0 then (vp_in a1 (mL M1 37 this) ∧ w_World_find this (mI M1 37 this a1.toNatClampNeg) (fun r6 M5 => if 0 ≤ r6 then (w_World_asks this (21 : Int32) (fun r9 M8 => if r9 = 0 then (wk_World_ask_j55 K this Q a1 r6 M8) else (vp_in r6 (mL M8 40 this) ∧ if ((mI M8 40 this r6.toNatClampNeg) &&& (5 : Int32)) = 0 then (wk_World_ask_j55 K this Q a1 r6 M8) else (Q (2115 : Int32) M8))) M5) else (Q (2011 : Int32) M5)) M1) else (Q (2416 : Int32) M1)) M
set_option maxRecDepth 4096 in
theorem lkk_World_ask_j205 {γ : Gm} (hγ : Gk γ) {d0 d : Nat} (K : Nat → Int32 → (Int32 → Mem → Prop) → Mem → Prop) (hK : ∀ (this : Nat) (a1 : Int32) (Q : Int32 → Mem → Prop) (M : Mem), K this a1 Q M → ∀ d, d0 ≤ d → E γ k_World_link d 0 [some (vr (some (5, this))), some (vi a1)] [] M (Qi Q)) (hd : d0 ≤ d) (hb : 12 ≤ d) (this : Nat) (Q : Int32 → Mem → Prop) (v1 : Int32) (M : Mem) (h : wk_World_ask_j205 K this Q v1 M) : E γ k_World_ask (d + 1) 205 [some (vr (some (5, this))), some (vi v1), none, none, none] [] M (Qi Q) := by
  unfold wk_World_ask_j205 at h
  refine E_blk (lv' := [some (vr (some (5, this))), some (vi v1), none, none, none]) (st' := [vi v1, vr (some (5, this)), vi v1, vr (some (5, this))]) (M1 := M) (pc' := 209) (tb_World hγ) [.aload_n 0, .iload_n 1, .aload_n 0, .iload_n 1] (by decide +kernel) rfl rfl trivial ?_
  refine E_callV (κ' := k_World_up) (As := [vi v1]) (st := [vi v1, vr (some (5, this))]) mv_World_up (Or.inl (tbk_mem (j := 7) (k := 93) rfl)) rfl (by decide +kernel) (Nat.le_of_ble_eq_true rfl) (Nat.le_of_ble_eq_true rfl) rfl (by omega) (lk_World_up hγ this v1 _ M h) (fun _ _ => Qi_r) (fun v M21 hp => Qi_k (R := fun st => E γ k_World_ask (d + 1) 212 [some (vr (some (5, this))), some (vi v1), none, none, none] st M21 (Qi Q)) hp (fun r22 h => ?_))
  refine E_callV (κ' := k_World_lay) (As := [vi v1, vi r22]) (st := []) mv_World_lay (Or.inl (tbk_mem (j := 7) (k := 106) rfl)) rfl (by decide +kernel) (Nat.le_of_ble_eq_true rfl) (Nat.le_of_ble_eq_true rfl) rfl (by omega) (lk_World_lay hγ this v1 r22 _ M21 h) (fun _ _ => Qv_r) (fun v M23 hp => Qv_k (R := fun st => E γ k_World_ask (d + 1) 215 [some (vr (some (5, this))), some (vi v1), none, none, none] st M23 (Qi Q)) hp (fun h => ?_))
  refine E_blk (lv' := [some (vr (some (5, this))), some (vi v1), none, none, none]) (st' := [vi v1, vr (some (5, this)), vr (some (4, 0))]) (M1 := M23) (pc' := 224) (tb_World hγ) [.aload_n 0, .getfield 3, .getfield 272, .aload_n 0, .iload_n 1] (by decide +kernel) rfl rfl trivial ?_
  refine E_callV (κ' := k_Checker_check) (As := [vr (some (5, this)), vi v1]) (st := []) mv_Checker_check (Or.inl (tbk_mem (j := 7) (k := 110) rfl)) rfl (by decide +kernel) (Nat.le_of_ble_eq_true rfl) (Nat.le_of_ble_eq_true rfl) rfl (by omega) (lk_Checker_check hγ 0 this v1 _ M23 h) (fun _ _ => Qi_r) (fun v M24 hp => Qi_k (R := fun st => E γ k_World_ask (d + 1) 227 [some (vr (some (5, this))), some (vi v1), none, none, none] st M24 (Qi Q)) hp (fun r25 h => ?_))
  exact E_iret rfl (by decide +kernel) h
set_option maxRecDepth 4096 in
theorem lkk_World_ask_L129 {γ : Gm} (hγ : Gk γ) {d0 d : Nat} (K : Nat → Int32 → (Int32 → Mem → Prop) → Mem → Prop) (hK : ∀ (this : Nat) (a1 : Int32) (Q : Int32 → Mem → Prop) (M : Mem), K this a1 Q M → ∀ d, d0 ≤ d → E γ k_World_link d 0 [some (vr (some (5, this))), some (vi a1)] [] M (Qi Q)) (hd : d0 ≤ d) (hb : 12 ≤ d) (this : Nat) (Q : Int32 → Mem → Prop) : ∀ (n : Nat) (v1 : Int32) (v3 : Int32) (M : Mem), wk_World_ask_L129 K this Q n v1 v3 M → E γ k_World_ask (d + 1) 129 [some (vr (some (5, this))), some (vi v1), none, some (vi v3), none] [] M (Qi Q) := by
  intro n
  induction n with
  | zero => intro v1 v3 M h; exact h.elim
  | succ n ih =>
    intro v1 v3 M h
    unfold wk_World_ask_L129 at h
    obtain ⟨c16, h⟩ := h
    refine E_blk (lv' := [some (vr (some (5, this))), some (vi v1), none, some (vi v3), none]) (st' := [vi (mI M 39 this v1.toNatClampNeg), vi v3]) (M1 := M) (pc' := 136) (tb_World hγ) [.iload_n 3, .aload_n 0, .getfield 29, .iload_n 1, .iaload] (by decide +kernel) rfl rfl ⟨c16, trivial⟩ ?_
    refine E_icmp_ge (off := 43) (tgt := 179) (by decide +kernel) (by decide) (fun b17 => ?_) (fun b17 => ?_)
    · rw [if_pos b17] at h
      refine E_blk (lv' := [some (vr (some (5, this))), some (vi v1), none, some (vi v3), none]) (st' := [vi (25 : Int32), vr (some (5, this))]) (M1 := M) (pc' := 182) (tb_World hγ) [.aload_n 0, .bipush 25] (by decide +kernel) rfl rfl trivial ?_
      refine E_callV (κ' := k_World_asks) (As := [vi (25 : Int32)]) (st := []) mv_World_asks (Or.inl (tbk_mem (j := 7) (k := 90) rfl)) rfl (by decide +kernel) (Nat.le_of_ble_eq_true rfl) (Nat.le_of_ble_eq_true rfl) rfl (by omega) (lk_World_asks hγ this (25 : Int32) _ M h) (fun _ _ => Qi_r) (fun v M18 hp => Qi_k (R := fun st => E γ k_World_ask (d + 1) 185 [some (vr (some (5, this))), some (vi v1), none, some (vi v3), none] st M18 (Qi Q)) hp (fun r19 h => ?_))
      refine E_if_eq (off := 20) (tgt := 205) (by decide +kernel) (by decide) (fun b20 => ?_) (fun b20 => ?_)
      · rw [if_pos b20] at h
        refine E_mask [true, true, false, false, false] rfl ?_
        exact lkk_World_ask_j205 hγ K hK hd hb this Q v1 M18 h
      · rw [if_neg b20] at h
        refine E_blk (lv' := [some (vr (some (5, this))), some (vi v1), none, some (vi v3), none]) (st' := [vi v1, vr (some (5, this)), vi v1, vr (some (5, this))]) (M1 := M18) (pc' := 192) (tb_World hγ) [.aload_n 0, .iload_n 1, .aload_n 0, .iload_n 1] (by decide +kernel) rfl rfl trivial ?_
        refine E_callV (κ' := k_World_up) (As := [vi v1]) (st := [vi v1, vr (some (5, this))]) mv_World_up (Or.inl (tbk_mem (j := 7) (k := 93) rfl)) rfl (by decide +kernel) (Nat.le_of_ble_eq_true rfl) (Nat.le_of_ble_eq_true rfl) rfl (by omega) (lk_World_up hγ this v1 _ M18 h) (fun _ _ => Qi_r) (fun v M26 hp => Qi_k (R := fun st => E γ k_World_ask (d + 1) 195 [some (vr (some (5, this))), some (vi v1), none, some (vi v3), none] st M26 (Qi Q)) hp (fun r27 h => ?_))
        refine E_callV (κ' := k_World_changesFinal) (As := [vi v1, vi r27]) (st := []) mv_World_changesFinal (Or.inl (tbk_mem (j := 7) (k := 97) rfl)) rfl (by decide +kernel) (Nat.le_of_ble_eq_true rfl) (Nat.le_of_ble_eq_true rfl) rfl (by omega) (lk_World_changesFinal hγ this v1 r27 _ M26 h) (fun _ _ => Qi_r) (fun v M28 hp => Qi_k (R := fun st => E γ k_World_ask (d + 1) 198 [some (vr (some (5, this))), some (vi v1), none, some (vi v3), none] st M28 (Qi Q)) hp (fun r29 h => ?_))
        refine E_if_eq (off := 7) (tgt := 205) (by decide +kernel) (by decide) (fun b30 => ?_) (fun b30 => ?_)
        · rw [if_pos b30] at h
          refine E_mask [true, true, false, false, false] rfl ?_
          exact lkk_World_ask_j205 hγ K hK hd hb this Q v1 M28 h
        · rw [if_neg b30] at h
          refine E_blk (lv' := [some (vr (some (5, this))), some (vi v1), none, some (vi v3), none]) (st' := [vi (2515 : Int32)]) (M1 := M28) (pc' := 204) (tb_World hγ) [.sipush 2515] (by decide +kernel) rfl rfl trivial ?_
          exact E_iret rfl (by decide +kernel) h
    · rw [if_neg b17] at h
      obtain ⟨c31, h⟩ := h
      refine E_blk (lv' := [some (vr (some (5, this))), some (vi v1), none, some (vi v3), none]) (st' := [vi (mI M 38 this (((4 : Int32) * v1) + v3).toNatClampNeg), vr (some (5, this))]) (M1 := M) (pc' := 150) (tb_World hγ) [.aload_n 0, .aload_n 0, .getfield 26, .iconst 4, .iload_n 1, .imul, .iload_n 3, .iadd, .iaload] (by decide +kernel) rfl rfl ⟨c31, trivial⟩ ?_
      refine E_callV (κ' := k_World_find) (As := [vi (mI M 38 this (((4 : Int32) * v1) + v3).toNatClampNeg)]) (st := []) mv_World_find (Or.inl (tbk_mem (j := 7) (k := 89) rfl)) rfl (by decide +kernel) (Nat.le_of_ble_eq_true rfl) (Nat.le_of_ble_eq_true rfl) rfl (by omega) (lk_World_find hγ this (mI M 38 this (((4 : Int32) * v1) + v3).toNatClampNeg) _ M h) (fun _ _ => Qi_r) (fun v M32 hp => Qi_k (R := fun st => E γ k_World_ask (d + 1) 153 [some (vr (some (5, this))), some (vi v1), none, some (vi v3), none] st M32 (Qi Q)) hp (fun r33 h => ?_))
      refine E_blk (lv' := [some (vr (some (5, this))), some (vi v1), none, some (vi v3), some (vi r33)]) (st' := [vi r33, vr (some (5, this))]) (M1 := M32) (pc' := 158) (tb_World hγ) [.istore 4, .aload_n 0, .iload 4] (by decide +kernel) rfl rfl trivial ?_
      refine E_callV (κ' := k_World_link) (As := [vi r33]) (st := []) mv_World_link (Or.inl (tbk_mem (j := 7) (k := 92) rfl)) rfl (by decide +kernel) (Nat.le_of_ble_eq_true rfl) (Nat.le_of_ble_eq_true rfl) rfl (by omega) (hK this r33 _ M32 h (d + 0) (by omega)) (fun _ _ => Qi_r) (fun v M34 hp => Qi_k (R := fun st => E γ k_World_ask (d + 1) 161 [some (vr (some (5, this))), some (vi v1), none, some (vi v3), some (vi r33)] st M34 (Qi Q)) hp (fun r35 h => ?_))
      refine E_blk (lv' := [some (vr (some (5, this))), some (vi v1), none, some (vi v3), some (vi r33)]) (st' := [vi (1 : Int32), vi r35]) (M1 := M34) (pc' := 162) (tb_World hγ) [.iconst 1] (by decide +kernel) rfl rfl trivial ?_
      refine E_icmp_eq (off := 11) (tgt := 173) (by decide +kernel) (by decide) (fun b36 => ?_) (fun b36 => ?_)
      · rw [if_pos b36] at h
        refine E_blk (lv' := [some (vr (some (5, this))), some (vi v1), none, some (vi (v3 + (1 : Int32))), some (vi r33)]) (st' := []) (M1 := M34) (pc' := 176) (tb_World hγ) [.iinc 3 1] (by decide +kernel) rfl rfl trivial ?_
        refine E_goto (off := -47) (tgt := 129) (by decide +kernel) (by decide) ?_
        refine E_mask [true, true, false, true, false] rfl ?_
        exact ih v1 (v3 + (1 : Int32)) M34 h
      · rw [if_neg b36] at h
        obtain ⟨c37, h⟩ := h
        refine E_blk (lv' := [some (vr (some (5, this))), some (vi v1), none, some (vi v3), some (vi r33)]) (st' := [vi (mI M34 45 this r33.toNatClampNeg)]) (M1 := M34) (pc' := 172) (tb_World hγ) [.aload_n 0, .getfield 47, .iload 4, .iaload] (by decide +kernel) rfl rfl ⟨c37, trivial⟩ ?_
        exact E_iret rfl (by decide +kernel) h
set_option maxRecDepth 4096 in
theorem lkk_World_ask_L57 {γ : Gm} (hγ : Gk γ) {d0 d : Nat} (K : Nat → Int32 → (Int32 → Mem → Prop) → Mem → Prop) (hK : ∀ (this : Nat) (a1 : Int32) (Q : Int32 → Mem → Prop) (M : Mem), K this a1 Q M → ∀ d, d0 ≤ d → E γ k_World_link d 0 [some (vr (some (5, this))), some (vi a1)] [] M (Qi Q)) (hd : d0 ≤ d) (hb : 12 ≤ d) (this : Nat) (Q : Int32 → Mem → Prop) : ∀ (n : Nat) (v1 : Int32) (v2 : Int32) (v3 : Int32) (M : Mem), wk_World_ask_L57 K this Q n v1 v2 v3 M → E γ k_World_ask (d + 1) 57 [some (vr (some (5, this))), some (vi v1), some (vi v2), some (vi v3), none] [] M (Qi Q) := by
  intro n
  induction n with
  | zero => intro v1 v2 v3 M h; exact h.elim
  | succ n ih =>
    intro v1 v2 v3 M h
    unfold wk_World_ask_L57 at h
    obtain ⟨c11, h⟩ := h
    refine E_blk (lv' := [some (vr (some (5, this))), some (vi v1), some (vi v2), some (vi v3), none]) (st' := [vi (mI M 39 this v1.toNatClampNeg), vi v3]) (M1 := M) (pc' := 64) (tb_World hγ) [.iload_n 3, .aload_n 0, .getfield 29, .iload_n 1, .iaload] (by decide +kernel) rfl rfl ⟨c11, trivial⟩ ?_
    refine E_icmp_ge (off := 47) (tgt := 111) (by decide +kernel) (by decide) (fun b12 => ?_) (fun b12 => ?_)
    · rw [if_pos b12] at h
      refine E_blk (lv' := [some (vr (some (5, this))), some (vi v1), some (vi v2), some (vi v3), none]) (st' := [vi v2, vr (some (5, this))]) (M1 := M) (pc' := 113) (tb_World hγ) [.aload_n 0, .iload_n 2] (by decide +kernel) rfl rfl trivial ?_
      refine E_callV (κ' := k_World_link) (As := [vi v2]) (st := []) mv_World_link (Or.inl (tbk_mem (j := 7) (k := 92) rfl)) rfl (by decide +kernel) (Nat.le_of_ble_eq_true rfl) (Nat.le_of_ble_eq_true rfl) rfl (by omega) (hK this v2 _ M h (d + 0) (by omega)) (fun _ _ => Qi_r) (fun v M13 hp => Qi_k (R := fun st => E γ k_World_ask (d + 1) 116 [some (vr (some (5, this))), some (vi v1), some (vi v2), some (vi v3), none] st M13 (Qi Q)) hp (fun r14 h => ?_))
      refine E_blk (lv' := [some (vr (some (5, this))), some (vi v1), some (vi v2), some (vi v3), none]) (st' := [vi (1 : Int32), vi r14]) (M1 := M13) (pc' := 117) (tb_World hγ) [.iconst 1] (by decide +kernel) rfl rfl trivial ?_
      refine E_icmp_eq (off := 10) (tgt := 127) (by decide +kernel) (by decide) (fun b15 => ?_) (fun b15 => ?_)
      · rw [if_pos b15] at h
        refine E_blk (lv' := [some (vr (some (5, this))), some (vi v1), some (vi v2), some (vi (0 : Int32)), none]) (st' := []) (M1 := M13) (pc' := 129) (tb_World hγ) [.iconst 0, .istore_n 3] (by decide +kernel) rfl rfl trivial ?_
        obtain ⟨n38, h⟩ := h
        refine E_mask [true, true, false, true, false] rfl ?_
        exact lkk_World_ask_L129 hγ K hK hd hb this Q n38 v1 (0 : Int32) M13 h
      · rw [if_neg b15] at h
        obtain ⟨c39, h⟩ := h
        refine E_blk (lv' := [some (vr (some (5, this))), some (vi v1), some (vi v2), some (vi v3), none]) (st' := [vi (mI M13 45 this v2.toNatClampNeg)]) (M1 := M13) (pc' := 126) (tb_World hγ) [.aload_n 0, .getfield 47, .iload_n 2, .iaload] (by decide +kernel) rfl rfl ⟨c39, trivial⟩ ?_
        exact E_iret rfl (by decide +kernel) h
    · rw [if_neg b12] at h
      obtain ⟨c40, h⟩ := h
      refine E_blk (lv' := [some (vr (some (5, this))), some (vi v1), some (vi v2), some (vi v3), none]) (st' := [vi (mI M 38 this (((4 : Int32) * v1) + v3).toNatClampNeg), vr (some (5, this))]) (M1 := M) (pc' := 78) (tb_World hγ) [.aload_n 0, .aload_n 0, .getfield 26, .iconst 4, .iload_n 1, .imul, .iload_n 3, .iadd, .iaload] (by decide +kernel) rfl rfl ⟨c40, trivial⟩ ?_
      refine E_callV (κ' := k_World_find) (As := [vi (mI M 38 this (((4 : Int32) * v1) + v3).toNatClampNeg)]) (st := []) mv_World_find (Or.inl (tbk_mem (j := 7) (k := 89) rfl)) rfl (by decide +kernel) (Nat.le_of_ble_eq_true rfl) (Nat.le_of_ble_eq_true rfl) rfl (by omega) (lk_World_find hγ this (mI M 38 this (((4 : Int32) * v1) + v3).toNatClampNeg) _ M h) (fun _ _ => Qi_r) (fun v M41 hp => Qi_k (R := fun st => E γ k_World_ask (d + 1) 81 [some (vr (some (5, this))), some (vi v1), some (vi v2), some (vi v3), none] st M41 (Qi Q)) hp (fun r42 h => ?_))
      refine E_blk (lv' := [some (vr (some (5, this))), some (vi v1), some (vi v2), some (vi v3), some (vi r42)]) (st' := [vi r42]) (M1 := M41) (pc' := 85) (tb_World hγ) [.istore 4, .iload 4] (by decide +kernel) rfl rfl trivial ?_
      refine E_if_ge (off := 7) (tgt := 92) (by decide +kernel) (by decide) (fun b43 => ?_) (fun b43 => ?_)
      · rw [if_pos b43] at h
        refine E_blk (lv' := [some (vr (some (5, this))), some (vi v1), some (vi v2), some (vi v3), some (vi r42)]) (st' := [vi r42, vr (some (5, this))]) (M1 := M41) (pc' := 95) (tb_World hγ) [.aload_n 0, .iload 4] (by decide +kernel) rfl rfl trivial ?_
        refine E_callV (κ' := k_World_isFace) (As := [vi r42]) (st := []) mv_World_isFace (Or.inl (tbk_mem (j := 7) (k := 91) rfl)) rfl (by decide +kernel) (Nat.le_of_ble_eq_true rfl) (Nat.le_of_ble_eq_true rfl) rfl (by omega) (lk_World_isFace hγ this r42 _ M41 h) (fun _ _ => Qi_r) (fun v M44 hp => Qi_k (R := fun st => E γ k_World_ask (d + 1) 98 [some (vr (some (5, this))), some (vi v1), some (vi v2), some (vi v3), some (vi r42)] st M44 (Qi Q)) hp (fun r45 h => ?_))
        refine E_if_ne (off := 7) (tgt := 105) (by decide +kernel) (by decide) (fun b46 => ?_) (fun b46 => ?_)
        · rw [if_pos b46] at h
          refine E_blk (lv' := [some (vr (some (5, this))), some (vi v1), some (vi v2), some (vi v3), some (vi r42)]) (st' := [vi (2315 : Int32)]) (M1 := M44) (pc' := 104) (tb_World hγ) [.sipush 2315] (by decide +kernel) rfl rfl trivial ?_
          exact E_iret rfl (by decide +kernel) h
        · rw [if_neg b46] at h
          refine E_blk (lv' := [some (vr (some (5, this))), some (vi v1), some (vi v2), some (vi (v3 + (1 : Int32))), some (vi r42)]) (st' := []) (M1 := M44) (pc' := 108) (tb_World hγ) [.iinc 3 1] (by decide +kernel) rfl rfl trivial ?_
          refine E_goto (off := -51) (tgt := 57) (by decide +kernel) (by decide) ?_
          refine E_mask [true, true, true, true, false] rfl ?_
          exact ih v1 v2 (v3 + (1 : Int32)) M44 h
      · rw [if_neg b43] at h
        refine E_blk (lv' := [some (vr (some (5, this))), some (vi v1), some (vi v2), some (vi v3), some (vi r42)]) (st' := [vi (2211 : Int32)]) (M1 := M41) (pc' := 91) (tb_World hγ) [.sipush 2211] (by decide +kernel) rfl rfl trivial ?_
        exact E_iret rfl (by decide +kernel) h
set_option maxRecDepth 4096 in
theorem lkk_World_ask_j55 {γ : Gm} (hγ : Gk γ) {d0 d : Nat} (K : Nat → Int32 → (Int32 → Mem → Prop) → Mem → Prop) (hK : ∀ (this : Nat) (a1 : Int32) (Q : Int32 → Mem → Prop) (M : Mem), K this a1 Q M → ∀ d, d0 ≤ d → E γ k_World_link d 0 [some (vr (some (5, this))), some (vi a1)] [] M (Qi Q)) (hd : d0 ≤ d) (hb : 12 ≤ d) (this : Nat) (Q : Int32 → Mem → Prop) (v1 : Int32) (v2 : Int32) (M : Mem) (h : wk_World_ask_j55 K this Q v1 v2 M) : E γ k_World_ask (d + 1) 55 [some (vr (some (5, this))), some (vi v1), some (vi v2), none, none] [] M (Qi Q) := by
  unfold wk_World_ask_j55 at h
  refine E_blk (lv' := [some (vr (some (5, this))), some (vi v1), some (vi v2), some (vi (0 : Int32)), none]) (st' := []) (M1 := M) (pc' := 57) (tb_World hγ) [.iconst 0, .istore_n 3] (by decide +kernel) rfl rfl trivial ?_
  obtain ⟨n47, h⟩ := h
  refine E_mask [true, true, true, true, false] rfl ?_
  exact lkk_World_ask_L57 hγ K hK hd hb this Q n47 v1 v2 (0 : Int32) M h
set_option maxRecDepth 4096 in
theorem lkk_World_ask {γ : Gm} (hγ : Gk γ) {d0 d : Nat} (K : Nat → Int32 → (Int32 → Mem → Prop) → Mem → Prop) (hK : ∀ (this : Nat) (a1 : Int32) (Q : Int32 → Mem → Prop) (M : Mem), K this a1 Q M → ∀ d, d0 ≤ d → E γ k_World_link d 0 [some (vr (some (5, this))), some (vi a1)] [] M (Qi Q)) (hd : d0 ≤ d) (hb : 12 ≤ d) (this : Nat) (a1 : Int32) (Q : Int32 → Mem → Prop) (M : Mem) (h : wk_World_ask K this a1 Q M) : E γ k_World_ask (d + 1) 0 [some (vr (some (5, this))), some (vi a1), none, none, none] [] M (Qi Q) := by
  unfold wk_World_ask at h
  refine E_blk (lv' := [some (vr (some (5, this))), some (vi a1), none, none, none]) (st' := [vi a1, vr (some (5, this))]) (M1 := M) (pc' := 2) (tb_World hγ) [.aload_n 0, .iload_n 1] (by decide +kernel) rfl rfl trivial ?_
  refine E_callV (κ' := k_World_comesBack) (As := [vi a1]) (st := []) mv_World_comesBack (Or.inl (tbk_mem (j := 7) (k := 84) rfl)) rfl (by decide +kernel) (Nat.le_of_ble_eq_true rfl) (Nat.le_of_ble_eq_true rfl) rfl (by omega) (lk_World_comesBack hγ this a1 _ M h) (fun _ _ => Qi_r) (fun v M1 hp => Qi_k (R := fun st => E γ k_World_ask (d + 1) 5 [some (vr (some (5, this))), some (vi a1), none, none, none] st M1 (Qi Q)) hp (fun r2 h => ?_))
  refine E_if_eq (off := 7) (tgt := 12) (by decide +kernel) (by decide) (fun b3 => ?_) (fun b3 => ?_)
  · rw [if_pos b3] at h
    obtain ⟨c4, h⟩ := h
    refine E_blk (lv' := [some (vr (some (5, this))), some (vi a1), none, none, none]) (st' := [vi (mI M1 37 this a1.toNatClampNeg), vr (some (5, this))]) (M1 := M1) (pc' := 19) (tb_World hγ) [.aload_n 0, .aload_n 0, .getfield 23, .iload_n 1, .iaload] (by decide +kernel) rfl rfl ⟨c4, trivial⟩ ?_
    refine E_callV (κ' := k_World_find) (As := [vi (mI M1 37 this a1.toNatClampNeg)]) (st := []) mv_World_find (Or.inl (tbk_mem (j := 7) (k := 89) rfl)) rfl (by decide +kernel) (Nat.le_of_ble_eq_true rfl) (Nat.le_of_ble_eq_true rfl) rfl (by omega) (lk_World_find hγ this (mI M1 37 this a1.toNatClampNeg) _ M1 h) (fun _ _ => Qi_r) (fun v M5 hp => Qi_k (R := fun st => E γ k_World_ask (d + 1) 22 [some (vr (some (5, this))), some (vi a1), none, none, none] st M5 (Qi Q)) hp (fun r6 h => ?_))
    refine E_blk (lv' := [some (vr (some (5, this))), some (vi a1), some (vi r6), none, none]) (st' := [vi r6]) (M1 := M5) (pc' := 24) (tb_World hγ) [.istore_n 2, .iload_n 2] (by decide +kernel) rfl rfl trivial ?_
    refine E_if_ge (off := 7) (tgt := 31) (by decide +kernel) (by decide) (fun b7 => ?_) (fun b7 => ?_)
    · rw [if_pos b7] at h
      refine E_blk (lv' := [some (vr (some (5, this))), some (vi a1), some (vi r6), none, none]) (st' := [vi (21 : Int32), vr (some (5, this))]) (M1 := M5) (pc' := 34) (tb_World hγ) [.aload_n 0, .bipush 21] (by decide +kernel) rfl rfl trivial ?_
      refine E_callV (κ' := k_World_asks) (As := [vi (21 : Int32)]) (st := []) mv_World_asks (Or.inl (tbk_mem (j := 7) (k := 90) rfl)) rfl (by decide +kernel) (Nat.le_of_ble_eq_true rfl) (Nat.le_of_ble_eq_true rfl) rfl (by omega) (lk_World_asks hγ this (21 : Int32) _ M5 h) (fun _ _ => Qi_r) (fun v M8 hp => Qi_k (R := fun st => E γ k_World_ask (d + 1) 37 [some (vr (some (5, this))), some (vi a1), some (vi r6), none, none] st M8 (Qi Q)) hp (fun r9 h => ?_))
      refine E_if_eq (off := 18) (tgt := 55) (by decide +kernel) (by decide) (fun b10 => ?_) (fun b10 => ?_)
      · rw [if_pos b10] at h
        refine E_mask [true, true, true, false, false] rfl ?_
        exact lkk_World_ask_j55 hγ K hK hd hb this Q a1 r6 M8 h
      · rw [if_neg b10] at h
        obtain ⟨c48, h⟩ := h
        refine E_blk (lv' := [some (vr (some (5, this))), some (vi a1), some (vi r6), none, none]) (st' := [vi ((mI M8 40 this r6.toNatClampNeg) &&& (5 : Int32))]) (M1 := M8) (pc' := 48) (tb_World hγ) [.aload_n 0, .getfield 32, .iload_n 2, .iaload, .iconst 5, .iand] (by decide +kernel) rfl rfl ⟨c48, trivial⟩ ?_
        refine E_if_eq (off := 7) (tgt := 55) (by decide +kernel) (by decide) (fun b49 => ?_) (fun b49 => ?_)
        · rw [if_pos b49] at h
          refine E_mask [true, true, true, false, false] rfl ?_
          exact lkk_World_ask_j55 hγ K hK hd hb this Q a1 r6 M8 h
        · rw [if_neg b49] at h
          refine E_blk (lv' := [some (vr (some (5, this))), some (vi a1), some (vi r6), none, none]) (st' := [vi (2115 : Int32)]) (M1 := M8) (pc' := 54) (tb_World hγ) [.sipush 2115] (by decide +kernel) rfl rfl trivial ?_
          exact E_iret rfl (by decide +kernel) h
    · rw [if_neg b7] at h
      refine E_blk (lv' := [some (vr (some (5, this))), some (vi a1), some (vi r6), none, none]) (st' := [vi (2011 : Int32)]) (M1 := M5) (pc' := 30) (tb_World hγ) [.sipush 2011] (by decide +kernel) rfl rfl trivial ?_
      exact E_iret rfl (by decide +kernel) h
  · rw [if_neg b3] at h
    refine E_blk (lv' := [some (vr (some (5, this))), some (vi a1), none, none, none]) (st' := [vi (2416 : Int32)]) (M1 := M1) (pc' := 11) (tb_World hγ) [.sipush 2416] (by decide +kernel) rfl rfl trivial ?_
    exact E_iret rfl (by decide +kernel) h
def wk_World_link (K : Nat → Int32 → (Int32 → Mem → Prop) → Mem → Prop) (this : Nat) (a1 : Int32) (Q : Int32 → Mem → Prop) (M : Mem) : Prop :=
  vp_in a1 (mL M 45 this) ∧ if (mI M 45 this a1.toNatClampNeg) = 0 then (wk_World_ask K this a1 (fun r4 M3 => vp_in a1 (mL M3 45 this) ∧ vp_in a1 (mL (sI M3 45 this a1.toNatClampNeg r4) 45 this) ∧ Q (mI (sI M3 45 this a1.toNatClampNeg r4) 45 this a1.toNatClampNeg) (sI M3 45 this a1.toNatClampNeg r4)) M) else (vp_in a1 (mL M 45 this) ∧ Q (mI M 45 this a1.toNatClampNeg) M)
def wr_World_link : Nat → Nat → Int32 → (Int32 → Mem → Prop) → Mem → Prop
  | 0 => fun _ _ _ _ => False
  | n + 1 => wk_World_link (wr_World_link n)
def w_World_link (this : Nat) (a1 : Int32) (Q : Int32 → Mem → Prop) (M : Mem) : Prop := ∃ n : Nat, n ≤ 60 ∧ wr_World_link n this a1 Q M
def w_World_ask (this : Nat) (a1 : Int32) (Q : Int32 → Mem → Prop) (M : Mem) : Prop := ∃ n : Nat, n ≤ 60 ∧ wk_World_ask (wr_World_link n) this a1 Q M
set_option maxRecDepth 4096 in
theorem lkk_World_link {γ : Gm} (hγ : Gk γ) {d0 d : Nat} (K : Nat → Int32 → (Int32 → Mem → Prop) → Mem → Prop) (hK : ∀ (this : Nat) (a1 : Int32) (Q : Int32 → Mem → Prop) (M : Mem), K this a1 Q M → ∀ d, d0 ≤ d → E γ k_World_link d 0 [some (vr (some (5, this))), some (vi a1)] [] M (Qi Q)) (hd : d0 ≤ d) (hb : 12 ≤ d) (this : Nat) (a1 : Int32) (Q : Int32 → Mem → Prop) (M : Mem) (h : wk_World_link K this a1 Q M) : E γ k_World_link (d + 2) 0 [some (vr (some (5, this))), some (vi a1)] [] M (Qi Q) := by
  unfold wk_World_link at h
  obtain ⟨c1, h⟩ := h
  refine E_blk (lv' := [some (vr (some (5, this))), some (vi a1)]) (st' := [vi (mI M 45 this a1.toNatClampNeg)]) (M1 := M) (pc' := 6) (tb_World hγ) [.aload_n 0, .getfield 47, .iload_n 1, .iaload] (by decide +kernel) rfl rfl ⟨c1, trivial⟩ ?_
  refine E_if_ne (off := 14) (tgt := 20) (by decide +kernel) (by decide) (fun b2 => ?_) (fun b2 => ?_)
  · rw [if_pos b2] at h
    refine E_blk (lv' := [some (vr (some (5, this))), some (vi a1)]) (st' := [vi a1, vr (some (5, this)), vi a1, vr (some (45, this))]) (M1 := M) (pc' := 16) (tb_World hγ) [.aload_n 0, .getfield 47, .iload_n 1, .aload_n 0, .iload_n 1] (by decide +kernel) rfl rfl trivial ?_
    refine E_callV (κ' := k_World_ask) (As := [vi a1]) (st := [vi a1, vr (some (45, this))]) mv_World_ask (Or.inl (tbk_mem (j := 7) (k := 80) rfl)) rfl (by decide +kernel) (Nat.le_of_ble_eq_true rfl) (Nat.le_of_ble_eq_true rfl) rfl (by omega) (lkk_World_ask hγ K hK hd hb this a1 _ M h) (fun _ _ => Qi_r) (fun v M3 hp => Qi_k (R := fun st => E γ k_World_link (d + 2) 19 [some (vr (some (5, this))), some (vi a1)] st M3 (Qi Q)) hp (fun r4 h => ?_))
    obtain ⟨c5, c6, h⟩ := h
    refine E_blk (lv' := [some (vr (some (5, this))), some (vi a1)]) (st' := [vi (mI (sI M3 45 this a1.toNatClampNeg r4) 45 this a1.toNatClampNeg)]) (M1 := (sI M3 45 this a1.toNatClampNeg r4)) (pc' := 26) (tb_World hγ) [.iastore, .aload_n 0, .getfield 47, .iload_n 1, .iaload] (by decide +kernel) rfl rfl ⟨c5, c6, trivial⟩ ?_
    exact E_iret rfl (by decide +kernel) h
  · rw [if_neg b2] at h
    obtain ⟨c7, h⟩ := h
    refine E_blk (lv' := [some (vr (some (5, this))), some (vi a1)]) (st' := [vi (mI M 45 this a1.toNatClampNeg)]) (M1 := M) (pc' := 26) (tb_World hγ) [.aload_n 0, .getfield 47, .iload_n 1, .iaload] (by decide +kernel) rfl rfl ⟨c7, trivial⟩ ?_
    exact E_iret rfl (by decide +kernel) h
theorem lkr_World_link {γ : Gm} (hγ : Gk γ) : ∀ (n : Nat) (this : Nat) (a1 : Int32) (Q : Int32 → Mem → Prop) (M : Mem), wr_World_link n this a1 Q M → ∀ d, 12 + 2 * n ≤ d → E γ k_World_link d 0 [some (vr (some (5, this))), some (vi a1)] [] M (Qi Q) := by
  intro n
  induction n with
  | zero => intro this a1 Q M h; exact h.elim
  | succ n ih =>
    intro this a1 Q M h d hd
    obtain ⟨e, rfl⟩ : ∃ e, d = e + 2 := ⟨d - 2, by omega⟩
    exact lkk_World_link hγ (d0 := 12 + 2 * n) (d := e) (wr_World_link n) ih (by omega) (by omega) this a1 Q M h
theorem lk_World_link {γ : Gm} (hγ : Gk γ) (this : Nat) (a1 : Int32) (Q : Int32 → Mem → Prop) (M : Mem) (h : w_World_link this a1 Q M) : E γ k_World_link 132 0 [some (vr (some (5, this))), some (vi a1)] [] M (Qi Q) := by
  obtain ⟨n, hn, h⟩ := h
  exact lkr_World_link hγ n this a1 Q M h _ (by omega)
theorem lk_World_ask {γ : Gm} (hγ : Gk γ) (this : Nat) (a1 : Int32) (Q : Int32 → Mem → Prop) (M : Mem) (h : w_World_ask this a1 Q M) : E γ k_World_ask 133 0 [some (vr (some (5, this))), some (vi a1), none, none, none] [] M (Qi Q) := by
  obtain ⟨n, hn, h⟩ := h
  exact lkk_World_ask hγ (d0 := 12 + 2 * n) (d := 132) (wr_World_link n) (lkr_World_link hγ n) (by omega) (by omega) this a1 Q M h
def w_Machine_linkedClass (this : Nat) (a1 : Int32) (Q : Int32 → Mem → Prop) (M : Mem) : Prop :=
  w_Machine_findClass this a1 (fun r2 M1 => if 0 ≤ r2 then (w_World_link this r2 (fun r5 M4 => if r5 = (1 : Int32) then (Q r2 M4) else (Q (-r5) M4)) M1) else (Q r2 M1)) M
set_option maxRecDepth 4096 in
theorem lk_Machine_linkedClass {γ : Gm} (hγ : Gk γ) (this : Nat) (a1 : Int32) (Q : Int32 → Mem → Prop) (M : Mem) (h : w_Machine_linkedClass this a1 Q M) : E γ k_Machine_linkedClass 133 0 [some (vr (some (6, this))), some (vi a1), none, none] [] M (Qi Q) := by
  unfold w_Machine_linkedClass at h
  refine E_blk (lv' := [some (vr (some (6, this))), some (vi a1), none, none]) (st' := [vi a1, vr (some (6, this))]) (M1 := M) (pc' := 2) (tb_Machine hγ) [.aload_n 0, .iload_n 1] (by decide +kernel) rfl rfl trivial ?_
  refine E_callV (κ' := k_Machine_findClass) (As := [vi a1]) (st := []) mv_Machine_findClass (Or.inl (tbk_mem (j := 8) (k := 144) rfl)) rfl (by decide +kernel) (Nat.le_of_ble_eq_true rfl) (Nat.le_of_ble_eq_true rfl) rfl (by decide) (lk_Machine_findClass hγ this a1 _ M h) (fun _ _ => Qi_r) (fun v M1 hp => Qi_k (R := fun st => E γ k_Machine_linkedClass 133 5 [some (vr (some (6, this))), some (vi a1), none, none] st M1 (Qi Q)) hp (fun r2 h => ?_))
  refine E_blk (lv' := [some (vr (some (6, this))), some (vi a1), some (vi r2), none]) (st' := [vi r2]) (M1 := M1) (pc' := 7) (tb_Machine hγ) [.istore_n 2, .iload_n 2] (by decide +kernel) rfl rfl trivial ?_
  refine E_if_ge (off := 5) (tgt := 12) (by decide +kernel) (by decide) (fun b3 => ?_) (fun b3 => ?_)
  · rw [if_pos b3] at h
    refine E_blk (lv' := [some (vr (some (6, this))), some (vi a1), some (vi r2), none]) (st' := [vi r2, vr (some (5, this))]) (M1 := M1) (pc' := 17) (tb_Machine hγ) [.aload_n 0, .getfield 84, .iload_n 2] (by decide +kernel) rfl rfl trivial ?_
    refine E_callV (κ' := k_World_link) (As := [vi r2]) (st := []) mv_World_link (Or.inl (tbk_mem (j := 8) (k := 153) rfl)) rfl (by decide +kernel) (Nat.le_of_ble_eq_true rfl) (Nat.le_of_ble_eq_true rfl) rfl (by decide) (lk_World_link hγ this r2 _ M1 h) (fun _ _ => Qi_r) (fun v M4 hp => Qi_k (R := fun st => E γ k_Machine_linkedClass 133 20 [some (vr (some (6, this))), some (vi a1), some (vi r2), none] st M4 (Qi Q)) hp (fun r5 h => ?_))
    refine E_blk (lv' := [some (vr (some (6, this))), some (vi a1), some (vi r2), some (vi r5)]) (st' := [vi (1 : Int32), vi r5]) (M1 := M4) (pc' := 23) (tb_Machine hγ) [.istore_n 3, .iload_n 3, .iconst 1] (by decide +kernel) rfl rfl trivial ?_
    refine E_icmp_ne (off := 7) (tgt := 30) (by decide +kernel) (by decide) (fun b6 => ?_) (fun b6 => ?_)
    · rw [if_pos b6] at h
      refine E_blk (lv' := [some (vr (some (6, this))), some (vi a1), some (vi r2), some (vi r5)]) (st' := [vi r2]) (M1 := M4) (pc' := 27) (tb_Machine hγ) [.iload_n 2] (by decide +kernel) rfl rfl trivial ?_
      refine E_goto (off := 5) (tgt := 32) (by decide +kernel) (by decide) ?_
      exact E_iret rfl (by decide +kernel) h
    · rw [if_neg b6] at h
      refine E_blk (lv' := [some (vr (some (6, this))), some (vi a1), some (vi r2), some (vi r5)]) (st' := [vi (-r5)]) (M1 := M4) (pc' := 32) (tb_Machine hγ) [.iload_n 3, .ineg] (by decide +kernel) rfl rfl trivial ?_
      exact E_iret rfl (by decide +kernel) h
  · rw [if_neg b3] at h
    refine E_blk (lv' := [some (vr (some (6, this))), some (vi a1), some (vi r2), none]) (st' := [vi r2]) (M1 := M1) (pc' := 11) (tb_Machine hγ) [.iload_n 2] (by decide +kernel) rfl rfl trivial ?_
    exact E_iret rfl (by decide +kernel) h
def w_World_typesOf (this : Nat) (a1 : Int32) (Q : Int32 → Mem → Prop) (M : Mem) : Prop :=
  Q ((6 : Int32) * a1) M
set_option maxRecDepth 4096 in
theorem lk_World_typesOf {γ : Gm} (hγ : Gk γ) (this : Nat) (a1 : Int32) (Q : Int32 → Mem → Prop) (M : Mem) (h : w_World_typesOf this a1 Q M) : E γ k_World_typesOf 0 0 [some (vr (some (5, this))), some (vi a1)] [] M (Qi Q) := by
  unfold w_World_typesOf at h
  refine E_blk (lv' := [some (vr (some (5, this))), some (vi a1)]) (st' := [vi ((6 : Int32) * a1)]) (M1 := M) (pc' := 4) (tb_World hγ) [.bipush 6, .iload_n 1, .imul] (by decide +kernel) rfl rfl trivial ?_
  exact E_iret rfl (by decide +kernel) h
def w_World_isLike (this : Nat) (a1 : Int32) (a2 : Int32) (Q : Int32 → Mem → Prop) (M : Mem) : Prop :=
  vp_in a1 (mL M 56 this) ∧ w_World_refName this a2 (fun r3 M2 => if (mI M 56 this a1.toNatClampNeg) = r3 then (vp_in a1 (mL M2 59 this) ∧ w_World_refType this a2 (fun r7 M6 => if (mI M2 59 this a1.toNatClampNeg) = r7 then (w_World_typesOf this a2 (fun r10 M9 => w_World_refArguments this a2 (fun r12 M11 => w_World_sameArguments this a1 (2 * this + 2) r10 r12 (fun r14 M13 => if r14 = 0 then (Q (0 : Int32) M13) else (Q (1 : Int32) M13)) M11) M9) M6) else (Q (0 : Int32) M6)) M2) else (Q (0 : Int32) M2)) M
set_option maxRecDepth 4096 in
theorem lk_World_isLike {γ : Gm} (hγ : Gk γ) (this : Nat) (a1 : Int32) (a2 : Int32) (Q : Int32 → Mem → Prop) (M : Mem) (h : w_World_isLike this a1 a2 Q M) : E γ k_World_isLike 1 0 [some (vr (some (5, this))), some (vi a1), some (vi a2)] [] M (Qi Q) := by
  unfold w_World_isLike at h
  obtain ⟨c1, h⟩ := h
  refine E_blk (lv' := [some (vr (some (5, this))), some (vi a1), some (vi a2)]) (st' := [vi a2, vr (some (5, this)), vi (mI M 56 this a1.toNatClampNeg)]) (M1 := M) (pc' := 8) (tb_World hγ) [.aload_n 0, .getfield 90, .iload_n 1, .iaload, .aload_n 0, .iload_n 2] (by decide +kernel) rfl rfl ⟨c1, trivial⟩ ?_
  refine E_callV (κ' := k_World_refName) (As := [vi a2]) (st := [vi (mI M 56 this a1.toNatClampNeg)]) mv_World_refName (Or.inl (tbk_mem (j := 8) (k := 164) rfl)) rfl (by decide +kernel) (Nat.le_of_ble_eq_true rfl) (Nat.le_of_ble_eq_true rfl) rfl (by decide) (lk_World_refName hγ this a2 _ M h) (fun _ _ => Qi_r) (fun v M2 hp => Qi_k (R := fun st => E γ k_World_isLike 1 11 [some (vr (some (5, this))), some (vi a1), some (vi a2)] st M2 (Qi Q)) hp (fun r3 h => ?_))
  refine E_icmp_ne (off := 43) (tgt := 54) (by decide +kernel) (by decide) (fun b4 => ?_) (fun b4 => ?_)
  · rw [if_pos b4] at h
    obtain ⟨c5, h⟩ := h
    refine E_blk (lv' := [some (vr (some (5, this))), some (vi a1), some (vi a2)]) (st' := [vi a2, vr (some (5, this)), vi (mI M2 59 this a1.toNatClampNeg)]) (M1 := M2) (pc' := 22) (tb_World hγ) [.aload_n 0, .getfield 102, .iload_n 1, .iaload, .aload_n 0, .iload_n 2] (by decide +kernel) rfl rfl ⟨c5, trivial⟩ ?_
    refine E_callV (κ' := k_World_refType) (As := [vi a2]) (st := [vi (mI M2 59 this a1.toNatClampNeg)]) mv_World_refType (Or.inl (tbk_mem (j := 8) (k := 165) rfl)) rfl (by decide +kernel) (Nat.le_of_ble_eq_true rfl) (Nat.le_of_ble_eq_true rfl) rfl (by decide) (lk_World_refType hγ this a2 _ M2 h) (fun _ _ => Qi_r) (fun v M6 hp => Qi_k (R := fun st => E γ k_World_isLike 1 25 [some (vr (some (5, this))), some (vi a1), some (vi a2)] st M6 (Qi Q)) hp (fun r7 h => ?_))
    refine E_icmp_ne (off := 29) (tgt := 54) (by decide +kernel) (by decide) (fun b8 => ?_) (fun b8 => ?_)
    · rw [if_pos b8] at h
      refine E_blk (lv' := [some (vr (some (5, this))), some (vi a1), some (vi a2)]) (st' := [vi a2, vr (some (5, this)), vr (some (211, (2 * this + 2))), vi a1, vr (some (5, this))]) (M1 := M6) (pc' := 36) (tb_World hγ) [.aload_n 0, .iload_n 1, .aload_n 0, .getfield 177, .aload_n 0, .iload_n 2] (by decide +kernel) rfl rfl trivial ?_
      refine E_callV (κ' := k_World_typesOf) (As := [vi a2]) (st := [vr (some (211, (2 * this + 2))), vi a1, vr (some (5, this))]) mv_World_typesOf (Or.inl (tbk_mem (j := 8) (k := 166) rfl)) rfl (by decide +kernel) (Nat.le_of_ble_eq_true rfl) (Nat.le_of_ble_eq_true rfl) rfl (by decide) (lk_World_typesOf hγ this a2 _ M6 h) (fun _ _ => Qi_r) (fun v M9 hp => Qi_k (R := fun st => E γ k_World_isLike 1 39 [some (vr (some (5, this))), some (vi a1), some (vi a2)] st M9 (Qi Q)) hp (fun r10 h => ?_))
      refine E_blk (lv' := [some (vr (some (5, this))), some (vi a1), some (vi a2)]) (st' := [vi a2, vr (some (5, this)), vi r10, vr (some (211, (2 * this + 2))), vi a1, vr (some (5, this))]) (M1 := M9) (pc' := 41) (tb_World hγ) [.aload_n 0, .iload_n 2] (by decide +kernel) rfl rfl trivial ?_
      refine E_callV (κ' := k_World_refArguments) (As := [vi a2]) (st := [vi r10, vr (some (211, (2 * this + 2))), vi a1, vr (some (5, this))]) mv_World_refArguments (Or.inl (tbk_mem (j := 8) (k := 170) rfl)) rfl (by decide +kernel) (Nat.le_of_ble_eq_true rfl) (Nat.le_of_ble_eq_true rfl) rfl (by decide) (lk_World_refArguments hγ this a2 _ M9 h) (fun _ _ => Qi_r) (fun v M11 hp => Qi_k (R := fun st => E γ k_World_isLike 1 44 [some (vr (some (5, this))), some (vi a1), some (vi a2)] st M11 (Qi Q)) hp (fun r12 h => ?_))
      refine E_callV (κ' := k_World_sameArguments) (As := [vi a1, vr (some (211, (2 * this + 2))), vi r10, vi r12]) (st := []) mv_World_sameArguments (Or.inl (tbk_mem (j := 7) (k := 105) rfl)) rfl (by decide +kernel) (Nat.le_of_ble_eq_true rfl) (Nat.le_of_ble_eq_true rfl) rfl (by decide) (lk_World_sameArguments hγ this a1 (2 * this + 2) r10 r12 _ M11 h) (fun _ _ => Qi_r) (fun v M13 hp => Qi_k (R := fun st => E γ k_World_isLike 1 47 [some (vr (some (5, this))), some (vi a1), some (vi a2)] st M13 (Qi Q)) hp (fun r14 h => ?_))
      refine E_if_eq (off := 7) (tgt := 54) (by decide +kernel) (by decide) (fun b15 => ?_) (fun b15 => ?_)
      · rw [if_pos b15] at h
        refine E_blk (lv' := [some (vr (some (5, this))), some (vi a1), some (vi a2)]) (st' := [vi (0 : Int32)]) (M1 := M13) (pc' := 55) (tb_World hγ) [.iconst 0] (by decide +kernel) rfl rfl trivial ?_
        exact E_zret rfl (Or.inl rfl) (by decide +kernel) h
      · rw [if_neg b15] at h
        refine E_blk (lv' := [some (vr (some (5, this))), some (vi a1), some (vi a2)]) (st' := [vi (1 : Int32)]) (M1 := M13) (pc' := 51) (tb_World hγ) [.iconst 1] (by decide +kernel) rfl rfl trivial ?_
        refine E_goto (off := 4) (tgt := 55) (by decide +kernel) (by decide) ?_
        exact E_zret rfl (Or.inr rfl) (by decide +kernel) h
    · rw [if_neg b8] at h
      refine E_blk (lv' := [some (vr (some (5, this))), some (vi a1), some (vi a2)]) (st' := [vi (0 : Int32)]) (M1 := M6) (pc' := 55) (tb_World hγ) [.iconst 0] (by decide +kernel) rfl rfl trivial ?_
      exact E_zret rfl (Or.inl rfl) (by decide +kernel) h
  · rw [if_neg b4] at h
    refine E_blk (lv' := [some (vr (some (5, this))), some (vi a1), some (vi a2)]) (st' := [vi (0 : Int32)]) (M1 := M2) (pc' := 55) (tb_World hγ) [.iconst 0] (by decide +kernel) rfl rfl trivial ?_
    exact E_zret rfl (Or.inl rfl) (by decide +kernel) h
def w_World_ownLike_j51 (this : Nat) (Q : Int32 → Mem → Prop) (k8 : Int32 → Int32 → Int32 → Int32 → Mem → Prop) (v1 : Int32) (v2 : Int32) (v3 : Int32) (v4 : Int32) (M : Mem) : Prop :=
  k8 v1 v2 v3 (v4 + (1 : Int32)) M
def w_World_ownLike_L8 (this : Nat) (Q : Int32 → Mem → Prop) : Nat → Int32 → Int32 → Int32 → Int32 → Mem → Prop
  | 0, _, _, _, _, _ => False
  | n + 1, v1, v2, v3, v4, M => vp_in v1 (mL M 43 this) ∧ vp_in v1 (mL M 44 this) ∧ if ((mI M 43 this v1.toNatClampNeg) + (mI M 44 this v1.toNatClampNeg)) ≤ v4 then (Q (-2 : Int32) M) else (w_World_isLike this v4 v2 (fun r6 M5 => if r6 = 0 then (w_World_ownLike_j51 this Q (w_World_ownLike_L8 this Q n) v1 v2 v3 v4 M5) else (vp_in v4 (mL M5 57 this) ∧ if ((mI M5 57 this v4.toNatClampNeg) &&& v3) = 0 then (Q v4 M5) else (w_World_ownLike_j51 this Q (w_World_ownLike_L8 this Q n) v1 v2 v3 v4 M5))) M)
def w_World_ownLike (this : Nat) (a1 : Int32) (a2 : Int32) (a3 : Int32) (Q : Int32 → Mem → Prop) (M : Mem) : Prop :=
  vp_in a1 (mL M 43 this) ∧ ∃ n10 : Nat, w_World_ownLike_L8 this Q n10 a1 a2 a3 (mI M 43 this a1.toNatClampNeg) M
set_option maxRecDepth 4096 in
theorem lk_World_ownLike_j51 {γ : Gm} (hγ : Gk γ) (this : Nat) (Q : Int32 → Mem → Prop) (k8 : Int32 → Int32 → Int32 → Int32 → Mem → Prop) (hk8 : ∀ (v1 : Int32) (v2 : Int32) (v3 : Int32) (v4 : Int32) (M : Mem), k8 v1 v2 v3 v4 M → E γ k_World_ownLike 2 8 [some (vr (some (5, this))), some (vi v1), some (vi v2), some (vi v3), some (vi v4)] [] M (Qi Q)) (v1 : Int32) (v2 : Int32) (v3 : Int32) (v4 : Int32) (M : Mem) (h : w_World_ownLike_j51 this Q k8 v1 v2 v3 v4 M) : E γ k_World_ownLike 2 51 [some (vr (some (5, this))), some (vi v1), some (vi v2), some (vi v3), some (vi v4)] [] M (Qi Q) := by
  unfold w_World_ownLike_j51 at h
  refine E_blk (lv' := [some (vr (some (5, this))), some (vi v1), some (vi v2), some (vi v3), some (vi (v4 + (1 : Int32)))]) (st' := []) (M1 := M) (pc' := 54) (tb_World hγ) [.iinc 4 1] (by decide +kernel) rfl rfl trivial ?_
  refine E_goto (off := -46) (tgt := 8) (by decide +kernel) (by decide) ?_
  refine E_mask [true, true, true, true, true] rfl ?_
  exact hk8 v1 v2 v3 (v4 + (1 : Int32)) M h
set_option maxRecDepth 4096 in
theorem lk_World_ownLike_L8 {γ : Gm} (hγ : Gk γ) (this : Nat) (Q : Int32 → Mem → Prop) : ∀ (n : Nat) (v1 : Int32) (v2 : Int32) (v3 : Int32) (v4 : Int32) (M : Mem), w_World_ownLike_L8 this Q n v1 v2 v3 v4 M → E γ k_World_ownLike 2 8 [some (vr (some (5, this))), some (vi v1), some (vi v2), some (vi v3), some (vi v4)] [] M (Qi Q) := by
  intro n
  induction n with
  | zero => intro v1 v2 v3 v4 M h; exact h.elim
  | succ n ih =>
    intro v1 v2 v3 v4 M h
    unfold w_World_ownLike_L8 at h
    obtain ⟨c2, c3, h⟩ := h
    refine E_blk (lv' := [some (vr (some (5, this))), some (vi v1), some (vi v2), some (vi v3), some (vi v4)]) (st' := [vi ((mI M 43 this v1.toNatClampNeg) + (mI M 44 this v1.toNatClampNeg)), vi v4]) (M1 := M) (pc' := 23) (tb_World hγ) [.iload 4, .aload_n 0, .getfield 41, .iload_n 1, .iaload, .aload_n 0, .getfield 44, .iload_n 1, .iaload, .iadd] (by decide +kernel) rfl rfl ⟨c2, c3, trivial⟩ ?_
    refine E_icmp_ge (off := 34) (tgt := 57) (by decide +kernel) (by decide) (fun b4 => ?_) (fun b4 => ?_)
    · rw [if_pos b4] at h
      refine E_blk (lv' := [some (vr (some (5, this))), some (vi v1), some (vi v2), some (vi v3), some (vi v4)]) (st' := [vi (-2 : Int32)]) (M1 := M) (pc' := 59) (tb_World hγ) [.bipush (.negSucc 1)] (by decide +kernel) rfl rfl trivial ?_
      exact E_iret rfl (by decide +kernel) h
    · rw [if_neg b4] at h
      refine E_blk (lv' := [some (vr (some (5, this))), some (vi v1), some (vi v2), some (vi v3), some (vi v4)]) (st' := [vi v2, vi v4, vr (some (5, this))]) (M1 := M) (pc' := 30) (tb_World hγ) [.aload_n 0, .iload 4, .iload_n 2] (by decide +kernel) rfl rfl trivial ?_
      refine E_callV (κ' := k_World_isLike) (As := [vi v4, vi v2]) (st := []) mv_World_isLike (Or.inl (tbk_mem (j := 8) (k := 160) rfl)) rfl (by decide +kernel) (Nat.le_of_ble_eq_true rfl) (Nat.le_of_ble_eq_true rfl) rfl (by decide) (lk_World_isLike hγ this v4 v2 _ M h) (fun _ _ => Qi_r) (fun v M5 hp => Qi_k (R := fun st => E γ k_World_ownLike 2 33 [some (vr (some (5, this))), some (vi v1), some (vi v2), some (vi v3), some (vi v4)] st M5 (Qi Q)) hp (fun r6 h => ?_))
      refine E_if_eq (off := 18) (tgt := 51) (by decide +kernel) (by decide) (fun b7 => ?_) (fun b7 => ?_)
      · rw [if_pos b7] at h
        refine E_mask [true, true, true, true, true] rfl ?_
        exact lk_World_ownLike_j51 hγ this Q (w_World_ownLike_L8 this Q n) ih v1 v2 v3 v4 M5 h
      · rw [if_neg b7] at h
        obtain ⟨c8, h⟩ := h
        refine E_blk (lv' := [some (vr (some (5, this))), some (vi v1), some (vi v2), some (vi v3), some (vi v4)]) (st' := [vi ((mI M5 57 this v4.toNatClampNeg) &&& v3)]) (M1 := M5) (pc' := 45) (tb_World hγ) [.aload_n 0, .getfield 93, .iload 4, .iaload, .iload_n 3, .iand] (by decide +kernel) rfl rfl ⟨c8, trivial⟩ ?_
        refine E_if_ne (off := 6) (tgt := 51) (by decide +kernel) (by decide) (fun b9 => ?_) (fun b9 => ?_)
        · rw [if_pos b9] at h
          refine E_blk (lv' := [some (vr (some (5, this))), some (vi v1), some (vi v2), some (vi v3), some (vi v4)]) (st' := [vi v4]) (M1 := M5) (pc' := 50) (tb_World hγ) [.iload 4] (by decide +kernel) rfl rfl trivial ?_
          exact E_iret rfl (by decide +kernel) h
        · rw [if_neg b9] at h
          refine E_mask [true, true, true, true, true] rfl ?_
          exact lk_World_ownLike_j51 hγ this Q (w_World_ownLike_L8 this Q n) ih v1 v2 v3 v4 M5 h
set_option maxRecDepth 4096 in
theorem lk_World_ownLike {γ : Gm} (hγ : Gk γ) (this : Nat) (a1 : Int32) (a2 : Int32) (a3 : Int32) (Q : Int32 → Mem → Prop) (M : Mem) (h : w_World_ownLike this a1 a2 a3 Q M) : E γ k_World_ownLike 2 0 [some (vr (some (5, this))), some (vi a1), some (vi a2), some (vi a3), none] [] M (Qi Q) := by
  unfold w_World_ownLike at h
  obtain ⟨c1, h⟩ := h
  refine E_blk (lv' := [some (vr (some (5, this))), some (vi a1), some (vi a2), some (vi a3), some (vi (mI M 43 this a1.toNatClampNeg))]) (st' := []) (M1 := M) (pc' := 8) (tb_World hγ) [.aload_n 0, .getfield 41, .iload_n 1, .iaload, .istore 4] (by decide +kernel) rfl rfl ⟨c1, trivial⟩ ?_
  obtain ⟨n10, h⟩ := h
  refine E_mask [true, true, true, true, true] rfl ?_
  exact lk_World_ownLike_L8 hγ this Q n10 a1 a2 a3 (mI M 43 this a1.toNatClampNeg) M h
def w_World_nextStamp (this : Nat) (Q : Mem → Prop) (M : Mem) : Prop :=
  if (mI (sI M 5 this 61 ((mI M 5 this 61) + (1 : Int32))) 5 this 61) = 0 then (mL (sI M 5 this 61 ((mI M 5 this 61) + (1 : Int32))) 77 this < 2 ^ 31 ∧ ∃ M2, M2 = flI (sI M 5 this 61 ((mI M 5 this 61) + (1 : Int32))) 77 this (0 : Int32) ∧ Q (sI M2 5 this 61 (1 : Int32))) else (Q (sI M 5 this 61 ((mI M 5 this 61) + (1 : Int32))))
set_option maxRecDepth 4096 in
theorem lk_World_nextStamp {γ : Gm} (hγ : Gk γ) (this : Nat) (Q : Mem → Prop) (M : Mem) (h : w_World_nextStamp this Q M) : E γ k_World_nextStamp 1 0 [some (vr (some (5, this)))] [] M (Qv Q) := by
  unfold w_World_nextStamp at h
  refine E_blk (lv' := [some (vr (some (5, this)))]) (st' := [vi (mI (sI M 5 this 61 ((mI M 5 this 61) + (1 : Int32))) 5 this 61)]) (M1 := (sI M 5 this 61 ((mI M 5 this 61) + (1 : Int32)))) (pc' := 14) (tb_World hγ) [.aload_n 0, .dup, .getfield 240, .iconst 1, .iadd, .putfield 240, .aload_n 0, .getfield 240] (by decide +kernel) rfl rfl trivial ?_
  refine E_if_ne (off := 16) (tgt := 30) (by decide +kernel) (by decide) (fun b1 => ?_) (fun b1 => ?_)
  · rw [if_pos b1] at h
    refine E_blk (lv' := [some (vr (some (5, this)))]) (st' := [vi (0 : Int32), vr (some (77, this))]) (M1 := (sI M 5 this 61 ((mI M 5 this 61) + (1 : Int32)))) (pc' := 22) (tb_World hγ) [.aload_n 0, .getfield 123, .iconst 0] (by decide +kernel) rfl rfl trivial ?_
    obtain ⟨c3, M2, eM2, h⟩ := h
    refine E_fillI (st := []) (by decide) (by decide) c3 (tbk_mem (j := 8) (k := 180) rfl) (by decide +kernel) (Nat.le_of_ble_eq_true rfl) ?_
    rw [← eM2]
    refine E_blk (lv' := [some (vr (some (5, this)))]) (st' := []) (M1 := (sI M2 5 this 61 (1 : Int32))) (pc' := 30) (tb_World hγ) [.aload_n 0, .iconst 1, .putfield 240] (by decide +kernel) rfl rfl trivial ?_
    exact E_vret rfl (by decide +kernel) h
  · rw [if_neg b1] at h
    exact E_vret rfl (by decide +kernel) h
def wk_World_lookInFaces_j123 (K : Nat → Int32 → Int32 → Int32 → (Mem → Prop) → Mem → Prop) (this : Nat) (Q : Mem → Prop) (k3 : Int32 → Int32 → Int32 → Int32 → Mem → Prop) (v1 : Int32) (v2 : Int32) (v3 : Int32) (v4 : Int32) (M : Mem) : Prop :=
  k3 v1 v2 v3 (v4 + (1 : Int32)) M
def wk_World_lookInFaces_j115 (K : Nat → Int32 → Int32 → Int32 → (Mem → Prop) → Mem → Prop) (this : Nat) (Q : Mem → Prop) (k3 : Int32 → Int32 → Int32 → Int32 → Mem → Prop) (v1 : Int32) (v2 : Int32) (v3 : Int32) (v4 : Int32) (v5 : Int32) (M : Mem) : Prop :=
  K this v5 v2 v3 (fun M12 => wk_World_lookInFaces_j123 K this Q k3 v1 v2 v3 v4 M12) M
def wk_World_lookInFaces_j109 (K : Nat → Int32 → Int32 → Int32 → (Mem → Prop) → Mem → Prop) (this : Nat) (Q : Mem → Prop) (k3 : Int32 → Int32 → Int32 → Int32 → Mem → Prop) (v1 : Int32) (v2 : Int32) (v3 : Int32) (v4 : Int32) (v5 : Int32) (v6 : Int32) (M : Mem) : Prop :=
  wk_World_lookInFaces_j115 K this Q k3 v1 v2 v3 v4 v5 (sI M 5 this 62 v6)
def wk_World_lookInFaces_L3 (K : Nat → Int32 → Int32 → Int32 → (Mem → Prop) → Mem → Prop) (this : Nat) (Q : Mem → Prop) : Nat → Int32 → Int32 → Int32 → Int32 → Mem → Prop
  | 0, _, _, _, _, _ => False
  | n + 1, v1, v2, v3, v4, M => vp_in v1 (mL M 39 this) ∧ if (mI M 39 this v1.toNatClampNeg) ≤ v4 then (Q M) else (vp_in (((4 : Int32) * v1) + v4) (mL M 38 this) ∧ w_World_find this (mI M 38 this (((4 : Int32) * v1) + v4).toNatClampNeg) (fun r5 M4 => vp_in r5 (mL M4 77 this) ∧ if (mI M4 77 this r5.toNatClampNeg) = (mI M4 5 this 61) then (wk_World_lookInFaces_j123 K this Q (wk_World_lookInFaces_L3 K this Q n) v1 v2 v3 v4 M4) else (vp_in r5 (mL M4 77 this) ∧ w_World_ownLike this r5 v2 v3 (fun r10 M9 => if r10 < 0 then (wk_World_lookInFaces_j115 K this Q (wk_World_lookInFaces_L3 K this Q n) v1 v2 v3 v4 r5 M9) else (if (mI M9 5 this 62) < 0 then (wk_World_lookInFaces_j109 K this Q (wk_World_lookInFaces_L3 K this Q n) v1 v2 v3 v4 r5 r10 M9) else (vp_in (mI M9 5 this 62) (mL M9 57 this) ∧ if ((mI M9 57 this (mI M9 5 this 62).toNatClampNeg) &&& (8 : Int32)) = 0 then (wk_World_lookInFaces_j115 K this Q (wk_World_lookInFaces_L3 K this Q n) v1 v2 v3 v4 r5 M9) else (vp_in r10 (mL M9 57 this) ∧ if ((mI M9 57 this r10.toNatClampNeg) &&& (8 : Int32)) = 0 then (wk_World_lookInFaces_j109 K this Q (wk_World_lookInFaces_L3 K this Q n) v1 v2 v3 v4 r5 r10 M9) else (wk_World_lookInFaces_j115 K this Q (wk_World_lookInFaces_L3 K this Q n) v1 v2 v3 v4 r5 M9))))) (sI M4 77 this r5.toNatClampNeg (mI M4 5 this 61)))) M)
def wk_World_lookInFaces (K : Nat → Int32 → Int32 → Int32 → (Mem → Prop) → Mem → Prop) (this : Nat) (a1 : Int32) (a2 : Int32) (a3 : Int32) (Q : Mem → Prop) (M : Mem) : Prop :=
  ∃ n18 : Nat, wk_World_lookInFaces_L3 K this Q n18 a1 a2 a3 (0 : Int32) M
def wr_World_lookInFaces : Nat → Nat → Int32 → Int32 → Int32 → (Mem → Prop) → Mem → Prop
  | 0 => fun _ _ _ _ _ _ => False
  | n + 1 => wk_World_lookInFaces (wr_World_lookInFaces n)
def w_World_lookInFaces (this : Nat) (a1 : Int32) (a2 : Int32) (a3 : Int32) (Q : Mem → Prop) (M : Mem) : Prop := ∃ n : Nat, n ≤ 60 ∧ wr_World_lookInFaces n this a1 a2 a3 Q M
set_option maxRecDepth 4096 in
theorem lkk_World_lookInFaces_j123 {γ : Gm} (hγ : Gk γ) {d0 d : Nat} (K : Nat → Int32 → Int32 → Int32 → (Mem → Prop) → Mem → Prop) (hK : ∀ (this : Nat) (a1 : Int32) (a2 : Int32) (a3 : Int32) (Q : Mem → Prop) (M : Mem), K this a1 a2 a3 Q M → ∀ d, d0 ≤ d → E γ k_World_lookInFaces d 0 [some (vr (some (5, this))), some (vi a1), some (vi a2), some (vi a3), none, none, none] [] M (Qv Q)) (hd : d0 ≤ d) (hb : 3 ≤ d) (this : Nat) (Q : Mem → Prop) (k3 : Int32 → Int32 → Int32 → Int32 → Mem → Prop) (hk3 : ∀ (v1 : Int32) (v2 : Int32) (v3 : Int32) (v4 : Int32) (M : Mem), k3 v1 v2 v3 v4 M → E γ k_World_lookInFaces (d + 1) 3 [some (vr (some (5, this))), some (vi v1), some (vi v2), some (vi v3), some (vi v4), none, none] [] M (Qv Q)) (v1 : Int32) (v2 : Int32) (v3 : Int32) (v4 : Int32) (M : Mem) (h : wk_World_lookInFaces_j123 K this Q k3 v1 v2 v3 v4 M) : E γ k_World_lookInFaces (d + 1) 123 [some (vr (some (5, this))), some (vi v1), some (vi v2), some (vi v3), some (vi v4), none, none] [] M (Qv Q) := by
  unfold wk_World_lookInFaces_j123 at h
  refine E_blk (lv' := [some (vr (some (5, this))), some (vi v1), some (vi v2), some (vi v3), some (vi (v4 + (1 : Int32))), none, none]) (st' := []) (M1 := M) (pc' := 126) (tb_World hγ) [.iinc 4 1] (by decide +kernel) rfl rfl trivial ?_
  refine E_goto (off := -123) (tgt := 3) (by decide +kernel) (by decide) ?_
  refine E_mask [true, true, true, true, true, false, false] rfl ?_
  exact hk3 v1 v2 v3 (v4 + (1 : Int32)) M h
set_option maxRecDepth 4096 in
theorem lkk_World_lookInFaces_j115 {γ : Gm} (hγ : Gk γ) {d0 d : Nat} (K : Nat → Int32 → Int32 → Int32 → (Mem → Prop) → Mem → Prop) (hK : ∀ (this : Nat) (a1 : Int32) (a2 : Int32) (a3 : Int32) (Q : Mem → Prop) (M : Mem), K this a1 a2 a3 Q M → ∀ d, d0 ≤ d → E γ k_World_lookInFaces d 0 [some (vr (some (5, this))), some (vi a1), some (vi a2), some (vi a3), none, none, none] [] M (Qv Q)) (hd : d0 ≤ d) (hb : 3 ≤ d) (this : Nat) (Q : Mem → Prop) (k3 : Int32 → Int32 → Int32 → Int32 → Mem → Prop) (hk3 : ∀ (v1 : Int32) (v2 : Int32) (v3 : Int32) (v4 : Int32) (M : Mem), k3 v1 v2 v3 v4 M → E γ k_World_lookInFaces (d + 1) 3 [some (vr (some (5, this))), some (vi v1), some (vi v2), some (vi v3), some (vi v4), none, none] [] M (Qv Q)) (v1 : Int32) (v2 : Int32) (v3 : Int32) (v4 : Int32) (v5 : Int32) (M : Mem) (h : wk_World_lookInFaces_j115 K this Q k3 v1 v2 v3 v4 v5 M) : E γ k_World_lookInFaces (d + 1) 115 [some (vr (some (5, this))), some (vi v1), some (vi v2), some (vi v3), some (vi v4), some (vi v5), none] [] M (Qv Q) := by
  unfold wk_World_lookInFaces_j115 at h
  refine E_blk (lv' := [some (vr (some (5, this))), some (vi v1), some (vi v2), some (vi v3), some (vi v4), some (vi v5), none]) (st' := [vi v3, vi v2, vi v5, vr (some (5, this))]) (M1 := M) (pc' := 120) (tb_World hγ) [.aload_n 0, .iload 5, .iload_n 2, .iload_n 3] (by decide +kernel) rfl rfl trivial ?_
  refine E_callV (κ' := k_World_lookInFaces) (As := [vi v5, vi v2, vi v3]) (st := []) mv_World_lookInFaces (Or.inl (tbk_mem (j := 8) (k := 181) rfl)) rfl (by decide +kernel) (Nat.le_of_ble_eq_true rfl) (Nat.le_of_ble_eq_true rfl) rfl (by omega) (hK this v5 v2 v3 _ M h (d + 0) (by omega)) (fun _ _ => Qv_r) (fun v M12 hp => Qv_k (R := fun st => E γ k_World_lookInFaces (d + 1) 123 [some (vr (some (5, this))), some (vi v1), some (vi v2), some (vi v3), some (vi v4), some (vi v5), none] st M12 (Qv Q)) hp (fun h => ?_))
  refine E_mask [true, true, true, true, true, false, false] rfl ?_
  exact lkk_World_lookInFaces_j123 hγ K hK hd hb this Q k3 hk3 v1 v2 v3 v4 M12 h
set_option maxRecDepth 4096 in
theorem lkk_World_lookInFaces_j109 {γ : Gm} (hγ : Gk γ) {d0 d : Nat} (K : Nat → Int32 → Int32 → Int32 → (Mem → Prop) → Mem → Prop) (hK : ∀ (this : Nat) (a1 : Int32) (a2 : Int32) (a3 : Int32) (Q : Mem → Prop) (M : Mem), K this a1 a2 a3 Q M → ∀ d, d0 ≤ d → E γ k_World_lookInFaces d 0 [some (vr (some (5, this))), some (vi a1), some (vi a2), some (vi a3), none, none, none] [] M (Qv Q)) (hd : d0 ≤ d) (hb : 3 ≤ d) (this : Nat) (Q : Mem → Prop) (k3 : Int32 → Int32 → Int32 → Int32 → Mem → Prop) (hk3 : ∀ (v1 : Int32) (v2 : Int32) (v3 : Int32) (v4 : Int32) (M : Mem), k3 v1 v2 v3 v4 M → E γ k_World_lookInFaces (d + 1) 3 [some (vr (some (5, this))), some (vi v1), some (vi v2), some (vi v3), some (vi v4), none, none] [] M (Qv Q)) (v1 : Int32) (v2 : Int32) (v3 : Int32) (v4 : Int32) (v5 : Int32) (v6 : Int32) (M : Mem) (h : wk_World_lookInFaces_j109 K this Q k3 v1 v2 v3 v4 v5 v6 M) : E γ k_World_lookInFaces (d + 1) 109 [some (vr (some (5, this))), some (vi v1), some (vi v2), some (vi v3), some (vi v4), some (vi v5), some (vi v6)] [] M (Qv Q) := by
  unfold wk_World_lookInFaces_j109 at h
  refine E_blk (lv' := [some (vr (some (5, this))), some (vi v1), some (vi v2), some (vi v3), some (vi v4), some (vi v5), some (vi v6)]) (st' := []) (M1 := (sI M 5 this 62 v6)) (pc' := 115) (tb_World hγ) [.aload_n 0, .iload 6, .putfield 320] (by decide +kernel) rfl rfl trivial ?_
  refine E_mask [true, true, true, true, true, true, false] rfl ?_
  exact lkk_World_lookInFaces_j115 hγ K hK hd hb this Q k3 hk3 v1 v2 v3 v4 v5 (sI M 5 this 62 v6) h
set_option maxRecDepth 4096 in
theorem lkk_World_lookInFaces_L3 {γ : Gm} (hγ : Gk γ) {d0 d : Nat} (K : Nat → Int32 → Int32 → Int32 → (Mem → Prop) → Mem → Prop) (hK : ∀ (this : Nat) (a1 : Int32) (a2 : Int32) (a3 : Int32) (Q : Mem → Prop) (M : Mem), K this a1 a2 a3 Q M → ∀ d, d0 ≤ d → E γ k_World_lookInFaces d 0 [some (vr (some (5, this))), some (vi a1), some (vi a2), some (vi a3), none, none, none] [] M (Qv Q)) (hd : d0 ≤ d) (hb : 3 ≤ d) (this : Nat) (Q : Mem → Prop) : ∀ (n : Nat) (v1 : Int32) (v2 : Int32) (v3 : Int32) (v4 : Int32) (M : Mem), wk_World_lookInFaces_L3 K this Q n v1 v2 v3 v4 M → E γ k_World_lookInFaces (d + 1) 3 [some (vr (some (5, this))), some (vi v1), some (vi v2), some (vi v3), some (vi v4), none, none] [] M (Qv Q) := by
  intro n
  induction n with
  | zero => intro v1 v2 v3 v4 M h; exact h.elim
  | succ n ih =>
    intro v1 v2 v3 v4 M h
    unfold wk_World_lookInFaces_L3 at h
    obtain ⟨c1, h⟩ := h
    refine E_blk (lv' := [some (vr (some (5, this))), some (vi v1), some (vi v2), some (vi v3), some (vi v4), none, none]) (st' := [vi (mI M 39 this v1.toNatClampNeg), vi v4]) (M1 := M) (pc' := 11) (tb_World hγ) [.iload 4, .aload_n 0, .getfield 29, .iload_n 1, .iaload] (by decide +kernel) rfl rfl ⟨c1, trivial⟩ ?_
    refine E_icmp_ge (off := 118) (tgt := 129) (by decide +kernel) (by decide) (fun b2 => ?_) (fun b2 => ?_)
    · rw [if_pos b2] at h
      exact E_vret rfl (by decide +kernel) h
    · rw [if_neg b2] at h
      obtain ⟨c3, h⟩ := h
      refine E_blk (lv' := [some (vr (some (5, this))), some (vi v1), some (vi v2), some (vi v3), some (vi v4), none, none]) (st' := [vi (mI M 38 this (((4 : Int32) * v1) + v4).toNatClampNeg), vr (some (5, this))]) (M1 := M) (pc' := 26) (tb_World hγ) [.aload_n 0, .aload_n 0, .getfield 26, .iconst 4, .iload_n 1, .imul, .iload 4, .iadd, .iaload] (by decide +kernel) rfl rfl ⟨c3, trivial⟩ ?_
      refine E_callV (κ' := k_World_find) (As := [vi (mI M 38 this (((4 : Int32) * v1) + v4).toNatClampNeg)]) (st := []) mv_World_find (Or.inl (tbk_mem (j := 7) (k := 89) rfl)) rfl (by decide +kernel) (Nat.le_of_ble_eq_true rfl) (Nat.le_of_ble_eq_true rfl) rfl (by omega) (lk_World_find hγ this (mI M 38 this (((4 : Int32) * v1) + v4).toNatClampNeg) _ M h) (fun _ _ => Qi_r) (fun v M4 hp => Qi_k (R := fun st => E γ k_World_lookInFaces (d + 1) 29 [some (vr (some (5, this))), some (vi v1), some (vi v2), some (vi v3), some (vi v4), none, none] st M4 (Qv Q)) hp (fun r5 h => ?_))
      obtain ⟨c6, h⟩ := h
      refine E_blk (lv' := [some (vr (some (5, this))), some (vi v1), some (vi v2), some (vi v3), some (vi v4), some (vi r5), none]) (st' := [vi (mI M4 5 this 61), vi (mI M4 77 this r5.toNatClampNeg)]) (M1 := M4) (pc' := 42) (tb_World hγ) [.istore 5, .aload_n 0, .getfield 123, .iload 5, .iaload, .aload_n 0, .getfield 240] (by decide +kernel) rfl rfl ⟨c6, trivial⟩ ?_
      refine E_icmp_ne (off := 6) (tgt := 48) (by decide +kernel) (by decide) (fun b7 => ?_) (fun b7 => ?_)
      · rw [if_pos b7] at h
        refine E_goto (off := 78) (tgt := 123) (by decide +kernel) (by decide) ?_
        refine E_mask [true, true, true, true, true, false, false] rfl ?_
        exact lkk_World_lookInFaces_j123 hγ K hK hd hb this Q (wk_World_lookInFaces_L3 K this Q n) ih v1 v2 v3 v4 M4 h
      · rw [if_neg b7] at h
        obtain ⟨c8, h⟩ := h
        refine E_blk (lv' := [some (vr (some (5, this))), some (vi v1), some (vi v2), some (vi v3), some (vi v4), some (vi r5), none]) (st' := [vi v3, vi v2, vi r5, vr (some (5, this))]) (M1 := (sI M4 77 this r5.toNatClampNeg (mI M4 5 this 61))) (pc' := 64) (tb_World hγ) [.aload_n 0, .getfield 123, .iload 5, .aload_n 0, .getfield 240, .iastore, .aload_n 0, .iload 5, .iload_n 2, .iload_n 3] (by decide +kernel) rfl rfl ⟨c8, trivial⟩ ?_
        refine E_callV (κ' := k_World_ownLike) (As := [vi r5, vi v2, vi v3]) (st := []) mv_World_ownLike (Or.inl (tbk_mem (j := 8) (k := 175) rfl)) rfl (by decide +kernel) (Nat.le_of_ble_eq_true rfl) (Nat.le_of_ble_eq_true rfl) rfl (by omega) (lk_World_ownLike hγ this r5 v2 v3 _ (sI M4 77 this r5.toNatClampNeg (mI M4 5 this 61)) h) (fun _ _ => Qi_r) (fun v M9 hp => Qi_k (R := fun st => E γ k_World_lookInFaces (d + 1) 67 [some (vr (some (5, this))), some (vi v1), some (vi v2), some (vi v3), some (vi v4), some (vi r5), none] st M9 (Qv Q)) hp (fun r10 h => ?_))
        refine E_blk (lv' := [some (vr (some (5, this))), some (vi v1), some (vi v2), some (vi v3), some (vi v4), some (vi r5), some (vi r10)]) (st' := [vi r10]) (M1 := M9) (pc' := 71) (tb_World hγ) [.istore 6, .iload 6] (by decide +kernel) rfl rfl trivial ?_
        refine E_if_lt (off := 44) (tgt := 115) (by decide +kernel) (by decide) (fun b11 => ?_) (fun b11 => ?_)
        · rw [if_pos b11] at h
          refine E_mask [true, true, true, true, true, true, false] rfl ?_
          exact lkk_World_lookInFaces_j115 hγ K hK hd hb this Q (wk_World_lookInFaces_L3 K this Q n) ih v1 v2 v3 v4 r5 M9 h
        · rw [if_neg b11] at h
          refine E_blk (lv' := [some (vr (some (5, this))), some (vi v1), some (vi v2), some (vi v3), some (vi v4), some (vi r5), some (vi r10)]) (st' := [vi (mI M9 5 this 62)]) (M1 := M9) (pc' := 78) (tb_World hγ) [.aload_n 0, .getfield 320] (by decide +kernel) rfl rfl trivial ?_
          refine E_if_lt (off := 31) (tgt := 109) (by decide +kernel) (by decide) (fun b13 => ?_) (fun b13 => ?_)
          · rw [if_pos b13] at h
            refine E_mask [true, true, true, true, true, true, true] rfl ?_
            exact lkk_World_lookInFaces_j109 hγ K hK hd hb this Q (wk_World_lookInFaces_L3 K this Q n) ih v1 v2 v3 v4 r5 r10 M9 h
          · rw [if_neg b13] at h
            obtain ⟨c14, h⟩ := h
            refine E_blk (lv' := [some (vr (some (5, this))), some (vi v1), some (vi v2), some (vi v3), some (vi v4), some (vi r5), some (vi r10)]) (st' := [vi ((mI M9 57 this (mI M9 5 this 62).toNatClampNeg) &&& (8 : Int32))]) (M1 := M9) (pc' := 93) (tb_World hγ) [.aload_n 0, .getfield 93, .aload_n 0, .getfield 320, .iaload, .bipush 8, .iand] (by decide +kernel) rfl rfl ⟨c14, trivial⟩ ?_
            refine E_if_eq (off := 22) (tgt := 115) (by decide +kernel) (by decide) (fun b15 => ?_) (fun b15 => ?_)
            · rw [if_pos b15] at h
              refine E_mask [true, true, true, true, true, true, false] rfl ?_
              exact lkk_World_lookInFaces_j115 hγ K hK hd hb this Q (wk_World_lookInFaces_L3 K this Q n) ih v1 v2 v3 v4 r5 M9 h
            · rw [if_neg b15] at h
              obtain ⟨c16, h⟩ := h
              refine E_blk (lv' := [some (vr (some (5, this))), some (vi v1), some (vi v2), some (vi v3), some (vi v4), some (vi r5), some (vi r10)]) (st' := [vi ((mI M9 57 this r10.toNatClampNeg) &&& (8 : Int32))]) (M1 := M9) (pc' := 106) (tb_World hγ) [.aload_n 0, .getfield 93, .iload 6, .iaload, .bipush 8, .iand] (by decide +kernel) rfl rfl ⟨c16, trivial⟩ ?_
              refine E_if_ne (off := 9) (tgt := 115) (by decide +kernel) (by decide) (fun b17 => ?_) (fun b17 => ?_)
              · rw [if_pos b17] at h
                refine E_mask [true, true, true, true, true, true, true] rfl ?_
                exact lkk_World_lookInFaces_j109 hγ K hK hd hb this Q (wk_World_lookInFaces_L3 K this Q n) ih v1 v2 v3 v4 r5 r10 M9 h
              · rw [if_neg b17] at h
                refine E_mask [true, true, true, true, true, true, false] rfl ?_
                exact lkk_World_lookInFaces_j115 hγ K hK hd hb this Q (wk_World_lookInFaces_L3 K this Q n) ih v1 v2 v3 v4 r5 M9 h
set_option maxRecDepth 4096 in
theorem lkk_World_lookInFaces {γ : Gm} (hγ : Gk γ) {d0 d : Nat} (K : Nat → Int32 → Int32 → Int32 → (Mem → Prop) → Mem → Prop) (hK : ∀ (this : Nat) (a1 : Int32) (a2 : Int32) (a3 : Int32) (Q : Mem → Prop) (M : Mem), K this a1 a2 a3 Q M → ∀ d, d0 ≤ d → E γ k_World_lookInFaces d 0 [some (vr (some (5, this))), some (vi a1), some (vi a2), some (vi a3), none, none, none] [] M (Qv Q)) (hd : d0 ≤ d) (hb : 3 ≤ d) (this : Nat) (a1 : Int32) (a2 : Int32) (a3 : Int32) (Q : Mem → Prop) (M : Mem) (h : wk_World_lookInFaces K this a1 a2 a3 Q M) : E γ k_World_lookInFaces (d + 1) 0 [some (vr (some (5, this))), some (vi a1), some (vi a2), some (vi a3), none, none, none] [] M (Qv Q) := by
  unfold wk_World_lookInFaces at h
  refine E_blk (lv' := [some (vr (some (5, this))), some (vi a1), some (vi a2), some (vi a3), some (vi (0 : Int32)), none, none]) (st' := []) (M1 := M) (pc' := 3) (tb_World hγ) [.iconst 0, .istore 4] (by decide +kernel) rfl rfl trivial ?_
  obtain ⟨n18, h⟩ := h
  refine E_mask [true, true, true, true, true, false, false] rfl ?_
  exact lkk_World_lookInFaces_L3 hγ K hK hd hb this Q n18 a1 a2 a3 (0 : Int32) M h
theorem lkr_World_lookInFaces {γ : Gm} (hγ : Gk γ) : ∀ (n : Nat) (this : Nat) (a1 : Int32) (a2 : Int32) (a3 : Int32) (Q : Mem → Prop) (M : Mem), wr_World_lookInFaces n this a1 a2 a3 Q M → ∀ d, 3 + 1 * n ≤ d → E γ k_World_lookInFaces d 0 [some (vr (some (5, this))), some (vi a1), some (vi a2), some (vi a3), none, none, none] [] M (Qv Q) := by
  intro n
  induction n with
  | zero => intro this a1 a2 a3 Q M h; exact h.elim
  | succ n ih =>
    intro this a1 a2 a3 Q M h d hd
    obtain ⟨e, rfl⟩ : ∃ e, d = e + 1 := ⟨d - 1, by omega⟩
    exact lkk_World_lookInFaces hγ (d0 := 3 + 1 * n) (d := e) (wr_World_lookInFaces n) ih (by omega) (by omega) this a1 a2 a3 Q M h
theorem lk_World_lookInFaces {γ : Gm} (hγ : Gk γ) (this : Nat) (a1 : Int32) (a2 : Int32) (a3 : Int32) (Q : Mem → Prop) (M : Mem) (h : w_World_lookInFaces this a1 a2 a3 Q M) : E γ k_World_lookInFaces 63 0 [some (vr (some (5, this))), some (vi a1), some (vi a2), some (vi a3), none, none, none] [] M (Qv Q) := by
  obtain ⟨n, hn, h⟩ := h
  exact lkr_World_lookInFaces hγ n this a1 a2 a3 Q M h _ (by omega)
def w_World_method_L50 (this : Nat) (Q : Int32 → Mem → Prop) : Nat → Int32 → Int32 → Int32 → Mem → Prop
  | 0, _, _, _, _ => False
  | n + 1, v2, v3, v4, M => if v4 < 0 then (Q (mI M 5 this 62) M) else (w_World_lookInFaces this v4 v2 v3 (fun M4 => w_World_up this v4 (fun r6 M5 => (w_World_method_L50 this Q n) v2 v3 r6 M5) M4) M)
def w_World_method_L3 (this : Nat) (Q : Int32 → Mem → Prop) : Nat → Int32 → Int32 → Int32 → Int32 → Mem → Prop
  | 0, _, _, _, _, _ => False
  | n + 1, v1, v2, v3, v4, M => if v4 < 0 then (w_World_nextStamp this (fun M2 => ∃ n7 : Nat, w_World_method_L50 this Q n7 v2 v3 v1 M2) (sI M 5 this 62 (-2 : Int32))) else (w_World_ownLike this v4 v2 v3 (fun r9 M8 => if r9 < 0 then (w_World_up this v4 (fun r12 M11 => (w_World_method_L3 this Q n) v1 v2 v3 r12 M11) M8) else (Q r9 M8)) M)
def w_World_method (this : Nat) (a1 : Int32) (a2 : Int32) (a3 : Int32) (Q : Int32 → Mem → Prop) (M : Mem) : Prop :=
  ∃ n13 : Nat, w_World_method_L3 this Q n13 a1 a2 a3 a1 M
set_option maxRecDepth 4096 in
theorem lk_World_method_L50 {γ : Gm} (hγ : Gk γ) (this : Nat) (Q : Int32 → Mem → Prop) : ∀ (n : Nat) (v2 : Int32) (v3 : Int32) (v4 : Int32) (M : Mem), w_World_method_L50 this Q n v2 v3 v4 M → E γ k_World_method 64 50 [some (vr (some (5, this))), none, some (vi v2), some (vi v3), some (vi v4), none] [] M (Qi Q) := by
  intro n
  induction n with
  | zero => intro v2 v3 v4 M h; exact h.elim
  | succ n ih =>
    intro v2 v3 v4 M h
    unfold w_World_method_L50 at h
    refine E_blk (lv' := [some (vr (some (5, this))), none, some (vi v2), some (vi v3), some (vi v4), none]) (st' := [vi v4]) (M1 := M) (pc' := 52) (tb_World hγ) [.iload 4] (by decide +kernel) rfl rfl trivial ?_
    refine E_if_lt (off := 22) (tgt := 74) (by decide +kernel) (by decide) (fun b3 => ?_) (fun b3 => ?_)
    · rw [if_pos b3] at h
      refine E_blk (lv' := [some (vr (some (5, this))), none, some (vi v2), some (vi v3), some (vi v4), none]) (st' := [vi (mI M 5 this 62)]) (M1 := M) (pc' := 78) (tb_World hγ) [.aload_n 0, .getfield 320] (by decide +kernel) rfl rfl trivial ?_
      exact E_iret rfl (by decide +kernel) h
    · rw [if_neg b3] at h
      refine E_blk (lv' := [some (vr (some (5, this))), none, some (vi v2), some (vi v3), some (vi v4), none]) (st' := [vi v3, vi v2, vi v4, vr (some (5, this))]) (M1 := M) (pc' := 60) (tb_World hγ) [.aload_n 0, .iload 4, .iload_n 2, .iload_n 3] (by decide +kernel) rfl rfl trivial ?_
      refine E_callV (κ' := k_World_lookInFaces) (As := [vi v4, vi v2, vi v3]) (st := []) mv_World_lookInFaces (Or.inl (tbk_mem (j := 8) (k := 181) rfl)) rfl (by decide +kernel) (Nat.le_of_ble_eq_true rfl) (Nat.le_of_ble_eq_true rfl) rfl (by decide) (lk_World_lookInFaces hγ this v4 v2 v3 _ M h) (fun _ _ => Qv_r) (fun v M4 hp => Qv_k (R := fun st => E γ k_World_method 64 63 [some (vr (some (5, this))), none, some (vi v2), some (vi v3), some (vi v4), none] st M4 (Qi Q)) hp (fun h => ?_))
      refine E_blk (lv' := [some (vr (some (5, this))), none, some (vi v2), some (vi v3), some (vi v4), none]) (st' := [vi v4, vr (some (5, this))]) (M1 := M4) (pc' := 66) (tb_World hγ) [.aload_n 0, .iload 4] (by decide +kernel) rfl rfl trivial ?_
      refine E_callV (κ' := k_World_up) (As := [vi v4]) (st := []) mv_World_up (Or.inl (tbk_mem (j := 7) (k := 93) rfl)) rfl (by decide +kernel) (Nat.le_of_ble_eq_true rfl) (Nat.le_of_ble_eq_true rfl) rfl (by decide) (lk_World_up hγ this v4 _ M4 h) (fun _ _ => Qi_r) (fun v M5 hp => Qi_k (R := fun st => E γ k_World_method 64 69 [some (vr (some (5, this))), none, some (vi v2), some (vi v3), some (vi v4), none] st M5 (Qi Q)) hp (fun r6 h => ?_))
      refine E_blk (lv' := [some (vr (some (5, this))), none, some (vi v2), some (vi v3), some (vi r6), none]) (st' := []) (M1 := M5) (pc' := 71) (tb_World hγ) [.istore 4] (by decide +kernel) rfl rfl trivial ?_
      refine E_goto (off := -21) (tgt := 50) (by decide +kernel) (by decide) ?_
      refine E_mask [true, false, true, true, true, false] rfl ?_
      exact ih v2 v3 r6 M5 h
set_option maxRecDepth 4096 in
theorem lk_World_method_L3 {γ : Gm} (hγ : Gk γ) (this : Nat) (Q : Int32 → Mem → Prop) : ∀ (n : Nat) (v1 : Int32) (v2 : Int32) (v3 : Int32) (v4 : Int32) (M : Mem), w_World_method_L3 this Q n v1 v2 v3 v4 M → E γ k_World_method 64 3 [some (vr (some (5, this))), some (vi v1), some (vi v2), some (vi v3), some (vi v4), none] [] M (Qi Q) := by
  intro n
  induction n with
  | zero => intro v1 v2 v3 v4 M h; exact h.elim
  | succ n ih =>
    intro v1 v2 v3 v4 M h
    unfold w_World_method_L3 at h
    refine E_blk (lv' := [some (vr (some (5, this))), some (vi v1), some (vi v2), some (vi v3), some (vi v4), none]) (st' := [vi v4]) (M1 := M) (pc' := 5) (tb_World hγ) [.iload 4] (by decide +kernel) rfl rfl trivial ?_
    refine E_if_lt (off := 32) (tgt := 37) (by decide +kernel) (by decide) (fun b1 => ?_) (fun b1 => ?_)
    · rw [if_pos b1] at h
      refine E_blk (lv' := [some (vr (some (5, this))), some (vi v1), some (vi v2), some (vi v3), some (vi v4), none]) (st' := [vr (some (5, this))]) (M1 := (sI M 5 this 62 (-2 : Int32))) (pc' := 44) (tb_World hγ) [.aload_n 0, .bipush (.negSucc 1), .putfield 320, .aload_n 0] (by decide +kernel) rfl rfl trivial ?_
      refine E_callV (κ' := k_World_nextStamp) (As := []) (st := []) mv_World_nextStamp (Or.inl (tbk_mem (j := 8) (k := 176) rfl)) rfl (by decide +kernel) (Nat.le_of_ble_eq_true rfl) (Nat.le_of_ble_eq_true rfl) rfl (by decide) (lk_World_nextStamp hγ this _ (sI M 5 this 62 (-2 : Int32)) h) (fun _ _ => Qv_r) (fun v M2 hp => Qv_k (R := fun st => E γ k_World_method 64 47 [some (vr (some (5, this))), some (vi v1), some (vi v2), some (vi v3), some (vi v4), none] st M2 (Qi Q)) hp (fun h => ?_))
      refine E_blk (lv' := [some (vr (some (5, this))), some (vi v1), some (vi v2), some (vi v3), some (vi v1), none]) (st' := []) (M1 := M2) (pc' := 50) (tb_World hγ) [.iload_n 1, .istore 4] (by decide +kernel) rfl rfl trivial ?_
      obtain ⟨n7, h⟩ := h
      refine E_mask [true, false, true, true, true, false] rfl ?_
      exact lk_World_method_L50 hγ this Q n7 v2 v3 v1 M2 h
    · rw [if_neg b1] at h
      refine E_blk (lv' := [some (vr (some (5, this))), some (vi v1), some (vi v2), some (vi v3), some (vi v4), none]) (st' := [vi v3, vi v2, vi v4, vr (some (5, this))]) (M1 := M) (pc' := 13) (tb_World hγ) [.aload_n 0, .iload 4, .iload_n 2, .iload_n 3] (by decide +kernel) rfl rfl trivial ?_
      refine E_callV (κ' := k_World_ownLike) (As := [vi v4, vi v2, vi v3]) (st := []) mv_World_ownLike (Or.inl (tbk_mem (j := 8) (k := 175) rfl)) rfl (by decide +kernel) (Nat.le_of_ble_eq_true rfl) (Nat.le_of_ble_eq_true rfl) rfl (by decide) (lk_World_ownLike hγ this v4 v2 v3 _ M h) (fun _ _ => Qi_r) (fun v M8 hp => Qi_k (R := fun st => E γ k_World_method 64 16 [some (vr (some (5, this))), some (vi v1), some (vi v2), some (vi v3), some (vi v4), none] st M8 (Qi Q)) hp (fun r9 h => ?_))
      refine E_blk (lv' := [some (vr (some (5, this))), some (vi v1), some (vi v2), some (vi v3), some (vi v4), some (vi r9)]) (st' := [vi r9]) (M1 := M8) (pc' := 20) (tb_World hγ) [.istore 5, .iload 5] (by decide +kernel) rfl rfl trivial ?_
      refine E_if_lt (off := 6) (tgt := 26) (by decide +kernel) (by decide) (fun b10 => ?_) (fun b10 => ?_)
      · rw [if_pos b10] at h
        refine E_blk (lv' := [some (vr (some (5, this))), some (vi v1), some (vi v2), some (vi v3), some (vi v4), some (vi r9)]) (st' := [vi v4, vr (some (5, this))]) (M1 := M8) (pc' := 29) (tb_World hγ) [.aload_n 0, .iload 4] (by decide +kernel) rfl rfl trivial ?_
        refine E_callV (κ' := k_World_up) (As := [vi v4]) (st := []) mv_World_up (Or.inl (tbk_mem (j := 7) (k := 93) rfl)) rfl (by decide +kernel) (Nat.le_of_ble_eq_true rfl) (Nat.le_of_ble_eq_true rfl) rfl (by decide) (lk_World_up hγ this v4 _ M8 h) (fun _ _ => Qi_r) (fun v M11 hp => Qi_k (R := fun st => E γ k_World_method 64 32 [some (vr (some (5, this))), some (vi v1), some (vi v2), some (vi v3), some (vi v4), some (vi r9)] st M11 (Qi Q)) hp (fun r12 h => ?_))
        refine E_blk (lv' := [some (vr (some (5, this))), some (vi v1), some (vi v2), some (vi v3), some (vi r12), some (vi r9)]) (st' := []) (M1 := M11) (pc' := 34) (tb_World hγ) [.istore 4] (by decide +kernel) rfl rfl trivial ?_
        refine E_goto (off := -31) (tgt := 3) (by decide +kernel) (by decide) ?_
        refine E_mask [true, true, true, true, true, false] rfl ?_
        exact ih v1 v2 v3 r12 M11 h
      · rw [if_neg b10] at h
        refine E_blk (lv' := [some (vr (some (5, this))), some (vi v1), some (vi v2), some (vi v3), some (vi v4), some (vi r9)]) (st' := [vi r9]) (M1 := M8) (pc' := 25) (tb_World hγ) [.iload 5] (by decide +kernel) rfl rfl trivial ?_
        exact E_iret rfl (by decide +kernel) h
set_option maxRecDepth 4096 in
theorem lk_World_method {γ : Gm} (hγ : Gk γ) (this : Nat) (a1 : Int32) (a2 : Int32) (a3 : Int32) (Q : Int32 → Mem → Prop) (M : Mem) (h : w_World_method this a1 a2 a3 Q M) : E γ k_World_method 64 0 [some (vr (some (5, this))), some (vi a1), some (vi a2), some (vi a3), none, none] [] M (Qi Q) := by
  unfold w_World_method at h
  refine E_blk (lv' := [some (vr (some (5, this))), some (vi a1), some (vi a2), some (vi a3), some (vi a1), none]) (st' := []) (M1 := M) (pc' := 3) (tb_World hγ) [.iload_n 1, .istore 4] (by decide +kernel) rfl rfl trivial ?_
  obtain ⟨n13, h⟩ := h
  refine E_mask [true, true, true, true, true, false] rfl ?_
  exact lk_World_method_L3 hγ this Q n13 a1 a2 a3 a1 M h
def w_Machine_findMethod_j58 (this : Nat) (Q : Int32 → Mem → Prop)  (M : Mem) : Prop :=
  w_Machine_thrown this (15 : Int32) (56 : Int32) (fun r15 M14 => Q r15 M14) M
def w_Machine_findMethod_j252 (this : Nat) (Q : Int32 → Mem → Prop) (v5 : Int32) (v6 : Int32) (s0 : Int32) (M : Mem) : Prop :=
  if s0 = 0 then (Q v5 M) else (if (v6 &&& (8 : Int32)) = 0 then (Q v5 M) else (w_Machine_thrown this (18 : Int32) (58 : Int32) (fun r31 M30 => Q r31 M30) M))
def w_Machine_findMethod_j247 (this : Nat) (Q : Int32 → Mem → Prop) (v5 : Int32) (v6 : Int32) (M : Mem) : Prop :=
  w_Machine_findMethod_j252 this Q v5 v6 (1 : Int32) M
def w_Machine_findMethod_j216 (this : Nat) (Q : Int32 → Mem → Prop) (v2 : Int32) (v5 : Int32) (v6 : Int32) (s0 : Int32) (s1 : Int32) (M : Mem) : Prop :=
  if s1 = s0 then (if v2 = (52 : Int32) then (w_Machine_findMethod_j247 this Q v5 v6 M) else (if v2 = (51 : Int32) then (w_Machine_findMethod_j247 this Q v5 v6 M) else (if (v6 &&& (4 : Int32)) = 0 then (w_Machine_findMethod_j252 this Q v5 v6 (0 : Int32) M) else (w_Machine_findMethod_j247 this Q v5 v6 M)))) else (w_Machine_thrown this (15 : Int32) (55 : Int32) (fun r35 M34 => Q r35 M34) M)
def w_Machine_findMethod_j205 (this : Nat) (Q : Int32 → Mem → Prop) (v2 : Int32) (v5 : Int32) (v6 : Int32) (s0 : Int32) (M : Mem) : Prop :=
  if v2 = (52 : Int32) then (w_Machine_findMethod_j216 this Q v2 v5 v6 (1 : Int32) s0 M) else (w_Machine_findMethod_j216 this Q v2 v5 v6 (0 : Int32) s0 M)
def w_Machine_findMethod_j193 (this : Nat) (Q : Int32 → Mem → Prop) (v2 : Int32) (v5 : Int32) (v6 : Int32) (M : Mem) : Prop :=
  if (v6 &&& (1 : Int32)) = 0 then (w_Machine_findMethod_j205 this Q v2 v5 v6 (0 : Int32) M) else (w_Machine_findMethod_j205 this Q v2 v5 v6 (1 : Int32) M)
def w_Machine_findMethod_j172 (this : Nat) (Q : Int32 → Mem → Prop) (v2 : Int32) (v5 : Int32) (v6 : Int32) (M : Mem) : Prop :=
  w_World_asks this (53 : Int32) (fun r39 M38 => if r39 = 0 then (w_Machine_findMethod_j193 this Q v2 v5 v6 M38) else (w_Machine_thrown this (14 : Int32) (53 : Int32) (fun r42 M41 => Q r42 M41) M38)) M
def w_Machine_findMethod_j105 (this : Nat) (Q : Int32 → Mem → Prop) (v2 : Int32) (v3 : Int32) (s0 : Int32) (M : Mem) : Prop :=
  if 0 ≤ s0 then (vp_in s0 (mL M 57 this) ∧ if ((mI M 57 this s0.toNatClampNeg) &&& (4 : Int32)) = 0 then (w_Machine_findMethod_j193 this Q v2 s0 (mI M 57 this s0.toNatClampNeg) M) else (if v3 = (-3 : Int32) then (w_Machine_findMethod_j193 this Q v2 s0 (mI M 57 this s0.toNatClampNeg) M) else (if v3 < 0 then (w_Machine_findMethod_j172 this Q v2 s0 (mI M 57 this s0.toNatClampNeg) M) else (vp_in s0 (mL M 55 this) ∧ vp_in v3 (mL M 55 this) ∧ if (mI M 55 this s0.toNatClampNeg) = (mI M 55 this v3.toNatClampNeg) then (w_Machine_findMethod_j193 this Q v2 s0 (mI M 57 this s0.toNatClampNeg) M) else (w_Machine_findMethod_j172 this Q v2 s0 (mI M 57 this s0.toNatClampNeg) M))))) else (w_Machine_thrown this (13 : Int32) (52 : Int32) (fun r47 M46 => Q r47 M46) M)
def w_Machine_findMethod_j67 (this : Nat) (Q : Int32 → Mem → Prop) (v1 : Int32) (v2 : Int32) (v3 : Int32) (v4 : Int32) (M : Mem) : Prop :=
  w_World_refName this v1 (fun r17 M16 => if r17 = (79 : Int32) then (w_World_ownLike this v4 v1 (0 : Int32) (fun r20 M19 => w_Machine_findMethod_j105 this Q v2 v3 r20 M19) M16) else (w_World_method this v4 v1 (0 : Int32) (fun r49 M48 => w_Machine_findMethod_j105 this Q v2 v3 r49 M48) M16)) M
def w_Machine_findMethod_j40 (this : Nat) (Q : Int32 → Mem → Prop) (v1 : Int32) (v2 : Int32) (v3 : Int32) (v4 : Int32) (M : Mem) : Prop :=
  if v2 = (53 : Int32) then (w_World_isFace this v4 (fun r12 M11 => if r12 = 0 then (w_Machine_findMethod_j58 this Q  M11) else (w_Machine_findMethod_j67 this Q v1 v2 v3 v4 M11)) M) else (w_Machine_findMethod_j67 this Q v1 v2 v3 v4 M)
def w_Machine_findMethod (this : Nat) (a1 : Int32) (a2 : Int32) (a3 : Int32) (Q : Int32 → Mem → Prop) (M : Mem) : Prop :=
  w_World_refClass this a1 (fun r2 M1 => w_Machine_linkedClass this r2 (fun r4 M3 => if 0 ≤ r4 then (if a2 = (50 : Int32) then (w_World_isFace this r4 (fun r8 M7 => if r8 = 0 then (w_Machine_findMethod_j40 this Q a1 a2 a3 r4 M7) else (w_Machine_findMethod_j58 this Q  M7)) M3) else (w_Machine_findMethod_j40 this Q a1 a2 a3 r4 M3)) else (Q r4 M3)) M1) M
set_option maxRecDepth 4096 in
theorem lk_Machine_findMethod_j58 {γ : Gm} (hγ : Gk γ) (this : Nat) (Q : Int32 → Mem → Prop)  (M : Mem) (h : w_Machine_findMethod_j58 this Q  M) : E γ k_Machine_findMethod 134 58 [some (vr (some (6, this))), none, none, none, none, none, none, none] [] M (Qi Q) := by
  unfold w_Machine_findMethod_j58 at h
  refine E_blk (lv' := [some (vr (some (6, this))), none, none, none, none, none, none, none]) (st' := [vi (56 : Int32), vi (15 : Int32), vr (some (6, this))]) (M1 := M) (pc' := 63) (tb_Machine hγ) [.aload_n 0, .bipush 15, .bipush 56] (by decide +kernel) rfl rfl trivial ?_
  refine E_callV (κ' := k_Machine_thrown) (As := [vi (15 : Int32), vi (56 : Int32)]) (st := []) mv_Machine_thrown (Or.inl (tbk_mem (j := 8) (k := 149) rfl)) rfl (by decide +kernel) (Nat.le_of_ble_eq_true rfl) (Nat.le_of_ble_eq_true rfl) rfl (by decide) (lk_Machine_thrown hγ this (15 : Int32) (56 : Int32) _ M h) (fun _ _ => Qi_r) (fun v M14 hp => Qi_k (R := fun st => E γ k_Machine_findMethod 134 66 [some (vr (some (6, this))), none, none, none, none, none, none, none] st M14 (Qi Q)) hp (fun r15 h => ?_))
  exact E_iret rfl (by decide +kernel) h
set_option maxRecDepth 4096 in
theorem lk_Machine_findMethod_j252 {γ : Gm} (hγ : Gk γ) (this : Nat) (Q : Int32 → Mem → Prop) (v5 : Int32) (v6 : Int32) (s0 : Int32) (M : Mem) (h : w_Machine_findMethod_j252 this Q v5 v6 s0 M) : E γ k_Machine_findMethod 134 252 [some (vr (some (6, this))), none, none, none, none, some (vi v5), some (vi v6), none] [vi s0] M (Qi Q) := by
  unfold w_Machine_findMethod_j252 at h
  refine E_blk (lv' := [some (vr (some (6, this))), none, none, none, none, some (vi v5), some (vi v6), some (vi s0)]) (st' := [vi s0]) (M1 := M) (pc' := 256) (tb_Machine hγ) [.istore 7, .iload 7] (by decide +kernel) rfl rfl trivial ?_
  refine E_if_eq (off := 22) (tgt := 278) (by decide +kernel) (by decide) (fun b28 => ?_) (fun b28 => ?_)
  · rw [if_pos b28] at h
    refine E_blk (lv' := [some (vr (some (6, this))), none, none, none, none, some (vi v5), some (vi v6), some (vi s0)]) (st' := [vi v5]) (M1 := M) (pc' := 280) (tb_Machine hγ) [.iload 5] (by decide +kernel) rfl rfl trivial ?_
    exact E_iret rfl (by decide +kernel) h
  · rw [if_neg b28] at h
    refine E_blk (lv' := [some (vr (some (6, this))), none, none, none, none, some (vi v5), some (vi v6), some (vi s0)]) (st' := [vi (v6 &&& (8 : Int32))]) (M1 := M) (pc' := 264) (tb_Machine hγ) [.iload 6, .bipush 8, .iand] (by decide +kernel) rfl rfl trivial ?_
    refine E_if_eq (off := 14) (tgt := 278) (by decide +kernel) (by decide) (fun b29 => ?_) (fun b29 => ?_)
    · rw [if_pos b29] at h
      refine E_blk (lv' := [some (vr (some (6, this))), none, none, none, none, some (vi v5), some (vi v6), some (vi s0)]) (st' := [vi v5]) (M1 := M) (pc' := 280) (tb_Machine hγ) [.iload 5] (by decide +kernel) rfl rfl trivial ?_
      exact E_iret rfl (by decide +kernel) h
    · rw [if_neg b29] at h
      refine E_blk (lv' := [some (vr (some (6, this))), none, none, none, none, some (vi v5), some (vi v6), some (vi s0)]) (st' := [vi (58 : Int32), vi (18 : Int32), vr (some (6, this))]) (M1 := M) (pc' := 272) (tb_Machine hγ) [.aload_n 0, .bipush 18, .bipush 58] (by decide +kernel) rfl rfl trivial ?_
      refine E_callV (κ' := k_Machine_thrown) (As := [vi (18 : Int32), vi (58 : Int32)]) (st := []) mv_Machine_thrown (Or.inl (tbk_mem (j := 8) (k := 149) rfl)) rfl (by decide +kernel) (Nat.le_of_ble_eq_true rfl) (Nat.le_of_ble_eq_true rfl) rfl (by decide) (lk_Machine_thrown hγ this (18 : Int32) (58 : Int32) _ M h) (fun _ _ => Qi_r) (fun v M30 hp => Qi_k (R := fun st => E γ k_Machine_findMethod 134 275 [some (vr (some (6, this))), none, none, none, none, some (vi v5), some (vi v6), some (vi s0)] st M30 (Qi Q)) hp (fun r31 h => ?_))
      refine E_goto (off := 5) (tgt := 280) (by decide +kernel) (by decide) ?_
      exact E_iret rfl (by decide +kernel) h
set_option maxRecDepth 4096 in
theorem lk_Machine_findMethod_j247 {γ : Gm} (hγ : Gk γ) (this : Nat) (Q : Int32 → Mem → Prop) (v5 : Int32) (v6 : Int32) (M : Mem) (h : w_Machine_findMethod_j247 this Q v5 v6 M) : E γ k_Machine_findMethod 134 247 [some (vr (some (6, this))), none, none, none, none, some (vi v5), some (vi v6), none] [] M (Qi Q) := by
  unfold w_Machine_findMethod_j247 at h
  refine E_blk (lv' := [some (vr (some (6, this))), none, none, none, none, some (vi v5), some (vi v6), none]) (st' := [vi (1 : Int32)]) (M1 := M) (pc' := 248) (tb_Machine hγ) [.iconst 1] (by decide +kernel) rfl rfl trivial ?_
  refine E_goto (off := 4) (tgt := 252) (by decide +kernel) (by decide) ?_
  refine E_mask [true, false, false, false, false, true, true, false] rfl ?_
  exact lk_Machine_findMethod_j252 hγ this Q v5 v6 (1 : Int32) M h
set_option maxRecDepth 4096 in
theorem lk_Machine_findMethod_j216 {γ : Gm} (hγ : Gk γ) (this : Nat) (Q : Int32 → Mem → Prop) (v2 : Int32) (v5 : Int32) (v6 : Int32) (s0 : Int32) (s1 : Int32) (M : Mem) (h : w_Machine_findMethod_j216 this Q v2 v5 v6 s0 s1 M) : E γ k_Machine_findMethod 134 216 [some (vr (some (6, this))), none, some (vi v2), none, none, some (vi v5), some (vi v6), none] [vi s0, vi s1] M (Qi Q) := by
  unfold w_Machine_findMethod_j216 at h
  refine E_icmp_eq (off := 12) (tgt := 228) (by decide +kernel) (by decide) (fun b26 => ?_) (fun b26 => ?_)
  · rw [if_pos b26] at h
    refine E_blk (lv' := [some (vr (some (6, this))), none, some (vi v2), none, none, some (vi v5), some (vi v6), none]) (st' := [vi (52 : Int32), vi v2]) (M1 := M) (pc' := 231) (tb_Machine hγ) [.iload_n 2, .bipush 52] (by decide +kernel) rfl rfl trivial ?_
    refine E_icmp_eq (off := 16) (tgt := 247) (by decide +kernel) (by decide) (fun b27 => ?_) (fun b27 => ?_)
    · rw [if_pos b27] at h
      refine E_mask [true, false, false, false, false, true, true, false] rfl ?_
      exact lk_Machine_findMethod_j247 hγ this Q v5 v6 M h
    · rw [if_neg b27] at h
      refine E_blk (lv' := [some (vr (some (6, this))), none, some (vi v2), none, none, some (vi v5), some (vi v6), none]) (st' := [vi (51 : Int32), vi v2]) (M1 := M) (pc' := 237) (tb_Machine hγ) [.iload_n 2, .bipush 51] (by decide +kernel) rfl rfl trivial ?_
      refine E_icmp_eq (off := 10) (tgt := 247) (by decide +kernel) (by decide) (fun b32 => ?_) (fun b32 => ?_)
      · rw [if_pos b32] at h
        refine E_mask [true, false, false, false, false, true, true, false] rfl ?_
        exact lk_Machine_findMethod_j247 hγ this Q v5 v6 M h
      · rw [if_neg b32] at h
        refine E_blk (lv' := [some (vr (some (6, this))), none, some (vi v2), none, none, some (vi v5), some (vi v6), none]) (st' := [vi (v6 &&& (4 : Int32))]) (M1 := M) (pc' := 244) (tb_Machine hγ) [.iload 6, .iconst 4, .iand] (by decide +kernel) rfl rfl trivial ?_
        refine E_if_eq (off := 7) (tgt := 251) (by decide +kernel) (by decide) (fun b33 => ?_) (fun b33 => ?_)
        · rw [if_pos b33] at h
          refine E_blk (lv' := [some (vr (some (6, this))), none, some (vi v2), none, none, some (vi v5), some (vi v6), none]) (st' := [vi (0 : Int32)]) (M1 := M) (pc' := 252) (tb_Machine hγ) [.iconst 0] (by decide +kernel) rfl rfl trivial ?_
          refine E_mask [true, false, false, false, false, true, true, false] rfl ?_
          exact lk_Machine_findMethod_j252 hγ this Q v5 v6 (0 : Int32) M h
        · rw [if_neg b33] at h
          refine E_mask [true, false, false, false, false, true, true, false] rfl ?_
          exact lk_Machine_findMethod_j247 hγ this Q v5 v6 M h
  · rw [if_neg b26] at h
    refine E_blk (lv' := [some (vr (some (6, this))), none, some (vi v2), none, none, some (vi v5), some (vi v6), none]) (st' := [vi (55 : Int32), vi (15 : Int32), vr (some (6, this))]) (M1 := M) (pc' := 224) (tb_Machine hγ) [.aload_n 0, .bipush 15, .bipush 55] (by decide +kernel) rfl rfl trivial ?_
    refine E_callV (κ' := k_Machine_thrown) (As := [vi (15 : Int32), vi (55 : Int32)]) (st := []) mv_Machine_thrown (Or.inl (tbk_mem (j := 8) (k := 149) rfl)) rfl (by decide +kernel) (Nat.le_of_ble_eq_true rfl) (Nat.le_of_ble_eq_true rfl) rfl (by decide) (lk_Machine_thrown hγ this (15 : Int32) (55 : Int32) _ M h) (fun _ _ => Qi_r) (fun v M34 hp => Qi_k (R := fun st => E γ k_Machine_findMethod 134 227 [some (vr (some (6, this))), none, some (vi v2), none, none, some (vi v5), some (vi v6), none] st M34 (Qi Q)) hp (fun r35 h => ?_))
    exact E_iret rfl (by decide +kernel) h
set_option maxRecDepth 4096 in
theorem lk_Machine_findMethod_j205 {γ : Gm} (hγ : Gk γ) (this : Nat) (Q : Int32 → Mem → Prop) (v2 : Int32) (v5 : Int32) (v6 : Int32) (s0 : Int32) (M : Mem) (h : w_Machine_findMethod_j205 this Q v2 v5 v6 s0 M) : E γ k_Machine_findMethod 134 205 [some (vr (some (6, this))), none, some (vi v2), none, none, some (vi v5), some (vi v6), none] [vi s0] M (Qi Q) := by
  unfold w_Machine_findMethod_j205 at h
  refine E_blk (lv' := [some (vr (some (6, this))), none, some (vi v2), none, none, some (vi v5), some (vi v6), none]) (st' := [vi (52 : Int32), vi v2, vi s0]) (M1 := M) (pc' := 208) (tb_Machine hγ) [.iload_n 2, .bipush 52] (by decide +kernel) rfl rfl trivial ?_
  refine E_icmp_ne (off := 7) (tgt := 215) (by decide +kernel) (by decide) (fun b25 => ?_) (fun b25 => ?_)
  · rw [if_pos b25] at h
    refine E_blk (lv' := [some (vr (some (6, this))), none, some (vi v2), none, none, some (vi v5), some (vi v6), none]) (st' := [vi (1 : Int32), vi s0]) (M1 := M) (pc' := 212) (tb_Machine hγ) [.iconst 1] (by decide +kernel) rfl rfl trivial ?_
    refine E_goto (off := 4) (tgt := 216) (by decide +kernel) (by decide) ?_
    refine E_mask [true, false, true, false, false, true, true, false] rfl ?_
    exact lk_Machine_findMethod_j216 hγ this Q v2 v5 v6 (1 : Int32) s0 M h
  · rw [if_neg b25] at h
    refine E_blk (lv' := [some (vr (some (6, this))), none, some (vi v2), none, none, some (vi v5), some (vi v6), none]) (st' := [vi (0 : Int32), vi s0]) (M1 := M) (pc' := 216) (tb_Machine hγ) [.iconst 0] (by decide +kernel) rfl rfl trivial ?_
    refine E_mask [true, false, true, false, false, true, true, false] rfl ?_
    exact lk_Machine_findMethod_j216 hγ this Q v2 v5 v6 (0 : Int32) s0 M h
set_option maxRecDepth 4096 in
theorem lk_Machine_findMethod_j193 {γ : Gm} (hγ : Gk γ) (this : Nat) (Q : Int32 → Mem → Prop) (v2 : Int32) (v5 : Int32) (v6 : Int32) (M : Mem) (h : w_Machine_findMethod_j193 this Q v2 v5 v6 M) : E γ k_Machine_findMethod 134 193 [some (vr (some (6, this))), none, some (vi v2), none, none, some (vi v5), some (vi v6), none] [] M (Qi Q) := by
  unfold w_Machine_findMethod_j193 at h
  refine E_blk (lv' := [some (vr (some (6, this))), none, some (vi v2), none, none, some (vi v5), some (vi v6), none]) (st' := [vi (v6 &&& (1 : Int32))]) (M1 := M) (pc' := 197) (tb_Machine hγ) [.iload 6, .iconst 1, .iand] (by decide +kernel) rfl rfl trivial ?_
  refine E_if_eq (off := 7) (tgt := 204) (by decide +kernel) (by decide) (fun b24 => ?_) (fun b24 => ?_)
  · rw [if_pos b24] at h
    refine E_blk (lv' := [some (vr (some (6, this))), none, some (vi v2), none, none, some (vi v5), some (vi v6), none]) (st' := [vi (0 : Int32)]) (M1 := M) (pc' := 205) (tb_Machine hγ) [.iconst 0] (by decide +kernel) rfl rfl trivial ?_
    refine E_mask [true, false, true, false, false, true, true, false] rfl ?_
    exact lk_Machine_findMethod_j205 hγ this Q v2 v5 v6 (0 : Int32) M h
  · rw [if_neg b24] at h
    refine E_blk (lv' := [some (vr (some (6, this))), none, some (vi v2), none, none, some (vi v5), some (vi v6), none]) (st' := [vi (1 : Int32)]) (M1 := M) (pc' := 201) (tb_Machine hγ) [.iconst 1] (by decide +kernel) rfl rfl trivial ?_
    refine E_goto (off := 4) (tgt := 205) (by decide +kernel) (by decide) ?_
    refine E_mask [true, false, true, false, false, true, true, false] rfl ?_
    exact lk_Machine_findMethod_j205 hγ this Q v2 v5 v6 (1 : Int32) M h
set_option maxRecDepth 4096 in
theorem lk_Machine_findMethod_j172 {γ : Gm} (hγ : Gk γ) (this : Nat) (Q : Int32 → Mem → Prop) (v2 : Int32) (v5 : Int32) (v6 : Int32) (M : Mem) (h : w_Machine_findMethod_j172 this Q v2 v5 v6 M) : E γ k_Machine_findMethod 134 172 [some (vr (some (6, this))), none, some (vi v2), none, none, some (vi v5), some (vi v6), none] [] M (Qi Q) := by
  unfold w_Machine_findMethod_j172 at h
  refine E_blk (lv' := [some (vr (some (6, this))), none, some (vi v2), none, none, some (vi v5), some (vi v6), none]) (st' := [vi (53 : Int32), vr (some (5, this))]) (M1 := M) (pc' := 178) (tb_Machine hγ) [.aload_n 0, .getfield 84, .bipush 53] (by decide +kernel) rfl rfl trivial ?_
  refine E_callV (κ' := k_World_asks) (As := [vi (53 : Int32)]) (st := []) mv_World_asks (Or.inl (tbk_mem (j := 8) (k := 185) rfl)) rfl (by decide +kernel) (Nat.le_of_ble_eq_true rfl) (Nat.le_of_ble_eq_true rfl) rfl (by decide) (lk_World_asks hγ this (53 : Int32) _ M h) (fun _ _ => Qi_r) (fun v M38 hp => Qi_k (R := fun st => E γ k_Machine_findMethod 134 181 [some (vr (some (6, this))), none, some (vi v2), none, none, some (vi v5), some (vi v6), none] st M38 (Qi Q)) hp (fun r39 h => ?_))
  refine E_if_eq (off := 12) (tgt := 193) (by decide +kernel) (by decide) (fun b40 => ?_) (fun b40 => ?_)
  · rw [if_pos b40] at h
    refine E_mask [true, false, true, false, false, true, true, false] rfl ?_
    exact lk_Machine_findMethod_j193 hγ this Q v2 v5 v6 M38 h
  · rw [if_neg b40] at h
    refine E_blk (lv' := [some (vr (some (6, this))), none, some (vi v2), none, none, some (vi v5), some (vi v6), none]) (st' := [vi (53 : Int32), vi (14 : Int32), vr (some (6, this))]) (M1 := M38) (pc' := 189) (tb_Machine hγ) [.aload_n 0, .bipush 14, .bipush 53] (by decide +kernel) rfl rfl trivial ?_
    refine E_callV (κ' := k_Machine_thrown) (As := [vi (14 : Int32), vi (53 : Int32)]) (st := []) mv_Machine_thrown (Or.inl (tbk_mem (j := 8) (k := 149) rfl)) rfl (by decide +kernel) (Nat.le_of_ble_eq_true rfl) (Nat.le_of_ble_eq_true rfl) rfl (by decide) (lk_Machine_thrown hγ this (14 : Int32) (53 : Int32) _ M38 h) (fun _ _ => Qi_r) (fun v M41 hp => Qi_k (R := fun st => E γ k_Machine_findMethod 134 192 [some (vr (some (6, this))), none, some (vi v2), none, none, some (vi v5), some (vi v6), none] st M41 (Qi Q)) hp (fun r42 h => ?_))
    exact E_iret rfl (by decide +kernel) h
set_option maxRecDepth 4096 in
theorem lk_Machine_findMethod_j105 {γ : Gm} (hγ : Gk γ) (this : Nat) (Q : Int32 → Mem → Prop) (v2 : Int32) (v3 : Int32) (s0 : Int32) (M : Mem) (h : w_Machine_findMethod_j105 this Q v2 v3 s0 M) : E γ k_Machine_findMethod 134 105 [some (vr (some (6, this))), none, some (vi v2), some (vi v3), none, none, none, none] [vi s0] M (Qi Q) := by
  unfold w_Machine_findMethod_j105 at h
  refine E_blk (lv' := [some (vr (some (6, this))), none, some (vi v2), some (vi v3), none, some (vi s0), none, none]) (st' := [vi s0]) (M1 := M) (pc' := 109) (tb_Machine hγ) [.istore 5, .iload 5] (by decide +kernel) rfl rfl trivial ?_
  refine E_if_ge (off := 12) (tgt := 121) (by decide +kernel) (by decide) (fun b21 => ?_) (fun b21 => ?_)
  · rw [if_pos b21] at h
    obtain ⟨c22, h⟩ := h
    refine E_blk (lv' := [some (vr (some (6, this))), none, some (vi v2), some (vi v3), none, some (vi s0), some (vi (mI M 57 this s0.toNatClampNeg)), none]) (st' := [vi ((mI M 57 this s0.toNatClampNeg) &&& (4 : Int32))]) (M1 := M) (pc' := 137) (tb_Machine hγ) [.aload_n 0, .getfield 84, .getfield 386, .iload 5, .iaload, .istore 6, .iload 6, .iconst 4, .iand] (by decide +kernel) rfl rfl ⟨c22, trivial⟩ ?_
    refine E_if_eq (off := 56) (tgt := 193) (by decide +kernel) (by decide) (fun b23 => ?_) (fun b23 => ?_)
    · rw [if_pos b23] at h
      refine E_mask [true, false, true, false, false, true, true, false] rfl ?_
      exact lk_Machine_findMethod_j193 hγ this Q v2 s0 (mI M 57 this s0.toNatClampNeg) M h
    · rw [if_neg b23] at h
      refine E_blk (lv' := [some (vr (some (6, this))), none, some (vi v2), some (vi v3), none, some (vi s0), some (vi (mI M 57 this s0.toNatClampNeg)), none]) (st' := [vi (-3 : Int32), vi v3]) (M1 := M) (pc' := 143) (tb_Machine hγ) [.iload_n 3, .bipush (.negSucc 2)] (by decide +kernel) rfl rfl trivial ?_
      refine E_icmp_eq (off := 50) (tgt := 193) (by decide +kernel) (by decide) (fun b36 => ?_) (fun b36 => ?_)
      · rw [if_pos b36] at h
        refine E_mask [true, false, true, false, false, true, true, false] rfl ?_
        exact lk_Machine_findMethod_j193 hγ this Q v2 s0 (mI M 57 this s0.toNatClampNeg) M h
      · rw [if_neg b36] at h
        refine E_blk (lv' := [some (vr (some (6, this))), none, some (vi v2), some (vi v3), none, some (vi s0), some (vi (mI M 57 this s0.toNatClampNeg)), none]) (st' := [vi v3]) (M1 := M) (pc' := 147) (tb_Machine hγ) [.iload_n 3] (by decide +kernel) rfl rfl trivial ?_
        refine E_if_lt (off := 25) (tgt := 172) (by decide +kernel) (by decide) (fun b37 => ?_) (fun b37 => ?_)
        · rw [if_pos b37] at h
          refine E_mask [true, false, true, false, false, true, true, false] rfl ?_
          exact lk_Machine_findMethod_j172 hγ this Q v2 s0 (mI M 57 this s0.toNatClampNeg) M h
        · rw [if_neg b37] at h
          obtain ⟨c43, c44, h⟩ := h
          refine E_blk (lv' := [some (vr (some (6, this))), none, some (vi v2), some (vi v3), none, some (vi s0), some (vi (mI M 57 this s0.toNatClampNeg)), none]) (st' := [vi (mI M 55 this v3.toNatClampNeg), vi (mI M 55 this s0.toNatClampNeg)]) (M1 := M) (pc' := 169) (tb_Machine hγ) [.aload_n 0, .getfield 84, .getfield 142, .iload 5, .iaload, .aload_n 0, .getfield 84, .getfield 142, .iload_n 3, .iaload] (by decide +kernel) rfl rfl ⟨c43, c44, trivial⟩ ?_
          refine E_icmp_eq (off := 24) (tgt := 193) (by decide +kernel) (by decide) (fun b45 => ?_) (fun b45 => ?_)
          · rw [if_pos b45] at h
            refine E_mask [true, false, true, false, false, true, true, false] rfl ?_
            exact lk_Machine_findMethod_j193 hγ this Q v2 s0 (mI M 57 this s0.toNatClampNeg) M h
          · rw [if_neg b45] at h
            refine E_mask [true, false, true, false, false, true, true, false] rfl ?_
            exact lk_Machine_findMethod_j172 hγ this Q v2 s0 (mI M 57 this s0.toNatClampNeg) M h
  · rw [if_neg b21] at h
    refine E_blk (lv' := [some (vr (some (6, this))), none, some (vi v2), some (vi v3), none, some (vi s0), none, none]) (st' := [vi (52 : Int32), vi (13 : Int32), vr (some (6, this))]) (M1 := M) (pc' := 117) (tb_Machine hγ) [.aload_n 0, .bipush 13, .bipush 52] (by decide +kernel) rfl rfl trivial ?_
    refine E_callV (κ' := k_Machine_thrown) (As := [vi (13 : Int32), vi (52 : Int32)]) (st := []) mv_Machine_thrown (Or.inl (tbk_mem (j := 8) (k := 149) rfl)) rfl (by decide +kernel) (Nat.le_of_ble_eq_true rfl) (Nat.le_of_ble_eq_true rfl) rfl (by decide) (lk_Machine_thrown hγ this (13 : Int32) (52 : Int32) _ M h) (fun _ _ => Qi_r) (fun v M46 hp => Qi_k (R := fun st => E γ k_Machine_findMethod 134 120 [some (vr (some (6, this))), none, some (vi v2), some (vi v3), none, some (vi s0), none, none] st M46 (Qi Q)) hp (fun r47 h => ?_))
    exact E_iret rfl (by decide +kernel) h
set_option maxRecDepth 4096 in
theorem lk_Machine_findMethod_j67 {γ : Gm} (hγ : Gk γ) (this : Nat) (Q : Int32 → Mem → Prop) (v1 : Int32) (v2 : Int32) (v3 : Int32) (v4 : Int32) (M : Mem) (h : w_Machine_findMethod_j67 this Q v1 v2 v3 v4 M) : E γ k_Machine_findMethod 134 67 [some (vr (some (6, this))), some (vi v1), some (vi v2), some (vi v3), some (vi v4), none, none, none] [] M (Qi Q) := by
  unfold w_Machine_findMethod_j67 at h
  refine E_blk (lv' := [some (vr (some (6, this))), some (vi v1), some (vi v2), some (vi v3), some (vi v4), none, none, none]) (st' := [vi v1, vr (some (5, this))]) (M1 := M) (pc' := 72) (tb_Machine hγ) [.aload_n 0, .getfield 84, .iload_n 1] (by decide +kernel) rfl rfl trivial ?_
  refine E_callV (κ' := k_World_refName) (As := [vi v1]) (st := []) mv_World_refName (Or.inl (tbk_mem (j := 8) (k := 155) rfl)) rfl (by decide +kernel) (Nat.le_of_ble_eq_true rfl) (Nat.le_of_ble_eq_true rfl) rfl (by decide) (lk_World_refName hγ this v1 _ M h) (fun _ _ => Qi_r) (fun v M16 hp => Qi_k (R := fun st => E γ k_Machine_findMethod 134 75 [some (vr (some (6, this))), some (vi v1), some (vi v2), some (vi v3), some (vi v4), none, none, none] st M16 (Qi Q)) hp (fun r17 h => ?_))
  refine E_blk (lv' := [some (vr (some (6, this))), some (vi v1), some (vi v2), some (vi v3), some (vi v4), none, none, none]) (st' := [vi (79 : Int32), vi r17]) (M1 := M16) (pc' := 77) (tb_Machine hγ) [.bipush 79] (by decide +kernel) rfl rfl trivial ?_
  refine E_icmp_ne (off := 17) (tgt := 94) (by decide +kernel) (by decide) (fun b18 => ?_) (fun b18 => ?_)
  · rw [if_pos b18] at h
    refine E_blk (lv' := [some (vr (some (6, this))), some (vi v1), some (vi v2), some (vi v3), some (vi v4), none, none, none]) (st' := [vi (0 : Int32), vi v1, vi v4, vr (some (5, this))]) (M1 := M16) (pc' := 88) (tb_Machine hγ) [.aload_n 0, .getfield 84, .iload 4, .iload_n 1, .iconst 0] (by decide +kernel) rfl rfl trivial ?_
    refine E_callV (κ' := k_World_ownLike) (As := [vi v4, vi v1, vi (0 : Int32)]) (st := []) mv_World_ownLike (Or.inl (tbk_mem (j := 8) (k := 156) rfl)) rfl (by decide +kernel) (Nat.le_of_ble_eq_true rfl) (Nat.le_of_ble_eq_true rfl) rfl (by decide) (lk_World_ownLike hγ this v4 v1 (0 : Int32) _ M16 h) (fun _ _ => Qi_r) (fun v M19 hp => Qi_k (R := fun st => E γ k_Machine_findMethod 134 91 [some (vr (some (6, this))), some (vi v1), some (vi v2), some (vi v3), some (vi v4), none, none, none] st M19 (Qi Q)) hp (fun r20 h => ?_))
    refine E_goto (off := 14) (tgt := 105) (by decide +kernel) (by decide) ?_
    refine E_mask [true, false, true, true, false, false, false, false] rfl ?_
    exact lk_Machine_findMethod_j105 hγ this Q v2 v3 r20 M19 h
  · rw [if_neg b18] at h
    refine E_blk (lv' := [some (vr (some (6, this))), some (vi v1), some (vi v2), some (vi v3), some (vi v4), none, none, none]) (st' := [vi (0 : Int32), vi v1, vi v4, vr (some (5, this))]) (M1 := M16) (pc' := 102) (tb_Machine hγ) [.aload_n 0, .getfield 84, .iload 4, .iload_n 1, .iconst 0] (by decide +kernel) rfl rfl trivial ?_
    refine E_callV (κ' := k_World_method) (As := [vi v4, vi v1, vi (0 : Int32)]) (st := []) mv_World_method (Or.inl (tbk_mem (j := 8) (k := 171) rfl)) rfl (by decide +kernel) (Nat.le_of_ble_eq_true rfl) (Nat.le_of_ble_eq_true rfl) rfl (by decide) (lk_World_method hγ this v4 v1 (0 : Int32) _ M16 h) (fun _ _ => Qi_r) (fun v M48 hp => Qi_k (R := fun st => E γ k_Machine_findMethod 134 105 [some (vr (some (6, this))), some (vi v1), some (vi v2), some (vi v3), some (vi v4), none, none, none] st M48 (Qi Q)) hp (fun r49 h => ?_))
    refine E_mask [true, false, true, true, false, false, false, false] rfl ?_
    exact lk_Machine_findMethod_j105 hγ this Q v2 v3 r49 M48 h
set_option maxRecDepth 4096 in
theorem lk_Machine_findMethod_j40 {γ : Gm} (hγ : Gk γ) (this : Nat) (Q : Int32 → Mem → Prop) (v1 : Int32) (v2 : Int32) (v3 : Int32) (v4 : Int32) (M : Mem) (h : w_Machine_findMethod_j40 this Q v1 v2 v3 v4 M) : E γ k_Machine_findMethod 134 40 [some (vr (some (6, this))), some (vi v1), some (vi v2), some (vi v3), some (vi v4), none, none, none] [] M (Qi Q) := by
  unfold w_Machine_findMethod_j40 at h
  refine E_blk (lv' := [some (vr (some (6, this))), some (vi v1), some (vi v2), some (vi v3), some (vi v4), none, none, none]) (st' := [vi (53 : Int32), vi v2]) (M1 := M) (pc' := 43) (tb_Machine hγ) [.iload_n 2, .bipush 53] (by decide +kernel) rfl rfl trivial ?_
  refine E_icmp_ne (off := 24) (tgt := 67) (by decide +kernel) (by decide) (fun b10 => ?_) (fun b10 => ?_)
  · rw [if_pos b10] at h
    refine E_blk (lv' := [some (vr (some (6, this))), some (vi v1), some (vi v2), some (vi v3), some (vi v4), none, none, none]) (st' := [vi v4, vr (some (5, this))]) (M1 := M) (pc' := 52) (tb_Machine hγ) [.aload_n 0, .getfield 84, .iload 4] (by decide +kernel) rfl rfl trivial ?_
    refine E_callV (κ' := k_World_isFace) (As := [vi v4]) (st := []) mv_World_isFace (Or.inl (tbk_mem (j := 8) (k := 154) rfl)) rfl (by decide +kernel) (Nat.le_of_ble_eq_true rfl) (Nat.le_of_ble_eq_true rfl) rfl (by decide) (lk_World_isFace hγ this v4 _ M h) (fun _ _ => Qi_r) (fun v M11 hp => Qi_k (R := fun st => E γ k_Machine_findMethod 134 55 [some (vr (some (6, this))), some (vi v1), some (vi v2), some (vi v3), some (vi v4), none, none, none] st M11 (Qi Q)) hp (fun r12 h => ?_))
    refine E_if_ne (off := 12) (tgt := 67) (by decide +kernel) (by decide) (fun b13 => ?_) (fun b13 => ?_)
    · rw [if_pos b13] at h
      refine E_mask [true, false, false, false, false, false, false, false] rfl ?_
      exact lk_Machine_findMethod_j58 hγ this Q  M11 h
    · rw [if_neg b13] at h
      refine E_mask [true, true, true, true, true, false, false, false] rfl ?_
      exact lk_Machine_findMethod_j67 hγ this Q v1 v2 v3 v4 M11 h
  · rw [if_neg b10] at h
    refine E_mask [true, true, true, true, true, false, false, false] rfl ?_
    exact lk_Machine_findMethod_j67 hγ this Q v1 v2 v3 v4 M h
set_option maxRecDepth 4096 in
theorem lk_Machine_findMethod {γ : Gm} (hγ : Gk γ) (this : Nat) (a1 : Int32) (a2 : Int32) (a3 : Int32) (Q : Int32 → Mem → Prop) (M : Mem) (h : w_Machine_findMethod this a1 a2 a3 Q M) : E γ k_Machine_findMethod 134 0 [some (vr (some (6, this))), some (vi a1), some (vi a2), some (vi a3), none, none, none, none] [] M (Qi Q) := by
  unfold w_Machine_findMethod at h
  refine E_blk (lv' := [some (vr (some (6, this))), some (vi a1), some (vi a2), some (vi a3), none, none, none, none]) (st' := [vi a1, vr (some (5, this)), vr (some (6, this))]) (M1 := M) (pc' := 6) (tb_Machine hγ) [.aload_n 0, .aload_n 0, .getfield 84, .iload_n 1] (by decide +kernel) rfl rfl trivial ?_
  refine E_callV (κ' := k_World_refClass) (As := [vi a1]) (st := [vr (some (6, this))]) mv_World_refClass (Or.inl (tbk_mem (j := 8) (k := 139) rfl)) rfl (by decide +kernel) (Nat.le_of_ble_eq_true rfl) (Nat.le_of_ble_eq_true rfl) rfl (by decide) (lk_World_refClass hγ this a1 _ M h) (fun _ _ => Qi_r) (fun v M1 hp => Qi_k (R := fun st => E γ k_Machine_findMethod 134 9 [some (vr (some (6, this))), some (vi a1), some (vi a2), some (vi a3), none, none, none, none] st M1 (Qi Q)) hp (fun r2 h => ?_))
  refine E_callV (κ' := k_Machine_linkedClass) (As := [vi r2]) (st := []) mv_Machine_linkedClass (Or.inl (tbk_mem (j := 8) (k := 140) rfl)) rfl (by decide +kernel) (Nat.le_of_ble_eq_true rfl) (Nat.le_of_ble_eq_true rfl) rfl (by decide) (lk_Machine_linkedClass hγ this r2 _ M1 h) (fun _ _ => Qi_r) (fun v M3 hp => Qi_k (R := fun st => E γ k_Machine_findMethod 134 12 [some (vr (some (6, this))), some (vi a1), some (vi a2), some (vi a3), none, none, none, none] st M3 (Qi Q)) hp (fun r4 h => ?_))
  refine E_blk (lv' := [some (vr (some (6, this))), some (vi a1), some (vi a2), some (vi a3), some (vi r4), none, none, none]) (st' := [vi r4]) (M1 := M3) (pc' := 16) (tb_Machine hγ) [.istore 4, .iload 4] (by decide +kernel) rfl rfl trivial ?_
  refine E_if_ge (off := 6) (tgt := 22) (by decide +kernel) (by decide) (fun b5 => ?_) (fun b5 => ?_)
  · rw [if_pos b5] at h
    refine E_blk (lv' := [some (vr (some (6, this))), some (vi a1), some (vi a2), some (vi a3), some (vi r4), none, none, none]) (st' := [vi (50 : Int32), vi a2]) (M1 := M3) (pc' := 25) (tb_Machine hγ) [.iload_n 2, .bipush 50] (by decide +kernel) rfl rfl trivial ?_
    refine E_icmp_ne (off := 15) (tgt := 40) (by decide +kernel) (by decide) (fun b6 => ?_) (fun b6 => ?_)
    · rw [if_pos b6] at h
      refine E_blk (lv' := [some (vr (some (6, this))), some (vi a1), some (vi a2), some (vi a3), some (vi r4), none, none, none]) (st' := [vi r4, vr (some (5, this))]) (M1 := M3) (pc' := 34) (tb_Machine hγ) [.aload_n 0, .getfield 84, .iload 4] (by decide +kernel) rfl rfl trivial ?_
      refine E_callV (κ' := k_World_isFace) (As := [vi r4]) (st := []) mv_World_isFace (Or.inl (tbk_mem (j := 8) (k := 154) rfl)) rfl (by decide +kernel) (Nat.le_of_ble_eq_true rfl) (Nat.le_of_ble_eq_true rfl) rfl (by decide) (lk_World_isFace hγ this r4 _ M3 h) (fun _ _ => Qi_r) (fun v M7 hp => Qi_k (R := fun st => E γ k_Machine_findMethod 134 37 [some (vr (some (6, this))), some (vi a1), some (vi a2), some (vi a3), some (vi r4), none, none, none] st M7 (Qi Q)) hp (fun r8 h => ?_))
      refine E_if_ne (off := 21) (tgt := 58) (by decide +kernel) (by decide) (fun b9 => ?_) (fun b9 => ?_)
      · rw [if_pos b9] at h
        refine E_mask [true, true, true, true, true, false, false, false] rfl ?_
        exact lk_Machine_findMethod_j40 hγ this Q a1 a2 a3 r4 M7 h
      · rw [if_neg b9] at h
        refine E_mask [true, false, false, false, false, false, false, false] rfl ?_
        exact lk_Machine_findMethod_j58 hγ this Q  M7 h
    · rw [if_neg b6] at h
      refine E_mask [true, true, true, true, true, false, false, false] rfl ?_
      exact lk_Machine_findMethod_j40 hγ this Q a1 a2 a3 r4 M3 h
  · rw [if_neg b5] at h
    refine E_blk (lv' := [some (vr (some (6, this))), some (vi a1), some (vi a2), some (vi a3), some (vi r4), none, none, none]) (st' := [vi r4]) (M1 := M3) (pc' := 21) (tb_Machine hγ) [.iload 4] (by decide +kernel) rfl rfl trivial ?_
    exact E_iret rfl (by decide +kernel) h
def w_Machine_lengthen (this : Nat) (Q : Mem → Prop) (M : Mem) : Prop :=
  ¬ ((2 : Int32) * (mI M 6 this 21)) < 0 ∧ ((2 : Int32) * (mI M 6 this 21)).toNatClampNeg ≤ 60000000 ∧ ∃ i2, (301, i2) ∉ mN M ∧ ∃ M1, M1 = mk M 301 i2 ((2 : Int32) * (mI M 6 this 21)).toNatClampNeg ∧ ¬ ((2 : Int32) * (mI M 6 this 21)) < 0 ∧ ((2 : Int32) * (mI M 6 this 21)).toNatClampNeg ≤ 60000000 ∧ ∃ i7, (301, i7) ∉ mN M1 ∧ ∃ M6, M6 = mk M1 301 i7 ((2 : Int32) * (mI M 6 this 21)).toNatClampNeg ∧ ¬ ((2 : Int32) * (mI M 6 this 21)) < 0 ∧ ((2 : Int32) * (mI M 6 this 21)).toNatClampNeg ≤ 60000000 ∧ ∃ i12, (301, i12) ∉ mN M6 ∧ ∃ M11, M11 = mk M6 301 i12 ((2 : Int32) * (mI M 6 this 21)).toNatClampNeg ∧ ¬ ((2 : Int32) * (mI M 6 this 21)) < 0 ∧ ((2 : Int32) * (mI M 6 this 21)).toNatClampNeg ≤ 60000000 ∧ ∃ i17, (301, i17) ∉ mN M11 ∧ ∃ M16, M16 = mk M11 301 i17 ((2 : Int32) * (mI M 6 this 21)).toNatClampNeg ∧ ∃ i21, (mR M16 6 this 22) = some (301, i21) ∧ ¬ (0 : Int32) < 0 ∧ ¬ (0 : Int32) < 0 ∧ ¬ (mI M16 6 this 21) < 0 ∧ (0 : Int32).toNatClampNeg + (mI M16 6 this 21).toNatClampNeg ≤ mL M16 301 i21 ∧ (0 : Int32).toNatClampNeg + (mI M16 6 this 21).toNatClampNeg ≤ mL M16 301 i2 ∧ ∃ M22, M22 = cpI M16 301 i21 (0 : Int32).toNatClampNeg 301 i2 (0 : Int32).toNatClampNeg (mI M16 6 this 21).toNatClampNeg ∧ ∃ i28, (mR M22 6 this 23) = some (301, i28) ∧ ¬ (0 : Int32) < 0 ∧ ¬ (0 : Int32) < 0 ∧ ¬ (mI M22 6 this 21) < 0 ∧ (0 : Int32).toNatClampNeg + (mI M22 6 this 21).toNatClampNeg ≤ mL M22 301 i28 ∧ (0 : Int32).toNatClampNeg + (mI M22 6 this 21).toNatClampNeg ≤ mL M22 301 i7 ∧ ∃ M29, M29 = cpI M22 301 i28 (0 : Int32).toNatClampNeg 301 i7 (0 : Int32).toNatClampNeg (mI M22 6 this 21).toNatClampNeg ∧ ∃ i35, (mR M29 6 this 24) = some (301, i35) ∧ ¬ (0 : Int32) < 0 ∧ ¬ (0 : Int32) < 0 ∧ ¬ (mI M29 6 this 21) < 0 ∧ (0 : Int32).toNatClampNeg + (mI M29 6 this 21).toNatClampNeg ≤ mL M29 301 i35 ∧ (0 : Int32).toNatClampNeg + (mI M29 6 this 21).toNatClampNeg ≤ mL M29 301 i12 ∧ ∃ M36, M36 = cpI M29 301 i35 (0 : Int32).toNatClampNeg 301 i12 (0 : Int32).toNatClampNeg (mI M29 6 this 21).toNatClampNeg ∧ ∃ i42, (mR M36 6 this 25) = some (301, i42) ∧ ¬ (0 : Int32) < 0 ∧ ¬ (0 : Int32) < 0 ∧ ¬ (mI M36 6 this 21) < 0 ∧ (0 : Int32).toNatClampNeg + (mI M36 6 this 21).toNatClampNeg ≤ mL M36 301 i42 ∧ (0 : Int32).toNatClampNeg + (mI M36 6 this 21).toNatClampNeg ≤ mL M36 301 i17 ∧ ∃ M43, M43 = cpI M36 301 i42 (0 : Int32).toNatClampNeg 301 i17 (0 : Int32).toNatClampNeg (mI M36 6 this 21).toNatClampNeg ∧ ∃ M49, M49 = (sR (sR (sR M43 6 this 22 (some (301, i2))) 6 this 23 (some (301, i7))) 6 this 24 (some (301, i12))) ∧ Q (sR M49 6 this 25 (some (301, i17)))
set_option maxRecDepth 4096 in
theorem lk_Machine_lengthen {γ : Gm} (hγ : Gk γ) (this : Nat) (Q : Mem → Prop) (M : Mem) (h : w_Machine_lengthen this Q M) : E γ k_Machine_lengthen 1 0 [some (vr (some (6, this))), none, none, none, none, none] [] M (Qv Q) := by
  unfold w_Machine_lengthen at h
  refine E_blk (lv' := [some (vr (some (6, this))), some (vi ((2 : Int32) * (mI M 6 this 21))), none, none, none, none]) (st' := [vi ((2 : Int32) * (mI M 6 this 21))]) (M1 := M) (pc' := 8) (tb_Machine hγ) [.iconst 2, .aload_n 0, .getfield 107, .imul, .istore_n 1, .iload_n 1] (by decide +kernel) rfl rfl trivial ?_
  obtain ⟨c3, c4, i2, c5, M1, eM1, h⟩ := h
  refine E_newa (f := 301) (i := i2) (by decide) (by decide) (FIN_lt hγ.1) c3 c4 c5 (by decide +kernel) ?_
  rw [← eM1]
  refine E_blk (lv' := [some (vr (some (6, this))), some (vi ((2 : Int32) * (mI M 6 this 21))), some (vr (some (301, i2))), none, none, none]) (st' := [vi ((2 : Int32) * (mI M 6 this 21))]) (M1 := M1) (pc' := 12) (tb_Machine hγ) [.astore_n 2, .iload_n 1] (by decide +kernel) rfl rfl trivial ?_
  obtain ⟨c8, c9, i7, c10, M6, eM6, h⟩ := h
  refine E_newa (f := 301) (i := i7) (by decide) (by decide) (FIN_lt hγ.1) c8 c9 c10 (by decide +kernel) ?_
  rw [← eM6]
  refine E_blk (lv' := [some (vr (some (6, this))), some (vi ((2 : Int32) * (mI M 6 this 21))), some (vr (some (301, i2))), some (vr (some (301, i7))), none, none]) (st' := [vi ((2 : Int32) * (mI M 6 this 21))]) (M1 := M6) (pc' := 16) (tb_Machine hγ) [.astore_n 3, .iload_n 1] (by decide +kernel) rfl rfl trivial ?_
  obtain ⟨c13, c14, i12, c15, M11, eM11, h⟩ := h
  refine E_newa (f := 301) (i := i12) (by decide) (by decide) (FIN_lt hγ.1) c13 c14 c15 (by decide +kernel) ?_
  rw [← eM11]
  refine E_blk (lv' := [some (vr (some (6, this))), some (vi ((2 : Int32) * (mI M 6 this 21))), some (vr (some (301, i2))), some (vr (some (301, i7))), some (vr (some (301, i12))), none]) (st' := [vi ((2 : Int32) * (mI M 6 this 21))]) (M1 := M11) (pc' := 21) (tb_Machine hγ) [.astore 4, .iload_n 1] (by decide +kernel) rfl rfl trivial ?_
  obtain ⟨c18, c19, i17, c20, M16, eM16, h⟩ := h
  refine E_newa (f := 301) (i := i17) (by decide) (by decide) (FIN_lt hγ.1) c18 c19 c20 (by decide +kernel) ?_
  rw [← eM16]
  refine E_blk (lv' := [some (vr (some (6, this))), some (vi ((2 : Int32) * (mI M 6 this 21))), some (vr (some (301, i2))), some (vr (some (301, i7))), some (vr (some (301, i12))), some (vr (some (301, i17)))]) (st' := [vr (mR M16 6 this 22)]) (M1 := M16) (pc' := 29) (tb_Machine hγ) [.astore 5, .aload_n 0, .getfield 60] (by decide +kernel) rfl rfl trivial ?_
  obtain ⟨i21, ei21, h⟩ := h
  rw [ei21]
  refine E_blk (lv' := [some (vr (some (6, this))), some (vi ((2 : Int32) * (mI M 6 this 21))), some (vr (some (301, i2))), some (vr (some (301, i7))), some (vr (some (301, i12))), some (vr (some (301, i17)))]) (st' := [vi (mI M16 6 this 21), vi (0 : Int32), vr (some (301, i2)), vi (0 : Int32), vr (some (301, i21))]) (M1 := M16) (pc' := 36) (tb_Machine hγ) [.iconst 0, .aload_n 2, .iconst 0, .aload_n 0, .getfield 107] (by decide +kernel) rfl rfl trivial ?_
  obtain ⟨c23, c24, c25, c26, c27, M22, eM22, h⟩ := h
  refine E_copy (pc := 36) (κ := k_Machine_lengthen) (f := 301) (i := i21) (g := 301) (j := i2) (sp := (0 : Int32)) (dp := (0 : Int32)) (n := (mI M16 6 this 21)) (idx := 305) (st := []) c23 c24 c25 c26 c27 (by decide) (by decide) rfl (by decide) (tbk_mem (j := 8) (k := 198) rfl) (by decide +kernel) (Nat.le_of_ble_eq_true rfl) ?_
  rw [← eM22]
  refine E_blk (lv' := [some (vr (some (6, this))), some (vi ((2 : Int32) * (mI M 6 this 21))), some (vr (some (301, i2))), some (vr (some (301, i7))), some (vr (some (301, i12))), some (vr (some (301, i17)))]) (st' := [vr (mR M22 6 this 23)]) (M1 := M22) (pc' := 43) (tb_Machine hγ) [.aload_n 0, .getfield 63] (by decide +kernel) rfl rfl trivial ?_
  obtain ⟨i28, ei28, h⟩ := h
  rw [ei28]
  refine E_blk (lv' := [some (vr (some (6, this))), some (vi ((2 : Int32) * (mI M 6 this 21))), some (vr (some (301, i2))), some (vr (some (301, i7))), some (vr (some (301, i12))), some (vr (some (301, i17)))]) (st' := [vi (mI M22 6 this 21), vi (0 : Int32), vr (some (301, i7)), vi (0 : Int32), vr (some (301, i28))]) (M1 := M22) (pc' := 50) (tb_Machine hγ) [.iconst 0, .aload_n 3, .iconst 0, .aload_n 0, .getfield 107] (by decide +kernel) rfl rfl trivial ?_
  obtain ⟨c30, c31, c32, c33, c34, M29, eM29, h⟩ := h
  refine E_copy (pc := 50) (κ := k_Machine_lengthen) (f := 301) (i := i28) (g := 301) (j := i7) (sp := (0 : Int32)) (dp := (0 : Int32)) (n := (mI M22 6 this 21)) (idx := 305) (st := []) c30 c31 c32 c33 c34 (by decide) (by decide) rfl (by decide) (tbk_mem (j := 8) (k := 198) rfl) (by decide +kernel) (Nat.le_of_ble_eq_true rfl) ?_
  rw [← eM29]
  refine E_blk (lv' := [some (vr (some (6, this))), some (vi ((2 : Int32) * (mI M 6 this 21))), some (vr (some (301, i2))), some (vr (some (301, i7))), some (vr (some (301, i12))), some (vr (some (301, i17)))]) (st' := [vr (mR M29 6 this 24)]) (M1 := M29) (pc' := 57) (tb_Machine hγ) [.aload_n 0, .getfield 66] (by decide +kernel) rfl rfl trivial ?_
  obtain ⟨i35, ei35, h⟩ := h
  rw [ei35]
  refine E_blk (lv' := [some (vr (some (6, this))), some (vi ((2 : Int32) * (mI M 6 this 21))), some (vr (some (301, i2))), some (vr (some (301, i7))), some (vr (some (301, i12))), some (vr (some (301, i17)))]) (st' := [vi (mI M29 6 this 21), vi (0 : Int32), vr (some (301, i12)), vi (0 : Int32), vr (some (301, i35))]) (M1 := M29) (pc' := 65) (tb_Machine hγ) [.iconst 0, .aload 4, .iconst 0, .aload_n 0, .getfield 107] (by decide +kernel) rfl rfl trivial ?_
  obtain ⟨c37, c38, c39, c40, c41, M36, eM36, h⟩ := h
  refine E_copy (pc := 65) (κ := k_Machine_lengthen) (f := 301) (i := i35) (g := 301) (j := i12) (sp := (0 : Int32)) (dp := (0 : Int32)) (n := (mI M29 6 this 21)) (idx := 305) (st := []) c37 c38 c39 c40 c41 (by decide) (by decide) rfl (by decide) (tbk_mem (j := 8) (k := 198) rfl) (by decide +kernel) (Nat.le_of_ble_eq_true rfl) ?_
  rw [← eM36]
  refine E_blk (lv' := [some (vr (some (6, this))), some (vi ((2 : Int32) * (mI M 6 this 21))), some (vr (some (301, i2))), some (vr (some (301, i7))), some (vr (some (301, i12))), some (vr (some (301, i17)))]) (st' := [vr (mR M36 6 this 25)]) (M1 := M36) (pc' := 72) (tb_Machine hγ) [.aload_n 0, .getfield 69] (by decide +kernel) rfl rfl trivial ?_
  obtain ⟨i42, ei42, h⟩ := h
  rw [ei42]
  refine E_blk (lv' := [some (vr (some (6, this))), some (vi ((2 : Int32) * (mI M 6 this 21))), some (vr (some (301, i2))), some (vr (some (301, i7))), some (vr (some (301, i12))), some (vr (some (301, i17)))]) (st' := [vi (mI M36 6 this 21), vi (0 : Int32), vr (some (301, i17)), vi (0 : Int32), vr (some (301, i42))]) (M1 := M36) (pc' := 80) (tb_Machine hγ) [.iconst 0, .aload 5, .iconst 0, .aload_n 0, .getfield 107] (by decide +kernel) rfl rfl trivial ?_
  obtain ⟨c44, c45, c46, c47, c48, M43, eM43, h⟩ := h
  refine E_copy (pc := 80) (κ := k_Machine_lengthen) (f := 301) (i := i42) (g := 301) (j := i17) (sp := (0 : Int32)) (dp := (0 : Int32)) (n := (mI M36 6 this 21)) (idx := 305) (st := []) c44 c45 c46 c47 c48 (by decide) (by decide) rfl (by decide) (tbk_mem (j := 8) (k := 198) rfl) (by decide +kernel) (Nat.le_of_ble_eq_true rfl) ?_
  rw [← eM43]
  refine E_blk (lv' := [some (vr (some (6, this))), some (vi ((2 : Int32) * (mI M 6 this 21))), some (vr (some (301, i2))), some (vr (some (301, i7))), some (vr (some (301, i12))), some (vr (some (301, i17)))]) (st' := []) (M1 := (sR (sR (sR M43 6 this 22 (some (301, i2))) 6 this 23 (some (301, i7))) 6 this 24 (some (301, i12)))) (pc' := 99) (tb_Machine hγ) [.aload_n 0, .aload_n 2, .putfield 60, .aload_n 0, .aload_n 3, .putfield 63, .aload_n 0, .aload 4, .putfield 66] (by decide +kernel) rfl rfl trivial ?_
  obtain ⟨M49, eM49, h⟩ := h
  rw [← eM49]
  refine E_blk (lv' := [some (vr (some (6, this))), some (vi ((2 : Int32) * (mI M 6 this 21))), some (vr (some (301, i2))), some (vr (some (301, i7))), some (vr (some (301, i12))), some (vr (some (301, i17)))]) (st' := []) (M1 := (sR M49 6 this 25 (some (301, i17)))) (pc' := 105) (tb_Machine hγ) [.aload_n 0, .aload 5, .putfield 69] (by decide +kernel) rfl rfl trivial ?_
  exact E_vret rfl (by decide +kernel) h
def w_Machine_event_j80 (this : Nat) (Q : Mem → Prop) (v4 : Int32) (s0 : Int32) (s1 : Int32) (M : Mem) : Prop :=
  vp_in s1 (mL M 87 this) ∧ ∃ i11, (mR (sI M 87 this s1.toNatClampNeg s0) 6 this 2) = some (7, i11) ∧ vp_in (v4 + (4 : Int32)) (mL (sI M 87 this s1.toNatClampNeg s0) 87 this) ∧ ∃ M13, M13 = (sI (sI M 87 this s1.toNatClampNeg s0) 87 this (v4 + (4 : Int32)).toNatClampNeg (mI (sI M 87 this s1.toNatClampNeg s0) 7 i11 12)) ∧ Q (sI M13 6 this 29 ((mI M13 6 this 29) + (1 : Int32)))
def w_Machine_event (this : Nat) (a1 : Int32) (a2 : Int32) (a3 : Int32) (Q : Mem → Prop) (M : Mem) : Prop :=
  if (400 : Int32) ≤ (mI M 6 this 29) then (Q M) else (vp_in ((5 : Int32) * (mI M 6 this 29)) (mL M 87 this) ∧ ∃ i3, (mR (sI M 87 this ((5 : Int32) * (mI M 6 this 29)).toNatClampNeg a1) 6 this 2) = some (7, i3) ∧ vp_in (((5 : Int32) * (mI M 6 this 29)) + (1 : Int32)) (mL (sI M 87 this ((5 : Int32) * (mI M 6 this 29)).toNatClampNeg a1) 87 this) ∧ ∃ M5, M5 = (sI (sI M 87 this ((5 : Int32) * (mI M 6 this 29)).toNatClampNeg a1) 87 this (((5 : Int32) * (mI M 6 this 29)) + (1 : Int32)).toNatClampNeg (mI (sI M 87 this ((5 : Int32) * (mI M 6 this 29)).toNatClampNeg a1) 7 i3 0)) ∧ vp_in (((5 : Int32) * (mI M 6 this 29)) + (2 : Int32)) (mL M5 87 this) ∧ ∃ M7, M7 = (sI M5 87 this (((5 : Int32) * (mI M 6 this 29)) + (2 : Int32)).toNatClampNeg a2) ∧ if 0 ≤ a3 then (vp_in a2 (mL M7 43 this) ∧ w_Machine_event_j80 this Q ((5 : Int32) * (mI M 6 this 29)) (a3 - (mI M7 43 this a2.toNatClampNeg)) (((5 : Int32) * (mI M 6 this 29)) + (3 : Int32)) M7) else (w_Machine_event_j80 this Q ((5 : Int32) * (mI M 6 this 29)) (-2 : Int32) (((5 : Int32) * (mI M 6 this 29)) + (3 : Int32)) M7))
set_option maxRecDepth 4096 in
theorem lk_Machine_event_j80 {γ : Gm} (hγ : Gk γ) (this : Nat) (Q : Mem → Prop) (v4 : Int32) (s0 : Int32) (s1 : Int32) (M : Mem) (h : w_Machine_event_j80 this Q v4 s0 s1 M) : E γ k_Machine_event 0 80 [some (vr (some (6, this))), none, none, none, some (vi v4)] [vi s0, vi s1, vr (some (87, this))] M (Qv Q) := by
  unfold w_Machine_event_j80 at h
  obtain ⟨c10, h⟩ := h
  refine E_blk (lv' := [some (vr (some (6, this))), none, none, none, some (vi v4)]) (st' := [vr (mR (sI M 87 this s1.toNatClampNeg s0) 6 this 2), vi (v4 + (4 : Int32)), vr (some (87, this))]) (M1 := (sI M 87 this s1.toNatClampNeg s0)) (pc' := 93) (tb_Machine hγ) [.iastore, .aload_n 0, .getfield 78, .iload 4, .iconst 4, .iadd, .aload_n 0, .getfield 24] (by decide +kernel) rfl rfl ⟨c10, trivial⟩ ?_
  obtain ⟨i11, ei11, h⟩ := h
  rw [ei11]
  obtain ⟨c12, h⟩ := h
  refine E_blk (lv' := [some (vr (some (6, this))), none, none, none, some (vi v4)]) (st' := []) (M1 := (sI (sI M 87 this s1.toNatClampNeg s0) 87 this (v4 + (4 : Int32)).toNatClampNeg (mI (sI M 87 this s1.toNatClampNeg s0) 7 i11 12))) (pc' := 97) (tb_Machine hγ) [.getfield 139, .iastore] (by decide +kernel) rfl rfl ⟨c12, trivial⟩ ?_
  obtain ⟨M13, eM13, h⟩ := h
  rw [← eM13]
  refine E_blk (lv' := [some (vr (some (6, this))), none, none, none, some (vi v4)]) (st' := []) (M1 := (sI M13 6 this 29 ((mI M13 6 this 29) + (1 : Int32)))) (pc' := 107) (tb_Machine hγ) [.aload_n 0, .dup, .getfield 125, .iconst 1, .iadd, .putfield 125] (by decide +kernel) rfl rfl trivial ?_
  exact E_vret rfl (by decide +kernel) h
set_option maxRecDepth 4096 in
theorem lk_Machine_event {γ : Gm} (hγ : Gk γ) (this : Nat) (a1 : Int32) (a2 : Int32) (a3 : Int32) (Q : Mem → Prop) (M : Mem) (h : w_Machine_event this a1 a2 a3 Q M) : E γ k_Machine_event 0 0 [some (vr (some (6, this))), some (vi a1), some (vi a2), some (vi a3), none] [] M (Qv Q) := by
  unfold w_Machine_event at h
  refine E_blk (lv' := [some (vr (some (6, this))), some (vi a1), some (vi a2), some (vi a3), none]) (st' := [vi (400 : Int32), vi (mI M 6 this 29)]) (M1 := M) (pc' := 7) (tb_Machine hγ) [.aload_n 0, .getfield 125, .sipush 400] (by decide +kernel) rfl rfl trivial ?_
  refine E_icmp_ge (off := 100) (tgt := 107) (by decide +kernel) (by decide) (fun b1 => ?_) (fun b1 => ?_)
  · rw [if_pos b1] at h
    exact E_vret rfl (by decide +kernel) h
  · rw [if_neg b1] at h
    obtain ⟨c2, h⟩ := h
    refine E_blk (lv' := [some (vr (some (6, this))), some (vi a1), some (vi a2), some (vi a3), some (vi ((5 : Int32) * (mI M 6 this 29)))]) (st' := [vr (mR (sI M 87 this ((5 : Int32) * (mI M 6 this 29)).toNatClampNeg a1) 6 this 2), vi (((5 : Int32) * (mI M 6 this 29)) + (1 : Int32)), vr (some (87, this))]) (M1 := (sI M 87 this ((5 : Int32) * (mI M 6 this 29)).toNatClampNeg a1)) (pc' := 38) (tb_Machine hγ) [.iconst 5, .aload_n 0, .getfield 125, .imul, .istore 4, .aload_n 0, .getfield 78, .iload 4, .iload_n 1, .iastore, .aload_n 0, .getfield 78, .iload 4, .iconst 1, .iadd, .aload_n 0, .getfield 24] (by decide +kernel) rfl rfl ⟨c2, trivial⟩ ?_
    obtain ⟨i3, ei3, h⟩ := h
    rw [ei3]
    obtain ⟨c4, h⟩ := h
    refine E_blk (lv' := [some (vr (some (6, this))), some (vi a1), some (vi a2), some (vi a3), some (vi ((5 : Int32) * (mI M 6 this 29)))]) (st' := []) (M1 := (sI (sI M 87 this ((5 : Int32) * (mI M 6 this 29)).toNatClampNeg a1) 87 this (((5 : Int32) * (mI M 6 this 29)) + (1 : Int32)).toNatClampNeg (mI (sI M 87 this ((5 : Int32) * (mI M 6 this 29)).toNatClampNeg a1) 7 i3 0))) (pc' := 42) (tb_Machine hγ) [.getfield 131, .iastore] (by decide +kernel) rfl rfl ⟨c4, trivial⟩ ?_
    obtain ⟨M5, eM5, h⟩ := h
    rw [← eM5]
    obtain ⟨c6, h⟩ := h
    refine E_blk (lv' := [some (vr (some (6, this))), some (vi a1), some (vi a2), some (vi a3), some (vi ((5 : Int32) * (mI M 6 this 29)))]) (st' := []) (M1 := (sI M5 87 this (((5 : Int32) * (mI M 6 this 29)) + (2 : Int32)).toNatClampNeg a2)) (pc' := 52) (tb_Machine hγ) [.aload_n 0, .getfield 78, .iload 4, .iconst 2, .iadd, .iload_n 2, .iastore] (by decide +kernel) rfl rfl ⟨c6, trivial⟩ ?_
    obtain ⟨M7, eM7, h⟩ := h
    rw [← eM7]
    refine E_blk (lv' := [some (vr (some (6, this))), some (vi a1), some (vi a2), some (vi a3), some (vi ((5 : Int32) * (mI M 6 this 29)))]) (st' := [vi a3, vi (((5 : Int32) * (mI M 6 this 29)) + (3 : Int32)), vr (some (87, this))]) (M1 := M7) (pc' := 61) (tb_Machine hγ) [.aload_n 0, .getfield 78, .iload 4, .iconst 3, .iadd, .iload_n 3] (by decide +kernel) rfl rfl trivial ?_
    refine E_if_ge (off := 8) (tgt := 69) (by decide +kernel) (by decide) (fun b8 => ?_) (fun b8 => ?_)
    · rw [if_pos b8] at h
      obtain ⟨c9, h⟩ := h
      refine E_blk (lv' := [some (vr (some (6, this))), some (vi a1), some (vi a2), some (vi a3), some (vi ((5 : Int32) * (mI M 6 this 29)))]) (st' := [vi (a3 - (mI M7 43 this a2.toNatClampNeg)), vi (((5 : Int32) * (mI M 6 this 29)) + (3 : Int32)), vr (some (87, this))]) (M1 := M7) (pc' := 80) (tb_Machine hγ) [.iload_n 3, .aload_n 0, .getfield 84, .getfield 134, .iload_n 2, .iaload, .isub] (by decide +kernel) rfl rfl ⟨c9, trivial⟩ ?_
      refine E_mask [true, false, false, false, true] rfl ?_
      exact lk_Machine_event_j80 hγ this Q ((5 : Int32) * (mI M 6 this 29)) (a3 - (mI M7 43 this a2.toNatClampNeg)) (((5 : Int32) * (mI M 6 this 29)) + (3 : Int32)) M7 h
    · rw [if_neg b8] at h
      refine E_blk (lv' := [some (vr (some (6, this))), some (vi a1), some (vi a2), some (vi a3), some (vi ((5 : Int32) * (mI M 6 this 29)))]) (st' := [vi (-2 : Int32), vi (((5 : Int32) * (mI M 6 this 29)) + (3 : Int32)), vr (some (87, this))]) (M1 := M7) (pc' := 66) (tb_Machine hγ) [.bipush (.negSucc 1)] (by decide +kernel) rfl rfl trivial ?_
      refine E_goto (off := 14) (tgt := 80) (by decide +kernel) (by decide) ?_
      refine E_mask [true, false, false, false, true] rfl ?_
      exact lk_Machine_event_j80 hγ this Q ((5 : Int32) * (mI M 6 this 29)) (-2 : Int32) (((5 : Int32) * (mI M 6 this 29)) + (3 : Int32)) M7 h
def w_Machine_classOf (this : Nat) (a1 : Int32) (Q : Int32 → Mem → Prop) (M : Mem) : Prop :=
  if a1 ≤ (800 : Int32) then (vp_in a1 (mL M 79 this) ∧ Q (mI M 79 this a1.toNatClampNeg) M) else (∃ i3, (mR M 6 this 22) = some (301, i3) ∧ vp_in ((a1 - (800 : Int32)) - (1 : Int32)) (mL M 301 i3) ∧ Q (mI M 301 i3 ((a1 - (800 : Int32)) - (1 : Int32)).toNatClampNeg) M)
set_option maxRecDepth 4096 in
theorem lk_Machine_classOf {γ : Gm} (hγ : Gk γ) (this : Nat) (a1 : Int32) (Q : Int32 → Mem → Prop) (M : Mem) (h : w_Machine_classOf this a1 Q M) : E γ k_Machine_classOf 0 0 [some (vr (some (6, this))), some (vi a1)] [] M (Qi Q) := by
  unfold w_Machine_classOf at h
  refine E_blk (lv' := [some (vr (some (6, this))), some (vi a1)]) (st' := [vi (800 : Int32), vi a1]) (M1 := M) (pc' := 4) (tb_Machine hγ) [.iload_n 1, .sipush 800] (by decide +kernel) rfl rfl trivial ?_
  refine E_icmp_le (off := 18) (tgt := 22) (by decide +kernel) (by decide) (fun b1 => ?_) (fun b1 => ?_)
  · rw [if_pos b1] at h
    obtain ⟨c2, h⟩ := h
    refine E_blk (lv' := [some (vr (some (6, this))), some (vi a1)]) (st' := [vi (mI M 79 this a1.toNatClampNeg)]) (M1 := M) (pc' := 28) (tb_Machine hγ) [.aload_n 0, .getfield 28, .iload_n 1, .iaload] (by decide +kernel) rfl rfl ⟨c2, trivial⟩ ?_
    exact E_iret rfl (by decide +kernel) h
  · rw [if_neg b1] at h
    refine E_blk (lv' := [some (vr (some (6, this))), some (vi a1)]) (st' := [vr (mR M 6 this 22)]) (M1 := M) (pc' := 11) (tb_Machine hγ) [.aload_n 0, .getfield 60] (by decide +kernel) rfl rfl trivial ?_
    obtain ⟨i3, ei3, h⟩ := h
    rw [ei3]
    obtain ⟨c4, h⟩ := h
    refine E_blk (lv' := [some (vr (some (6, this))), some (vi a1)]) (st' := [vi (mI M 301 i3 ((a1 - (800 : Int32)) - (1 : Int32)).toNatClampNeg)]) (M1 := M) (pc' := 19) (tb_Machine hγ) [.iload_n 1, .sipush 800, .isub, .iconst 1, .isub, .iaload] (by decide +kernel) rfl rfl ⟨c4, trivial⟩ ?_
    refine E_goto (off := 9) (tgt := 28) (by decide +kernel) (by decide) ?_
    exact E_iret rfl (by decide +kernel) h
def w_World_isBelow_j137 (this : Nat) (Q : Int32 → Mem → Prop) (k23 : Int32 → Int32 → Mem → Prop) (k49 : Int32 → Int32 → Int32 → Int32 → Mem → Prop) (v2 : Int32) (v3 : Int32) (v4 : Int32) (v5 : Int32) (M : Mem) : Prop :=
  k49 v2 v3 v4 (v5 + (1 : Int32)) M
def w_World_isBelow_j91 (this : Nat) (Q : Int32 → Mem → Prop) (k23 : Int32 → Int32 → Mem → Prop) (k49 : Int32 → Int32 → Int32 → Int32 → Mem → Prop) (v2 : Int32) (v3 : Int32) (v4 : Int32) (v5 : Int32) (s0 : Int32) (M : Mem) : Prop :=
  if s0 < 0 then (w_World_isBelow_j137 this Q k23 k49 v2 v3 v4 v5 M) else (vp_in s0 (mL M 77 this) ∧ if (mI M 77 this s0.toNatClampNeg) = (mI M 5 this 61) then (w_World_isBelow_j137 this Q k23 k49 v2 v3 v4 v5 M) else (vp_in s0 (mL M 77 this) ∧ vp_in v3 (mL (sI M 77 this s0.toNatClampNeg (mI M 5 this 61)) 78 this) ∧ ∃ M19, M19 = (sI (sI M 77 this s0.toNatClampNeg (mI M 5 this 61)) 78 this v3.toNatClampNeg s0) ∧ w_World_isBelow_j137 this Q k23 k49 v2 (v3 + (1 : Int32)) v4 v5 M19))
def w_World_isBelow_L49 (this : Nat) (Q : Int32 → Mem → Prop) (k23 : Int32 → Int32 → Mem → Prop) : Nat → Int32 → Int32 → Int32 → Int32 → Mem → Prop
  | 0, _, _, _, _, _ => False
  | n + 1, v2, v3, v4, v5, M => vp_in v4 (mL M 39 this) ∧ if (mI M 39 this v4.toNatClampNeg) ≤ v5 then (k23 v2 v3 M) else (if 0 ≤ v5 then (vp_in (((4 : Int32) * v4) + v5) (mL M 38 this) ∧ w_World_find this (mI M 38 this (((4 : Int32) * v4) + v5).toNatClampNeg) (fun r13 M12 => w_World_isBelow_j91 this Q k23 (w_World_isBelow_L49 this Q k23 n) v2 v3 v4 v5 r13 M12) M) else (w_World_up this v4 (fun r21 M20 => w_World_isBelow_j91 this Q k23 (w_World_isBelow_L49 this Q k23 n) v2 v3 v4 v5 r21 M20) M))
def w_World_isBelow_L23 (this : Nat) (Q : Int32 → Mem → Prop) : Nat → Int32 → Int32 → Mem → Prop
  | 0, _, _, _ => False
  | n + 1, v2, v3, M => if v3 ≤ 0 then (Q (0 : Int32) M) else (vp_in (v3 + (-1 : Int32)) (mL M 78 this) ∧ if (mI M 78 this (v3 + (-1 : Int32)).toNatClampNeg) = v2 then (Q (1 : Int32) M) else (∃ n22 : Nat, w_World_isBelow_L49 this Q (w_World_isBelow_L23 this Q n) n22 v2 (v3 + (-1 : Int32)) (mI M 78 this (v3 + (-1 : Int32)).toNatClampNeg) (-1 : Int32) M))
def w_World_isBelow (this : Nat) (a1 : Int32) (a2 : Int32) (Q : Int32 → Mem → Prop) (M : Mem) : Prop :=
  w_World_nextStamp this (fun M1 => vp_in a1 (mL M1 77 this) ∧ vp_in (0 : Int32) (mL (sI M1 77 this a1.toNatClampNeg (mI M1 5 this 61)) 78 this) ∧ ∃ M4, M4 = (sI (sI M1 77 this a1.toNatClampNeg (mI M1 5 this 61)) 78 this (0 : Int32).toNatClampNeg a1) ∧ ∃ n23 : Nat, w_World_isBelow_L23 this Q n23 a2 (1 : Int32) M4) M
set_option maxRecDepth 4096 in
theorem lk_World_isBelow_j137 {γ : Gm} (hγ : Gk γ) (this : Nat) (Q : Int32 → Mem → Prop) (k23 : Int32 → Int32 → Mem → Prop) (k49 : Int32 → Int32 → Int32 → Int32 → Mem → Prop) (hk23 : ∀ (v2 : Int32) (v3 : Int32) (M : Mem), k23 v2 v3 M → E γ k_World_isBelow 2 23 [some (vr (some (5, this))), none, some (vi v2), some (vi v3), none, none, none] [] M (Qi Q)) (hk49 : ∀ (v2 : Int32) (v3 : Int32) (v4 : Int32) (v5 : Int32) (M : Mem), k49 v2 v3 v4 v5 M → E γ k_World_isBelow 2 49 [some (vr (some (5, this))), none, some (vi v2), some (vi v3), some (vi v4), some (vi v5), none] [] M (Qi Q)) (v2 : Int32) (v3 : Int32) (v4 : Int32) (v5 : Int32) (M : Mem) (h : w_World_isBelow_j137 this Q k23 k49 v2 v3 v4 v5 M) : E γ k_World_isBelow 2 137 [some (vr (some (5, this))), none, some (vi v2), some (vi v3), some (vi v4), some (vi v5), none] [] M (Qi Q) := by
  unfold w_World_isBelow_j137 at h
  refine E_blk (lv' := [some (vr (some (5, this))), none, some (vi v2), some (vi v3), some (vi v4), some (vi (v5 + (1 : Int32))), none]) (st' := []) (M1 := M) (pc' := 140) (tb_World hγ) [.iinc 5 1] (by decide +kernel) rfl rfl trivial ?_
  refine E_goto (off := -91) (tgt := 49) (by decide +kernel) (by decide) ?_
  refine E_mask [true, false, true, true, true, true, false] rfl ?_
  exact hk49 v2 v3 v4 (v5 + (1 : Int32)) M h
set_option maxRecDepth 4096 in
theorem lk_World_isBelow_j91 {γ : Gm} (hγ : Gk γ) (this : Nat) (Q : Int32 → Mem → Prop) (k23 : Int32 → Int32 → Mem → Prop) (k49 : Int32 → Int32 → Int32 → Int32 → Mem → Prop) (hk23 : ∀ (v2 : Int32) (v3 : Int32) (M : Mem), k23 v2 v3 M → E γ k_World_isBelow 2 23 [some (vr (some (5, this))), none, some (vi v2), some (vi v3), none, none, none] [] M (Qi Q)) (hk49 : ∀ (v2 : Int32) (v3 : Int32) (v4 : Int32) (v5 : Int32) (M : Mem), k49 v2 v3 v4 v5 M → E γ k_World_isBelow 2 49 [some (vr (some (5, this))), none, some (vi v2), some (vi v3), some (vi v4), some (vi v5), none] [] M (Qi Q)) (v2 : Int32) (v3 : Int32) (v4 : Int32) (v5 : Int32) (s0 : Int32) (M : Mem) (h : w_World_isBelow_j91 this Q k23 k49 v2 v3 v4 v5 s0 M) : E γ k_World_isBelow 2 91 [some (vr (some (5, this))), none, some (vi v2), some (vi v3), some (vi v4), some (vi v5), none] [vi s0] M (Qi Q) := by
  unfold w_World_isBelow_j91 at h
  refine E_blk (lv' := [some (vr (some (5, this))), none, some (vi v2), some (vi v3), some (vi v4), some (vi v5), some (vi s0)]) (st' := [vi s0]) (M1 := M) (pc' := 95) (tb_World hγ) [.istore 6, .iload 6] (by decide +kernel) rfl rfl trivial ?_
  refine E_if_lt (off := 42) (tgt := 137) (by decide +kernel) (by decide) (fun b14 => ?_) (fun b14 => ?_)
  · rw [if_pos b14] at h
    refine E_mask [true, false, true, true, true, true, false] rfl ?_
    exact lk_World_isBelow_j137 hγ this Q k23 k49 hk23 hk49 v2 v3 v4 v5 M h
  · rw [if_neg b14] at h
    obtain ⟨c15, h⟩ := h
    refine E_blk (lv' := [some (vr (some (5, this))), none, some (vi v2), some (vi v3), some (vi v4), some (vi v5), some (vi s0)]) (st' := [vi (mI M 5 this 61), vi (mI M 77 this s0.toNatClampNeg)]) (M1 := M) (pc' := 109) (tb_World hγ) [.aload_n 0, .getfield 123, .iload 6, .iaload, .aload_n 0, .getfield 240] (by decide +kernel) rfl rfl ⟨c15, trivial⟩ ?_
    refine E_icmp_ne (off := 6) (tgt := 115) (by decide +kernel) (by decide) (fun b16 => ?_) (fun b16 => ?_)
    · rw [if_pos b16] at h
      refine E_goto (off := 25) (tgt := 137) (by decide +kernel) (by decide) ?_
      refine E_mask [true, false, true, true, true, true, false] rfl ?_
      exact lk_World_isBelow_j137 hγ this Q k23 k49 hk23 hk49 v2 v3 v4 v5 M h
    · rw [if_neg b16] at h
      obtain ⟨c17, c18, h⟩ := h
      refine E_blk (lv' := [some (vr (some (5, this))), none, some (vi v2), some (vi v3), some (vi v4), some (vi v5), some (vi s0)]) (st' := []) (M1 := (sI (sI M 77 this s0.toNatClampNeg (mI M 5 this 61)) 78 this v3.toNatClampNeg s0)) (pc' := 134) (tb_World hγ) [.aload_n 0, .getfield 123, .iload 6, .aload_n 0, .getfield 240, .iastore, .aload_n 0, .getfield 126, .iload_n 3, .iload 6, .iastore] (by decide +kernel) rfl rfl ⟨c17, c18, trivial⟩ ?_
      obtain ⟨M19, eM19, h⟩ := h
      rw [← eM19]
      refine E_blk (lv' := [some (vr (some (5, this))), none, some (vi v2), some (vi (v3 + (1 : Int32))), some (vi v4), some (vi v5), some (vi s0)]) (st' := []) (M1 := M19) (pc' := 137) (tb_World hγ) [.iinc 3 1] (by decide +kernel) rfl rfl trivial ?_
      refine E_mask [true, false, true, true, true, true, false] rfl ?_
      exact lk_World_isBelow_j137 hγ this Q k23 k49 hk23 hk49 v2 (v3 + (1 : Int32)) v4 v5 M19 h
set_option maxRecDepth 4096 in
theorem lk_World_isBelow_L49 {γ : Gm} (hγ : Gk γ) (this : Nat) (Q : Int32 → Mem → Prop) (k23 : Int32 → Int32 → Mem → Prop) (hk23 : ∀ (v2 : Int32) (v3 : Int32) (M : Mem), k23 v2 v3 M → E γ k_World_isBelow 2 23 [some (vr (some (5, this))), none, some (vi v2), some (vi v3), none, none, none] [] M (Qi Q)) : ∀ (n : Nat) (v2 : Int32) (v3 : Int32) (v4 : Int32) (v5 : Int32) (M : Mem), w_World_isBelow_L49 this Q k23 n v2 v3 v4 v5 M → E γ k_World_isBelow 2 49 [some (vr (some (5, this))), none, some (vi v2), some (vi v3), some (vi v4), some (vi v5), none] [] M (Qi Q) := by
  intro n
  induction n with
  | zero => intro v2 v3 v4 v5 M h; exact h.elim
  | succ n ih =>
    intro v2 v3 v4 v5 M h
    unfold w_World_isBelow_L49 at h
    obtain ⟨c8, h⟩ := h
    refine E_blk (lv' := [some (vr (some (5, this))), none, some (vi v2), some (vi v3), some (vi v4), some (vi v5), none]) (st' := [vi (mI M 39 this v4.toNatClampNeg), vi v5]) (M1 := M) (pc' := 58) (tb_World hγ) [.iload 5, .aload_n 0, .getfield 29, .iload 4, .iaload] (by decide +kernel) rfl rfl ⟨c8, trivial⟩ ?_
    refine E_icmp_ge (off := 85) (tgt := 143) (by decide +kernel) (by decide) (fun b9 => ?_) (fun b9 => ?_)
    · rw [if_pos b9] at h
      refine E_goto (off := -120) (tgt := 23) (by decide +kernel) (by decide) ?_
      refine E_mask [true, false, true, true, false, false, false] rfl ?_
      exact hk23 v2 v3 M h
    · rw [if_neg b9] at h
      refine E_blk (lv' := [some (vr (some (5, this))), none, some (vi v2), some (vi v3), some (vi v4), some (vi v5), none]) (st' := [vi v5]) (M1 := M) (pc' := 63) (tb_World hγ) [.iload 5] (by decide +kernel) rfl rfl trivial ?_
      refine E_if_ge (off := 12) (tgt := 75) (by decide +kernel) (by decide) (fun b10 => ?_) (fun b10 => ?_)
      · rw [if_pos b10] at h
        obtain ⟨c11, h⟩ := h
        refine E_blk (lv' := [some (vr (some (5, this))), none, some (vi v2), some (vi v3), some (vi v4), some (vi v5), none]) (st' := [vi (mI M 38 this (((4 : Int32) * v4) + v5).toNatClampNeg), vr (some (5, this))]) (M1 := M) (pc' := 88) (tb_World hγ) [.aload_n 0, .aload_n 0, .getfield 26, .iconst 4, .iload 4, .imul, .iload 5, .iadd, .iaload] (by decide +kernel) rfl rfl ⟨c11, trivial⟩ ?_
        refine E_callV (κ' := k_World_find) (As := [vi (mI M 38 this (((4 : Int32) * v4) + v5).toNatClampNeg)]) (st := []) mv_World_find (Or.inl (tbk_mem (j := 7) (k := 89) rfl)) rfl (by decide +kernel) (Nat.le_of_ble_eq_true rfl) (Nat.le_of_ble_eq_true rfl) rfl (by decide) (lk_World_find hγ this (mI M 38 this (((4 : Int32) * v4) + v5).toNatClampNeg) _ M h) (fun _ _ => Qi_r) (fun v M12 hp => Qi_k (R := fun st => E γ k_World_isBelow 2 91 [some (vr (some (5, this))), none, some (vi v2), some (vi v3), some (vi v4), some (vi v5), none] st M12 (Qi Q)) hp (fun r13 h => ?_))
        refine E_mask [true, false, true, true, true, true, false] rfl ?_
        exact lk_World_isBelow_j91 hγ this Q k23 (w_World_isBelow_L49 this Q k23 n) hk23 ih v2 v3 v4 v5 r13 M12 h
      · rw [if_neg b10] at h
        refine E_blk (lv' := [some (vr (some (5, this))), none, some (vi v2), some (vi v3), some (vi v4), some (vi v5), none]) (st' := [vi v4, vr (some (5, this))]) (M1 := M) (pc' := 69) (tb_World hγ) [.aload_n 0, .iload 4] (by decide +kernel) rfl rfl trivial ?_
        refine E_callV (κ' := k_World_up) (As := [vi v4]) (st := []) mv_World_up (Or.inl (tbk_mem (j := 7) (k := 93) rfl)) rfl (by decide +kernel) (Nat.le_of_ble_eq_true rfl) (Nat.le_of_ble_eq_true rfl) rfl (by decide) (lk_World_up hγ this v4 _ M h) (fun _ _ => Qi_r) (fun v M20 hp => Qi_k (R := fun st => E γ k_World_isBelow 2 72 [some (vr (some (5, this))), none, some (vi v2), some (vi v3), some (vi v4), some (vi v5), none] st M20 (Qi Q)) hp (fun r21 h => ?_))
        refine E_goto (off := 19) (tgt := 91) (by decide +kernel) (by decide) ?_
        refine E_mask [true, false, true, true, true, true, false] rfl ?_
        exact lk_World_isBelow_j91 hγ this Q k23 (w_World_isBelow_L49 this Q k23 n) hk23 ih v2 v3 v4 v5 r21 M20 h
set_option maxRecDepth 4096 in
theorem lk_World_isBelow_L23 {γ : Gm} (hγ : Gk γ) (this : Nat) (Q : Int32 → Mem → Prop) : ∀ (n : Nat) (v2 : Int32) (v3 : Int32) (M : Mem), w_World_isBelow_L23 this Q n v2 v3 M → E γ k_World_isBelow 2 23 [some (vr (some (5, this))), none, some (vi v2), some (vi v3), none, none, none] [] M (Qi Q) := by
  intro n
  induction n with
  | zero => intro v2 v3 M h; exact h.elim
  | succ n ih =>
    intro v2 v3 M h
    unfold w_World_isBelow_L23 at h
    refine E_blk (lv' := [some (vr (some (5, this))), none, some (vi v2), some (vi v3), none, none, none]) (st' := [vi v3]) (M1 := M) (pc' := 24) (tb_World hγ) [.iload_n 3] (by decide +kernel) rfl rfl trivial ?_
    refine E_if_le (off := 122) (tgt := 146) (by decide +kernel) (by decide) (fun b5 => ?_) (fun b5 => ?_)
    · rw [if_pos b5] at h
      refine E_blk (lv' := [some (vr (some (5, this))), none, some (vi v2), some (vi v3), none, none, none]) (st' := [vi (0 : Int32)]) (M1 := M) (pc' := 147) (tb_World hγ) [.iconst 0] (by decide +kernel) rfl rfl trivial ?_
      exact E_zret rfl (Or.inl rfl) (by decide +kernel) h
    · rw [if_neg b5] at h
      obtain ⟨c6, h⟩ := h
      refine E_blk (lv' := [some (vr (some (5, this))), none, some (vi v2), some (vi (v3 + (-1 : Int32))), some (vi (mI M 78 this (v3 + (-1 : Int32)).toNatClampNeg)), none, none]) (st' := [vi v2, vi (mI M 78 this (v3 + (-1 : Int32)).toNatClampNeg)]) (M1 := M) (pc' := 41) (tb_World hγ) [.iinc 3 (.negSucc 0), .aload_n 0, .getfield 126, .iload_n 3, .iaload, .istore 4, .iload 4, .iload_n 2] (by decide +kernel) rfl rfl ⟨c6, trivial⟩ ?_
      refine E_icmp_ne (off := 5) (tgt := 46) (by decide +kernel) (by decide) (fun b7 => ?_) (fun b7 => ?_)
      · rw [if_pos b7] at h
        refine E_blk (lv' := [some (vr (some (5, this))), none, some (vi v2), some (vi (v3 + (-1 : Int32))), some (vi (mI M 78 this (v3 + (-1 : Int32)).toNatClampNeg)), none, none]) (st' := [vi (1 : Int32)]) (M1 := M) (pc' := 45) (tb_World hγ) [.iconst 1] (by decide +kernel) rfl rfl trivial ?_
        exact E_zret rfl (Or.inr rfl) (by decide +kernel) h
      · rw [if_neg b7] at h
        refine E_blk (lv' := [some (vr (some (5, this))), none, some (vi v2), some (vi (v3 + (-1 : Int32))), some (vi (mI M 78 this (v3 + (-1 : Int32)).toNatClampNeg)), some (vi (-1 : Int32)), none]) (st' := []) (M1 := M) (pc' := 49) (tb_World hγ) [.iconst (.negSucc 0), .istore 5] (by decide +kernel) rfl rfl trivial ?_
        obtain ⟨n22, h⟩ := h
        refine E_mask [true, false, true, true, true, true, false] rfl ?_
        exact lk_World_isBelow_L49 hγ this Q (w_World_isBelow_L23 this Q n) ih n22 v2 (v3 + (-1 : Int32)) (mI M 78 this (v3 + (-1 : Int32)).toNatClampNeg) (-1 : Int32) M h
set_option maxRecDepth 4096 in
theorem lk_World_isBelow {γ : Gm} (hγ : Gk γ) (this : Nat) (a1 : Int32) (a2 : Int32) (Q : Int32 → Mem → Prop) (M : Mem) (h : w_World_isBelow this a1 a2 Q M) : E γ k_World_isBelow 2 0 [some (vr (some (5, this))), some (vi a1), some (vi a2), none, none, none, none] [] M (Qi Q) := by
  unfold w_World_isBelow at h
  refine E_blk (lv' := [some (vr (some (5, this))), some (vi a1), some (vi a2), some (vi (1 : Int32)), none, none, none]) (st' := [vr (some (5, this))]) (M1 := M) (pc' := 3) (tb_World hγ) [.iconst 1, .istore_n 3, .aload_n 0] (by decide +kernel) rfl rfl trivial ?_
  refine E_callV (κ' := k_World_nextStamp) (As := []) (st := []) mv_World_nextStamp (Or.inl (tbk_mem (j := 8) (k := 176) rfl)) rfl (by decide +kernel) (Nat.le_of_ble_eq_true rfl) (Nat.le_of_ble_eq_true rfl) rfl (by decide) (lk_World_nextStamp hγ this _ M h) (fun _ _ => Qv_r) (fun v M1 hp => Qv_k (R := fun st => E γ k_World_isBelow 2 6 [some (vr (some (5, this))), some (vi a1), some (vi a2), some (vi (1 : Int32)), none, none, none] st M1 (Qi Q)) hp (fun h => ?_))
  obtain ⟨c2, c3, h⟩ := h
  refine E_blk (lv' := [some (vr (some (5, this))), some (vi a1), some (vi a2), some (vi (1 : Int32)), none, none, none]) (st' := []) (M1 := (sI (sI M1 77 this a1.toNatClampNeg (mI M1 5 this 61)) 78 this (0 : Int32).toNatClampNeg a1)) (pc' := 23) (tb_World hγ) [.aload_n 0, .getfield 123, .iload_n 1, .aload_n 0, .getfield 240, .iastore, .aload_n 0, .getfield 126, .iconst 0, .iload_n 1, .iastore] (by decide +kernel) rfl rfl ⟨c2, c3, trivial⟩ ?_
  obtain ⟨M4, eM4, h⟩ := h
  rw [← eM4]
  obtain ⟨n23, h⟩ := h
  refine E_mask [true, false, true, true, false, false, false] rfl ?_
  exact lk_World_isBelow_L23 hγ this Q n23 a2 (1 : Int32) M4 h
def w_Machine_set (this : Nat) (a1 : Int32) (a2 : Int32) (a3 : Int32) (Q : Mem → Prop) (M : Mem) : Prop :=
  ∃ i1, (mR M 6 this 2) = some (7, i1) ∧ vp_in a1 (mL M 94 i1) ∧ ∃ i3, (mR (sI M 94 i1 a1.toNatClampNeg a2) 6 this 2) = some (7, i3) ∧ vp_in a1 (mL (sI M 94 i1 a1.toNatClampNeg a2) 514 i3) ∧ ∃ M5, M5 = (sI (sI M 94 i1 a1.toNatClampNeg a2) 514 i3 a1.toNatClampNeg (a3 &&& 1)) ∧ Q M5
set_option maxRecDepth 4096 in
theorem lk_Machine_set {γ : Gm} (hγ : Gk γ) (this : Nat) (a1 : Int32) (a2 : Int32) (a3 : Int32) (Q : Mem → Prop) (M : Mem) (h : w_Machine_set this a1 a2 a3 Q M) : E γ k_Machine_set 0 0 [some (vr (some (6, this))), some (vi a1), some (vi a2), some (vi a3)] [] M (Qv Q) := by
  unfold w_Machine_set at h
  refine E_blk (lv' := [some (vr (some (6, this))), some (vi a1), some (vi a2), some (vi a3)]) (st' := [vr (mR M 6 this 2)]) (M1 := M) (pc' := 4) (tb_Machine hγ) [.aload_n 0, .getfield 24] (by decide +kernel) rfl rfl trivial ?_
  obtain ⟨i1, ei1, h⟩ := h
  rw [ei1]
  obtain ⟨c2, h⟩ := h
  refine E_blk (lv' := [some (vr (some (6, this))), some (vi a1), some (vi a2), some (vi a3)]) (st' := [vr (mR (sI M 94 i1 a1.toNatClampNeg a2) 6 this 2)]) (M1 := (sI M 94 i1 a1.toNatClampNeg a2)) (pc' := 14) (tb_Machine hγ) [.getfield 218, .iload_n 1, .iload_n 2, .iastore, .aload_n 0, .getfield 24] (by decide +kernel) rfl rfl ⟨c2, trivial⟩ ?_
  obtain ⟨i3, ei3, h⟩ := h
  rw [ei3]
  obtain ⟨c4, h⟩ := h
  refine E_blk (lv' := [some (vr (some (6, this))), some (vi a1), some (vi a2), some (vi a3)]) (st' := []) (M1 := (sI (sI M 94 i1 a1.toNatClampNeg a2) 514 i3 a1.toNatClampNeg (a3 &&& 1))) (pc' := 20) (tb_Machine hγ) [.getfield 221, .iload_n 1, .iload_n 3, .bastore] (by decide +kernel) rfl rfl ⟨c4, trivial⟩ ?_
  obtain ⟨M5, eM5, h⟩ := h
  rw [← eM5]
  exact E_vret rfl (by decide +kernel) h
def w_Machine_methodEvent (this : Nat) (a1 : Int32) (a2 : Int32) (Q : Mem → Prop) (M : Mem) : Prop :=
  vp_in a2 (mL M 55 this) ∧ w_Machine_event this a1 (mI M 55 this a2.toNatClampNeg) a2 (fun M2 => Q M2) M
set_option maxRecDepth 4096 in
theorem lk_Machine_methodEvent {γ : Gm} (hγ : Gk γ) (this : Nat) (a1 : Int32) (a2 : Int32) (Q : Mem → Prop) (M : Mem) (h : w_Machine_methodEvent this a1 a2 Q M) : E γ k_Machine_methodEvent 1 0 [some (vr (some (6, this))), some (vi a1), some (vi a2)] [] M (Qv Q) := by
  unfold w_Machine_methodEvent at h
  obtain ⟨c1, h⟩ := h
  refine E_blk (lv' := [some (vr (some (6, this))), some (vi a1), some (vi a2)]) (st' := [vi a2, vi (mI M 55 this a2.toNatClampNeg), vi a1, vr (some (6, this))]) (M1 := M) (pc' := 12) (tb_Machine hγ) [.aload_n 0, .iload_n 1, .aload_n 0, .getfield 84, .getfield 142, .iload_n 2, .iaload, .iload_n 2] (by decide +kernel) rfl rfl ⟨c1, trivial⟩ ?_
  refine E_callV (κ' := k_Machine_event) (As := [vi a1, vi (mI M 55 this a2.toNatClampNeg), vi a2]) (st := []) mv_Machine_event (Or.inl (tbk_mem (j := 8) (k := 203) rfl)) rfl (by decide +kernel) (Nat.le_of_ble_eq_true rfl) (Nat.le_of_ble_eq_true rfl) rfl (by decide) (lk_Machine_event hγ this a1 (mI M 55 this a2.toNatClampNeg) a2 _ M h) (fun _ _ => Qv_r) (fun v M2 hp => Qv_k (R := fun st => E γ k_Machine_methodEvent 1 15 [some (vr (some (6, this))), some (vi a1), some (vi a2)] st M2 (Qv Q)) hp (fun h => ?_))
  exact E_vret rfl (by decide +kernel) h
def w_Machine_handled_j212 (this : Nat) (Q : Int32 → Mem → Prop) (k13 : Int32 → Int32 → Int32 → Int32 → Mem → Prop) (v1 : Int32) (v2 : Int32) (v3 : Int32) (v4 : Int32) (M : Mem) : Prop :=
  k13 v1 v2 v3 (v4 + (1 : Int32)) M
def w_Machine_handled_j132 (this : Nat) (Q : Int32 → Mem → Prop) (k13 : Int32 → Int32 → Int32 → Int32 → Mem → Prop) (v1 : Int32) (v2 : Int32) (v3 : Int32) (v4 : Int32) (v5 : Int32) (s0 : Int32) (M : Mem) : Prop :=
  if s0 < 0 then (w_Machine_handled_j212 this Q k13 v1 v2 v3 v4 M) else (w_Machine_classOf this v2 (fun r18 M17 => w_World_isBelow this r18 s0 (fun r20 M19 => if r20 = 0 then (w_Machine_handled_j212 this Q k13 v1 v2 v3 v4 M19) else (∃ i22, (mR M19 6 this 2) = some (7, i22) ∧ vp_in (v5 + (2 : Int32)) (mL M19 75 this) ∧ vp_in v1 (mL M19 90 i22) ∧ ∃ M25, M25 = (sI M19 90 i22 v1.toNatClampNeg (mI M19 75 this (v5 + (2 : Int32)).toNatClampNeg)) ∧ ∃ i26, (mR M25 6 this 2) = some (7, i26) ∧ vp_in v1 (mL M25 91 i26) ∧ w_Machine_set this (((40 : Int32) * v1) + (20 : Int32)) v2 (1 : Int32) (fun M28 => w_Machine_methodEvent this (7 : Int32) v3 (fun M29 => Q (1 : Int32) M29) M28) (sI M25 91 i26 v1.toNatClampNeg (1 : Int32)))) M17) M)
def w_Machine_handled_L13 (this : Nat) (Q : Int32 → Mem → Prop) : Nat → Int32 → Int32 → Int32 → Int32 → Mem → Prop
  | 0, _, _, _, _, _ => False
  | n + 1, v1, v2, v3, v4, M => vp_in v3 (mL M 65 this) ∧ if (mI M 65 this v3.toNatClampNeg) ≤ v4 then (Q (0 : Int32) M) else (vp_in v3 (mL M 64 this) ∧ ∃ i6, (mR M 6 this 2) = some (7, i6) ∧ vp_in v1 (mL M 90 i6) ∧ vp_in ((4 : Int32) * ((mI M 64 this v3.toNatClampNeg) + v4)) (mL M 75 this) ∧ if (mI M 90 i6 v1.toNatClampNeg) < (mI M 75 this ((4 : Int32) * ((mI M 64 this v3.toNatClampNeg) + v4)).toNatClampNeg) then (w_Machine_handled_j212 this Q (w_Machine_handled_L13 this Q n) v1 v2 v3 v4 M) else (∃ i10, (mR M 6 this 2) = some (7, i10) ∧ vp_in v1 (mL M 90 i10) ∧ vp_in (((4 : Int32) * ((mI M 64 this v3.toNatClampNeg) + v4)) + (1 : Int32)) (mL M 75 this) ∧ if (mI M 90 i10 v1.toNatClampNeg) < (mI M 75 this (((4 : Int32) * ((mI M 64 this v3.toNatClampNeg) + v4)) + (1 : Int32)).toNatClampNeg) then (vp_in (((4 : Int32) * ((mI M 64 this v3.toNatClampNeg) + v4)) + (3 : Int32)) (mL M 75 this) ∧ if (mI M 75 this (((4 : Int32) * ((mI M 64 this v3.toNatClampNeg) + v4)) + (3 : Int32)).toNatClampNeg) = (77 : Int32) then (w_Machine_handled_j132 this Q (w_Machine_handled_L13 this Q n) v1 v2 v3 v4 ((4 : Int32) * ((mI M 64 this v3.toNatClampNeg) + v4)) (0 : Int32) M) else (vp_in (((4 : Int32) * ((mI M 64 this v3.toNatClampNeg) + v4)) + (3 : Int32)) (mL M 75 this) ∧ w_World_find this (mI M 75 this (((4 : Int32) * ((mI M 64 this v3.toNatClampNeg) + v4)) + (3 : Int32)).toNatClampNeg) (fun r32 M31 => w_Machine_handled_j132 this Q (w_Machine_handled_L13 this Q n) v1 v2 v3 v4 ((4 : Int32) * ((mI M 64 this v3.toNatClampNeg) + v4)) r32 M31) M)) else (w_Machine_handled_j212 this Q (w_Machine_handled_L13 this Q n) v1 v2 v3 v4 M)))
def w_Machine_handled (this : Nat) (a1 : Int32) (a2 : Int32) (Q : Int32 → Mem → Prop) (M : Mem) : Prop :=
  ∃ i1, (mR M 6 this 2) = some (7, i1) ∧ vp_in a1 (mL M 89 i1) ∧ ∃ n33 : Nat, w_Machine_handled_L13 this Q n33 a1 a2 (mI M 89 i1 a1.toNatClampNeg) (0 : Int32) M
set_option maxRecDepth 4096 in
theorem lk_Machine_handled_j212 {γ : Gm} (hγ : Gk γ) (this : Nat) (Q : Int32 → Mem → Prop) (k13 : Int32 → Int32 → Int32 → Int32 → Mem → Prop) (hk13 : ∀ (v1 : Int32) (v2 : Int32) (v3 : Int32) (v4 : Int32) (M : Mem), k13 v1 v2 v3 v4 M → E γ k_Machine_handled 3 13 [some (vr (some (6, this))), some (vi v1), some (vi v2), some (vi v3), some (vi v4), none, none] [] M (Qi Q)) (v1 : Int32) (v2 : Int32) (v3 : Int32) (v4 : Int32) (M : Mem) (h : w_Machine_handled_j212 this Q k13 v1 v2 v3 v4 M) : E γ k_Machine_handled 3 212 [some (vr (some (6, this))), some (vi v1), some (vi v2), some (vi v3), some (vi v4), none, none] [] M (Qi Q) := by
  unfold w_Machine_handled_j212 at h
  refine E_blk (lv' := [some (vr (some (6, this))), some (vi v1), some (vi v2), some (vi v3), some (vi (v4 + (1 : Int32))), none, none]) (st' := []) (M1 := M) (pc' := 215) (tb_Machine hγ) [.iinc 4 1] (by decide +kernel) rfl rfl trivial ?_
  refine E_goto (off := -202) (tgt := 13) (by decide +kernel) (by decide) ?_
  refine E_mask [true, true, true, true, true, false, false] rfl ?_
  exact hk13 v1 v2 v3 (v4 + (1 : Int32)) M h
set_option maxRecDepth 4096 in
theorem lk_Machine_handled_j132 {γ : Gm} (hγ : Gk γ) (this : Nat) (Q : Int32 → Mem → Prop) (k13 : Int32 → Int32 → Int32 → Int32 → Mem → Prop) (hk13 : ∀ (v1 : Int32) (v2 : Int32) (v3 : Int32) (v4 : Int32) (M : Mem), k13 v1 v2 v3 v4 M → E γ k_Machine_handled 3 13 [some (vr (some (6, this))), some (vi v1), some (vi v2), some (vi v3), some (vi v4), none, none] [] M (Qi Q)) (v1 : Int32) (v2 : Int32) (v3 : Int32) (v4 : Int32) (v5 : Int32) (s0 : Int32) (M : Mem) (h : w_Machine_handled_j132 this Q k13 v1 v2 v3 v4 v5 s0 M) : E γ k_Machine_handled 3 132 [some (vr (some (6, this))), some (vi v1), some (vi v2), some (vi v3), some (vi v4), some (vi v5), none] [vi s0] M (Qi Q) := by
  unfold w_Machine_handled_j132 at h
  refine E_blk (lv' := [some (vr (some (6, this))), some (vi v1), some (vi v2), some (vi v3), some (vi v4), some (vi v5), some (vi s0)]) (st' := [vi s0]) (M1 := M) (pc' := 136) (tb_Machine hγ) [.istore 6, .iload 6] (by decide +kernel) rfl rfl trivial ?_
  refine E_if_lt (off := 76) (tgt := 212) (by decide +kernel) (by decide) (fun b16 => ?_) (fun b16 => ?_)
  · rw [if_pos b16] at h
    refine E_mask [true, true, true, true, true, false, false] rfl ?_
    exact lk_Machine_handled_j212 hγ this Q k13 hk13 v1 v2 v3 v4 M h
  · rw [if_neg b16] at h
    refine E_blk (lv' := [some (vr (some (6, this))), some (vi v1), some (vi v2), some (vi v3), some (vi v4), some (vi v5), some (vi s0)]) (st' := [vi v2, vr (some (6, this)), vr (some (5, this))]) (M1 := M) (pc' := 145) (tb_Machine hγ) [.aload_n 0, .getfield 84, .aload_n 0, .iload_n 2] (by decide +kernel) rfl rfl trivial ?_
    refine E_callV (κ' := k_Machine_classOf) (As := [vi v2]) (st := [vr (some (5, this))]) mv_Machine_classOf (Or.inl (tbk_mem (j := 8) (k := 207) rfl)) rfl (by decide +kernel) (Nat.le_of_ble_eq_true rfl) (Nat.le_of_ble_eq_true rfl) rfl (by decide) (lk_Machine_classOf hγ this v2 _ M h) (fun _ _ => Qi_r) (fun v M17 hp => Qi_k (R := fun st => E γ k_Machine_handled 3 148 [some (vr (some (6, this))), some (vi v1), some (vi v2), some (vi v3), some (vi v4), some (vi v5), some (vi s0)] st M17 (Qi Q)) hp (fun r18 h => ?_))
    refine E_blk (lv' := [some (vr (some (6, this))), some (vi v1), some (vi v2), some (vi v3), some (vi v4), some (vi v5), some (vi s0)]) (st' := [vi s0, vi r18, vr (some (5, this))]) (M1 := M17) (pc' := 150) (tb_Machine hγ) [.iload 6] (by decide +kernel) rfl rfl trivial ?_
    refine E_callV (κ' := k_World_isBelow) (As := [vi r18, vi s0]) (st := []) mv_World_isBelow (Or.inl (tbk_mem (j := 8) (k := 211) rfl)) rfl (by decide +kernel) (Nat.le_of_ble_eq_true rfl) (Nat.le_of_ble_eq_true rfl) rfl (by decide) (lk_World_isBelow hγ this r18 s0 _ M17 h) (fun _ _ => Qi_r) (fun v M19 hp => Qi_k (R := fun st => E γ k_Machine_handled 3 153 [some (vr (some (6, this))), some (vi v1), some (vi v2), some (vi v3), some (vi v4), some (vi v5), some (vi s0)] st M19 (Qi Q)) hp (fun r20 h => ?_))
    refine E_if_ne (off := 6) (tgt := 159) (by decide +kernel) (by decide) (fun b21 => ?_) (fun b21 => ?_)
    · rw [if_pos b21] at h
      refine E_goto (off := 56) (tgt := 212) (by decide +kernel) (by decide) ?_
      refine E_mask [true, true, true, true, true, false, false] rfl ?_
      exact lk_Machine_handled_j212 hγ this Q k13 hk13 v1 v2 v3 v4 M19 h
    · rw [if_neg b21] at h
      refine E_blk (lv' := [some (vr (some (6, this))), some (vi v1), some (vi v2), some (vi v3), some (vi v4), some (vi v5), some (vi s0)]) (st' := [vr (mR M19 6 this 2)]) (M1 := M19) (pc' := 163) (tb_Machine hγ) [.aload_n 0, .getfield 24] (by decide +kernel) rfl rfl trivial ?_
      obtain ⟨i22, ei22, h⟩ := h
      rw [ei22]
      obtain ⟨c23, c24, h⟩ := h
      refine E_blk (lv' := [some (vr (some (6, this))), some (vi v1), some (vi v2), some (vi v3), some (vi v4), some (vi v5), some (vi s0)]) (st' := []) (M1 := (sI M19 90 i22 v1.toNatClampNeg (mI M19 75 this (v5 + (2 : Int32)).toNatClampNeg))) (pc' := 180) (tb_Machine hγ) [.getfield 230, .iload_n 1, .aload_n 0, .getfield 84, .getfield 348, .iload 5, .iconst 2, .iadd, .iaload, .iastore] (by decide +kernel) rfl rfl ⟨c23, c24, trivial⟩ ?_
      obtain ⟨M25, eM25, h⟩ := h
      rw [← eM25]
      refine E_blk (lv' := [some (vr (some (6, this))), some (vi v1), some (vi v2), some (vi v3), some (vi v4), some (vi v5), some (vi s0)]) (st' := [vr (mR M25 6 this 2)]) (M1 := M25) (pc' := 184) (tb_Machine hγ) [.aload_n 0, .getfield 24] (by decide +kernel) rfl rfl trivial ?_
      obtain ⟨i26, ei26, h⟩ := h
      rw [ei26]
      obtain ⟨c27, h⟩ := h
      refine E_blk (lv' := [some (vr (some (6, this))), some (vi v1), some (vi v2), some (vi v3), some (vi v4), some (vi v5), some (vi s0)]) (st' := [vi (1 : Int32), vi v2, vi (((40 : Int32) * v1) + (20 : Int32)), vr (some (6, this))]) (M1 := (sI M25 91 i26 v1.toNatClampNeg (1 : Int32))) (pc' := 200) (tb_Machine hγ) [.getfield 233, .iload_n 1, .iconst 1, .iastore, .aload_n 0, .bipush 40, .iload_n 1, .imul, .bipush 20, .iadd, .iload_n 2, .iconst 1] (by decide +kernel) rfl rfl ⟨c27, trivial⟩ ?_
      refine E_callV (κ' := k_Machine_set) (As := [vi (((40 : Int32) * v1) + (20 : Int32)), vi v2, vi (1 : Int32)]) (st := []) mv_Machine_set (Or.inl (tbk_mem (j := 8) (k := 219) rfl)) rfl (by decide +kernel) (Nat.le_of_ble_eq_true rfl) (Nat.le_of_ble_eq_true rfl) rfl (by decide) (lk_Machine_set hγ this (((40 : Int32) * v1) + (20 : Int32)) v2 (1 : Int32) _ (sI M25 91 i26 v1.toNatClampNeg (1 : Int32)) h) (fun _ _ => Qv_r) (fun v M28 hp => Qv_k (R := fun st => E γ k_Machine_handled 3 203 [some (vr (some (6, this))), some (vi v1), some (vi v2), some (vi v3), some (vi v4), some (vi v5), some (vi s0)] st M28 (Qi Q)) hp (fun h => ?_))
      refine E_blk (lv' := [some (vr (some (6, this))), some (vi v1), some (vi v2), some (vi v3), some (vi v4), some (vi v5), some (vi s0)]) (st' := [vi v3, vi (7 : Int32), vr (some (6, this))]) (M1 := M28) (pc' := 207) (tb_Machine hγ) [.aload_n 0, .bipush 7, .iload_n 3] (by decide +kernel) rfl rfl trivial ?_
      refine E_callV (κ' := k_Machine_methodEvent) (As := [vi (7 : Int32), vi v3]) (st := []) mv_Machine_methodEvent (Or.inl (tbk_mem (j := 8) (k := 223) rfl)) rfl (by decide +kernel) (Nat.le_of_ble_eq_true rfl) (Nat.le_of_ble_eq_true rfl) rfl (by decide) (lk_Machine_methodEvent hγ this (7 : Int32) v3 _ M28 h) (fun _ _ => Qv_r) (fun v M29 hp => Qv_k (R := fun st => E γ k_Machine_handled 3 210 [some (vr (some (6, this))), some (vi v1), some (vi v2), some (vi v3), some (vi v4), some (vi v5), some (vi s0)] st M29 (Qi Q)) hp (fun h => ?_))
      refine E_blk (lv' := [some (vr (some (6, this))), some (vi v1), some (vi v2), some (vi v3), some (vi v4), some (vi v5), some (vi s0)]) (st' := [vi (1 : Int32)]) (M1 := M29) (pc' := 211) (tb_Machine hγ) [.iconst 1] (by decide +kernel) rfl rfl trivial ?_
      exact E_zret rfl (Or.inr rfl) (by decide +kernel) h
set_option maxRecDepth 4096 in
theorem lk_Machine_handled_L13 {γ : Gm} (hγ : Gk γ) (this : Nat) (Q : Int32 → Mem → Prop) : ∀ (n : Nat) (v1 : Int32) (v2 : Int32) (v3 : Int32) (v4 : Int32) (M : Mem), w_Machine_handled_L13 this Q n v1 v2 v3 v4 M → E γ k_Machine_handled 3 13 [some (vr (some (6, this))), some (vi v1), some (vi v2), some (vi v3), some (vi v4), none, none] [] M (Qi Q) := by
  intro n
  induction n with
  | zero => intro v1 v2 v3 v4 M h; exact h.elim
  | succ n ih =>
    intro v1 v2 v3 v4 M h
    unfold w_Machine_handled_L13 at h
    obtain ⟨c3, h⟩ := h
    refine E_blk (lv' := [some (vr (some (6, this))), some (vi v1), some (vi v2), some (vi v3), some (vi v4), none, none]) (st' := [vi (mI M 65 this v3.toNatClampNeg), vi v4]) (M1 := M) (pc' := 24) (tb_Machine hγ) [.iload 4, .aload_n 0, .getfield 84, .getfield 342, .iload_n 3, .iaload] (by decide +kernel) rfl rfl ⟨c3, trivial⟩ ?_
    refine E_icmp_ge (off := 194) (tgt := 218) (by decide +kernel) (by decide) (fun b4 => ?_) (fun b4 => ?_)
    · rw [if_pos b4] at h
      refine E_blk (lv' := [some (vr (some (6, this))), some (vi v1), some (vi v2), some (vi v3), some (vi v4), none, none]) (st' := [vi (0 : Int32)]) (M1 := M) (pc' := 219) (tb_Machine hγ) [.iconst 0] (by decide +kernel) rfl rfl trivial ?_
      exact E_zret rfl (Or.inl rfl) (by decide +kernel) h
    · rw [if_neg b4] at h
      obtain ⟨c5, h⟩ := h
      refine E_blk (lv' := [some (vr (some (6, this))), some (vi v1), some (vi v2), some (vi v3), some (vi v4), some (vi ((4 : Int32) * ((mI M 64 this v3.toNatClampNeg) + v4))), none]) (st' := [vr (mR M 6 this 2)]) (M1 := M) (pc' := 47) (tb_Machine hγ) [.iconst 4, .aload_n 0, .getfield 84, .getfield 345, .iload_n 3, .iaload, .iload 4, .iadd, .imul, .istore 5, .aload_n 0, .getfield 24] (by decide +kernel) rfl rfl ⟨c5, trivial⟩ ?_
      obtain ⟨i6, ei6, h⟩ := h
      rw [ei6]
      obtain ⟨c7, c8, h⟩ := h
      refine E_blk (lv' := [some (vr (some (6, this))), some (vi v1), some (vi v2), some (vi v3), some (vi v4), some (vi ((4 : Int32) * ((mI M 64 this v3.toNatClampNeg) + v4))), none]) (st' := [vi (mI M 75 this ((4 : Int32) * ((mI M 64 this v3.toNatClampNeg) + v4)).toNatClampNeg), vi (mI M 90 i6 v1.toNatClampNeg)]) (M1 := M) (pc' := 62) (tb_Machine hγ) [.getfield 230, .iload_n 1, .iaload, .aload_n 0, .getfield 84, .getfield 348, .iload 5, .iaload] (by decide +kernel) rfl rfl ⟨c7, c8, trivial⟩ ?_
      refine E_icmp_lt (off := 150) (tgt := 212) (by decide +kernel) (by decide) (fun b9 => ?_) (fun b9 => ?_)
      · rw [if_pos b9] at h
        refine E_mask [true, true, true, true, true, false, false] rfl ?_
        exact lk_Machine_handled_j212 hγ this Q (w_Machine_handled_L13 this Q n) ih v1 v2 v3 v4 M h
      · rw [if_neg b9] at h
        refine E_blk (lv' := [some (vr (some (6, this))), some (vi v1), some (vi v2), some (vi v3), some (vi v4), some (vi ((4 : Int32) * ((mI M 64 this v3.toNatClampNeg) + v4))), none]) (st' := [vr (mR M 6 this 2)]) (M1 := M) (pc' := 69) (tb_Machine hγ) [.aload_n 0, .getfield 24] (by decide +kernel) rfl rfl trivial ?_
        obtain ⟨i10, ei10, h⟩ := h
        rw [ei10]
        obtain ⟨c11, c12, h⟩ := h
        refine E_blk (lv' := [some (vr (some (6, this))), some (vi v1), some (vi v2), some (vi v3), some (vi v4), some (vi ((4 : Int32) * ((mI M 64 this v3.toNatClampNeg) + v4))), none]) (st' := [vi (mI M 75 this (((4 : Int32) * ((mI M 64 this v3.toNatClampNeg) + v4)) + (1 : Int32)).toNatClampNeg), vi (mI M 90 i10 v1.toNatClampNeg)]) (M1 := M) (pc' := 86) (tb_Machine hγ) [.getfield 230, .iload_n 1, .iaload, .aload_n 0, .getfield 84, .getfield 348, .iload 5, .iconst 1, .iadd, .iaload] (by decide +kernel) rfl rfl ⟨c11, c12, trivial⟩ ?_
        refine E_icmp_lt (off := 6) (tgt := 92) (by decide +kernel) (by decide) (fun b13 => ?_) (fun b13 => ?_)
        · rw [if_pos b13] at h
          obtain ⟨c14, h⟩ := h
          refine E_blk (lv' := [some (vr (some (6, this))), some (vi v1), some (vi v2), some (vi v3), some (vi v4), some (vi ((4 : Int32) * ((mI M 64 this v3.toNatClampNeg) + v4))), none]) (st' := [vi (77 : Int32), vi (mI M 75 this (((4 : Int32) * ((mI M 64 this v3.toNatClampNeg) + v4)) + (3 : Int32)).toNatClampNeg)]) (M1 := M) (pc' := 106) (tb_Machine hγ) [.aload_n 0, .getfield 84, .getfield 348, .iload 5, .iconst 3, .iadd, .iaload, .bipush 77] (by decide +kernel) rfl rfl ⟨c14, trivial⟩ ?_
          refine E_icmp_ne (off := 7) (tgt := 113) (by decide +kernel) (by decide) (fun b15 => ?_) (fun b15 => ?_)
          · rw [if_pos b15] at h
            refine E_blk (lv' := [some (vr (some (6, this))), some (vi v1), some (vi v2), some (vi v3), some (vi v4), some (vi ((4 : Int32) * ((mI M 64 this v3.toNatClampNeg) + v4))), none]) (st' := [vi (0 : Int32)]) (M1 := M) (pc' := 110) (tb_Machine hγ) [.iconst 0] (by decide +kernel) rfl rfl trivial ?_
            refine E_goto (off := 22) (tgt := 132) (by decide +kernel) (by decide) ?_
            refine E_mask [true, true, true, true, true, true, false] rfl ?_
            exact lk_Machine_handled_j132 hγ this Q (w_Machine_handled_L13 this Q n) ih v1 v2 v3 v4 ((4 : Int32) * ((mI M 64 this v3.toNatClampNeg) + v4)) (0 : Int32) M h
          · rw [if_neg b15] at h
            obtain ⟨c30, h⟩ := h
            refine E_blk (lv' := [some (vr (some (6, this))), some (vi v1), some (vi v2), some (vi v3), some (vi v4), some (vi ((4 : Int32) * ((mI M 64 this v3.toNatClampNeg) + v4))), none]) (st' := [vi (mI M 75 this (((4 : Int32) * ((mI M 64 this v3.toNatClampNeg) + v4)) + (3 : Int32)).toNatClampNeg), vr (some (5, this))]) (M1 := M) (pc' := 129) (tb_Machine hγ) [.aload_n 0, .getfield 84, .aload_n 0, .getfield 84, .getfield 348, .iload 5, .iconst 3, .iadd, .iaload] (by decide +kernel) rfl rfl ⟨c30, trivial⟩ ?_
            refine E_callV (κ' := k_World_find) (As := [vi (mI M 75 this (((4 : Int32) * ((mI M 64 this v3.toNatClampNeg) + v4)) + (3 : Int32)).toNatClampNeg)]) (st := []) mv_World_find (Or.inl (tbk_mem (j := 8) (k := 148) rfl)) rfl (by decide +kernel) (Nat.le_of_ble_eq_true rfl) (Nat.le_of_ble_eq_true rfl) rfl (by decide) (lk_World_find hγ this (mI M 75 this (((4 : Int32) * ((mI M 64 this v3.toNatClampNeg) + v4)) + (3 : Int32)).toNatClampNeg) _ M h) (fun _ _ => Qi_r) (fun v M31 hp => Qi_k (R := fun st => E γ k_Machine_handled 3 132 [some (vr (some (6, this))), some (vi v1), some (vi v2), some (vi v3), some (vi v4), some (vi ((4 : Int32) * ((mI M 64 this v3.toNatClampNeg) + v4))), none] st M31 (Qi Q)) hp (fun r32 h => ?_))
            refine E_mask [true, true, true, true, true, true, false] rfl ?_
            exact lk_Machine_handled_j132 hγ this Q (w_Machine_handled_L13 this Q n) ih v1 v2 v3 v4 ((4 : Int32) * ((mI M 64 this v3.toNatClampNeg) + v4)) r32 M31 h
        · rw [if_neg b13] at h
          refine E_goto (off := 123) (tgt := 212) (by decide +kernel) (by decide) ?_
          refine E_mask [true, true, true, true, true, false, false] rfl ?_
          exact lk_Machine_handled_j212 hγ this Q (w_Machine_handled_L13 this Q n) ih v1 v2 v3 v4 M h
set_option maxRecDepth 4096 in
theorem lk_Machine_handled {γ : Gm} (hγ : Gk γ) (this : Nat) (a1 : Int32) (a2 : Int32) (Q : Int32 → Mem → Prop) (M : Mem) (h : w_Machine_handled this a1 a2 Q M) : E γ k_Machine_handled 3 0 [some (vr (some (6, this))), some (vi a1), some (vi a2), none, none, none, none] [] M (Qi Q) := by
  unfold w_Machine_handled at h
  refine E_blk (lv' := [some (vr (some (6, this))), some (vi a1), some (vi a2), none, none, none, none]) (st' := [vr (mR M 6 this 2)]) (M1 := M) (pc' := 4) (tb_Machine hγ) [.aload_n 0, .getfield 24] (by decide +kernel) rfl rfl trivial ?_
  obtain ⟨i1, ei1, h⟩ := h
  rw [ei1]
  obtain ⟨c2, h⟩ := h
  refine E_blk (lv' := [some (vr (some (6, this))), some (vi a1), some (vi a2), some (vi (mI M 89 i1 a1.toNatClampNeg)), some (vi (0 : Int32)), none, none]) (st' := []) (M1 := M) (pc' := 13) (tb_Machine hγ) [.getfield 227, .iload_n 1, .iaload, .istore_n 3, .iconst 0, .istore 4] (by decide +kernel) rfl rfl ⟨c2, trivial⟩ ?_
  obtain ⟨n33, h⟩ := h
  refine E_mask [true, true, true, true, true, false, false] rfl ?_
  exact lk_Machine_handled_L13 hγ this Q n33 a1 a2 (mI M 89 i1 a1.toNatClampNeg) (0 : Int32) M h
def w_Machine_ruleOf (this : Nat) (a1 : Int32) (Q : Int32 → Mem → Prop) (M : Mem) : Prop :=
  if a1 ≤ (800 : Int32) then (Q (0 : Int32) M) else (∃ i2, (mR M 6 this 23) = some (301, i2) ∧ vp_in ((a1 - (800 : Int32)) - (1 : Int32)) (mL M 301 i2) ∧ Q (mI M 301 i2 ((a1 - (800 : Int32)) - (1 : Int32)).toNatClampNeg) M)
set_option maxRecDepth 4096 in
theorem lk_Machine_ruleOf {γ : Gm} (hγ : Gk γ) (this : Nat) (a1 : Int32) (Q : Int32 → Mem → Prop) (M : Mem) (h : w_Machine_ruleOf this a1 Q M) : E γ k_Machine_ruleOf 0 0 [some (vr (some (6, this))), some (vi a1)] [] M (Qi Q) := by
  unfold w_Machine_ruleOf at h
  refine E_blk (lv' := [some (vr (some (6, this))), some (vi a1)]) (st' := [vi (800 : Int32), vi a1]) (M1 := M) (pc' := 4) (tb_Machine hγ) [.iload_n 1, .sipush 800] (by decide +kernel) rfl rfl trivial ?_
  refine E_icmp_le (off := 18) (tgt := 22) (by decide +kernel) (by decide) (fun b1 => ?_) (fun b1 => ?_)
  · rw [if_pos b1] at h
    refine E_blk (lv' := [some (vr (some (6, this))), some (vi a1)]) (st' := [vi (0 : Int32)]) (M1 := M) (pc' := 23) (tb_Machine hγ) [.iconst 0] (by decide +kernel) rfl rfl trivial ?_
    exact E_iret rfl (by decide +kernel) h
  · rw [if_neg b1] at h
    refine E_blk (lv' := [some (vr (some (6, this))), some (vi a1)]) (st' := [vr (mR M 6 this 23)]) (M1 := M) (pc' := 11) (tb_Machine hγ) [.aload_n 0, .getfield 63] (by decide +kernel) rfl rfl trivial ?_
    obtain ⟨i2, ei2, h⟩ := h
    rw [ei2]
    obtain ⟨c3, h⟩ := h
    refine E_blk (lv' := [some (vr (some (6, this))), some (vi a1)]) (st' := [vi (mI M 301 i2 ((a1 - (800 : Int32)) - (1 : Int32)).toNatClampNeg)]) (M1 := M) (pc' := 19) (tb_Machine hγ) [.iload_n 1, .sipush 800, .isub, .iconst 1, .isub, .iaload] (by decide +kernel) rfl rfl ⟨c3, trivial⟩ ?_
    refine E_goto (off := 4) (tgt := 23) (by decide +kernel) (by decide) ?_
    exact E_iret rfl (by decide +kernel) h
def wk_Machine_throwOne_j181 (K : Nat → Int32 → Int32 → (Mem → Prop) → Mem → Prop) (this : Nat) (Q : Mem → Prop) (k0 : Int32 → Mem → Prop) (v1 : Int32) (M : Mem) : Prop :=
  k0 v1 M
def wk_Machine_throwOne_j128 (K : Nat → Int32 → Int32 → (Mem → Prop) → Mem → Prop) (this : Nat) (Q : Mem → Prop) (k0 : Int32 → Mem → Prop) (v1 : Int32) (M : Mem) : Prop :=
  wk_Machine_throwOne_j181 K this Q k0 v1 M
def wk_Machine_throwOne_j85 (K : Nat → Int32 → Int32 → (Mem → Prop) → Mem → Prop) (this : Nat) (Q : Mem → Prop) (k0 : Int32 → Mem → Prop) (v1 : Int32) (s0 : Int32) (M : Mem) : Prop :=
  ∃ i33, (mR M 6 this 2) = some (7, i33) ∧ if s0 = 0 then (wk_Machine_throwOne_j128 K this Q k0 v1 (sI M 7 i33 1 ((mI M 7 i33 1) - (1 : Int32)))) else (w_Machine_classOf this v1 (fun r36 M35 => w_World_isBelow this r36 (10 : Int32) (fun r38 M37 => if r38 = 0 then (K this (20 : Int32) (0 : Int32) (fun M40 => Q M40) M37) else (wk_Machine_throwOne_j128 K this Q k0 v1 M37)) M35) (sI M 7 i33 1 ((mI M 7 i33 1) - (1 : Int32))))
def wk_Machine_throwOne_L0 (K : Nat → Int32 → Int32 → (Mem → Prop) → Mem → Prop) (this : Nat) (Q : Mem → Prop) : Nat → Int32 → Mem → Prop
  | 0, _, _ => False
  | n + 1, v1, M => ∃ i1, (mR M 6 this 2) = some (7, i1) ∧ if (mI M 7 i1 1) ≤ 0 then (∃ i3, (mR M 6 this 2) = some (7, i3) ∧ ∃ i4, (mR (sI M 7 i3 11 (2 : Int32)) 6 this 2) = some (7, i4) ∧ w_Machine_classOf this v1 (fun r6 M5 => ∃ i7, (mR (sI M5 7 i4 15 r6) 6 this 2) = some (7, i7) ∧ w_Machine_ruleOf this v1 (fun r9 M8 => Q (sI M8 7 i7 16 r9)) (sI M5 7 i4 15 r6)) (sI M 7 i3 11 (2 : Int32))) else (∃ i10, (mR M 6 this 2) = some (7, i10) ∧ ∃ i11, (mR M 6 this 2) = some (7, i11) ∧ vp_in ((mI M 7 i10 1) - (1 : Int32)) (mL M 92 i11) ∧ if (mI M 92 i11 ((mI M 7 i10 1) - (1 : Int32)).toNatClampNeg) < 0 then (w_Machine_handled this ((mI M 7 i10 1) - (1 : Int32)) v1 (fun r15 M14 => if r15 = 0 then (∃ i17, (mR M14 6 this 2) = some (7, i17) ∧ vp_in ((mI M 7 i10 1) - (1 : Int32)) (mL M14 89 i17) ∧ w_Machine_methodEvent this (3 : Int32) (mI M14 89 i17 ((mI M 7 i10 1) - (1 : Int32)).toNatClampNeg) (fun M19 => ∃ i20, (mR M19 6 this 2) = some (7, i20) ∧ ∃ i21, (mR (sI M19 7 i20 1 ((mI M19 7 i20 1) - (1 : Int32))) 6 this 2) = some (7, i21) ∧ ∃ M22, M22 = (sI (sI M19 7 i20 1 ((mI M19 7 i20 1) - (1 : Int32))) 7 i21 2 ((mI (sI M19 7 i20 1 ((mI M19 7 i20 1) - (1 : Int32))) 7 i21 2) - (1 : Int32))) ∧ wk_Machine_throwOne_j181 K this Q (wk_Machine_throwOne_L0 K this Q n) v1 M22) M14) else (Q M14)) M) else (∃ i23, (mR M 6 this 2) = some (7, i23) ∧ vp_in ((mI M 7 i10 1) - (1 : Int32)) (mL M 92 i23) ∧ vp_in (mI M 92 i23 ((mI M 7 i10 1) - (1 : Int32)).toNatClampNeg) (mL M 46 this) ∧ ∃ M26, M26 = (sI M 46 this (mI M 92 i23 ((mI M 7 i10 1) - (1 : Int32)).toNatClampNeg).toNatClampNeg (3 : Int32)) ∧ ∃ i27, (mR M26 6 this 2) = some (7, i27) ∧ vp_in ((mI M 7 i10 1) - (1 : Int32)) (mL M26 92 i27) ∧ w_Machine_event this (6 : Int32) (mI M26 92 i27 ((mI M 7 i10 1) - (1 : Int32)).toNatClampNeg) (-2 : Int32) (fun M29 => ∃ i30, (mR M29 6 this 2) = some (7, i30) ∧ vp_in ((mI M 7 i10 1) - (1 : Int32)) (mL M29 93 i30) ∧ if (mI M29 93 i30 ((mI M 7 i10 1) - (1 : Int32)).toNatClampNeg) = (1 : Int32) then (wk_Machine_throwOne_j85 K this Q (wk_Machine_throwOne_L0 K this Q n) v1 (1 : Int32) M29) else (wk_Machine_throwOne_j85 K this Q (wk_Machine_throwOne_L0 K this Q n) v1 (0 : Int32) M29)) M26))
def wk_Machine_throwOne (K : Nat → Int32 → Int32 → (Mem → Prop) → Mem → Prop) (this : Nat) (a1 : Int32) (Q : Mem → Prop) (M : Mem) : Prop :=
  ∃ n41 : Nat, wk_Machine_throwOne_L0 K this Q n41 a1 M
set_option maxRecDepth 4096 in
theorem lkk_Machine_throwOne_j181 {γ : Gm} (hγ : Gk γ) {d0 d : Nat} (K : Nat → Int32 → Int32 → (Mem → Prop) → Mem → Prop) (hK : ∀ (this : Nat) (a1 : Int32) (a2 : Int32) (Q : Mem → Prop) (M : Mem), K this a1 a2 Q M → ∀ d, d0 ≤ d → E γ k_Machine_fail d 0 [some (vr (some (6, this))), some (vi a1), some (vi a2)] [] M (Qv Q)) (hd : d0 ≤ d) (hb : 4 ≤ d) (this : Nat) (Q : Mem → Prop) (k0 : Int32 → Mem → Prop) (hk0 : ∀ (v1 : Int32) (M : Mem), k0 v1 M → E γ k_Machine_throwOne (d + 1) 0 [some (vr (some (6, this))), some (vi v1), none, none] [] M (Qv Q)) (v1 : Int32) (M : Mem) (h : wk_Machine_throwOne_j181 K this Q k0 v1 M) : E γ k_Machine_throwOne (d + 1) 181 [some (vr (some (6, this))), some (vi v1), none, none] [] M (Qv Q) := by
  unfold wk_Machine_throwOne_j181 at h
  refine E_goto (off := -181) (tgt := 0) (by decide +kernel) (by decide) ?_
  refine E_mask [true, true, false, false] rfl ?_
  exact hk0 v1 M h
set_option maxRecDepth 4096 in
theorem lkk_Machine_throwOne_j128 {γ : Gm} (hγ : Gk γ) {d0 d : Nat} (K : Nat → Int32 → Int32 → (Mem → Prop) → Mem → Prop) (hK : ∀ (this : Nat) (a1 : Int32) (a2 : Int32) (Q : Mem → Prop) (M : Mem), K this a1 a2 Q M → ∀ d, d0 ≤ d → E γ k_Machine_fail d 0 [some (vr (some (6, this))), some (vi a1), some (vi a2)] [] M (Qv Q)) (hd : d0 ≤ d) (hb : 4 ≤ d) (this : Nat) (Q : Mem → Prop) (k0 : Int32 → Mem → Prop) (hk0 : ∀ (v1 : Int32) (M : Mem), k0 v1 M → E γ k_Machine_throwOne (d + 1) 0 [some (vr (some (6, this))), some (vi v1), none, none] [] M (Qv Q)) (v1 : Int32) (M : Mem) (h : wk_Machine_throwOne_j128 K this Q k0 v1 M) : E γ k_Machine_throwOne (d + 1) 128 [some (vr (some (6, this))), some (vi v1), none, none] [] M (Qv Q) := by
  unfold wk_Machine_throwOne_j128 at h
  refine E_goto (off := 53) (tgt := 181) (by decide +kernel) (by decide) ?_
  refine E_mask [true, true, false, false] rfl ?_
  exact lkk_Machine_throwOne_j181 hγ K hK hd hb this Q k0 hk0 v1 M h
set_option maxRecDepth 4096 in
theorem lkk_Machine_throwOne_j85 {γ : Gm} (hγ : Gk γ) {d0 d : Nat} (K : Nat → Int32 → Int32 → (Mem → Prop) → Mem → Prop) (hK : ∀ (this : Nat) (a1 : Int32) (a2 : Int32) (Q : Mem → Prop) (M : Mem), K this a1 a2 Q M → ∀ d, d0 ≤ d → E γ k_Machine_fail d 0 [some (vr (some (6, this))), some (vi a1), some (vi a2)] [] M (Qv Q)) (hd : d0 ≤ d) (hb : 4 ≤ d) (this : Nat) (Q : Mem → Prop) (k0 : Int32 → Mem → Prop) (hk0 : ∀ (v1 : Int32) (M : Mem), k0 v1 M → E γ k_Machine_throwOne (d + 1) 0 [some (vr (some (6, this))), some (vi v1), none, none] [] M (Qv Q)) (v1 : Int32) (s0 : Int32) (M : Mem) (h : wk_Machine_throwOne_j85 K this Q k0 v1 s0 M) : E γ k_Machine_throwOne (d + 1) 85 [some (vr (some (6, this))), some (vi v1), none, none] [vi s0] M (Qv Q) := by
  unfold wk_Machine_throwOne_j85 at h
  refine E_blk (lv' := [some (vr (some (6, this))), some (vi v1), none, some (vi s0)]) (st' := [vr (mR M 6 this 2)]) (M1 := M) (pc' := 90) (tb_Machine hγ) [.istore_n 3, .aload_n 0, .getfield 24] (by decide +kernel) rfl rfl trivial ?_
  obtain ⟨i33, ei33, h⟩ := h
  rw [ei33]
  refine E_blk (lv' := [some (vr (some (6, this))), some (vi v1), none, some (vi s0)]) (st' := [vi s0]) (M1 := (sI M 7 i33 1 ((mI M 7 i33 1) - (1 : Int32)))) (pc' := 100) (tb_Machine hγ) [.dup, .getfield 152, .iconst 1, .isub, .putfield 152, .iload_n 3] (by decide +kernel) rfl rfl trivial ?_
  refine E_if_eq (off := 28) (tgt := 128) (by decide +kernel) (by decide) (fun b34 => ?_) (fun b34 => ?_)
  · rw [if_pos b34] at h
    refine E_mask [true, true, false, false] rfl ?_
    exact lkk_Machine_throwOne_j128 hγ K hK hd hb this Q k0 hk0 v1 (sI M 7 i33 1 ((mI M 7 i33 1) - (1 : Int32))) h
  · rw [if_neg b34] at h
    refine E_blk (lv' := [some (vr (some (6, this))), some (vi v1), none, some (vi s0)]) (st' := [vi v1, vr (some (6, this)), vr (some (5, this))]) (M1 := (sI M 7 i33 1 ((mI M 7 i33 1) - (1 : Int32)))) (pc' := 109) (tb_Machine hγ) [.aload_n 0, .getfield 84, .aload_n 0, .iload_n 1] (by decide +kernel) rfl rfl trivial ?_
    refine E_callV (κ' := k_Machine_classOf) (As := [vi v1]) (st := [vr (some (5, this))]) mv_Machine_classOf (Or.inl (tbk_mem (j := 8) (k := 207) rfl)) rfl (by decide +kernel) (Nat.le_of_ble_eq_true rfl) (Nat.le_of_ble_eq_true rfl) rfl (by omega) (lk_Machine_classOf hγ this v1 _ (sI M 7 i33 1 ((mI M 7 i33 1) - (1 : Int32))) h) (fun _ _ => Qi_r) (fun v M35 hp => Qi_k (R := fun st => E γ k_Machine_throwOne (d + 1) 112 [some (vr (some (6, this))), some (vi v1), none, some (vi s0)] st M35 (Qv Q)) hp (fun r36 h => ?_))
    refine E_blk (lv' := [some (vr (some (6, this))), some (vi v1), none, some (vi s0)]) (st' := [vi (10 : Int32), vi r36, vr (some (5, this))]) (M1 := M35) (pc' := 114) (tb_Machine hγ) [.bipush 10] (by decide +kernel) rfl rfl trivial ?_
    refine E_callV (κ' := k_World_isBelow) (As := [vi r36, vi (10 : Int32)]) (st := []) mv_World_isBelow (Or.inl (tbk_mem (j := 8) (k := 211) rfl)) rfl (by decide +kernel) (Nat.le_of_ble_eq_true rfl) (Nat.le_of_ble_eq_true rfl) rfl (by omega) (lk_World_isBelow hγ this r36 (10 : Int32) _ M35 h) (fun _ _ => Qi_r) (fun v M37 hp => Qi_k (R := fun st => E γ k_Machine_throwOne (d + 1) 117 [some (vr (some (6, this))), some (vi v1), none, some (vi s0)] st M37 (Qv Q)) hp (fun r38 h => ?_))
    refine E_if_ne (off := 11) (tgt := 128) (by decide +kernel) (by decide) (fun b39 => ?_) (fun b39 => ?_)
    · rw [if_pos b39] at h
      refine E_blk (lv' := [some (vr (some (6, this))), some (vi v1), none, some (vi s0)]) (st' := [vi (0 : Int32), vi (20 : Int32), vr (some (6, this))]) (M1 := M37) (pc' := 124) (tb_Machine hγ) [.aload_n 0, .bipush 20, .iconst 0] (by decide +kernel) rfl rfl trivial ?_
      refine E_callV (κ' := k_Machine_fail) (As := [vi (20 : Int32), vi (0 : Int32)]) (st := []) mv_Machine_fail (Or.inl (tbk_mem (j := 8) (k := 190) rfl)) rfl (by decide +kernel) (Nat.le_of_ble_eq_true rfl) (Nat.le_of_ble_eq_true rfl) rfl (by omega) (hK this (20 : Int32) (0 : Int32) _ M37 h (d + 0) (by omega)) (fun _ _ => Qv_r) (fun v M40 hp => Qv_k (R := fun st => E γ k_Machine_throwOne (d + 1) 127 [some (vr (some (6, this))), some (vi v1), none, some (vi s0)] st M40 (Qv Q)) hp (fun h => ?_))
      exact E_vret rfl (by decide +kernel) h
    · rw [if_neg b39] at h
      refine E_mask [true, true, false, false] rfl ?_
      exact lkk_Machine_throwOne_j128 hγ K hK hd hb this Q k0 hk0 v1 M37 h
set_option maxRecDepth 4096 in
theorem lkk_Machine_throwOne_L0 {γ : Gm} (hγ : Gk γ) {d0 d : Nat} (K : Nat → Int32 → Int32 → (Mem → Prop) → Mem → Prop) (hK : ∀ (this : Nat) (a1 : Int32) (a2 : Int32) (Q : Mem → Prop) (M : Mem), K this a1 a2 Q M → ∀ d, d0 ≤ d → E γ k_Machine_fail d 0 [some (vr (some (6, this))), some (vi a1), some (vi a2)] [] M (Qv Q)) (hd : d0 ≤ d) (hb : 4 ≤ d) (this : Nat) (Q : Mem → Prop) : ∀ (n : Nat) (v1 : Int32) (M : Mem), wk_Machine_throwOne_L0 K this Q n v1 M → E γ k_Machine_throwOne (d + 1) 0 [some (vr (some (6, this))), some (vi v1), none, none] [] M (Qv Q) := by
  intro n
  induction n with
  | zero => intro v1 M h; exact h.elim
  | succ n ih =>
    intro v1 M h
    unfold wk_Machine_throwOne_L0 at h
    refine E_blk (lv' := [some (vr (some (6, this))), some (vi v1), none, none]) (st' := [vr (mR M 6 this 2)]) (M1 := M) (pc' := 4) (tb_Machine hγ) [.aload_n 0, .getfield 24] (by decide +kernel) rfl rfl trivial ?_
    obtain ⟨i1, ei1, h⟩ := h
    rw [ei1]
    refine E_blk (lv' := [some (vr (some (6, this))), some (vi v1), none, none]) (st' := [vi (mI M 7 i1 1)]) (M1 := M) (pc' := 7) (tb_Machine hγ) [.getfield 152] (by decide +kernel) rfl rfl trivial ?_
    refine E_if_le (off := 177) (tgt := 184) (by decide +kernel) (by decide) (fun b2 => ?_) (fun b2 => ?_)
    · rw [if_pos b2] at h
      refine E_blk (lv' := [some (vr (some (6, this))), some (vi v1), none, none]) (st' := [vr (mR M 6 this 2)]) (M1 := M) (pc' := 188) (tb_Machine hγ) [.aload_n 0, .getfield 24] (by decide +kernel) rfl rfl trivial ?_
      obtain ⟨i3, ei3, h⟩ := h
      rw [ei3]
      refine E_blk (lv' := [some (vr (some (6, this))), some (vi v1), none, none]) (st' := [vr (mR (sI M 7 i3 11 (2 : Int32)) 6 this 2)]) (M1 := (sI M 7 i3 11 (2 : Int32))) (pc' := 196) (tb_Machine hγ) [.iconst 2, .putfield 149, .aload_n 0, .getfield 24] (by decide +kernel) rfl rfl trivial ?_
      obtain ⟨i4, ei4, h⟩ := h
      rw [ei4]
      refine E_blk (lv' := [some (vr (some (6, this))), some (vi v1), none, none]) (st' := [vi v1, vr (some (6, this)), vr (some (7, i4))]) (M1 := (sI M 7 i3 11 (2 : Int32))) (pc' := 198) (tb_Machine hγ) [.aload_n 0, .iload_n 1] (by decide +kernel) rfl rfl trivial ?_
      refine E_callV (κ' := k_Machine_classOf) (As := [vi v1]) (st := [vr (some (7, i4))]) mv_Machine_classOf (Or.inl (tbk_mem (j := 8) (k := 207) rfl)) rfl (by decide +kernel) (Nat.le_of_ble_eq_true rfl) (Nat.le_of_ble_eq_true rfl) rfl (by omega) (lk_Machine_classOf hγ this v1 _ (sI M 7 i3 11 (2 : Int32)) h) (fun _ _ => Qi_r) (fun v M5 hp => Qi_k (R := fun st => E γ k_Machine_throwOne (d + 1) 201 [some (vr (some (6, this))), some (vi v1), none, none] st M5 (Qv Q)) hp (fun r6 h => ?_))
      refine E_blk (lv' := [some (vr (some (6, this))), some (vi v1), none, none]) (st' := [vr (mR (sI M5 7 i4 15 r6) 6 this 2)]) (M1 := (sI M5 7 i4 15 r6)) (pc' := 208) (tb_Machine hγ) [.putfield 333, .aload_n 0, .getfield 24] (by decide +kernel) rfl rfl trivial ?_
      obtain ⟨i7, ei7, h⟩ := h
      rw [ei7]
      refine E_blk (lv' := [some (vr (some (6, this))), some (vi v1), none, none]) (st' := [vi v1, vr (some (6, this)), vr (some (7, i7))]) (M1 := (sI M5 7 i4 15 r6)) (pc' := 210) (tb_Machine hγ) [.aload_n 0, .iload_n 1] (by decide +kernel) rfl rfl trivial ?_
      refine E_callV (κ' := k_Machine_ruleOf) (As := [vi v1]) (st := [vr (some (7, i7))]) mv_Machine_ruleOf (Or.inl (tbk_mem (j := 8) (k := 227) rfl)) rfl (by decide +kernel) (Nat.le_of_ble_eq_true rfl) (Nat.le_of_ble_eq_true rfl) rfl (by omega) (lk_Machine_ruleOf hγ this v1 _ (sI M5 7 i4 15 r6) h) (fun _ _ => Qi_r) (fun v M8 hp => Qi_k (R := fun st => E γ k_Machine_throwOne (d + 1) 213 [some (vr (some (6, this))), some (vi v1), none, none] st M8 (Qv Q)) hp (fun r9 h => ?_))
      refine E_blk (lv' := [some (vr (some (6, this))), some (vi v1), none, none]) (st' := []) (M1 := (sI M8 7 i7 16 r9)) (pc' := 216) (tb_Machine hγ) [.putfield 339] (by decide +kernel) rfl rfl trivial ?_
      exact E_vret rfl (by decide +kernel) h
    · rw [if_neg b2] at h
      refine E_blk (lv' := [some (vr (some (6, this))), some (vi v1), none, none]) (st' := [vr (mR M 6 this 2)]) (M1 := M) (pc' := 14) (tb_Machine hγ) [.aload_n 0, .getfield 24] (by decide +kernel) rfl rfl trivial ?_
      obtain ⟨i10, ei10, h⟩ := h
      rw [ei10]
      refine E_blk (lv' := [some (vr (some (6, this))), some (vi v1), some (vi ((mI M 7 i10 1) - (1 : Int32))), none]) (st' := [vr (mR M 6 this 2)]) (M1 := M) (pc' := 24) (tb_Machine hγ) [.getfield 152, .iconst 1, .isub, .istore_n 2, .aload_n 0, .getfield 24] (by decide +kernel) rfl rfl trivial ?_
      obtain ⟨i11, ei11, h⟩ := h
      rw [ei11]
      obtain ⟨c12, h⟩ := h
      refine E_blk (lv' := [some (vr (some (6, this))), some (vi v1), some (vi ((mI M 7 i10 1) - (1 : Int32))), none]) (st' := [vi (mI M 92 i11 ((mI M 7 i10 1) - (1 : Int32)).toNatClampNeg)]) (M1 := M) (pc' := 29) (tb_Machine hγ) [.getfield 155, .iload_n 2, .iaload] (by decide +kernel) rfl rfl ⟨c12, trivial⟩ ?_
      refine E_if_lt (off := 102) (tgt := 131) (by decide +kernel) (by decide) (fun b13 => ?_) (fun b13 => ?_)
      · rw [if_pos b13] at h
        refine E_blk (lv' := [some (vr (some (6, this))), some (vi v1), some (vi ((mI M 7 i10 1) - (1 : Int32))), none]) (st' := [vi v1, vi ((mI M 7 i10 1) - (1 : Int32)), vr (some (6, this))]) (M1 := M) (pc' := 134) (tb_Machine hγ) [.aload_n 0, .iload_n 2, .iload_n 1] (by decide +kernel) rfl rfl trivial ?_
        refine E_callV (κ' := k_Machine_handled) (As := [vi ((mI M 7 i10 1) - (1 : Int32)), vi v1]) (st := []) mv_Machine_handled (Or.inl (tbk_mem (j := 8) (k := 215) rfl)) rfl (by decide +kernel) (Nat.le_of_ble_eq_true rfl) (Nat.le_of_ble_eq_true rfl) rfl (by omega) (lk_Machine_handled hγ this ((mI M 7 i10 1) - (1 : Int32)) v1 _ M h) (fun _ _ => Qi_r) (fun v M14 hp => Qi_k (R := fun st => E γ k_Machine_throwOne (d + 1) 137 [some (vr (some (6, this))), some (vi v1), some (vi ((mI M 7 i10 1) - (1 : Int32))), none] st M14 (Qv Q)) hp (fun r15 h => ?_))
        refine E_if_eq (off := 4) (tgt := 141) (by decide +kernel) (by decide) (fun b16 => ?_) (fun b16 => ?_)
        · rw [if_pos b16] at h
          refine E_blk (lv' := [some (vr (some (6, this))), some (vi v1), some (vi ((mI M 7 i10 1) - (1 : Int32))), none]) (st' := [vr (mR M14 6 this 2), vi (3 : Int32), vr (some (6, this))]) (M1 := M14) (pc' := 147) (tb_Machine hγ) [.aload_n 0, .iconst 3, .aload_n 0, .getfield 24] (by decide +kernel) rfl rfl trivial ?_
          obtain ⟨i17, ei17, h⟩ := h
          rw [ei17]
          obtain ⟨c18, h⟩ := h
          refine E_blk (lv' := [some (vr (some (6, this))), some (vi v1), some (vi ((mI M 7 i10 1) - (1 : Int32))), none]) (st' := [vi (mI M14 89 i17 ((mI M 7 i10 1) - (1 : Int32)).toNatClampNeg), vi (3 : Int32), vr (some (6, this))]) (M1 := M14) (pc' := 152) (tb_Machine hγ) [.getfield 227, .iload_n 2, .iaload] (by decide +kernel) rfl rfl ⟨c18, trivial⟩ ?_
          refine E_callV (κ' := k_Machine_methodEvent) (As := [vi (3 : Int32), vi (mI M14 89 i17 ((mI M 7 i10 1) - (1 : Int32)).toNatClampNeg)]) (st := []) mv_Machine_methodEvent (Or.inl (tbk_mem (j := 8) (k := 223) rfl)) rfl (by decide +kernel) (Nat.le_of_ble_eq_true rfl) (Nat.le_of_ble_eq_true rfl) rfl (by omega) (lk_Machine_methodEvent hγ this (3 : Int32) (mI M14 89 i17 ((mI M 7 i10 1) - (1 : Int32)).toNatClampNeg) _ M14 h) (fun _ _ => Qv_r) (fun v M19 hp => Qv_k (R := fun st => E γ k_Machine_throwOne (d + 1) 155 [some (vr (some (6, this))), some (vi v1), some (vi ((mI M 7 i10 1) - (1 : Int32))), none] st M19 (Qv Q)) hp (fun h => ?_))
          refine E_blk (lv' := [some (vr (some (6, this))), some (vi v1), some (vi ((mI M 7 i10 1) - (1 : Int32))), none]) (st' := [vr (mR M19 6 this 2)]) (M1 := M19) (pc' := 159) (tb_Machine hγ) [.aload_n 0, .getfield 24] (by decide +kernel) rfl rfl trivial ?_
          obtain ⟨i20, ei20, h⟩ := h
          rw [ei20]
          refine E_blk (lv' := [some (vr (some (6, this))), some (vi v1), some (vi ((mI M 7 i10 1) - (1 : Int32))), none]) (st' := [vr (mR (sI M19 7 i20 1 ((mI M19 7 i20 1) - (1 : Int32))) 6 this 2)]) (M1 := (sI M19 7 i20 1 ((mI M19 7 i20 1) - (1 : Int32)))) (pc' := 172) (tb_Machine hγ) [.dup, .getfield 152, .iconst 1, .isub, .putfield 152, .aload_n 0, .getfield 24] (by decide +kernel) rfl rfl trivial ?_
          obtain ⟨i21, ei21, h⟩ := h
          rw [ei21]
          refine E_blk (lv' := [some (vr (some (6, this))), some (vi v1), some (vi ((mI M 7 i10 1) - (1 : Int32))), none]) (st' := []) (M1 := (sI (sI M19 7 i20 1 ((mI M19 7 i20 1) - (1 : Int32))) 7 i21 2 ((mI (sI M19 7 i20 1 ((mI M19 7 i20 1) - (1 : Int32))) 7 i21 2) - (1 : Int32)))) (pc' := 181) (tb_Machine hγ) [.dup, .getfield 224, .iconst 1, .isub, .putfield 224] (by decide +kernel) rfl rfl trivial ?_
          obtain ⟨M22, eM22, h⟩ := h
          rw [← eM22]
          refine E_mask [true, true, false, false] rfl ?_
          exact lkk_Machine_throwOne_j181 hγ K hK hd hb this Q (wk_Machine_throwOne_L0 K this Q n) ih v1 M22 h
        · rw [if_neg b16] at h
          exact E_vret rfl (by decide +kernel) h
      · rw [if_neg b13] at h
        refine E_blk (lv' := [some (vr (some (6, this))), some (vi v1), some (vi ((mI M 7 i10 1) - (1 : Int32))), none]) (st' := [vr (mR M 6 this 2), vr (some (46, this))]) (M1 := M) (pc' := 43) (tb_Machine hγ) [.aload_n 0, .getfield 84, .getfield 158, .aload_n 0, .getfield 24] (by decide +kernel) rfl rfl trivial ?_
        obtain ⟨i23, ei23, h⟩ := h
        rw [ei23]
        obtain ⟨c24, c25, h⟩ := h
        refine E_blk (lv' := [some (vr (some (6, this))), some (vi v1), some (vi ((mI M 7 i10 1) - (1 : Int32))), none]) (st' := []) (M1 := (sI M 46 this (mI M 92 i23 ((mI M 7 i10 1) - (1 : Int32)).toNatClampNeg).toNatClampNeg (3 : Int32))) (pc' := 50) (tb_Machine hγ) [.getfield 155, .iload_n 2, .iaload, .iconst 3, .iastore] (by decide +kernel) rfl rfl ⟨c24, c25, trivial⟩ ?_
        obtain ⟨M26, eM26, h⟩ := h
        rw [← eM26]
        refine E_blk (lv' := [some (vr (some (6, this))), some (vi v1), some (vi ((mI M 7 i10 1) - (1 : Int32))), none]) (st' := [vr (mR M26 6 this 2), vi (6 : Int32), vr (some (6, this))]) (M1 := M26) (pc' := 57) (tb_Machine hγ) [.aload_n 0, .bipush 6, .aload_n 0, .getfield 24] (by decide +kernel) rfl rfl trivial ?_
        obtain ⟨i27, ei27, h⟩ := h
        rw [ei27]
        obtain ⟨c28, h⟩ := h
        refine E_blk (lv' := [some (vr (some (6, this))), some (vi v1), some (vi ((mI M 7 i10 1) - (1 : Int32))), none]) (st' := [vi (-2 : Int32), vi (mI M26 92 i27 ((mI M 7 i10 1) - (1 : Int32)).toNatClampNeg), vi (6 : Int32), vr (some (6, this))]) (M1 := M26) (pc' := 64) (tb_Machine hγ) [.getfield 155, .iload_n 2, .iaload, .bipush (.negSucc 1)] (by decide +kernel) rfl rfl ⟨c28, trivial⟩ ?_
        refine E_callV (κ' := k_Machine_event) (As := [vi (6 : Int32), vi (mI M26 92 i27 ((mI M 7 i10 1) - (1 : Int32)).toNatClampNeg), vi (-2 : Int32)]) (st := []) mv_Machine_event (Or.inl (tbk_mem (j := 8) (k := 203) rfl)) rfl (by decide +kernel) (Nat.le_of_ble_eq_true rfl) (Nat.le_of_ble_eq_true rfl) rfl (by omega) (lk_Machine_event hγ this (6 : Int32) (mI M26 92 i27 ((mI M 7 i10 1) - (1 : Int32)).toNatClampNeg) (-2 : Int32) _ M26 h) (fun _ _ => Qv_r) (fun v M29 hp => Qv_k (R := fun st => E γ k_Machine_throwOne (d + 1) 67 [some (vr (some (6, this))), some (vi v1), some (vi ((mI M 7 i10 1) - (1 : Int32))), none] st M29 (Qv Q)) hp (fun h => ?_))
        refine E_blk (lv' := [some (vr (some (6, this))), some (vi v1), some (vi ((mI M 7 i10 1) - (1 : Int32))), none]) (st' := [vr (mR M29 6 this 2)]) (M1 := M29) (pc' := 71) (tb_Machine hγ) [.aload_n 0, .getfield 24] (by decide +kernel) rfl rfl trivial ?_
        obtain ⟨i30, ei30, h⟩ := h
        rw [ei30]
        obtain ⟨c31, h⟩ := h
        refine E_blk (lv' := [some (vr (some (6, this))), some (vi v1), some (vi ((mI M 7 i10 1) - (1 : Int32))), none]) (st' := [vi (1 : Int32), vi (mI M29 93 i30 ((mI M 7 i10 1) - (1 : Int32)).toNatClampNeg)]) (M1 := M29) (pc' := 77) (tb_Machine hγ) [.getfield 263, .iload_n 2, .iaload, .iconst 1] (by decide +kernel) rfl rfl ⟨c31, trivial⟩ ?_
        refine E_icmp_ne (off := 7) (tgt := 84) (by decide +kernel) (by decide) (fun b32 => ?_) (fun b32 => ?_)
        · rw [if_pos b32] at h
          refine E_blk (lv' := [some (vr (some (6, this))), some (vi v1), some (vi ((mI M 7 i10 1) - (1 : Int32))), none]) (st' := [vi (1 : Int32)]) (M1 := M29) (pc' := 81) (tb_Machine hγ) [.iconst 1] (by decide +kernel) rfl rfl trivial ?_
          refine E_goto (off := 4) (tgt := 85) (by decide +kernel) (by decide) ?_
          refine E_mask [true, true, false, false] rfl ?_
          exact lkk_Machine_throwOne_j85 hγ K hK hd hb this Q (wk_Machine_throwOne_L0 K this Q n) ih v1 (1 : Int32) M29 h
        · rw [if_neg b32] at h
          refine E_blk (lv' := [some (vr (some (6, this))), some (vi v1), some (vi ((mI M 7 i10 1) - (1 : Int32))), none]) (st' := [vi (0 : Int32)]) (M1 := M29) (pc' := 85) (tb_Machine hγ) [.iconst 0] (by decide +kernel) rfl rfl trivial ?_
          refine E_mask [true, true, false, false] rfl ?_
          exact lkk_Machine_throwOne_j85 hγ K hK hd hb this Q (wk_Machine_throwOne_L0 K this Q n) ih v1 (0 : Int32) M29 h
set_option maxRecDepth 4096 in
theorem lkk_Machine_throwOne {γ : Gm} (hγ : Gk γ) {d0 d : Nat} (K : Nat → Int32 → Int32 → (Mem → Prop) → Mem → Prop) (hK : ∀ (this : Nat) (a1 : Int32) (a2 : Int32) (Q : Mem → Prop) (M : Mem), K this a1 a2 Q M → ∀ d, d0 ≤ d → E γ k_Machine_fail d 0 [some (vr (some (6, this))), some (vi a1), some (vi a2)] [] M (Qv Q)) (hd : d0 ≤ d) (hb : 4 ≤ d) (this : Nat) (a1 : Int32) (Q : Mem → Prop) (M : Mem) (h : wk_Machine_throwOne K this a1 Q M) : E γ k_Machine_throwOne (d + 1) 0 [some (vr (some (6, this))), some (vi a1), none, none] [] M (Qv Q) := by
  unfold wk_Machine_throwOne at h
  obtain ⟨n41, h⟩ := h
  refine E_mask [true, true, false, false] rfl ?_
  exact lkk_Machine_throwOne_L0 hγ K hK hd hb this Q n41 a1 M h
def wk_Machine_fail_j16 (K : Nat → Int32 → Int32 → (Mem → Prop) → Mem → Prop) (this : Nat) (Q : Mem → Prop) (v1 : Int32) (v2 : Int32) (M : Mem) : Prop :=
  ∃ i4, (mR M 6 this 22) = some (301, i4) ∧ vp_in (mI M 6 this 21) (mL M 301 i4) ∧ ∃ i6, (mR (sI M 301 i4 (mI M 6 this 21).toNatClampNeg v1) 6 this 23) = some (301, i6) ∧ vp_in (mI (sI M 301 i4 (mI M 6 this 21).toNatClampNeg v1) 6 this 21) (mL (sI M 301 i4 (mI M 6 this 21).toNatClampNeg v1) 301 i6) ∧ ∃ M8, M8 = (sI (sI M 301 i4 (mI M 6 this 21).toNatClampNeg v1) 301 i6 (mI (sI M 301 i4 (mI M 6 this 21).toNatClampNeg v1) 6 this 21).toNatClampNeg v2) ∧ ∃ i9, (mR M8 6 this 24) = some (301, i9) ∧ vp_in (mI M8 6 this 21) (mL M8 301 i9) ∧ ∃ i11, (mR (sI M8 301 i9 (mI M8 6 this 21).toNatClampNeg (0 : Int32)) 6 this 25) = some (301, i11) ∧ vp_in (mI (sI M8 301 i9 (mI M8 6 this 21).toNatClampNeg (0 : Int32)) 6 this 21) (mL (sI M8 301 i9 (mI M8 6 this 21).toNatClampNeg (0 : Int32)) 301 i11) ∧ ∃ M13, M13 = (sI (sI M8 301 i9 (mI M8 6 this 21).toNatClampNeg (0 : Int32)) 301 i11 (mI (sI M8 301 i9 (mI M8 6 this 21).toNatClampNeg (0 : Int32)) 6 this 21).toNatClampNeg (0 : Int32)) ∧ wk_Machine_throwOne K this ((800 : Int32) + (mI (sI M13 6 this 21 ((mI M13 6 this 21) + (1 : Int32))) 6 this 21)) (fun M14 => Q M14) (sI M13 6 this 21 ((mI M13 6 this 21) + (1 : Int32)))
def wk_Machine_fail (K : Nat → Int32 → Int32 → (Mem → Prop) → Mem → Prop) (this : Nat) (a1 : Int32) (a2 : Int32) (Q : Mem → Prop) (M : Mem) : Prop :=
  ∃ i1, (mR M 6 this 22) = some (301, i1) ∧ if (mI M 6 this 21) = (Int32.ofNat (mL M 301 i1)) then (w_Machine_lengthen this (fun M3 => wk_Machine_fail_j16 K this Q a1 a2 M3) M) else (wk_Machine_fail_j16 K this Q a1 a2 M)
def wr_Machine_fail : Nat → Nat → Int32 → Int32 → (Mem → Prop) → Mem → Prop
  | 0 => fun _ _ _ _ _ => False
  | n + 1 => wk_Machine_fail (wr_Machine_fail n)
def w_Machine_fail (this : Nat) (a1 : Int32) (a2 : Int32) (Q : Mem → Prop) (M : Mem) : Prop := ∃ n : Nat, n ≤ 60 ∧ wr_Machine_fail n this a1 a2 Q M
def w_Machine_throwOne (this : Nat) (a1 : Int32) (Q : Mem → Prop) (M : Mem) : Prop := ∃ n : Nat, n ≤ 60 ∧ wk_Machine_throwOne (wr_Machine_fail n) this a1 Q M
set_option maxRecDepth 4096 in
theorem lkk_Machine_fail_j16 {γ : Gm} (hγ : Gk γ) {d0 d : Nat} (K : Nat → Int32 → Int32 → (Mem → Prop) → Mem → Prop) (hK : ∀ (this : Nat) (a1 : Int32) (a2 : Int32) (Q : Mem → Prop) (M : Mem), K this a1 a2 Q M → ∀ d, d0 ≤ d → E γ k_Machine_fail d 0 [some (vr (some (6, this))), some (vi a1), some (vi a2)] [] M (Qv Q)) (hd : d0 ≤ d) (hb : 4 ≤ d) (this : Nat) (Q : Mem → Prop) (v1 : Int32) (v2 : Int32) (M : Mem) (h : wk_Machine_fail_j16 K this Q v1 v2 M) : E γ k_Machine_fail (d + 2) 16 [some (vr (some (6, this))), some (vi v1), some (vi v2)] [] M (Qv Q) := by
  unfold wk_Machine_fail_j16 at h
  refine E_blk (lv' := [some (vr (some (6, this))), some (vi v1), some (vi v2)]) (st' := [vr (mR M 6 this 22)]) (M1 := M) (pc' := 20) (tb_Machine hγ) [.aload_n 0, .getfield 60] (by decide +kernel) rfl rfl trivial ?_
  obtain ⟨i4, ei4, h⟩ := h
  rw [ei4]
  obtain ⟨c5, h⟩ := h
  refine E_blk (lv' := [some (vr (some (6, this))), some (vi v1), some (vi v2)]) (st' := [vr (mR (sI M 301 i4 (mI M 6 this 21).toNatClampNeg v1) 6 this 23)]) (M1 := (sI M 301 i4 (mI M 6 this 21).toNatClampNeg v1)) (pc' := 30) (tb_Machine hγ) [.aload_n 0, .getfield 107, .iload_n 1, .iastore, .aload_n 0, .getfield 63] (by decide +kernel) rfl rfl ⟨c5, trivial⟩ ?_
  obtain ⟨i6, ei6, h⟩ := h
  rw [ei6]
  obtain ⟨c7, h⟩ := h
  refine E_blk (lv' := [some (vr (some (6, this))), some (vi v1), some (vi v2)]) (st' := []) (M1 := (sI (sI M 301 i4 (mI M 6 this 21).toNatClampNeg v1) 301 i6 (mI (sI M 301 i4 (mI M 6 this 21).toNatClampNeg v1) 6 this 21).toNatClampNeg v2)) (pc' := 36) (tb_Machine hγ) [.aload_n 0, .getfield 107, .iload_n 2, .iastore] (by decide +kernel) rfl rfl ⟨c7, trivial⟩ ?_
  obtain ⟨M8, eM8, h⟩ := h
  rw [← eM8]
  refine E_blk (lv' := [some (vr (some (6, this))), some (vi v1), some (vi v2)]) (st' := [vr (mR M8 6 this 24)]) (M1 := M8) (pc' := 40) (tb_Machine hγ) [.aload_n 0, .getfield 66] (by decide +kernel) rfl rfl trivial ?_
  obtain ⟨i9, ei9, h⟩ := h
  rw [ei9]
  obtain ⟨c10, h⟩ := h
  refine E_blk (lv' := [some (vr (some (6, this))), some (vi v1), some (vi v2)]) (st' := [vr (mR (sI M8 301 i9 (mI M8 6 this 21).toNatClampNeg (0 : Int32)) 6 this 25)]) (M1 := (sI M8 301 i9 (mI M8 6 this 21).toNatClampNeg (0 : Int32))) (pc' := 50) (tb_Machine hγ) [.aload_n 0, .getfield 107, .iconst 0, .iastore, .aload_n 0, .getfield 69] (by decide +kernel) rfl rfl ⟨c10, trivial⟩ ?_
  obtain ⟨i11, ei11, h⟩ := h
  rw [ei11]
  obtain ⟨c12, h⟩ := h
  refine E_blk (lv' := [some (vr (some (6, this))), some (vi v1), some (vi v2)]) (st' := []) (M1 := (sI (sI M8 301 i9 (mI M8 6 this 21).toNatClampNeg (0 : Int32)) 301 i11 (mI (sI M8 301 i9 (mI M8 6 this 21).toNatClampNeg (0 : Int32)) 6 this 21).toNatClampNeg (0 : Int32))) (pc' := 56) (tb_Machine hγ) [.aload_n 0, .getfield 107, .iconst 0, .iastore] (by decide +kernel) rfl rfl ⟨c12, trivial⟩ ?_
  obtain ⟨M13, eM13, h⟩ := h
  rw [← eM13]
  refine E_blk (lv' := [some (vr (some (6, this))), some (vi v1), some (vi v2)]) (st' := [vi ((800 : Int32) + (mI (sI M13 6 this 21 ((mI M13 6 this 21) + (1 : Int32))) 6 this 21)), vr (some (6, this))]) (M1 := (sI M13 6 this 21 ((mI M13 6 this 21) + (1 : Int32)))) (pc' := 75) (tb_Machine hγ) [.aload_n 0, .dup, .getfield 107, .iconst 1, .iadd, .putfield 107, .aload_n 0, .sipush 800, .aload_n 0, .getfield 107, .iadd] (by decide +kernel) rfl rfl trivial ?_
  refine E_callV (κ' := k_Machine_throwOne) (As := [vi ((800 : Int32) + (mI (sI M13 6 this 21 ((mI M13 6 this 21) + (1 : Int32))) 6 this 21))]) (st := []) mv_Machine_throwOne (Or.inl (tbk_mem (j := 8) (k := 199) rfl)) rfl (by decide +kernel) (Nat.le_of_ble_eq_true rfl) (Nat.le_of_ble_eq_true rfl) rfl (by omega) (lkk_Machine_throwOne hγ K hK hd hb this ((800 : Int32) + (mI (sI M13 6 this 21 ((mI M13 6 this 21) + (1 : Int32))) 6 this 21)) _ (sI M13 6 this 21 ((mI M13 6 this 21) + (1 : Int32))) h) (fun _ _ => Qv_r) (fun v M14 hp => Qv_k (R := fun st => E γ k_Machine_fail (d + 2) 78 [some (vr (some (6, this))), some (vi v1), some (vi v2)] st M14 (Qv Q)) hp (fun h => ?_))
  exact E_vret rfl (by decide +kernel) h
set_option maxRecDepth 4096 in
theorem lkk_Machine_fail {γ : Gm} (hγ : Gk γ) {d0 d : Nat} (K : Nat → Int32 → Int32 → (Mem → Prop) → Mem → Prop) (hK : ∀ (this : Nat) (a1 : Int32) (a2 : Int32) (Q : Mem → Prop) (M : Mem), K this a1 a2 Q M → ∀ d, d0 ≤ d → E γ k_Machine_fail d 0 [some (vr (some (6, this))), some (vi a1), some (vi a2)] [] M (Qv Q)) (hd : d0 ≤ d) (hb : 4 ≤ d) (this : Nat) (a1 : Int32) (a2 : Int32) (Q : Mem → Prop) (M : Mem) (h : wk_Machine_fail K this a1 a2 Q M) : E γ k_Machine_fail (d + 2) 0 [some (vr (some (6, this))), some (vi a1), some (vi a2)] [] M (Qv Q) := by
  unfold wk_Machine_fail at h
  refine E_blk (lv' := [some (vr (some (6, this))), some (vi a1), some (vi a2)]) (st' := [vr (mR M 6 this 22), vi (mI M 6 this 21)]) (M1 := M) (pc' := 8) (tb_Machine hγ) [.aload_n 0, .getfield 107, .aload_n 0, .getfield 60] (by decide +kernel) rfl rfl trivial ?_
  obtain ⟨i1, ei1, h⟩ := h
  rw [ei1]
  refine E_blk (lv' := [some (vr (some (6, this))), some (vi a1), some (vi a2)]) (st' := [vi (Int32.ofNat (mL M 301 i1)), vi (mI M 6 this 21)]) (M1 := M) (pc' := 9) (tb_Machine hγ) [.arraylength] (by decide +kernel) rfl rfl trivial ?_
  refine E_icmp_ne (off := 7) (tgt := 16) (by decide +kernel) (by decide) (fun b2 => ?_) (fun b2 => ?_)
  · rw [if_pos b2] at h
    refine E_blk (lv' := [some (vr (some (6, this))), some (vi a1), some (vi a2)]) (st' := [vr (some (6, this))]) (M1 := M) (pc' := 13) (tb_Machine hγ) [.aload_n 0] (by decide +kernel) rfl rfl trivial ?_
    refine E_callV (κ' := k_Machine_lengthen) (As := []) (st := []) mv_Machine_lengthen (Or.inl (tbk_mem (j := 8) (k := 194) rfl)) rfl (by decide +kernel) (Nat.le_of_ble_eq_true rfl) (Nat.le_of_ble_eq_true rfl) rfl (by omega) (lk_Machine_lengthen hγ this _ M h) (fun _ _ => Qv_r) (fun v M3 hp => Qv_k (R := fun st => E γ k_Machine_fail (d + 2) 16 [some (vr (some (6, this))), some (vi a1), some (vi a2)] st M3 (Qv Q)) hp (fun h => ?_))
    refine E_mask [true, true, true] rfl ?_
    exact lkk_Machine_fail_j16 hγ K hK hd hb this Q a1 a2 M3 h
  · rw [if_neg b2] at h
    refine E_mask [true, true, true] rfl ?_
    exact lkk_Machine_fail_j16 hγ K hK hd hb this Q a1 a2 M h
theorem lkr_Machine_fail {γ : Gm} (hγ : Gk γ) : ∀ (n : Nat) (this : Nat) (a1 : Int32) (a2 : Int32) (Q : Mem → Prop) (M : Mem), wr_Machine_fail n this a1 a2 Q M → ∀ d, 4 + 2 * n ≤ d → E γ k_Machine_fail d 0 [some (vr (some (6, this))), some (vi a1), some (vi a2)] [] M (Qv Q) := by
  intro n
  induction n with
  | zero => intro this a1 a2 Q M h; exact h.elim
  | succ n ih =>
    intro this a1 a2 Q M h d hd
    obtain ⟨e, rfl⟩ : ∃ e, d = e + 2 := ⟨d - 2, by omega⟩
    exact lkk_Machine_fail hγ (d0 := 4 + 2 * n) (d := e) (wr_Machine_fail n) ih (by omega) (by omega) this a1 a2 Q M h
theorem lk_Machine_fail {γ : Gm} (hγ : Gk γ) (this : Nat) (a1 : Int32) (a2 : Int32) (Q : Mem → Prop) (M : Mem) (h : w_Machine_fail this a1 a2 Q M) : E γ k_Machine_fail 124 0 [some (vr (some (6, this))), some (vi a1), some (vi a2)] [] M (Qv Q) := by
  obtain ⟨n, hn, h⟩ := h
  exact lkr_Machine_fail hγ n this a1 a2 Q M h _ (by omega)
theorem lk_Machine_throwOne {γ : Gm} (hγ : Gk γ) (this : Nat) (a1 : Int32) (Q : Mem → Prop) (M : Mem) (h : w_Machine_throwOne this a1 Q M) : E γ k_Machine_throwOne 125 0 [some (vr (some (6, this))), some (vi a1), none, none] [] M (Qv Q) := by
  obtain ⟨n, hn, h⟩ := h
  exact lkk_Machine_throwOne hγ (d0 := 4 + 2 * n) (d := 124) (wr_Machine_fail n) (lkr_Machine_fail hγ n) (by omega) (by omega) this a1 Q M h
def w_Machine_fails (this : Nat) (a1 : Int32) (Q : Mem → Prop) (M : Mem) : Prop :=
  ¬ (100 : Int32) = 0 ∧ ¬ (100 : Int32) = 0 ∧ w_Machine_fail this ((-a1) - (-a1) / (100 : Int32) * (100 : Int32)) ((-a1) / (100 : Int32)) (fun M3 => Q M3) M
set_option maxRecDepth 4096 in
theorem lk_Machine_fails {γ : Gm} (hγ : Gk γ) (this : Nat) (a1 : Int32) (Q : Mem → Prop) (M : Mem) (h : w_Machine_fails this a1 Q M) : E γ k_Machine_fails 125 0 [some (vr (some (6, this))), some (vi a1)] [] M (Qv Q) := by
  unfold w_Machine_fails at h
  obtain ⟨c1, c2, h⟩ := h
  refine E_blk (lv' := [some (vr (some (6, this))), some (vi a1)]) (st' := [vi ((-a1) / (100 : Int32)), vi ((-a1) - (-a1) / (100 : Int32) * (100 : Int32)), vr (some (6, this))]) (M1 := M) (pc' := 11) (tb_Machine hγ) [.aload_n 0, .iload_n 1, .ineg, .bipush 100, .irem, .iload_n 1, .ineg, .bipush 100, .idiv] (by decide +kernel) rfl rfl ⟨c1, c2, trivial⟩ ?_
  refine E_callV (κ' := k_Machine_fail) (As := [vi ((-a1) - (-a1) / (100 : Int32) * (100 : Int32)), vi ((-a1) / (100 : Int32))]) (st := []) mv_Machine_fail (Or.inl (tbk_mem (j := 8) (k := 190) rfl)) rfl (by decide +kernel) (Nat.le_of_ble_eq_true rfl) (Nat.le_of_ble_eq_true rfl) rfl (by decide) (lk_Machine_fail hγ this ((-a1) - (-a1) / (100 : Int32) * (100 : Int32)) ((-a1) / (100 : Int32)) _ M h) (fun _ _ => Qv_r) (fun v M3 hp => Qv_k (R := fun st => E γ k_Machine_fails 125 14 [some (vr (some (6, this))), some (vi a1)] st M3 (Qv Q)) hp (fun h => ?_))
  exact E_vret rfl (by decide +kernel) h
def w_Machine_begins_L61 (this : Nat) (Q : Mem → Prop) : Nat → Int32 → Int32 → Mem → Prop
  | 0, _, _, _ => False
  | n + 1, v1, v2, M => vp_in v1 (mL M 41 this) ∧ vp_in v1 (mL M 42 this) ∧ if ((mI M 41 this v1.toNatClampNeg) + (mI M 42 this v1.toNatClampNeg)) ≤ v2 then (∃ i12, (mR M 6 this 2) = some (7, i12) ∧ ∃ i13, (mR M 6 this 2) = some (7, i13) ∧ vp_in (mI M 7 i13 1) (mL M 92 i12) ∧ ∃ i15, (mR (sI M 92 i12 (mI M 7 i13 1).toNatClampNeg v1) 6 this 2) = some (7, i15) ∧ ∃ i16, (mR (sI M 92 i12 (mI M 7 i13 1).toNatClampNeg v1) 6 this 2) = some (7, i16) ∧ vp_in (mI (sI M 92 i12 (mI M 7 i13 1).toNatClampNeg v1) 7 i16 1) (mL (sI M 92 i12 (mI M 7 i13 1).toNatClampNeg v1) 93 i15) ∧ ∃ M18, M18 = (sI (sI M 92 i12 (mI M 7 i13 1).toNatClampNeg v1) 93 i15 (mI (sI M 92 i12 (mI M 7 i13 1).toNatClampNeg v1) 7 i16 1).toNatClampNeg (0 : Int32)) ∧ ∃ i19, (mR M18 6 this 2) = some (7, i19) ∧ Q (sI M18 7 i19 1 ((mI M18 7 i19 1) + (1 : Int32)))) else (vp_in v2 (mL M 52 this) ∧ vp_in v2 (mL M 54 this) ∧ (w_Machine_begins_L61 this Q n) v1 (v2 + (1 : Int32)) (sI M 54 this v2.toNatClampNeg (mI M 52 this v2.toNatClampNeg)))
def w_Machine_begins (this : Nat) (a1 : Int32) (Q : Mem → Prop) (M : Mem) : Prop :=
  vp_in a1 (mL M 46 this) ∧ ∃ i2, (mR (sI M 46 this a1.toNatClampNeg (1 : Int32)) 6 this 2) = some (7, i2) ∧ vp_in a1 (mL (sI M 46 this a1.toNatClampNeg (1 : Int32)) 86 this) ∧ ∃ M4, M4 = (sI (sI M 46 this a1.toNatClampNeg (1 : Int32)) 86 this a1.toNatClampNeg (mI (sI M 46 this a1.toNatClampNeg (1 : Int32)) 7 i2 0)) ∧ vp_in (mI M4 6 this 26) (mL M4 85 this) ∧ ∃ M6, M6 = (sI (sI M4 85 this (mI M4 6 this 26).toNatClampNeg a1) 6 this 26 ((mI (sI M4 85 this (mI M4 6 this 26).toNatClampNeg a1) 6 this 26) + (1 : Int32))) ∧ w_Machine_event this (4 : Int32) a1 (-2 : Int32) (fun M7 => vp_in a1 (mL M7 41 this) ∧ ∃ n22 : Nat, w_Machine_begins_L61 this Q n22 a1 (mI M7 41 this a1.toNatClampNeg) M7) M6
set_option maxRecDepth 4096 in
theorem lk_Machine_begins_L61 {γ : Gm} (hγ : Gk γ) (this : Nat) (Q : Mem → Prop) : ∀ (n : Nat) (v1 : Int32) (v2 : Int32) (M : Mem), w_Machine_begins_L61 this Q n v1 v2 M → E γ k_Machine_begins 1 61 [some (vr (some (6, this))), some (vi v1), some (vi v2)] [] M (Qv Q) := by
  intro n
  induction n with
  | zero => intro v1 v2 M h; exact h.elim
  | succ n ih =>
    intro v1 v2 M h
    unfold w_Machine_begins_L61 at h
    obtain ⟨c9, c10, h⟩ := h
    refine E_blk (lv' := [some (vr (some (6, this))), some (vi v1), some (vi v2)]) (st' := [vi ((mI M 41 this v1.toNatClampNeg) + (mI M 42 this v1.toNatClampNeg)), vi v2]) (M1 := M) (pc' := 81) (tb_Machine hγ) [.iload_n 2, .aload_n 0, .getfield 84, .getfield 252, .iload_n 1, .iaload, .aload_n 0, .getfield 84, .getfield 255, .iload_n 1, .iaload, .iadd] (by decide +kernel) rfl rfl ⟨c9, c10, trivial⟩ ?_
    refine E_icmp_ge (off := 27) (tgt := 108) (by decide +kernel) (by decide) (fun b11 => ?_) (fun b11 => ?_)
    · rw [if_pos b11] at h
      refine E_blk (lv' := [some (vr (some (6, this))), some (vi v1), some (vi v2)]) (st' := [vr (mR M 6 this 2)]) (M1 := M) (pc' := 112) (tb_Machine hγ) [.aload_n 0, .getfield 24] (by decide +kernel) rfl rfl trivial ?_
      obtain ⟨i12, ei12, h⟩ := h
      rw [ei12]
      refine E_blk (lv' := [some (vr (some (6, this))), some (vi v1), some (vi v2)]) (st' := [vr (mR M 6 this 2), vr (some (92, i12))]) (M1 := M) (pc' := 119) (tb_Machine hγ) [.getfield 155, .aload_n 0, .getfield 24] (by decide +kernel) rfl rfl trivial ?_
      obtain ⟨i13, ei13, h⟩ := h
      rw [ei13]
      obtain ⟨c14, h⟩ := h
      refine E_blk (lv' := [some (vr (some (6, this))), some (vi v1), some (vi v2)]) (st' := [vr (mR (sI M 92 i12 (mI M 7 i13 1).toNatClampNeg v1) 6 this 2)]) (M1 := (sI M 92 i12 (mI M 7 i13 1).toNatClampNeg v1)) (pc' := 128) (tb_Machine hγ) [.getfield 152, .iload_n 1, .iastore, .aload_n 0, .getfield 24] (by decide +kernel) rfl rfl ⟨c14, trivial⟩ ?_
      obtain ⟨i15, ei15, h⟩ := h
      rw [ei15]
      refine E_blk (lv' := [some (vr (some (6, this))), some (vi v1), some (vi v2)]) (st' := [vr (mR (sI M 92 i12 (mI M 7 i13 1).toNatClampNeg v1) 6 this 2), vr (some (93, i15))]) (M1 := (sI M 92 i12 (mI M 7 i13 1).toNatClampNeg v1)) (pc' := 135) (tb_Machine hγ) [.getfield 263, .aload_n 0, .getfield 24] (by decide +kernel) rfl rfl trivial ?_
      obtain ⟨i16, ei16, h⟩ := h
      rw [ei16]
      obtain ⟨c17, h⟩ := h
      refine E_blk (lv' := [some (vr (some (6, this))), some (vi v1), some (vi v2)]) (st' := []) (M1 := (sI (sI M 92 i12 (mI M 7 i13 1).toNatClampNeg v1) 93 i15 (mI (sI M 92 i12 (mI M 7 i13 1).toNatClampNeg v1) 7 i16 1).toNatClampNeg (0 : Int32))) (pc' := 140) (tb_Machine hγ) [.getfield 152, .iconst 0, .iastore] (by decide +kernel) rfl rfl ⟨c17, trivial⟩ ?_
      obtain ⟨M18, eM18, h⟩ := h
      rw [← eM18]
      refine E_blk (lv' := [some (vr (some (6, this))), some (vi v1), some (vi v2)]) (st' := [vr (mR M18 6 this 2)]) (M1 := M18) (pc' := 144) (tb_Machine hγ) [.aload_n 0, .getfield 24] (by decide +kernel) rfl rfl trivial ?_
      obtain ⟨i19, ei19, h⟩ := h
      rw [ei19]
      refine E_blk (lv' := [some (vr (some (6, this))), some (vi v1), some (vi v2)]) (st' := []) (M1 := (sI M18 7 i19 1 ((mI M18 7 i19 1) + (1 : Int32)))) (pc' := 153) (tb_Machine hγ) [.dup, .getfield 152, .iconst 1, .iadd, .putfield 152] (by decide +kernel) rfl rfl trivial ?_
      exact E_vret rfl (by decide +kernel) h
    · rw [if_neg b11] at h
      obtain ⟨c20, c21, h⟩ := h
      refine E_blk (lv' := [some (vr (some (6, this))), some (vi v1), some (vi (v2 + (1 : Int32)))]) (st' := []) (M1 := (sI M 54 this v2.toNatClampNeg (mI M 52 this v2.toNatClampNeg))) (pc' := 105) (tb_Machine hγ) [.aload_n 0, .getfield 84, .getfield 258, .iload_n 2, .aload_n 0, .getfield 84, .getfield 261, .iload_n 2, .iaload, .iastore, .iinc 2 1] (by decide +kernel) rfl rfl ⟨c20, c21, trivial⟩ ?_
      refine E_goto (off := -44) (tgt := 61) (by decide +kernel) (by decide) ?_
      refine E_mask [true, true, true] rfl ?_
      exact ih v1 (v2 + (1 : Int32)) (sI M 54 this v2.toNatClampNeg (mI M 52 this v2.toNatClampNeg)) h
set_option maxRecDepth 4096 in
theorem lk_Machine_begins {γ : Gm} (hγ : Gk γ) (this : Nat) (a1 : Int32) (Q : Mem → Prop) (M : Mem) (h : w_Machine_begins this a1 Q M) : E γ k_Machine_begins 1 0 [some (vr (some (6, this))), some (vi a1), none] [] M (Qv Q) := by
  unfold w_Machine_begins at h
  obtain ⟨c1, h⟩ := h
  refine E_blk (lv' := [some (vr (some (6, this))), some (vi a1), none]) (st' := [vr (mR (sI M 46 this a1.toNatClampNeg (1 : Int32)) 6 this 2), vi a1, vr (some (86, this))]) (M1 := (sI M 46 this a1.toNatClampNeg (1 : Int32))) (pc' := 19) (tb_Machine hγ) [.aload_n 0, .getfield 84, .getfield 158, .iload_n 1, .iconst 1, .iastore, .aload_n 0, .getfield 75, .iload_n 1, .aload_n 0, .getfield 24] (by decide +kernel) rfl rfl ⟨c1, trivial⟩ ?_
  obtain ⟨i2, ei2, h⟩ := h
  rw [ei2]
  obtain ⟨c3, h⟩ := h
  refine E_blk (lv' := [some (vr (some (6, this))), some (vi a1), none]) (st' := []) (M1 := (sI (sI M 46 this a1.toNatClampNeg (1 : Int32)) 86 this a1.toNatClampNeg (mI (sI M 46 this a1.toNatClampNeg (1 : Int32)) 7 i2 0))) (pc' := 23) (tb_Machine hγ) [.getfield 131, .iastore] (by decide +kernel) rfl rfl ⟨c3, trivial⟩ ?_
  obtain ⟨M4, eM4, h⟩ := h
  rw [← eM4]
  obtain ⟨c5, h⟩ := h
  refine E_blk (lv' := [some (vr (some (6, this))), some (vi a1), none]) (st' := []) (M1 := (sI (sI M4 85 this (mI M4 6 this 26).toNatClampNeg a1) 6 this 26 ((mI (sI M4 85 this (mI M4 6 this 26).toNatClampNeg a1) 6 this 26) + (1 : Int32)))) (pc' := 43) (tb_Machine hγ) [.aload_n 0, .getfield 72, .aload_n 0, .getfield 110, .iload_n 1, .iastore, .aload_n 0, .dup, .getfield 110, .iconst 1, .iadd, .putfield 110] (by decide +kernel) rfl rfl ⟨c5, trivial⟩ ?_
  obtain ⟨M6, eM6, h⟩ := h
  rw [← eM6]
  refine E_blk (lv' := [some (vr (some (6, this))), some (vi a1), none]) (st' := [vi (-2 : Int32), vi a1, vi (4 : Int32), vr (some (6, this))]) (M1 := M6) (pc' := 48) (tb_Machine hγ) [.aload_n 0, .iconst 4, .iload_n 1, .bipush (.negSucc 1)] (by decide +kernel) rfl rfl trivial ?_
  refine E_callV (κ' := k_Machine_event) (As := [vi (4 : Int32), vi a1, vi (-2 : Int32)]) (st := []) mv_Machine_event (Or.inl (tbk_mem (j := 8) (k := 203) rfl)) rfl (by decide +kernel) (Nat.le_of_ble_eq_true rfl) (Nat.le_of_ble_eq_true rfl) rfl (by decide) (lk_Machine_event hγ this (4 : Int32) a1 (-2 : Int32) _ M6 h) (fun _ _ => Qv_r) (fun v M7 hp => Qv_k (R := fun st => E γ k_Machine_begins 1 51 [some (vr (some (6, this))), some (vi a1), none] st M7 (Qv Q)) hp (fun h => ?_))
  obtain ⟨c8, h⟩ := h
  refine E_blk (lv' := [some (vr (some (6, this))), some (vi a1), some (vi (mI M7 41 this a1.toNatClampNeg))]) (st' := []) (M1 := M7) (pc' := 61) (tb_Machine hγ) [.aload_n 0, .getfield 84, .getfield 252, .iload_n 1, .iaload, .istore_n 2] (by decide +kernel) rfl rfl ⟨c8, trivial⟩ ?_
  obtain ⟨n22, h⟩ := h
  refine E_mask [true, true, true] rfl ?_
  exact lk_Machine_begins_L61 hγ this Q n22 a1 (mI M7 41 this a1.toNatClampNeg) M7 h
def w_Machine_mustStart_j82 (this : Nat) (Q : Int32 → Mem → Prop) (v1 : Int32) (s0 : Int32) (M : Mem) : Prop :=
  if s0 = (1 : Int32) then (w_Machine_begins this v1 (fun M12 => Q (1 : Int32) M12) M) else (Q (2 : Int32) (sI M 6 this 32 s0))
def w_Machine_mustStart (this : Nat) (a1 : Int32) (Q : Int32 → Mem → Prop) (M : Mem) : Prop :=
  vp_in a1 (mL M 46 this) ∧ if (mI M 46 this a1.toNatClampNeg) = (2 : Int32) then (Q (0 : Int32) M) else (vp_in a1 (mL M 46 this) ∧ if (mI M 46 this a1.toNatClampNeg) = (1 : Int32) then (vp_in a1 (mL M 86 this) ∧ ∃ i6, (mR M 6 this 2) = some (7, i6) ∧ if (mI M 86 this a1.toNatClampNeg) = (mI M 7 i6 0) then (Q (0 : Int32) M) else (∃ i8, (mR M 6 this 2) = some (7, i8) ∧ Q (3 : Int32) (sI M 7 i8 19 a1))) else (vp_in a1 (mL M 46 this) ∧ if (mI M 46 this a1.toNatClampNeg) = (3 : Int32) then (w_Machine_mustStart_j82 this Q a1 (11 : Int32) M) else (w_World_link this a1 (fun r14 M13 => w_Machine_mustStart_j82 this Q a1 r14 M13) M)))
set_option maxRecDepth 4096 in
theorem lk_Machine_mustStart_j82 {γ : Gm} (hγ : Gk γ) (this : Nat) (Q : Int32 → Mem → Prop) (v1 : Int32) (s0 : Int32) (M : Mem) (h : w_Machine_mustStart_j82 this Q v1 s0 M) : E γ k_Machine_mustStart 133 82 [some (vr (some (6, this))), some (vi v1), none] [vi s0] M (Qi Q) := by
  unfold w_Machine_mustStart_j82 at h
  refine E_blk (lv' := [some (vr (some (6, this))), some (vi v1), some (vi s0)]) (st' := [vi (1 : Int32), vi s0]) (M1 := M) (pc' := 85) (tb_Machine hγ) [.istore_n 2, .iload_n 2, .iconst 1] (by decide +kernel) rfl rfl trivial ?_
  refine E_icmp_eq (off := 10) (tgt := 95) (by decide +kernel) (by decide) (fun b11 => ?_) (fun b11 => ?_)
  · rw [if_pos b11] at h
    refine E_blk (lv' := [some (vr (some (6, this))), some (vi v1), some (vi s0)]) (st' := [vi v1, vr (some (6, this))]) (M1 := M) (pc' := 97) (tb_Machine hγ) [.aload_n 0, .iload_n 1] (by decide +kernel) rfl rfl trivial ?_
    refine E_callV (κ' := k_Machine_begins) (As := [vi v1]) (st := []) mv_Machine_begins (Or.inl (tbk_mem (j := 8) (k := 239) rfl)) rfl (by decide +kernel) (Nat.le_of_ble_eq_true rfl) (Nat.le_of_ble_eq_true rfl) rfl (by decide) (lk_Machine_begins hγ this v1 _ M h) (fun _ _ => Qv_r) (fun v M12 hp => Qv_k (R := fun st => E γ k_Machine_mustStart 133 100 [some (vr (some (6, this))), some (vi v1), some (vi s0)] st M12 (Qi Q)) hp (fun h => ?_))
    refine E_blk (lv' := [some (vr (some (6, this))), some (vi v1), some (vi s0)]) (st' := [vi (1 : Int32)]) (M1 := M12) (pc' := 101) (tb_Machine hγ) [.iconst 1] (by decide +kernel) rfl rfl trivial ?_
    exact E_iret rfl (by decide +kernel) h
  · rw [if_neg b11] at h
    refine E_blk (lv' := [some (vr (some (6, this))), some (vi v1), some (vi s0)]) (st' := [vi (2 : Int32)]) (M1 := (sI M 6 this 32 s0)) (pc' := 94) (tb_Machine hγ) [.aload_n 0, .iload_n 2, .putfield 243, .iconst 2] (by decide +kernel) rfl rfl trivial ?_
    exact E_iret rfl (by decide +kernel) h
set_option maxRecDepth 4096 in
theorem lk_Machine_mustStart {γ : Gm} (hγ : Gk γ) (this : Nat) (a1 : Int32) (Q : Int32 → Mem → Prop) (M : Mem) (h : w_Machine_mustStart this a1 Q M) : E γ k_Machine_mustStart 133 0 [some (vr (some (6, this))), some (vi a1), none] [] M (Qi Q) := by
  unfold w_Machine_mustStart at h
  obtain ⟨c1, h⟩ := h
  refine E_blk (lv' := [some (vr (some (6, this))), some (vi a1), none]) (st' := [vi (2 : Int32), vi (mI M 46 this a1.toNatClampNeg)]) (M1 := M) (pc' := 10) (tb_Machine hγ) [.aload_n 0, .getfield 84, .getfield 158, .iload_n 1, .iaload, .iconst 2] (by decide +kernel) rfl rfl ⟨c1, trivial⟩ ?_
  refine E_icmp_ne (off := 5) (tgt := 15) (by decide +kernel) (by decide) (fun b2 => ?_) (fun b2 => ?_)
  · rw [if_pos b2] at h
    refine E_blk (lv' := [some (vr (some (6, this))), some (vi a1), none]) (st' := [vi (0 : Int32)]) (M1 := M) (pc' := 14) (tb_Machine hγ) [.iconst 0] (by decide +kernel) rfl rfl trivial ?_
    exact E_iret rfl (by decide +kernel) h
  · rw [if_neg b2] at h
    obtain ⟨c3, h⟩ := h
    refine E_blk (lv' := [some (vr (some (6, this))), some (vi a1), none]) (st' := [vi (1 : Int32), vi (mI M 46 this a1.toNatClampNeg)]) (M1 := M) (pc' := 25) (tb_Machine hγ) [.aload_n 0, .getfield 84, .getfield 158, .iload_n 1, .iaload, .iconst 1] (by decide +kernel) rfl rfl ⟨c3, trivial⟩ ?_
    refine E_icmp_ne (off := 31) (tgt := 56) (by decide +kernel) (by decide) (fun b4 => ?_) (fun b4 => ?_)
    · rw [if_pos b4] at h
      obtain ⟨c5, h⟩ := h
      refine E_blk (lv' := [some (vr (some (6, this))), some (vi a1), none]) (st' := [vr (mR M 6 this 2), vi (mI M 86 this a1.toNatClampNeg)]) (M1 := M) (pc' := 38) (tb_Machine hγ) [.aload_n 0, .getfield 75, .iload_n 1, .iaload, .aload_n 0, .getfield 24] (by decide +kernel) rfl rfl ⟨c5, trivial⟩ ?_
      obtain ⟨i6, ei6, h⟩ := h
      rw [ei6]
      refine E_blk (lv' := [some (vr (some (6, this))), some (vi a1), none]) (st' := [vi (mI M 7 i6 0), vi (mI M 86 this a1.toNatClampNeg)]) (M1 := M) (pc' := 41) (tb_Machine hγ) [.getfield 131] (by decide +kernel) rfl rfl trivial ?_
      refine E_icmp_ne (off := 5) (tgt := 46) (by decide +kernel) (by decide) (fun b7 => ?_) (fun b7 => ?_)
      · rw [if_pos b7] at h
        refine E_blk (lv' := [some (vr (some (6, this))), some (vi a1), none]) (st' := [vi (0 : Int32)]) (M1 := M) (pc' := 45) (tb_Machine hγ) [.iconst 0] (by decide +kernel) rfl rfl trivial ?_
        exact E_iret rfl (by decide +kernel) h
      · rw [if_neg b7] at h
        refine E_blk (lv' := [some (vr (some (6, this))), some (vi a1), none]) (st' := [vr (mR M 6 this 2)]) (M1 := M) (pc' := 50) (tb_Machine hγ) [.aload_n 0, .getfield 24] (by decide +kernel) rfl rfl trivial ?_
        obtain ⟨i8, ei8, h⟩ := h
        rw [ei8]
        refine E_blk (lv' := [some (vr (some (6, this))), some (vi a1), none]) (st' := [vi (3 : Int32)]) (M1 := (sI M 7 i8 19 a1)) (pc' := 55) (tb_Machine hγ) [.iload_n 1, .putfield 167, .iconst 3] (by decide +kernel) rfl rfl trivial ?_
        exact E_iret rfl (by decide +kernel) h
    · rw [if_neg b4] at h
      obtain ⟨c9, h⟩ := h
      refine E_blk (lv' := [some (vr (some (6, this))), some (vi a1), none]) (st' := [vi (3 : Int32), vi (mI M 46 this a1.toNatClampNeg)]) (M1 := M) (pc' := 66) (tb_Machine hγ) [.aload_n 0, .getfield 84, .getfield 158, .iload_n 1, .iaload, .iconst 3] (by decide +kernel) rfl rfl ⟨c9, trivial⟩ ?_
      refine E_icmp_ne (off := 8) (tgt := 74) (by decide +kernel) (by decide) (fun b10 => ?_) (fun b10 => ?_)
      · rw [if_pos b10] at h
        refine E_blk (lv' := [some (vr (some (6, this))), some (vi a1), none]) (st' := [vi (11 : Int32)]) (M1 := M) (pc' := 71) (tb_Machine hγ) [.bipush 11] (by decide +kernel) rfl rfl trivial ?_
        refine E_goto (off := 11) (tgt := 82) (by decide +kernel) (by decide) ?_
        refine E_mask [true, true, false] rfl ?_
        exact lk_Machine_mustStart_j82 hγ this Q a1 (11 : Int32) M h
      · rw [if_neg b10] at h
        refine E_blk (lv' := [some (vr (some (6, this))), some (vi a1), none]) (st' := [vi a1, vr (some (5, this))]) (M1 := M) (pc' := 79) (tb_Machine hγ) [.aload_n 0, .getfield 84, .iload_n 1] (by decide +kernel) rfl rfl trivial ?_
        refine E_callV (κ' := k_World_link) (As := [vi a1]) (st := []) mv_World_link (Or.inl (tbk_mem (j := 8) (k := 153) rfl)) rfl (by decide +kernel) (Nat.le_of_ble_eq_true rfl) (Nat.le_of_ble_eq_true rfl) rfl (by decide) (lk_World_link hγ this a1 _ M h) (fun _ _ => Qi_r) (fun v M13 hp => Qi_k (R := fun st => E γ k_Machine_mustStart 133 82 [some (vr (some (6, this))), some (vi a1), none] st M13 (Qi Q)) hp (fun r14 h => ?_))
        refine E_mask [true, true, false] rfl ?_
        exact lk_Machine_mustStart_j82 hγ this Q a1 r14 M13 h
def w_Machine_isReady_j20 (this : Nat) (Q : Int32 → Mem → Prop) (v2 : Int32) (M : Mem) : Prop :=
  if v2 = 0 then (Q (1 : Int32) M) else (Q (0 : Int32) M)
def w_Machine_isReady (this : Nat) (a1 : Int32) (Q : Int32 → Mem → Prop) (M : Mem) : Prop :=
  w_Machine_mustStart this a1 (fun r2 M1 => if r2 = (2 : Int32) then (w_Machine_fails this (-(mI M1 6 this 32)) (fun M4 => w_Machine_isReady_j20 this Q r2 M4) M1) else (w_Machine_isReady_j20 this Q r2 M1)) M
set_option maxRecDepth 4096 in
theorem lk_Machine_isReady_j20 {γ : Gm} (hγ : Gk γ) (this : Nat) (Q : Int32 → Mem → Prop) (v2 : Int32) (M : Mem) (h : w_Machine_isReady_j20 this Q v2 M) : E γ k_Machine_isReady 134 20 [none, none, some (vi v2)] [] M (Qi Q) := by
  unfold w_Machine_isReady_j20 at h
  refine E_blk (lv' := [none, none, some (vi v2)]) (st' := [vi v2]) (M1 := M) (pc' := 21) (tb_Machine hγ) [.iload_n 2] (by decide +kernel) rfl rfl trivial ?_
  refine E_if_ne (off := 7) (tgt := 28) (by decide +kernel) (by decide) (fun b5 => ?_) (fun b5 => ?_)
  · rw [if_pos b5] at h
    refine E_blk (lv' := [none, none, some (vi v2)]) (st' := [vi (1 : Int32)]) (M1 := M) (pc' := 25) (tb_Machine hγ) [.iconst 1] (by decide +kernel) rfl rfl trivial ?_
    refine E_goto (off := 4) (tgt := 29) (by decide +kernel) (by decide) ?_
    exact E_zret rfl (Or.inr rfl) (by decide +kernel) h
  · rw [if_neg b5] at h
    refine E_blk (lv' := [none, none, some (vi v2)]) (st' := [vi (0 : Int32)]) (M1 := M) (pc' := 29) (tb_Machine hγ) [.iconst 0] (by decide +kernel) rfl rfl trivial ?_
    exact E_zret rfl (Or.inl rfl) (by decide +kernel) h
set_option maxRecDepth 4096 in
theorem lk_Machine_isReady {γ : Gm} (hγ : Gk γ) (this : Nat) (a1 : Int32) (Q : Int32 → Mem → Prop) (M : Mem) (h : w_Machine_isReady this a1 Q M) : E γ k_Machine_isReady 134 0 [some (vr (some (6, this))), some (vi a1), none] [] M (Qi Q) := by
  unfold w_Machine_isReady at h
  refine E_blk (lv' := [some (vr (some (6, this))), some (vi a1), none]) (st' := [vi a1, vr (some (6, this))]) (M1 := M) (pc' := 2) (tb_Machine hγ) [.aload_n 0, .iload_n 1] (by decide +kernel) rfl rfl trivial ?_
  refine E_callV (κ' := k_Machine_mustStart) (As := [vi a1]) (st := []) mv_Machine_mustStart (Or.inl (tbk_mem (j := 8) (k := 235) rfl)) rfl (by decide +kernel) (Nat.le_of_ble_eq_true rfl) (Nat.le_of_ble_eq_true rfl) rfl (by decide) (lk_Machine_mustStart hγ this a1 _ M h) (fun _ _ => Qi_r) (fun v M1 hp => Qi_k (R := fun st => E γ k_Machine_isReady 134 5 [some (vr (some (6, this))), some (vi a1), none] st M1 (Qi Q)) hp (fun r2 h => ?_))
  refine E_blk (lv' := [some (vr (some (6, this))), some (vi a1), some (vi r2)]) (st' := [vi (2 : Int32), vi r2]) (M1 := M1) (pc' := 8) (tb_Machine hγ) [.istore_n 2, .iload_n 2, .iconst 2] (by decide +kernel) rfl rfl trivial ?_
  refine E_icmp_ne (off := 12) (tgt := 20) (by decide +kernel) (by decide) (fun b3 => ?_) (fun b3 => ?_)
  · rw [if_pos b3] at h
    refine E_blk (lv' := [some (vr (some (6, this))), some (vi a1), some (vi r2)]) (st' := [vi (-(mI M1 6 this 32)), vr (some (6, this))]) (M1 := M1) (pc' := 17) (tb_Machine hγ) [.aload_n 0, .aload_n 0, .getfield 243, .ineg] (by decide +kernel) rfl rfl trivial ?_
    refine E_callV (κ' := k_Machine_fails) (As := [vi (-(mI M1 6 this 32))]) (st := []) mv_Machine_fails (Or.inl (tbk_mem (j := 8) (k := 186) rfl)) rfl (by decide +kernel) (Nat.le_of_ble_eq_true rfl) (Nat.le_of_ble_eq_true rfl) rfl (by decide) (lk_Machine_fails hγ this (-(mI M1 6 this 32)) _ M1 h) (fun _ _ => Qv_r) (fun v M4 hp => Qv_k (R := fun st => E γ k_Machine_isReady 134 20 [some (vr (some (6, this))), some (vi a1), some (vi r2)] st M4 (Qi Q)) hp (fun h => ?_))
    refine E_mask [false, false, true] rfl ?_
    exact lk_Machine_isReady_j20 hγ this Q r2 M4 h
  · rw [if_neg b3] at h
    refine E_mask [false, false, true] rfl ?_
    exact lk_Machine_isReady_j20 hγ this Q r2 M1 h
def w_Machine_enter_L103 (this : Nat) (Q : Int32 → Mem → Prop) : Nat → Int32 → Int32 → Mem → Prop
  | 0, _, _, _ => False
  | n + 1, v2, v3, M => if (20 : Int32) ≤ v3 then (Q (1 : Int32) M) else (w_Machine_set this (((40 : Int32) * v2) + v3) (0 : Int32) (0 : Int32) (fun M20 => (w_Machine_enter_L103 this Q n) v2 (v3 + (1 : Int32)) M20) M)
def w_Machine_enter (this : Nat) (a1 : Int32) (Q : Int32 → Mem → Prop) (M : Mem) : Prop :=
  ∃ i1, (mR M 6 this 2) = some (7, i1) ∧ if (mI M 7 i1 2) = (40 : Int32) then (w_Machine_fail this (8 : Int32) (0 : Int32) (fun M3 => Q (0 : Int32) M3) M) else (∃ i4, (mR M 6 this 2) = some (7, i4) ∧ ∃ i5, (mR M 6 this 2) = some (7, i5) ∧ ∃ i6, (mR (sI M 7 i5 1 ((mI M 7 i5 1) + (1 : Int32))) 6 this 2) = some (7, i6) ∧ ∃ M7, M7 = (sI (sI M 7 i5 1 ((mI M 7 i5 1) + (1 : Int32))) 7 i6 2 ((mI (sI M 7 i5 1 ((mI M 7 i5 1) + (1 : Int32))) 7 i6 2) + (1 : Int32))) ∧ ∃ i8, (mR M7 6 this 2) = some (7, i8) ∧ vp_in (mI M 7 i4 1) (mL M7 89 i8) ∧ ∃ i10, (mR (sI M7 89 i8 (mI M 7 i4 1).toNatClampNeg a1) 6 this 2) = some (7, i10) ∧ vp_in (mI M 7 i4 1) (mL (sI M7 89 i8 (mI M 7 i4 1).toNatClampNeg a1) 90 i10) ∧ ∃ M12, M12 = (sI (sI M7 89 i8 (mI M 7 i4 1).toNatClampNeg a1) 90 i10 (mI M 7 i4 1).toNatClampNeg (0 : Int32)) ∧ ∃ i13, (mR M12 6 this 2) = some (7, i13) ∧ vp_in (mI M 7 i4 1) (mL M12 91 i13) ∧ ∃ i15, (mR (sI M12 91 i13 (mI M 7 i4 1).toNatClampNeg (0 : Int32)) 6 this 2) = some (7, i15) ∧ vp_in (mI M 7 i4 1) (mL (sI M12 91 i13 (mI M 7 i4 1).toNatClampNeg (0 : Int32)) 92 i15) ∧ ∃ M17, M17 = (sI (sI M12 91 i13 (mI M 7 i4 1).toNatClampNeg (0 : Int32)) 92 i15 (mI M 7 i4 1).toNatClampNeg (-1 : Int32)) ∧ w_Machine_methodEvent this (1 : Int32) a1 (fun M18 => ∃ n21 : Nat, w_Machine_enter_L103 this Q n21 (mI M 7 i4 1) (0 : Int32) M18) M17)
set_option maxRecDepth 4096 in
theorem lk_Machine_enter_L103 {γ : Gm} (hγ : Gk γ) (this : Nat) (Q : Int32 → Mem → Prop) : ∀ (n : Nat) (v2 : Int32) (v3 : Int32) (M : Mem), w_Machine_enter_L103 this Q n v2 v3 M → E γ k_Machine_enter 125 103 [some (vr (some (6, this))), none, some (vi v2), some (vi v3)] [] M (Qi Q) := by
  intro n
  induction n with
  | zero => intro v2 v3 M h; exact h.elim
  | succ n ih =>
    intro v2 v3 M h
    unfold w_Machine_enter_L103 at h
    refine E_blk (lv' := [some (vr (some (6, this))), none, some (vi v2), some (vi v3)]) (st' := [vi (20 : Int32), vi v3]) (M1 := M) (pc' := 106) (tb_Machine hγ) [.iload_n 3, .bipush 20] (by decide +kernel) rfl rfl trivial ?_
    refine E_icmp_ge (off := 21) (tgt := 127) (by decide +kernel) (by decide) (fun b19 => ?_) (fun b19 => ?_)
    · rw [if_pos b19] at h
      refine E_blk (lv' := [some (vr (some (6, this))), none, some (vi v2), some (vi v3)]) (st' := [vi (1 : Int32)]) (M1 := M) (pc' := 128) (tb_Machine hγ) [.iconst 1] (by decide +kernel) rfl rfl trivial ?_
      exact E_zret rfl (Or.inr rfl) (by decide +kernel) h
    · rw [if_neg b19] at h
      refine E_blk (lv' := [some (vr (some (6, this))), none, some (vi v2), some (vi v3)]) (st' := [vi (0 : Int32), vi (0 : Int32), vi (((40 : Int32) * v2) + v3), vr (some (6, this))]) (M1 := M) (pc' := 118) (tb_Machine hγ) [.aload_n 0, .bipush 40, .iload_n 2, .imul, .iload_n 3, .iadd, .iconst 0, .iconst 0] (by decide +kernel) rfl rfl trivial ?_
      refine E_callV (κ' := k_Machine_set) (As := [vi (((40 : Int32) * v2) + v3), vi (0 : Int32), vi (0 : Int32)]) (st := []) mv_Machine_set (Or.inl (tbk_mem (j := 8) (k := 219) rfl)) rfl (by decide +kernel) (Nat.le_of_ble_eq_true rfl) (Nat.le_of_ble_eq_true rfl) rfl (by decide) (lk_Machine_set hγ this (((40 : Int32) * v2) + v3) (0 : Int32) (0 : Int32) _ M h) (fun _ _ => Qv_r) (fun v M20 hp => Qv_k (R := fun st => E γ k_Machine_enter 125 121 [some (vr (some (6, this))), none, some (vi v2), some (vi v3)] st M20 (Qi Q)) hp (fun h => ?_))
      refine E_blk (lv' := [some (vr (some (6, this))), none, some (vi v2), some (vi (v3 + (1 : Int32)))]) (st' := []) (M1 := M20) (pc' := 124) (tb_Machine hγ) [.iinc 3 1] (by decide +kernel) rfl rfl trivial ?_
      refine E_goto (off := -21) (tgt := 103) (by decide +kernel) (by decide) ?_
      refine E_mask [true, false, true, true] rfl ?_
      exact ih v2 (v3 + (1 : Int32)) M20 h
set_option maxRecDepth 4096 in
theorem lk_Machine_enter {γ : Gm} (hγ : Gk γ) (this : Nat) (a1 : Int32) (Q : Int32 → Mem → Prop) (M : Mem) (h : w_Machine_enter this a1 Q M) : E γ k_Machine_enter 125 0 [some (vr (some (6, this))), some (vi a1), none, none] [] M (Qi Q) := by
  unfold w_Machine_enter at h
  refine E_blk (lv' := [some (vr (some (6, this))), some (vi a1), none, none]) (st' := [vr (mR M 6 this 2)]) (M1 := M) (pc' := 4) (tb_Machine hγ) [.aload_n 0, .getfield 24] (by decide +kernel) rfl rfl trivial ?_
  obtain ⟨i1, ei1, h⟩ := h
  rw [ei1]
  refine E_blk (lv' := [some (vr (some (6, this))), some (vi a1), none, none]) (st' := [vi (40 : Int32), vi (mI M 7 i1 2)]) (M1 := M) (pc' := 9) (tb_Machine hγ) [.getfield 224, .bipush 40] (by decide +kernel) rfl rfl trivial ?_
  refine E_icmp_ne (off := 12) (tgt := 21) (by decide +kernel) (by decide) (fun b2 => ?_) (fun b2 => ?_)
  · rw [if_pos b2] at h
    refine E_blk (lv' := [some (vr (some (6, this))), some (vi a1), none, none]) (st' := [vi (0 : Int32), vi (8 : Int32), vr (some (6, this))]) (M1 := M) (pc' := 16) (tb_Machine hγ) [.aload_n 0, .bipush 8, .iconst 0] (by decide +kernel) rfl rfl trivial ?_
    refine E_callV (κ' := k_Machine_fail) (As := [vi (8 : Int32), vi (0 : Int32)]) (st := []) mv_Machine_fail (Or.inl (tbk_mem (j := 8) (k := 190) rfl)) rfl (by decide +kernel) (Nat.le_of_ble_eq_true rfl) (Nat.le_of_ble_eq_true rfl) rfl (by decide) (lk_Machine_fail hγ this (8 : Int32) (0 : Int32) _ M h) (fun _ _ => Qv_r) (fun v M3 hp => Qv_k (R := fun st => E γ k_Machine_enter 125 19 [some (vr (some (6, this))), some (vi a1), none, none] st M3 (Qi Q)) hp (fun h => ?_))
    refine E_blk (lv' := [some (vr (some (6, this))), some (vi a1), none, none]) (st' := [vi (0 : Int32)]) (M1 := M3) (pc' := 20) (tb_Machine hγ) [.iconst 0] (by decide +kernel) rfl rfl trivial ?_
    exact E_zret rfl (Or.inl rfl) (by decide +kernel) h
  · rw [if_neg b2] at h
    refine E_blk (lv' := [some (vr (some (6, this))), some (vi a1), none, none]) (st' := [vr (mR M 6 this 2)]) (M1 := M) (pc' := 25) (tb_Machine hγ) [.aload_n 0, .getfield 24] (by decide +kernel) rfl rfl trivial ?_
    obtain ⟨i4, ei4, h⟩ := h
    rw [ei4]
    refine E_blk (lv' := [some (vr (some (6, this))), some (vi a1), some (vi (mI M 7 i4 1)), none]) (st' := [vr (mR M 6 this 2)]) (M1 := M) (pc' := 33) (tb_Machine hγ) [.getfield 152, .istore_n 2, .aload_n 0, .getfield 24] (by decide +kernel) rfl rfl trivial ?_
    obtain ⟨i5, ei5, h⟩ := h
    rw [ei5]
    refine E_blk (lv' := [some (vr (some (6, this))), some (vi a1), some (vi (mI M 7 i4 1)), none]) (st' := [vr (mR (sI M 7 i5 1 ((mI M 7 i5 1) + (1 : Int32))) 6 this 2)]) (M1 := (sI M 7 i5 1 ((mI M 7 i5 1) + (1 : Int32)))) (pc' := 46) (tb_Machine hγ) [.dup, .getfield 152, .iconst 1, .iadd, .putfield 152, .aload_n 0, .getfield 24] (by decide +kernel) rfl rfl trivial ?_
    obtain ⟨i6, ei6, h⟩ := h
    rw [ei6]
    refine E_blk (lv' := [some (vr (some (6, this))), some (vi a1), some (vi (mI M 7 i4 1)), none]) (st' := []) (M1 := (sI (sI M 7 i5 1 ((mI M 7 i5 1) + (1 : Int32))) 7 i6 2 ((mI (sI M 7 i5 1 ((mI M 7 i5 1) + (1 : Int32))) 7 i6 2) + (1 : Int32)))) (pc' := 55) (tb_Machine hγ) [.dup, .getfield 224, .iconst 1, .iadd, .putfield 224] (by decide +kernel) rfl rfl trivial ?_
    obtain ⟨M7, eM7, h⟩ := h
    rw [← eM7]
    refine E_blk (lv' := [some (vr (some (6, this))), some (vi a1), some (vi (mI M 7 i4 1)), none]) (st' := [vr (mR M7 6 this 2)]) (M1 := M7) (pc' := 59) (tb_Machine hγ) [.aload_n 0, .getfield 24] (by decide +kernel) rfl rfl trivial ?_
    obtain ⟨i8, ei8, h⟩ := h
    rw [ei8]
    obtain ⟨c9, h⟩ := h
    refine E_blk (lv' := [some (vr (some (6, this))), some (vi a1), some (vi (mI M 7 i4 1)), none]) (st' := [vr (mR (sI M7 89 i8 (mI M 7 i4 1).toNatClampNeg a1) 6 this 2)]) (M1 := (sI M7 89 i8 (mI M 7 i4 1).toNatClampNeg a1)) (pc' := 69) (tb_Machine hγ) [.getfield 227, .iload_n 2, .iload_n 1, .iastore, .aload_n 0, .getfield 24] (by decide +kernel) rfl rfl ⟨c9, trivial⟩ ?_
    obtain ⟨i10, ei10, h⟩ := h
    rw [ei10]
    obtain ⟨c11, h⟩ := h
    refine E_blk (lv' := [some (vr (some (6, this))), some (vi a1), some (vi (mI M 7 i4 1)), none]) (st' := []) (M1 := (sI (sI M7 89 i8 (mI M 7 i4 1).toNatClampNeg a1) 90 i10 (mI M 7 i4 1).toNatClampNeg (0 : Int32))) (pc' := 75) (tb_Machine hγ) [.getfield 230, .iload_n 2, .iconst 0, .iastore] (by decide +kernel) rfl rfl ⟨c11, trivial⟩ ?_
    obtain ⟨M12, eM12, h⟩ := h
    rw [← eM12]
    refine E_blk (lv' := [some (vr (some (6, this))), some (vi a1), some (vi (mI M 7 i4 1)), none]) (st' := [vr (mR M12 6 this 2)]) (M1 := M12) (pc' := 79) (tb_Machine hγ) [.aload_n 0, .getfield 24] (by decide +kernel) rfl rfl trivial ?_
    obtain ⟨i13, ei13, h⟩ := h
    rw [ei13]
    obtain ⟨c14, h⟩ := h
    refine E_blk (lv' := [some (vr (some (6, this))), some (vi a1), some (vi (mI M 7 i4 1)), none]) (st' := [vr (mR (sI M12 91 i13 (mI M 7 i4 1).toNatClampNeg (0 : Int32)) 6 this 2)]) (M1 := (sI M12 91 i13 (mI M 7 i4 1).toNatClampNeg (0 : Int32))) (pc' := 89) (tb_Machine hγ) [.getfield 233, .iload_n 2, .iconst 0, .iastore, .aload_n 0, .getfield 24] (by decide +kernel) rfl rfl ⟨c14, trivial⟩ ?_
    obtain ⟨i15, ei15, h⟩ := h
    rw [ei15]
    obtain ⟨c16, h⟩ := h
    refine E_blk (lv' := [some (vr (some (6, this))), some (vi a1), some (vi (mI M 7 i4 1)), none]) (st' := []) (M1 := (sI (sI M12 91 i13 (mI M 7 i4 1).toNatClampNeg (0 : Int32)) 92 i15 (mI M 7 i4 1).toNatClampNeg (-1 : Int32))) (pc' := 95) (tb_Machine hγ) [.getfield 155, .iload_n 2, .iconst (.negSucc 0), .iastore] (by decide +kernel) rfl rfl ⟨c16, trivial⟩ ?_
    obtain ⟨M17, eM17, h⟩ := h
    rw [← eM17]
    refine E_blk (lv' := [some (vr (some (6, this))), some (vi a1), some (vi (mI M 7 i4 1)), none]) (st' := [vi a1, vi (1 : Int32), vr (some (6, this))]) (M1 := M17) (pc' := 98) (tb_Machine hγ) [.aload_n 0, .iconst 1, .iload_n 1] (by decide +kernel) rfl rfl trivial ?_
    refine E_callV (κ' := k_Machine_methodEvent) (As := [vi (1 : Int32), vi a1]) (st := []) mv_Machine_methodEvent (Or.inl (tbk_mem (j := 8) (k := 223) rfl)) rfl (by decide +kernel) (Nat.le_of_ble_eq_true rfl) (Nat.le_of_ble_eq_true rfl) rfl (by decide) (lk_Machine_methodEvent hγ this (1 : Int32) a1 _ M17 h) (fun _ _ => Qv_r) (fun v M18 hp => Qv_k (R := fun st => E γ k_Machine_enter 125 101 [some (vr (some (6, this))), some (vi a1), some (vi (mI M 7 i4 1)), none] st M18 (Qi Q)) hp (fun h => ?_))
    refine E_blk (lv' := [some (vr (some (6, this))), some (vi a1), some (vi (mI M 7 i4 1)), some (vi (0 : Int32))]) (st' := []) (M1 := M18) (pc' := 103) (tb_Machine hγ) [.iconst 0, .istore_n 3] (by decide +kernel) rfl rfl trivial ?_
    obtain ⟨n21, h⟩ := h
    refine E_mask [true, false, true, true] rfl ?_
    exact lk_Machine_enter_L103 hγ this Q n21 (mI M 7 i4 1) (0 : Int32) M18 h
def w_Machine_first_L53 (this : Nat) (Q : Mem → Prop) : Nat → Int32 → Int32 → Mem → Prop
  | 0, _, _, _ => False
  | n + 1, v1, v2, M => vp_in v1 (mL M 58 this) ∧ if (mI M 58 this v1.toNatClampNeg) ≤ v2 then (Q M) else (∃ i14, (mR M 6 this 2) = some (7, i14) ∧ vp_in v2 (mL M 95 i14) ∧ w_Machine_set this v2 (mI M 95 i14 v2.toNatClampNeg) (0 : Int32) (fun M16 => (w_Machine_first_L53 this Q n) v1 (v2 + (1 : Int32)) M16) M)
def w_Machine_first (this : Nat) (Q : Mem → Prop) (M : Mem) : Prop :=
  ∃ i1, (mR M 6 this 2) = some (7, i1) ∧ w_Machine_findMethod this (mI M 7 i1 0) (52 : Int32) (-2 : Int32) (fun r3 M2 => if 0 ≤ r3 then (vp_in r3 (mL M2 55 this) ∧ w_Machine_isReady this (mI M2 55 this r3.toNatClampNeg) (fun r7 M6 => if r7 = 0 then (Q M6) else (w_Machine_enter this r3 (fun r10 M9 => if r10 = 0 then (Q M9) else (∃ n17 : Nat, w_Machine_first_L53 this Q n17 r3 (0 : Int32) M9)) M6)) M2) else (w_Machine_fails this r3 (fun M18 => Q M18) M2)) M
set_option maxRecDepth 4096 in
theorem lk_Machine_first_L53 {γ : Gm} (hγ : Gk γ) (this : Nat) (Q : Mem → Prop) : ∀ (n : Nat) (v1 : Int32) (v2 : Int32) (M : Mem), w_Machine_first_L53 this Q n v1 v2 M → E γ k_Machine_first 135 53 [some (vr (some (6, this))), some (vi v1), some (vi v2)] [] M (Qv Q) := by
  intro n
  induction n with
  | zero => intro v1 v2 M h; exact h.elim
  | succ n ih =>
    intro v1 v2 M h
    unfold w_Machine_first_L53 at h
    obtain ⟨c12, h⟩ := h
    refine E_blk (lv' := [some (vr (some (6, this))), some (vi v1), some (vi v2)]) (st' := [vi (mI M 58 this v1.toNatClampNeg), vi v2]) (M1 := M) (pc' := 63) (tb_Machine hγ) [.iload_n 2, .aload_n 0, .getfield 84, .getfield 204, .iload_n 1, .iaload] (by decide +kernel) rfl rfl ⟨c12, trivial⟩ ?_
    refine E_icmp_ge (off := 24) (tgt := 87) (by decide +kernel) (by decide) (fun b13 => ?_) (fun b13 => ?_)
    · rw [if_pos b13] at h
      exact E_vret rfl (by decide +kernel) h
    · rw [if_neg b13] at h
      refine E_blk (lv' := [some (vr (some (6, this))), some (vi v1), some (vi v2)]) (st' := [vr (mR M 6 this 2), vi v2, vr (some (6, this))]) (M1 := M) (pc' := 72) (tb_Machine hγ) [.aload_n 0, .iload_n 2, .aload_n 0, .getfield 24] (by decide +kernel) rfl rfl trivial ?_
      obtain ⟨i14, ei14, h⟩ := h
      rw [ei14]
      obtain ⟨c15, h⟩ := h
      refine E_blk (lv' := [some (vr (some (6, this))), some (vi v1), some (vi v2)]) (st' := [vi (0 : Int32), vi (mI M 95 i14 v2.toNatClampNeg), vi v2, vr (some (6, this))]) (M1 := M) (pc' := 78) (tb_Machine hγ) [.getfield 207, .iload_n 2, .iaload, .iconst 0] (by decide +kernel) rfl rfl ⟨c15, trivial⟩ ?_
      refine E_callV (κ' := k_Machine_set) (As := [vi v2, vi (mI M 95 i14 v2.toNatClampNeg), vi (0 : Int32)]) (st := []) mv_Machine_set (Or.inl (tbk_mem (j := 8) (k := 219) rfl)) rfl (by decide +kernel) (Nat.le_of_ble_eq_true rfl) (Nat.le_of_ble_eq_true rfl) rfl (by decide) (lk_Machine_set hγ this v2 (mI M 95 i14 v2.toNatClampNeg) (0 : Int32) _ M h) (fun _ _ => Qv_r) (fun v M16 hp => Qv_k (R := fun st => E γ k_Machine_first 135 81 [some (vr (some (6, this))), some (vi v1), some (vi v2)] st M16 (Qv Q)) hp (fun h => ?_))
      refine E_blk (lv' := [some (vr (some (6, this))), some (vi v1), some (vi (v2 + (1 : Int32)))]) (st' := []) (M1 := M16) (pc' := 84) (tb_Machine hγ) [.iinc 2 1] (by decide +kernel) rfl rfl trivial ?_
      refine E_goto (off := -31) (tgt := 53) (by decide +kernel) (by decide) ?_
      refine E_mask [true, true, true] rfl ?_
      exact ih v1 (v2 + (1 : Int32)) M16 h
set_option maxRecDepth 4096 in
theorem lk_Machine_first {γ : Gm} (hγ : Gk γ) (this : Nat) (Q : Mem → Prop) (M : Mem) (h : w_Machine_first this Q M) : E γ k_Machine_first 135 0 [some (vr (some (6, this))), none, none] [] M (Qv Q) := by
  unfold w_Machine_first at h
  refine E_blk (lv' := [some (vr (some (6, this))), none, none]) (st' := [vr (mR M 6 this 2), vr (some (6, this))]) (M1 := M) (pc' := 5) (tb_Machine hγ) [.aload_n 0, .aload_n 0, .getfield 24] (by decide +kernel) rfl rfl trivial ?_
  obtain ⟨i1, ei1, h⟩ := h
  rw [ei1]
  refine E_blk (lv' := [some (vr (some (6, this))), none, none]) (st' := [vi (-2 : Int32), vi (52 : Int32), vi (mI M 7 i1 0), vr (some (6, this))]) (M1 := M) (pc' := 12) (tb_Machine hγ) [.getfield 131, .bipush 52, .bipush (.negSucc 1)] (by decide +kernel) rfl rfl trivial ?_
  refine E_callV (κ' := k_Machine_findMethod) (As := [vi (mI M 7 i1 0), vi (52 : Int32), vi (-2 : Int32)]) (st := []) mv_Machine_findMethod (Or.inl (tbk_mem (j := 8) (k := 135) rfl)) rfl (by decide +kernel) (Nat.le_of_ble_eq_true rfl) (Nat.le_of_ble_eq_true rfl) rfl (by decide) (lk_Machine_findMethod hγ this (mI M 7 i1 0) (52 : Int32) (-2 : Int32) _ M h) (fun _ _ => Qi_r) (fun v M2 hp => Qi_k (R := fun st => E γ k_Machine_first 135 15 [some (vr (some (6, this))), none, none] st M2 (Qv Q)) hp (fun r3 h => ?_))
  refine E_blk (lv' := [some (vr (some (6, this))), some (vi r3), none]) (st' := [vi r3]) (M1 := M2) (pc' := 17) (tb_Machine hγ) [.istore_n 1, .iload_n 1] (by decide +kernel) rfl rfl trivial ?_
  refine E_if_ge (off := 9) (tgt := 26) (by decide +kernel) (by decide) (fun b4 => ?_) (fun b4 => ?_)
  · rw [if_pos b4] at h
    obtain ⟨c5, h⟩ := h
    refine E_blk (lv' := [some (vr (some (6, this))), some (vi r3), none]) (st' := [vi (mI M2 55 this r3.toNatClampNeg), vr (some (6, this))]) (M1 := M2) (pc' := 36) (tb_Machine hγ) [.aload_n 0, .aload_n 0, .getfield 84, .getfield 142, .iload_n 1, .iaload] (by decide +kernel) rfl rfl ⟨c5, trivial⟩ ?_
    refine E_callV (κ' := k_Machine_isReady) (As := [vi (mI M2 55 this r3.toNatClampNeg)]) (st := []) mv_Machine_isReady (Or.inl (tbk_mem (j := 8) (k := 231) rfl)) rfl (by decide +kernel) (Nat.le_of_ble_eq_true rfl) (Nat.le_of_ble_eq_true rfl) rfl (by decide) (lk_Machine_isReady hγ this (mI M2 55 this r3.toNatClampNeg) _ M2 h) (fun _ _ => Qi_r) (fun v M6 hp => Qi_k (R := fun st => E γ k_Machine_first 135 39 [some (vr (some (6, this))), some (vi r3), none] st M6 (Qv Q)) hp (fun r7 h => ?_))
    refine E_if_eq (off := 11) (tgt := 50) (by decide +kernel) (by decide) (fun b8 => ?_) (fun b8 => ?_)
    · rw [if_pos b8] at h
      exact E_vret rfl (by decide +kernel) h
    · rw [if_neg b8] at h
      refine E_blk (lv' := [some (vr (some (6, this))), some (vi r3), none]) (st' := [vi r3, vr (some (6, this))]) (M1 := M6) (pc' := 44) (tb_Machine hγ) [.aload_n 0, .iload_n 1] (by decide +kernel) rfl rfl trivial ?_
      refine E_callV (κ' := k_Machine_enter) (As := [vi r3]) (st := []) mv_Machine_enter (Or.inl (tbk_mem (j := 9) (k := 3) rfl)) rfl (by decide +kernel) (Nat.le_of_ble_eq_true rfl) (Nat.le_of_ble_eq_true rfl) rfl (by decide) (lk_Machine_enter hγ this r3 _ M6 h) (fun _ _ => Qi_r) (fun v M9 hp => Qi_k (R := fun st => E γ k_Machine_first 135 47 [some (vr (some (6, this))), some (vi r3), none] st M9 (Qv Q)) hp (fun r10 h => ?_))
      refine E_if_ne (off := 4) (tgt := 51) (by decide +kernel) (by decide) (fun b11 => ?_) (fun b11 => ?_)
      · rw [if_pos b11] at h
        exact E_vret rfl (by decide +kernel) h
      · rw [if_neg b11] at h
        refine E_blk (lv' := [some (vr (some (6, this))), some (vi r3), some (vi (0 : Int32))]) (st' := []) (M1 := M9) (pc' := 53) (tb_Machine hγ) [.iconst 0, .istore_n 2] (by decide +kernel) rfl rfl trivial ?_
        obtain ⟨n17, h⟩ := h
        refine E_mask [true, true, true] rfl ?_
        exact lk_Machine_first_L53 hγ this Q n17 r3 (0 : Int32) M9 h
  · rw [if_neg b4] at h
    refine E_blk (lv' := [some (vr (some (6, this))), some (vi r3), none]) (st' := [vi r3, vr (some (6, this))]) (M1 := M2) (pc' := 22) (tb_Machine hγ) [.aload_n 0, .iload_n 1] (by decide +kernel) rfl rfl trivial ?_
    refine E_callV (κ' := k_Machine_fails) (As := [vi r3]) (st := []) mv_Machine_fails (Or.inl (tbk_mem (j := 8) (k := 186) rfl)) rfl (by decide +kernel) (Nat.le_of_ble_eq_true rfl) (Nat.le_of_ble_eq_true rfl) rfl (by decide) (lk_Machine_fails hγ this r3 _ M2 h) (fun _ _ => Qv_r) (fun v M18 hp => Qv_k (R := fun st => E γ k_Machine_first 135 25 [some (vr (some (6, this))), some (vi r3), none] st M18 (Qv Q)) hp (fun h => ?_))
    exact E_vret rfl (by decide +kernel) h
def w_Machine_ownStart_L10 (this : Nat) (Q : Int32 → Mem → Prop) : Nat → Int32 → Int32 → Mem → Prop
  | 0, _, _, _ => False
  | n + 1, v1, v2, M => vp_in v1 (mL M 43 this) ∧ vp_in v1 (mL M 44 this) ∧ if ((mI M 43 this v1.toNatClampNeg) + (mI M 44 this v1.toNatClampNeg)) ≤ v2 then (Q (-2 : Int32) M) else (vp_in v2 (mL M 56 this) ∧ if (mI M 56 this v2.toNatClampNeg) = (80 : Int32) then (Q v2 M) else ((w_Machine_ownStart_L10 this Q n) v1 (v2 + (1 : Int32)) M))
def w_Machine_ownStart (this : Nat) (a1 : Int32) (Q : Int32 → Mem → Prop) (M : Mem) : Prop :=
  vp_in a1 (mL M 43 this) ∧ ∃ n7 : Nat, w_Machine_ownStart_L10 this Q n7 a1 (mI M 43 this a1.toNatClampNeg) M
set_option maxRecDepth 4096 in
theorem lk_Machine_ownStart_L10 {γ : Gm} (hγ : Gk γ) (this : Nat) (Q : Int32 → Mem → Prop) : ∀ (n : Nat) (v1 : Int32) (v2 : Int32) (M : Mem), w_Machine_ownStart_L10 this Q n v1 v2 M → E γ k_Machine_ownStart 0 10 [some (vr (some (6, this))), some (vi v1), some (vi v2)] [] M (Qi Q) := by
  intro n
  induction n with
  | zero => intro v1 v2 M h; exact h.elim
  | succ n ih =>
    intro v1 v2 M h
    unfold w_Machine_ownStart_L10 at h
    obtain ⟨c2, c3, h⟩ := h
    refine E_blk (lv' := [some (vr (some (6, this))), some (vi v1), some (vi v2)]) (st' := [vi ((mI M 43 this v1.toNatClampNeg) + (mI M 44 this v1.toNatClampNeg)), vi v2]) (M1 := M) (pc' := 30) (tb_Machine hγ) [.iload_n 2, .aload_n 0, .getfield 84, .getfield 134, .iload_n 1, .iaload, .aload_n 0, .getfield 84, .getfield 311, .iload_n 1, .iaload, .iadd] (by decide +kernel) rfl rfl ⟨c2, c3, trivial⟩ ?_
    refine E_icmp_ge (off := 25) (tgt := 55) (by decide +kernel) (by decide) (fun b4 => ?_) (fun b4 => ?_)
    · rw [if_pos b4] at h
      refine E_blk (lv' := [some (vr (some (6, this))), some (vi v1), some (vi v2)]) (st' := [vi (-2 : Int32)]) (M1 := M) (pc' := 57) (tb_Machine hγ) [.bipush (.negSucc 1)] (by decide +kernel) rfl rfl trivial ?_
      exact E_iret rfl (by decide +kernel) h
    · rw [if_neg b4] at h
      obtain ⟨c5, h⟩ := h
      refine E_blk (lv' := [some (vr (some (6, this))), some (vi v1), some (vi v2)]) (st' := [vi (80 : Int32), vi (mI M 56 this v2.toNatClampNeg)]) (M1 := M) (pc' := 44) (tb_Machine hγ) [.aload_n 0, .getfield 84, .getfield 314, .iload_n 2, .iaload, .bipush 80] (by decide +kernel) rfl rfl ⟨c5, trivial⟩ ?_
      refine E_icmp_ne (off := 5) (tgt := 49) (by decide +kernel) (by decide) (fun b6 => ?_) (fun b6 => ?_)
      · rw [if_pos b6] at h
        refine E_blk (lv' := [some (vr (some (6, this))), some (vi v1), some (vi v2)]) (st' := [vi v2]) (M1 := M) (pc' := 48) (tb_Machine hγ) [.iload_n 2] (by decide +kernel) rfl rfl trivial ?_
        exact E_iret rfl (by decide +kernel) h
      · rw [if_neg b6] at h
        refine E_blk (lv' := [some (vr (some (6, this))), some (vi v1), some (vi (v2 + (1 : Int32)))]) (st' := []) (M1 := M) (pc' := 52) (tb_Machine hγ) [.iinc 2 1] (by decide +kernel) rfl rfl trivial ?_
        refine E_goto (off := -42) (tgt := 10) (by decide +kernel) (by decide) ?_
        refine E_mask [true, true, true] rfl ?_
        exact ih v1 (v2 + (1 : Int32)) M h
set_option maxRecDepth 4096 in
theorem lk_Machine_ownStart {γ : Gm} (hγ : Gk γ) (this : Nat) (a1 : Int32) (Q : Int32 → Mem → Prop) (M : Mem) (h : w_Machine_ownStart this a1 Q M) : E γ k_Machine_ownStart 0 0 [some (vr (some (6, this))), some (vi a1), none] [] M (Qi Q) := by
  unfold w_Machine_ownStart at h
  obtain ⟨c1, h⟩ := h
  refine E_blk (lv' := [some (vr (some (6, this))), some (vi a1), some (vi (mI M 43 this a1.toNatClampNeg))]) (st' := []) (M1 := M) (pc' := 10) (tb_Machine hγ) [.aload_n 0, .getfield 84, .getfield 134, .iload_n 1, .iaload, .istore_n 2] (by decide +kernel) rfl rfl ⟨c1, trivial⟩ ?_
  obtain ⟨n7, h⟩ := h
  refine E_mask [true, true, true] rfl ?_
  exact lk_Machine_ownStart_L10 hγ this Q n7 a1 (mI M 43 this a1.toNatClampNeg) M h
def w_Machine_startEnds (this : Nat) (a1 : Int32) (Q : Mem → Prop) (M : Mem) : Prop :=
  vp_in a1 (mL M 46 this) ∧ w_Machine_event this (5 : Int32) a1 (-2 : Int32) (fun M2 => ∃ i3, (mR M2 6 this 2) = some (7, i3) ∧ Q (sI M2 7 i3 1 ((mI M2 7 i3 1) - (1 : Int32)))) (sI M 46 this a1.toNatClampNeg (2 : Int32))
set_option maxRecDepth 4096 in
theorem lk_Machine_startEnds {γ : Gm} (hγ : Gk γ) (this : Nat) (a1 : Int32) (Q : Mem → Prop) (M : Mem) (h : w_Machine_startEnds this a1 Q M) : E γ k_Machine_startEnds 1 0 [some (vr (some (6, this))), some (vi a1)] [] M (Qv Q) := by
  unfold w_Machine_startEnds at h
  obtain ⟨c1, h⟩ := h
  refine E_blk (lv' := [some (vr (some (6, this))), some (vi a1)]) (st' := [vi (-2 : Int32), vi a1, vi (5 : Int32), vr (some (6, this))]) (M1 := (sI M 46 this a1.toNatClampNeg (2 : Int32))) (pc' := 15) (tb_Machine hγ) [.aload_n 0, .getfield 84, .getfield 158, .iload_n 1, .iconst 2, .iastore, .aload_n 0, .iconst 5, .iload_n 1, .bipush (.negSucc 1)] (by decide +kernel) rfl rfl ⟨c1, trivial⟩ ?_
  refine E_callV (κ' := k_Machine_event) (As := [vi (5 : Int32), vi a1, vi (-2 : Int32)]) (st := []) mv_Machine_event (Or.inl (tbk_mem (j := 8) (k := 203) rfl)) rfl (by decide +kernel) (Nat.le_of_ble_eq_true rfl) (Nat.le_of_ble_eq_true rfl) rfl (by decide) (lk_Machine_event hγ this (5 : Int32) a1 (-2 : Int32) _ (sI M 46 this a1.toNatClampNeg (2 : Int32)) h) (fun _ _ => Qv_r) (fun v M2 hp => Qv_k (R := fun st => E γ k_Machine_startEnds 1 18 [some (vr (some (6, this))), some (vi a1)] st M2 (Qv Q)) hp (fun h => ?_))
  refine E_blk (lv' := [some (vr (some (6, this))), some (vi a1)]) (st' := [vr (mR M2 6 this 2)]) (M1 := M2) (pc' := 22) (tb_Machine hγ) [.aload_n 0, .getfield 24] (by decide +kernel) rfl rfl trivial ?_
  obtain ⟨i3, ei3, h⟩ := h
  rw [ei3]
  refine E_blk (lv' := [some (vr (some (6, this))), some (vi a1)]) (st' := []) (M1 := (sI M2 7 i3 1 ((mI M2 7 i3 1) - (1 : Int32)))) (pc' := 31) (tb_Machine hγ) [.dup, .getfield 152, .iconst 1, .isub, .putfield 152] (by decide +kernel) rfl rfl trivial ?_
  exact E_vret rfl (by decide +kernel) h
def w_Machine_start_j49 (this : Nat) (Q : Mem → Prop) (v1 : Int32) (v2 : Int32) (M : Mem) : Prop :=
  ∃ i14, (mR M 6 this 2) = some (7, i14) ∧ vp_in v1 (mL M 93 i14) ∧ w_Machine_ownStart this v2 (fun r17 M16 => if r17 < 0 then (w_Machine_startEnds this v2 (fun M19 => Q M19) M16) else (w_Machine_enter this r17 (fun r21 M20 => Q M20) M16)) (sI M 93 i14 v1.toNatClampNeg (1 : Int32))
def w_Machine_start (this : Nat) (a1 : Int32) (Q : Mem → Prop) (M : Mem) : Prop :=
  ∃ i1, (mR M 6 this 2) = some (7, i1) ∧ vp_in a1 (mL M 92 i1) ∧ ∃ i3, (mR M 6 this 2) = some (7, i3) ∧ vp_in a1 (mL M 93 i3) ∧ if (mI M 93 i3 a1.toNatClampNeg) = 0 then (w_World_isFace this (mI M 92 i1 a1.toNatClampNeg) (fun r7 M6 => if r7 = 0 then (w_World_up this (mI M 92 i1 a1.toNatClampNeg) (fun r10 M9 => w_Machine_isReady this r10 (fun r12 M11 => if r12 = 0 then (Q M11) else (w_Machine_start_j49 this Q a1 (mI M 92 i1 a1.toNatClampNeg) M11)) M9) M6) else (w_Machine_start_j49 this Q a1 (mI M 92 i1 a1.toNatClampNeg) M6)) M) else (w_Machine_start_j49 this Q a1 (mI M 92 i1 a1.toNatClampNeg) M)
set_option maxRecDepth 4096 in
theorem lk_Machine_start_j49 {γ : Gm} (hγ : Gk γ) (this : Nat) (Q : Mem → Prop) (v1 : Int32) (v2 : Int32) (M : Mem) (h : w_Machine_start_j49 this Q v1 v2 M) : E γ k_Machine_start 135 49 [some (vr (some (6, this))), some (vi v1), some (vi v2), none] [] M (Qv Q) := by
  unfold w_Machine_start_j49 at h
  refine E_blk (lv' := [some (vr (some (6, this))), some (vi v1), some (vi v2), none]) (st' := [vr (mR M 6 this 2)]) (M1 := M) (pc' := 53) (tb_Machine hγ) [.aload_n 0, .getfield 24] (by decide +kernel) rfl rfl trivial ?_
  obtain ⟨i14, ei14, h⟩ := h
  rw [ei14]
  obtain ⟨c15, h⟩ := h
  refine E_blk (lv' := [some (vr (some (6, this))), some (vi v1), some (vi v2), none]) (st' := [vi v2, vr (some (6, this))]) (M1 := (sI M 93 i14 v1.toNatClampNeg (1 : Int32))) (pc' := 61) (tb_Machine hγ) [.getfield 263, .iload_n 1, .iconst 1, .iastore, .aload_n 0, .iload_n 2] (by decide +kernel) rfl rfl ⟨c15, trivial⟩ ?_
  refine E_callV (κ' := k_Machine_ownStart) (As := [vi v2]) (st := []) mv_Machine_ownStart (Or.inl (tbk_mem (j := 9) (k := 12) rfl)) rfl (by decide +kernel) (Nat.le_of_ble_eq_true rfl) (Nat.le_of_ble_eq_true rfl) rfl (by decide) (lk_Machine_ownStart hγ this v2 _ (sI M 93 i14 v1.toNatClampNeg (1 : Int32)) h) (fun _ _ => Qi_r) (fun v M16 hp => Qi_k (R := fun st => E γ k_Machine_start 135 64 [some (vr (some (6, this))), some (vi v1), some (vi v2), none] st M16 (Qv Q)) hp (fun r17 h => ?_))
  refine E_blk (lv' := [some (vr (some (6, this))), some (vi v1), some (vi v2), some (vi r17)]) (st' := [vi r17]) (M1 := M16) (pc' := 66) (tb_Machine hγ) [.istore_n 3, .iload_n 3] (by decide +kernel) rfl rfl trivial ?_
  refine E_if_lt (off := 12) (tgt := 78) (by decide +kernel) (by decide) (fun b18 => ?_) (fun b18 => ?_)
  · rw [if_pos b18] at h
    refine E_blk (lv' := [some (vr (some (6, this))), some (vi v1), some (vi v2), some (vi r17)]) (st' := [vi v2, vr (some (6, this))]) (M1 := M16) (pc' := 80) (tb_Machine hγ) [.aload_n 0, .iload_n 2] (by decide +kernel) rfl rfl trivial ?_
    refine E_callV (κ' := k_Machine_startEnds) (As := [vi v2]) (st := []) mv_Machine_startEnds (Or.inl (tbk_mem (j := 9) (k := 16) rfl)) rfl (by decide +kernel) (Nat.le_of_ble_eq_true rfl) (Nat.le_of_ble_eq_true rfl) rfl (by decide) (lk_Machine_startEnds hγ this v2 _ M16 h) (fun _ _ => Qv_r) (fun v M19 hp => Qv_k (R := fun st => E γ k_Machine_start 135 83 [some (vr (some (6, this))), some (vi v1), some (vi v2), some (vi r17)] st M19 (Qv Q)) hp (fun h => ?_))
    exact E_vret rfl (by decide +kernel) h
  · rw [if_neg b18] at h
    refine E_blk (lv' := [some (vr (some (6, this))), some (vi v1), some (vi v2), some (vi r17)]) (st' := [vi r17, vr (some (6, this))]) (M1 := M16) (pc' := 71) (tb_Machine hγ) [.aload_n 0, .iload_n 3] (by decide +kernel) rfl rfl trivial ?_
    refine E_callV (κ' := k_Machine_enter) (As := [vi r17]) (st := []) mv_Machine_enter (Or.inl (tbk_mem (j := 9) (k := 3) rfl)) rfl (by decide +kernel) (Nat.le_of_ble_eq_true rfl) (Nat.le_of_ble_eq_true rfl) rfl (by decide) (lk_Machine_enter hγ this r17 _ M16 h) (fun _ _ => Qi_r) (fun v M20 hp => Qi_k (R := fun st => E γ k_Machine_start 135 74 [some (vr (some (6, this))), some (vi v1), some (vi v2), some (vi r17)] st M20 (Qv Q)) hp (fun r21 h => ?_))
    refine E_blk (lv' := [some (vr (some (6, this))), some (vi v1), some (vi v2), some (vi r17)]) (st' := []) (M1 := M20) (pc' := 75) (tb_Machine hγ) [.pop] (by decide +kernel) rfl rfl trivial ?_
    refine E_goto (off := 8) (tgt := 83) (by decide +kernel) (by decide) ?_
    exact E_vret rfl (by decide +kernel) h
set_option maxRecDepth 4096 in
theorem lk_Machine_start {γ : Gm} (hγ : Gk γ) (this : Nat) (a1 : Int32) (Q : Mem → Prop) (M : Mem) (h : w_Machine_start this a1 Q M) : E γ k_Machine_start 135 0 [some (vr (some (6, this))), some (vi a1), none, none] [] M (Qv Q) := by
  unfold w_Machine_start at h
  refine E_blk (lv' := [some (vr (some (6, this))), some (vi a1), none, none]) (st' := [vr (mR M 6 this 2)]) (M1 := M) (pc' := 4) (tb_Machine hγ) [.aload_n 0, .getfield 24] (by decide +kernel) rfl rfl trivial ?_
  obtain ⟨i1, ei1, h⟩ := h
  rw [ei1]
  obtain ⟨c2, h⟩ := h
  refine E_blk (lv' := [some (vr (some (6, this))), some (vi a1), some (vi (mI M 92 i1 a1.toNatClampNeg)), none]) (st' := [vr (mR M 6 this 2)]) (M1 := M) (pc' := 14) (tb_Machine hγ) [.getfield 155, .iload_n 1, .iaload, .istore_n 2, .aload_n 0, .getfield 24] (by decide +kernel) rfl rfl ⟨c2, trivial⟩ ?_
  obtain ⟨i3, ei3, h⟩ := h
  rw [ei3]
  obtain ⟨c4, h⟩ := h
  refine E_blk (lv' := [some (vr (some (6, this))), some (vi a1), some (vi (mI M 92 i1 a1.toNatClampNeg)), none]) (st' := [vi (mI M 93 i3 a1.toNatClampNeg)]) (M1 := M) (pc' := 19) (tb_Machine hγ) [.getfield 263, .iload_n 1, .iaload] (by decide +kernel) rfl rfl ⟨c4, trivial⟩ ?_
  refine E_if_ne (off := 30) (tgt := 49) (by decide +kernel) (by decide) (fun b5 => ?_) (fun b5 => ?_)
  · rw [if_pos b5] at h
    refine E_blk (lv' := [some (vr (some (6, this))), some (vi a1), some (vi (mI M 92 i1 a1.toNatClampNeg)), none]) (st' := [vi (mI M 92 i1 a1.toNatClampNeg), vr (some (5, this))]) (M1 := M) (pc' := 27) (tb_Machine hγ) [.aload_n 0, .getfield 84, .iload_n 2] (by decide +kernel) rfl rfl trivial ?_
    refine E_callV (κ' := k_World_isFace) (As := [vi (mI M 92 i1 a1.toNatClampNeg)]) (st := []) mv_World_isFace (Or.inl (tbk_mem (j := 8) (k := 154) rfl)) rfl (by decide +kernel) (Nat.le_of_ble_eq_true rfl) (Nat.le_of_ble_eq_true rfl) rfl (by decide) (lk_World_isFace hγ this (mI M 92 i1 a1.toNatClampNeg) _ M h) (fun _ _ => Qi_r) (fun v M6 hp => Qi_k (R := fun st => E γ k_Machine_start 135 30 [some (vr (some (6, this))), some (vi a1), some (vi (mI M 92 i1 a1.toNatClampNeg)), none] st M6 (Qv Q)) hp (fun r7 h => ?_))
    refine E_if_ne (off := 19) (tgt := 49) (by decide +kernel) (by decide) (fun b8 => ?_) (fun b8 => ?_)
    · rw [if_pos b8] at h
      refine E_blk (lv' := [some (vr (some (6, this))), some (vi a1), some (vi (mI M 92 i1 a1.toNatClampNeg)), none]) (st' := [vi (mI M 92 i1 a1.toNatClampNeg), vr (some (5, this)), vr (some (6, this))]) (M1 := M6) (pc' := 39) (tb_Machine hγ) [.aload_n 0, .aload_n 0, .getfield 84, .iload_n 2] (by decide +kernel) rfl rfl trivial ?_
      refine E_callV (κ' := k_World_up) (As := [vi (mI M 92 i1 a1.toNatClampNeg)]) (st := [vr (some (6, this))]) mv_World_up (Or.inl (tbk_mem (j := 9) (k := 11) rfl)) rfl (by decide +kernel) (Nat.le_of_ble_eq_true rfl) (Nat.le_of_ble_eq_true rfl) rfl (by decide) (lk_World_up hγ this (mI M 92 i1 a1.toNatClampNeg) _ M6 h) (fun _ _ => Qi_r) (fun v M9 hp => Qi_k (R := fun st => E γ k_Machine_start 135 42 [some (vr (some (6, this))), some (vi a1), some (vi (mI M 92 i1 a1.toNatClampNeg)), none] st M9 (Qv Q)) hp (fun r10 h => ?_))
      refine E_callV (κ' := k_Machine_isReady) (As := [vi r10]) (st := []) mv_Machine_isReady (Or.inl (tbk_mem (j := 8) (k := 231) rfl)) rfl (by decide +kernel) (Nat.le_of_ble_eq_true rfl) (Nat.le_of_ble_eq_true rfl) rfl (by decide) (lk_Machine_isReady hγ this r10 _ M9 h) (fun _ _ => Qi_r) (fun v M11 hp => Qi_k (R := fun st => E γ k_Machine_start 135 45 [some (vr (some (6, this))), some (vi a1), some (vi (mI M 92 i1 a1.toNatClampNeg)), none] st M11 (Qv Q)) hp (fun r12 h => ?_))
      refine E_if_ne (off := 4) (tgt := 49) (by decide +kernel) (by decide) (fun b13 => ?_) (fun b13 => ?_)
      · rw [if_pos b13] at h
        exact E_vret rfl (by decide +kernel) h
      · rw [if_neg b13] at h
        refine E_mask [true, true, true, false] rfl ?_
        exact lk_Machine_start_j49 hγ this Q a1 (mI M 92 i1 a1.toNatClampNeg) M11 h
    · rw [if_neg b8] at h
      refine E_mask [true, true, true, false] rfl ?_
      exact lk_Machine_start_j49 hγ this Q a1 (mI M 92 i1 a1.toNatClampNeg) M6 h
  · rw [if_neg b5] at h
    refine E_mask [true, true, true, false] rfl ?_
    exact lk_Machine_start_j49 hγ this Q a1 (mI M 92 i1 a1.toNatClampNeg) M h
def wk_World_fieldByFaces_L86 (K : Nat → Int32 → Int32 → Int32 → (Int32 → Mem → Prop) → Mem → Prop) (this : Nat) (Q : Int32 → Mem → Prop) : Nat → Int32 → Int32 → Int32 → Int32 → Mem → Prop
  | 0, _, _, _, _, _ => False
  | n + 1, v1, v2, v3, v4, M => vp_in v1 (mL M 39 this) ∧ if (mI M 39 this v1.toNatClampNeg) ≤ v4 then (Q (-2 : Int32) M) else (vp_in (((4 : Int32) * v1) + v4) (mL M 38 this) ∧ w_World_find this (mI M 38 this (((4 : Int32) * v1) + v4).toNatClampNeg) (fun r13 M12 => K this r13 v2 v3 (fun r15 M14 => if r15 < 0 then ((wk_World_fieldByFaces_L86 K this Q n) v1 v2 v3 (v4 + (1 : Int32)) M14) else (Q r15 M14)) M12) M)
def wk_World_fieldByFaces_j77 (K : Nat → Int32 → Int32 → Int32 → (Int32 → Mem → Prop) → Mem → Prop) (this : Nat) (Q : Int32 → Mem → Prop) (k34 : Int32 → Int32 → Int32 → Int32 → Mem → Prop) (v1 : Int32) (v2 : Int32) (v3 : Int32) (v4 : Int32) (M : Mem) : Prop :=
  k34 v1 v2 v3 (v4 + (1 : Int32)) M
def wk_World_fieldByFaces_L34 (K : Nat → Int32 → Int32 → Int32 → (Int32 → Mem → Prop) → Mem → Prop) (this : Nat) (Q : Int32 → Mem → Prop) : Nat → Int32 → Int32 → Int32 → Int32 → Mem → Prop
  | 0, _, _, _, _, _ => False
  | n + 1, v1, v2, v3, v4, M => vp_in v1 (mL M 41 this) ∧ vp_in v1 (mL M 42 this) ∧ if ((mI M 41 this v1.toNatClampNeg) + (mI M 42 this v1.toNatClampNeg)) ≤ v4 then (∃ n17 : Nat, wk_World_fieldByFaces_L86 K this Q n17 v1 v2 v3 (0 : Int32) M) else (vp_in v4 (mL M 49 this) ∧ if (mI M 49 this v4.toNatClampNeg) = v2 then (vp_in v4 (mL M 50 this) ∧ if (mI M 50 this v4.toNatClampNeg) = v3 then (Q v4 M) else (wk_World_fieldByFaces_j77 K this Q (wk_World_fieldByFaces_L34 K this Q n) v1 v2 v3 v4 M)) else (wk_World_fieldByFaces_j77 K this Q (wk_World_fieldByFaces_L34 K this Q n) v1 v2 v3 v4 M))
def wk_World_fieldByFaces (K : Nat → Int32 → Int32 → Int32 → (Int32 → Mem → Prop) → Mem → Prop) (this : Nat) (a1 : Int32) (a2 : Int32) (a3 : Int32) (Q : Int32 → Mem → Prop) (M : Mem) : Prop :=
  vp_in a1 (mL M 77 this) ∧ if (mI M 77 this a1.toNatClampNeg) = (mI M 5 this 61) then (Q (-2 : Int32) M) else (vp_in a1 (mL M 77 this) ∧ vp_in a1 (mL (sI M 77 this a1.toNatClampNeg (mI M 5 this 61)) 41 this) ∧ ∃ x5 : Int32, x5 = (mI (sI M 77 this a1.toNatClampNeg (mI M 5 this 61)) 41 this a1.toNatClampNeg) ∧ ∃ n22 : Nat, wk_World_fieldByFaces_L34 K this Q n22 a1 a2 a3 x5 (sI M 77 this a1.toNatClampNeg (mI M 5 this 61)))
def wr_World_fieldByFaces : Nat → Nat → Int32 → Int32 → Int32 → (Int32 → Mem → Prop) → Mem → Prop
  | 0 => fun _ _ _ _ _ _ => False
  | n + 1 => wk_World_fieldByFaces (wr_World_fieldByFaces n)
def w_World_fieldByFaces (this : Nat) (a1 : Int32) (a2 : Int32) (a3 : Int32) (Q : Int32 → Mem → Prop) (M : Mem) : Prop := ∃ n : Nat, n ≤ 60 ∧ wr_World_fieldByFaces n this a1 a2 a3 Q M
set_option maxRecDepth 4096 in
theorem lkk_World_fieldByFaces_L86 {γ : Gm} (hγ : Gk γ) {d0 d : Nat} (K : Nat → Int32 → Int32 → Int32 → (Int32 → Mem → Prop) → Mem → Prop) (hK : ∀ (this : Nat) (a1 : Int32) (a2 : Int32) (a3 : Int32) (Q : Int32 → Mem → Prop) (M : Mem), K this a1 a2 a3 Q M → ∀ d, d0 ≤ d → E γ k_World_fieldByFaces d 0 [some (vr (some (5, this))), some (vi a1), some (vi a2), some (vi a3), none, none] [] M (Qi Q)) (hd : d0 ≤ d) (hb : 1 ≤ d) (this : Nat) (Q : Int32 → Mem → Prop) : ∀ (n : Nat) (v1 : Int32) (v2 : Int32) (v3 : Int32) (v4 : Int32) (M : Mem), wk_World_fieldByFaces_L86 K this Q n v1 v2 v3 v4 M → E γ k_World_fieldByFaces (d + 1) 86 [some (vr (some (5, this))), some (vi v1), some (vi v2), some (vi v3), some (vi v4), none] [] M (Qi Q) := by
  intro n
  induction n with
  | zero => intro v1 v2 v3 v4 M h; exact h.elim
  | succ n ih =>
    intro v1 v2 v3 v4 M h
    unfold wk_World_fieldByFaces_L86 at h
    obtain ⟨c9, h⟩ := h
    refine E_blk (lv' := [some (vr (some (5, this))), some (vi v1), some (vi v2), some (vi v3), some (vi v4), none]) (st' := [vi (mI M 39 this v1.toNatClampNeg), vi v4]) (M1 := M) (pc' := 94) (tb_World hγ) [.iload 4, .aload_n 0, .getfield 29, .iload_n 1, .iaload] (by decide +kernel) rfl rfl ⟨c9, trivial⟩ ?_
    refine E_icmp_ge (off := 40) (tgt := 134) (by decide +kernel) (by decide) (fun b10 => ?_) (fun b10 => ?_)
    · rw [if_pos b10] at h
      refine E_blk (lv' := [some (vr (some (5, this))), some (vi v1), some (vi v2), some (vi v3), some (vi v4), none]) (st' := [vi (-2 : Int32)]) (M1 := M) (pc' := 136) (tb_World hγ) [.bipush (.negSucc 1)] (by decide +kernel) rfl rfl trivial ?_
      exact E_iret rfl (by decide +kernel) h
    · rw [if_neg b10] at h
      obtain ⟨c11, h⟩ := h
      refine E_blk (lv' := [some (vr (some (5, this))), some (vi v1), some (vi v2), some (vi v3), some (vi v4), none]) (st' := [vi (mI M 38 this (((4 : Int32) * v1) + v4).toNatClampNeg), vr (some (5, this)), vr (some (5, this))]) (M1 := M) (pc' := 110) (tb_World hγ) [.aload_n 0, .aload_n 0, .aload_n 0, .getfield 26, .iconst 4, .iload_n 1, .imul, .iload 4, .iadd, .iaload] (by decide +kernel) rfl rfl ⟨c11, trivial⟩ ?_
      refine E_callV (κ' := k_World_find) (As := [vi (mI M 38 this (((4 : Int32) * v1) + v4).toNatClampNeg)]) (st := [vr (some (5, this))]) mv_World_find (Or.inl (tbk_mem (j := 7) (k := 89) rfl)) rfl (by decide +kernel) (Nat.le_of_ble_eq_true rfl) (Nat.le_of_ble_eq_true rfl) rfl (by omega) (lk_World_find hγ this (mI M 38 this (((4 : Int32) * v1) + v4).toNatClampNeg) _ M h) (fun _ _ => Qi_r) (fun v M12 hp => Qi_k (R := fun st => E γ k_World_fieldByFaces (d + 1) 113 [some (vr (some (5, this))), some (vi v1), some (vi v2), some (vi v3), some (vi v4), none] st M12 (Qi Q)) hp (fun r13 h => ?_))
      refine E_blk (lv' := [some (vr (some (5, this))), some (vi v1), some (vi v2), some (vi v3), some (vi v4), none]) (st' := [vi v3, vi v2, vi r13, vr (some (5, this))]) (M1 := M12) (pc' := 115) (tb_World hγ) [.iload_n 2, .iload_n 3] (by decide +kernel) rfl rfl trivial ?_
      refine E_callV (κ' := k_World_fieldByFaces) (As := [vi r13, vi v2, vi v3]) (st := []) mv_World_fieldByFaces (Or.inl (tbk_mem (j := 9) (k := 38) rfl)) rfl (by decide +kernel) (Nat.le_of_ble_eq_true rfl) (Nat.le_of_ble_eq_true rfl) rfl (by omega) (hK this r13 v2 v3 _ M12 h (d + 0) (by omega)) (fun _ _ => Qi_r) (fun v M14 hp => Qi_k (R := fun st => E γ k_World_fieldByFaces (d + 1) 118 [some (vr (some (5, this))), some (vi v1), some (vi v2), some (vi v3), some (vi v4), none] st M14 (Qi Q)) hp (fun r15 h => ?_))
      refine E_blk (lv' := [some (vr (some (5, this))), some (vi v1), some (vi v2), some (vi v3), some (vi v4), some (vi r15)]) (st' := [vi r15]) (M1 := M14) (pc' := 122) (tb_World hγ) [.istore 5, .iload 5] (by decide +kernel) rfl rfl trivial ?_
      refine E_if_lt (off := 6) (tgt := 128) (by decide +kernel) (by decide) (fun b16 => ?_) (fun b16 => ?_)
      · rw [if_pos b16] at h
        refine E_blk (lv' := [some (vr (some (5, this))), some (vi v1), some (vi v2), some (vi v3), some (vi (v4 + (1 : Int32))), some (vi r15)]) (st' := []) (M1 := M14) (pc' := 131) (tb_World hγ) [.iinc 4 1] (by decide +kernel) rfl rfl trivial ?_
        refine E_goto (off := -45) (tgt := 86) (by decide +kernel) (by decide) ?_
        refine E_mask [true, true, true, true, true, false] rfl ?_
        exact ih v1 v2 v3 (v4 + (1 : Int32)) M14 h
      · rw [if_neg b16] at h
        refine E_blk (lv' := [some (vr (some (5, this))), some (vi v1), some (vi v2), some (vi v3), some (vi v4), some (vi r15)]) (st' := [vi r15]) (M1 := M14) (pc' := 127) (tb_World hγ) [.iload 5] (by decide +kernel) rfl rfl trivial ?_
        exact E_iret rfl (by decide +kernel) h
set_option maxRecDepth 4096 in
theorem lkk_World_fieldByFaces_j77 {γ : Gm} (hγ : Gk γ) {d0 d : Nat} (K : Nat → Int32 → Int32 → Int32 → (Int32 → Mem → Prop) → Mem → Prop) (hK : ∀ (this : Nat) (a1 : Int32) (a2 : Int32) (a3 : Int32) (Q : Int32 → Mem → Prop) (M : Mem), K this a1 a2 a3 Q M → ∀ d, d0 ≤ d → E γ k_World_fieldByFaces d 0 [some (vr (some (5, this))), some (vi a1), some (vi a2), some (vi a3), none, none] [] M (Qi Q)) (hd : d0 ≤ d) (hb : 1 ≤ d) (this : Nat) (Q : Int32 → Mem → Prop) (k34 : Int32 → Int32 → Int32 → Int32 → Mem → Prop) (hk34 : ∀ (v1 : Int32) (v2 : Int32) (v3 : Int32) (v4 : Int32) (M : Mem), k34 v1 v2 v3 v4 M → E γ k_World_fieldByFaces (d + 1) 34 [some (vr (some (5, this))), some (vi v1), some (vi v2), some (vi v3), some (vi v4), none] [] M (Qi Q)) (v1 : Int32) (v2 : Int32) (v3 : Int32) (v4 : Int32) (M : Mem) (h : wk_World_fieldByFaces_j77 K this Q k34 v1 v2 v3 v4 M) : E γ k_World_fieldByFaces (d + 1) 77 [some (vr (some (5, this))), some (vi v1), some (vi v2), some (vi v3), some (vi v4), none] [] M (Qi Q) := by
  unfold wk_World_fieldByFaces_j77 at h
  refine E_blk (lv' := [some (vr (some (5, this))), some (vi v1), some (vi v2), some (vi v3), some (vi (v4 + (1 : Int32))), none]) (st' := []) (M1 := M) (pc' := 80) (tb_World hγ) [.iinc 4 1] (by decide +kernel) rfl rfl trivial ?_
  refine E_goto (off := -46) (tgt := 34) (by decide +kernel) (by decide) ?_
  refine E_mask [true, true, true, true, true, false] rfl ?_
  exact hk34 v1 v2 v3 (v4 + (1 : Int32)) M h
set_option maxRecDepth 4096 in
theorem lkk_World_fieldByFaces_L34 {γ : Gm} (hγ : Gk γ) {d0 d : Nat} (K : Nat → Int32 → Int32 → Int32 → (Int32 → Mem → Prop) → Mem → Prop) (hK : ∀ (this : Nat) (a1 : Int32) (a2 : Int32) (a3 : Int32) (Q : Int32 → Mem → Prop) (M : Mem), K this a1 a2 a3 Q M → ∀ d, d0 ≤ d → E γ k_World_fieldByFaces d 0 [some (vr (some (5, this))), some (vi a1), some (vi a2), some (vi a3), none, none] [] M (Qi Q)) (hd : d0 ≤ d) (hb : 1 ≤ d) (this : Nat) (Q : Int32 → Mem → Prop) : ∀ (n : Nat) (v1 : Int32) (v2 : Int32) (v3 : Int32) (v4 : Int32) (M : Mem), wk_World_fieldByFaces_L34 K this Q n v1 v2 v3 v4 M → E γ k_World_fieldByFaces (d + 1) 34 [some (vr (some (5, this))), some (vi v1), some (vi v2), some (vi v3), some (vi v4), none] [] M (Qi Q) := by
  intro n
  induction n with
  | zero => intro v1 v2 v3 v4 M h; exact h.elim
  | succ n ih =>
    intro v1 v2 v3 v4 M h
    unfold wk_World_fieldByFaces_L34 at h
    obtain ⟨c6, c7, h⟩ := h
    refine E_blk (lv' := [some (vr (some (5, this))), some (vi v1), some (vi v2), some (vi v3), some (vi v4), none]) (st' := [vi ((mI M 41 this v1.toNatClampNeg) + (mI M 42 this v1.toNatClampNeg)), vi v4]) (M1 := M) (pc' := 49) (tb_World hγ) [.iload 4, .aload_n 0, .getfield 35, .iload_n 1, .iaload, .aload_n 0, .getfield 38, .iload_n 1, .iaload, .iadd] (by decide +kernel) rfl rfl ⟨c6, c7, trivial⟩ ?_
    refine E_icmp_ge (off := 34) (tgt := 83) (by decide +kernel) (by decide) (fun b8 => ?_) (fun b8 => ?_)
    · rw [if_pos b8] at h
      refine E_blk (lv' := [some (vr (some (5, this))), some (vi v1), some (vi v2), some (vi v3), some (vi (0 : Int32)), none]) (st' := []) (M1 := M) (pc' := 86) (tb_World hγ) [.iconst 0, .istore 4] (by decide +kernel) rfl rfl trivial ?_
      obtain ⟨n17, h⟩ := h
      refine E_mask [true, true, true, true, true, false] rfl ?_
      exact lkk_World_fieldByFaces_L86 hγ K hK hd hb this Q n17 v1 v2 v3 (0 : Int32) M h
    · rw [if_neg b8] at h
      obtain ⟨c18, h⟩ := h
      refine E_blk (lv' := [some (vr (some (5, this))), some (vi v1), some (vi v2), some (vi v3), some (vi v4), none]) (st' := [vi v2, vi (mI M 49 this v4.toNatClampNeg)]) (M1 := M) (pc' := 60) (tb_World hγ) [.aload_n 0, .getfield 62, .iload 4, .iaload, .iload_n 2] (by decide +kernel) rfl rfl ⟨c18, trivial⟩ ?_
      refine E_icmp_ne (off := 17) (tgt := 77) (by decide +kernel) (by decide) (fun b19 => ?_) (fun b19 => ?_)
      · rw [if_pos b19] at h
        obtain ⟨c20, h⟩ := h
        refine E_blk (lv' := [some (vr (some (5, this))), some (vi v1), some (vi v2), some (vi v3), some (vi v4), none]) (st' := [vi v3, vi (mI M 50 this v4.toNatClampNeg)]) (M1 := M) (pc' := 71) (tb_World hγ) [.aload_n 0, .getfield 65, .iload 4, .iaload, .iload_n 3] (by decide +kernel) rfl rfl ⟨c20, trivial⟩ ?_
        refine E_icmp_ne (off := 6) (tgt := 77) (by decide +kernel) (by decide) (fun b21 => ?_) (fun b21 => ?_)
        · rw [if_pos b21] at h
          refine E_blk (lv' := [some (vr (some (5, this))), some (vi v1), some (vi v2), some (vi v3), some (vi v4), none]) (st' := [vi v4]) (M1 := M) (pc' := 76) (tb_World hγ) [.iload 4] (by decide +kernel) rfl rfl trivial ?_
          exact E_iret rfl (by decide +kernel) h
        · rw [if_neg b21] at h
          refine E_mask [true, true, true, true, true, false] rfl ?_
          exact lkk_World_fieldByFaces_j77 hγ K hK hd hb this Q (wk_World_fieldByFaces_L34 K this Q n) ih v1 v2 v3 v4 M h
      · rw [if_neg b19] at h
        refine E_mask [true, true, true, true, true, false] rfl ?_
        exact lkk_World_fieldByFaces_j77 hγ K hK hd hb this Q (wk_World_fieldByFaces_L34 K this Q n) ih v1 v2 v3 v4 M h
set_option maxRecDepth 4096 in
theorem lkk_World_fieldByFaces {γ : Gm} (hγ : Gk γ) {d0 d : Nat} (K : Nat → Int32 → Int32 → Int32 → (Int32 → Mem → Prop) → Mem → Prop) (hK : ∀ (this : Nat) (a1 : Int32) (a2 : Int32) (a3 : Int32) (Q : Int32 → Mem → Prop) (M : Mem), K this a1 a2 a3 Q M → ∀ d, d0 ≤ d → E γ k_World_fieldByFaces d 0 [some (vr (some (5, this))), some (vi a1), some (vi a2), some (vi a3), none, none] [] M (Qi Q)) (hd : d0 ≤ d) (hb : 1 ≤ d) (this : Nat) (a1 : Int32) (a2 : Int32) (a3 : Int32) (Q : Int32 → Mem → Prop) (M : Mem) (h : wk_World_fieldByFaces K this a1 a2 a3 Q M) : E γ k_World_fieldByFaces (d + 1) 0 [some (vr (some (5, this))), some (vi a1), some (vi a2), some (vi a3), none, none] [] M (Qi Q) := by
  unfold wk_World_fieldByFaces at h
  obtain ⟨c1, h⟩ := h
  refine E_blk (lv' := [some (vr (some (5, this))), some (vi a1), some (vi a2), some (vi a3), none, none]) (st' := [vi (mI M 5 this 61), vi (mI M 77 this a1.toNatClampNeg)]) (M1 := M) (pc' := 10) (tb_World hγ) [.aload_n 0, .getfield 123, .iload_n 1, .iaload, .aload_n 0, .getfield 240] (by decide +kernel) rfl rfl ⟨c1, trivial⟩ ?_
  refine E_icmp_ne (off := 6) (tgt := 16) (by decide +kernel) (by decide) (fun b2 => ?_) (fun b2 => ?_)
  · rw [if_pos b2] at h
    refine E_blk (lv' := [some (vr (some (5, this))), some (vi a1), some (vi a2), some (vi a3), none, none]) (st' := [vi (-2 : Int32)]) (M1 := M) (pc' := 15) (tb_World hγ) [.bipush (.negSucc 1)] (by decide +kernel) rfl rfl trivial ?_
    exact E_iret rfl (by decide +kernel) h
  · rw [if_neg b2] at h
    obtain ⟨c3, c4, h⟩ := h
    refine E_blk (lv' := [some (vr (some (5, this))), some (vi a1), some (vi a2), some (vi a3), some (vi (mI (sI M 77 this a1.toNatClampNeg (mI M 5 this 61)) 41 this a1.toNatClampNeg)), none]) (st' := []) (M1 := (sI M 77 this a1.toNatClampNeg (mI M 5 this 61))) (pc' := 34) (tb_World hγ) [.aload_n 0, .getfield 123, .iload_n 1, .aload_n 0, .getfield 240, .iastore, .aload_n 0, .getfield 35, .iload_n 1, .iaload, .istore 4] (by decide +kernel) rfl rfl ⟨c3, c4, trivial⟩ ?_
    obtain ⟨x5, ex5, h⟩ := h
    rw [← ex5]
    obtain ⟨n22, h⟩ := h
    refine E_mask [true, true, true, true, true, false] rfl ?_
    exact lkk_World_fieldByFaces_L34 hγ K hK hd hb this Q n22 a1 a2 a3 x5 (sI M 77 this a1.toNatClampNeg (mI M 5 this 61)) h
theorem lkr_World_fieldByFaces {γ : Gm} (hγ : Gk γ) : ∀ (n : Nat) (this : Nat) (a1 : Int32) (a2 : Int32) (a3 : Int32) (Q : Int32 → Mem → Prop) (M : Mem), wr_World_fieldByFaces n this a1 a2 a3 Q M → ∀ d, 1 + 1 * n ≤ d → E γ k_World_fieldByFaces d 0 [some (vr (some (5, this))), some (vi a1), some (vi a2), some (vi a3), none, none] [] M (Qi Q) := by
  intro n
  induction n with
  | zero => intro this a1 a2 a3 Q M h; exact h.elim
  | succ n ih =>
    intro this a1 a2 a3 Q M h d hd
    obtain ⟨e, rfl⟩ : ∃ e, d = e + 1 := ⟨d - 1, by omega⟩
    exact lkk_World_fieldByFaces hγ (d0 := 1 + 1 * n) (d := e) (wr_World_fieldByFaces n) ih (by omega) (by omega) this a1 a2 a3 Q M h
theorem lk_World_fieldByFaces {γ : Gm} (hγ : Gk γ) (this : Nat) (a1 : Int32) (a2 : Int32) (a3 : Int32) (Q : Int32 → Mem → Prop) (M : Mem) (h : w_World_fieldByFaces this a1 a2 a3 Q M) : E γ k_World_fieldByFaces 61 0 [some (vr (some (5, this))), some (vi a1), some (vi a2), some (vi a3), none, none] [] M (Qi Q) := by
  obtain ⟨n, hn, h⟩ := h
  exact lkr_World_fieldByFaces hγ n this a1 a2 a3 Q M h _ (by omega)
def w_World_field_L7 (this : Nat) (Q : Int32 → Mem → Prop) : Nat → Int32 → Int32 → Int32 → Mem → Prop
  | 0, _, _, _, _ => False
  | n + 1, v2, v3, v4, M => if v4 < 0 then (Q (-2 : Int32) M) else (w_World_fieldByFaces this v4 v2 v3 (fun r4 M3 => if r4 < 0 then (w_World_up this v4 (fun r7 M6 => (w_World_field_L7 this Q n) v2 v3 r7 M6) M3) else (Q r4 M3)) M)
def w_World_field (this : Nat) (a1 : Int32) (a2 : Int32) (a3 : Int32) (Q : Int32 → Mem → Prop) (M : Mem) : Prop :=
  w_World_nextStamp this (fun M1 => ∃ n8 : Nat, w_World_field_L7 this Q n8 a2 a3 a1 M1) M
set_option maxRecDepth 4096 in
theorem lk_World_field_L7 {γ : Gm} (hγ : Gk γ) (this : Nat) (Q : Int32 → Mem → Prop) : ∀ (n : Nat) (v2 : Int32) (v3 : Int32) (v4 : Int32) (M : Mem), w_World_field_L7 this Q n v2 v3 v4 M → E γ k_World_field 62 7 [some (vr (some (5, this))), none, some (vi v2), some (vi v3), some (vi v4), none] [] M (Qi Q) := by
  intro n
  induction n with
  | zero => intro v2 v3 v4 M h; exact h.elim
  | succ n ih =>
    intro v2 v3 v4 M h
    unfold w_World_field_L7 at h
    refine E_blk (lv' := [some (vr (some (5, this))), none, some (vi v2), some (vi v3), some (vi v4), none]) (st' := [vi v4]) (M1 := M) (pc' := 9) (tb_World hγ) [.iload 4] (by decide +kernel) rfl rfl trivial ?_
    refine E_if_lt (off := 32) (tgt := 41) (by decide +kernel) (by decide) (fun b2 => ?_) (fun b2 => ?_)
    · rw [if_pos b2] at h
      refine E_blk (lv' := [some (vr (some (5, this))), none, some (vi v2), some (vi v3), some (vi v4), none]) (st' := [vi (-2 : Int32)]) (M1 := M) (pc' := 43) (tb_World hγ) [.bipush (.negSucc 1)] (by decide +kernel) rfl rfl trivial ?_
      exact E_iret rfl (by decide +kernel) h
    · rw [if_neg b2] at h
      refine E_blk (lv' := [some (vr (some (5, this))), none, some (vi v2), some (vi v3), some (vi v4), none]) (st' := [vi v3, vi v2, vi v4, vr (some (5, this))]) (M1 := M) (pc' := 17) (tb_World hγ) [.aload_n 0, .iload 4, .iload_n 2, .iload_n 3] (by decide +kernel) rfl rfl trivial ?_
      refine E_callV (κ' := k_World_fieldByFaces) (As := [vi v4, vi v2, vi v3]) (st := []) mv_World_fieldByFaces (Or.inl (tbk_mem (j := 9) (k := 38) rfl)) rfl (by decide +kernel) (Nat.le_of_ble_eq_true rfl) (Nat.le_of_ble_eq_true rfl) rfl (by decide) (lk_World_fieldByFaces hγ this v4 v2 v3 _ M h) (fun _ _ => Qi_r) (fun v M3 hp => Qi_k (R := fun st => E γ k_World_field 62 20 [some (vr (some (5, this))), none, some (vi v2), some (vi v3), some (vi v4), none] st M3 (Qi Q)) hp (fun r4 h => ?_))
      refine E_blk (lv' := [some (vr (some (5, this))), none, some (vi v2), some (vi v3), some (vi v4), some (vi r4)]) (st' := [vi r4]) (M1 := M3) (pc' := 24) (tb_World hγ) [.istore 5, .iload 5] (by decide +kernel) rfl rfl trivial ?_
      refine E_if_lt (off := 6) (tgt := 30) (by decide +kernel) (by decide) (fun b5 => ?_) (fun b5 => ?_)
      · rw [if_pos b5] at h
        refine E_blk (lv' := [some (vr (some (5, this))), none, some (vi v2), some (vi v3), some (vi v4), some (vi r4)]) (st' := [vi v4, vr (some (5, this))]) (M1 := M3) (pc' := 33) (tb_World hγ) [.aload_n 0, .iload 4] (by decide +kernel) rfl rfl trivial ?_
        refine E_callV (κ' := k_World_up) (As := [vi v4]) (st := []) mv_World_up (Or.inl (tbk_mem (j := 7) (k := 93) rfl)) rfl (by decide +kernel) (Nat.le_of_ble_eq_true rfl) (Nat.le_of_ble_eq_true rfl) rfl (by decide) (lk_World_up hγ this v4 _ M3 h) (fun _ _ => Qi_r) (fun v M6 hp => Qi_k (R := fun st => E γ k_World_field 62 36 [some (vr (some (5, this))), none, some (vi v2), some (vi v3), some (vi v4), some (vi r4)] st M6 (Qi Q)) hp (fun r7 h => ?_))
        refine E_blk (lv' := [some (vr (some (5, this))), none, some (vi v2), some (vi v3), some (vi r7), some (vi r4)]) (st' := []) (M1 := M6) (pc' := 38) (tb_World hγ) [.istore 4] (by decide +kernel) rfl rfl trivial ?_
        refine E_goto (off := -31) (tgt := 7) (by decide +kernel) (by decide) ?_
        refine E_mask [true, false, true, true, true, false] rfl ?_
        exact ih v2 v3 r7 M6 h
      · rw [if_neg b5] at h
        refine E_blk (lv' := [some (vr (some (5, this))), none, some (vi v2), some (vi v3), some (vi v4), some (vi r4)]) (st' := [vi r4]) (M1 := M3) (pc' := 29) (tb_World hγ) [.iload 5] (by decide +kernel) rfl rfl trivial ?_
        exact E_iret rfl (by decide +kernel) h
set_option maxRecDepth 4096 in
theorem lk_World_field {γ : Gm} (hγ : Gk γ) (this : Nat) (a1 : Int32) (a2 : Int32) (a3 : Int32) (Q : Int32 → Mem → Prop) (M : Mem) (h : w_World_field this a1 a2 a3 Q M) : E γ k_World_field 62 0 [some (vr (some (5, this))), some (vi a1), some (vi a2), some (vi a3), none, none] [] M (Qi Q) := by
  unfold w_World_field at h
  refine E_blk (lv' := [some (vr (some (5, this))), some (vi a1), some (vi a2), some (vi a3), none, none]) (st' := [vr (some (5, this))]) (M1 := M) (pc' := 1) (tb_World hγ) [.aload_n 0] (by decide +kernel) rfl rfl trivial ?_
  refine E_callV (κ' := k_World_nextStamp) (As := []) (st := []) mv_World_nextStamp (Or.inl (tbk_mem (j := 8) (k := 176) rfl)) rfl (by decide +kernel) (Nat.le_of_ble_eq_true rfl) (Nat.le_of_ble_eq_true rfl) rfl (by decide) (lk_World_nextStamp hγ this _ M h) (fun _ _ => Qv_r) (fun v M1 hp => Qv_k (R := fun st => E γ k_World_field 62 4 [some (vr (some (5, this))), some (vi a1), some (vi a2), some (vi a3), none, none] st M1 (Qi Q)) hp (fun h => ?_))
  refine E_blk (lv' := [some (vr (some (5, this))), some (vi a1), some (vi a2), some (vi a3), some (vi a1), none]) (st' := []) (M1 := M1) (pc' := 7) (tb_World hγ) [.iload_n 1, .istore 4] (by decide +kernel) rfl rfl trivial ?_
  obtain ⟨n8, h⟩ := h
  refine E_mask [true, false, true, true, true, false] rfl ?_
  exact lk_World_field_L7 hγ this Q n8 a2 a3 a1 M1 h
def w_World_classOfField_j30 (this : Nat) (Q : Int32 → Mem → Prop) (k3 : Int32 → Int32 → Mem → Prop) (v1 : Int32) (v2 : Int32) (M : Mem) : Prop :=
  k3 v1 (v2 + (1 : Int32)) M
def w_World_classOfField_L3 (this : Nat) (Q : Int32 → Mem → Prop) : Nat → Int32 → Int32 → Mem → Prop
  | 0, _, _, _ => False
  | n + 1, v1, v2, M => vp_in v2 (mL M 41 this) ∧ if v1 < (mI M 41 this v2.toNatClampNeg) then (w_World_classOfField_j30 this Q (w_World_classOfField_L3 this Q n) v1 v2 M) else (vp_in v2 (mL M 41 this) ∧ vp_in v2 (mL M 42 this) ∧ if v1 < ((mI M 41 this v2.toNatClampNeg) + (mI M 42 this v2.toNatClampNeg)) then (Q v2 M) else (w_World_classOfField_j30 this Q (w_World_classOfField_L3 this Q n) v1 v2 M))
def w_World_classOfField (this : Nat) (a1 : Int32) (Q : Int32 → Mem → Prop) (M : Mem) : Prop :=
  ∃ n6 : Nat, w_World_classOfField_L3 this Q n6 a1 (21 : Int32) M
set_option maxRecDepth 4096 in
theorem lk_World_classOfField_j30 {γ : Gm} (hγ : Gk γ) (this : Nat) (Q : Int32 → Mem → Prop) (k3 : Int32 → Int32 → Mem → Prop) (hk3 : ∀ (v1 : Int32) (v2 : Int32) (M : Mem), k3 v1 v2 M → E γ k_World_classOfField 0 3 [some (vr (some (5, this))), some (vi v1), some (vi v2)] [] M (Qi Q)) (v1 : Int32) (v2 : Int32) (M : Mem) (h : w_World_classOfField_j30 this Q k3 v1 v2 M) : E γ k_World_classOfField 0 30 [some (vr (some (5, this))), some (vi v1), some (vi v2)] [] M (Qi Q) := by
  unfold w_World_classOfField_j30 at h
  refine E_blk (lv' := [some (vr (some (5, this))), some (vi v1), some (vi (v2 + (1 : Int32)))]) (st' := []) (M1 := M) (pc' := 33) (tb_World hγ) [.iinc 2 1] (by decide +kernel) rfl rfl trivial ?_
  refine E_goto (off := -30) (tgt := 3) (by decide +kernel) (by decide) ?_
  refine E_mask [true, true, true] rfl ?_
  exact hk3 v1 (v2 + (1 : Int32)) M h
set_option maxRecDepth 4096 in
theorem lk_World_classOfField_L3 {γ : Gm} (hγ : Gk γ) (this : Nat) (Q : Int32 → Mem → Prop) : ∀ (n : Nat) (v1 : Int32) (v2 : Int32) (M : Mem), w_World_classOfField_L3 this Q n v1 v2 M → E γ k_World_classOfField 0 3 [some (vr (some (5, this))), some (vi v1), some (vi v2)] [] M (Qi Q) := by
  intro n
  induction n with
  | zero => intro v1 v2 M h; exact h.elim
  | succ n ih =>
    intro v1 v2 M h
    unfold w_World_classOfField_L3 at h
    obtain ⟨c1, h⟩ := h
    refine E_blk (lv' := [some (vr (some (5, this))), some (vi v1), some (vi v2)]) (st' := [vi (mI M 41 this v2.toNatClampNeg), vi v1]) (M1 := M) (pc' := 10) (tb_World hγ) [.iload_n 1, .aload_n 0, .getfield 35, .iload_n 2, .iaload] (by decide +kernel) rfl rfl ⟨c1, trivial⟩ ?_
    refine E_icmp_lt (off := 20) (tgt := 30) (by decide +kernel) (by decide) (fun b2 => ?_) (fun b2 => ?_)
    · rw [if_pos b2] at h
      refine E_mask [true, true, true] rfl ?_
      exact lk_World_classOfField_j30 hγ this Q (w_World_classOfField_L3 this Q n) ih v1 v2 M h
    · rw [if_neg b2] at h
      obtain ⟨c3, c4, h⟩ := h
      refine E_blk (lv' := [some (vr (some (5, this))), some (vi v1), some (vi v2)]) (st' := [vi ((mI M 41 this v2.toNatClampNeg) + (mI M 42 this v2.toNatClampNeg)), vi v1]) (M1 := M) (pc' := 27) (tb_World hγ) [.iload_n 1, .aload_n 0, .getfield 35, .iload_n 2, .iaload, .aload_n 0, .getfield 38, .iload_n 2, .iaload, .iadd] (by decide +kernel) rfl rfl ⟨c3, c4, trivial⟩ ?_
      refine E_icmp_lt (off := 9) (tgt := 36) (by decide +kernel) (by decide) (fun b5 => ?_) (fun b5 => ?_)
      · rw [if_pos b5] at h
        refine E_blk (lv' := [some (vr (some (5, this))), some (vi v1), some (vi v2)]) (st' := [vi v2]) (M1 := M) (pc' := 37) (tb_World hγ) [.iload_n 2] (by decide +kernel) rfl rfl trivial ?_
        exact E_iret rfl (by decide +kernel) h
      · rw [if_neg b5] at h
        refine E_mask [true, true, true] rfl ?_
        exact lk_World_classOfField_j30 hγ this Q (w_World_classOfField_L3 this Q n) ih v1 v2 M h
set_option maxRecDepth 4096 in
theorem lk_World_classOfField {γ : Gm} (hγ : Gk γ) (this : Nat) (a1 : Int32) (Q : Int32 → Mem → Prop) (M : Mem) (h : w_World_classOfField this a1 Q M) : E γ k_World_classOfField 0 0 [some (vr (some (5, this))), some (vi a1), none] [] M (Qi Q) := by
  unfold w_World_classOfField at h
  refine E_blk (lv' := [some (vr (some (5, this))), some (vi a1), some (vi (21 : Int32))]) (st' := []) (M1 := M) (pc' := 3) (tb_World hγ) [.bipush 21, .istore_n 2] (by decide +kernel) rfl rfl trivial ?_
  obtain ⟨n6, h⟩ := h
  refine E_mask [true, true, true] rfl ?_
  exact lk_World_classOfField_L3 hγ this Q n6 a1 (21 : Int32) M h
def w_Machine_findField_j214 (this : Nat) (Q : Int32 → Mem → Prop) (v3 : Int32) (v6 : Int32) (v8 : Int32) (s0 : Int32) (M : Mem) : Prop :=
  if v3 = 0 then (Q v6 M) else (if (v8 &&& (2 : Int32)) = 0 then (Q v6 M) else (if s0 = 0 then (w_World_asks this (54 : Int32) (fun r32 M31 => if r32 = 0 then (Q v6 M31) else (w_Machine_thrown this (14 : Int32) (54 : Int32) (fun r35 M34 => Q r35 M34) M31)) M) else (Q v6 M)))
def w_Machine_findField_j213 (this : Nat) (Q : Int32 → Mem → Prop) (v3 : Int32) (v6 : Int32) (v8 : Int32) (M : Mem) : Prop :=
  w_Machine_findField_j214 this Q v3 v6 v8 (0 : Int32) M
def w_Machine_findField_j206 (this : Nat) (Q : Int32 → Mem → Prop) (v3 : Int32) (v6 : Int32) (v8 : Int32) (s0 : Int32) (s1 : Int32) (M : Mem) : Prop :=
  if s1 = s0 then (w_Machine_findField_j214 this Q v3 v6 v8 (1 : Int32) M) else (w_Machine_findField_j213 this Q v3 v6 v8 M)
def w_Machine_findField_j170 (this : Nat) (Q : Int32 → Mem → Prop) (v2 : Int32) (v3 : Int32) (v4 : Int32) (v6 : Int32) (v7 : Int32) (v8 : Int32) (M : Mem) : Prop :=
  vp_in v4 (mL M 55 this) ∧ if v7 = (mI M 55 this v4.toNatClampNeg) then (vp_in v4 (mL M 56 this) ∧ if v2 = 0 then (w_Machine_findField_j206 this Q v3 v6 v8 (79 : Int32) (mI M 56 this v4.toNatClampNeg) M) else (w_Machine_findField_j206 this Q v3 v6 v8 (80 : Int32) (mI M 56 this v4.toNatClampNeg) M)) else (w_Machine_findField_j213 this Q v3 v6 v8 M)
def w_Machine_findField_j161 (this : Nat) (Q : Int32 → Mem → Prop)  (M : Mem) : Prop :=
  w_Machine_thrown this (15 : Int32) (55 : Int32) (fun r37 M36 => Q r37 M36) M
def w_Machine_findField_j141 (this : Nat) (Q : Int32 → Mem → Prop) (v2 : Int32) (v3 : Int32) (v4 : Int32) (v6 : Int32) (v7 : Int32) (v8 : Int32) (s0 : Int32) (M : Mem) : Prop :=
  if s0 = v2 then (if v2 = 0 then (w_World_isFace this v7 (fun r21 M20 => if r21 = 0 then (w_Machine_findField_j170 this Q v2 v3 v4 v6 v7 v8 M20) else (w_Machine_findField_j161 this Q  M20)) M) else (w_Machine_findField_j170 this Q v2 v3 v4 v6 v7 v8 M)) else (w_Machine_findField_j161 this Q  M)
def w_Machine_findField_j129 (this : Nat) (Q : Int32 → Mem → Prop) (v2 : Int32) (v3 : Int32) (v4 : Int32) (v6 : Int32) (v7 : Int32) (v8 : Int32) (M : Mem) : Prop :=
  if (v8 &&& (1 : Int32)) = 0 then (w_Machine_findField_j141 this Q v2 v3 v4 v6 v7 v8 (0 : Int32) M) else (w_Machine_findField_j141 this Q v2 v3 v4 v6 v7 v8 (1 : Int32) M)
def w_Machine_findField (this : Nat) (a1 : Int32) (a2 : Int32) (a3 : Int32) (a4 : Int32) (Q : Int32 → Mem → Prop) (M : Mem) : Prop :=
  w_World_refClass this a1 (fun r2 M1 => w_Machine_linkedClass this r2 (fun r4 M3 => if 0 ≤ r4 then (w_World_refName this a1 (fun r7 M6 => w_World_refType this a1 (fun r9 M8 => w_World_field this r4 r7 r9 (fun r11 M10 => if 0 ≤ r11 then (w_World_classOfField this r11 (fun r14 M13 => vp_in r11 (mL M13 51 this) ∧ if ((mI M13 51 this r11.toNatClampNeg) &&& (4 : Int32)) = 0 then (w_Machine_findField_j129 this Q a2 a3 a4 r11 r14 (mI M13 51 this r11.toNatClampNeg) M13) else (vp_in a4 (mL M13 55 this) ∧ if r14 = (mI M13 55 this a4.toNatClampNeg) then (w_Machine_findField_j129 this Q a2 a3 a4 r11 r14 (mI M13 51 this r11.toNatClampNeg) M13) else (w_World_asks this (53 : Int32) (fun r41 M40 => if r41 = 0 then (w_Machine_findField_j129 this Q a2 a3 a4 r11 r14 (mI M13 51 this r11.toNatClampNeg) M40) else (w_Machine_thrown this (14 : Int32) (53 : Int32) (fun r44 M43 => Q r44 M43) M40)) M13))) M10) else (w_Machine_thrown this (12 : Int32) (51 : Int32) (fun r46 M45 => Q r46 M45) M10)) M8) M6) M3) else (Q r4 M3)) M1) M
set_option maxRecDepth 4096 in
theorem lk_Machine_findField_j214 {γ : Gm} (hγ : Gk γ) (this : Nat) (Q : Int32 → Mem → Prop) (v3 : Int32) (v6 : Int32) (v8 : Int32) (s0 : Int32) (M : Mem) (h : w_Machine_findField_j214 this Q v3 v6 v8 s0 M) : E γ k_Machine_findField 134 214 [some (vr (some (6, this))), none, none, some (vi v3), none, none, some (vi v6), none, some (vi v8), none] [vi s0] M (Qi Q) := by
  unfold w_Machine_findField_j214 at h
  refine E_blk (lv' := [some (vr (some (6, this))), none, none, some (vi v3), none, none, some (vi v6), none, some (vi v8), some (vi s0)]) (st' := [vi v3]) (M1 := M) (pc' := 217) (tb_Machine hγ) [.istore 9, .iload_n 3] (by decide +kernel) rfl rfl trivial ?_
  refine E_if_eq (off := 36) (tgt := 253) (by decide +kernel) (by decide) (fun b28 => ?_) (fun b28 => ?_)
  · rw [if_pos b28] at h
    refine E_blk (lv' := [some (vr (some (6, this))), none, none, some (vi v3), none, none, some (vi v6), none, some (vi v8), some (vi s0)]) (st' := [vi v6]) (M1 := M) (pc' := 255) (tb_Machine hγ) [.iload 6] (by decide +kernel) rfl rfl trivial ?_
    exact E_iret rfl (by decide +kernel) h
  · rw [if_neg b28] at h
    refine E_blk (lv' := [some (vr (some (6, this))), none, none, some (vi v3), none, none, some (vi v6), none, some (vi v8), some (vi s0)]) (st' := [vi (v8 &&& (2 : Int32))]) (M1 := M) (pc' := 224) (tb_Machine hγ) [.iload 8, .iconst 2, .iand] (by decide +kernel) rfl rfl trivial ?_
    refine E_if_eq (off := 29) (tgt := 253) (by decide +kernel) (by decide) (fun b29 => ?_) (fun b29 => ?_)
    · rw [if_pos b29] at h
      refine E_blk (lv' := [some (vr (some (6, this))), none, none, some (vi v3), none, none, some (vi v6), none, some (vi v8), some (vi s0)]) (st' := [vi v6]) (M1 := M) (pc' := 255) (tb_Machine hγ) [.iload 6] (by decide +kernel) rfl rfl trivial ?_
      exact E_iret rfl (by decide +kernel) h
    · rw [if_neg b29] at h
      refine E_blk (lv' := [some (vr (some (6, this))), none, none, some (vi v3), none, none, some (vi v6), none, some (vi v8), some (vi s0)]) (st' := [vi s0]) (M1 := M) (pc' := 229) (tb_Machine hγ) [.iload 9] (by decide +kernel) rfl rfl trivial ?_
      refine E_if_ne (off := 24) (tgt := 253) (by decide +kernel) (by decide) (fun b30 => ?_) (fun b30 => ?_)
      · rw [if_pos b30] at h
        refine E_blk (lv' := [some (vr (some (6, this))), none, none, some (vi v3), none, none, some (vi v6), none, some (vi v8), some (vi s0)]) (st' := [vi (54 : Int32), vr (some (5, this))]) (M1 := M) (pc' := 238) (tb_Machine hγ) [.aload_n 0, .getfield 84, .bipush 54] (by decide +kernel) rfl rfl trivial ?_
        refine E_callV (κ' := k_World_asks) (As := [vi (54 : Int32)]) (st := []) mv_World_asks (Or.inl (tbk_mem (j := 8) (k := 185) rfl)) rfl (by decide +kernel) (Nat.le_of_ble_eq_true rfl) (Nat.le_of_ble_eq_true rfl) rfl (by decide) (lk_World_asks hγ this (54 : Int32) _ M h) (fun _ _ => Qi_r) (fun v M31 hp => Qi_k (R := fun st => E γ k_Machine_findField 134 241 [some (vr (some (6, this))), none, none, some (vi v3), none, none, some (vi v6), none, some (vi v8), some (vi s0)] st M31 (Qi Q)) hp (fun r32 h => ?_))
        refine E_if_eq (off := 12) (tgt := 253) (by decide +kernel) (by decide) (fun b33 => ?_) (fun b33 => ?_)
        · rw [if_pos b33] at h
          refine E_blk (lv' := [some (vr (some (6, this))), none, none, some (vi v3), none, none, some (vi v6), none, some (vi v8), some (vi s0)]) (st' := [vi v6]) (M1 := M31) (pc' := 255) (tb_Machine hγ) [.iload 6] (by decide +kernel) rfl rfl trivial ?_
          exact E_iret rfl (by decide +kernel) h
        · rw [if_neg b33] at h
          refine E_blk (lv' := [some (vr (some (6, this))), none, none, some (vi v3), none, none, some (vi v6), none, some (vi v8), some (vi s0)]) (st' := [vi (54 : Int32), vi (14 : Int32), vr (some (6, this))]) (M1 := M31) (pc' := 249) (tb_Machine hγ) [.aload_n 0, .bipush 14, .bipush 54] (by decide +kernel) rfl rfl trivial ?_
          refine E_callV (κ' := k_Machine_thrown) (As := [vi (14 : Int32), vi (54 : Int32)]) (st := []) mv_Machine_thrown (Or.inl (tbk_mem (j := 8) (k := 149) rfl)) rfl (by decide +kernel) (Nat.le_of_ble_eq_true rfl) (Nat.le_of_ble_eq_true rfl) rfl (by decide) (lk_Machine_thrown hγ this (14 : Int32) (54 : Int32) _ M31 h) (fun _ _ => Qi_r) (fun v M34 hp => Qi_k (R := fun st => E γ k_Machine_findField 134 252 [some (vr (some (6, this))), none, none, some (vi v3), none, none, some (vi v6), none, some (vi v8), some (vi s0)] st M34 (Qi Q)) hp (fun r35 h => ?_))
          exact E_iret rfl (by decide +kernel) h
      · rw [if_neg b30] at h
        refine E_blk (lv' := [some (vr (some (6, this))), none, none, some (vi v3), none, none, some (vi v6), none, some (vi v8), some (vi s0)]) (st' := [vi v6]) (M1 := M) (pc' := 255) (tb_Machine hγ) [.iload 6] (by decide +kernel) rfl rfl trivial ?_
        exact E_iret rfl (by decide +kernel) h
set_option maxRecDepth 4096 in
theorem lk_Machine_findField_j213 {γ : Gm} (hγ : Gk γ) (this : Nat) (Q : Int32 → Mem → Prop) (v3 : Int32) (v6 : Int32) (v8 : Int32) (M : Mem) (h : w_Machine_findField_j213 this Q v3 v6 v8 M) : E γ k_Machine_findField 134 213 [some (vr (some (6, this))), none, none, some (vi v3), none, none, some (vi v6), none, some (vi v8), none] [] M (Qi Q) := by
  unfold w_Machine_findField_j213 at h
  refine E_blk (lv' := [some (vr (some (6, this))), none, none, some (vi v3), none, none, some (vi v6), none, some (vi v8), none]) (st' := [vi (0 : Int32)]) (M1 := M) (pc' := 214) (tb_Machine hγ) [.iconst 0] (by decide +kernel) rfl rfl trivial ?_
  refine E_mask [true, false, false, true, false, false, true, false, true, false] rfl ?_
  exact lk_Machine_findField_j214 hγ this Q v3 v6 v8 (0 : Int32) M h
set_option maxRecDepth 4096 in
theorem lk_Machine_findField_j206 {γ : Gm} (hγ : Gk γ) (this : Nat) (Q : Int32 → Mem → Prop) (v3 : Int32) (v6 : Int32) (v8 : Int32) (s0 : Int32) (s1 : Int32) (M : Mem) (h : w_Machine_findField_j206 this Q v3 v6 v8 s0 s1 M) : E γ k_Machine_findField 134 206 [some (vr (some (6, this))), none, none, some (vi v3), none, none, some (vi v6), none, some (vi v8), none] [vi s0, vi s1] M (Qi Q) := by
  unfold w_Machine_findField_j206 at h
  refine E_icmp_ne (off := 7) (tgt := 213) (by decide +kernel) (by decide) (fun b27 => ?_) (fun b27 => ?_)
  · rw [if_pos b27] at h
    refine E_blk (lv' := [some (vr (some (6, this))), none, none, some (vi v3), none, none, some (vi v6), none, some (vi v8), none]) (st' := [vi (1 : Int32)]) (M1 := M) (pc' := 210) (tb_Machine hγ) [.iconst 1] (by decide +kernel) rfl rfl trivial ?_
    refine E_goto (off := 4) (tgt := 214) (by decide +kernel) (by decide) ?_
    refine E_mask [true, false, false, true, false, false, true, false, true, false] rfl ?_
    exact lk_Machine_findField_j214 hγ this Q v3 v6 v8 (1 : Int32) M h
  · rw [if_neg b27] at h
    refine E_mask [true, false, false, true, false, false, true, false, true, false] rfl ?_
    exact lk_Machine_findField_j213 hγ this Q v3 v6 v8 M h
set_option maxRecDepth 4096 in
theorem lk_Machine_findField_j170 {γ : Gm} (hγ : Gk γ) (this : Nat) (Q : Int32 → Mem → Prop) (v2 : Int32) (v3 : Int32) (v4 : Int32) (v6 : Int32) (v7 : Int32) (v8 : Int32) (M : Mem) (h : w_Machine_findField_j170 this Q v2 v3 v4 v6 v7 v8 M) : E γ k_Machine_findField 134 170 [some (vr (some (6, this))), none, some (vi v2), some (vi v3), some (vi v4), none, some (vi v6), some (vi v7), some (vi v8), none] [] M (Qi Q) := by
  unfold w_Machine_findField_j170 at h
  obtain ⟨c23, h⟩ := h
  refine E_blk (lv' := [some (vr (some (6, this))), none, some (vi v2), some (vi v3), some (vi v4), none, some (vi v6), some (vi v7), some (vi v8), none]) (st' := [vi (mI M 55 this v4.toNatClampNeg), vi v7]) (M1 := M) (pc' := 182) (tb_Machine hγ) [.iload 7, .aload_n 0, .getfield 84, .getfield 142, .iload 4, .iaload] (by decide +kernel) rfl rfl ⟨c23, trivial⟩ ?_
  refine E_icmp_ne (off := 31) (tgt := 213) (by decide +kernel) (by decide) (fun b24 => ?_) (fun b24 => ?_)
  · rw [if_pos b24] at h
    obtain ⟨c25, h⟩ := h
    refine E_blk (lv' := [some (vr (some (6, this))), none, some (vi v2), some (vi v3), some (vi v4), none, some (vi v6), some (vi v7), some (vi v8), none]) (st' := [vi v2, vi (mI M 56 this v4.toNatClampNeg)]) (M1 := M) (pc' := 196) (tb_Machine hγ) [.aload_n 0, .getfield 84, .getfield 314, .iload 4, .iaload, .iload_n 2] (by decide +kernel) rfl rfl ⟨c25, trivial⟩ ?_
    refine E_if_eq (off := 8) (tgt := 204) (by decide +kernel) (by decide) (fun b26 => ?_) (fun b26 => ?_)
    · rw [if_pos b26] at h
      refine E_blk (lv' := [some (vr (some (6, this))), none, some (vi v2), some (vi v3), some (vi v4), none, some (vi v6), some (vi v7), some (vi v8), none]) (st' := [vi (79 : Int32), vi (mI M 56 this v4.toNatClampNeg)]) (M1 := M) (pc' := 206) (tb_Machine hγ) [.bipush 79] (by decide +kernel) rfl rfl trivial ?_
      refine E_mask [true, false, false, true, false, false, true, false, true, false] rfl ?_
      exact lk_Machine_findField_j206 hγ this Q v3 v6 v8 (79 : Int32) (mI M 56 this v4.toNatClampNeg) M h
    · rw [if_neg b26] at h
      refine E_blk (lv' := [some (vr (some (6, this))), none, some (vi v2), some (vi v3), some (vi v4), none, some (vi v6), some (vi v7), some (vi v8), none]) (st' := [vi (80 : Int32), vi (mI M 56 this v4.toNatClampNeg)]) (M1 := M) (pc' := 201) (tb_Machine hγ) [.bipush 80] (by decide +kernel) rfl rfl trivial ?_
      refine E_goto (off := 5) (tgt := 206) (by decide +kernel) (by decide) ?_
      refine E_mask [true, false, false, true, false, false, true, false, true, false] rfl ?_
      exact lk_Machine_findField_j206 hγ this Q v3 v6 v8 (80 : Int32) (mI M 56 this v4.toNatClampNeg) M h
  · rw [if_neg b24] at h
    refine E_mask [true, false, false, true, false, false, true, false, true, false] rfl ?_
    exact lk_Machine_findField_j213 hγ this Q v3 v6 v8 M h
set_option maxRecDepth 4096 in
theorem lk_Machine_findField_j161 {γ : Gm} (hγ : Gk γ) (this : Nat) (Q : Int32 → Mem → Prop)  (M : Mem) (h : w_Machine_findField_j161 this Q  M) : E γ k_Machine_findField 134 161 [some (vr (some (6, this))), none, none, none, none, none, none, none, none, none] [] M (Qi Q) := by
  unfold w_Machine_findField_j161 at h
  refine E_blk (lv' := [some (vr (some (6, this))), none, none, none, none, none, none, none, none, none]) (st' := [vi (55 : Int32), vi (15 : Int32), vr (some (6, this))]) (M1 := M) (pc' := 166) (tb_Machine hγ) [.aload_n 0, .bipush 15, .bipush 55] (by decide +kernel) rfl rfl trivial ?_
  refine E_callV (κ' := k_Machine_thrown) (As := [vi (15 : Int32), vi (55 : Int32)]) (st := []) mv_Machine_thrown (Or.inl (tbk_mem (j := 8) (k := 149) rfl)) rfl (by decide +kernel) (Nat.le_of_ble_eq_true rfl) (Nat.le_of_ble_eq_true rfl) rfl (by decide) (lk_Machine_thrown hγ this (15 : Int32) (55 : Int32) _ M h) (fun _ _ => Qi_r) (fun v M36 hp => Qi_k (R := fun st => E γ k_Machine_findField 134 169 [some (vr (some (6, this))), none, none, none, none, none, none, none, none, none] st M36 (Qi Q)) hp (fun r37 h => ?_))
  exact E_iret rfl (by decide +kernel) h
set_option maxRecDepth 4096 in
theorem lk_Machine_findField_j141 {γ : Gm} (hγ : Gk γ) (this : Nat) (Q : Int32 → Mem → Prop) (v2 : Int32) (v3 : Int32) (v4 : Int32) (v6 : Int32) (v7 : Int32) (v8 : Int32) (s0 : Int32) (M : Mem) (h : w_Machine_findField_j141 this Q v2 v3 v4 v6 v7 v8 s0 M) : E γ k_Machine_findField 134 141 [some (vr (some (6, this))), none, some (vi v2), some (vi v3), some (vi v4), none, some (vi v6), some (vi v7), some (vi v8), none] [vi s0] M (Qi Q) := by
  unfold w_Machine_findField_j141 at h
  refine E_blk (lv' := [some (vr (some (6, this))), none, some (vi v2), some (vi v3), some (vi v4), none, some (vi v6), some (vi v7), some (vi v8), none]) (st' := [vi v2, vi s0]) (M1 := M) (pc' := 142) (tb_Machine hγ) [.iload_n 2] (by decide +kernel) rfl rfl trivial ?_
  refine E_icmp_ne (off := 19) (tgt := 161) (by decide +kernel) (by decide) (fun b18 => ?_) (fun b18 => ?_)
  · rw [if_pos b18] at h
    refine E_blk (lv' := [some (vr (some (6, this))), none, some (vi v2), some (vi v3), some (vi v4), none, some (vi v6), some (vi v7), some (vi v8), none]) (st' := [vi v2]) (M1 := M) (pc' := 146) (tb_Machine hγ) [.iload_n 2] (by decide +kernel) rfl rfl trivial ?_
    refine E_if_ne (off := 24) (tgt := 170) (by decide +kernel) (by decide) (fun b19 => ?_) (fun b19 => ?_)
    · rw [if_pos b19] at h
      refine E_blk (lv' := [some (vr (some (6, this))), none, some (vi v2), some (vi v3), some (vi v4), none, some (vi v6), some (vi v7), some (vi v8), none]) (st' := [vi v7, vr (some (5, this))]) (M1 := M) (pc' := 155) (tb_Machine hγ) [.aload_n 0, .getfield 84, .iload 7] (by decide +kernel) rfl rfl trivial ?_
      refine E_callV (κ' := k_World_isFace) (As := [vi v7]) (st := []) mv_World_isFace (Or.inl (tbk_mem (j := 8) (k := 154) rfl)) rfl (by decide +kernel) (Nat.le_of_ble_eq_true rfl) (Nat.le_of_ble_eq_true rfl) rfl (by decide) (lk_World_isFace hγ this v7 _ M h) (fun _ _ => Qi_r) (fun v M20 hp => Qi_k (R := fun st => E γ k_Machine_findField 134 158 [some (vr (some (6, this))), none, some (vi v2), some (vi v3), some (vi v4), none, some (vi v6), some (vi v7), some (vi v8), none] st M20 (Qi Q)) hp (fun r21 h => ?_))
      refine E_if_eq (off := 12) (tgt := 170) (by decide +kernel) (by decide) (fun b22 => ?_) (fun b22 => ?_)
      · rw [if_pos b22] at h
        refine E_mask [true, false, true, true, true, false, true, true, true, false] rfl ?_
        exact lk_Machine_findField_j170 hγ this Q v2 v3 v4 v6 v7 v8 M20 h
      · rw [if_neg b22] at h
        refine E_mask [true, false, false, false, false, false, false, false, false, false] rfl ?_
        exact lk_Machine_findField_j161 hγ this Q  M20 h
    · rw [if_neg b19] at h
      refine E_mask [true, false, true, true, true, false, true, true, true, false] rfl ?_
      exact lk_Machine_findField_j170 hγ this Q v2 v3 v4 v6 v7 v8 M h
  · rw [if_neg b18] at h
    refine E_mask [true, false, false, false, false, false, false, false, false, false] rfl ?_
    exact lk_Machine_findField_j161 hγ this Q  M h
set_option maxRecDepth 4096 in
theorem lk_Machine_findField_j129 {γ : Gm} (hγ : Gk γ) (this : Nat) (Q : Int32 → Mem → Prop) (v2 : Int32) (v3 : Int32) (v4 : Int32) (v6 : Int32) (v7 : Int32) (v8 : Int32) (M : Mem) (h : w_Machine_findField_j129 this Q v2 v3 v4 v6 v7 v8 M) : E γ k_Machine_findField 134 129 [some (vr (some (6, this))), none, some (vi v2), some (vi v3), some (vi v4), none, some (vi v6), some (vi v7), some (vi v8), none] [] M (Qi Q) := by
  unfold w_Machine_findField_j129 at h
  refine E_blk (lv' := [some (vr (some (6, this))), none, some (vi v2), some (vi v3), some (vi v4), none, some (vi v6), some (vi v7), some (vi v8), none]) (st' := [vi (v8 &&& (1 : Int32))]) (M1 := M) (pc' := 133) (tb_Machine hγ) [.iload 8, .iconst 1, .iand] (by decide +kernel) rfl rfl trivial ?_
  refine E_if_eq (off := 7) (tgt := 140) (by decide +kernel) (by decide) (fun b17 => ?_) (fun b17 => ?_)
  · rw [if_pos b17] at h
    refine E_blk (lv' := [some (vr (some (6, this))), none, some (vi v2), some (vi v3), some (vi v4), none, some (vi v6), some (vi v7), some (vi v8), none]) (st' := [vi (0 : Int32)]) (M1 := M) (pc' := 141) (tb_Machine hγ) [.iconst 0] (by decide +kernel) rfl rfl trivial ?_
    refine E_mask [true, false, true, true, true, false, true, true, true, false] rfl ?_
    exact lk_Machine_findField_j141 hγ this Q v2 v3 v4 v6 v7 v8 (0 : Int32) M h
  · rw [if_neg b17] at h
    refine E_blk (lv' := [some (vr (some (6, this))), none, some (vi v2), some (vi v3), some (vi v4), none, some (vi v6), some (vi v7), some (vi v8), none]) (st' := [vi (1 : Int32)]) (M1 := M) (pc' := 137) (tb_Machine hγ) [.iconst 1] (by decide +kernel) rfl rfl trivial ?_
    refine E_goto (off := 4) (tgt := 141) (by decide +kernel) (by decide) ?_
    refine E_mask [true, false, true, true, true, false, true, true, true, false] rfl ?_
    exact lk_Machine_findField_j141 hγ this Q v2 v3 v4 v6 v7 v8 (1 : Int32) M h
set_option maxRecDepth 4096 in
theorem lk_Machine_findField {γ : Gm} (hγ : Gk γ) (this : Nat) (a1 : Int32) (a2 : Int32) (a3 : Int32) (a4 : Int32) (Q : Int32 → Mem → Prop) (M : Mem) (h : w_Machine_findField this a1 a2 a3 a4 Q M) : E γ k_Machine_findField 134 0 [some (vr (some (6, this))), some (vi a1), some (vi a2), some (vi a3), some (vi a4), none, none, none, none, none] [] M (Qi Q) := by
  unfold w_Machine_findField at h
  refine E_blk (lv' := [some (vr (some (6, this))), some (vi a1), some (vi a2), some (vi a3), some (vi a4), none, none, none, none, none]) (st' := [vi a1, vr (some (5, this)), vr (some (6, this))]) (M1 := M) (pc' := 6) (tb_Machine hγ) [.aload_n 0, .aload_n 0, .getfield 84, .iload_n 1] (by decide +kernel) rfl rfl trivial ?_
  refine E_callV (κ' := k_World_refClass) (As := [vi a1]) (st := [vr (some (6, this))]) mv_World_refClass (Or.inl (tbk_mem (j := 8) (k := 139) rfl)) rfl (by decide +kernel) (Nat.le_of_ble_eq_true rfl) (Nat.le_of_ble_eq_true rfl) rfl (by decide) (lk_World_refClass hγ this a1 _ M h) (fun _ _ => Qi_r) (fun v M1 hp => Qi_k (R := fun st => E γ k_Machine_findField 134 9 [some (vr (some (6, this))), some (vi a1), some (vi a2), some (vi a3), some (vi a4), none, none, none, none, none] st M1 (Qi Q)) hp (fun r2 h => ?_))
  refine E_callV (κ' := k_Machine_linkedClass) (As := [vi r2]) (st := []) mv_Machine_linkedClass (Or.inl (tbk_mem (j := 8) (k := 140) rfl)) rfl (by decide +kernel) (Nat.le_of_ble_eq_true rfl) (Nat.le_of_ble_eq_true rfl) rfl (by decide) (lk_Machine_linkedClass hγ this r2 _ M1 h) (fun _ _ => Qi_r) (fun v M3 hp => Qi_k (R := fun st => E γ k_Machine_findField 134 12 [some (vr (some (6, this))), some (vi a1), some (vi a2), some (vi a3), some (vi a4), none, none, none, none, none] st M3 (Qi Q)) hp (fun r4 h => ?_))
  refine E_blk (lv' := [some (vr (some (6, this))), some (vi a1), some (vi a2), some (vi a3), some (vi a4), some (vi r4), none, none, none, none]) (st' := [vi r4]) (M1 := M3) (pc' := 16) (tb_Machine hγ) [.istore 5, .iload 5] (by decide +kernel) rfl rfl trivial ?_
  refine E_if_ge (off := 6) (tgt := 22) (by decide +kernel) (by decide) (fun b5 => ?_) (fun b5 => ?_)
  · rw [if_pos b5] at h
    refine E_blk (lv' := [some (vr (some (6, this))), some (vi a1), some (vi a2), some (vi a3), some (vi a4), some (vi r4), none, none, none, none]) (st' := [vi a1, vr (some (5, this)), vi r4, vr (some (5, this))]) (M1 := M3) (pc' := 33) (tb_Machine hγ) [.aload_n 0, .getfield 84, .iload 5, .aload_n 0, .getfield 84, .iload_n 1] (by decide +kernel) rfl rfl trivial ?_
    refine E_callV (κ' := k_World_refName) (As := [vi a1]) (st := [vi r4, vr (some (5, this))]) mv_World_refName (Or.inl (tbk_mem (j := 8) (k := 155) rfl)) rfl (by decide +kernel) (Nat.le_of_ble_eq_true rfl) (Nat.le_of_ble_eq_true rfl) rfl (by decide) (lk_World_refName hγ this a1 _ M3 h) (fun _ _ => Qi_r) (fun v M6 hp => Qi_k (R := fun st => E γ k_Machine_findField 134 36 [some (vr (some (6, this))), some (vi a1), some (vi a2), some (vi a3), some (vi a4), some (vi r4), none, none, none, none] st M6 (Qi Q)) hp (fun r7 h => ?_))
    refine E_blk (lv' := [some (vr (some (6, this))), some (vi a1), some (vi a2), some (vi a3), some (vi a4), some (vi r4), none, none, none, none]) (st' := [vi a1, vr (some (5, this)), vi r7, vi r4, vr (some (5, this))]) (M1 := M6) (pc' := 41) (tb_Machine hγ) [.aload_n 0, .getfield 84, .iload_n 1] (by decide +kernel) rfl rfl trivial ?_
    refine E_callV (κ' := k_World_refType) (As := [vi a1]) (st := [vi r7, vi r4, vr (some (5, this))]) mv_World_refType (Or.inl (tbk_mem (j := 9) (k := 33) rfl)) rfl (by decide +kernel) (Nat.le_of_ble_eq_true rfl) (Nat.le_of_ble_eq_true rfl) rfl (by decide) (lk_World_refType hγ this a1 _ M6 h) (fun _ _ => Qi_r) (fun v M8 hp => Qi_k (R := fun st => E γ k_Machine_findField 134 44 [some (vr (some (6, this))), some (vi a1), some (vi a2), some (vi a3), some (vi a4), some (vi r4), none, none, none, none] st M8 (Qi Q)) hp (fun r9 h => ?_))
    refine E_callV (κ' := k_World_field) (As := [vi r4, vi r7, vi r9]) (st := []) mv_World_field (Or.inl (tbk_mem (j := 9) (k := 34) rfl)) rfl (by decide +kernel) (Nat.le_of_ble_eq_true rfl) (Nat.le_of_ble_eq_true rfl) rfl (by decide) (lk_World_field hγ this r4 r7 r9 _ M8 h) (fun _ _ => Qi_r) (fun v M10 hp => Qi_k (R := fun st => E γ k_Machine_findField 134 47 [some (vr (some (6, this))), some (vi a1), some (vi a2), some (vi a3), some (vi a4), some (vi r4), none, none, none, none] st M10 (Qi Q)) hp (fun r11 h => ?_))
    refine E_blk (lv' := [some (vr (some (6, this))), some (vi a1), some (vi a2), some (vi a3), some (vi a4), some (vi r4), some (vi r11), none, none, none]) (st' := [vi r11]) (M1 := M10) (pc' := 51) (tb_Machine hγ) [.istore 6, .iload 6] (by decide +kernel) rfl rfl trivial ?_
    refine E_if_ge (off := 12) (tgt := 63) (by decide +kernel) (by decide) (fun b12 => ?_) (fun b12 => ?_)
    · rw [if_pos b12] at h
      refine E_blk (lv' := [some (vr (some (6, this))), some (vi a1), some (vi a2), some (vi a3), some (vi a4), some (vi r4), some (vi r11), none, none, none]) (st' := [vi r11, vr (some (5, this))]) (M1 := M10) (pc' := 69) (tb_Machine hγ) [.aload_n 0, .getfield 84, .iload 6] (by decide +kernel) rfl rfl trivial ?_
      refine E_callV (κ' := k_World_classOfField) (As := [vi r11]) (st := []) mv_World_classOfField (Or.inl (tbk_mem (j := 9) (k := 42) rfl)) rfl (by decide +kernel) (Nat.le_of_ble_eq_true rfl) (Nat.le_of_ble_eq_true rfl) rfl (by decide) (lk_World_classOfField hγ this r11 _ M10 h) (fun _ _ => Qi_r) (fun v M13 hp => Qi_k (R := fun st => E γ k_Machine_findField 134 72 [some (vr (some (6, this))), some (vi a1), some (vi a2), some (vi a3), some (vi a4), some (vi r4), some (vi r11), none, none, none] st M13 (Qi Q)) hp (fun r14 h => ?_))
      obtain ⟨c15, h⟩ := h
      refine E_blk (lv' := [some (vr (some (6, this))), some (vi a1), some (vi a2), some (vi a3), some (vi a4), some (vi r4), some (vi r11), some (vi r14), some (vi (mI M13 51 this r11.toNatClampNeg)), none]) (st' := [vi ((mI M13 51 this r11.toNatClampNeg) &&& (4 : Int32))]) (M1 := M13) (pc' := 90) (tb_Machine hγ) [.istore 7, .aload_n 0, .getfield 84, .getfield 288, .iload 6, .iaload, .istore 8, .iload 8, .iconst 4, .iand] (by decide +kernel) rfl rfl ⟨c15, trivial⟩ ?_
      refine E_if_eq (off := 39) (tgt := 129) (by decide +kernel) (by decide) (fun b16 => ?_) (fun b16 => ?_)
      · rw [if_pos b16] at h
        refine E_mask [true, false, true, true, true, false, true, true, true, false] rfl ?_
        exact lk_Machine_findField_j129 hγ this Q a2 a3 a4 r11 r14 (mI M13 51 this r11.toNatClampNeg) M13 h
      · rw [if_neg b16] at h
        obtain ⟨c38, h⟩ := h
        refine E_blk (lv' := [some (vr (some (6, this))), some (vi a1), some (vi a2), some (vi a3), some (vi a4), some (vi r4), some (vi r11), some (vi r14), some (vi (mI M13 51 this r11.toNatClampNeg)), none]) (st' := [vi (mI M13 55 this a4.toNatClampNeg), vi r14]) (M1 := M13) (pc' := 105) (tb_Machine hγ) [.iload 7, .aload_n 0, .getfield 84, .getfield 142, .iload 4, .iaload] (by decide +kernel) rfl rfl ⟨c38, trivial⟩ ?_
        refine E_icmp_eq (off := 24) (tgt := 129) (by decide +kernel) (by decide) (fun b39 => ?_) (fun b39 => ?_)
        · rw [if_pos b39] at h
          refine E_mask [true, false, true, true, true, false, true, true, true, false] rfl ?_
          exact lk_Machine_findField_j129 hγ this Q a2 a3 a4 r11 r14 (mI M13 51 this r11.toNatClampNeg) M13 h
        · rw [if_neg b39] at h
          refine E_blk (lv' := [some (vr (some (6, this))), some (vi a1), some (vi a2), some (vi a3), some (vi a4), some (vi r4), some (vi r11), some (vi r14), some (vi (mI M13 51 this r11.toNatClampNeg)), none]) (st' := [vi (53 : Int32), vr (some (5, this))]) (M1 := M13) (pc' := 114) (tb_Machine hγ) [.aload_n 0, .getfield 84, .bipush 53] (by decide +kernel) rfl rfl trivial ?_
          refine E_callV (κ' := k_World_asks) (As := [vi (53 : Int32)]) (st := []) mv_World_asks (Or.inl (tbk_mem (j := 8) (k := 185) rfl)) rfl (by decide +kernel) (Nat.le_of_ble_eq_true rfl) (Nat.le_of_ble_eq_true rfl) rfl (by decide) (lk_World_asks hγ this (53 : Int32) _ M13 h) (fun _ _ => Qi_r) (fun v M40 hp => Qi_k (R := fun st => E γ k_Machine_findField 134 117 [some (vr (some (6, this))), some (vi a1), some (vi a2), some (vi a3), some (vi a4), some (vi r4), some (vi r11), some (vi r14), some (vi (mI M13 51 this r11.toNatClampNeg)), none] st M40 (Qi Q)) hp (fun r41 h => ?_))
          refine E_if_eq (off := 12) (tgt := 129) (by decide +kernel) (by decide) (fun b42 => ?_) (fun b42 => ?_)
          · rw [if_pos b42] at h
            refine E_mask [true, false, true, true, true, false, true, true, true, false] rfl ?_
            exact lk_Machine_findField_j129 hγ this Q a2 a3 a4 r11 r14 (mI M13 51 this r11.toNatClampNeg) M40 h
          · rw [if_neg b42] at h
            refine E_blk (lv' := [some (vr (some (6, this))), some (vi a1), some (vi a2), some (vi a3), some (vi a4), some (vi r4), some (vi r11), some (vi r14), some (vi (mI M13 51 this r11.toNatClampNeg)), none]) (st' := [vi (53 : Int32), vi (14 : Int32), vr (some (6, this))]) (M1 := M40) (pc' := 125) (tb_Machine hγ) [.aload_n 0, .bipush 14, .bipush 53] (by decide +kernel) rfl rfl trivial ?_
            refine E_callV (κ' := k_Machine_thrown) (As := [vi (14 : Int32), vi (53 : Int32)]) (st := []) mv_Machine_thrown (Or.inl (tbk_mem (j := 8) (k := 149) rfl)) rfl (by decide +kernel) (Nat.le_of_ble_eq_true rfl) (Nat.le_of_ble_eq_true rfl) rfl (by decide) (lk_Machine_thrown hγ this (14 : Int32) (53 : Int32) _ M40 h) (fun _ _ => Qi_r) (fun v M43 hp => Qi_k (R := fun st => E γ k_Machine_findField 134 128 [some (vr (some (6, this))), some (vi a1), some (vi a2), some (vi a3), some (vi a4), some (vi r4), some (vi r11), some (vi r14), some (vi (mI M13 51 this r11.toNatClampNeg)), none] st M43 (Qi Q)) hp (fun r44 h => ?_))
            exact E_iret rfl (by decide +kernel) h
    · rw [if_neg b12] at h
      refine E_blk (lv' := [some (vr (some (6, this))), some (vi a1), some (vi a2), some (vi a3), some (vi a4), some (vi r4), some (vi r11), none, none, none]) (st' := [vi (51 : Int32), vi (12 : Int32), vr (some (6, this))]) (M1 := M10) (pc' := 59) (tb_Machine hγ) [.aload_n 0, .bipush 12, .bipush 51] (by decide +kernel) rfl rfl trivial ?_
      refine E_callV (κ' := k_Machine_thrown) (As := [vi (12 : Int32), vi (51 : Int32)]) (st := []) mv_Machine_thrown (Or.inl (tbk_mem (j := 8) (k := 149) rfl)) rfl (by decide +kernel) (Nat.le_of_ble_eq_true rfl) (Nat.le_of_ble_eq_true rfl) rfl (by decide) (lk_Machine_thrown hγ this (12 : Int32) (51 : Int32) _ M10 h) (fun _ _ => Qi_r) (fun v M45 hp => Qi_k (R := fun st => E γ k_Machine_findField 134 62 [some (vr (some (6, this))), some (vi a1), some (vi a2), some (vi a3), some (vi a4), some (vi r4), some (vi r11), none, none, none] st M45 (Qi Q)) hp (fun r46 h => ?_))
      exact E_iret rfl (by decide +kernel) h
  · rw [if_neg b5] at h
    refine E_blk (lv' := [some (vr (some (6, this))), some (vi a1), some (vi a2), some (vi a3), some (vi a4), some (vi r4), none, none, none, none]) (st' := [vi r4]) (M1 := M3) (pc' := 21) (tb_Machine hγ) [.iload 5] (by decide +kernel) rfl rfl trivial ?_
    exact E_iret rfl (by decide +kernel) h
def w_Machine_finds_j33 (this : Nat) (Q : Int32 → Mem → Prop) (v4 : Int32) (M : Mem) : Prop :=
  w_Machine_findClass this v4 (fun r5 M4 => Q r5 M4) M
def w_Machine_finds_j143 (this : Nat) (Q : Int32 → Mem → Prop) (v1 : Int32) (s0 : Int32) (s1 : Int32) (s2 : Int32) (M : Mem) : Prop :=
  w_Machine_findField this s2 s1 s0 v1 (fun r29 M28 => Q r29 M28) M
def w_Machine_finds_j138 (this : Nat) (Q : Int32 → Mem → Prop) (v1 : Int32) (s0 : Int32) (s1 : Int32) (M : Mem) : Prop :=
  w_Machine_finds_j143 this Q v1 (1 : Int32) s0 s1 M
def w_Machine_finds_j126 (this : Nat) (Q : Int32 → Mem → Prop) (v1 : Int32) (v3 : Int32) (s0 : Int32) (s1 : Int32) (M : Mem) : Prop :=
  if v3 = (47 : Int32) then (w_Machine_finds_j138 this Q v1 s0 s1 M) else (if v3 = (49 : Int32) then (w_Machine_finds_j138 this Q v1 s0 s1 M) else (w_Machine_finds_j143 this Q v1 (0 : Int32) s0 s1 M))
def w_Machine_finds (this : Nat) (a1 : Int32) (a2 : Int32) (Q : Int32 → Mem → Prop) (M : Mem) : Prop :=
  vp_in a2 (mL M 66 this) ∧ vp_in a2 (mL M 67 this) ∧ if (mI M 66 this a2.toNatClampNeg) = (54 : Int32) then (w_Machine_finds_j33 this Q (mI M 67 this a2.toNatClampNeg) M) else (if (mI M 66 this a2.toNatClampNeg) = (55 : Int32) then (w_Machine_finds_j33 this Q (mI M 67 this a2.toNatClampNeg) M) else (if (mI M 66 this a2.toNatClampNeg) = (41 : Int32) then (w_Machine_linkedClass this (mI M 67 this a2.toNatClampNeg) (fun r9 M8 => if r9 < 0 then (Q r9 M8) else (vp_in r9 (mL M8 40 this) ∧ if ((mI M8 40 this r9.toNatClampNeg) &&& (6 : Int32)) = 0 then (Q r9 M8) else (w_World_asks this (57 : Int32) (fun r14 M13 => if r14 = 0 then (Q r9 M13) else (w_Machine_thrown this (19 : Int32) (57 : Int32) (fun r17 M16 => Q r17 M16) M13)) M8))) M) else (w_Works_isIn (mI M 66 this a2.toNatClampNeg) (46 : Int32) (49 : Int32) (fun r19 M18 => if r19 = 0 then (w_Works_isIn (mI M 66 this a2.toNatClampNeg) (50 : Int32) (53 : Int32) (fun r22 M21 => if r22 = 0 then (Q (0 : Int32) M21) else (w_Machine_findMethod this (mI M 67 this a2.toNatClampNeg) (mI M 66 this a2.toNatClampNeg) a1 (fun r25 M24 => Q r25 M24) M21)) M18) else (if (mI M 66 this a2.toNatClampNeg) < (48 : Int32) then (w_Machine_finds_j126 this Q a1 (mI M 66 this a2.toNatClampNeg) (0 : Int32) (mI M 67 this a2.toNatClampNeg) M18) else (w_Machine_finds_j126 this Q a1 (mI M 66 this a2.toNatClampNeg) (1 : Int32) (mI M 67 this a2.toNatClampNeg) M18))) M)))
set_option maxRecDepth 4096 in
theorem lk_Machine_finds_j33 {γ : Gm} (hγ : Gk γ) (this : Nat) (Q : Int32 → Mem → Prop) (v4 : Int32) (M : Mem) (h : w_Machine_finds_j33 this Q v4 M) : E γ k_Machine_finds 135 33 [some (vr (some (6, this))), none, none, none, some (vi v4), none] [] M (Qi Q) := by
  unfold w_Machine_finds_j33 at h
  refine E_blk (lv' := [some (vr (some (6, this))), none, none, none, some (vi v4), none]) (st' := [vi v4, vr (some (6, this))]) (M1 := M) (pc' := 36) (tb_Machine hγ) [.aload_n 0, .iload 4] (by decide +kernel) rfl rfl trivial ?_
  refine E_callV (κ' := k_Machine_findClass) (As := [vi v4]) (st := []) mv_Machine_findClass (Or.inl (tbk_mem (j := 8) (k := 144) rfl)) rfl (by decide +kernel) (Nat.le_of_ble_eq_true rfl) (Nat.le_of_ble_eq_true rfl) rfl (by decide) (lk_Machine_findClass hγ this v4 _ M h) (fun _ _ => Qi_r) (fun v M4 hp => Qi_k (R := fun st => E γ k_Machine_finds 135 39 [some (vr (some (6, this))), none, none, none, some (vi v4), none] st M4 (Qi Q)) hp (fun r5 h => ?_))
  exact E_iret rfl (by decide +kernel) h
set_option maxRecDepth 4096 in
theorem lk_Machine_finds_j143 {γ : Gm} (hγ : Gk γ) (this : Nat) (Q : Int32 → Mem → Prop) (v1 : Int32) (s0 : Int32) (s1 : Int32) (s2 : Int32) (M : Mem) (h : w_Machine_finds_j143 this Q v1 s0 s1 s2 M) : E γ k_Machine_finds 135 143 [none, some (vi v1), none, none, none, none] [vi s0, vi s1, vi s2, vr (some (6, this))] M (Qi Q) := by
  unfold w_Machine_finds_j143 at h
  refine E_blk (lv' := [none, some (vi v1), none, none, none, none]) (st' := [vi v1, vi s0, vi s1, vi s2, vr (some (6, this))]) (M1 := M) (pc' := 144) (tb_Machine hγ) [.iload_n 1] (by decide +kernel) rfl rfl trivial ?_
  refine E_callV (κ' := k_Machine_findField) (As := [vi s2, vi s1, vi s0, vi v1]) (st := []) mv_Machine_findField (Or.inl (tbk_mem (j := 9) (k := 29) rfl)) rfl (by decide +kernel) (Nat.le_of_ble_eq_true rfl) (Nat.le_of_ble_eq_true rfl) rfl (by decide) (lk_Machine_findField hγ this s2 s1 s0 v1 _ M h) (fun _ _ => Qi_r) (fun v M28 hp => Qi_k (R := fun st => E γ k_Machine_finds 135 147 [none, some (vi v1), none, none, none, none] st M28 (Qi Q)) hp (fun r29 h => ?_))
  exact E_iret rfl (by decide +kernel) h
set_option maxRecDepth 4096 in
theorem lk_Machine_finds_j138 {γ : Gm} (hγ : Gk γ) (this : Nat) (Q : Int32 → Mem → Prop) (v1 : Int32) (s0 : Int32) (s1 : Int32) (M : Mem) (h : w_Machine_finds_j138 this Q v1 s0 s1 M) : E γ k_Machine_finds 135 138 [none, some (vi v1), none, none, none, none] [vi s0, vi s1, vr (some (6, this))] M (Qi Q) := by
  unfold w_Machine_finds_j138 at h
  refine E_blk (lv' := [none, some (vi v1), none, none, none, none]) (st' := [vi (1 : Int32), vi s0, vi s1, vr (some (6, this))]) (M1 := M) (pc' := 139) (tb_Machine hγ) [.iconst 1] (by decide +kernel) rfl rfl trivial ?_
  refine E_goto (off := 4) (tgt := 143) (by decide +kernel) (by decide) ?_
  refine E_mask [false, true, false, false, false, false] rfl ?_
  exact lk_Machine_finds_j143 hγ this Q v1 (1 : Int32) s0 s1 M h
set_option maxRecDepth 4096 in
theorem lk_Machine_finds_j126 {γ : Gm} (hγ : Gk γ) (this : Nat) (Q : Int32 → Mem → Prop) (v1 : Int32) (v3 : Int32) (s0 : Int32) (s1 : Int32) (M : Mem) (h : w_Machine_finds_j126 this Q v1 v3 s0 s1 M) : E γ k_Machine_finds 135 126 [none, some (vi v1), none, some (vi v3), none, none] [vi s0, vi s1, vr (some (6, this))] M (Qi Q) := by
  unfold w_Machine_finds_j126 at h
  refine E_blk (lv' := [none, some (vi v1), none, some (vi v3), none, none]) (st' := [vi (47 : Int32), vi v3, vi s0, vi s1, vr (some (6, this))]) (M1 := M) (pc' := 129) (tb_Machine hγ) [.iload_n 3, .bipush 47] (by decide +kernel) rfl rfl trivial ?_
  refine E_icmp_eq (off := 9) (tgt := 138) (by decide +kernel) (by decide) (fun b27 => ?_) (fun b27 => ?_)
  · rw [if_pos b27] at h
    refine E_mask [false, true, false, false, false, false] rfl ?_
    exact lk_Machine_finds_j138 hγ this Q v1 s0 s1 M h
  · rw [if_neg b27] at h
    refine E_blk (lv' := [none, some (vi v1), none, some (vi v3), none, none]) (st' := [vi (49 : Int32), vi v3, vi s0, vi s1, vr (some (6, this))]) (M1 := M) (pc' := 135) (tb_Machine hγ) [.iload_n 3, .bipush 49] (by decide +kernel) rfl rfl trivial ?_
    refine E_icmp_ne (off := 7) (tgt := 142) (by decide +kernel) (by decide) (fun b30 => ?_) (fun b30 => ?_)
    · rw [if_pos b30] at h
      refine E_mask [false, true, false, false, false, false] rfl ?_
      exact lk_Machine_finds_j138 hγ this Q v1 s0 s1 M h
    · rw [if_neg b30] at h
      refine E_blk (lv' := [none, some (vi v1), none, some (vi v3), none, none]) (st' := [vi (0 : Int32), vi s0, vi s1, vr (some (6, this))]) (M1 := M) (pc' := 143) (tb_Machine hγ) [.iconst 0] (by decide +kernel) rfl rfl trivial ?_
      refine E_mask [false, true, false, false, false, false] rfl ?_
      exact lk_Machine_finds_j143 hγ this Q v1 (0 : Int32) s0 s1 M h
set_option maxRecDepth 4096 in
theorem lk_Machine_finds {γ : Gm} (hγ : Gk γ) (this : Nat) (a1 : Int32) (a2 : Int32) (Q : Int32 → Mem → Prop) (M : Mem) (h : w_Machine_finds this a1 a2 Q M) : E γ k_Machine_finds 135 0 [some (vr (some (6, this))), some (vi a1), some (vi a2), none, none, none] [] M (Qi Q) := by
  unfold w_Machine_finds at h
  obtain ⟨c1, c2, h⟩ := h
  refine E_blk (lv' := [some (vr (some (6, this))), some (vi a1), some (vi a2), some (vi (mI M 66 this a2.toNatClampNeg)), some (vi (mI M 67 this a2.toNatClampNeg)), none]) (st' := [vi (54 : Int32), vi (mI M 66 this a2.toNatClampNeg)]) (M1 := M) (pc' := 24) (tb_Machine hγ) [.aload_n 0, .getfield 84, .getfield 389, .iload_n 2, .iaload, .istore_n 3, .aload_n 0, .getfield 84, .getfield 392, .iload_n 2, .iaload, .istore 4, .iload_n 3, .bipush 54] (by decide +kernel) rfl rfl ⟨c1, c2, trivial⟩ ?_
  refine E_icmp_eq (off := 9) (tgt := 33) (by decide +kernel) (by decide) (fun b3 => ?_) (fun b3 => ?_)
  · rw [if_pos b3] at h
    refine E_mask [true, false, false, false, true, false] rfl ?_
    exact lk_Machine_finds_j33 hγ this Q (mI M 67 this a2.toNatClampNeg) M h
  · rw [if_neg b3] at h
    refine E_blk (lv' := [some (vr (some (6, this))), some (vi a1), some (vi a2), some (vi (mI M 66 this a2.toNatClampNeg)), some (vi (mI M 67 this a2.toNatClampNeg)), none]) (st' := [vi (55 : Int32), vi (mI M 66 this a2.toNatClampNeg)]) (M1 := M) (pc' := 30) (tb_Machine hγ) [.iload_n 3, .bipush 55] (by decide +kernel) rfl rfl trivial ?_
    refine E_icmp_ne (off := 10) (tgt := 40) (by decide +kernel) (by decide) (fun b6 => ?_) (fun b6 => ?_)
    · rw [if_pos b6] at h
      refine E_mask [true, false, false, false, true, false] rfl ?_
      exact lk_Machine_finds_j33 hγ this Q (mI M 67 this a2.toNatClampNeg) M h
    · rw [if_neg b6] at h
      refine E_blk (lv' := [some (vr (some (6, this))), some (vi a1), some (vi a2), some (vi (mI M 66 this a2.toNatClampNeg)), some (vi (mI M 67 this a2.toNatClampNeg)), none]) (st' := [vi (41 : Int32), vi (mI M 66 this a2.toNatClampNeg)]) (M1 := M) (pc' := 43) (tb_Machine hγ) [.iload_n 3, .bipush 41] (by decide +kernel) rfl rfl trivial ?_
      refine E_icmp_ne (off := 58) (tgt := 101) (by decide +kernel) (by decide) (fun b7 => ?_) (fun b7 => ?_)
      · rw [if_pos b7] at h
        refine E_blk (lv' := [some (vr (some (6, this))), some (vi a1), some (vi a2), some (vi (mI M 66 this a2.toNatClampNeg)), some (vi (mI M 67 this a2.toNatClampNeg)), none]) (st' := [vi (mI M 67 this a2.toNatClampNeg), vr (some (6, this))]) (M1 := M) (pc' := 49) (tb_Machine hγ) [.aload_n 0, .iload 4] (by decide +kernel) rfl rfl trivial ?_
        refine E_callV (κ' := k_Machine_linkedClass) (As := [vi (mI M 67 this a2.toNatClampNeg)]) (st := []) mv_Machine_linkedClass (Or.inl (tbk_mem (j := 8) (k := 140) rfl)) rfl (by decide +kernel) (Nat.le_of_ble_eq_true rfl) (Nat.le_of_ble_eq_true rfl) rfl (by decide) (lk_Machine_linkedClass hγ this (mI M 67 this a2.toNatClampNeg) _ M h) (fun _ _ => Qi_r) (fun v M8 hp => Qi_k (R := fun st => E γ k_Machine_finds 135 52 [some (vr (some (6, this))), some (vi a1), some (vi a2), some (vi (mI M 66 this a2.toNatClampNeg)), some (vi (mI M 67 this a2.toNatClampNeg)), none] st M8 (Qi Q)) hp (fun r9 h => ?_))
        refine E_blk (lv' := [some (vr (some (6, this))), some (vi a1), some (vi a2), some (vi (mI M 66 this a2.toNatClampNeg)), some (vi (mI M 67 this a2.toNatClampNeg)), some (vi r9)]) (st' := [vi r9]) (M1 := M8) (pc' := 56) (tb_Machine hγ) [.istore 5, .iload 5] (by decide +kernel) rfl rfl trivial ?_
        refine E_if_lt (off := 42) (tgt := 98) (by decide +kernel) (by decide) (fun b10 => ?_) (fun b10 => ?_)
        · rw [if_pos b10] at h
          refine E_blk (lv' := [some (vr (some (6, this))), some (vi a1), some (vi a2), some (vi (mI M 66 this a2.toNatClampNeg)), some (vi (mI M 67 this a2.toNatClampNeg)), some (vi r9)]) (st' := [vi r9]) (M1 := M8) (pc' := 100) (tb_Machine hγ) [.iload 5] (by decide +kernel) rfl rfl trivial ?_
          exact E_iret rfl (by decide +kernel) h
        · rw [if_neg b10] at h
          obtain ⟨c11, h⟩ := h
          refine E_blk (lv' := [some (vr (some (6, this))), some (vi a1), some (vi a2), some (vi (mI M 66 this a2.toNatClampNeg)), some (vi (mI M 67 this a2.toNatClampNeg)), some (vi r9)]) (st' := [vi ((mI M8 40 this r9.toNatClampNeg) &&& (6 : Int32))]) (M1 := M8) (pc' := 72) (tb_Machine hγ) [.aload_n 0, .getfield 84, .getfield 395, .iload 5, .iaload, .bipush 6, .iand] (by decide +kernel) rfl rfl ⟨c11, trivial⟩ ?_
          refine E_if_eq (off := 26) (tgt := 98) (by decide +kernel) (by decide) (fun b12 => ?_) (fun b12 => ?_)
          · rw [if_pos b12] at h
            refine E_blk (lv' := [some (vr (some (6, this))), some (vi a1), some (vi a2), some (vi (mI M 66 this a2.toNatClampNeg)), some (vi (mI M 67 this a2.toNatClampNeg)), some (vi r9)]) (st' := [vi r9]) (M1 := M8) (pc' := 100) (tb_Machine hγ) [.iload 5] (by decide +kernel) rfl rfl trivial ?_
            exact E_iret rfl (by decide +kernel) h
          · rw [if_neg b12] at h
            refine E_blk (lv' := [some (vr (some (6, this))), some (vi a1), some (vi a2), some (vi (mI M 66 this a2.toNatClampNeg)), some (vi (mI M 67 this a2.toNatClampNeg)), some (vi r9)]) (st' := [vi (57 : Int32), vr (some (5, this))]) (M1 := M8) (pc' := 81) (tb_Machine hγ) [.aload_n 0, .getfield 84, .bipush 57] (by decide +kernel) rfl rfl trivial ?_
            refine E_callV (κ' := k_World_asks) (As := [vi (57 : Int32)]) (st := []) mv_World_asks (Or.inl (tbk_mem (j := 8) (k := 185) rfl)) rfl (by decide +kernel) (Nat.le_of_ble_eq_true rfl) (Nat.le_of_ble_eq_true rfl) rfl (by decide) (lk_World_asks hγ this (57 : Int32) _ M8 h) (fun _ _ => Qi_r) (fun v M13 hp => Qi_k (R := fun st => E γ k_Machine_finds 135 84 [some (vr (some (6, this))), some (vi a1), some (vi a2), some (vi (mI M 66 this a2.toNatClampNeg)), some (vi (mI M 67 this a2.toNatClampNeg)), some (vi r9)] st M13 (Qi Q)) hp (fun r14 h => ?_))
            refine E_if_eq (off := 14) (tgt := 98) (by decide +kernel) (by decide) (fun b15 => ?_) (fun b15 => ?_)
            · rw [if_pos b15] at h
              refine E_blk (lv' := [some (vr (some (6, this))), some (vi a1), some (vi a2), some (vi (mI M 66 this a2.toNatClampNeg)), some (vi (mI M 67 this a2.toNatClampNeg)), some (vi r9)]) (st' := [vi r9]) (M1 := M13) (pc' := 100) (tb_Machine hγ) [.iload 5] (by decide +kernel) rfl rfl trivial ?_
              exact E_iret rfl (by decide +kernel) h
            · rw [if_neg b15] at h
              refine E_blk (lv' := [some (vr (some (6, this))), some (vi a1), some (vi a2), some (vi (mI M 66 this a2.toNatClampNeg)), some (vi (mI M 67 this a2.toNatClampNeg)), some (vi r9)]) (st' := [vi (57 : Int32), vi (19 : Int32), vr (some (6, this))]) (M1 := M13) (pc' := 92) (tb_Machine hγ) [.aload_n 0, .bipush 19, .bipush 57] (by decide +kernel) rfl rfl trivial ?_
              refine E_callV (κ' := k_Machine_thrown) (As := [vi (19 : Int32), vi (57 : Int32)]) (st := []) mv_Machine_thrown (Or.inl (tbk_mem (j := 8) (k := 149) rfl)) rfl (by decide +kernel) (Nat.le_of_ble_eq_true rfl) (Nat.le_of_ble_eq_true rfl) rfl (by decide) (lk_Machine_thrown hγ this (19 : Int32) (57 : Int32) _ M13 h) (fun _ _ => Qi_r) (fun v M16 hp => Qi_k (R := fun st => E γ k_Machine_finds 135 95 [some (vr (some (6, this))), some (vi a1), some (vi a2), some (vi (mI M 66 this a2.toNatClampNeg)), some (vi (mI M 67 this a2.toNatClampNeg)), some (vi r9)] st M16 (Qi Q)) hp (fun r17 h => ?_))
              refine E_goto (off := 5) (tgt := 100) (by decide +kernel) (by decide) ?_
              exact E_iret rfl (by decide +kernel) h
      · rw [if_neg b7] at h
        refine E_blk (lv' := [some (vr (some (6, this))), some (vi a1), some (vi a2), some (vi (mI M 66 this a2.toNatClampNeg)), some (vi (mI M 67 this a2.toNatClampNeg)), none]) (st' := [vi (49 : Int32), vi (46 : Int32), vi (mI M 66 this a2.toNatClampNeg)]) (M1 := M) (pc' := 106) (tb_Machine hγ) [.iload_n 3, .bipush 46, .bipush 49] (by decide +kernel) rfl rfl trivial ?_
        refine E_callS (κ' := k_Works_isIn) (As := [vi (mI M 66 this a2.toNatClampNeg), vi (46 : Int32), vi (49 : Int32)]) (st := []) ms_Works_isIn (Or.inr ⟨"ClassWorks", (tbk_mem (j := 9) (k := 28) rfl)⟩) rfl (by decide +kernel) (Nat.le_of_ble_eq_true rfl) (Nat.le_of_ble_eq_true rfl) rfl (by decide) (lk_Works_isIn hγ (mI M 66 this a2.toNatClampNeg) (46 : Int32) (49 : Int32) _ M h) (fun _ _ => Qi_r) (fun v M18 hp => Qi_k (R := fun st => E γ k_Machine_finds 135 109 [some (vr (some (6, this))), some (vi a1), some (vi a2), some (vi (mI M 66 this a2.toNatClampNeg)), some (vi (mI M 67 this a2.toNatClampNeg)), none] st M18 (Qi Q)) hp (fun r19 h => ?_))
        refine E_if_eq (off := 39) (tgt := 148) (by decide +kernel) (by decide) (fun b20 => ?_) (fun b20 => ?_)
        · rw [if_pos b20] at h
          refine E_blk (lv' := [some (vr (some (6, this))), some (vi a1), some (vi a2), some (vi (mI M 66 this a2.toNatClampNeg)), some (vi (mI M 67 this a2.toNatClampNeg)), none]) (st' := [vi (53 : Int32), vi (50 : Int32), vi (mI M 66 this a2.toNatClampNeg)]) (M1 := M18) (pc' := 153) (tb_Machine hγ) [.iload_n 3, .bipush 50, .bipush 53] (by decide +kernel) rfl rfl trivial ?_
          refine E_callS (κ' := k_Works_isIn) (As := [vi (mI M 66 this a2.toNatClampNeg), vi (50 : Int32), vi (53 : Int32)]) (st := []) ms_Works_isIn (Or.inr ⟨"ClassWorks", (tbk_mem (j := 9) (k := 28) rfl)⟩) rfl (by decide +kernel) (Nat.le_of_ble_eq_true rfl) (Nat.le_of_ble_eq_true rfl) rfl (by decide) (lk_Works_isIn hγ (mI M 66 this a2.toNatClampNeg) (50 : Int32) (53 : Int32) _ M18 h) (fun _ _ => Qi_r) (fun v M21 hp => Qi_k (R := fun st => E γ k_Machine_finds 135 156 [some (vr (some (6, this))), some (vi a1), some (vi a2), some (vi (mI M 66 this a2.toNatClampNeg)), some (vi (mI M 67 this a2.toNatClampNeg)), none] st M21 (Qi Q)) hp (fun r22 h => ?_))
          refine E_if_eq (off := 14) (tgt := 170) (by decide +kernel) (by decide) (fun b23 => ?_) (fun b23 => ?_)
          · rw [if_pos b23] at h
            refine E_blk (lv' := [some (vr (some (6, this))), some (vi a1), some (vi a2), some (vi (mI M 66 this a2.toNatClampNeg)), some (vi (mI M 67 this a2.toNatClampNeg)), none]) (st' := [vi (0 : Int32)]) (M1 := M21) (pc' := 171) (tb_Machine hγ) [.iconst 0] (by decide +kernel) rfl rfl trivial ?_
            exact E_iret rfl (by decide +kernel) h
          · rw [if_neg b23] at h
            refine E_blk (lv' := [some (vr (some (6, this))), some (vi a1), some (vi a2), some (vi (mI M 66 this a2.toNatClampNeg)), some (vi (mI M 67 this a2.toNatClampNeg)), none]) (st' := [vi a1, vi (mI M 66 this a2.toNatClampNeg), vi (mI M 67 this a2.toNatClampNeg), vr (some (6, this))]) (M1 := M21) (pc' := 164) (tb_Machine hγ) [.aload_n 0, .iload 4, .iload_n 3, .iload_n 1] (by decide +kernel) rfl rfl trivial ?_
            refine E_callV (κ' := k_Machine_findMethod) (As := [vi (mI M 67 this a2.toNatClampNeg), vi (mI M 66 this a2.toNatClampNeg), vi a1]) (st := []) mv_Machine_findMethod (Or.inl (tbk_mem (j := 8) (k := 135) rfl)) rfl (by decide +kernel) (Nat.le_of_ble_eq_true rfl) (Nat.le_of_ble_eq_true rfl) rfl (by decide) (lk_Machine_findMethod hγ this (mI M 67 this a2.toNatClampNeg) (mI M 66 this a2.toNatClampNeg) a1 _ M21 h) (fun _ _ => Qi_r) (fun v M24 hp => Qi_k (R := fun st => E γ k_Machine_finds 135 167 [some (vr (some (6, this))), some (vi a1), some (vi a2), some (vi (mI M 66 this a2.toNatClampNeg)), some (vi (mI M 67 this a2.toNatClampNeg)), none] st M24 (Qi Q)) hp (fun r25 h => ?_))
            refine E_goto (off := 4) (tgt := 171) (by decide +kernel) (by decide) ?_
            exact E_iret rfl (by decide +kernel) h
        · rw [if_neg b20] at h
          refine E_blk (lv' := [some (vr (some (6, this))), some (vi a1), some (vi a2), some (vi (mI M 66 this a2.toNatClampNeg)), some (vi (mI M 67 this a2.toNatClampNeg)), none]) (st' := [vi (48 : Int32), vi (mI M 66 this a2.toNatClampNeg), vi (mI M 67 this a2.toNatClampNeg), vr (some (6, this))]) (M1 := M18) (pc' := 118) (tb_Machine hγ) [.aload_n 0, .iload 4, .iload_n 3, .bipush 48] (by decide +kernel) rfl rfl trivial ?_
          refine E_icmp_lt (off := 7) (tgt := 125) (by decide +kernel) (by decide) (fun b26 => ?_) (fun b26 => ?_)
          · rw [if_pos b26] at h
            refine E_blk (lv' := [some (vr (some (6, this))), some (vi a1), some (vi a2), some (vi (mI M 66 this a2.toNatClampNeg)), some (vi (mI M 67 this a2.toNatClampNeg)), none]) (st' := [vi (0 : Int32), vi (mI M 67 this a2.toNatClampNeg), vr (some (6, this))]) (M1 := M18) (pc' := 126) (tb_Machine hγ) [.iconst 0] (by decide +kernel) rfl rfl trivial ?_
            refine E_mask [false, true, false, true, false, false] rfl ?_
            exact lk_Machine_finds_j126 hγ this Q a1 (mI M 66 this a2.toNatClampNeg) (0 : Int32) (mI M 67 this a2.toNatClampNeg) M18 h
          · rw [if_neg b26] at h
            refine E_blk (lv' := [some (vr (some (6, this))), some (vi a1), some (vi a2), some (vi (mI M 66 this a2.toNatClampNeg)), some (vi (mI M 67 this a2.toNatClampNeg)), none]) (st' := [vi (1 : Int32), vi (mI M 67 this a2.toNatClampNeg), vr (some (6, this))]) (M1 := M18) (pc' := 122) (tb_Machine hγ) [.iconst 1] (by decide +kernel) rfl rfl trivial ?_
            refine E_goto (off := 4) (tgt := 126) (by decide +kernel) (by decide) ?_
            refine E_mask [false, true, false, true, false, false] rfl ?_
            exact lk_Machine_finds_j126 hγ this Q a1 (mI M 66 this a2.toNatClampNeg) (1 : Int32) (mI M 67 this a2.toNatClampNeg) M18 h
def w_Machine_number (this : Nat) (a1 : Int32) (Q : Int32 → Mem → Prop) (M : Mem) : Prop :=
  ∃ i1, (mR M 6 this 2) = some (7, i1) ∧ vp_in (((((mI M 6 this 33) + (20 : Int32)) + (mI M 6 this 34)) - (1 : Int32)) - a1) (mL M 94 i1) ∧ Q (mI M 94 i1 (((((mI M 6 this 33) + (20 : Int32)) + (mI M 6 this 34)) - (1 : Int32)) - a1).toNatClampNeg) M
set_option maxRecDepth 4096 in
theorem lk_Machine_number {γ : Gm} (hγ : Gk γ) (this : Nat) (a1 : Int32) (Q : Int32 → Mem → Prop) (M : Mem) (h : w_Machine_number this a1 Q M) : E γ k_Machine_number 0 0 [some (vr (some (6, this))), some (vi a1)] [] M (Qi Q) := by
  unfold w_Machine_number at h
  refine E_blk (lv' := [some (vr (some (6, this))), some (vi a1)]) (st' := [vr (mR M 6 this 2)]) (M1 := M) (pc' := 4) (tb_Machine hγ) [.aload_n 0, .getfield 24] (by decide +kernel) rfl rfl trivial ?_
  obtain ⟨i1, ei1, h⟩ := h
  rw [ei1]
  obtain ⟨c2, h⟩ := h
  refine E_blk (lv' := [some (vr (some (6, this))), some (vi a1)]) (st' := [vi (mI M 94 i1 (((((mI M 6 this 33) + (20 : Int32)) + (mI M 6 this 34)) - (1 : Int32)) - a1).toNatClampNeg)]) (M1 := M) (pc' := 24) (tb_Machine hγ) [.getfield 218, .aload_n 0, .getfield 402, .bipush 20, .iadd, .aload_n 0, .getfield 405, .iadd, .iconst 1, .isub, .iload_n 1, .isub, .iaload] (by decide +kernel) rfl rfl ⟨c2, trivial⟩ ?_
  exact E_iret rfl (by decide +kernel) h
def w_Machine_step (this : Nat) (a1 : Int32) (Q : Mem → Prop) (M : Mem) : Prop :=
  ∃ i1, (mR M 6 this 2) = some (7, i1) ∧ vp_in a1 (mL (sI M 7 i1 12 ((mI M 7 i1 12) + (1 : Int32))) 88 this) ∧ vp_in a1 (mL (sI M 7 i1 12 ((mI M 7 i1 12) + (1 : Int32))) 88 this) ∧ ∃ M4, M4 = (sI (sI M 7 i1 12 ((mI M 7 i1 12) + (1 : Int32))) 88 this a1.toNatClampNeg ((mI (sI M 7 i1 12 ((mI M 7 i1 12) + (1 : Int32))) 88 this a1.toNatClampNeg) + (1 : Int32))) ∧ if (mI M4 6 this 35) = 0 then (Q (sI M4 10 0 8 ((mI M4 10 0 8) - (1 : Int32)))) else (Q M4)
set_option maxRecDepth 4096 in
theorem lk_Machine_step {γ : Gm} (hγ : Gk γ) (this : Nat) (a1 : Int32) (Q : Mem → Prop) (M : Mem) (h : w_Machine_step this a1 Q M) : E γ k_Machine_step 0 0 [some (vr (some (6, this))), some (vi a1)] [] M (Qv Q) := by
  unfold w_Machine_step at h
  refine E_blk (lv' := [some (vr (some (6, this))), some (vi a1)]) (st' := [vr (mR M 6 this 2)]) (M1 := M) (pc' := 4) (tb_Machine hγ) [.aload_n 0, .getfield 24] (by decide +kernel) rfl rfl trivial ?_
  obtain ⟨i1, ei1, h⟩ := h
  rw [ei1]
  obtain ⟨c2, c3, h⟩ := h
  refine E_blk (lv' := [some (vr (some (6, this))), some (vi a1)]) (st' := []) (M1 := (sI (sI M 7 i1 12 ((mI M 7 i1 12) + (1 : Int32))) 88 this a1.toNatClampNeg ((mI (sI M 7 i1 12 ((mI M 7 i1 12) + (1 : Int32))) 88 this a1.toNatClampNeg) + (1 : Int32)))) (pc' := 23) (tb_Machine hγ) [.dup, .getfield 139, .iconst 1, .iadd, .putfield 139, .aload_n 0, .getfield 81, .iload_n 1, .dup2, .iaload, .iconst 1, .iadd, .iastore] (by decide +kernel) rfl rfl ⟨c2, c3, trivial⟩ ?_
  obtain ⟨M4, eM4, h⟩ := h
  rw [← eM4]
  refine E_blk (lv' := [some (vr (some (6, this))), some (vi a1)]) (st' := [vi (mI M4 6 this 35)]) (M1 := M4) (pc' := 27) (tb_Machine hγ) [.aload_n 0, .getfield 430] (by decide +kernel) rfl rfl trivial ?_
  refine E_if_ne (off := 16) (tgt := 43) (by decide +kernel) (by decide) (fun b5 => ?_) (fun b5 => ?_)
  · rw [if_pos b5] at h
    refine E_blk (lv' := [some (vr (some (6, this))), some (vi a1)]) (st' := []) (M1 := (sI M4 10 0 8 ((mI M4 10 0 8) - (1 : Int32)))) (pc' := 43) (tb_Machine hγ) [.aload_n 0, .getfield 3, .dup, .getfield 434, .iconst 1, .isub, .putfield 434] (by decide +kernel) rfl rfl trivial ?_
    exact E_vret rfl (by decide +kernel) h
  · rw [if_neg b5] at h
    exact E_vret rfl (by decide +kernel) h
def w_Machine_push (this : Nat) (a1 : Int32) (a2 : Int32) (Q : Mem → Prop) (M : Mem) : Prop :=
  w_Machine_set this (((mI M 6 this 33) + (20 : Int32)) + (mI M 6 this 34)) a1 a2 (fun M1 => Q (sI M1 6 this 34 ((mI M1 6 this 34) + (1 : Int32)))) M
set_option maxRecDepth 4096 in
theorem lk_Machine_push {γ : Gm} (hγ : Gk γ) (this : Nat) (a1 : Int32) (a2 : Int32) (Q : Mem → Prop) (M : Mem) (h : w_Machine_push this a1 a2 Q M) : E γ k_Machine_push 1 0 [some (vr (some (6, this))), some (vi a1), some (vi a2)] [] M (Qv Q) := by
  unfold w_Machine_push at h
  refine E_blk (lv' := [some (vr (some (6, this))), some (vi a1), some (vi a2)]) (st' := [vi a2, vi a1, vi (((mI M 6 this 33) + (20 : Int32)) + (mI M 6 this 34)), vr (some (6, this))]) (M1 := M) (pc' := 15) (tb_Machine hγ) [.aload_n 0, .aload_n 0, .getfield 402, .bipush 20, .iadd, .aload_n 0, .getfield 405, .iadd, .iload_n 1, .iload_n 2] (by decide +kernel) rfl rfl trivial ?_
  refine E_callV (κ' := k_Machine_set) (As := [vi (((mI M 6 this 33) + (20 : Int32)) + (mI M 6 this 34)), vi a1, vi a2]) (st := []) mv_Machine_set (Or.inl (tbk_mem (j := 8) (k := 219) rfl)) rfl (by decide +kernel) (Nat.le_of_ble_eq_true rfl) (Nat.le_of_ble_eq_true rfl) rfl (by decide) (lk_Machine_set hγ this (((mI M 6 this 33) + (20 : Int32)) + (mI M 6 this 34)) a1 a2 _ M h) (fun _ _ => Qv_r) (fun v M1 hp => Qv_k (R := fun st => E γ k_Machine_push 1 18 [some (vr (some (6, this))), some (vi a1), some (vi a2)] st M1 (Qv Q)) hp (fun h => ?_))
  refine E_blk (lv' := [some (vr (some (6, this))), some (vi a1), some (vi a2)]) (st' := []) (M1 := (sI M1 6 this 34 ((mI M1 6 this 34) + (1 : Int32)))) (pc' := 28) (tb_Machine hγ) [.aload_n 0, .dup, .getfield 405, .iconst 1, .iadd, .putfield 405] (by decide +kernel) rfl rfl trivial ?_
  exact E_vret rfl (by decide +kernel) h
def w_Machine_comes (this : Nat) (a1 : Int32) (a2 : Int32) (a3 : Int32) (Q : Mem → Prop) (M : Mem) : Prop :=
  w_Machine_push this a2 a3 (fun M1 => Q M1) (sI M 6 this 34 ((mI M 6 this 34) - a1))
set_option maxRecDepth 4096 in
theorem lk_Machine_comes {γ : Gm} (hγ : Gk γ) (this : Nat) (a1 : Int32) (a2 : Int32) (a3 : Int32) (Q : Mem → Prop) (M : Mem) (h : w_Machine_comes this a1 a2 a3 Q M) : E γ k_Machine_comes 2 0 [some (vr (some (6, this))), some (vi a1), some (vi a2), some (vi a3)] [] M (Qv Q) := by
  unfold w_Machine_comes at h
  refine E_blk (lv' := [some (vr (some (6, this))), some (vi a1), some (vi a2), some (vi a3)]) (st' := [vi a3, vi a2, vr (some (6, this))]) (M1 := (sI M 6 this 34 ((mI M 6 this 34) - a1))) (pc' := 13) (tb_Machine hγ) [.aload_n 0, .dup, .getfield 405, .iload_n 1, .isub, .putfield 405, .aload_n 0, .iload_n 2, .iload_n 3] (by decide +kernel) rfl rfl trivial ?_
  refine E_callV (κ' := k_Machine_push) (As := [vi a2, vi a3]) (st := []) mv_Machine_push (Or.inl (tbk_mem (j := 9) (k := 66) rfl)) rfl (by decide +kernel) (Nat.le_of_ble_eq_true rfl) (Nat.le_of_ble_eq_true rfl) rfl (by decide) (lk_Machine_push hγ this a2 a3 _ (sI M 6 this 34 ((mI M 6 this 34) - a1)) h) (fun _ _ => Qv_r) (fun v M1 hp => Qv_k (R := fun st => E γ k_Machine_comes 2 16 [some (vr (some (6, this))), some (vi a1), some (vi a2), some (vi a3)] st M1 (Qv Q)) hp (fun h => ?_))
  exact E_vret rfl (by decide +kernel) h
def w_Machine_goesTo (this : Nat) (a1 : Int32) (a2 : Int32) (Q : Mem → Prop) (M : Mem) : Prop :=
  ∃ i1, (mR M 6 this 2) = some (7, i1) ∧ vp_in a1 (mL M 91 i1) ∧ ∃ i3, (mR (sI M 91 i1 a1.toNatClampNeg (mI M 6 this 34)) 6 this 2) = some (7, i3) ∧ vp_in a1 (mL (sI M 91 i1 a1.toNatClampNeg (mI M 6 this 34)) 90 i3) ∧ ∃ M5, M5 = (sI (sI M 91 i1 a1.toNatClampNeg (mI M 6 this 34)) 90 i3 a1.toNatClampNeg a2) ∧ Q M5
set_option maxRecDepth 4096 in
theorem lk_Machine_goesTo {γ : Gm} (hγ : Gk γ) (this : Nat) (a1 : Int32) (a2 : Int32) (Q : Mem → Prop) (M : Mem) (h : w_Machine_goesTo this a1 a2 Q M) : E γ k_Machine_goesTo 0 0 [some (vr (some (6, this))), some (vi a1), some (vi a2)] [] M (Qv Q) := by
  unfold w_Machine_goesTo at h
  refine E_blk (lv' := [some (vr (some (6, this))), some (vi a1), some (vi a2)]) (st' := [vr (mR M 6 this 2)]) (M1 := M) (pc' := 4) (tb_Machine hγ) [.aload_n 0, .getfield 24] (by decide +kernel) rfl rfl trivial ?_
  obtain ⟨i1, ei1, h⟩ := h
  rw [ei1]
  obtain ⟨c2, h⟩ := h
  refine E_blk (lv' := [some (vr (some (6, this))), some (vi a1), some (vi a2)]) (st' := [vr (mR (sI M 91 i1 a1.toNatClampNeg (mI M 6 this 34)) 6 this 2)]) (M1 := (sI M 91 i1 a1.toNatClampNeg (mI M 6 this 34))) (pc' := 17) (tb_Machine hγ) [.getfield 233, .iload_n 1, .aload_n 0, .getfield 405, .iastore, .aload_n 0, .getfield 24] (by decide +kernel) rfl rfl ⟨c2, trivial⟩ ?_
  obtain ⟨i3, ei3, h⟩ := h
  rw [ei3]
  obtain ⟨c4, h⟩ := h
  refine E_blk (lv' := [some (vr (some (6, this))), some (vi a1), some (vi a2)]) (st' := []) (M1 := (sI (sI M 91 i1 a1.toNatClampNeg (mI M 6 this 34)) 90 i3 a1.toNatClampNeg a2)) (pc' := 23) (tb_Machine hγ) [.getfield 230, .iload_n 1, .iload_n 2, .iastore] (by decide +kernel) rfl rfl ⟨c4, trivial⟩ ?_
  obtain ⟨M5, eM5, h⟩ := h
  rw [← eM5]
  exact E_vret rfl (by decide +kernel) h
