def k_Reader_endMethod : Kp := (⟨"ClassWorks$Reader", "endMethod", "()V"⟩, prog_7_method_34_code, 5, none, [])
theorem mv_Reader_endMethod : MV k_Reader_endMethod 3 0 := ⟨⟨_, rfl, rfl⟩, by decide, (tbk_mem (j := 7) (k := 30) rfl), Or.inr ⟨(tbk_mem (j := 7) (k := 29) rfl), 24, (tbk_mem (j := 2) (k := 8) rfl)⟩, Or.inl ⟨rfl, (tbk_mem (j := 7) (k := 31) rfl)⟩, ⟨by decide, by decide⟩, by decide +kernel, by decide +kernel, by decide⟩
def k_Reader_aMethod : Kp := (⟨"ClassWorks$Reader", "aMethod", "()V"⟩, prog_7_method_20_code, 5, none, [])
theorem mv_Reader_aMethod : MV k_Reader_aMethod 3 0 := ⟨⟨_, rfl, rfl⟩, by decide, (tbk_mem (j := 6) (k := 205) rfl), Or.inr ⟨(tbk_mem (j := 6) (k := 204) rfl), 24, (tbk_mem (j := 2) (k := 8) rfl)⟩, Or.inl ⟨rfl, (tbk_mem (j := 6) (k := 206) rfl)⟩, ⟨by decide, by decide⟩, by decide +kernel, by decide +kernel, by decide⟩
def k_Reader_aClass : Kp := (⟨"ClassWorks$Reader", "aClass", "()Z"⟩, prog_7_method_17_code, 8, some (.boolean), [])
theorem mv_Reader_aClass : MV k_Reader_aClass 3 0 := ⟨⟨_, rfl, rfl⟩, by decide, (tbk_mem (j := 6) (k := 112) rfl), Or.inr ⟨(tbk_mem (j := 6) (k := 111) rfl), 24, (tbk_mem (j := 2) (k := 8) rfl)⟩, Or.inl ⟨rfl, (tbk_mem (j := 6) (k := 113) rfl)⟩, ⟨by decide, by decide⟩, by decide +kernel, by decide +kernel, by decide⟩
def k_Reader_define : Kp := (⟨"ClassWorks$Reader", "define", "(LClassWorks$World;[BI)I"⟩, prog_7_method_2_code, 13, some (.int), [(77, 128, 129, 93)])
theorem mv_Reader_define : MV k_Reader_define 3 3 := ⟨⟨_, rfl, rfl⟩, by decide, (tbk_mem (j := 6) (k := 41) rfl), Or.inl (tbk_mem (j := 6) (k := 42) rfl), Or.inr (tbk_mem (j := 6) (k := 43) rfl), ⟨by decide, by decide⟩, by decide +kernel, by decide +kernel, by decide⟩
def k_Reader_call : Kp := (⟨"ClassWorks$Reader", "call", "(LClassWorks$World;I)V"⟩, prog_7_method_36_code, 8, none, [])
theorem mv_Reader_call : MV k_Reader_call 3 2 := ⟨⟨_, rfl, rfl⟩, by decide, (tbk_mem (j := 8) (k := 93) rfl), Or.inl (tbk_mem (j := 8) (k := 94) rfl), Or.inl ⟨rfl, (tbk_mem (j := 8) (k := 95) rfl)⟩, ⟨by decide, by decide⟩, by decide +kernel, by decide +kernel, by decide⟩
def k_Line_call : Kp := (⟨"ClassWorks$Line", "call", "([I)V"⟩, prog_4_method_3_code, 2, none, [])
theorem mv_Line_call : MV k_Line_call 7 1 := ⟨⟨_, rfl, rfl⟩, by decide, (tbk_mem (j := 8) (k := 98) rfl), Or.inl (tbk_mem (j := 8) (k := 99) rfl), Or.inl ⟨rfl, (tbk_mem (j := 8) (k := 100) rfl)⟩, ⟨by decide, by decide⟩, by decide +kernel, by decide +kernel, by decide⟩
def k_Machine_isLockedFor : Kp := (⟨"ClassWorks$Machine", "isLockedFor", "(LClassWorks$Line;I)Z"⟩, prog_5_method_7_code, 3, some (.boolean), [])
theorem mv_Machine_isLockedFor : MV k_Machine_isLockedFor 6 2 := ⟨⟨_, rfl, rfl⟩, by decide, (tbk_mem (j := 8) (k := 129) rfl), Or.inr ⟨(tbk_mem (j := 8) (k := 128) rfl), 38, (tbk_mem (j := 2) (k := 195) rfl)⟩, Or.inl ⟨rfl, (tbk_mem (j := 8) (k := 130) rfl)⟩, ⟨by decide, by decide⟩, by decide +kernel, by decide +kernel, by decide⟩
def k_Machine_waits : Kp := (⟨"ClassWorks$Machine", "waits", "(LClassWorks$Line;)Z"⟩, prog_5_method_8_code, 2, some (.boolean), [])
theorem mv_Machine_waits : MV k_Machine_waits 6 1 := ⟨⟨_, rfl, rfl⟩, by decide, (tbk_mem (j := 8) (k := 124) rfl), Or.inl (tbk_mem (j := 8) (k := 125) rfl), Or.inl ⟨rfl, (tbk_mem (j := 8) (k := 126) rfl)⟩, ⟨by decide, by decide⟩, by decide +kernel, by decide +kernel, by decide⟩
def k_Machine_canGo : Kp := (⟨"ClassWorks$Machine", "canGo", "(LClassWorks$Line;)Z"⟩, prog_5_method_9_code, 2, some (.boolean), [])
theorem mv_Machine_canGo : MV k_Machine_canGo 6 1 := ⟨⟨_, rfl, rfl⟩, by decide, (tbk_mem (j := 8) (k := 121) rfl), Or.inr ⟨(tbk_mem (j := 8) (k := 120) rfl), 38, (tbk_mem (j := 2) (k := 195) rfl)⟩, Or.inl ⟨rfl, (tbk_mem (j := 8) (k := 122) rfl)⟩, ⟨by decide, by decide⟩, by decide +kernel, by decide +kernel, by decide⟩
def k_Machine_hasTurn : Kp := (⟨"ClassWorks$Machine", "hasTurn", "()Z"⟩, prog_5_method_10_code, 3, some (.boolean), [])
theorem mv_Machine_hasTurn : MV k_Machine_hasTurn 6 0 := ⟨⟨_, rfl, rfl⟩, by decide, (tbk_mem (j := 8) (k := 117) rfl), Or.inr ⟨(tbk_mem (j := 8) (k := 116) rfl), 38, (tbk_mem (j := 2) (k := 195) rfl)⟩, Or.inl ⟨rfl, (tbk_mem (j := 8) (k := 118) rfl)⟩, ⟨by decide, by decide⟩, by decide +kernel, by decide +kernel, by decide⟩
def k_World_refClass : Kp := (⟨"ClassWorks$World", "refClass", "(I)I"⟩, prog_10_method_20_code, 2, some (.int), [])
theorem mv_World_refClass : MV k_World_refClass 5 1 := ⟨⟨_, rfl, rfl⟩, by decide, (tbk_mem (j := 8) (k := 9) rfl), Or.inl (tbk_mem (j := 8) (k := 10) rfl), Or.inl ⟨rfl, (tbk_mem (j := 8) (k := 11) rfl)⟩, ⟨by decide, by decide⟩, by decide +kernel, by decide +kernel, by decide⟩
def k_Machine_thrown : Kp := (⟨"ClassWorks$Machine", "thrown", "(II)I"⟩, prog_5_method_33_code, 3, some (.int), [])
theorem mv_Machine_thrown : MV k_Machine_thrown 6 2 := ⟨⟨_, rfl, rfl⟩, by decide, (tbk_mem (j := 8) (k := 151) rfl), Or.inr ⟨(tbk_mem (j := 8) (k := 150) rfl), 38, (tbk_mem (j := 2) (k := 195) rfl)⟩, Or.inl ⟨rfl, (tbk_mem (j := 8) (k := 152) rfl)⟩, ⟨by decide, by decide⟩, by decide +kernel, by decide +kernel, by decide⟩
def k_Machine_findClass : Kp := (⟨"ClassWorks$Machine", "findClass", "(I)I"⟩, prog_5_method_31_code, 3, some (.int), [])
theorem mv_Machine_findClass : MV k_Machine_findClass 6 1 := ⟨⟨_, rfl, rfl⟩, by decide, (tbk_mem (j := 8) (k := 146) rfl), Or.inr ⟨(tbk_mem (j := 8) (k := 145) rfl), 38, (tbk_mem (j := 2) (k := 195) rfl)⟩, Or.inl ⟨rfl, (tbk_mem (j := 8) (k := 147) rfl)⟩, ⟨by decide, by decide⟩, by decide +kernel, by decide +kernel, by decide⟩
def k_World_comesBack : Kp := (⟨"ClassWorks$World", "comesBack", "(I)Z"⟩, prog_10_method_15_code, 8, some (.boolean), [])
theorem mv_World_comesBack : MV k_World_comesBack 5 1 := ⟨⟨_, rfl, rfl⟩, by decide, (tbk_mem (j := 7) (k := 86) rfl), Or.inr ⟨(tbk_mem (j := 7) (k := 85) rfl), 65, (tbk_mem (j := 2) (k := 189) rfl)⟩, Or.inl ⟨rfl, (tbk_mem (j := 7) (k := 87) rfl)⟩, ⟨by decide, by decide⟩, by decide +kernel, by decide +kernel, by decide⟩
def k_World_up : Kp := (⟨"ClassWorks$World", "up", "(I)I"⟩, prog_10_method_10_code, 2, some (.int), [])
theorem mv_World_up : MV k_World_up 5 1 := ⟨⟨_, rfl, rfl⟩, by decide, (tbk_mem (j := 7) (k := 94) rfl), Or.inl (tbk_mem (j := 7) (k := 95) rfl), Or.inl ⟨rfl, (tbk_mem (j := 7) (k := 96) rfl)⟩, ⟨by decide, by decide⟩, by decide +kernel, by decide +kernel, by decide⟩
def k_World_own : Kp := (⟨"ClassWorks$World", "own", "(IIII)I"⟩, prog_10_method_18_code, 6, some (.int), [])
theorem mv_World_own : MV k_World_own 5 4 := ⟨⟨_, rfl, rfl⟩, by decide, (tbk_mem (j := 7) (k := 103) rfl), Or.inr ⟨(tbk_mem (j := 7) (k := 102) rfl), 65, (tbk_mem (j := 2) (k := 189) rfl)⟩, Or.inl ⟨rfl, (tbk_mem (j := 7) (k := 104) rfl)⟩, ⟨by decide, by decide⟩, by decide +kernel, by decide +kernel, by decide⟩
def k_World_changesFinal : Kp := (⟨"ClassWorks$World", "changesFinal", "(II)Z"⟩, prog_10_method_16_code, 7, some (.boolean), [])
theorem mv_World_changesFinal : MV k_World_changesFinal 5 2 := ⟨⟨_, rfl, rfl⟩, by decide, (tbk_mem (j := 7) (k := 99) rfl), Or.inr ⟨(tbk_mem (j := 7) (k := 98) rfl), 65, (tbk_mem (j := 2) (k := 189) rfl)⟩, Or.inl ⟨rfl, (tbk_mem (j := 7) (k := 100) rfl)⟩, ⟨by decide, by decide⟩, by decide +kernel, by decide +kernel, by decide⟩
def k_World_lay : Kp := (⟨"ClassWorks$World", "lay", "(II)V"⟩, prog_10_method_17_code, 5, none, [])
theorem mv_World_lay : MV k_World_lay 5 2 := ⟨⟨_, rfl, rfl⟩, by decide, (tbk_mem (j := 7) (k := 108) rfl), Or.inr ⟨(tbk_mem (j := 7) (k := 107) rfl), 65, (tbk_mem (j := 2) (k := 189) rfl)⟩, Or.inl ⟨rfl, (tbk_mem (j := 7) (k := 109) rfl)⟩, ⟨by decide, by decide⟩, by decide +kernel, by decide +kernel, by decide⟩
def k_Checker_isMaker : Kp := (⟨"ClassWorks$Checker", "isMaker", "()Z"⟩, prog_2_method_4_code, 1, some (.boolean), [])
theorem mv_Checker_isMaker : MV k_Checker_isMaker 4 0 := ⟨⟨_, rfl, rfl⟩, by decide, (tbk_mem (j := 7) (k := 124) rfl), Or.inr ⟨(tbk_mem (j := 7) (k := 123) rfl), 19, (tbk_mem (j := 2) (k := 124) rfl)⟩, Or.inl ⟨rfl, (tbk_mem (j := 7) (k := 125) rfl)⟩, ⟨by decide, by decide⟩, by decide +kernel, by decide +kernel, by decide⟩
def k_Checker_classKind : Kp := (⟨"ClassWorks$Checker", "classKind", "()I"⟩, prog_2_method_5_code, 1, some (.int), [])
theorem mv_Checker_classKind : MV k_Checker_classKind 4 0 := ⟨⟨_, rfl, rfl⟩, by decide, (tbk_mem (j := 7) (k := 128) rfl), Or.inr ⟨(tbk_mem (j := 7) (k := 127) rfl), 19, (tbk_mem (j := 2) (k := 124) rfl)⟩, Or.inl ⟨rfl, (tbk_mem (j := 7) (k := 129) rfl)⟩, ⟨by decide, by decide⟩, by decide +kernel, by decide +kernel, by decide⟩
def k_Checker_begin : Kp := (⟨"ClassWorks$Checker", "begin", "()V"⟩, prog_2_method_6_code, 4, none, [])
theorem mv_Checker_begin : MV k_Checker_begin 4 0 := ⟨⟨_, rfl, rfl⟩, by decide, (tbk_mem (j := 7) (k := 120) rfl), Or.inr ⟨(tbk_mem (j := 7) (k := 119) rfl), 19, (tbk_mem (j := 2) (k := 124) rfl)⟩, Or.inl ⟨rfl, (tbk_mem (j := 7) (k := 121) rfl)⟩, ⟨by decide, by decide⟩, by decide +kernel, by decide +kernel, by decide⟩
def k_Checker_code : Kp := (⟨"ClassWorks$Checker", "code", "()I"⟩, prog_2_method_8_code, 1, some (.int), [])
theorem mv_Checker_code : MV k_Checker_code 4 0 := ⟨⟨_, rfl, rfl⟩, by decide, (tbk_mem (j := 7) (k := 137) rfl), Or.inr ⟨(tbk_mem (j := 7) (k := 136) rfl), 19, (tbk_mem (j := 2) (k := 124) rfl)⟩, Or.inl ⟨rfl, (tbk_mem (j := 7) (k := 138) rfl)⟩, ⟨by decide, by decide⟩, by decide +kernel, by decide +kernel, by decide⟩
def k_Checker_breaks : Kp := (⟨"ClassWorks$Checker", "breaks", "(I)Z"⟩, prog_2_method_3_code, 2, some (.boolean), [])
theorem mv_Checker_breaks : MV k_Checker_breaks 4 1 := ⟨⟨_, rfl, rfl⟩, by decide, (tbk_mem (j := 7) (k := 149) rfl), Or.inr ⟨(tbk_mem (j := 7) (k := 148) rfl), 19, (tbk_mem (j := 2) (k := 124) rfl)⟩, Or.inl ⟨rfl, (tbk_mem (j := 7) (k := 150) rfl)⟩, ⟨by decide, by decide⟩, by decide +kernel, by decide +kernel, by decide⟩
def k_Checker_isRight : Kp := (⟨"ClassWorks$Checker", "isRight", "(I)Z"⟩, prog_2_method_24_code, 6, some (.boolean), [])
theorem mv_Checker_isRight : MV k_Checker_isRight 4 1 := ⟨⟨_, rfl, rfl⟩, by decide, (tbk_mem (j := 7) (k := 145) rfl), Or.inr ⟨(tbk_mem (j := 7) (k := 144) rfl), 19, (tbk_mem (j := 2) (k := 124) rfl)⟩, Or.inl ⟨rfl, (tbk_mem (j := 7) (k := 146) rfl)⟩, ⟨by decide, by decide⟩, by decide +kernel, by decide +kernel, by decide⟩
def k_World_upName : Kp := (⟨"ClassWorks$World", "upName", "(I)I"⟩, prog_10_method_9_code, 2, some (.int), [])
theorem mv_World_upName : MV k_World_upName 5 1 := ⟨⟨_, rfl, rfl⟩, by decide, (tbk_mem (j := 7) (k := 162) rfl), Or.inl (tbk_mem (j := 7) (k := 163) rfl), Or.inl ⟨rfl, (tbk_mem (j := 7) (k := 164) rfl)⟩, ⟨by decide, by decide⟩, by decide +kernel, by decide +kernel, by decide⟩
def k_Checker_fits : Kp := (⟨"ClassWorks$Checker", "fits", "(II)Z"⟩, prog_2_method_27_code, 7, some (.boolean), [])
theorem mv_Checker_fits : MV k_Checker_fits 4 2 := ⟨⟨_, rfl, rfl⟩, by decide, (tbk_mem (j := 7) (k := 157) rfl), Or.inr ⟨(tbk_mem (j := 7) (k := 156) rfl), 19, (tbk_mem (j := 2) (k := 124) rfl)⟩, Or.inl ⟨rfl, (tbk_mem (j := 7) (k := 158) rfl)⟩, ⟨by decide, by decide⟩, by decide +kernel, by decide +kernel, by decide⟩
def k_Checker_localsFit : Kp := (⟨"ClassWorks$Checker", "localsFit", "(I)Z"⟩, prog_2_method_25_code, 3, some (.boolean), [])
theorem mv_Checker_localsFit : MV k_Checker_localsFit 4 1 := ⟨⟨_, rfl, rfl⟩, by decide, (tbk_mem (j := 7) (k := 153) rfl), Or.inr ⟨(tbk_mem (j := 7) (k := 152) rfl), 19, (tbk_mem (j := 2) (k := 124) rfl)⟩, Or.inl ⟨rfl, (tbk_mem (j := 7) (k := 154) rfl)⟩, ⟨by decide, by decide⟩, by decide +kernel, by decide +kernel, by decide⟩
def k_Checker_stackFits : Kp := (⟨"ClassWorks$Checker", "stackFits", "(I)Z"⟩, prog_2_method_26_code, 3, some (.boolean), [])
theorem mv_Checker_stackFits : MV k_Checker_stackFits 4 1 := ⟨⟨_, rfl, rfl⟩, by decide, (tbk_mem (j := 7) (k := 167) rfl), Or.inr ⟨(tbk_mem (j := 7) (k := 166) rfl), 19, (tbk_mem (j := 2) (k := 124) rfl)⟩, Or.inl ⟨rfl, (tbk_mem (j := 7) (k := 168) rfl)⟩, ⟨by decide, by decide⟩, by decide +kernel, by decide +kernel, by decide⟩
def k_Checker_goes : Kp := (⟨"ClassWorks$Checker", "goes", "(I)Z"⟩, prog_2_method_23_code, 4, some (.boolean), [])
theorem mv_Checker_goes : MV k_Checker_goes 4 1 := ⟨⟨_, rfl, rfl⟩, by decide, (tbk_mem (j := 7) (k := 141) rfl), Or.inr ⟨(tbk_mem (j := 7) (k := 140) rfl), 19, (tbk_mem (j := 2) (k := 124) rfl)⟩, Or.inl ⟨rfl, (tbk_mem (j := 7) (k := 142) rfl)⟩, ⟨by decide, by decide⟩, by decide +kernel, by decide +kernel, by decide⟩
def k_Checker_keep : Kp := (⟨"ClassWorks$Checker", "keep", "()V"⟩, prog_2_method_10_code, 1, none, [])
theorem mv_Checker_keep : MV k_Checker_keep 4 0 := ⟨⟨_, rfl, rfl⟩, by decide, (tbk_mem (j := 7) (k := 171) rfl), Or.inr ⟨(tbk_mem (j := 7) (k := 170) rfl), 19, (tbk_mem (j := 2) (k := 124) rfl)⟩, Or.inl ⟨rfl, (tbk_mem (j := 7) (k := 172) rfl)⟩, ⟨by decide, by decide⟩, by decide +kernel, by decide +kernel, by decide⟩
def k_Checker_isUp : Kp := (⟨"ClassWorks$Checker", "isUp", "(II)Z"⟩, prog_2_method_21_code, 6, some (.boolean), [])
theorem mv_Checker_isUp : MV k_Checker_isUp 4 2 := ⟨⟨_, rfl, rfl⟩, by decide, (tbk_mem (j := 7) (k := 197) rfl), Or.inr ⟨(tbk_mem (j := 7) (k := 196) rfl), 19, (tbk_mem (j := 2) (k := 124) rfl)⟩, Or.inl ⟨rfl, (tbk_mem (j := 7) (k := 198) rfl)⟩, ⟨by decide, by decide⟩, by decide +kernel, by decide +kernel, by decide⟩
def k_Checker_joined : Kp := (⟨"ClassWorks$Checker", "joined", "(II)I"⟩, prog_2_method_20_code, 7, some (.int), [])
theorem mv_Checker_joined : MV k_Checker_joined 4 2 := ⟨⟨_, rfl, rfl⟩, by decide, (tbk_mem (j := 7) (k := 190) rfl), Or.inr ⟨(tbk_mem (j := 7) (k := 189) rfl), 19, (tbk_mem (j := 2) (k := 124) rfl)⟩, Or.inl ⟨rfl, (tbk_mem (j := 7) (k := 191) rfl)⟩, ⟨by decide, by decide⟩, by decide +kernel, by decide +kernel, by decide⟩
def k_Checker_put : Kp := (⟨"ClassWorks$Checker", "put", "(II)V"⟩, prog_2_method_19_code, 3, none, [])
theorem mv_Checker_put : MV k_Checker_put 4 2 := ⟨⟨_, rfl, rfl⟩, by decide, (tbk_mem (j := 7) (k := 201) rfl), Or.inr ⟨(tbk_mem (j := 7) (k := 200) rfl), 19, (tbk_mem (j := 2) (k := 124) rfl)⟩, Or.inl ⟨rfl, (tbk_mem (j := 7) (k := 202) rfl)⟩, ⟨by decide, by decide⟩, by decide +kernel, by decide +kernel, by decide⟩
def k_Checker_joins : Kp := (⟨"ClassWorks$Checker", "joins", "(I)Z"⟩, prog_2_method_18_code, 4, some (.boolean), [])
theorem mv_Checker_joins : MV k_Checker_joins 4 1 := ⟨⟨_, rfl, rfl⟩, by decide, (tbk_mem (j := 7) (k := 186) rfl), Or.inr ⟨(tbk_mem (j := 7) (k := 185) rfl), 19, (tbk_mem (j := 2) (k := 124) rfl)⟩, Or.inl ⟨rfl, (tbk_mem (j := 7) (k := 187) rfl)⟩, ⟨by decide, by decide⟩, by decide +kernel, by decide +kernel, by decide⟩
def k_Checker_handles : Kp := (⟨"ClassWorks$Checker", "handles", "(I)Z"⟩, prog_2_method_29_code, 5, some (.boolean), [])
theorem mv_Checker_handles : MV k_Checker_handles 4 1 := ⟨⟨_, rfl, rfl⟩, by decide, (tbk_mem (j := 7) (k := 182) rfl), Or.inr ⟨(tbk_mem (j := 7) (k := 181) rfl), 19, (tbk_mem (j := 2) (k := 124) rfl)⟩, Or.inl ⟨rfl, (tbk_mem (j := 7) (k := 183) rfl)⟩, ⟨by decide, by decide⟩, by decide +kernel, by decide +kernel, by decide⟩
def w_Reader_endMethod_j297 (this : Nat) (Q : Mem → Prop) (X : Mem → Prop) (k157 : Int32 → Int32 → Int32 → Mem → Prop) (v1 : Int32) (v2 : Int32) (v3 : Int32) (M : Mem) : Prop :=
  k157 v1 v2 (v3 + (1 : Int32)) M
def w_Reader_endMethod_j255 (this : Nat) (Q : Mem → Prop) (X : Mem → Prop) (k157 : Int32 → Int32 → Int32 → Mem → Prop) (v1 : Int32) (v2 : Int32) (v3 : Int32) (v4 : Int32) (M : Mem) : Prop :=
  vp_in v3 (mL M 27 this) ∧ if (mI M 27 this v3.toNatClampNeg) = (3 : Int32) then (∃ i26, (mR M 3 this 1) = some (5, i26) ∧ vp_in v3 (mL M 28 this) ∧ vp_in ((mI M 28 this v3.toNatClampNeg) - (1 : Int32)) (mL M 75 i26) ∧ if (mI M 75 i26 ((mI M 28 this v3.toNatClampNeg) - (1 : Int32)).toNatClampNeg) < v4 then (w_Reader_endMethod_j297 this Q X k157 v1 v2 v3 M) else (vp_in v3 (mL M 29 this) ∧ w_JMath_min v2 (mI M 29 this v3.toNatClampNeg) (fun r32 M31 => w_Reader_endMethod_j297 this Q X k157 v1 r32 v3 M31) M)) else (w_Reader_endMethod_j297 this Q X k157 v1 v2 v3 M)
def w_Reader_endMethod_L157 (this : Nat) (Q : Mem → Prop) (X : Mem → Prop) : Nat → Int32 → Int32 → Int32 → Mem → Prop
  | 0, _, _, _, _ => False
  | n + 1, v1, v2, v3, M => if (mI M 3 this 9) ≤ v3 then (if (2147483647 : Int32) ≤ v2 then (if v1 = 0 then (w_Works_refuse 0 (8 : Int32) (mI M 3 this 2) (fun i11 M10 => i11 = 0 ∧ X M10) M) else (Q M)) else (w_Works_refuse 0 (10 : Int32) v2 (fun i13 M12 => i13 = 0 ∧ X M12) M)) else (vp_in v3 (mL M 26 this) ∧ w_Reader_told this (mI M 26 this v3.toNatClampNeg) (fun r16 M15 => vp_in r16 (mL M15 24 this) ∧ vp_in v3 (mL M15 27 this) ∧ if (mI M15 27 this v3.toNatClampNeg) = 0 then (∃ i20, (mR M15 3 this 1) = some (5, i20) ∧ vp_in v3 (mL M15 28 this) ∧ vp_in (mI M15 28 this v3.toNatClampNeg) (mL M15 67 i20) ∧ ∃ M23, M23 = (sI M15 67 i20 (mI M15 28 this v3.toNatClampNeg).toNatClampNeg (mI M15 24 this r16.toNatClampNeg)) ∧ w_Reader_endMethod_j255 this Q X (w_Reader_endMethod_L157 this Q X n) v1 v2 v3 (mI M15 24 this r16.toNatClampNeg) M23) else (vp_in v3 (mL M15 27 this) ∧ if (mI M15 27 this v3.toNatClampNeg) = (1 : Int32) then (∃ i35, (mR M15 3 this 1) = some (5, i35) ∧ vp_in v3 (mL M15 28 this) ∧ vp_in (mI M15 28 this v3.toNatClampNeg) (mL M15 74 i35) ∧ ∃ M38, M38 = (sI M15 74 i35 (mI M15 28 this v3.toNatClampNeg).toNatClampNeg (mI M15 24 this r16.toNatClampNeg)) ∧ w_Reader_endMethod_j255 this Q X (w_Reader_endMethod_L157 this Q X n) v1 v2 v3 (mI M15 24 this r16.toNatClampNeg) M38) else (∃ i39, (mR M15 3 this 1) = some (5, i39) ∧ vp_in v3 (mL M15 28 this) ∧ vp_in (mI M15 28 this v3.toNatClampNeg) (mL M15 75 i39) ∧ ∃ M42, M42 = (sI M15 75 i39 (mI M15 28 this v3.toNatClampNeg).toNatClampNeg (mI M15 24 this r16.toNatClampNeg)) ∧ w_Reader_endMethod_j255 this Q X (w_Reader_endMethod_L157 this Q X n) v1 v2 v3 (mI M15 24 this r16.toNatClampNeg) M42))) M)
def w_Reader_endMethod_j138 (this : Nat) (Q : Mem → Prop) (X : Mem → Prop) (v1 : Int32) (v2 : Int32) (M : Mem) : Prop :=
  if (2147483647 : Int32) ≤ v2 then (∃ n43 : Nat, w_Reader_endMethod_L157 this Q X n43 v1 v2 (0 : Int32) M) else (w_Works_refuse 0 (9 : Int32) v2 (fun i45 M44 => i45 = 0 ∧ X M44) M)
def w_Reader_endMethod_j116 (this : Nat) (Q : Mem → Prop) (X : Mem → Prop) (k59 : Int32 → Int32 → Int32 → Mem → Prop) (v1 : Int32) (v2 : Int32) (v3 : Int32) (M : Mem) : Prop :=
  k59 v1 v2 (v3 + (1 : Int32)) M
def w_Reader_endMethod_j105 (this : Nat) (Q : Mem → Prop) (X : Mem → Prop) (k59 : Int32 → Int32 → Int32 → Mem → Prop) (v1 : Int32) (v2 : Int32) (v3 : Int32) (M : Mem) : Prop :=
  vp_in v3 (mL M 29 this) ∧ w_JMath_min v2 (mI M 29 this v3.toNatClampNeg) (fun r54 M53 => w_Reader_endMethod_j116 this Q X k59 v1 r54 v3 M53) M
def w_Reader_endMethod_L59 (this : Nat) (Q : Mem → Prop) (X : Mem → Prop) : Nat → Int32 → Int32 → Int32 → Mem → Prop
  | 0, _, _, _, _ => False
  | n + 1, v1, v2, v3, M => if (mI M 3 this 9) ≤ v3 then (if (mI M 3 this 14) = 0 then (w_Reader_endMethod_j138 this Q X v1 v2 M) else (w_JMath_min v2 (mI M 3 this 15) (fun r47 M46 => w_Reader_endMethod_j138 this Q X v1 r47 M46) M)) else (vp_in v3 (mL M 26 this) ∧ w_Reader_told this (mI M 26 this v3.toNatClampNeg) (fun r50 M49 => if r50 < 0 then (w_Reader_endMethod_j105 this Q X (w_Reader_endMethod_L59 this Q X n) v1 v2 v3 M49) else (vp_in r50 (mL M49 24 this) ∧ if (mI M49 24 this r50.toNatClampNeg) = v1 then (vp_in v3 (mL M49 27 this) ∧ if (mI M49 27 this v3.toNatClampNeg) = (3 : Int32) then (w_Reader_endMethod_j116 this Q X (w_Reader_endMethod_L59 this Q X n) v1 v2 v3 M49) else (w_Reader_endMethod_j105 this Q X (w_Reader_endMethod_L59 this Q X n) v1 v2 v3 M49)) else (w_Reader_endMethod_j116 this Q X (w_Reader_endMethod_L59 this Q X n) v1 v2 v3 M49))) M)
def w_Reader_endMethod_j51 (this : Nat) (Q : Mem → Prop) (X : Mem → Prop) (k18 : Int32 → Int32 → Int32 → Mem → Prop) (v1 : Int32) (v2 : Int32) (v3 : Int32) (M : Mem) : Prop :=
  k18 v1 v2 (v3 + (1 : Int32)) M
def w_Reader_endMethod_L18 (this : Nat) (Q : Mem → Prop) (X : Mem → Prop) : Nat → Int32 → Int32 → Int32 → Mem → Prop
  | 0, _, _, _, _ => False
  | n + 1, v1, v2, v3, M => if (mI M 3 this 5) ≤ v3 then (∃ n59 : Nat, w_Reader_endMethod_L59 this Q X n59 v1 v2 (0 : Int32) M) else (vp_in v3 (mL M 23 this) ∧ w_Reader_told this (mI M 23 this v3.toNatClampNeg) (fun r62 M61 => if v3 ≤ r62 then (w_Reader_endMethod_j51 this Q X (w_Reader_endMethod_L18 this Q X n) v1 v2 v3 M61) else (vp_in v3 (mL M61 25 this) ∧ w_JMath_min v2 (mI M61 25 this v3.toNatClampNeg) (fun r66 M65 => w_Reader_endMethod_j51 this Q X (w_Reader_endMethod_L18 this Q X n) v1 r66 v3 M65) M61)) M)
def w_Reader_endMethod (this : Nat) (Q : Mem → Prop) (X : Mem → Prop) (M : Mem) : Prop :=
  ∃ i1, (mR M 3 this 1) = some (5, i1) ∧ vp_in (mI M 3 this 4) (mL M 63 i1) ∧ ∃ n67 : Nat, w_Reader_endMethod_L18 this Q X n67 (mI M 63 i1 (mI M 3 this 4).toNatClampNeg) (2147483647 : Int32) (0 : Int32) M
set_option maxRecDepth 4096 in
theorem lk_Reader_endMethod_j297 {γ : Gm} (hγ : Gk γ) (this : Nat) (Q : Mem → Prop) (X : Mem → Prop) (k157 : Int32 → Int32 → Int32 → Mem → Prop) (hk157 : ∀ (v1 : Int32) (v2 : Int32) (v3 : Int32) (M : Mem), k157 v1 v2 v3 M → E γ k_Reader_endMethod 1 157 [some (vr (some (3, this))), some (vi v1), some (vi v2), some (vi v3), none] [] M (Qx (9, 0) (Qv Q) X)) (v1 : Int32) (v2 : Int32) (v3 : Int32) (M : Mem) (h : w_Reader_endMethod_j297 this Q X k157 v1 v2 v3 M) : E γ k_Reader_endMethod 1 297 [some (vr (some (3, this))), some (vi v1), some (vi v2), some (vi v3), none] [] M (Qx (9, 0) (Qv Q) X) := by
  unfold w_Reader_endMethod_j297 at h
  refine E_blk (lv' := [some (vr (some (3, this))), some (vi v1), some (vi v2), some (vi (v3 + (1 : Int32))), none]) (st' := []) (M1 := M) (pc' := 300) (tb_Reader hγ) [.iinc 3 1] (by decide +kernel) rfl rfl trivial ?_
  refine E_goto (off := -143) (tgt := 157) (by decide +kernel) (by decide) ?_
  refine E_mask [true, true, true, true, false] rfl ?_
  exact hk157 v1 v2 (v3 + (1 : Int32)) M h
set_option maxRecDepth 4096 in
theorem lk_Reader_endMethod_j255 {γ : Gm} (hγ : Gk γ) (this : Nat) (Q : Mem → Prop) (X : Mem → Prop) (k157 : Int32 → Int32 → Int32 → Mem → Prop) (hk157 : ∀ (v1 : Int32) (v2 : Int32) (v3 : Int32) (M : Mem), k157 v1 v2 v3 M → E γ k_Reader_endMethod 1 157 [some (vr (some (3, this))), some (vi v1), some (vi v2), some (vi v3), none] [] M (Qx (9, 0) (Qv Q) X)) (v1 : Int32) (v2 : Int32) (v3 : Int32) (v4 : Int32) (M : Mem) (h : w_Reader_endMethod_j255 this Q X k157 v1 v2 v3 v4 M) : E γ k_Reader_endMethod 1 255 [some (vr (some (3, this))), some (vi v1), some (vi v2), some (vi v3), some (vi v4)] [] M (Qx (9, 0) (Qv Q) X) := by
  unfold w_Reader_endMethod_j255 at h
  obtain ⟨c24, h⟩ := h
  refine E_blk (lv' := [some (vr (some (3, this))), some (vi v1), some (vi v2), some (vi v3), some (vi v4)]) (st' := [vi (3 : Int32), vi (mI M 27 this v3.toNatClampNeg)]) (M1 := M) (pc' := 262) (tb_Reader hγ) [.aload_n 0, .getfield 37, .iload_n 3, .iaload, .iconst 3] (by decide +kernel) rfl rfl ⟨c24, trivial⟩ ?_
  refine E_icmp_ne (off := 35) (tgt := 297) (by decide +kernel) (by decide) (fun b25 => ?_) (fun b25 => ?_)
  · rw [if_pos b25] at h
    refine E_blk (lv' := [some (vr (some (3, this))), some (vi v1), some (vi v2), some (vi v3), some (vi v4)]) (st' := [vr (mR M 3 this 1)]) (M1 := M) (pc' := 269) (tb_Reader hγ) [.aload_n 0, .getfield 52] (by decide +kernel) rfl rfl trivial ?_
    obtain ⟨i26, ei26, h⟩ := h
    rw [ei26]
    obtain ⟨c27, c28, h⟩ := h
    refine E_blk (lv' := [some (vr (some (3, this))), some (vi v1), some (vi v2), some (vi v3), some (vi v4)]) (st' := [vi v4, vi (mI M 75 i26 ((mI M 28 this v3.toNatClampNeg) - (1 : Int32)).toNatClampNeg)]) (M1 := M) (pc' := 283) (tb_Reader hγ) [.getfield 359, .aload_n 0, .getfield 40, .iload_n 3, .iaload, .iconst 1, .isub, .iaload, .iload 4] (by decide +kernel) rfl rfl ⟨c27, c28, trivial⟩ ?_
    refine E_icmp_lt (off := 14) (tgt := 297) (by decide +kernel) (by decide) (fun b29 => ?_) (fun b29 => ?_)
    · rw [if_pos b29] at h
      refine E_mask [true, true, true, true, false] rfl ?_
      exact lk_Reader_endMethod_j297 hγ this Q X k157 hk157 v1 v2 v3 M h
    · rw [if_neg b29] at h
      obtain ⟨c30, h⟩ := h
      refine E_blk (lv' := [some (vr (some (3, this))), some (vi v1), some (vi v2), some (vi v3), some (vi v4)]) (st' := [vi (mI M 29 this v3.toNatClampNeg), vi v2]) (M1 := M) (pc' := 293) (tb_Reader hγ) [.iload_n 2, .aload_n 0, .getfield 43, .iload_n 3, .iaload] (by decide +kernel) rfl rfl ⟨c30, trivial⟩ ?_
      refine E_callS (κ' := k_JMath_min) (As := [vi v2, vi (mI M 29 this v3.toNatClampNeg)]) (st := []) ms_JMath_min (Or.inl (tbk_mem (j := 7) (k := 36) rfl)) rfl (by decide +kernel) (Nat.le_of_ble_eq_true rfl) (Nat.le_of_ble_eq_true rfl) rfl (by decide) (lk_JMath_min hγ v2 (mI M 29 this v3.toNatClampNeg) _ M h) (fun _ _ => Qi_r) (fun v M31 hp => Qi_k (R := fun st => E γ k_Reader_endMethod 1 296 [some (vr (some (3, this))), some (vi v1), some (vi v2), some (vi v3), some (vi v4)] st M31 (Qx (9, 0) (Qv Q) X)) hp (fun r32 h => ?_))
      refine E_blk (lv' := [some (vr (some (3, this))), some (vi v1), some (vi r32), some (vi v3), some (vi v4)]) (st' := []) (M1 := M31) (pc' := 297) (tb_Reader hγ) [.istore_n 2] (by decide +kernel) rfl rfl trivial ?_
      refine E_mask [true, true, true, true, false] rfl ?_
      exact lk_Reader_endMethod_j297 hγ this Q X k157 hk157 v1 r32 v3 M31 h
  · rw [if_neg b25] at h
    refine E_mask [true, true, true, true, false] rfl ?_
    exact lk_Reader_endMethod_j297 hγ this Q X k157 hk157 v1 v2 v3 M h
set_option maxRecDepth 4096 in
theorem lk_Reader_endMethod_L157 {γ : Gm} (hγ : Gk γ) (this : Nat) (Q : Mem → Prop) (X : Mem → Prop) : ∀ (n : Nat) (v1 : Int32) (v2 : Int32) (v3 : Int32) (M : Mem), w_Reader_endMethod_L157 this Q X n v1 v2 v3 M → E γ k_Reader_endMethod 1 157 [some (vr (some (3, this))), some (vi v1), some (vi v2), some (vi v3), none] [] M (Qx (9, 0) (Qv Q) X) := by
  intro n
  induction n with
  | zero => intro v1 v2 v3 M h; exact h.elim
  | succ n ih =>
    intro v1 v2 v3 M h
    unfold w_Reader_endMethod_L157 at h
    refine E_blk (lv' := [some (vr (some (3, this))), some (vi v1), some (vi v2), some (vi v3), none]) (st' := [vi (mI M 3 this 9), vi v3]) (M1 := M) (pc' := 162) (tb_Reader hγ) [.iload_n 3, .aload_n 0, .getfield 289] (by decide +kernel) rfl rfl trivial ?_
    refine E_icmp_ge (off := 141) (tgt := 303) (by decide +kernel) (by decide) (fun b7 => ?_) (fun b7 => ?_)
    · rw [if_pos b7] at h
      refine E_blk (lv' := [some (vr (some (3, this))), some (vi v1), some (vi v2), some (vi v3), none]) (st' := [vi (2147483647 : Int32), vi v2]) (M1 := M) (pc' := 306) (tb_Reader hγ) [.iload_n 2, .ldc 218] (by decide +kernel) rfl rfl trivial ?_
      refine E_icmp_ge (off := 14) (tgt := 320) (by decide +kernel) (by decide) (fun b8 => ?_) (fun b8 => ?_)
      · rw [if_pos b8] at h
        refine E_blk (lv' := [some (vr (some (3, this))), some (vi v1), some (vi v2), some (vi v3), none]) (st' := [vi v1]) (M1 := M) (pc' := 321) (tb_Reader hγ) [.iload_n 1] (by decide +kernel) rfl rfl trivial ?_
        refine E_if_ne (off := 17) (tgt := 338) (by decide +kernel) (by decide) (fun b9 => ?_) (fun b9 => ?_)
        · rw [if_pos b9] at h
          refine E_blk (lv' := [some (vr (some (3, this))), some (vi v1), some (vi v2), some (vi v3), none]) (st' := [vi (mI M 3 this 2), vi (8 : Int32), vr (some (10, 0))]) (M1 := M) (pc' := 334) (tb_Reader hγ) [.aload_n 0, .getfield 3, .bipush 8, .aload_n 0, .getfield 113] (by decide +kernel) rfl rfl trivial ?_
          refine E_callV (κ' := k_Works_refuse) (As := [vi (8 : Int32), vi (mI M 3 this 2)]) (st := []) mv_Works_refuse (Or.inr ⟨"ClassWorks", (tbk_mem (j := 6) (k := 126) rfl)⟩) rfl (by decide +kernel) (Nat.le_of_ble_eq_true rfl) (Nat.le_of_ble_eq_true rfl) rfl (by decide) (lk_Works_refuse hγ 0 (8 : Int32) (mI M 3 this 2) _ M h) (fun _ _ => Qr_r) (fun v M10 hp => Qr_k (R := fun st => E γ k_Reader_endMethod 1 337 [some (vr (some (3, this))), some (vi v1), some (vi v2), some (vi v3), none] st M10 (Qx (9, 0) (Qv Q) X)) hp (fun i11 h => ?_))
          obtain ⟨e0, h⟩ := h
          rw [e0]
          exact E_throw (by decide) rfl (by decide +kernel) h
        · rw [if_neg b9] at h
          exact (E_vret rfl (by decide +kernel) h).nx
      · rw [if_neg b8] at h
        refine E_blk (lv' := [some (vr (some (3, this))), some (vi v1), some (vi v2), some (vi v3), none]) (st' := [vi v2, vi (10 : Int32), vr (some (10, 0))]) (M1 := M) (pc' := 316) (tb_Reader hγ) [.aload_n 0, .getfield 3, .bipush 10, .iload_n 2] (by decide +kernel) rfl rfl trivial ?_
        refine E_callV (κ' := k_Works_refuse) (As := [vi (10 : Int32), vi v2]) (st := []) mv_Works_refuse (Or.inr ⟨"ClassWorks", (tbk_mem (j := 6) (k := 126) rfl)⟩) rfl (by decide +kernel) (Nat.le_of_ble_eq_true rfl) (Nat.le_of_ble_eq_true rfl) rfl (by decide) (lk_Works_refuse hγ 0 (10 : Int32) v2 _ M h) (fun _ _ => Qr_r) (fun v M12 hp => Qr_k (R := fun st => E γ k_Reader_endMethod 1 319 [some (vr (some (3, this))), some (vi v1), some (vi v2), some (vi v3), none] st M12 (Qx (9, 0) (Qv Q) X)) hp (fun i13 h => ?_))
        obtain ⟨e0, h⟩ := h
        rw [e0]
        exact E_throw (by decide) rfl (by decide +kernel) h
    · rw [if_neg b7] at h
      obtain ⟨c14, h⟩ := h
      refine E_blk (lv' := [some (vr (some (3, this))), some (vi v1), some (vi v2), some (vi v3), none]) (st' := [vi (mI M 26 this v3.toNatClampNeg), vr (some (3, this)), vr (some (24, this))]) (M1 := M) (pc' := 176) (tb_Reader hγ) [.aload_n 0, .getfield 28, .aload_n 0, .aload_n 0, .getfield 34, .iload_n 3, .iaload] (by decide +kernel) rfl rfl ⟨c14, trivial⟩ ?_
      refine E_callV (κ' := k_Reader_told) (As := [vi (mI M 26 this v3.toNatClampNeg)]) (st := [vr (some (24, this))]) mv_Reader_told (Or.inl (tbk_mem (j := 7) (k := 32) rfl)) rfl (by decide +kernel) (Nat.le_of_ble_eq_true rfl) (Nat.le_of_ble_eq_true rfl) rfl (by decide) (lk_Reader_told hγ this (mI M 26 this v3.toNatClampNeg) _ M h) (fun _ _ => Qi_r) (fun v M15 hp => Qi_k (R := fun st => E γ k_Reader_endMethod 1 179 [some (vr (some (3, this))), some (vi v1), some (vi v2), some (vi v3), none] st M15 (Qx (9, 0) (Qv Q) X)) hp (fun r16 h => ?_))
      obtain ⟨c17, c18, h⟩ := h
      refine E_blk (lv' := [some (vr (some (3, this))), some (vi v1), some (vi v2), some (vi v3), some (vi (mI M15 24 this r16.toNatClampNeg))]) (st' := [vi (mI M15 27 this v3.toNatClampNeg)]) (M1 := M15) (pc' := 188) (tb_Reader hγ) [.iaload, .istore 4, .aload_n 0, .getfield 37, .iload_n 3, .iaload] (by decide +kernel) rfl rfl ⟨c17, c18, trivial⟩ ?_
      refine E_if_ne (off := 22) (tgt := 210) (by decide +kernel) (by decide) (fun b19 => ?_) (fun b19 => ?_)
      · rw [if_pos b19] at h
        refine E_blk (lv' := [some (vr (some (3, this))), some (vi v1), some (vi v2), some (vi v3), some (vi (mI M15 24 this r16.toNatClampNeg))]) (st' := [vr (mR M15 3 this 1)]) (M1 := M15) (pc' := 195) (tb_Reader hγ) [.aload_n 0, .getfield 52] (by decide +kernel) rfl rfl trivial ?_
        obtain ⟨i20, ei20, h⟩ := h
        rw [ei20]
        obtain ⟨c21, c22, h⟩ := h
        refine E_blk (lv' := [some (vr (some (3, this))), some (vi v1), some (vi v2), some (vi v3), some (vi (mI M15 24 this r16.toNatClampNeg))]) (st' := []) (M1 := (sI M15 67 i20 (mI M15 28 this v3.toNatClampNeg).toNatClampNeg (mI M15 24 this r16.toNatClampNeg))) (pc' := 207) (tb_Reader hγ) [.getfield 379, .aload_n 0, .getfield 40, .iload_n 3, .iaload, .iload 4, .iastore] (by decide +kernel) rfl rfl ⟨c21, c22, trivial⟩ ?_
        obtain ⟨M23, eM23, h⟩ := h
        rw [← eM23]
        refine E_goto (off := 48) (tgt := 255) (by decide +kernel) (by decide) ?_
        refine E_mask [true, true, true, true, true] rfl ?_
        exact lk_Reader_endMethod_j255 hγ this Q X (w_Reader_endMethod_L157 this Q X n) ih v1 v2 v3 (mI M15 24 this r16.toNatClampNeg) M23 h
      · rw [if_neg b19] at h
        obtain ⟨c33, h⟩ := h
        refine E_blk (lv' := [some (vr (some (3, this))), some (vi v1), some (vi v2), some (vi v3), some (vi (mI M15 24 this r16.toNatClampNeg))]) (st' := [vi (1 : Int32), vi (mI M15 27 this v3.toNatClampNeg)]) (M1 := M15) (pc' := 217) (tb_Reader hγ) [.aload_n 0, .getfield 37, .iload_n 3, .iaload, .iconst 1] (by decide +kernel) rfl rfl ⟨c33, trivial⟩ ?_
        refine E_icmp_ne (off := 22) (tgt := 239) (by decide +kernel) (by decide) (fun b34 => ?_) (fun b34 => ?_)
        · rw [if_pos b34] at h
          refine E_blk (lv' := [some (vr (some (3, this))), some (vi v1), some (vi v2), some (vi v3), some (vi (mI M15 24 this r16.toNatClampNeg))]) (st' := [vr (mR M15 3 this 1)]) (M1 := M15) (pc' := 224) (tb_Reader hγ) [.aload_n 0, .getfield 52] (by decide +kernel) rfl rfl trivial ?_
          obtain ⟨i35, ei35, h⟩ := h
          rw [ei35]
          obtain ⟨c36, c37, h⟩ := h
          refine E_blk (lv' := [some (vr (some (3, this))), some (vi v1), some (vi v2), some (vi v3), some (vi (mI M15 24 this r16.toNatClampNeg))]) (st' := []) (M1 := (sI M15 74 i35 (mI M15 28 this v3.toNatClampNeg).toNatClampNeg (mI M15 24 this r16.toNatClampNeg))) (pc' := 236) (tb_Reader hγ) [.getfield 409, .aload_n 0, .getfield 40, .iload_n 3, .iaload, .iload 4, .iastore] (by decide +kernel) rfl rfl ⟨c36, c37, trivial⟩ ?_
          obtain ⟨M38, eM38, h⟩ := h
          rw [← eM38]
          refine E_goto (off := 19) (tgt := 255) (by decide +kernel) (by decide) ?_
          refine E_mask [true, true, true, true, true] rfl ?_
          exact lk_Reader_endMethod_j255 hγ this Q X (w_Reader_endMethod_L157 this Q X n) ih v1 v2 v3 (mI M15 24 this r16.toNatClampNeg) M38 h
        · rw [if_neg b34] at h
          refine E_blk (lv' := [some (vr (some (3, this))), some (vi v1), some (vi v2), some (vi v3), some (vi (mI M15 24 this r16.toNatClampNeg))]) (st' := [vr (mR M15 3 this 1)]) (M1 := M15) (pc' := 243) (tb_Reader hγ) [.aload_n 0, .getfield 52] (by decide +kernel) rfl rfl trivial ?_
          obtain ⟨i39, ei39, h⟩ := h
          rw [ei39]
          obtain ⟨c40, c41, h⟩ := h
          refine E_blk (lv' := [some (vr (some (3, this))), some (vi v1), some (vi v2), some (vi v3), some (vi (mI M15 24 this r16.toNatClampNeg))]) (st' := []) (M1 := (sI M15 75 i39 (mI M15 28 this v3.toNatClampNeg).toNatClampNeg (mI M15 24 this r16.toNatClampNeg))) (pc' := 255) (tb_Reader hγ) [.getfield 359, .aload_n 0, .getfield 40, .iload_n 3, .iaload, .iload 4, .iastore] (by decide +kernel) rfl rfl ⟨c40, c41, trivial⟩ ?_
          obtain ⟨M42, eM42, h⟩ := h
          rw [← eM42]
          refine E_mask [true, true, true, true, true] rfl ?_
          exact lk_Reader_endMethod_j255 hγ this Q X (w_Reader_endMethod_L157 this Q X n) ih v1 v2 v3 (mI M15 24 this r16.toNatClampNeg) M42 h
set_option maxRecDepth 4096 in
theorem lk_Reader_endMethod_j138 {γ : Gm} (hγ : Gk γ) (this : Nat) (Q : Mem → Prop) (X : Mem → Prop) (v1 : Int32) (v2 : Int32) (M : Mem) (h : w_Reader_endMethod_j138 this Q X v1 v2 M) : E γ k_Reader_endMethod 1 138 [some (vr (some (3, this))), some (vi v1), some (vi v2), none, none] [] M (Qx (9, 0) (Qv Q) X) := by
  unfold w_Reader_endMethod_j138 at h
  refine E_blk (lv' := [some (vr (some (3, this))), some (vi v1), some (vi v2), none, none]) (st' := [vi (2147483647 : Int32), vi v2]) (M1 := M) (pc' := 141) (tb_Reader hγ) [.iload_n 2, .ldc 218] (by decide +kernel) rfl rfl trivial ?_
  refine E_icmp_ge (off := 14) (tgt := 155) (by decide +kernel) (by decide) (fun b6 => ?_) (fun b6 => ?_)
  · rw [if_pos b6] at h
    refine E_blk (lv' := [some (vr (some (3, this))), some (vi v1), some (vi v2), some (vi (0 : Int32)), none]) (st' := []) (M1 := M) (pc' := 157) (tb_Reader hγ) [.iconst 0, .istore_n 3] (by decide +kernel) rfl rfl trivial ?_
    obtain ⟨n43, h⟩ := h
    refine E_mask [true, true, true, true, false] rfl ?_
    exact lk_Reader_endMethod_L157 hγ this Q X n43 v1 v2 (0 : Int32) M h
  · rw [if_neg b6] at h
    refine E_blk (lv' := [some (vr (some (3, this))), some (vi v1), some (vi v2), none, none]) (st' := [vi v2, vi (9 : Int32), vr (some (10, 0))]) (M1 := M) (pc' := 151) (tb_Reader hγ) [.aload_n 0, .getfield 3, .bipush 9, .iload_n 2] (by decide +kernel) rfl rfl trivial ?_
    refine E_callV (κ' := k_Works_refuse) (As := [vi (9 : Int32), vi v2]) (st := []) mv_Works_refuse (Or.inr ⟨"ClassWorks", (tbk_mem (j := 6) (k := 126) rfl)⟩) rfl (by decide +kernel) (Nat.le_of_ble_eq_true rfl) (Nat.le_of_ble_eq_true rfl) rfl (by decide) (lk_Works_refuse hγ 0 (9 : Int32) v2 _ M h) (fun _ _ => Qr_r) (fun v M44 hp => Qr_k (R := fun st => E γ k_Reader_endMethod 1 154 [some (vr (some (3, this))), some (vi v1), some (vi v2), none, none] st M44 (Qx (9, 0) (Qv Q) X)) hp (fun i45 h => ?_))
    obtain ⟨e0, h⟩ := h
    rw [e0]
    exact E_throw (by decide) rfl (by decide +kernel) h
set_option maxRecDepth 4096 in
theorem lk_Reader_endMethod_j116 {γ : Gm} (hγ : Gk γ) (this : Nat) (Q : Mem → Prop) (X : Mem → Prop) (k59 : Int32 → Int32 → Int32 → Mem → Prop) (hk59 : ∀ (v1 : Int32) (v2 : Int32) (v3 : Int32) (M : Mem), k59 v1 v2 v3 M → E γ k_Reader_endMethod 1 59 [some (vr (some (3, this))), some (vi v1), some (vi v2), some (vi v3), none] [] M (Qx (9, 0) (Qv Q) X)) (v1 : Int32) (v2 : Int32) (v3 : Int32) (M : Mem) (h : w_Reader_endMethod_j116 this Q X k59 v1 v2 v3 M) : E γ k_Reader_endMethod 1 116 [some (vr (some (3, this))), some (vi v1), some (vi v2), some (vi v3), none] [] M (Qx (9, 0) (Qv Q) X) := by
  unfold w_Reader_endMethod_j116 at h
  refine E_blk (lv' := [some (vr (some (3, this))), some (vi v1), some (vi v2), some (vi (v3 + (1 : Int32))), none]) (st' := []) (M1 := M) (pc' := 119) (tb_Reader hγ) [.iinc 3 1] (by decide +kernel) rfl rfl trivial ?_
  refine E_goto (off := -60) (tgt := 59) (by decide +kernel) (by decide) ?_
  refine E_mask [true, true, true, true, false] rfl ?_
  exact hk59 v1 v2 (v3 + (1 : Int32)) M h
set_option maxRecDepth 4096 in
theorem lk_Reader_endMethod_j105 {γ : Gm} (hγ : Gk γ) (this : Nat) (Q : Mem → Prop) (X : Mem → Prop) (k59 : Int32 → Int32 → Int32 → Mem → Prop) (hk59 : ∀ (v1 : Int32) (v2 : Int32) (v3 : Int32) (M : Mem), k59 v1 v2 v3 M → E γ k_Reader_endMethod 1 59 [some (vr (some (3, this))), some (vi v1), some (vi v2), some (vi v3), none] [] M (Qx (9, 0) (Qv Q) X)) (v1 : Int32) (v2 : Int32) (v3 : Int32) (M : Mem) (h : w_Reader_endMethod_j105 this Q X k59 v1 v2 v3 M) : E γ k_Reader_endMethod 1 105 [some (vr (some (3, this))), some (vi v1), some (vi v2), some (vi v3), none] [] M (Qx (9, 0) (Qv Q) X) := by
  unfold w_Reader_endMethod_j105 at h
  obtain ⟨c52, h⟩ := h
  refine E_blk (lv' := [some (vr (some (3, this))), some (vi v1), some (vi v2), some (vi v3), none]) (st' := [vi (mI M 29 this v3.toNatClampNeg), vi v2]) (M1 := M) (pc' := 112) (tb_Reader hγ) [.iload_n 2, .aload_n 0, .getfield 43, .iload_n 3, .iaload] (by decide +kernel) rfl rfl ⟨c52, trivial⟩ ?_
  refine E_callS (κ' := k_JMath_min) (As := [vi v2, vi (mI M 29 this v3.toNatClampNeg)]) (st := []) ms_JMath_min (Or.inl (tbk_mem (j := 7) (k := 36) rfl)) rfl (by decide +kernel) (Nat.le_of_ble_eq_true rfl) (Nat.le_of_ble_eq_true rfl) rfl (by decide) (lk_JMath_min hγ v2 (mI M 29 this v3.toNatClampNeg) _ M h) (fun _ _ => Qi_r) (fun v M53 hp => Qi_k (R := fun st => E γ k_Reader_endMethod 1 115 [some (vr (some (3, this))), some (vi v1), some (vi v2), some (vi v3), none] st M53 (Qx (9, 0) (Qv Q) X)) hp (fun r54 h => ?_))
  refine E_blk (lv' := [some (vr (some (3, this))), some (vi v1), some (vi r54), some (vi v3), none]) (st' := []) (M1 := M53) (pc' := 116) (tb_Reader hγ) [.istore_n 2] (by decide +kernel) rfl rfl trivial ?_
  refine E_mask [true, true, true, true, false] rfl ?_
  exact lk_Reader_endMethod_j116 hγ this Q X k59 hk59 v1 r54 v3 M53 h
set_option maxRecDepth 4096 in
theorem lk_Reader_endMethod_L59 {γ : Gm} (hγ : Gk γ) (this : Nat) (Q : Mem → Prop) (X : Mem → Prop) : ∀ (n : Nat) (v1 : Int32) (v2 : Int32) (v3 : Int32) (M : Mem), w_Reader_endMethod_L59 this Q X n v1 v2 v3 M → E γ k_Reader_endMethod 1 59 [some (vr (some (3, this))), some (vi v1), some (vi v2), some (vi v3), none] [] M (Qx (9, 0) (Qv Q) X) := by
  intro n
  induction n with
  | zero => intro v1 v2 v3 M h; exact h.elim
  | succ n ih =>
    intro v1 v2 v3 M h
    unfold w_Reader_endMethod_L59 at h
    refine E_blk (lv' := [some (vr (some (3, this))), some (vi v1), some (vi v2), some (vi v3), none]) (st' := [vi (mI M 3 this 9), vi v3]) (M1 := M) (pc' := 64) (tb_Reader hγ) [.iload_n 3, .aload_n 0, .getfield 289] (by decide +kernel) rfl rfl trivial ?_
    refine E_icmp_ge (off := 58) (tgt := 122) (by decide +kernel) (by decide) (fun b4 => ?_) (fun b4 => ?_)
    · rw [if_pos b4] at h
      refine E_blk (lv' := [some (vr (some (3, this))), some (vi v1), some (vi v2), some (vi v3), none]) (st' := [vi (mI M 3 this 14)]) (M1 := M) (pc' := 126) (tb_Reader hγ) [.aload_n 0, .getfield 292] (by decide +kernel) rfl rfl trivial ?_
      refine E_if_eq (off := 12) (tgt := 138) (by decide +kernel) (by decide) (fun b5 => ?_) (fun b5 => ?_)
      · rw [if_pos b5] at h
        refine E_mask [true, true, true, false, false] rfl ?_
        exact lk_Reader_endMethod_j138 hγ this Q X v1 v2 M h
      · rw [if_neg b5] at h
        refine E_blk (lv' := [some (vr (some (3, this))), some (vi v1), some (vi v2), some (vi v3), none]) (st' := [vi (mI M 3 this 15), vi v2]) (M1 := M) (pc' := 134) (tb_Reader hγ) [.iload_n 2, .aload_n 0, .getfield 349] (by decide +kernel) rfl rfl trivial ?_
        refine E_callS (κ' := k_JMath_min) (As := [vi v2, vi (mI M 3 this 15)]) (st := []) ms_JMath_min (Or.inl (tbk_mem (j := 7) (k := 36) rfl)) rfl (by decide +kernel) (Nat.le_of_ble_eq_true rfl) (Nat.le_of_ble_eq_true rfl) rfl (by decide) (lk_JMath_min hγ v2 (mI M 3 this 15) _ M h) (fun _ _ => Qi_r) (fun v M46 hp => Qi_k (R := fun st => E γ k_Reader_endMethod 1 137 [some (vr (some (3, this))), some (vi v1), some (vi v2), some (vi v3), none] st M46 (Qx (9, 0) (Qv Q) X)) hp (fun r47 h => ?_))
        refine E_blk (lv' := [some (vr (some (3, this))), some (vi v1), some (vi r47), some (vi v3), none]) (st' := []) (M1 := M46) (pc' := 138) (tb_Reader hγ) [.istore_n 2] (by decide +kernel) rfl rfl trivial ?_
        refine E_mask [true, true, true, false, false] rfl ?_
        exact lk_Reader_endMethod_j138 hγ this Q X v1 r47 M46 h
    · rw [if_neg b4] at h
      obtain ⟨c48, h⟩ := h
      refine E_blk (lv' := [some (vr (some (3, this))), some (vi v1), some (vi v2), some (vi v3), none]) (st' := [vi (mI M 26 this v3.toNatClampNeg), vr (some (3, this))]) (M1 := M) (pc' := 74) (tb_Reader hγ) [.aload_n 0, .aload_n 0, .getfield 34, .iload_n 3, .iaload] (by decide +kernel) rfl rfl ⟨c48, trivial⟩ ?_
      refine E_callV (κ' := k_Reader_told) (As := [vi (mI M 26 this v3.toNatClampNeg)]) (st := []) mv_Reader_told (Or.inl (tbk_mem (j := 7) (k := 32) rfl)) rfl (by decide +kernel) (Nat.le_of_ble_eq_true rfl) (Nat.le_of_ble_eq_true rfl) rfl (by decide) (lk_Reader_told hγ this (mI M 26 this v3.toNatClampNeg) _ M h) (fun _ _ => Qi_r) (fun v M49 hp => Qi_k (R := fun st => E γ k_Reader_endMethod 1 77 [some (vr (some (3, this))), some (vi v1), some (vi v2), some (vi v3), none] st M49 (Qx (9, 0) (Qv Q) X)) hp (fun r50 h => ?_))
      refine E_blk (lv' := [some (vr (some (3, this))), some (vi v1), some (vi v2), some (vi v3), some (vi r50)]) (st' := [vi r50]) (M1 := M49) (pc' := 81) (tb_Reader hγ) [.istore 4, .iload 4] (by decide +kernel) rfl rfl trivial ?_
      refine E_if_lt (off := 24) (tgt := 105) (by decide +kernel) (by decide) (fun b51 => ?_) (fun b51 => ?_)
      · rw [if_pos b51] at h
        refine E_mask [true, true, true, true, false] rfl ?_
        exact lk_Reader_endMethod_j105 hγ this Q X (w_Reader_endMethod_L59 this Q X n) ih v1 v2 v3 M49 h
      · rw [if_neg b51] at h
        obtain ⟨c55, h⟩ := h
        refine E_blk (lv' := [some (vr (some (3, this))), some (vi v1), some (vi v2), some (vi v3), some (vi r50)]) (st' := [vi v1, vi (mI M49 24 this r50.toNatClampNeg)]) (M1 := M49) (pc' := 92) (tb_Reader hγ) [.aload_n 0, .getfield 28, .iload 4, .iaload, .iload_n 1] (by decide +kernel) rfl rfl ⟨c55, trivial⟩ ?_
        refine E_icmp_ne (off := 24) (tgt := 116) (by decide +kernel) (by decide) (fun b56 => ?_) (fun b56 => ?_)
        · rw [if_pos b56] at h
          obtain ⟨c57, h⟩ := h
          refine E_blk (lv' := [some (vr (some (3, this))), some (vi v1), some (vi v2), some (vi v3), some (vi r50)]) (st' := [vi (3 : Int32), vi (mI M49 27 this v3.toNatClampNeg)]) (M1 := M49) (pc' := 102) (tb_Reader hγ) [.aload_n 0, .getfield 37, .iload_n 3, .iaload, .iconst 3] (by decide +kernel) rfl rfl ⟨c57, trivial⟩ ?_
          refine E_icmp_eq (off := 14) (tgt := 116) (by decide +kernel) (by decide) (fun b58 => ?_) (fun b58 => ?_)
          · rw [if_pos b58] at h
            refine E_mask [true, true, true, true, false] rfl ?_
            exact lk_Reader_endMethod_j116 hγ this Q X (w_Reader_endMethod_L59 this Q X n) ih v1 v2 v3 M49 h
          · rw [if_neg b58] at h
            refine E_mask [true, true, true, true, false] rfl ?_
            exact lk_Reader_endMethod_j105 hγ this Q X (w_Reader_endMethod_L59 this Q X n) ih v1 v2 v3 M49 h
        · rw [if_neg b56] at h
          refine E_mask [true, true, true, true, false] rfl ?_
          exact lk_Reader_endMethod_j116 hγ this Q X (w_Reader_endMethod_L59 this Q X n) ih v1 v2 v3 M49 h
set_option maxRecDepth 4096 in
theorem lk_Reader_endMethod_j51 {γ : Gm} (hγ : Gk γ) (this : Nat) (Q : Mem → Prop) (X : Mem → Prop) (k18 : Int32 → Int32 → Int32 → Mem → Prop) (hk18 : ∀ (v1 : Int32) (v2 : Int32) (v3 : Int32) (M : Mem), k18 v1 v2 v3 M → E γ k_Reader_endMethod 1 18 [some (vr (some (3, this))), some (vi v1), some (vi v2), some (vi v3), none] [] M (Qx (9, 0) (Qv Q) X)) (v1 : Int32) (v2 : Int32) (v3 : Int32) (M : Mem) (h : w_Reader_endMethod_j51 this Q X k18 v1 v2 v3 M) : E γ k_Reader_endMethod 1 51 [some (vr (some (3, this))), some (vi v1), some (vi v2), some (vi v3), none] [] M (Qx (9, 0) (Qv Q) X) := by
  unfold w_Reader_endMethod_j51 at h
  refine E_blk (lv' := [some (vr (some (3, this))), some (vi v1), some (vi v2), some (vi (v3 + (1 : Int32))), none]) (st' := []) (M1 := M) (pc' := 54) (tb_Reader hγ) [.iinc 3 1] (by decide +kernel) rfl rfl trivial ?_
  refine E_goto (off := -36) (tgt := 18) (by decide +kernel) (by decide) ?_
  refine E_mask [true, true, true, true, false] rfl ?_
  exact hk18 v1 v2 (v3 + (1 : Int32)) M h
set_option maxRecDepth 4096 in
theorem lk_Reader_endMethod_L18 {γ : Gm} (hγ : Gk γ) (this : Nat) (Q : Mem → Prop) (X : Mem → Prop) : ∀ (n : Nat) (v1 : Int32) (v2 : Int32) (v3 : Int32) (M : Mem), w_Reader_endMethod_L18 this Q X n v1 v2 v3 M → E γ k_Reader_endMethod 1 18 [some (vr (some (3, this))), some (vi v1), some (vi v2), some (vi v3), none] [] M (Qx (9, 0) (Qv Q) X) := by
  intro n
  induction n with
  | zero => intro v1 v2 v3 M h; exact h.elim
  | succ n ih =>
    intro v1 v2 v3 M h
    unfold w_Reader_endMethod_L18 at h
    refine E_blk (lv' := [some (vr (some (3, this))), some (vi v1), some (vi v2), some (vi v3), none]) (st' := [vi (mI M 3 this 5), vi v3]) (M1 := M) (pc' := 23) (tb_Reader hγ) [.iload_n 3, .aload_n 0, .getfield 286] (by decide +kernel) rfl rfl trivial ?_
    refine E_icmp_ge (off := 34) (tgt := 57) (by decide +kernel) (by decide) (fun b3 => ?_) (fun b3 => ?_)
    · rw [if_pos b3] at h
      refine E_blk (lv' := [some (vr (some (3, this))), some (vi v1), some (vi v2), some (vi (0 : Int32)), none]) (st' := []) (M1 := M) (pc' := 59) (tb_Reader hγ) [.iconst 0, .istore_n 3] (by decide +kernel) rfl rfl trivial ?_
      obtain ⟨n59, h⟩ := h
      refine E_mask [true, true, true, true, false] rfl ?_
      exact lk_Reader_endMethod_L59 hγ this Q X n59 v1 v2 (0 : Int32) M h
    · rw [if_neg b3] at h
      obtain ⟨c60, h⟩ := h
      refine E_blk (lv' := [some (vr (some (3, this))), some (vi v1), some (vi v2), some (vi v3), none]) (st' := [vi (mI M 23 this v3.toNatClampNeg), vr (some (3, this))]) (M1 := M) (pc' := 33) (tb_Reader hγ) [.aload_n 0, .aload_n 0, .getfield 24, .iload_n 3, .iaload] (by decide +kernel) rfl rfl ⟨c60, trivial⟩ ?_
      refine E_callV (κ' := k_Reader_told) (As := [vi (mI M 23 this v3.toNatClampNeg)]) (st := []) mv_Reader_told (Or.inl (tbk_mem (j := 7) (k := 32) rfl)) rfl (by decide +kernel) (Nat.le_of_ble_eq_true rfl) (Nat.le_of_ble_eq_true rfl) rfl (by decide) (lk_Reader_told hγ this (mI M 23 this v3.toNatClampNeg) _ M h) (fun _ _ => Qi_r) (fun v M61 hp => Qi_k (R := fun st => E γ k_Reader_endMethod 1 36 [some (vr (some (3, this))), some (vi v1), some (vi v2), some (vi v3), none] st M61 (Qx (9, 0) (Qv Q) X)) hp (fun r62 h => ?_))
      refine E_blk (lv' := [some (vr (some (3, this))), some (vi v1), some (vi v2), some (vi v3), none]) (st' := [vi v3, vi r62]) (M1 := M61) (pc' := 37) (tb_Reader hγ) [.iload_n 3] (by decide +kernel) rfl rfl trivial ?_
      refine E_icmp_ge (off := 14) (tgt := 51) (by decide +kernel) (by decide) (fun b63 => ?_) (fun b63 => ?_)
      · rw [if_pos b63] at h
        refine E_mask [true, true, true, true, false] rfl ?_
        exact lk_Reader_endMethod_j51 hγ this Q X (w_Reader_endMethod_L18 this Q X n) ih v1 v2 v3 M61 h
      · rw [if_neg b63] at h
        obtain ⟨c64, h⟩ := h
        refine E_blk (lv' := [some (vr (some (3, this))), some (vi v1), some (vi v2), some (vi v3), none]) (st' := [vi (mI M61 25 this v3.toNatClampNeg), vi v2]) (M1 := M61) (pc' := 47) (tb_Reader hγ) [.iload_n 2, .aload_n 0, .getfield 31, .iload_n 3, .iaload] (by decide +kernel) rfl rfl ⟨c64, trivial⟩ ?_
        refine E_callS (κ' := k_JMath_min) (As := [vi v2, vi (mI M61 25 this v3.toNatClampNeg)]) (st := []) ms_JMath_min (Or.inl (tbk_mem (j := 7) (k := 36) rfl)) rfl (by decide +kernel) (Nat.le_of_ble_eq_true rfl) (Nat.le_of_ble_eq_true rfl) rfl (by decide) (lk_JMath_min hγ v2 (mI M61 25 this v3.toNatClampNeg) _ M61 h) (fun _ _ => Qi_r) (fun v M65 hp => Qi_k (R := fun st => E γ k_Reader_endMethod 1 50 [some (vr (some (3, this))), some (vi v1), some (vi v2), some (vi v3), none] st M65 (Qx (9, 0) (Qv Q) X)) hp (fun r66 h => ?_))
        refine E_blk (lv' := [some (vr (some (3, this))), some (vi v1), some (vi r66), some (vi v3), none]) (st' := []) (M1 := M65) (pc' := 51) (tb_Reader hγ) [.istore_n 2] (by decide +kernel) rfl rfl trivial ?_
        refine E_mask [true, true, true, true, false] rfl ?_
        exact lk_Reader_endMethod_j51 hγ this Q X (w_Reader_endMethod_L18 this Q X n) ih v1 r66 v3 M65 h
set_option maxRecDepth 4096 in
theorem lk_Reader_endMethod {γ : Gm} (hγ : Gk γ) (this : Nat) (Q : Mem → Prop) (X : Mem → Prop) (M : Mem) (h : w_Reader_endMethod this Q X M) : E γ k_Reader_endMethod 1 0 [some (vr (some (3, this))), none, none, none, none] [] M (Qx (9, 0) (Qv Q) X) := by
  unfold w_Reader_endMethod at h
  refine E_blk (lv' := [some (vr (some (3, this))), none, none, none, none]) (st' := [vr (mR M 3 this 1)]) (M1 := M) (pc' := 4) (tb_Reader hγ) [.aload_n 0, .getfield 52] (by decide +kernel) rfl rfl trivial ?_
  obtain ⟨i1, ei1, h⟩ := h
  rw [ei1]
  obtain ⟨c2, h⟩ := h
  refine E_blk (lv' := [some (vr (some (3, this))), some (vi (mI M 63 i1 (mI M 3 this 4).toNatClampNeg)), some (vi (2147483647 : Int32)), some (vi (0 : Int32)), none]) (st' := []) (M1 := M) (pc' := 18) (tb_Reader hγ) [.getfield 316, .aload_n 0, .getfield 266, .iaload, .istore_n 1, .ldc 218, .istore_n 2, .iconst 0, .istore_n 3] (by decide +kernel) rfl rfl ⟨c2, trivial⟩ ?_
  obtain ⟨n67, h⟩ := h
  refine E_mask [true, true, true, true, false] rfl ?_
  exact lk_Reader_endMethod_L18 hγ this Q X n67 (mI M 63 i1 (mI M 3 this 4).toNatClampNeg) (2147483647 : Int32) (0 : Int32) M h
def w_Reader_aMethod_L316 (this : Nat) (Q : Mem → Prop) (X : Mem → Prop) : Nat → Mem → Prop
  | 0, _ => False
  | n + 1, M => w_Reader_bodyLine this (fun r51 M50 => if r51 = 0 then (w_Reader_endMethod this (fun M53 => Q M53) X M50) else (w_Reader_needLine this (fun M54 => (w_Reader_aMethod_L316 this Q X n)  M54) X M50)) X M
def w_Reader_aMethod_j279 (this : Nat) (Q : Mem → Prop) (X : Mem → Prop) (s0 : Int32) (s1 : Int32) (s2 : Int32) (M : Mem) : Prop :=
  if (s1 + s0) ≤ s2 then (((0 : Int32) = 0 ∨ (0 : Int32) = 1) ∧ ∃ M48, M48 = (sI (sI (sI M 3 this 5 (0 : Int32)) 3 this 9 (0 : Int32)) 3 this 14 (0 : Int32)) ∧ w_Reader_needLine this (fun M49 => ∃ n55 : Nat, w_Reader_aMethod_L316 this Q X n55  M49) X M48) else (w_Works_refuse 0 (13 : Int32) (mI M 3 this 2) (fun i57 M56 => i57 = 0 ∧ X M56) M)
def w_Reader_aMethod_L134 (this : Nat) (Q : Mem → Prop) (X : Mem → Prop) : Nat → Int32 → Int32 → Mem → Prop
  | 0, _, _, _ => False
  | n + 1, v1, v4, M => if (mI M 3 this 18) ≤ v4 then (w_Reader_needLine this (fun M25 => if (v1 &&& (8 : Int32)) = 0 then (w_Words_isWord 0 (65 : Int32) (fun r28 M27 => if r28 = 0 then (w_Reader_wrong this (fun i31 M30 => i31 = 0 ∧ X M30) M27) else (w_Words_next 0 (fun M32 => ∃ i33, (mR M32 3 this 1) = some (5, i33) ∧ w_Reader_number this (0 : Int32) (20 : Int32) (fun r35 M34 => vp_in (mI M32 3 this 4) (mL M34 60 i33) ∧ ∃ i37, (mR (sI M34 60 i33 (mI M32 3 this 4).toNatClampNeg r35) 3 this 1) = some (5, i37) ∧ w_Reader_number this (0 : Int32) (20 : Int32) (fun r39 M38 => vp_in (mI (sI M34 60 i33 (mI M32 3 this 4).toNatClampNeg r35) 3 this 4) (mL M38 61 i37) ∧ ∃ M41, M41 = (sI M38 61 i37 (mI (sI M34 60 i33 (mI M32 3 this 4).toNatClampNeg r35) 3 this 4).toNatClampNeg r39) ∧ w_Reader_end this (fun M42 => ∃ i43, (mR M42 3 this 1) = some (5, i43) ∧ vp_in (mI M42 3 this 4) (mL M42 61 i43) ∧ if (v1 &&& (1 : Int32)) = 0 then (w_Reader_aMethod_j279 this Q X (1 : Int32) (mI M42 3 this 18) (mI M42 61 i43 (mI M42 3 this 4).toNatClampNeg) M42) else (w_Reader_aMethod_j279 this Q X (0 : Int32) (mI M42 3 this 18) (mI M42 61 i43 (mI M42 3 this 4).toNatClampNeg) M42)) X M41) X (sI M34 60 i33 (mI M32 3 this 4).toNatClampNeg r35)) X M32) M27)) M25) else (Q M25)) X M) else (∃ i58, (mR M 3 this 1) = some (5, i58) ∧ vp_in v4 (mL M 211 0) ∧ vp_in (((6 : Int32) * (mI M 3 this 4)) + v4) (mL M 211 (2 * i58 + 1)) ∧ ∃ M61, M61 = (sI M 211 (2 * i58 + 1) (((6 : Int32) * (mI M 3 this 4)) + v4).toNatClampNeg (mI M 211 0 v4.toNatClampNeg)) ∧ (w_Reader_aMethod_L134 this Q X n) v1 (v4 + (1 : Int32)) M61)
def w_Reader_aMethod (this : Nat) (Q : Mem → Prop) (X : Mem → Prop) (M : Mem) : Prop :=
  w_Words_next 0 (fun M1 => w_Reader_flags this (52 : Int32) (69 : Int32) (72 : Int32) (70 : Int32) (fun r3 M2 => isK (mR M2 2 0 3) ∧ if (mR M2 2 0 3) = (some (0, 100 + 0)) then (w_Words_next 0 (fun M6 => w_Reader_types this (fun M7 => w_Reader_result this (fun r9 M8 => w_Reader_end this (fun M10 => w_Reader_askMethod this r3 (mI M2 2 0 5) r9 (fun M11 => ∃ i12, (mR M11 3 this 1) = some (5, i12) ∧ w_World_addMethod i12 (mI M2 2 0 5) r3 (fun r14 M13 => ∃ i15, (mR (sI M13 3 this 4 r14) 3 this 1) = some (5, i15) ∧ vp_in (mI (sI M13 3 this 4 r14) 3 this 3) (mL (sI M13 3 this 4 r14) 44 i15) ∧ vp_in (mI (sI M13 3 this 4 r14) 3 this 3) (mL (sI M13 3 this 4 r14) 44 i15) ∧ ∃ M18, M18 = (sI (sI M13 3 this 4 r14) 44 i15 (mI (sI M13 3 this 4 r14) 3 this 3).toNatClampNeg ((mI (sI M13 3 this 4 r14) 44 i15 (mI (sI M13 3 this 4 r14) 3 this 3).toNatClampNeg) + (1 : Int32))) ∧ ∃ i19, (mR M18 3 this 1) = some (5, i19) ∧ vp_in (mI M18 3 this 4) (mL M18 59 i19) ∧ ∃ i21, (mR (sI M18 59 i19 (mI M18 3 this 4).toNatClampNeg r9) 3 this 1) = some (5, i21) ∧ vp_in (mI (sI M18 59 i19 (mI M18 3 this 4).toNatClampNeg r9) 3 this 4) (mL (sI M18 59 i19 (mI M18 3 this 4).toNatClampNeg r9) 58 i21) ∧ ∃ M23, M23 = (sI (sI M18 59 i19 (mI M18 3 this 4).toNatClampNeg r9) 58 i21 (mI (sI M18 59 i19 (mI M18 3 this 4).toNatClampNeg r9) 3 this 4).toNatClampNeg (mI (sI M18 59 i19 (mI M18 3 this 4).toNatClampNeg r9) 3 this 18)) ∧ ∃ n62 : Nat, w_Reader_aMethod_L134 this Q X n62 r3 (0 : Int32) M23) M11) X M10) X M8) X M7) X M6) M2) else (w_Reader_wrong this (fun i64 M63 => i64 = 0 ∧ X M63) M2)) M1) M
set_option maxRecDepth 4096 in
theorem lk_Reader_aMethod_L316 {γ : Gm} (hγ : Gk γ) (this : Nat) (Q : Mem → Prop) (X : Mem → Prop) : ∀ (n : Nat)  (M : Mem), w_Reader_aMethod_L316 this Q X n  M → E γ k_Reader_aMethod 11 316 [some (vr (some (3, this))), none, none, none, none] [] M (Qx (9, 0) (Qv Q) X) := by
  intro n
  induction n with
  | zero => intro  M h; exact h.elim
  | succ n ih =>
    intro  M h
    unfold w_Reader_aMethod_L316 at h
    refine E_blk (lv' := [some (vr (some (3, this))), none, none, none, none]) (st' := [vr (some (3, this))]) (M1 := M) (pc' := 317) (tb_Reader hγ) [.aload_n 0] (by decide +kernel) rfl rfl trivial ?_
    refine E_callX (κ' := k_Reader_bodyLine) (As := []) (st := []) mv_Reader_bodyLine (Or.inl (tbk_mem (j := 6) (k := 224) rfl)) rfl (by decide +kernel) (Nat.le_of_ble_eq_true rfl) (Nat.le_of_ble_eq_true rfl) rfl (by decide) rfl (lk_Reader_bodyLine hγ this _ _ M h) (fun _ _ => Qi_r) (fun _ h => h) (fun v M50 hp => Qi_k (R := fun st => E γ k_Reader_aMethod 11 320 [some (vr (some (3, this))), none, none, none, none] st M50 (Qx (9, 0) (Qv Q) X)) hp (fun r51 h => ?_))
    refine E_if_eq (off := 10) (tgt := 330) (by decide +kernel) (by decide) (fun b52 => ?_) (fun b52 => ?_)
    · rw [if_pos b52] at h
      refine E_blk (lv' := [some (vr (some (3, this))), none, none, none, none]) (st' := [vr (some (3, this))]) (M1 := M50) (pc' := 331) (tb_Reader hγ) [.aload_n 0] (by decide +kernel) rfl rfl trivial ?_
      refine E_callX (κ' := k_Reader_endMethod) (As := []) (st := []) mv_Reader_endMethod (Or.inl (tbk_mem (j := 7) (k := 28) rfl)) rfl (by decide +kernel) (Nat.le_of_ble_eq_true rfl) (Nat.le_of_ble_eq_true rfl) rfl (by decide) rfl (lk_Reader_endMethod hγ this _ _ M50 h) (fun _ _ => Qv_r) (fun _ h => h) (fun v M53 hp => Qv_k (R := fun st => E γ k_Reader_aMethod 11 334 [some (vr (some (3, this))), none, none, none, none] st M53 (Qx (9, 0) (Qv Q) X)) hp (fun h => ?_))
      exact (E_vret rfl (by decide +kernel) h).nx
    · rw [if_neg b52] at h
      refine E_blk (lv' := [some (vr (some (3, this))), none, none, none, none]) (st' := [vr (some (3, this))]) (M1 := M50) (pc' := 324) (tb_Reader hγ) [.aload_n 0] (by decide +kernel) rfl rfl trivial ?_
      refine E_callX (κ' := k_Reader_needLine) (As := []) (st := []) mv_Reader_needLine (Or.inl (tbk_mem (j := 6) (k := 160) rfl)) rfl (by decide +kernel) (Nat.le_of_ble_eq_true rfl) (Nat.le_of_ble_eq_true rfl) rfl (by decide) rfl (lk_Reader_needLine hγ this _ _ M50 h) (fun _ _ => Qv_r) (fun _ h => h) (fun v M54 hp => Qv_k (R := fun st => E γ k_Reader_aMethod 11 327 [some (vr (some (3, this))), none, none, none, none] st M54 (Qx (9, 0) (Qv Q) X)) hp (fun h => ?_))
      refine E_goto (off := -11) (tgt := 316) (by decide +kernel) (by decide) ?_
      refine E_mask [true, false, false, false, false] rfl ?_
      exact ih  M54 h
set_option maxRecDepth 4096 in
theorem lk_Reader_aMethod_j279 {γ : Gm} (hγ : Gk γ) (this : Nat) (Q : Mem → Prop) (X : Mem → Prop) (s0 : Int32) (s1 : Int32) (s2 : Int32) (M : Mem) (h : w_Reader_aMethod_j279 this Q X s0 s1 s2 M) : E γ k_Reader_aMethod 11 279 [some (vr (some (3, this))), none, none, none, none] [vi s0, vi s1, vi s2] M (Qx (9, 0) (Qv Q) X) := by
  unfold w_Reader_aMethod_j279 at h
  refine E_blk (lv' := [some (vr (some (3, this))), none, none, none, none]) (st' := [vi (s1 + s0), vi s2]) (M1 := M) (pc' := 280) (tb_Reader hγ) [.iadd] (by decide +kernel) rfl rfl trivial ?_
  refine E_icmp_ge (off := 17) (tgt := 297) (by decide +kernel) (by decide) (fun b46 => ?_) (fun b46 => ?_)
  · rw [if_pos b46] at h
    obtain ⟨c47, h⟩ := h
    refine E_blk (lv' := [some (vr (some (3, this))), none, none, none, none]) (st' := []) (M1 := (sI (sI (sI M 3 this 5 (0 : Int32)) 3 this 9 (0 : Int32)) 3 this 14 (0 : Int32))) (pc' := 312) (tb_Reader hγ) [.aload_n 0, .iconst 0, .putfield 286, .aload_n 0, .iconst 0, .putfield 289, .aload_n 0, .iconst 0, .putfield 292] (by decide +kernel) rfl rfl ⟨c47, trivial⟩ ?_
    obtain ⟨M48, eM48, h⟩ := h
    rw [← eM48]
    refine E_blk (lv' := [some (vr (some (3, this))), none, none, none, none]) (st' := [vr (some (3, this))]) (M1 := M48) (pc' := 313) (tb_Reader hγ) [.aload_n 0] (by decide +kernel) rfl rfl trivial ?_
    refine E_callX (κ' := k_Reader_needLine) (As := []) (st := []) mv_Reader_needLine (Or.inl (tbk_mem (j := 6) (k := 160) rfl)) rfl (by decide +kernel) (Nat.le_of_ble_eq_true rfl) (Nat.le_of_ble_eq_true rfl) rfl (by decide) rfl (lk_Reader_needLine hγ this _ _ M48 h) (fun _ _ => Qv_r) (fun _ h => h) (fun v M49 hp => Qv_k (R := fun st => E γ k_Reader_aMethod 11 316 [some (vr (some (3, this))), none, none, none, none] st M49 (Qx (9, 0) (Qv Q) X)) hp (fun h => ?_))
    obtain ⟨n55, h⟩ := h
    refine E_mask [true, false, false, false, false] rfl ?_
    exact lk_Reader_aMethod_L316 hγ this Q X n55  M49 h
  · rw [if_neg b46] at h
    refine E_blk (lv' := [some (vr (some (3, this))), none, none, none, none]) (st' := [vi (mI M 3 this 2), vi (13 : Int32), vr (some (10, 0))]) (M1 := M) (pc' := 293) (tb_Reader hγ) [.aload_n 0, .getfield 3, .bipush 13, .aload_n 0, .getfield 113] (by decide +kernel) rfl rfl trivial ?_
    refine E_callV (κ' := k_Works_refuse) (As := [vi (13 : Int32), vi (mI M 3 this 2)]) (st := []) mv_Works_refuse (Or.inr ⟨"ClassWorks", (tbk_mem (j := 6) (k := 126) rfl)⟩) rfl (by decide +kernel) (Nat.le_of_ble_eq_true rfl) (Nat.le_of_ble_eq_true rfl) rfl (by decide) (lk_Works_refuse hγ 0 (13 : Int32) (mI M 3 this 2) _ M h) (fun _ _ => Qr_r) (fun v M56 hp => Qr_k (R := fun st => E γ k_Reader_aMethod 11 296 [some (vr (some (3, this))), none, none, none, none] st M56 (Qx (9, 0) (Qv Q) X)) hp (fun i57 h => ?_))
    obtain ⟨e0, h⟩ := h
    rw [e0]
    exact E_throw (by decide) rfl (by decide +kernel) h
set_option maxRecDepth 4096 in
theorem lk_Reader_aMethod_L134 {γ : Gm} (hγ : Gk γ) (this : Nat) (Q : Mem → Prop) (X : Mem → Prop) : ∀ (n : Nat) (v1 : Int32) (v4 : Int32) (M : Mem), w_Reader_aMethod_L134 this Q X n v1 v4 M → E γ k_Reader_aMethod 11 134 [some (vr (some (3, this))), some (vi v1), none, none, some (vi v4)] [] M (Qx (9, 0) (Qv Q) X) := by
  intro n
  induction n with
  | zero => intro v1 v4 M h; exact h.elim
  | succ n ih =>
    intro v1 v4 M h
    unfold w_Reader_aMethod_L134 at h
    refine E_blk (lv' := [some (vr (some (3, this))), some (vi v1), none, none, some (vi v4)]) (st' := [vi (mI M 3 this 18), vi v4]) (M1 := M) (pc' := 140) (tb_Reader hγ) [.iload 4, .aload_n 0, .getfield 167] (by decide +kernel) rfl rfl trivial ?_
    refine E_icmp_ge (off := 34) (tgt := 174) (by decide +kernel) (by decide) (fun b24 => ?_) (fun b24 => ?_)
    · rw [if_pos b24] at h
      refine E_blk (lv' := [some (vr (some (3, this))), some (vi v1), none, none, some (vi v4)]) (st' := [vr (some (3, this))]) (M1 := M) (pc' := 175) (tb_Reader hγ) [.aload_n 0] (by decide +kernel) rfl rfl trivial ?_
      refine E_callX (κ' := k_Reader_needLine) (As := []) (st := []) mv_Reader_needLine (Or.inl (tbk_mem (j := 6) (k := 160) rfl)) rfl (by decide +kernel) (Nat.le_of_ble_eq_true rfl) (Nat.le_of_ble_eq_true rfl) rfl (by decide) rfl (lk_Reader_needLine hγ this _ _ M h) (fun _ _ => Qv_r) (fun _ h => h) (fun v M25 hp => Qv_k (R := fun st => E γ k_Reader_aMethod 11 178 [some (vr (some (3, this))), some (vi v1), none, none, some (vi v4)] st M25 (Qx (9, 0) (Qv Q) X)) hp (fun h => ?_))
      refine E_blk (lv' := [some (vr (some (3, this))), some (vi v1), none, none, some (vi v4)]) (st' := [vi (v1 &&& (8 : Int32))]) (M1 := M25) (pc' := 182) (tb_Reader hγ) [.iload_n 1, .bipush 8, .iand] (by decide +kernel) rfl rfl trivial ?_
      refine E_if_eq (off := 4) (tgt := 186) (by decide +kernel) (by decide) (fun b26 => ?_) (fun b26 => ?_)
      · rw [if_pos b26] at h
        refine E_blk (lv' := [some (vr (some (3, this))), some (vi v1), none, none, some (vi v4)]) (st' := [vi (65 : Int32), vr (some (2, 0))]) (M1 := M25) (pc' := 192) (tb_Reader hγ) [.aload_n 0, .getfield 20, .bipush 65] (by decide +kernel) rfl rfl trivial ?_
        refine E_callV (κ' := k_Words_isWord) (As := [vi (65 : Int32)]) (st := []) mv_Words_isWord (Or.inl (tbk_mem (j := 6) (k := 118) rfl)) rfl (by decide +kernel) (Nat.le_of_ble_eq_true rfl) (Nat.le_of_ble_eq_true rfl) rfl (by decide) (lk_Words_isWord hγ 0 (65 : Int32) _ M25 h) (fun _ _ => Qi_r) (fun v M27 hp => Qi_k (R := fun st => E γ k_Reader_aMethod 11 195 [some (vr (some (3, this))), some (vi v1), none, none, some (vi v4)] st M27 (Qx (9, 0) (Qv Q) X)) hp (fun r28 h => ?_))
        refine E_if_ne (off := 8) (tgt := 203) (by decide +kernel) (by decide) (fun b29 => ?_) (fun b29 => ?_)
        · rw [if_pos b29] at h
          refine E_blk (lv' := [some (vr (some (3, this))), some (vi v1), none, none, some (vi v4)]) (st' := [vr (some (3, this))]) (M1 := M27) (pc' := 199) (tb_Reader hγ) [.aload_n 0] (by decide +kernel) rfl rfl trivial ?_
          refine E_callV (κ' := k_Reader_wrong) (As := []) (st := []) mv_Reader_wrong (Or.inl (tbk_mem (j := 6) (k := 122) rfl)) rfl (by decide +kernel) (Nat.le_of_ble_eq_true rfl) (Nat.le_of_ble_eq_true rfl) rfl (by decide) (lk_Reader_wrong hγ this _ M27 h) (fun _ _ => Qr_r) (fun v M30 hp => Qr_k (R := fun st => E γ k_Reader_aMethod 11 202 [some (vr (some (3, this))), some (vi v1), none, none, some (vi v4)] st M30 (Qx (9, 0) (Qv Q) X)) hp (fun i31 h => ?_))
          obtain ⟨e0, h⟩ := h
          rw [e0]
          exact E_throw (by decide) rfl (by decide +kernel) h
        · rw [if_neg b29] at h
          refine E_blk (lv' := [some (vr (some (3, this))), some (vi v1), none, none, some (vi v4)]) (st' := [vr (some (2, 0))]) (M1 := M27) (pc' := 207) (tb_Reader hγ) [.aload_n 0, .getfield 20] (by decide +kernel) rfl rfl trivial ?_
          refine E_callV (κ' := k_Words_next) (As := []) (st := []) mv_Words_next (Or.inl (tbk_mem (j := 6) (k := 53) rfl)) rfl (by decide +kernel) (Nat.le_of_ble_eq_true rfl) (Nat.le_of_ble_eq_true rfl) rfl (by decide) (lk_Words_next hγ 0 _ M27 h) (fun _ _ => Qv_r) (fun v M32 hp => Qv_k (R := fun st => E γ k_Reader_aMethod 11 210 [some (vr (some (3, this))), some (vi v1), none, none, some (vi v4)] st M32 (Qx (9, 0) (Qv Q) X)) hp (fun h => ?_))
          refine E_blk (lv' := [some (vr (some (3, this))), some (vi v1), none, none, some (vi v4)]) (st' := [vr (mR M32 3 this 1)]) (M1 := M32) (pc' := 214) (tb_Reader hγ) [.aload_n 0, .getfield 52] (by decide +kernel) rfl rfl trivial ?_
          obtain ⟨i33, ei33, h⟩ := h
          rw [ei33]
          refine E_blk (lv' := [some (vr (some (3, this))), some (vi v1), none, none, some (vi v4)]) (st' := [vi (20 : Int32), vi (0 : Int32), vr (some (3, this)), vi (mI M32 3 this 4), vr (some (60, i33))]) (M1 := M32) (pc' := 225) (tb_Reader hγ) [.getfield 280, .aload_n 0, .getfield 266, .aload_n 0, .iconst 0, .bipush 20] (by decide +kernel) rfl rfl trivial ?_
          refine E_callX (κ' := k_Reader_number) (As := [vi (0 : Int32), vi (20 : Int32)]) (st := [vi (mI M32 3 this 4), vr (some (60, i33))]) mv_Reader_number (Or.inl (tbk_mem (j := 6) (k := 185) rfl)) rfl (by decide +kernel) (Nat.le_of_ble_eq_true rfl) (Nat.le_of_ble_eq_true rfl) rfl (by decide) rfl (lk_Reader_number hγ this (0 : Int32) (20 : Int32) _ _ M32 h) (fun _ _ => Qi_r) (fun _ h => h) (fun v M34 hp => Qi_k (R := fun st => E γ k_Reader_aMethod 11 228 [some (vr (some (3, this))), some (vi v1), none, none, some (vi v4)] st M34 (Qx (9, 0) (Qv Q) X)) hp (fun r35 h => ?_))
          obtain ⟨c36, h⟩ := h
          refine E_blk (lv' := [some (vr (some (3, this))), some (vi v1), none, none, some (vi v4)]) (st' := [vr (mR (sI M34 60 i33 (mI M32 3 this 4).toNatClampNeg r35) 3 this 1)]) (M1 := (sI M34 60 i33 (mI M32 3 this 4).toNatClampNeg r35)) (pc' := 233) (tb_Reader hγ) [.iastore, .aload_n 0, .getfield 52] (by decide +kernel) rfl rfl ⟨c36, trivial⟩ ?_
          obtain ⟨i37, ei37, h⟩ := h
          rw [ei37]
          refine E_blk (lv' := [some (vr (some (3, this))), some (vi v1), none, none, some (vi v4)]) (st' := [vi (20 : Int32), vi (0 : Int32), vr (some (3, this)), vi (mI (sI M34 60 i33 (mI M32 3 this 4).toNatClampNeg r35) 3 this 4), vr (some (61, i37))]) (M1 := (sI M34 60 i33 (mI M32 3 this 4).toNatClampNeg r35)) (pc' := 244) (tb_Reader hγ) [.getfield 283, .aload_n 0, .getfield 266, .aload_n 0, .iconst 0, .bipush 20] (by decide +kernel) rfl rfl trivial ?_
          refine E_callX (κ' := k_Reader_number) (As := [vi (0 : Int32), vi (20 : Int32)]) (st := [vi (mI (sI M34 60 i33 (mI M32 3 this 4).toNatClampNeg r35) 3 this 4), vr (some (61, i37))]) mv_Reader_number (Or.inl (tbk_mem (j := 6) (k := 185) rfl)) rfl (by decide +kernel) (Nat.le_of_ble_eq_true rfl) (Nat.le_of_ble_eq_true rfl) rfl (by decide) rfl (lk_Reader_number hγ this (0 : Int32) (20 : Int32) _ _ (sI M34 60 i33 (mI M32 3 this 4).toNatClampNeg r35) h) (fun _ _ => Qi_r) (fun _ h => h) (fun v M38 hp => Qi_k (R := fun st => E γ k_Reader_aMethod 11 247 [some (vr (some (3, this))), some (vi v1), none, none, some (vi v4)] st M38 (Qx (9, 0) (Qv Q) X)) hp (fun r39 h => ?_))
          obtain ⟨c40, h⟩ := h
          refine E_blk (lv' := [some (vr (some (3, this))), some (vi v1), none, none, some (vi v4)]) (st' := []) (M1 := (sI M38 61 i37 (mI (sI M34 60 i33 (mI M32 3 this 4).toNatClampNeg r35) 3 this 4).toNatClampNeg r39)) (pc' := 248) (tb_Reader hγ) [.iastore] (by decide +kernel) rfl rfl ⟨c40, trivial⟩ ?_
          obtain ⟨M41, eM41, h⟩ := h
          rw [← eM41]
          refine E_blk (lv' := [some (vr (some (3, this))), some (vi v1), none, none, some (vi v4)]) (st' := [vr (some (3, this))]) (M1 := M41) (pc' := 249) (tb_Reader hγ) [.aload_n 0] (by decide +kernel) rfl rfl trivial ?_
          refine E_callX (κ' := k_Reader_end) (As := []) (st := []) mv_Reader_end (Or.inl (tbk_mem (j := 6) (k := 191) rfl)) rfl (by decide +kernel) (Nat.le_of_ble_eq_true rfl) (Nat.le_of_ble_eq_true rfl) rfl (by decide) rfl (lk_Reader_end hγ this _ _ M41 h) (fun _ _ => Qv_r) (fun _ h => h) (fun v M42 hp => Qv_k (R := fun st => E γ k_Reader_aMethod 11 252 [some (vr (some (3, this))), some (vi v1), none, none, some (vi v4)] st M42 (Qx (9, 0) (Qv Q) X)) hp (fun h => ?_))
          refine E_blk (lv' := [some (vr (some (3, this))), some (vi v1), none, none, some (vi v4)]) (st' := [vr (mR M42 3 this 1)]) (M1 := M42) (pc' := 256) (tb_Reader hγ) [.aload_n 0, .getfield 52] (by decide +kernel) rfl rfl trivial ?_
          obtain ⟨i43, ei43, h⟩ := h
          rw [ei43]
          obtain ⟨c44, h⟩ := h
          refine E_blk (lv' := [some (vr (some (3, this))), some (vi v1), none, none, some (vi v4)]) (st' := [vi (v1 &&& (1 : Int32)), vi (mI M42 3 this 18), vi (mI M42 61 i43 (mI M42 3 this 4).toNatClampNeg)]) (M1 := M42) (pc' := 271) (tb_Reader hγ) [.getfield 283, .aload_n 0, .getfield 266, .iaload, .aload_n 0, .getfield 167, .iload_n 1, .iconst 1, .iand] (by decide +kernel) rfl rfl ⟨c44, trivial⟩ ?_
          refine E_if_eq (off := 7) (tgt := 278) (by decide +kernel) (by decide) (fun b45 => ?_) (fun b45 => ?_)
          · rw [if_pos b45] at h
            refine E_blk (lv' := [some (vr (some (3, this))), some (vi v1), none, none, some (vi v4)]) (st' := [vi (1 : Int32), vi (mI M42 3 this 18), vi (mI M42 61 i43 (mI M42 3 this 4).toNatClampNeg)]) (M1 := M42) (pc' := 279) (tb_Reader hγ) [.iconst 1] (by decide +kernel) rfl rfl trivial ?_
            refine E_mask [true, false, false, false, false] rfl ?_
            exact lk_Reader_aMethod_j279 hγ this Q X (1 : Int32) (mI M42 3 this 18) (mI M42 61 i43 (mI M42 3 this 4).toNatClampNeg) M42 h
          · rw [if_neg b45] at h
            refine E_blk (lv' := [some (vr (some (3, this))), some (vi v1), none, none, some (vi v4)]) (st' := [vi (0 : Int32), vi (mI M42 3 this 18), vi (mI M42 61 i43 (mI M42 3 this 4).toNatClampNeg)]) (M1 := M42) (pc' := 275) (tb_Reader hγ) [.iconst 0] (by decide +kernel) rfl rfl trivial ?_
            refine E_goto (off := 4) (tgt := 279) (by decide +kernel) (by decide) ?_
            refine E_mask [true, false, false, false, false] rfl ?_
            exact lk_Reader_aMethod_j279 hγ this Q X (0 : Int32) (mI M42 3 this 18) (mI M42 61 i43 (mI M42 3 this 4).toNatClampNeg) M42 h
      · rw [if_neg b26] at h
        exact (E_vret rfl (by decide +kernel) h).nx
    · rw [if_neg b24] at h
      refine E_blk (lv' := [some (vr (some (3, this))), some (vi v1), none, none, some (vi v4)]) (st' := [vr (mR M 3 this 1)]) (M1 := M) (pc' := 147) (tb_Reader hγ) [.aload_n 0, .getfield 52] (by decide +kernel) rfl rfl trivial ?_
      obtain ⟨i58, ei58, h⟩ := h
      rw [ei58]
      obtain ⟨c59, c60, h⟩ := h
      refine E_blk (lv' := [some (vr (some (3, this))), some (vi v1), none, none, some (vi v4)]) (st' := []) (M1 := (sI M 211 (2 * i58 + 1) (((6 : Int32) * (mI M 3 this 4)) + v4).toNatClampNeg (mI M 211 0 v4.toNatClampNeg))) (pc' := 168) (tb_Reader hγ) [.getfield 277, .bipush 6, .aload_n 0, .getfield 266, .imul, .iload 4, .iadd, .aload_n 0, .getfield 46, .iload 4, .iaload, .iastore] (by decide +kernel) rfl rfl ⟨c59, c60, trivial⟩ ?_
      obtain ⟨M61, eM61, h⟩ := h
      rw [← eM61]
      refine E_blk (lv' := [some (vr (some (3, this))), some (vi v1), none, none, some (vi (v4 + (1 : Int32)))]) (st' := []) (M1 := M61) (pc' := 171) (tb_Reader hγ) [.iinc 4 1] (by decide +kernel) rfl rfl trivial ?_
      refine E_goto (off := -37) (tgt := 134) (by decide +kernel) (by decide) ?_
      refine E_mask [true, true, false, false, true] rfl ?_
      exact ih v1 (v4 + (1 : Int32)) M61 h
set_option maxRecDepth 4096 in
theorem lk_Reader_aMethod {γ : Gm} (hγ : Gk γ) (this : Nat) (Q : Mem → Prop) (X : Mem → Prop) (M : Mem) (h : w_Reader_aMethod this Q X M) : E γ k_Reader_aMethod 11 0 [some (vr (some (3, this))), none, none, none, none] [] M (Qx (9, 0) (Qv Q) X) := by
  unfold w_Reader_aMethod at h
  refine E_blk (lv' := [some (vr (some (3, this))), none, none, none, none]) (st' := [vr (some (2, 0))]) (M1 := M) (pc' := 4) (tb_Reader hγ) [.aload_n 0, .getfield 20] (by decide +kernel) rfl rfl trivial ?_
  refine E_callV (κ' := k_Words_next) (As := []) (st := []) mv_Words_next (Or.inl (tbk_mem (j := 6) (k := 53) rfl)) rfl (by decide +kernel) (Nat.le_of_ble_eq_true rfl) (Nat.le_of_ble_eq_true rfl) rfl (by decide) (lk_Words_next hγ 0 _ M h) (fun _ _ => Qv_r) (fun v M1 hp => Qv_k (R := fun st => E γ k_Reader_aMethod 11 7 [some (vr (some (3, this))), none, none, none, none] st M1 (Qx (9, 0) (Qv Q) X)) hp (fun h => ?_))
  refine E_blk (lv' := [some (vr (some (3, this))), none, none, none, none]) (st' := [vi (70 : Int32), vi (72 : Int32), vi (69 : Int32), vi (52 : Int32), vr (some (3, this))]) (M1 := M1) (pc' := 16) (tb_Reader hγ) [.aload_n 0, .bipush 52, .bipush 69, .bipush 72, .bipush 70] (by decide +kernel) rfl rfl trivial ?_
  refine E_callV (κ' := k_Reader_flags) (As := [vi (52 : Int32), vi (69 : Int32), vi (72 : Int32), vi (70 : Int32)]) (st := []) mv_Reader_flags (Or.inl (tbk_mem (j := 6) (k := 114) rfl)) rfl (by decide +kernel) (Nat.le_of_ble_eq_true rfl) (Nat.le_of_ble_eq_true rfl) rfl (by decide) (lk_Reader_flags hγ this (52 : Int32) (69 : Int32) (72 : Int32) (70 : Int32) _ M1 h) (fun _ _ => Qi_r) (fun v M2 hp => Qi_k (R := fun st => E γ k_Reader_aMethod 11 19 [some (vr (some (3, this))), none, none, none, none] st M2 (Qx (9, 0) (Qv Q) X)) hp (fun r3 h => ?_))
  refine E_blk (lv' := [some (vr (some (3, this))), some (vi r3), none, none, none]) (st' := [vr (mR M2 2 0 3)]) (M1 := M2) (pc' := 27) (tb_Reader hγ) [.istore_n 1, .aload_n 0, .getfield 20, .getfield 98] (by decide +kernel) rfl rfl trivial ?_
  refine E_gets (κ := k_Reader_aMethod) (pc := 27) (j := 0) (idx := 133) (n := "NAME") hγ.2.1 rfl (tbk_mem (j := 6) (k := 134) rfl) (by decide +kernel) ?_
  obtain ⟨c5, h⟩ := h
  refine E_acmp_eq (off := 8) (tgt := 38) hγ.2.1 c5 (isK_c 0 (by decide)) (by decide +kernel) (by decide) (fun b4 => ?_) (fun b4 => ?_)
  · rw [if_pos b4] at h
    refine E_blk (lv' := [some (vr (some (3, this))), some (vi r3), some (vi (mI M2 2 0 5)), none, none]) (st' := [vr (some (2, 0))]) (M1 := M2) (pc' := 50) (tb_Reader hγ) [.aload_n 0, .getfield 20, .getfield 136, .istore_n 2, .aload_n 0, .getfield 20] (by decide +kernel) rfl rfl trivial ?_
    refine E_callV (κ' := k_Words_next) (As := []) (st := []) mv_Words_next (Or.inl (tbk_mem (j := 6) (k := 53) rfl)) rfl (by decide +kernel) (Nat.le_of_ble_eq_true rfl) (Nat.le_of_ble_eq_true rfl) rfl (by decide) (lk_Words_next hγ 0 _ M2 h) (fun _ _ => Qv_r) (fun v M6 hp => Qv_k (R := fun st => E γ k_Reader_aMethod 11 53 [some (vr (some (3, this))), some (vi r3), some (vi (mI M2 2 0 5)), none, none] st M6 (Qx (9, 0) (Qv Q) X)) hp (fun h => ?_))
    refine E_blk (lv' := [some (vr (some (3, this))), some (vi r3), some (vi (mI M2 2 0 5)), none, none]) (st' := [vr (some (3, this))]) (M1 := M6) (pc' := 54) (tb_Reader hγ) [.aload_n 0] (by decide +kernel) rfl rfl trivial ?_
    refine E_callX (κ' := k_Reader_types) (As := []) (st := []) mv_Reader_types (Or.inl (tbk_mem (j := 6) (k := 207) rfl)) rfl (by decide +kernel) (Nat.le_of_ble_eq_true rfl) (Nat.le_of_ble_eq_true rfl) rfl (by decide) rfl (lk_Reader_types hγ this _ _ M6 h) (fun _ _ => Qv_r) (fun _ h => h) (fun v M7 hp => Qv_k (R := fun st => E γ k_Reader_aMethod 11 57 [some (vr (some (3, this))), some (vi r3), some (vi (mI M2 2 0 5)), none, none] st M7 (Qx (9, 0) (Qv Q) X)) hp (fun h => ?_))
    refine E_blk (lv' := [some (vr (some (3, this))), some (vi r3), some (vi (mI M2 2 0 5)), none, none]) (st' := [vr (some (3, this))]) (M1 := M7) (pc' := 58) (tb_Reader hγ) [.aload_n 0] (by decide +kernel) rfl rfl trivial ?_
    refine E_callX (κ' := k_Reader_result) (As := []) (st := []) mv_Reader_result (Or.inl (tbk_mem (j := 6) (k := 211) rfl)) rfl (by decide +kernel) (Nat.le_of_ble_eq_true rfl) (Nat.le_of_ble_eq_true rfl) rfl (by decide) rfl (lk_Reader_result hγ this _ _ M7 h) (fun _ _ => Qi_r) (fun _ h => h) (fun v M8 hp => Qi_k (R := fun st => E γ k_Reader_aMethod 11 61 [some (vr (some (3, this))), some (vi r3), some (vi (mI M2 2 0 5)), none, none] st M8 (Qx (9, 0) (Qv Q) X)) hp (fun r9 h => ?_))
    refine E_blk (lv' := [some (vr (some (3, this))), some (vi r3), some (vi (mI M2 2 0 5)), some (vi r9), none]) (st' := [vr (some (3, this))]) (M1 := M8) (pc' := 63) (tb_Reader hγ) [.istore_n 3, .aload_n 0] (by decide +kernel) rfl rfl trivial ?_
    refine E_callX (κ' := k_Reader_end) (As := []) (st := []) mv_Reader_end (Or.inl (tbk_mem (j := 6) (k := 191) rfl)) rfl (by decide +kernel) (Nat.le_of_ble_eq_true rfl) (Nat.le_of_ble_eq_true rfl) rfl (by decide) rfl (lk_Reader_end hγ this _ _ M8 h) (fun _ _ => Qv_r) (fun _ h => h) (fun v M10 hp => Qv_k (R := fun st => E γ k_Reader_aMethod 11 66 [some (vr (some (3, this))), some (vi r3), some (vi (mI M2 2 0 5)), some (vi r9), none] st M10 (Qx (9, 0) (Qv Q) X)) hp (fun h => ?_))
    refine E_blk (lv' := [some (vr (some (3, this))), some (vi r3), some (vi (mI M2 2 0 5)), some (vi r9), none]) (st' := [vi r9, vi (mI M2 2 0 5), vi r3, vr (some (3, this))]) (M1 := M10) (pc' := 70) (tb_Reader hγ) [.aload_n 0, .iload_n 1, .iload_n 2, .iload_n 3] (by decide +kernel) rfl rfl trivial ?_
    refine E_callX (κ' := k_Reader_askMethod) (As := [vi r3, vi (mI M2 2 0 5), vi r9]) (st := []) mv_Reader_askMethod (Or.inl (tbk_mem (j := 6) (k := 215) rfl)) rfl (by decide +kernel) (Nat.le_of_ble_eq_true rfl) (Nat.le_of_ble_eq_true rfl) rfl (by decide) rfl (lk_Reader_askMethod hγ this r3 (mI M2 2 0 5) r9 _ _ M10 h) (fun _ _ => Qv_r) (fun _ h => h) (fun v M11 hp => Qv_k (R := fun st => E γ k_Reader_aMethod 11 73 [some (vr (some (3, this))), some (vi r3), some (vi (mI M2 2 0 5)), some (vi r9), none] st M11 (Qx (9, 0) (Qv Q) X)) hp (fun h => ?_))
    refine E_blk (lv' := [some (vr (some (3, this))), some (vi r3), some (vi (mI M2 2 0 5)), some (vi r9), none]) (st' := [vr (mR M11 3 this 1), vr (some (3, this))]) (M1 := M11) (pc' := 78) (tb_Reader hγ) [.aload_n 0, .aload_n 0, .getfield 52] (by decide +kernel) rfl rfl trivial ?_
    obtain ⟨i12, ei12, h⟩ := h
    rw [ei12]
    refine E_blk (lv' := [some (vr (some (3, this))), some (vi r3), some (vi (mI M2 2 0 5)), some (vi r9), none]) (st' := [vi r3, vi (mI M2 2 0 5), vr (some (5, i12)), vr (some (3, this))]) (M1 := M11) (pc' := 80) (tb_Reader hγ) [.iload_n 2, .iload_n 1] (by decide +kernel) rfl rfl trivial ?_
    refine E_callV (κ' := k_World_addMethod) (As := [vi (mI M2 2 0 5), vi r3]) (st := [vr (some (3, this))]) mv_World_addMethod (Or.inl (tbk_mem (j := 6) (k := 223) rfl)) rfl (by decide +kernel) (Nat.le_of_ble_eq_true rfl) (Nat.le_of_ble_eq_true rfl) rfl (by decide) (lk_World_addMethod hγ i12 (mI M2 2 0 5) r3 _ M11 h) (fun _ _ => Qi_r) (fun v M13 hp => Qi_k (R := fun st => E γ k_Reader_aMethod 11 83 [some (vr (some (3, this))), some (vi r3), some (vi (mI M2 2 0 5)), some (vi r9), none] st M13 (Qx (9, 0) (Qv Q) X)) hp (fun r14 h => ?_))
    refine E_blk (lv' := [some (vr (some (3, this))), some (vi r3), some (vi (mI M2 2 0 5)), some (vi r9), none]) (st' := [vr (mR (sI M13 3 this 4 r14) 3 this 1)]) (M1 := (sI M13 3 this 4 r14)) (pc' := 90) (tb_Reader hγ) [.putfield 266, .aload_n 0, .getfield 52] (by decide +kernel) rfl rfl trivial ?_
    obtain ⟨i15, ei15, h⟩ := h
    rw [ei15]
    obtain ⟨c16, c17, h⟩ := h
    refine E_blk (lv' := [some (vr (some (3, this))), some (vi r3), some (vi (mI M2 2 0 5)), some (vi r9), none]) (st' := []) (M1 := (sI (sI M13 3 this 4 r14) 44 i15 (mI (sI M13 3 this 4 r14) 3 this 3).toNatClampNeg ((mI (sI M13 3 this 4 r14) 44 i15 (mI (sI M13 3 this 4 r14) 3 this 3).toNatClampNeg) + (1 : Int32)))) (pc' := 102) (tb_Reader hγ) [.getfield 269, .aload_n 0, .getfield 188, .dup2, .iaload, .iconst 1, .iadd, .iastore] (by decide +kernel) rfl rfl ⟨c16, c17, trivial⟩ ?_
    obtain ⟨M18, eM18, h⟩ := h
    rw [← eM18]
    refine E_blk (lv' := [some (vr (some (3, this))), some (vi r3), some (vi (mI M2 2 0 5)), some (vi r9), none]) (st' := [vr (mR M18 3 this 1)]) (M1 := M18) (pc' := 106) (tb_Reader hγ) [.aload_n 0, .getfield 52] (by decide +kernel) rfl rfl trivial ?_
    obtain ⟨i19, ei19, h⟩ := h
    rw [ei19]
    obtain ⟨c20, h⟩ := h
    refine E_blk (lv' := [some (vr (some (3, this))), some (vi r3), some (vi (mI M2 2 0 5)), some (vi r9), none]) (st' := [vr (mR (sI M18 59 i19 (mI M18 3 this 4).toNatClampNeg r9) 3 this 1)]) (M1 := (sI M18 59 i19 (mI M18 3 this 4).toNatClampNeg r9)) (pc' := 119) (tb_Reader hγ) [.getfield 272, .aload_n 0, .getfield 266, .iload_n 3, .iastore, .aload_n 0, .getfield 52] (by decide +kernel) rfl rfl ⟨c20, trivial⟩ ?_
    obtain ⟨i21, ei21, h⟩ := h
    rw [ei21]
    obtain ⟨c22, h⟩ := h
    refine E_blk (lv' := [some (vr (some (3, this))), some (vi r3), some (vi (mI M2 2 0 5)), some (vi r9), none]) (st' := []) (M1 := (sI (sI M18 59 i19 (mI M18 3 this 4).toNatClampNeg r9) 58 i21 (mI (sI M18 59 i19 (mI M18 3 this 4).toNatClampNeg r9) 3 this 4).toNatClampNeg (mI (sI M18 59 i19 (mI M18 3 this 4).toNatClampNeg r9) 3 this 18))) (pc' := 131) (tb_Reader hγ) [.getfield 274, .aload_n 0, .getfield 266, .aload_n 0, .getfield 167, .iastore] (by decide +kernel) rfl rfl ⟨c22, trivial⟩ ?_
    obtain ⟨M23, eM23, h⟩ := h
    rw [← eM23]
    refine E_blk (lv' := [some (vr (some (3, this))), some (vi r3), some (vi (mI M2 2 0 5)), some (vi r9), some (vi (0 : Int32))]) (st' := []) (M1 := M23) (pc' := 134) (tb_Reader hγ) [.iconst 0, .istore 4] (by decide +kernel) rfl rfl trivial ?_
    obtain ⟨n62, h⟩ := h
    refine E_mask [true, true, false, false, true] rfl ?_
    exact lk_Reader_aMethod_L134 hγ this Q X n62 r3 (0 : Int32) M23 h
  · rw [if_neg b4] at h
    refine E_blk (lv' := [some (vr (some (3, this))), some (vi r3), none, none, none]) (st' := [vr (some (3, this))]) (M1 := M2) (pc' := 34) (tb_Reader hγ) [.aload_n 0] (by decide +kernel) rfl rfl trivial ?_
    refine E_callV (κ' := k_Reader_wrong) (As := []) (st := []) mv_Reader_wrong (Or.inl (tbk_mem (j := 6) (k := 122) rfl)) rfl (by decide +kernel) (Nat.le_of_ble_eq_true rfl) (Nat.le_of_ble_eq_true rfl) rfl (by decide) (lk_Reader_wrong hγ this _ M2 h) (fun _ _ => Qr_r) (fun v M63 hp => Qr_k (R := fun st => E γ k_Reader_aMethod 11 37 [some (vr (some (3, this))), some (vi r3), none, none, none] st M63 (Qx (9, 0) (Qv Q) X)) hp (fun i64 h => ?_))
    obtain ⟨e0, h⟩ := h
    rw [e0]
    exact E_throw (by decide) rfl (by decide +kernel) h
def w_Reader_aClass_j338 (this : Nat) (Q : Int32 → Mem → Prop) (X : Mem → Prop)  (M : Mem) : Prop :=
  w_Works_refuse 0 (12 : Int32) (mI M 3 this 2) (fun i30 M29 => i30 = 0 ∧ X M29) M
def w_Reader_aClass_L437 (this : Nat) (Q : Int32 → Mem → Prop) (X : Mem → Prop) : Nat → Mem → Prop
  | 0, _ => False
  | n + 1, M => w_Words_isWord 0 (68 : Int32) (fun r43 M42 => if r43 = 0 then (w_Words_isWord 0 (63 : Int32) (fun r46 M45 => if r46 = 0 then (w_Words_isWord 0 (64 : Int32) (fun r49 M48 => if r49 = 0 then (w_Reader_wrong this (fun i52 M51 => i52 = 0 ∧ X M51) M48) else (w_Reader_aMethod this (fun M53 => (w_Reader_aClass_L437 this Q X n)  M53) X M48)) M45) else (w_Reader_field this (fun M54 => w_Reader_needLine this (fun M55 => (w_Reader_aClass_L437 this Q X n)  M55) X M54) X M45)) M42) else (w_Words_next 0 (fun M56 => w_Reader_end this (fun M57 => w_Reader_nextLine this (fun r59 M58 => (r59 = 0 ∨ r59 = 1) ∧ Q r59 M58) M57) X M56) M42)) M
def w_Reader_aClass_L392 (this : Nat) (Q : Int32 → Mem → Prop) (X : Mem → Prop) : Nat → Int32 → Mem → Prop
  | 0, _, _ => False
  | n + 1, v5, M => if (mI M 3 this 18) ≤ v5 then (w_Reader_needLine this (fun M41 => ∃ n60 : Nat, w_Reader_aClass_L437 this Q X n60  M41) X M) else (∃ i61, (mR M 3 this 1) = some (5, i61) ∧ vp_in v5 (mL M 211 0) ∧ vp_in ((((4 : Int32) * (mI M 3 this 3)) + v5) - (1 : Int32)) (mL M 38 i61) ∧ ∃ M64, M64 = (sI M 38 i61 ((((4 : Int32) * (mI M 3 this 3)) + v5) - (1 : Int32)).toNatClampNeg (mI M 211 0 v5.toNatClampNeg)) ∧ (w_Reader_aClass_L392 this Q X n) (v5 + (1 : Int32)) M64)
def w_Reader_aClass_j284 (this : Nat) (Q : Int32 → Mem → Prop) (X : Mem → Prop) (k223 : Int32 → Int32 → Int32 → Mem → Prop) (k253 : Int32 → Int32 → Int32 → Int32 → Int32 → Mem → Prop) (v1 : Int32) (v2 : Int32) (v5 : Int32) (v7 : Int32) (s0 : Int32) (s1 : Int32) (M : Mem) : Prop :=
  k253 v1 v2 v5 (s1 ||| s0) (v7 + (1 : Int32)) M
def w_Reader_aClass_L253 (this : Nat) (Q : Int32 → Mem → Prop) (X : Mem → Prop) (k223 : Int32 → Int32 → Int32 → Mem → Prop) : Nat → Int32 → Int32 → Int32 → Int32 → Int32 → Mem → Prop
  | 0, _, _, _, _, _, _ => False
  | n + 1, v1, v2, v5, v6, v7, M => if v5 ≤ v7 then (if v6 = 0 then (k223 v1 v2 (v5 + (1 : Int32)) M) else (w_Works_refuse 0 (11 : Int32) (mI M 3 this 2) (fun i71 M70 => i71 = 0 ∧ X M70) M)) else (vp_in v7 (mL M 211 0) ∧ vp_in v5 (mL M 211 0) ∧ if (mI M 211 0 v7.toNatClampNeg) = (mI M 211 0 v5.toNatClampNeg) then (w_Reader_aClass_j284 this Q X k223 (w_Reader_aClass_L253 this Q X k223 n) v1 v2 v5 v7 (1 : Int32) v6 M) else (w_Reader_aClass_j284 this Q X k223 (w_Reader_aClass_L253 this Q X k223 n) v1 v2 v5 v7 (0 : Int32) v6 M))
def w_Reader_aClass_j248 (this : Nat) (Q : Int32 → Mem → Prop) (X : Mem → Prop) (k223 : Int32 → Int32 → Int32 → Mem → Prop) (v1 : Int32) (v2 : Int32) (v5 : Int32) (s0 : Int32) (M : Mem) : Prop :=
  ∃ n75 : Nat, w_Reader_aClass_L253 this Q X k223 n75 v1 v2 v5 s0 (0 : Int32) M
def w_Reader_aClass_L223 (this : Nat) (Q : Int32 → Mem → Prop) (X : Mem → Prop) : Nat → Int32 → Int32 → Int32 → Mem → Prop
  | 0, _, _, _, _ => False
  | n + 1, v1, v2, v5, M => if (mI M 3 this 18) ≤ v5 then (if (5 : Int32) < (mI M 3 this 18) then (w_Reader_aClass_j338 this Q X  M) else (∃ i31, (mR M 3 this 1) = some (5, i31) ∧ if (mI M 5 i31 2) = (51 : Int32) then (w_Reader_aClass_j338 this Q X  M) else (∃ i33, (mR M 3 this 1) = some (5, i33) ∧ vp_in (0 : Int32) (mL M 211 0) ∧ w_World_addClass i33 v2 (mI M 211 0 (0 : Int32).toNatClampNeg) v1 (fun r36 M35 => ∃ i37, (mR (sI M35 3 this 3 r36) 3 this 1) = some (5, i37) ∧ vp_in (mI (sI M35 3 this 3 r36) 3 this 3) (mL (sI M35 3 this 3 r36) 39 i37) ∧ ∃ M39, M39 = (sI (sI M35 3 this 3 r36) 39 i37 (mI (sI M35 3 this 3 r36) 3 this 3).toNatClampNeg ((mI (sI M35 3 this 3 r36) 3 this 18) - (1 : Int32))) ∧ ∃ n65 : Nat, w_Reader_aClass_L392 this Q X n65 (1 : Int32) M39) M))) else (vp_in v5 (mL M 211 0) ∧ if (mI M 211 0 v5.toNatClampNeg) = v2 then (w_Reader_aClass_j248 this Q X (w_Reader_aClass_L223 this Q X n) v1 v2 v5 (1 : Int32) M) else (w_Reader_aClass_j248 this Q X (w_Reader_aClass_L223 this Q X n) v1 v2 v5 (0 : Int32) M))
def w_Reader_aClass_j220 (this : Nat) (Q : Int32 → Mem → Prop) (X : Mem → Prop) (v1 : Int32) (v2 : Int32) (M : Mem) : Prop :=
  ∃ n76 : Nat, w_Reader_aClass_L223 this Q X n76 v1 v2 (0 : Int32) M
def w_Reader_aClass_j189 (this : Nat) (Q : Int32 → Mem → Prop) (X : Mem → Prop) (v1 : Int32) (v2 : Int32) (s0 : Int32) (M : Mem) : Prop :=
  if s0 = 0 then (w_Reader_aClass_j220 this Q X v1 v2 M) else (∃ i77, (mR M 3 this 1) = some (5, i77) ∧ w_World_asks i77 (4 : Int32) (fun r79 M78 => if r79 = 0 then (w_Reader_aClass_j220 this Q X v1 v2 M78) else (w_Works_refuse 0 (4 : Int32) (mI M78 3 this 2) (fun i82 M81 => i82 = 0 ∧ X M81) M78)) M)
def w_Reader_aClass_j188 (this : Nat) (Q : Int32 → Mem → Prop) (X : Mem → Prop) (v1 : Int32) (v2 : Int32) (M : Mem) : Prop :=
  w_Reader_aClass_j189 this Q X v1 v2 (0 : Int32) M
def w_Reader_aClass_j184 (this : Nat) (Q : Int32 → Mem → Prop) (X : Mem → Prop) (v1 : Int32) (v2 : Int32) (M : Mem) : Prop :=
  w_Reader_aClass_j189 this Q X v1 v2 (1 : Int32) M
def w_Reader_aClass_j169 (this : Nat) (Q : Int32 → Mem → Prop) (X : Mem → Prop) (v1 : Int32) (v2 : Int32) (v3 : Int32) (M : Mem) : Prop :=
  if v3 = 0 then (w_Reader_aClass_j188 this Q X v1 v2 M) else (vp_in (0 : Int32) (mL M 211 0) ∧ if (mI M 211 0 (0 : Int32).toNatClampNeg) = (81 : Int32) then (w_Reader_aClass_j188 this Q X v1 v2 M) else (w_Reader_aClass_j184 this Q X v1 v2 M))
def w_Reader_aClass_j159 (this : Nat) (Q : Int32 → Mem → Prop) (X : Mem → Prop) (v1 : Int32) (v2 : Int32) (v3 : Int32) (M : Mem) : Prop :=
  if v3 = 0 then (w_Reader_aClass_j169 this Q X v1 v2 v3 M) else (if (v1 &&& (2 : Int32)) = 0 then (w_Reader_aClass_j169 this Q X v1 v2 v3 M) else (w_Reader_aClass_j184 this Q X v1 v2 M))
def w_Reader_aClass_j147 (this : Nat) (Q : Int32 → Mem → Prop) (X : Mem → Prop) (v1 : Int32) (v2 : Int32) (s0 : Int32) (M : Mem) : Prop :=
  if (v1 &&& (1 : Int32)) = 0 then (w_Reader_aClass_j159 this Q X v1 v2 s0 M) else (if v1 = (1 : Int32) then (w_Reader_aClass_j159 this Q X v1 v2 s0 M) else (w_Reader_aClass_j184 this Q X v1 v2 M))
def w_Reader_aClass_L67 (this : Nat) (Q : Int32 → Mem → Prop) (X : Mem → Prop) : Nat → Int32 → Int32 → Mem → Prop
  | 0, _, _, _ => False
  | n + 1, v1, v2, M => isK (mR M 2 0 3) ∧ if (mR M 2 0 3) = (some (0, 100 + 3)) then (∃ i18, (mR M 3 this 1) = some (5, i18) ∧ w_World_find i18 v2 (fun r20 M19 => if r20 < 0 then (if (v1 &&& (4 : Int32)) = 0 then (w_Reader_aClass_j147 this Q X v1 v2 (0 : Int32) M19) else (w_Reader_aClass_j147 this Q X v1 v2 (1 : Int32) M19)) else (w_Works_refuse 0 (2 : Int32) (mI M19 3 this 2) (fun i88 M87 => i88 = 0 ∧ X M87) M19)) M) else (w_Reader_sign this (44 : Int32) (fun M89 => w_Reader_className this (fun r91 M90 => vp_in (mI M89 3 this 18) (mL M90 211 0) ∧ ∃ M93, M93 = (sI (sI M90 211 0 (mI M89 3 this 18).toNatClampNeg r91) 3 this 18 ((mI (sI M90 211 0 (mI M89 3 this 18).toNatClampNeg r91) 3 this 18) + (1 : Int32))) ∧ (w_Reader_aClass_L67 this Q X n) v1 v2 M93) X M89) X M)
def w_Reader_aClass (this : Nat) (Q : Int32 → Mem → Prop) (X : Mem → Prop) (M : Mem) : Prop :=
  w_Reader_flags this (69 : Int32) (70 : Int32) (71 : Int32) (-1 : Int32) (fun r2 M1 => w_Words_isWord 0 (62 : Int32) (fun r4 M3 => if r4 = 0 then (w_Reader_wrong this (fun i7 M6 => i7 = 0 ∧ X M6) M3) else (w_Words_next 0 (fun M8 => w_Reader_className this (fun r10 M9 => w_Reader_sign this (58 : Int32) (fun M11 => w_Reader_className this (fun r13 M12 => vp_in (0 : Int32) (mL M12 211 0) ∧ ∃ M15, M15 = (sI (sI M12 211 0 (0 : Int32).toNatClampNeg r13) 3 this 18 (1 : Int32)) ∧ ∃ n94 : Nat, w_Reader_aClass_L67 this Q X n94 r2 r10 M15) X (sI M11 3 this 18 (0 : Int32))) X M9) X M8) M3)) M1) M
set_option maxRecDepth 4096 in
theorem lk_Reader_aClass_j338 {γ : Gm} (hγ : Gk γ) (this : Nat) (Q : Int32 → Mem → Prop) (X : Mem → Prop)  (M : Mem) (h : w_Reader_aClass_j338 this Q X  M) : E γ k_Reader_aClass 12 338 [some (vr (some (3, this))), none, none, none, none, none, none, none] [] M (Qx (9, 0) (Qi Q) X) := by
  unfold w_Reader_aClass_j338 at h
  refine E_blk (lv' := [some (vr (some (3, this))), none, none, none, none, none, none, none]) (st' := [vi (mI M 3 this 2), vi (12 : Int32), vr (some (10, 0))]) (M1 := M) (pc' := 348) (tb_Reader hγ) [.aload_n 0, .getfield 3, .bipush 12, .aload_n 0, .getfield 113] (by decide +kernel) rfl rfl trivial ?_
  refine E_callV (κ' := k_Works_refuse) (As := [vi (12 : Int32), vi (mI M 3 this 2)]) (st := []) mv_Works_refuse (Or.inr ⟨"ClassWorks", (tbk_mem (j := 6) (k := 126) rfl)⟩) rfl (by decide +kernel) (Nat.le_of_ble_eq_true rfl) (Nat.le_of_ble_eq_true rfl) rfl (by decide) (lk_Works_refuse hγ 0 (12 : Int32) (mI M 3 this 2) _ M h) (fun _ _ => Qr_r) (fun v M29 hp => Qr_k (R := fun st => E γ k_Reader_aClass 12 351 [some (vr (some (3, this))), none, none, none, none, none, none, none] st M29 (Qx (9, 0) (Qi Q) X)) hp (fun i30 h => ?_))
  obtain ⟨e0, h⟩ := h
  rw [e0]
  exact E_throw (by decide) rfl (by decide +kernel) h
set_option maxRecDepth 4096 in
theorem lk_Reader_aClass_L437 {γ : Gm} (hγ : Gk γ) (this : Nat) (Q : Int32 → Mem → Prop) (X : Mem → Prop) : ∀ (n : Nat)  (M : Mem), w_Reader_aClass_L437 this Q X n  M → E γ k_Reader_aClass 12 437 [some (vr (some (3, this))), none, none, none, none, none, none, none] [] M (Qx (9, 0) (Qi Q) X) := by
  intro n
  induction n with
  | zero => intro  M h; exact h.elim
  | succ n ih =>
    intro  M h
    unfold w_Reader_aClass_L437 at h
    refine E_blk (lv' := [some (vr (some (3, this))), none, none, none, none, none, none, none]) (st' := [vi (68 : Int32), vr (some (2, 0))]) (M1 := M) (pc' := 443) (tb_Reader hγ) [.aload_n 0, .getfield 20, .bipush 68] (by decide +kernel) rfl rfl trivial ?_
    refine E_callV (κ' := k_Words_isWord) (As := [vi (68 : Int32)]) (st := []) mv_Words_isWord (Or.inl (tbk_mem (j := 6) (k := 118) rfl)) rfl (by decide +kernel) (Nat.le_of_ble_eq_true rfl) (Nat.le_of_ble_eq_true rfl) rfl (by decide) (lk_Words_isWord hγ 0 (68 : Int32) _ M h) (fun _ _ => Qi_r) (fun v M42 hp => Qi_k (R := fun st => E γ k_Reader_aClass 12 446 [some (vr (some (3, this))), none, none, none, none, none, none, none] st M42 (Qx (9, 0) (Qi Q) X)) hp (fun r43 h => ?_))
    refine E_if_ne (off := 50) (tgt := 496) (by decide +kernel) (by decide) (fun b44 => ?_) (fun b44 => ?_)
    · rw [if_pos b44] at h
      refine E_blk (lv' := [some (vr (some (3, this))), none, none, none, none, none, none, none]) (st' := [vi (63 : Int32), vr (some (2, 0))]) (M1 := M42) (pc' := 455) (tb_Reader hγ) [.aload_n 0, .getfield 20, .bipush 63] (by decide +kernel) rfl rfl trivial ?_
      refine E_callV (κ' := k_Words_isWord) (As := [vi (63 : Int32)]) (st := []) mv_Words_isWord (Or.inl (tbk_mem (j := 6) (k := 118) rfl)) rfl (by decide +kernel) (Nat.le_of_ble_eq_true rfl) (Nat.le_of_ble_eq_true rfl) rfl (by decide) (lk_Words_isWord hγ 0 (63 : Int32) _ M42 h) (fun _ _ => Qi_r) (fun v M45 hp => Qi_k (R := fun st => E γ k_Reader_aClass 12 458 [some (vr (some (3, this))), none, none, none, none, none, none, none] st M45 (Qx (9, 0) (Qi Q) X)) hp (fun r46 h => ?_))
      refine E_if_eq (off := 14) (tgt := 472) (by decide +kernel) (by decide) (fun b47 => ?_) (fun b47 => ?_)
      · rw [if_pos b47] at h
        refine E_blk (lv' := [some (vr (some (3, this))), none, none, none, none, none, none, none]) (st' := [vi (64 : Int32), vr (some (2, 0))]) (M1 := M45) (pc' := 478) (tb_Reader hγ) [.aload_n 0, .getfield 20, .bipush 64] (by decide +kernel) rfl rfl trivial ?_
        refine E_callV (κ' := k_Words_isWord) (As := [vi (64 : Int32)]) (st := []) mv_Words_isWord (Or.inl (tbk_mem (j := 6) (k := 118) rfl)) rfl (by decide +kernel) (Nat.le_of_ble_eq_true rfl) (Nat.le_of_ble_eq_true rfl) rfl (by decide) (lk_Words_isWord hγ 0 (64 : Int32) _ M45 h) (fun _ _ => Qi_r) (fun v M48 hp => Qi_k (R := fun st => E γ k_Reader_aClass 12 481 [some (vr (some (3, this))), none, none, none, none, none, none, none] st M48 (Qx (9, 0) (Qi Q) X)) hp (fun r49 h => ?_))
        refine E_if_eq (off := 10) (tgt := 491) (by decide +kernel) (by decide) (fun b50 => ?_) (fun b50 => ?_)
        · rw [if_pos b50] at h
          refine E_blk (lv' := [some (vr (some (3, this))), none, none, none, none, none, none, none]) (st' := [vr (some (3, this))]) (M1 := M48) (pc' := 492) (tb_Reader hγ) [.aload_n 0] (by decide +kernel) rfl rfl trivial ?_
          refine E_callV (κ' := k_Reader_wrong) (As := []) (st := []) mv_Reader_wrong (Or.inl (tbk_mem (j := 6) (k := 122) rfl)) rfl (by decide +kernel) (Nat.le_of_ble_eq_true rfl) (Nat.le_of_ble_eq_true rfl) rfl (by decide) (lk_Reader_wrong hγ this _ M48 h) (fun _ _ => Qr_r) (fun v M51 hp => Qr_k (R := fun st => E γ k_Reader_aClass 12 495 [some (vr (some (3, this))), none, none, none, none, none, none, none] st M51 (Qx (9, 0) (Qi Q) X)) hp (fun i52 h => ?_))
          obtain ⟨e0, h⟩ := h
          rw [e0]
          exact E_throw (by decide) rfl (by decide +kernel) h
        · rw [if_neg b50] at h
          refine E_blk (lv' := [some (vr (some (3, this))), none, none, none, none, none, none, none]) (st' := [vr (some (3, this))]) (M1 := M48) (pc' := 485) (tb_Reader hγ) [.aload_n 0] (by decide +kernel) rfl rfl trivial ?_
          refine E_callX (κ' := k_Reader_aMethod) (As := []) (st := []) mv_Reader_aMethod (Or.inl (tbk_mem (j := 6) (k := 203) rfl)) rfl (by decide +kernel) (Nat.le_of_ble_eq_true rfl) (Nat.le_of_ble_eq_true rfl) rfl (by decide) rfl (lk_Reader_aMethod hγ this _ _ M48 h) (fun _ _ => Qv_r) (fun _ h => h) (fun v M53 hp => Qv_k (R := fun st => E γ k_Reader_aClass 12 488 [some (vr (some (3, this))), none, none, none, none, none, none, none] st M53 (Qx (9, 0) (Qi Q) X)) hp (fun h => ?_))
          refine E_goto (off := -51) (tgt := 437) (by decide +kernel) (by decide) ?_
          refine E_mask [true, false, false, false, false, false, false, false] rfl ?_
          exact ih  M53 h
      · rw [if_neg b47] at h
        refine E_blk (lv' := [some (vr (some (3, this))), none, none, none, none, none, none, none]) (st' := [vr (some (3, this))]) (M1 := M45) (pc' := 462) (tb_Reader hγ) [.aload_n 0] (by decide +kernel) rfl rfl trivial ?_
        refine E_callX (κ' := k_Reader_field) (As := []) (st := []) mv_Reader_field (Or.inl (tbk_mem (j := 6) (k := 168) rfl)) rfl (by decide +kernel) (Nat.le_of_ble_eq_true rfl) (Nat.le_of_ble_eq_true rfl) rfl (by decide) rfl (lk_Reader_field hγ this _ _ M45 h) (fun _ _ => Qv_r) (fun _ h => h) (fun v M54 hp => Qv_k (R := fun st => E γ k_Reader_aClass 12 465 [some (vr (some (3, this))), none, none, none, none, none, none, none] st M54 (Qx (9, 0) (Qi Q) X)) hp (fun h => ?_))
        refine E_blk (lv' := [some (vr (some (3, this))), none, none, none, none, none, none, none]) (st' := [vr (some (3, this))]) (M1 := M54) (pc' := 466) (tb_Reader hγ) [.aload_n 0] (by decide +kernel) rfl rfl trivial ?_
        refine E_callX (κ' := k_Reader_needLine) (As := []) (st := []) mv_Reader_needLine (Or.inl (tbk_mem (j := 6) (k := 160) rfl)) rfl (by decide +kernel) (Nat.le_of_ble_eq_true rfl) (Nat.le_of_ble_eq_true rfl) rfl (by decide) rfl (lk_Reader_needLine hγ this _ _ M54 h) (fun _ _ => Qv_r) (fun _ h => h) (fun v M55 hp => Qv_k (R := fun st => E γ k_Reader_aClass 12 469 [some (vr (some (3, this))), none, none, none, none, none, none, none] st M55 (Qx (9, 0) (Qi Q) X)) hp (fun h => ?_))
        refine E_goto (off := -32) (tgt := 437) (by decide +kernel) (by decide) ?_
        refine E_mask [true, false, false, false, false, false, false, false] rfl ?_
        exact ih  M55 h
    · rw [if_neg b44] at h
      refine E_blk (lv' := [some (vr (some (3, this))), none, none, none, none, none, none, none]) (st' := [vr (some (2, 0))]) (M1 := M42) (pc' := 500) (tb_Reader hγ) [.aload_n 0, .getfield 20] (by decide +kernel) rfl rfl trivial ?_
      refine E_callV (κ' := k_Words_next) (As := []) (st := []) mv_Words_next (Or.inl (tbk_mem (j := 6) (k := 53) rfl)) rfl (by decide +kernel) (Nat.le_of_ble_eq_true rfl) (Nat.le_of_ble_eq_true rfl) rfl (by decide) (lk_Words_next hγ 0 _ M42 h) (fun _ _ => Qv_r) (fun v M56 hp => Qv_k (R := fun st => E γ k_Reader_aClass 12 503 [some (vr (some (3, this))), none, none, none, none, none, none, none] st M56 (Qx (9, 0) (Qi Q) X)) hp (fun h => ?_))
      refine E_blk (lv' := [some (vr (some (3, this))), none, none, none, none, none, none, none]) (st' := [vr (some (3, this))]) (M1 := M56) (pc' := 504) (tb_Reader hγ) [.aload_n 0] (by decide +kernel) rfl rfl trivial ?_
      refine E_callX (κ' := k_Reader_end) (As := []) (st := []) mv_Reader_end (Or.inl (tbk_mem (j := 6) (k := 191) rfl)) rfl (by decide +kernel) (Nat.le_of_ble_eq_true rfl) (Nat.le_of_ble_eq_true rfl) rfl (by decide) rfl (lk_Reader_end hγ this _ _ M56 h) (fun _ _ => Qv_r) (fun _ h => h) (fun v M57 hp => Qv_k (R := fun st => E γ k_Reader_aClass 12 507 [some (vr (some (3, this))), none, none, none, none, none, none, none] st M57 (Qx (9, 0) (Qi Q) X)) hp (fun h => ?_))
      refine E_blk (lv' := [some (vr (some (3, this))), none, none, none, none, none, none, none]) (st' := [vr (some (3, this))]) (M1 := M57) (pc' := 508) (tb_Reader hγ) [.aload_n 0] (by decide +kernel) rfl rfl trivial ?_
      refine E_callV (κ' := k_Reader_nextLine) (As := []) (st := []) mv_Reader_nextLine (Or.inl (tbk_mem (j := 6) (k := 164) rfl)) rfl (by decide +kernel) (Nat.le_of_ble_eq_true rfl) (Nat.le_of_ble_eq_true rfl) rfl (by decide) (lk_Reader_nextLine hγ this _ M57 h) (fun _ _ => Qi_r) (fun v M58 hp => Qi_k (R := fun st => E γ k_Reader_aClass 12 511 [some (vr (some (3, this))), none, none, none, none, none, none, none] st M58 (Qx (9, 0) (Qi Q) X)) hp (fun r59 h => ?_))
      exact (E_zret rfl h.1 (by decide +kernel) h.2).nx
set_option maxRecDepth 4096 in
theorem lk_Reader_aClass_L392 {γ : Gm} (hγ : Gk γ) (this : Nat) (Q : Int32 → Mem → Prop) (X : Mem → Prop) : ∀ (n : Nat) (v5 : Int32) (M : Mem), w_Reader_aClass_L392 this Q X n v5 M → E γ k_Reader_aClass 12 392 [some (vr (some (3, this))), none, none, none, none, some (vi v5), none, none] [] M (Qx (9, 0) (Qi Q) X) := by
  intro n
  induction n with
  | zero => intro v5 M h; exact h.elim
  | succ n ih =>
    intro v5 M h
    unfold w_Reader_aClass_L392 at h
    refine E_blk (lv' := [some (vr (some (3, this))), none, none, none, none, some (vi v5), none, none]) (st' := [vi (mI M 3 this 18), vi v5]) (M1 := M) (pc' := 398) (tb_Reader hγ) [.iload 5, .aload_n 0, .getfield 167] (by decide +kernel) rfl rfl trivial ?_
    refine E_icmp_ge (off := 35) (tgt := 433) (by decide +kernel) (by decide) (fun b40 => ?_) (fun b40 => ?_)
    · rw [if_pos b40] at h
      refine E_blk (lv' := [some (vr (some (3, this))), none, none, none, none, some (vi v5), none, none]) (st' := [vr (some (3, this))]) (M1 := M) (pc' := 434) (tb_Reader hγ) [.aload_n 0] (by decide +kernel) rfl rfl trivial ?_
      refine E_callX (κ' := k_Reader_needLine) (As := []) (st := []) mv_Reader_needLine (Or.inl (tbk_mem (j := 6) (k := 160) rfl)) rfl (by decide +kernel) (Nat.le_of_ble_eq_true rfl) (Nat.le_of_ble_eq_true rfl) rfl (by decide) rfl (lk_Reader_needLine hγ this _ _ M h) (fun _ _ => Qv_r) (fun _ h => h) (fun v M41 hp => Qv_k (R := fun st => E γ k_Reader_aClass 12 437 [some (vr (some (3, this))), none, none, none, none, some (vi v5), none, none] st M41 (Qx (9, 0) (Qi Q) X)) hp (fun h => ?_))
      obtain ⟨n60, h⟩ := h
      refine E_mask [true, false, false, false, false, false, false, false] rfl ?_
      exact lk_Reader_aClass_L437 hγ this Q X n60  M41 h
    · rw [if_neg b40] at h
      refine E_blk (lv' := [some (vr (some (3, this))), none, none, none, none, some (vi v5), none, none]) (st' := [vr (mR M 3 this 1)]) (M1 := M) (pc' := 405) (tb_Reader hγ) [.aload_n 0, .getfield 52] (by decide +kernel) rfl rfl trivial ?_
      obtain ⟨i61, ei61, h⟩ := h
      rw [ei61]
      obtain ⟨c62, c63, h⟩ := h
      refine E_blk (lv' := [some (vr (some (3, this))), none, none, none, none, some (vi v5), none, none]) (st' := []) (M1 := (sI M 38 i61 ((((4 : Int32) * (mI M 3 this 3)) + v5) - (1 : Int32)).toNatClampNeg (mI M 211 0 v5.toNatClampNeg))) (pc' := 427) (tb_Reader hγ) [.getfield 194, .iconst 4, .aload_n 0, .getfield 188, .imul, .iload 5, .iadd, .iconst 1, .isub, .aload_n 0, .getfield 46, .iload 5, .iaload, .iastore] (by decide +kernel) rfl rfl ⟨c62, c63, trivial⟩ ?_
      obtain ⟨M64, eM64, h⟩ := h
      rw [← eM64]
      refine E_blk (lv' := [some (vr (some (3, this))), none, none, none, none, some (vi (v5 + (1 : Int32))), none, none]) (st' := []) (M1 := M64) (pc' := 430) (tb_Reader hγ) [.iinc 5 1] (by decide +kernel) rfl rfl trivial ?_
      refine E_goto (off := -38) (tgt := 392) (by decide +kernel) (by decide) ?_
      refine E_mask [true, false, false, false, false, true, false, false] rfl ?_
      exact ih (v5 + (1 : Int32)) M64 h
set_option maxRecDepth 4096 in
theorem lk_Reader_aClass_j284 {γ : Gm} (hγ : Gk γ) (this : Nat) (Q : Int32 → Mem → Prop) (X : Mem → Prop) (k223 : Int32 → Int32 → Int32 → Mem → Prop) (k253 : Int32 → Int32 → Int32 → Int32 → Int32 → Mem → Prop) (hk223 : ∀ (v1 : Int32) (v2 : Int32) (v5 : Int32) (M : Mem), k223 v1 v2 v5 M → E γ k_Reader_aClass 12 223 [some (vr (some (3, this))), some (vi v1), some (vi v2), none, none, some (vi v5), none, none] [] M (Qx (9, 0) (Qi Q) X)) (hk253 : ∀ (v1 : Int32) (v2 : Int32) (v5 : Int32) (v6 : Int32) (v7 : Int32) (M : Mem), k253 v1 v2 v5 v6 v7 M → E γ k_Reader_aClass 12 253 [some (vr (some (3, this))), some (vi v1), some (vi v2), none, none, some (vi v5), some (vi v6), some (vi v7)] [] M (Qx (9, 0) (Qi Q) X)) (v1 : Int32) (v2 : Int32) (v5 : Int32) (v7 : Int32) (s0 : Int32) (s1 : Int32) (M : Mem) (h : w_Reader_aClass_j284 this Q X k223 k253 v1 v2 v5 v7 s0 s1 M) : E γ k_Reader_aClass 12 284 [some (vr (some (3, this))), some (vi v1), some (vi v2), none, none, some (vi v5), none, some (vi v7)] [vi s0, vi s1] M (Qx (9, 0) (Qi Q) X) := by
  unfold w_Reader_aClass_j284 at h
  refine E_blk (lv' := [some (vr (some (3, this))), some (vi v1), some (vi v2), none, none, some (vi v5), some (vi (s1 ||| s0)), some (vi (v7 + (1 : Int32)))]) (st' := []) (M1 := M) (pc' := 290) (tb_Reader hγ) [.ior, .istore 6, .iinc 7 1] (by decide +kernel) rfl rfl trivial ?_
  refine E_goto (off := -37) (tgt := 253) (by decide +kernel) (by decide) ?_
  refine E_mask [true, true, true, false, false, true, true, true] rfl ?_
  exact hk253 v1 v2 v5 (s1 ||| s0) (v7 + (1 : Int32)) M h
set_option maxRecDepth 4096 in
theorem lk_Reader_aClass_L253 {γ : Gm} (hγ : Gk γ) (this : Nat) (Q : Int32 → Mem → Prop) (X : Mem → Prop) (k223 : Int32 → Int32 → Int32 → Mem → Prop) (hk223 : ∀ (v1 : Int32) (v2 : Int32) (v5 : Int32) (M : Mem), k223 v1 v2 v5 M → E γ k_Reader_aClass 12 223 [some (vr (some (3, this))), some (vi v1), some (vi v2), none, none, some (vi v5), none, none] [] M (Qx (9, 0) (Qi Q) X)) : ∀ (n : Nat) (v1 : Int32) (v2 : Int32) (v5 : Int32) (v6 : Int32) (v7 : Int32) (M : Mem), w_Reader_aClass_L253 this Q X k223 n v1 v2 v5 v6 v7 M → E γ k_Reader_aClass 12 253 [some (vr (some (3, this))), some (vi v1), some (vi v2), none, none, some (vi v5), some (vi v6), some (vi v7)] [] M (Qx (9, 0) (Qi Q) X) := by
  intro n
  induction n with
  | zero => intro v1 v2 v5 v6 v7 M h; exact h.elim
  | succ n ih =>
    intro v1 v2 v5 v6 v7 M h
    unfold w_Reader_aClass_L253 at h
    refine E_blk (lv' := [some (vr (some (3, this))), some (vi v1), some (vi v2), none, none, some (vi v5), some (vi v6), some (vi v7)]) (st' := [vi v5, vi v7]) (M1 := M) (pc' := 257) (tb_Reader hγ) [.iload 7, .iload 5] (by decide +kernel) rfl rfl trivial ?_
    refine E_icmp_ge (off := 36) (tgt := 293) (by decide +kernel) (by decide) (fun b68 => ?_) (fun b68 => ?_)
    · rw [if_pos b68] at h
      refine E_blk (lv' := [some (vr (some (3, this))), some (vi v1), some (vi v2), none, none, some (vi v5), some (vi v6), some (vi v7)]) (st' := [vi v6]) (M1 := M) (pc' := 295) (tb_Reader hγ) [.iload 6] (by decide +kernel) rfl rfl trivial ?_
      refine E_if_eq (off := 17) (tgt := 312) (by decide +kernel) (by decide) (fun b69 => ?_) (fun b69 => ?_)
      · rw [if_pos b69] at h
        refine E_blk (lv' := [some (vr (some (3, this))), some (vi v1), some (vi v2), none, none, some (vi (v5 + (1 : Int32))), some (vi v6), some (vi v7)]) (st' := []) (M1 := M) (pc' := 315) (tb_Reader hγ) [.iinc 5 1] (by decide +kernel) rfl rfl trivial ?_
        refine E_goto (off := -92) (tgt := 223) (by decide +kernel) (by decide) ?_
        refine E_mask [true, true, true, false, false, true, false, false] rfl ?_
        exact hk223 v1 v2 (v5 + (1 : Int32)) M h
      · rw [if_neg b69] at h
        refine E_blk (lv' := [some (vr (some (3, this))), some (vi v1), some (vi v2), none, none, some (vi v5), some (vi v6), some (vi v7)]) (st' := [vi (mI M 3 this 2), vi (11 : Int32), vr (some (10, 0))]) (M1 := M) (pc' := 308) (tb_Reader hγ) [.aload_n 0, .getfield 3, .bipush 11, .aload_n 0, .getfield 113] (by decide +kernel) rfl rfl trivial ?_
        refine E_callV (κ' := k_Works_refuse) (As := [vi (11 : Int32), vi (mI M 3 this 2)]) (st := []) mv_Works_refuse (Or.inr ⟨"ClassWorks", (tbk_mem (j := 6) (k := 126) rfl)⟩) rfl (by decide +kernel) (Nat.le_of_ble_eq_true rfl) (Nat.le_of_ble_eq_true rfl) rfl (by decide) (lk_Works_refuse hγ 0 (11 : Int32) (mI M 3 this 2) _ M h) (fun _ _ => Qr_r) (fun v M70 hp => Qr_k (R := fun st => E γ k_Reader_aClass 12 311 [some (vr (some (3, this))), some (vi v1), some (vi v2), none, none, some (vi v5), some (vi v6), some (vi v7)] st M70 (Qx (9, 0) (Qi Q) X)) hp (fun i71 h => ?_))
        obtain ⟨e0, h⟩ := h
        rw [e0]
        exact E_throw (by decide) rfl (by decide +kernel) h
    · rw [if_neg b68] at h
      obtain ⟨c72, c73, h⟩ := h
      refine E_blk (lv' := [some (vr (some (3, this))), some (vi v1), some (vi v2), none, none, some (vi v5), some (vi v6), some (vi v7)]) (st' := [vi (mI M 211 0 v5.toNatClampNeg), vi (mI M 211 0 v7.toNatClampNeg), vi v6]) (M1 := M) (pc' := 276) (tb_Reader hγ) [.iload 6, .aload_n 0, .getfield 46, .iload 7, .iaload, .aload_n 0, .getfield 46, .iload 5, .iaload] (by decide +kernel) rfl rfl ⟨c72, c73, trivial⟩ ?_
      refine E_icmp_ne (off := 7) (tgt := 283) (by decide +kernel) (by decide) (fun b74 => ?_) (fun b74 => ?_)
      · rw [if_pos b74] at h
        refine E_blk (lv' := [some (vr (some (3, this))), some (vi v1), some (vi v2), none, none, some (vi v5), some (vi v6), some (vi v7)]) (st' := [vi (1 : Int32), vi v6]) (M1 := M) (pc' := 280) (tb_Reader hγ) [.iconst 1] (by decide +kernel) rfl rfl trivial ?_
        refine E_goto (off := 4) (tgt := 284) (by decide +kernel) (by decide) ?_
        refine E_mask [true, true, true, false, false, true, false, true] rfl ?_
        exact lk_Reader_aClass_j284 hγ this Q X k223 (w_Reader_aClass_L253 this Q X k223 n) hk223 ih v1 v2 v5 v7 (1 : Int32) v6 M h
      · rw [if_neg b74] at h
        refine E_blk (lv' := [some (vr (some (3, this))), some (vi v1), some (vi v2), none, none, some (vi v5), some (vi v6), some (vi v7)]) (st' := [vi (0 : Int32), vi v6]) (M1 := M) (pc' := 284) (tb_Reader hγ) [.iconst 0] (by decide +kernel) rfl rfl trivial ?_
        refine E_mask [true, true, true, false, false, true, false, true] rfl ?_
        exact lk_Reader_aClass_j284 hγ this Q X k223 (w_Reader_aClass_L253 this Q X k223 n) hk223 ih v1 v2 v5 v7 (0 : Int32) v6 M h
set_option maxRecDepth 4096 in
theorem lk_Reader_aClass_j248 {γ : Gm} (hγ : Gk γ) (this : Nat) (Q : Int32 → Mem → Prop) (X : Mem → Prop) (k223 : Int32 → Int32 → Int32 → Mem → Prop) (hk223 : ∀ (v1 : Int32) (v2 : Int32) (v5 : Int32) (M : Mem), k223 v1 v2 v5 M → E γ k_Reader_aClass 12 223 [some (vr (some (3, this))), some (vi v1), some (vi v2), none, none, some (vi v5), none, none] [] M (Qx (9, 0) (Qi Q) X)) (v1 : Int32) (v2 : Int32) (v5 : Int32) (s0 : Int32) (M : Mem) (h : w_Reader_aClass_j248 this Q X k223 v1 v2 v5 s0 M) : E γ k_Reader_aClass 12 248 [some (vr (some (3, this))), some (vi v1), some (vi v2), none, none, some (vi v5), none, none] [vi s0] M (Qx (9, 0) (Qi Q) X) := by
  unfold w_Reader_aClass_j248 at h
  refine E_blk (lv' := [some (vr (some (3, this))), some (vi v1), some (vi v2), none, none, some (vi v5), some (vi s0), some (vi (0 : Int32))]) (st' := []) (M1 := M) (pc' := 253) (tb_Reader hγ) [.istore 6, .iconst 0, .istore 7] (by decide +kernel) rfl rfl trivial ?_
  obtain ⟨n75, h⟩ := h
  refine E_mask [true, true, true, false, false, true, true, true] rfl ?_
  exact lk_Reader_aClass_L253 hγ this Q X k223 hk223 n75 v1 v2 v5 s0 (0 : Int32) M h
set_option maxRecDepth 4096 in
theorem lk_Reader_aClass_L223 {γ : Gm} (hγ : Gk γ) (this : Nat) (Q : Int32 → Mem → Prop) (X : Mem → Prop) : ∀ (n : Nat) (v1 : Int32) (v2 : Int32) (v5 : Int32) (M : Mem), w_Reader_aClass_L223 this Q X n v1 v2 v5 M → E γ k_Reader_aClass 12 223 [some (vr (some (3, this))), some (vi v1), some (vi v2), none, none, some (vi v5), none, none] [] M (Qx (9, 0) (Qi Q) X) := by
  intro n
  induction n with
  | zero => intro v1 v2 v5 M h; exact h.elim
  | succ n ih =>
    intro v1 v2 v5 M h
    unfold w_Reader_aClass_L223 at h
    refine E_blk (lv' := [some (vr (some (3, this))), some (vi v1), some (vi v2), none, none, some (vi v5), none, none]) (st' := [vi (mI M 3 this 18), vi v5]) (M1 := M) (pc' := 229) (tb_Reader hγ) [.iload 5, .aload_n 0, .getfield 167] (by decide +kernel) rfl rfl trivial ?_
    refine E_icmp_ge (off := 89) (tgt := 318) (by decide +kernel) (by decide) (fun b27 => ?_) (fun b27 => ?_)
    · rw [if_pos b27] at h
      refine E_blk (lv' := [some (vr (some (3, this))), some (vi v1), some (vi v2), none, none, some (vi v5), none, none]) (st' := [vi (5 : Int32), vi (mI M 3 this 18)]) (M1 := M) (pc' := 323) (tb_Reader hγ) [.aload_n 0, .getfield 167, .iconst 5] (by decide +kernel) rfl rfl trivial ?_
      refine E_icmp_gt (off := 15) (tgt := 338) (by decide +kernel) (by decide) (fun b28 => ?_) (fun b28 => ?_)
      · rw [if_pos b28] at h
        refine E_mask [true, false, false, false, false, false, false, false] rfl ?_
        exact lk_Reader_aClass_j338 hγ this Q X  M h
      · rw [if_neg b28] at h
        refine E_blk (lv' := [some (vr (some (3, this))), some (vi v1), some (vi v2), none, none, some (vi v5), none, none]) (st' := [vr (mR M 3 this 1)]) (M1 := M) (pc' := 330) (tb_Reader hγ) [.aload_n 0, .getfield 52] (by decide +kernel) rfl rfl trivial ?_
        obtain ⟨i31, ei31, h⟩ := h
        rw [ei31]
        refine E_blk (lv' := [some (vr (some (3, this))), some (vi v1), some (vi v2), none, none, some (vi v5), none, none]) (st' := [vi (51 : Int32), vi (mI M 5 i31 2)]) (M1 := M) (pc' := 335) (tb_Reader hγ) [.getfield 56, .bipush 51] (by decide +kernel) rfl rfl trivial ?_
        refine E_icmp_ne (off := 17) (tgt := 352) (by decide +kernel) (by decide) (fun b32 => ?_) (fun b32 => ?_)
        · rw [if_pos b32] at h
          refine E_mask [true, false, false, false, false, false, false, false] rfl ?_
          exact lk_Reader_aClass_j338 hγ this Q X  M h
        · rw [if_neg b32] at h
          refine E_blk (lv' := [some (vr (some (3, this))), some (vi v1), some (vi v2), none, none, some (vi v5), none, none]) (st' := [vr (mR M 3 this 1), vr (some (3, this))]) (M1 := M) (pc' := 357) (tb_Reader hγ) [.aload_n 0, .aload_n 0, .getfield 52] (by decide +kernel) rfl rfl trivial ?_
          obtain ⟨i33, ei33, h⟩ := h
          rw [ei33]
          obtain ⟨c34, h⟩ := h
          refine E_blk (lv' := [some (vr (some (3, this))), some (vi v1), some (vi v2), none, none, some (vi v5), none, none]) (st' := [vi v1, vi (mI M 211 0 (0 : Int32).toNatClampNeg), vi v2, vr (some (5, i33)), vr (some (3, this))]) (M1 := M) (pc' := 365) (tb_Reader hγ) [.iload_n 2, .aload_n 0, .getfield 46, .iconst 0, .iaload, .iload_n 1] (by decide +kernel) rfl rfl ⟨c34, trivial⟩ ?_
          refine E_callV (κ' := k_World_addClass) (As := [vi v2, vi (mI M 211 0 (0 : Int32).toNatClampNeg), vi v1]) (st := [vr (some (3, this))]) mv_World_addClass (Or.inl (tbk_mem (j := 6) (k := 159) rfl)) rfl (by decide +kernel) (Nat.le_of_ble_eq_true rfl) (Nat.le_of_ble_eq_true rfl) rfl (by decide) (lk_World_addClass hγ i33 v2 (mI M 211 0 (0 : Int32).toNatClampNeg) v1 _ M h) (fun _ _ => Qi_r) (fun v M35 hp => Qi_k (R := fun st => E γ k_Reader_aClass 12 368 [some (vr (some (3, this))), some (vi v1), some (vi v2), none, none, some (vi v5), none, none] st M35 (Qx (9, 0) (Qi Q) X)) hp (fun r36 h => ?_))
          refine E_blk (lv' := [some (vr (some (3, this))), some (vi v1), some (vi v2), none, none, some (vi v5), none, none]) (st' := [vr (mR (sI M35 3 this 3 r36) 3 this 1)]) (M1 := (sI M35 3 this 3 r36)) (pc' := 375) (tb_Reader hγ) [.putfield 188, .aload_n 0, .getfield 52] (by decide +kernel) rfl rfl trivial ?_
          obtain ⟨i37, ei37, h⟩ := h
          rw [ei37]
          obtain ⟨c38, h⟩ := h
          refine E_blk (lv' := [some (vr (some (3, this))), some (vi v1), some (vi v2), none, none, some (vi v5), none, none]) (st' := []) (M1 := (sI (sI M35 3 this 3 r36) 39 i37 (mI (sI M35 3 this 3 r36) 3 this 3).toNatClampNeg ((mI (sI M35 3 this 3 r36) 3 this 18) - (1 : Int32)))) (pc' := 389) (tb_Reader hγ) [.getfield 191, .aload_n 0, .getfield 188, .aload_n 0, .getfield 167, .iconst 1, .isub, .iastore] (by decide +kernel) rfl rfl ⟨c38, trivial⟩ ?_
          obtain ⟨M39, eM39, h⟩ := h
          rw [← eM39]
          refine E_blk (lv' := [some (vr (some (3, this))), some (vi v1), some (vi v2), none, none, some (vi (1 : Int32)), none, none]) (st' := []) (M1 := M39) (pc' := 392) (tb_Reader hγ) [.iconst 1, .istore 5] (by decide +kernel) rfl rfl trivial ?_
          obtain ⟨n65, h⟩ := h
          refine E_mask [true, false, false, false, false, true, false, false] rfl ?_
          exact lk_Reader_aClass_L392 hγ this Q X n65 (1 : Int32) M39 h
    · rw [if_neg b27] at h
      obtain ⟨c66, h⟩ := h
      refine E_blk (lv' := [some (vr (some (3, this))), some (vi v1), some (vi v2), none, none, some (vi v5), none, none]) (st' := [vi v2, vi (mI M 211 0 v5.toNatClampNeg)]) (M1 := M) (pc' := 240) (tb_Reader hγ) [.aload_n 0, .getfield 46, .iload 5, .iaload, .iload_n 2] (by decide +kernel) rfl rfl ⟨c66, trivial⟩ ?_
      refine E_icmp_ne (off := 7) (tgt := 247) (by decide +kernel) (by decide) (fun b67 => ?_) (fun b67 => ?_)
      · rw [if_pos b67] at h
        refine E_blk (lv' := [some (vr (some (3, this))), some (vi v1), some (vi v2), none, none, some (vi v5), none, none]) (st' := [vi (1 : Int32)]) (M1 := M) (pc' := 244) (tb_Reader hγ) [.iconst 1] (by decide +kernel) rfl rfl trivial ?_
        refine E_goto (off := 4) (tgt := 248) (by decide +kernel) (by decide) ?_
        refine E_mask [true, true, true, false, false, true, false, false] rfl ?_
        exact lk_Reader_aClass_j248 hγ this Q X (w_Reader_aClass_L223 this Q X n) ih v1 v2 v5 (1 : Int32) M h
      · rw [if_neg b67] at h
        refine E_blk (lv' := [some (vr (some (3, this))), some (vi v1), some (vi v2), none, none, some (vi v5), none, none]) (st' := [vi (0 : Int32)]) (M1 := M) (pc' := 248) (tb_Reader hγ) [.iconst 0] (by decide +kernel) rfl rfl trivial ?_
        refine E_mask [true, true, true, false, false, true, false, false] rfl ?_
        exact lk_Reader_aClass_j248 hγ this Q X (w_Reader_aClass_L223 this Q X n) ih v1 v2 v5 (0 : Int32) M h
set_option maxRecDepth 4096 in
theorem lk_Reader_aClass_j220 {γ : Gm} (hγ : Gk γ) (this : Nat) (Q : Int32 → Mem → Prop) (X : Mem → Prop) (v1 : Int32) (v2 : Int32) (M : Mem) (h : w_Reader_aClass_j220 this Q X v1 v2 M) : E γ k_Reader_aClass 12 220 [some (vr (some (3, this))), some (vi v1), some (vi v2), none, none, none, none, none] [] M (Qx (9, 0) (Qi Q) X) := by
  unfold w_Reader_aClass_j220 at h
  refine E_blk (lv' := [some (vr (some (3, this))), some (vi v1), some (vi v2), none, none, some (vi (0 : Int32)), none, none]) (st' := []) (M1 := M) (pc' := 223) (tb_Reader hγ) [.iconst 0, .istore 5] (by decide +kernel) rfl rfl trivial ?_
  obtain ⟨n76, h⟩ := h
  refine E_mask [true, true, true, false, false, true, false, false] rfl ?_
  exact lk_Reader_aClass_L223 hγ this Q X n76 v1 v2 (0 : Int32) M h
set_option maxRecDepth 4096 in
theorem lk_Reader_aClass_j189 {γ : Gm} (hγ : Gk γ) (this : Nat) (Q : Int32 → Mem → Prop) (X : Mem → Prop) (v1 : Int32) (v2 : Int32) (s0 : Int32) (M : Mem) (h : w_Reader_aClass_j189 this Q X v1 v2 s0 M) : E γ k_Reader_aClass 12 189 [some (vr (some (3, this))), some (vi v1), some (vi v2), none, none, none, none, none] [vi s0] M (Qx (9, 0) (Qi Q) X) := by
  unfold w_Reader_aClass_j189 at h
  refine E_blk (lv' := [some (vr (some (3, this))), some (vi v1), some (vi v2), none, some (vi s0), none, none, none]) (st' := [vi s0]) (M1 := M) (pc' := 193) (tb_Reader hγ) [.istore 4, .iload 4] (by decide +kernel) rfl rfl trivial ?_
  refine E_if_eq (off := 27) (tgt := 220) (by decide +kernel) (by decide) (fun b26 => ?_) (fun b26 => ?_)
  · rw [if_pos b26] at h
    refine E_mask [true, true, true, false, false, false, false, false] rfl ?_
    exact lk_Reader_aClass_j220 hγ this Q X v1 v2 M h
  · rw [if_neg b26] at h
    refine E_blk (lv' := [some (vr (some (3, this))), some (vi v1), some (vi v2), none, some (vi s0), none, none, none]) (st' := [vr (mR M 3 this 1)]) (M1 := M) (pc' := 200) (tb_Reader hγ) [.aload_n 0, .getfield 52] (by decide +kernel) rfl rfl trivial ?_
    obtain ⟨i77, ei77, h⟩ := h
    rw [ei77]
    refine E_blk (lv' := [some (vr (some (3, this))), some (vi v1), some (vi v2), none, some (vi s0), none, none, none]) (st' := [vi (4 : Int32), vr (some (5, i77))]) (M1 := M) (pc' := 201) (tb_Reader hγ) [.iconst 4] (by decide +kernel) rfl rfl trivial ?_
    refine E_callV (κ' := k_World_asks) (As := [vi (4 : Int32)]) (st := []) mv_World_asks (Or.inl (tbk_mem (j := 6) (k := 151) rfl)) rfl (by decide +kernel) (Nat.le_of_ble_eq_true rfl) (Nat.le_of_ble_eq_true rfl) rfl (by decide) (lk_World_asks hγ i77 (4 : Int32) _ M h) (fun _ _ => Qi_r) (fun v M78 hp => Qi_k (R := fun st => E γ k_Reader_aClass 12 204 [some (vr (some (3, this))), some (vi v1), some (vi v2), none, some (vi s0), none, none, none] st M78 (Qx (9, 0) (Qi Q) X)) hp (fun r79 h => ?_))
    refine E_if_eq (off := 16) (tgt := 220) (by decide +kernel) (by decide) (fun b80 => ?_) (fun b80 => ?_)
    · rw [if_pos b80] at h
      refine E_mask [true, true, true, false, false, false, false, false] rfl ?_
      exact lk_Reader_aClass_j220 hγ this Q X v1 v2 M78 h
    · rw [if_neg b80] at h
      refine E_blk (lv' := [some (vr (some (3, this))), some (vi v1), some (vi v2), none, some (vi s0), none, none, none]) (st' := [vi (mI M78 3 this 2), vi (4 : Int32), vr (some (10, 0))]) (M1 := M78) (pc' := 216) (tb_Reader hγ) [.aload_n 0, .getfield 3, .iconst 4, .aload_n 0, .getfield 113] (by decide +kernel) rfl rfl trivial ?_
      refine E_callV (κ' := k_Works_refuse) (As := [vi (4 : Int32), vi (mI M78 3 this 2)]) (st := []) mv_Works_refuse (Or.inr ⟨"ClassWorks", (tbk_mem (j := 6) (k := 126) rfl)⟩) rfl (by decide +kernel) (Nat.le_of_ble_eq_true rfl) (Nat.le_of_ble_eq_true rfl) rfl (by decide) (lk_Works_refuse hγ 0 (4 : Int32) (mI M78 3 this 2) _ M78 h) (fun _ _ => Qr_r) (fun v M81 hp => Qr_k (R := fun st => E γ k_Reader_aClass 12 219 [some (vr (some (3, this))), some (vi v1), some (vi v2), none, some (vi s0), none, none, none] st M81 (Qx (9, 0) (Qi Q) X)) hp (fun i82 h => ?_))
      obtain ⟨e0, h⟩ := h
      rw [e0]
      exact E_throw (by decide) rfl (by decide +kernel) h
set_option maxRecDepth 4096 in
theorem lk_Reader_aClass_j188 {γ : Gm} (hγ : Gk γ) (this : Nat) (Q : Int32 → Mem → Prop) (X : Mem → Prop) (v1 : Int32) (v2 : Int32) (M : Mem) (h : w_Reader_aClass_j188 this Q X v1 v2 M) : E γ k_Reader_aClass 12 188 [some (vr (some (3, this))), some (vi v1), some (vi v2), none, none, none, none, none] [] M (Qx (9, 0) (Qi Q) X) := by
  unfold w_Reader_aClass_j188 at h
  refine E_blk (lv' := [some (vr (some (3, this))), some (vi v1), some (vi v2), none, none, none, none, none]) (st' := [vi (0 : Int32)]) (M1 := M) (pc' := 189) (tb_Reader hγ) [.iconst 0] (by decide +kernel) rfl rfl trivial ?_
  refine E_mask [true, true, true, false, false, false, false, false] rfl ?_
  exact lk_Reader_aClass_j189 hγ this Q X v1 v2 (0 : Int32) M h
set_option maxRecDepth 4096 in
theorem lk_Reader_aClass_j184 {γ : Gm} (hγ : Gk γ) (this : Nat) (Q : Int32 → Mem → Prop) (X : Mem → Prop) (v1 : Int32) (v2 : Int32) (M : Mem) (h : w_Reader_aClass_j184 this Q X v1 v2 M) : E γ k_Reader_aClass 12 184 [some (vr (some (3, this))), some (vi v1), some (vi v2), none, none, none, none, none] [] M (Qx (9, 0) (Qi Q) X) := by
  unfold w_Reader_aClass_j184 at h
  refine E_blk (lv' := [some (vr (some (3, this))), some (vi v1), some (vi v2), none, none, none, none, none]) (st' := [vi (1 : Int32)]) (M1 := M) (pc' := 185) (tb_Reader hγ) [.iconst 1] (by decide +kernel) rfl rfl trivial ?_
  refine E_goto (off := 4) (tgt := 189) (by decide +kernel) (by decide) ?_
  refine E_mask [true, true, true, false, false, false, false, false] rfl ?_
  exact lk_Reader_aClass_j189 hγ this Q X v1 v2 (1 : Int32) M h
set_option maxRecDepth 4096 in
theorem lk_Reader_aClass_j169 {γ : Gm} (hγ : Gk γ) (this : Nat) (Q : Int32 → Mem → Prop) (X : Mem → Prop) (v1 : Int32) (v2 : Int32) (v3 : Int32) (M : Mem) (h : w_Reader_aClass_j169 this Q X v1 v2 v3 M) : E γ k_Reader_aClass 12 169 [some (vr (some (3, this))), some (vi v1), some (vi v2), some (vi v3), none, none, none, none] [] M (Qx (9, 0) (Qi Q) X) := by
  unfold w_Reader_aClass_j169 at h
  refine E_blk (lv' := [some (vr (some (3, this))), some (vi v1), some (vi v2), some (vi v3), none, none, none, none]) (st' := [vi v3]) (M1 := M) (pc' := 170) (tb_Reader hγ) [.iload_n 3] (by decide +kernel) rfl rfl trivial ?_
  refine E_if_eq (off := 18) (tgt := 188) (by decide +kernel) (by decide) (fun b25 => ?_) (fun b25 => ?_)
  · rw [if_pos b25] at h
    refine E_mask [true, true, true, false, false, false, false, false] rfl ?_
    exact lk_Reader_aClass_j188 hγ this Q X v1 v2 M h
  · rw [if_neg b25] at h
    obtain ⟨c83, h⟩ := h
    refine E_blk (lv' := [some (vr (some (3, this))), some (vi v1), some (vi v2), some (vi v3), none, none, none, none]) (st' := [vi (81 : Int32), vi (mI M 211 0 (0 : Int32).toNatClampNeg)]) (M1 := M) (pc' := 181) (tb_Reader hγ) [.aload_n 0, .getfield 46, .iconst 0, .iaload, .bipush 81] (by decide +kernel) rfl rfl ⟨c83, trivial⟩ ?_
    refine E_icmp_eq (off := 7) (tgt := 188) (by decide +kernel) (by decide) (fun b84 => ?_) (fun b84 => ?_)
    · rw [if_pos b84] at h
      refine E_mask [true, true, true, false, false, false, false, false] rfl ?_
      exact lk_Reader_aClass_j188 hγ this Q X v1 v2 M h
    · rw [if_neg b84] at h
      refine E_mask [true, true, true, false, false, false, false, false] rfl ?_
      exact lk_Reader_aClass_j184 hγ this Q X v1 v2 M h
set_option maxRecDepth 4096 in
theorem lk_Reader_aClass_j159 {γ : Gm} (hγ : Gk γ) (this : Nat) (Q : Int32 → Mem → Prop) (X : Mem → Prop) (v1 : Int32) (v2 : Int32) (v3 : Int32) (M : Mem) (h : w_Reader_aClass_j159 this Q X v1 v2 v3 M) : E γ k_Reader_aClass 12 159 [some (vr (some (3, this))), some (vi v1), some (vi v2), some (vi v3), none, none, none, none] [] M (Qx (9, 0) (Qi Q) X) := by
  unfold w_Reader_aClass_j159 at h
  refine E_blk (lv' := [some (vr (some (3, this))), some (vi v1), some (vi v2), some (vi v3), none, none, none, none]) (st' := [vi v3]) (M1 := M) (pc' := 160) (tb_Reader hγ) [.iload_n 3] (by decide +kernel) rfl rfl trivial ?_
  refine E_if_eq (off := 9) (tgt := 169) (by decide +kernel) (by decide) (fun b24 => ?_) (fun b24 => ?_)
  · rw [if_pos b24] at h
    refine E_mask [true, true, true, true, false, false, false, false] rfl ?_
    exact lk_Reader_aClass_j169 hγ this Q X v1 v2 v3 M h
  · rw [if_neg b24] at h
    refine E_blk (lv' := [some (vr (some (3, this))), some (vi v1), some (vi v2), some (vi v3), none, none, none, none]) (st' := [vi (v1 &&& (2 : Int32))]) (M1 := M) (pc' := 166) (tb_Reader hγ) [.iload_n 1, .iconst 2, .iand] (by decide +kernel) rfl rfl trivial ?_
    refine E_if_ne (off := 18) (tgt := 184) (by decide +kernel) (by decide) (fun b85 => ?_) (fun b85 => ?_)
    · rw [if_pos b85] at h
      refine E_mask [true, true, true, true, false, false, false, false] rfl ?_
      exact lk_Reader_aClass_j169 hγ this Q X v1 v2 v3 M h
    · rw [if_neg b85] at h
      refine E_mask [true, true, true, false, false, false, false, false] rfl ?_
      exact lk_Reader_aClass_j184 hγ this Q X v1 v2 M h
set_option maxRecDepth 4096 in
theorem lk_Reader_aClass_j147 {γ : Gm} (hγ : Gk γ) (this : Nat) (Q : Int32 → Mem → Prop) (X : Mem → Prop) (v1 : Int32) (v2 : Int32) (s0 : Int32) (M : Mem) (h : w_Reader_aClass_j147 this Q X v1 v2 s0 M) : E γ k_Reader_aClass 12 147 [some (vr (some (3, this))), some (vi v1), some (vi v2), none, none, none, none, none] [vi s0] M (Qx (9, 0) (Qi Q) X) := by
  unfold w_Reader_aClass_j147 at h
  refine E_blk (lv' := [some (vr (some (3, this))), some (vi v1), some (vi v2), some (vi s0), none, none, none, none]) (st' := [vi (v1 &&& (1 : Int32))]) (M1 := M) (pc' := 151) (tb_Reader hγ) [.istore_n 3, .iload_n 1, .iconst 1, .iand] (by decide +kernel) rfl rfl trivial ?_
  refine E_if_eq (off := 8) (tgt := 159) (by decide +kernel) (by decide) (fun b23 => ?_) (fun b23 => ?_)
  · rw [if_pos b23] at h
    refine E_mask [true, true, true, true, false, false, false, false] rfl ?_
    exact lk_Reader_aClass_j159 hγ this Q X v1 v2 s0 M h
  · rw [if_neg b23] at h
    refine E_blk (lv' := [some (vr (some (3, this))), some (vi v1), some (vi v2), some (vi s0), none, none, none, none]) (st' := [vi (1 : Int32), vi v1]) (M1 := M) (pc' := 156) (tb_Reader hγ) [.iload_n 1, .iconst 1] (by decide +kernel) rfl rfl trivial ?_
    refine E_icmp_ne (off := 28) (tgt := 184) (by decide +kernel) (by decide) (fun b86 => ?_) (fun b86 => ?_)
    · rw [if_pos b86] at h
      refine E_mask [true, true, true, true, false, false, false, false] rfl ?_
      exact lk_Reader_aClass_j159 hγ this Q X v1 v2 s0 M h
    · rw [if_neg b86] at h
      refine E_mask [true, true, true, false, false, false, false, false] rfl ?_
      exact lk_Reader_aClass_j184 hγ this Q X v1 v2 M h
set_option maxRecDepth 4096 in
theorem lk_Reader_aClass_L67 {γ : Gm} (hγ : Gk γ) (this : Nat) (Q : Int32 → Mem → Prop) (X : Mem → Prop) : ∀ (n : Nat) (v1 : Int32) (v2 : Int32) (M : Mem), w_Reader_aClass_L67 this Q X n v1 v2 M → E γ k_Reader_aClass 12 67 [some (vr (some (3, this))), some (vi v1), some (vi v2), none, none, none, none, none] [] M (Qx (9, 0) (Qi Q) X) := by
  intro n
  induction n with
  | zero => intro v1 v2 M h; exact h.elim
  | succ n ih =>
    intro v1 v2 M h
    unfold w_Reader_aClass_L67 at h
    refine E_blk (lv' := [some (vr (some (3, this))), some (vi v1), some (vi v2), none, none, none, none, none]) (st' := [vr (mR M 2 0 3)]) (M1 := M) (pc' := 74) (tb_Reader hγ) [.aload_n 0, .getfield 20, .getfield 98] (by decide +kernel) rfl rfl trivial ?_
    refine E_gets (κ := k_Reader_aClass) (pc := 74) (j := 3) (idx := 102) (n := "END") hγ.2.1 rfl (tbk_mem (j := 6) (k := 105) rfl) (by decide +kernel) ?_
    obtain ⟨c17, h⟩ := h
    refine E_acmp_eq (off := 35) (tgt := 112) hγ.2.1 c17 (isK_c 3 (by decide)) (by decide +kernel) (by decide) (fun b16 => ?_) (fun b16 => ?_)
    · rw [if_pos b16] at h
      refine E_blk (lv' := [some (vr (some (3, this))), some (vi v1), some (vi v2), none, none, none, none, none]) (st' := [vr (mR M 3 this 1)]) (M1 := M) (pc' := 116) (tb_Reader hγ) [.aload_n 0, .getfield 52] (by decide +kernel) rfl rfl trivial ?_
      obtain ⟨i18, ei18, h⟩ := h
      rw [ei18]
      refine E_blk (lv' := [some (vr (some (3, this))), some (vi v1), some (vi v2), none, none, none, none, none]) (st' := [vi v2, vr (some (5, i18))]) (M1 := M) (pc' := 117) (tb_Reader hγ) [.iload_n 2] (by decide +kernel) rfl rfl trivial ?_
      refine E_callV (κ' := k_World_find) (As := [vi v2]) (st := []) mv_World_find (Or.inl (tbk_mem (j := 6) (k := 147) rfl)) rfl (by decide +kernel) (Nat.le_of_ble_eq_true rfl) (Nat.le_of_ble_eq_true rfl) rfl (by decide) (lk_World_find hγ i18 v2 _ M h) (fun _ _ => Qi_r) (fun v M19 hp => Qi_k (R := fun st => E γ k_Reader_aClass 12 120 [some (vr (some (3, this))), some (vi v1), some (vi v2), none, none, none, none, none] st M19 (Qx (9, 0) (Qi Q) X)) hp (fun r20 h => ?_))
      refine E_if_lt (off := 16) (tgt := 136) (by decide +kernel) (by decide) (fun b21 => ?_) (fun b21 => ?_)
      · rw [if_pos b21] at h
        refine E_blk (lv' := [some (vr (some (3, this))), some (vi v1), some (vi v2), none, none, none, none, none]) (st' := [vi (v1 &&& (4 : Int32))]) (M1 := M19) (pc' := 139) (tb_Reader hγ) [.iload_n 1, .iconst 4, .iand] (by decide +kernel) rfl rfl trivial ?_
        refine E_if_eq (off := 7) (tgt := 146) (by decide +kernel) (by decide) (fun b22 => ?_) (fun b22 => ?_)
        · rw [if_pos b22] at h
          refine E_blk (lv' := [some (vr (some (3, this))), some (vi v1), some (vi v2), none, none, none, none, none]) (st' := [vi (0 : Int32)]) (M1 := M19) (pc' := 147) (tb_Reader hγ) [.iconst 0] (by decide +kernel) rfl rfl trivial ?_
          refine E_mask [true, true, true, false, false, false, false, false] rfl ?_
          exact lk_Reader_aClass_j147 hγ this Q X v1 v2 (0 : Int32) M19 h
        · rw [if_neg b22] at h
          refine E_blk (lv' := [some (vr (some (3, this))), some (vi v1), some (vi v2), none, none, none, none, none]) (st' := [vi (1 : Int32)]) (M1 := M19) (pc' := 143) (tb_Reader hγ) [.iconst 1] (by decide +kernel) rfl rfl trivial ?_
          refine E_goto (off := 4) (tgt := 147) (by decide +kernel) (by decide) ?_
          refine E_mask [true, true, true, false, false, false, false, false] rfl ?_
          exact lk_Reader_aClass_j147 hγ this Q X v1 v2 (1 : Int32) M19 h
      · rw [if_neg b21] at h
        refine E_blk (lv' := [some (vr (some (3, this))), some (vi v1), some (vi v2), none, none, none, none, none]) (st' := [vi (mI M19 3 this 2), vi (2 : Int32), vr (some (10, 0))]) (M1 := M19) (pc' := 132) (tb_Reader hγ) [.aload_n 0, .getfield 3, .iconst 2, .aload_n 0, .getfield 113] (by decide +kernel) rfl rfl trivial ?_
        refine E_callV (κ' := k_Works_refuse) (As := [vi (2 : Int32), vi (mI M19 3 this 2)]) (st := []) mv_Works_refuse (Or.inr ⟨"ClassWorks", (tbk_mem (j := 6) (k := 126) rfl)⟩) rfl (by decide +kernel) (Nat.le_of_ble_eq_true rfl) (Nat.le_of_ble_eq_true rfl) rfl (by decide) (lk_Works_refuse hγ 0 (2 : Int32) (mI M19 3 this 2) _ M19 h) (fun _ _ => Qr_r) (fun v M87 hp => Qr_k (R := fun st => E γ k_Reader_aClass 12 135 [some (vr (some (3, this))), some (vi v1), some (vi v2), none, none, none, none, none] st M87 (Qx (9, 0) (Qi Q) X)) hp (fun i88 h => ?_))
        obtain ⟨e0, h⟩ := h
        rw [e0]
        exact E_throw (by decide) rfl (by decide +kernel) h
    · rw [if_neg b16] at h
      refine E_blk (lv' := [some (vr (some (3, this))), some (vi v1), some (vi v2), none, none, none, none, none]) (st' := [vi (44 : Int32), vr (some (3, this))]) (M1 := M) (pc' := 83) (tb_Reader hγ) [.aload_n 0, .bipush 44] (by decide +kernel) rfl rfl trivial ?_
      refine E_callX (κ' := k_Reader_sign) (As := [vi (44 : Int32)]) (st := []) mv_Reader_sign (Or.inl (tbk_mem (j := 6) (k := 139) rfl)) rfl (by decide +kernel) (Nat.le_of_ble_eq_true rfl) (Nat.le_of_ble_eq_true rfl) rfl (by decide) rfl (lk_Reader_sign hγ this (44 : Int32) _ _ M h) (fun _ _ => Qv_r) (fun _ h => h) (fun v M89 hp => Qv_k (R := fun st => E γ k_Reader_aClass 12 86 [some (vr (some (3, this))), some (vi v1), some (vi v2), none, none, none, none, none] st M89 (Qx (9, 0) (Qi Q) X)) hp (fun h => ?_))
      refine E_blk (lv' := [some (vr (some (3, this))), some (vi v1), some (vi v2), none, none, none, none, none]) (st' := [vr (some (3, this)), vi (mI M89 3 this 18), vr (some (211, 0))]) (M1 := M89) (pc' := 95) (tb_Reader hγ) [.aload_n 0, .getfield 46, .aload_n 0, .getfield 167, .aload_n 0] (by decide +kernel) rfl rfl trivial ?_
      refine E_callX (κ' := k_Reader_className) (As := []) (st := [vi (mI M89 3 this 18), vr (some (211, 0))]) mv_Reader_className (Or.inl (tbk_mem (j := 6) (k := 130) rfl)) rfl (by decide +kernel) (Nat.le_of_ble_eq_true rfl) (Nat.le_of_ble_eq_true rfl) rfl (by decide) rfl (lk_Reader_className hγ this _ _ M89 h) (fun _ _ => Qi_r) (fun _ h => h) (fun v M90 hp => Qi_k (R := fun st => E γ k_Reader_aClass 12 98 [some (vr (some (3, this))), some (vi v1), some (vi v2), none, none, none, none, none] st M90 (Qx (9, 0) (Qi Q) X)) hp (fun r91 h => ?_))
      obtain ⟨c92, h⟩ := h
      refine E_blk (lv' := [some (vr (some (3, this))), some (vi v1), some (vi v2), none, none, none, none, none]) (st' := []) (M1 := (sI (sI M90 211 0 (mI M89 3 this 18).toNatClampNeg r91) 3 this 18 ((mI (sI M90 211 0 (mI M89 3 this 18).toNatClampNeg r91) 3 this 18) + (1 : Int32)))) (pc' := 109) (tb_Reader hγ) [.iastore, .aload_n 0, .dup, .getfield 167, .iconst 1, .iadd, .putfield 167] (by decide +kernel) rfl rfl ⟨c92, trivial⟩ ?_
      obtain ⟨M93, eM93, h⟩ := h
      rw [← eM93]
      refine E_goto (off := -42) (tgt := 67) (by decide +kernel) (by decide) ?_
      refine E_mask [true, true, true, false, false, false, false, false] rfl ?_
      exact ih v1 v2 M93 h
set_option maxRecDepth 4096 in
theorem lk_Reader_aClass {γ : Gm} (hγ : Gk γ) (this : Nat) (Q : Int32 → Mem → Prop) (X : Mem → Prop) (M : Mem) (h : w_Reader_aClass this Q X M) : E γ k_Reader_aClass 12 0 [some (vr (some (3, this))), none, none, none, none, none, none, none] [] M (Qx (9, 0) (Qi Q) X) := by
  unfold w_Reader_aClass at h
  refine E_blk (lv' := [some (vr (some (3, this))), none, none, none, none, none, none, none]) (st' := [vi (-1 : Int32), vi (71 : Int32), vi (70 : Int32), vi (69 : Int32), vr (some (3, this))]) (M1 := M) (pc' := 8) (tb_Reader hγ) [.aload_n 0, .bipush 69, .bipush 70, .bipush 71, .iconst (.negSucc 0)] (by decide +kernel) rfl rfl trivial ?_
  refine E_callV (κ' := k_Reader_flags) (As := [vi (69 : Int32), vi (70 : Int32), vi (71 : Int32), vi (-1 : Int32)]) (st := []) mv_Reader_flags (Or.inl (tbk_mem (j := 6) (k := 114) rfl)) rfl (by decide +kernel) (Nat.le_of_ble_eq_true rfl) (Nat.le_of_ble_eq_true rfl) rfl (by decide) (lk_Reader_flags hγ this (69 : Int32) (70 : Int32) (71 : Int32) (-1 : Int32) _ M h) (fun _ _ => Qi_r) (fun v M1 hp => Qi_k (R := fun st => E γ k_Reader_aClass 12 11 [some (vr (some (3, this))), none, none, none, none, none, none, none] st M1 (Qx (9, 0) (Qi Q) X)) hp (fun r2 h => ?_))
  refine E_blk (lv' := [some (vr (some (3, this))), some (vi r2), none, none, none, none, none, none]) (st' := [vi (62 : Int32), vr (some (2, 0))]) (M1 := M1) (pc' := 18) (tb_Reader hγ) [.istore_n 1, .aload_n 0, .getfield 20, .bipush 62] (by decide +kernel) rfl rfl trivial ?_
  refine E_callV (κ' := k_Words_isWord) (As := [vi (62 : Int32)]) (st := []) mv_Words_isWord (Or.inl (tbk_mem (j := 6) (k := 118) rfl)) rfl (by decide +kernel) (Nat.le_of_ble_eq_true rfl) (Nat.le_of_ble_eq_true rfl) rfl (by decide) (lk_Words_isWord hγ 0 (62 : Int32) _ M1 h) (fun _ _ => Qi_r) (fun v M3 hp => Qi_k (R := fun st => E γ k_Reader_aClass 12 21 [some (vr (some (3, this))), some (vi r2), none, none, none, none, none, none] st M3 (Qx (9, 0) (Qi Q) X)) hp (fun r4 h => ?_))
  refine E_if_ne (off := 8) (tgt := 29) (by decide +kernel) (by decide) (fun b5 => ?_) (fun b5 => ?_)
  · rw [if_pos b5] at h
    refine E_blk (lv' := [some (vr (some (3, this))), some (vi r2), none, none, none, none, none, none]) (st' := [vr (some (3, this))]) (M1 := M3) (pc' := 25) (tb_Reader hγ) [.aload_n 0] (by decide +kernel) rfl rfl trivial ?_
    refine E_callV (κ' := k_Reader_wrong) (As := []) (st := []) mv_Reader_wrong (Or.inl (tbk_mem (j := 6) (k := 122) rfl)) rfl (by decide +kernel) (Nat.le_of_ble_eq_true rfl) (Nat.le_of_ble_eq_true rfl) rfl (by decide) (lk_Reader_wrong hγ this _ M3 h) (fun _ _ => Qr_r) (fun v M6 hp => Qr_k (R := fun st => E γ k_Reader_aClass 12 28 [some (vr (some (3, this))), some (vi r2), none, none, none, none, none, none] st M6 (Qx (9, 0) (Qi Q) X)) hp (fun i7 h => ?_))
    obtain ⟨e0, h⟩ := h
    rw [e0]
    exact E_throw (by decide) rfl (by decide +kernel) h
  · rw [if_neg b5] at h
    refine E_blk (lv' := [some (vr (some (3, this))), some (vi r2), none, none, none, none, none, none]) (st' := [vr (some (2, 0))]) (M1 := M3) (pc' := 33) (tb_Reader hγ) [.aload_n 0, .getfield 20] (by decide +kernel) rfl rfl trivial ?_
    refine E_callV (κ' := k_Words_next) (As := []) (st := []) mv_Words_next (Or.inl (tbk_mem (j := 6) (k := 53) rfl)) rfl (by decide +kernel) (Nat.le_of_ble_eq_true rfl) (Nat.le_of_ble_eq_true rfl) rfl (by decide) (lk_Words_next hγ 0 _ M3 h) (fun _ _ => Qv_r) (fun v M8 hp => Qv_k (R := fun st => E γ k_Reader_aClass 12 36 [some (vr (some (3, this))), some (vi r2), none, none, none, none, none, none] st M8 (Qx (9, 0) (Qi Q) X)) hp (fun h => ?_))
    refine E_blk (lv' := [some (vr (some (3, this))), some (vi r2), none, none, none, none, none, none]) (st' := [vr (some (3, this))]) (M1 := M8) (pc' := 37) (tb_Reader hγ) [.aload_n 0] (by decide +kernel) rfl rfl trivial ?_
    refine E_callX (κ' := k_Reader_className) (As := []) (st := []) mv_Reader_className (Or.inl (tbk_mem (j := 6) (k := 130) rfl)) rfl (by decide +kernel) (Nat.le_of_ble_eq_true rfl) (Nat.le_of_ble_eq_true rfl) rfl (by decide) rfl (lk_Reader_className hγ this _ _ M8 h) (fun _ _ => Qi_r) (fun _ h => h) (fun v M9 hp => Qi_k (R := fun st => E γ k_Reader_aClass 12 40 [some (vr (some (3, this))), some (vi r2), none, none, none, none, none, none] st M9 (Qx (9, 0) (Qi Q) X)) hp (fun r10 h => ?_))
    refine E_blk (lv' := [some (vr (some (3, this))), some (vi r2), some (vi r10), none, none, none, none, none]) (st' := [vi (58 : Int32), vr (some (3, this))]) (M1 := M9) (pc' := 44) (tb_Reader hγ) [.istore_n 2, .aload_n 0, .bipush 58] (by decide +kernel) rfl rfl trivial ?_
    refine E_callX (κ' := k_Reader_sign) (As := [vi (58 : Int32)]) (st := []) mv_Reader_sign (Or.inl (tbk_mem (j := 6) (k := 139) rfl)) rfl (by decide +kernel) (Nat.le_of_ble_eq_true rfl) (Nat.le_of_ble_eq_true rfl) rfl (by decide) rfl (lk_Reader_sign hγ this (58 : Int32) _ _ M9 h) (fun _ _ => Qv_r) (fun _ h => h) (fun v M11 hp => Qv_k (R := fun st => E γ k_Reader_aClass 12 47 [some (vr (some (3, this))), some (vi r2), some (vi r10), none, none, none, none, none] st M11 (Qx (9, 0) (Qi Q) X)) hp (fun h => ?_))
    refine E_blk (lv' := [some (vr (some (3, this))), some (vi r2), some (vi r10), none, none, none, none, none]) (st' := [vr (some (3, this)), vi (0 : Int32), vr (some (211, 0))]) (M1 := (sI M11 3 this 18 (0 : Int32))) (pc' := 58) (tb_Reader hγ) [.aload_n 0, .iconst 0, .putfield 167, .aload_n 0, .getfield 46, .iconst 0, .aload_n 0] (by decide +kernel) rfl rfl trivial ?_
    refine E_callX (κ' := k_Reader_className) (As := []) (st := [vi (0 : Int32), vr (some (211, 0))]) mv_Reader_className (Or.inl (tbk_mem (j := 6) (k := 130) rfl)) rfl (by decide +kernel) (Nat.le_of_ble_eq_true rfl) (Nat.le_of_ble_eq_true rfl) rfl (by decide) rfl (lk_Reader_className hγ this _ _ (sI M11 3 this 18 (0 : Int32)) h) (fun _ _ => Qi_r) (fun _ h => h) (fun v M12 hp => Qi_k (R := fun st => E γ k_Reader_aClass 12 61 [some (vr (some (3, this))), some (vi r2), some (vi r10), none, none, none, none, none] st M12 (Qx (9, 0) (Qi Q) X)) hp (fun r13 h => ?_))
    obtain ⟨c14, h⟩ := h
    refine E_blk (lv' := [some (vr (some (3, this))), some (vi r2), some (vi r10), none, none, none, none, none]) (st' := []) (M1 := (sI (sI M12 211 0 (0 : Int32).toNatClampNeg r13) 3 this 18 (1 : Int32))) (pc' := 67) (tb_Reader hγ) [.iastore, .aload_n 0, .iconst 1, .putfield 167] (by decide +kernel) rfl rfl ⟨c14, trivial⟩ ?_
    obtain ⟨M15, eM15, h⟩ := h
    rw [← eM15]
    obtain ⟨n94, h⟩ := h
    refine E_mask [true, true, true, false, false, false, false, false] rfl ?_
    exact lk_Reader_aClass_L67 hγ this Q X n94 r2 r10 M15 h
def w_Reader_define_j129 (this : Nat) (Q : Int32 → Mem → Prop) (X : Mem → Prop) (v4 : Int32) (v5 : Int32) (v6 : Int32) (v7 : Int32) (v8 : Int32) (v9 : Int32) (v10 : Int32) (v11 : Int32) (s0 : Nat) (M : Mem) : Prop :=
  ∃ i16, (mR M 3 this 1) = some (5, i16) ∧ ∃ i17, (mR (sI M 5 i16 2 v4) 3 this 1) = some (5, i17) ∧ ∃ i18, (mR (sI (sI M 5 i16 2 v4) 5 i17 17 v5) 3 this 1) = some (5, i18) ∧ ∃ i19, (mR (sI (sI (sI M 5 i16 2 v4) 5 i17 17 v5) 5 i18 26 v6) 3 this 1) = some (5, i19) ∧ ∃ i20, (mR (sI (sI (sI (sI M 5 i16 2 v4) 5 i17 17 v5) 5 i18 26 v6) 5 i19 39 v7) 3 this 1) = some (5, i20) ∧ ∃ M21, M21 = (sI (sI (sI (sI (sI M 5 i16 2 v4) 5 i17 17 v5) 5 i18 26 v6) 5 i19 39 v7) 5 i20 47 v8) ∧ ∃ i22, (mR M21 3 this 1) = some (5, i22) ∧ ∃ i23, (mR (sI M21 5 i22 49 v9) 3 this 1) = some (5, i23) ∧ ∃ i24, (mR (sI (sI M21 5 i22 49 v9) 5 i23 51 v10) 3 this 1) = some (5, i24) ∧ s0 = 0 ∧ X (sI (sI (sI M21 5 i22 49 v9) 5 i23 51 v10) 5 i24 53 v11)
def w_Reader_define_L104 (this : Nat) (Q : Int32 → Mem → Prop) (X : Mem → Prop) : Nat → Int32 → Int32 → Int32 → Int32 → Int32 → Int32 → Int32 → Int32 → Int32 → Mem → Prop
  | 0, _, _, _, _, _, _, _, _, _, _ => False
  | n + 1, v4, v5, v6, v7, v8, v9, v10, v11, v12, M => if v12 = 0 then (∃ i12, (mR M 3 this 1) = some (5, i12) ∧ Q ((mI M 5 i12 2) - v4) M) else (w_Reader_aClass this (fun r14 M13 => (w_Reader_define_L104 this Q X n) v4 v5 v6 v7 v8 v9 v10 v11 r14 M13) (fun M15 => w_Reader_define_j129 this Q X v4 v5 v6 v7 v8 v9 v10 v11 0 M15) M)
def w_Reader_define_j102 (this : Nat) (Q : Int32 → Mem → Prop) (X : Mem → Prop) (v4 : Int32) (v5 : Int32) (v6 : Int32) (v7 : Int32) (v8 : Int32) (v9 : Int32) (v10 : Int32) (v11 : Int32) (s0 : Int32) (M : Mem) : Prop :=
  ∃ n25 : Nat, w_Reader_define_L104 this Q X n25 v4 v5 v6 v7 v8 v9 v10 v11 s0 M
def w_Reader_define_j101 (this : Nat) (Q : Int32 → Mem → Prop) (X : Mem → Prop) (v4 : Int32) (v5 : Int32) (v6 : Int32) (v7 : Int32) (v8 : Int32) (v9 : Int32) (v10 : Int32) (v11 : Int32) (M : Mem) : Prop :=
  w_Reader_define_j102 this Q X v4 v5 v6 v7 v8 v9 v10 v11 (0 : Int32) M
def w_Reader_define (this : Nat) (a1 : Nat) (a2 : Nat) (a3 : Int32) (Q : Int32 → Mem → Prop) (X : Mem → Prop) (M : Mem) : Prop :=
  ∃ i1, (mR (sR M 3 this 1 (some (5, a1))) 3 this 1) = some (5, i1) ∧ ∃ i2, (mR (sR M 3 this 1 (some (5, a1))) 3 this 1) = some (5, i2) ∧ ∃ i3, (mR (sR M 3 this 1 (some (5, a1))) 3 this 1) = some (5, i3) ∧ ∃ i4, (mR (sR M 3 this 1 (some (5, a1))) 3 this 1) = some (5, i4) ∧ ∃ i5, (mR (sR M 3 this 1 (some (5, a1))) 3 this 1) = some (5, i5) ∧ ∃ i6, (mR (sR M 3 this 1 (some (5, a1))) 3 this 1) = some (5, i6) ∧ ∃ i7, (mR (sR M 3 this 1 (some (5, a1))) 3 this 1) = some (5, i7) ∧ ∃ i8, (mR (sR M 3 this 1 (some (5, a1))) 3 this 1) = some (5, i8) ∧ w_Words_begin 0 a2 a3 (fun M9 => if a3 ≤ 0 then (w_Reader_define_j101 this Q X (mI (sR M 3 this 1 (some (5, a1))) 5 i1 2) (mI (sR M 3 this 1 (some (5, a1))) 5 i2 17) (mI (sR M 3 this 1 (some (5, a1))) 5 i3 26) (mI (sR M 3 this 1 (some (5, a1))) 5 i4 39) (mI (sR M 3 this 1 (some (5, a1))) 5 i5 47) (mI (sR M 3 this 1 (some (5, a1))) 5 i6 49) (mI (sR M 3 this 1 (some (5, a1))) 5 i7 51) (mI (sR M 3 this 1 (some (5, a1))) 5 i8 53) M9) else (w_Reader_begin this (fun r27 M26 => if r27 = 0 then (w_Reader_define_j101 this Q X (mI (sR M 3 this 1 (some (5, a1))) 5 i1 2) (mI (sR M 3 this 1 (some (5, a1))) 5 i2 17) (mI (sR M 3 this 1 (some (5, a1))) 5 i3 26) (mI (sR M 3 this 1 (some (5, a1))) 5 i4 39) (mI (sR M 3 this 1 (some (5, a1))) 5 i5 47) (mI (sR M 3 this 1 (some (5, a1))) 5 i6 49) (mI (sR M 3 this 1 (some (5, a1))) 5 i7 51) (mI (sR M 3 this 1 (some (5, a1))) 5 i8 53) M26) else (w_Reader_define_j102 this Q X (mI (sR M 3 this 1 (some (5, a1))) 5 i1 2) (mI (sR M 3 this 1 (some (5, a1))) 5 i2 17) (mI (sR M 3 this 1 (some (5, a1))) 5 i3 26) (mI (sR M 3 this 1 (some (5, a1))) 5 i4 39) (mI (sR M 3 this 1 (some (5, a1))) 5 i5 47) (mI (sR M 3 this 1 (some (5, a1))) 5 i6 49) (mI (sR M 3 this 1 (some (5, a1))) 5 i7 51) (mI (sR M 3 this 1 (some (5, a1))) 5 i8 53) (1 : Int32) M26)) M9)) (sR M 3 this 1 (some (5, a1)))
set_option maxRecDepth 4096 in
theorem lk_Reader_define_j129 {γ : Gm} (hγ : Gk γ) (this : Nat) (Q : Int32 → Mem → Prop) (X : Mem → Prop) (v4 : Int32) (v5 : Int32) (v6 : Int32) (v7 : Int32) (v8 : Int32) (v9 : Int32) (v10 : Int32) (v11 : Int32) (s0 : Nat) (M : Mem) (h : w_Reader_define_j129 this Q X v4 v5 v6 v7 v8 v9 v10 v11 s0 M) : E γ k_Reader_define 13 129 [some (vr (some (3, this))), none, none, none, some (vi v4), some (vi v5), some (vi v6), some (vi v7), some (vi v8), some (vi v9), some (vi v10), some (vi v11), none] [vr (some (9, s0))] M (Qx (9, 0) (Qi Q) X) := by
  unfold w_Reader_define_j129 at h
  refine E_blk (lv' := [some (vr (some (3, this))), none, none, none, some (vi v4), some (vi v5), some (vi v6), some (vi v7), some (vi v8), some (vi v9), some (vi v10), some (vi v11), some (vr (some (9, s0)))]) (st' := [vr (mR M 3 this 1)]) (M1 := M) (pc' := 135) (tb_Reader hγ) [.astore 12, .aload_n 0, .getfield 52] (by decide +kernel) rfl rfl trivial ?_
  obtain ⟨i16, ei16, h⟩ := h
  rw [ei16]
  refine E_blk (lv' := [some (vr (some (3, this))), none, none, none, some (vi v4), some (vi v5), some (vi v6), some (vi v7), some (vi v8), some (vi v9), some (vi v10), some (vi v11), some (vr (some (9, s0)))]) (st' := [vr (mR (sI M 5 i16 2 v4) 3 this 1)]) (M1 := (sI M 5 i16 2 v4)) (pc' := 144) (tb_Reader hγ) [.iload 4, .putfield 56, .aload_n 0, .getfield 52] (by decide +kernel) rfl rfl trivial ?_
  obtain ⟨i17, ei17, h⟩ := h
  rw [ei17]
  refine E_blk (lv' := [some (vr (some (3, this))), none, none, none, some (vi v4), some (vi v5), some (vi v6), some (vi v7), some (vi v8), some (vi v9), some (vi v10), some (vi v11), some (vr (some (9, s0)))]) (st' := [vr (mR (sI (sI M 5 i16 2 v4) 5 i17 17 v5) 3 this 1)]) (M1 := (sI (sI M 5 i16 2 v4) 5 i17 17 v5)) (pc' := 153) (tb_Reader hγ) [.iload 5, .putfield 62, .aload_n 0, .getfield 52] (by decide +kernel) rfl rfl trivial ?_
  obtain ⟨i18, ei18, h⟩ := h
  rw [ei18]
  refine E_blk (lv' := [some (vr (some (3, this))), none, none, none, some (vi v4), some (vi v5), some (vi v6), some (vi v7), some (vi v8), some (vi v9), some (vi v10), some (vi v11), some (vr (some (9, s0)))]) (st' := [vr (mR (sI (sI (sI M 5 i16 2 v4) 5 i17 17 v5) 5 i18 26 v6) 3 this 1)]) (M1 := (sI (sI (sI M 5 i16 2 v4) 5 i17 17 v5) 5 i18 26 v6)) (pc' := 162) (tb_Reader hγ) [.iload 6, .putfield 65, .aload_n 0, .getfield 52] (by decide +kernel) rfl rfl trivial ?_
  obtain ⟨i19, ei19, h⟩ := h
  rw [ei19]
  refine E_blk (lv' := [some (vr (some (3, this))), none, none, none, some (vi v4), some (vi v5), some (vi v6), some (vi v7), some (vi v8), some (vi v9), some (vi v10), some (vi v11), some (vr (some (9, s0)))]) (st' := [vr (mR (sI (sI (sI (sI M 5 i16 2 v4) 5 i17 17 v5) 5 i18 26 v6) 5 i19 39 v7) 3 this 1)]) (M1 := (sI (sI (sI (sI M 5 i16 2 v4) 5 i17 17 v5) 5 i18 26 v6) 5 i19 39 v7)) (pc' := 171) (tb_Reader hγ) [.iload 7, .putfield 68, .aload_n 0, .getfield 52] (by decide +kernel) rfl rfl trivial ?_
  obtain ⟨i20, ei20, h⟩ := h
  rw [ei20]
  refine E_blk (lv' := [some (vr (some (3, this))), none, none, none, some (vi v4), some (vi v5), some (vi v6), some (vi v7), some (vi v8), some (vi v9), some (vi v10), some (vi v11), some (vr (some (9, s0)))]) (st' := []) (M1 := (sI (sI (sI (sI (sI M 5 i16 2 v4) 5 i17 17 v5) 5 i18 26 v6) 5 i19 39 v7) 5 i20 47 v8)) (pc' := 176) (tb_Reader hγ) [.iload 8, .putfield 71] (by decide +kernel) rfl rfl trivial ?_
  obtain ⟨M21, eM21, h⟩ := h
  rw [← eM21]
  refine E_blk (lv' := [some (vr (some (3, this))), none, none, none, some (vi v4), some (vi v5), some (vi v6), some (vi v7), some (vi v8), some (vi v9), some (vi v10), some (vi v11), some (vr (some (9, s0)))]) (st' := [vr (mR M21 3 this 1)]) (M1 := M21) (pc' := 180) (tb_Reader hγ) [.aload_n 0, .getfield 52] (by decide +kernel) rfl rfl trivial ?_
  obtain ⟨i22, ei22, h⟩ := h
  rw [ei22]
  refine E_blk (lv' := [some (vr (some (3, this))), none, none, none, some (vi v4), some (vi v5), some (vi v6), some (vi v7), some (vi v8), some (vi v9), some (vi v10), some (vi v11), some (vr (some (9, s0)))]) (st' := [vr (mR (sI M21 5 i22 49 v9) 3 this 1)]) (M1 := (sI M21 5 i22 49 v9)) (pc' := 189) (tb_Reader hγ) [.iload 9, .putfield 74, .aload_n 0, .getfield 52] (by decide +kernel) rfl rfl trivial ?_
  obtain ⟨i23, ei23, h⟩ := h
  rw [ei23]
  refine E_blk (lv' := [some (vr (some (3, this))), none, none, none, some (vi v4), some (vi v5), some (vi v6), some (vi v7), some (vi v8), some (vi v9), some (vi v10), some (vi v11), some (vr (some (9, s0)))]) (st' := [vr (mR (sI (sI M21 5 i22 49 v9) 5 i23 51 v10) 3 this 1)]) (M1 := (sI (sI M21 5 i22 49 v9) 5 i23 51 v10)) (pc' := 198) (tb_Reader hγ) [.iload 10, .putfield 77, .aload_n 0, .getfield 52] (by decide +kernel) rfl rfl trivial ?_
  obtain ⟨i24, ei24, h⟩ := h
  rw [ei24]
  refine E_blk (lv' := [some (vr (some (3, this))), none, none, none, some (vi v4), some (vi v5), some (vi v6), some (vi v7), some (vi v8), some (vi v9), some (vi v10), some (vi v11), some (vr (some (9, s0)))]) (st' := [vr (some (9, s0))]) (M1 := (sI (sI (sI M21 5 i22 49 v9) 5 i23 51 v10) 5 i24 53 v11)) (pc' := 205) (tb_Reader hγ) [.iload 11, .putfield 80, .aload 12] (by decide +kernel) rfl rfl trivial ?_
  obtain ⟨e0, h⟩ := h
  rw [e0]
  exact E_throw (by decide) rfl (by decide +kernel) h
set_option maxRecDepth 4096 in
theorem lk_Reader_define_L104 {γ : Gm} (hγ : Gk γ) (this : Nat) (Q : Int32 → Mem → Prop) (X : Mem → Prop) : ∀ (n : Nat) (v4 : Int32) (v5 : Int32) (v6 : Int32) (v7 : Int32) (v8 : Int32) (v9 : Int32) (v10 : Int32) (v11 : Int32) (v12 : Int32) (M : Mem), w_Reader_define_L104 this Q X n v4 v5 v6 v7 v8 v9 v10 v11 v12 M → E γ k_Reader_define 13 104 [some (vr (some (3, this))), none, none, none, some (vi v4), some (vi v5), some (vi v6), some (vi v7), some (vi v8), some (vi v9), some (vi v10), some (vi v11), some (vi v12)] [] M (Qx (9, 0) (Qi Q) X) := by
  intro n
  induction n with
  | zero => intro v4 v5 v6 v7 v8 v9 v10 v11 v12 M h; exact h.elim
  | succ n ih =>
    intro v4 v5 v6 v7 v8 v9 v10 v11 v12 M h
    unfold w_Reader_define_L104 at h
    refine E_blk (lv' := [some (vr (some (3, this))), none, none, none, some (vi v4), some (vi v5), some (vi v6), some (vi v7), some (vi v8), some (vi v9), some (vi v10), some (vi v11), some (vi v12)]) (st' := [vi v12]) (M1 := M) (pc' := 106) (tb_Reader hγ) [.iload 12] (by decide +kernel) rfl rfl trivial ?_
    refine E_if_eq (off := 12) (tgt := 118) (by decide +kernel) (by decide) (fun b11 => ?_) (fun b11 => ?_)
    · rw [if_pos b11] at h
      refine E_blk (lv' := [some (vr (some (3, this))), none, none, none, some (vi v4), some (vi v5), some (vi v6), some (vi v7), some (vi v8), some (vi v9), some (vi v10), some (vi v11), some (vi v12)]) (st' := [vr (mR M 3 this 1)]) (M1 := M) (pc' := 122) (tb_Reader hγ) [.aload_n 0, .getfield 52] (by decide +kernel) rfl rfl trivial ?_
      obtain ⟨i12, ei12, h⟩ := h
      rw [ei12]
      refine E_blk (lv' := [some (vr (some (3, this))), none, none, none, some (vi v4), some (vi v5), some (vi v6), some (vi v7), some (vi v8), some (vi v9), some (vi v10), some (vi v11), some (vi v12)]) (st' := [vi ((mI M 5 i12 2) - v4)]) (M1 := M) (pc' := 128) (tb_Reader hγ) [.getfield 56, .iload 4, .isub] (by decide +kernel) rfl rfl trivial ?_
      exact (E_iret rfl (by decide +kernel) h).nx
    · rw [if_neg b11] at h
      refine E_blk (lv' := [some (vr (some (3, this))), none, none, none, some (vi v4), some (vi v5), some (vi v6), some (vi v7), some (vi v8), some (vi v9), some (vi v10), some (vi v11), some (vi v12)]) (st' := [vr (some (3, this))]) (M1 := M) (pc' := 110) (tb_Reader hγ) [.aload_n 0] (by decide +kernel) rfl rfl trivial ?_
      refine E_callC (q := (9, 0)) (hp := 129) (ct := 93) (κ' := k_Reader_aClass) (As := []) (st := []) mv_Reader_aClass (Or.inl (tbk_mem (j := 6) (k := 110) rfl)) rfl (by decide +kernel) (Nat.le_of_ble_eq_true rfl) (Nat.le_of_ble_eq_true rfl) rfl (by decide) rfl (Or.inr ⟨by decide, (show (9 : Nat) < 20 by decide), _, rfl, (tbk_mem (j := 6) (k := 44) rfl)⟩) (lk_Reader_aClass hγ this _ _ M h) (fun _ _ => Qi_r) (fun M15 h => ?_) (fun v M13 hp => Qi_k (R := fun st => E γ k_Reader_define 13 113 [some (vr (some (3, this))), none, none, none, some (vi v4), some (vi v5), some (vi v6), some (vi v7), some (vi v8), some (vi v9), some (vi v10), some (vi v11), some (vi v12)] st M13 (Qx (9, 0) (Qi Q) X)) hp (fun r14 h => ?_))
      · refine E_mask [true, false, false, false, true, true, true, true, true, true, true, true, false] rfl ?_
        exact lk_Reader_define_j129 hγ this Q X v4 v5 v6 v7 v8 v9 v10 v11 0 M15 h
      · refine E_blk (lv' := [some (vr (some (3, this))), none, none, none, some (vi v4), some (vi v5), some (vi v6), some (vi v7), some (vi v8), some (vi v9), some (vi v10), some (vi v11), some (vi r14)]) (st' := []) (M1 := M13) (pc' := 115) (tb_Reader hγ) [.istore 12] (by decide +kernel) rfl rfl trivial ?_
        refine E_goto (off := -11) (tgt := 104) (by decide +kernel) (by decide) ?_
        refine E_mask [true, false, false, false, true, true, true, true, true, true, true, true, true] rfl ?_
        exact ih v4 v5 v6 v7 v8 v9 v10 v11 r14 M13 h
set_option maxRecDepth 4096 in
theorem lk_Reader_define_j102 {γ : Gm} (hγ : Gk γ) (this : Nat) (Q : Int32 → Mem → Prop) (X : Mem → Prop) (v4 : Int32) (v5 : Int32) (v6 : Int32) (v7 : Int32) (v8 : Int32) (v9 : Int32) (v10 : Int32) (v11 : Int32) (s0 : Int32) (M : Mem) (h : w_Reader_define_j102 this Q X v4 v5 v6 v7 v8 v9 v10 v11 s0 M) : E γ k_Reader_define 13 102 [some (vr (some (3, this))), none, none, none, some (vi v4), some (vi v5), some (vi v6), some (vi v7), some (vi v8), some (vi v9), some (vi v10), some (vi v11), none] [vi s0] M (Qx (9, 0) (Qi Q) X) := by
  unfold w_Reader_define_j102 at h
  refine E_blk (lv' := [some (vr (some (3, this))), none, none, none, some (vi v4), some (vi v5), some (vi v6), some (vi v7), some (vi v8), some (vi v9), some (vi v10), some (vi v11), some (vi s0)]) (st' := []) (M1 := M) (pc' := 104) (tb_Reader hγ) [.istore 12] (by decide +kernel) rfl rfl trivial ?_
  obtain ⟨n25, h⟩ := h
  refine E_mask [true, false, false, false, true, true, true, true, true, true, true, true, true] rfl ?_
  exact lk_Reader_define_L104 hγ this Q X n25 v4 v5 v6 v7 v8 v9 v10 v11 s0 M h
set_option maxRecDepth 4096 in
theorem lk_Reader_define_j101 {γ : Gm} (hγ : Gk γ) (this : Nat) (Q : Int32 → Mem → Prop) (X : Mem → Prop) (v4 : Int32) (v5 : Int32) (v6 : Int32) (v7 : Int32) (v8 : Int32) (v9 : Int32) (v10 : Int32) (v11 : Int32) (M : Mem) (h : w_Reader_define_j101 this Q X v4 v5 v6 v7 v8 v9 v10 v11 M) : E γ k_Reader_define 13 101 [some (vr (some (3, this))), none, none, none, some (vi v4), some (vi v5), some (vi v6), some (vi v7), some (vi v8), some (vi v9), some (vi v10), some (vi v11), none] [] M (Qx (9, 0) (Qi Q) X) := by
  unfold w_Reader_define_j101 at h
  refine E_blk (lv' := [some (vr (some (3, this))), none, none, none, some (vi v4), some (vi v5), some (vi v6), some (vi v7), some (vi v8), some (vi v9), some (vi v10), some (vi v11), none]) (st' := [vi (0 : Int32)]) (M1 := M) (pc' := 102) (tb_Reader hγ) [.iconst 0] (by decide +kernel) rfl rfl trivial ?_
  refine E_mask [true, false, false, false, true, true, true, true, true, true, true, true, false] rfl ?_
  exact lk_Reader_define_j102 hγ this Q X v4 v5 v6 v7 v8 v9 v10 v11 (0 : Int32) M h
set_option maxRecDepth 4096 in
theorem lk_Reader_define {γ : Gm} (hγ : Gk γ) (this : Nat) (a1 : Nat) (a2 : Nat) (a3 : Int32) (Q : Int32 → Mem → Prop) (X : Mem → Prop) (M : Mem) (h : w_Reader_define this a1 a2 a3 Q X M) : E γ k_Reader_define 13 0 [some (vr (some (3, this))), some (vr (some (5, a1))), some (vr (some (400, a2))), some (vi a3), none, none, none, none, none, none, none, none, none] [] M (Qx (9, 0) (Qi Q) X) := by
  unfold w_Reader_define at h
  refine E_blk (lv' := [some (vr (some (3, this))), some (vr (some (5, a1))), some (vr (some (400, a2))), some (vi a3), none, none, none, none, none, none, none, none, none]) (st' := [vr (mR (sR M 3 this 1 (some (5, a1))) 3 this 1)]) (M1 := (sR M 3 this 1 (some (5, a1)))) (pc' := 9) (tb_Reader hγ) [.aload_n 0, .aload_n 1, .putfield 52, .aload_n 0, .getfield 52] (by decide +kernel) rfl rfl trivial ?_
  obtain ⟨i1, ei1, h⟩ := h
  rw [ei1]
  refine E_blk (lv' := [some (vr (some (3, this))), some (vr (some (5, a1))), some (vr (some (400, a2))), some (vi a3), some (vi (mI (sR M 3 this 1 (some (5, a1))) 5 i1 2)), none, none, none, none, none, none, none, none]) (st' := [vr (mR (sR M 3 this 1 (some (5, a1))) 3 this 1)]) (M1 := (sR M 3 this 1 (some (5, a1)))) (pc' := 18) (tb_Reader hγ) [.getfield 56, .istore 4, .aload_n 0, .getfield 52] (by decide +kernel) rfl rfl trivial ?_
  obtain ⟨i2, ei2, h⟩ := h
  rw [ei2]
  refine E_blk (lv' := [some (vr (some (3, this))), some (vr (some (5, a1))), some (vr (some (400, a2))), some (vi a3), some (vi (mI (sR M 3 this 1 (some (5, a1))) 5 i1 2)), some (vi (mI (sR M 3 this 1 (some (5, a1))) 5 i2 17)), none, none, none, none, none, none, none]) (st' := [vr (mR (sR M 3 this 1 (some (5, a1))) 3 this 1)]) (M1 := (sR M 3 this 1 (some (5, a1)))) (pc' := 27) (tb_Reader hγ) [.getfield 62, .istore 5, .aload_n 0, .getfield 52] (by decide +kernel) rfl rfl trivial ?_
  obtain ⟨i3, ei3, h⟩ := h
  rw [ei3]
  refine E_blk (lv' := [some (vr (some (3, this))), some (vr (some (5, a1))), some (vr (some (400, a2))), some (vi a3), some (vi (mI (sR M 3 this 1 (some (5, a1))) 5 i1 2)), some (vi (mI (sR M 3 this 1 (some (5, a1))) 5 i2 17)), some (vi (mI (sR M 3 this 1 (some (5, a1))) 5 i3 26)), none, none, none, none, none, none]) (st' := [vr (mR (sR M 3 this 1 (some (5, a1))) 3 this 1)]) (M1 := (sR M 3 this 1 (some (5, a1)))) (pc' := 36) (tb_Reader hγ) [.getfield 65, .istore 6, .aload_n 0, .getfield 52] (by decide +kernel) rfl rfl trivial ?_
  obtain ⟨i4, ei4, h⟩ := h
  rw [ei4]
  refine E_blk (lv' := [some (vr (some (3, this))), some (vr (some (5, a1))), some (vr (some (400, a2))), some (vi a3), some (vi (mI (sR M 3 this 1 (some (5, a1))) 5 i1 2)), some (vi (mI (sR M 3 this 1 (some (5, a1))) 5 i2 17)), some (vi (mI (sR M 3 this 1 (some (5, a1))) 5 i3 26)), some (vi (mI (sR M 3 this 1 (some (5, a1))) 5 i4 39)), none, none, none, none, none]) (st' := [vr (mR (sR M 3 this 1 (some (5, a1))) 3 this 1)]) (M1 := (sR M 3 this 1 (some (5, a1)))) (pc' := 45) (tb_Reader hγ) [.getfield 68, .istore 7, .aload_n 0, .getfield 52] (by decide +kernel) rfl rfl trivial ?_
  obtain ⟨i5, ei5, h⟩ := h
  rw [ei5]
  refine E_blk (lv' := [some (vr (some (3, this))), some (vr (some (5, a1))), some (vr (some (400, a2))), some (vi a3), some (vi (mI (sR M 3 this 1 (some (5, a1))) 5 i1 2)), some (vi (mI (sR M 3 this 1 (some (5, a1))) 5 i2 17)), some (vi (mI (sR M 3 this 1 (some (5, a1))) 5 i3 26)), some (vi (mI (sR M 3 this 1 (some (5, a1))) 5 i4 39)), some (vi (mI (sR M 3 this 1 (some (5, a1))) 5 i5 47)), none, none, none, none]) (st' := [vr (mR (sR M 3 this 1 (some (5, a1))) 3 this 1)]) (M1 := (sR M 3 this 1 (some (5, a1)))) (pc' := 54) (tb_Reader hγ) [.getfield 71, .istore 8, .aload_n 0, .getfield 52] (by decide +kernel) rfl rfl trivial ?_
  obtain ⟨i6, ei6, h⟩ := h
  rw [ei6]
  refine E_blk (lv' := [some (vr (some (3, this))), some (vr (some (5, a1))), some (vr (some (400, a2))), some (vi a3), some (vi (mI (sR M 3 this 1 (some (5, a1))) 5 i1 2)), some (vi (mI (sR M 3 this 1 (some (5, a1))) 5 i2 17)), some (vi (mI (sR M 3 this 1 (some (5, a1))) 5 i3 26)), some (vi (mI (sR M 3 this 1 (some (5, a1))) 5 i4 39)), some (vi (mI (sR M 3 this 1 (some (5, a1))) 5 i5 47)), some (vi (mI (sR M 3 this 1 (some (5, a1))) 5 i6 49)), none, none, none]) (st' := [vr (mR (sR M 3 this 1 (some (5, a1))) 3 this 1)]) (M1 := (sR M 3 this 1 (some (5, a1)))) (pc' := 63) (tb_Reader hγ) [.getfield 74, .istore 9, .aload_n 0, .getfield 52] (by decide +kernel) rfl rfl trivial ?_
  obtain ⟨i7, ei7, h⟩ := h
  rw [ei7]
  refine E_blk (lv' := [some (vr (some (3, this))), some (vr (some (5, a1))), some (vr (some (400, a2))), some (vi a3), some (vi (mI (sR M 3 this 1 (some (5, a1))) 5 i1 2)), some (vi (mI (sR M 3 this 1 (some (5, a1))) 5 i2 17)), some (vi (mI (sR M 3 this 1 (some (5, a1))) 5 i3 26)), some (vi (mI (sR M 3 this 1 (some (5, a1))) 5 i4 39)), some (vi (mI (sR M 3 this 1 (some (5, a1))) 5 i5 47)), some (vi (mI (sR M 3 this 1 (some (5, a1))) 5 i6 49)), some (vi (mI (sR M 3 this 1 (some (5, a1))) 5 i7 51)), none, none]) (st' := [vr (mR (sR M 3 this 1 (some (5, a1))) 3 this 1)]) (M1 := (sR M 3 this 1 (some (5, a1)))) (pc' := 72) (tb_Reader hγ) [.getfield 77, .istore 10, .aload_n 0, .getfield 52] (by decide +kernel) rfl rfl trivial ?_
  obtain ⟨i8, ei8, h⟩ := h
  rw [ei8]
  refine E_blk (lv' := [some (vr (some (3, this))), some (vr (some (5, a1))), some (vr (some (400, a2))), some (vi a3), some (vi (mI (sR M 3 this 1 (some (5, a1))) 5 i1 2)), some (vi (mI (sR M 3 this 1 (some (5, a1))) 5 i2 17)), some (vi (mI (sR M 3 this 1 (some (5, a1))) 5 i3 26)), some (vi (mI (sR M 3 this 1 (some (5, a1))) 5 i4 39)), some (vi (mI (sR M 3 this 1 (some (5, a1))) 5 i5 47)), some (vi (mI (sR M 3 this 1 (some (5, a1))) 5 i6 49)), some (vi (mI (sR M 3 this 1 (some (5, a1))) 5 i7 51)), some (vi (mI (sR M 3 this 1 (some (5, a1))) 5 i8 53)), none]) (st' := [vi a3, vr (some (400, a2)), vr (some (2, 0))]) (M1 := (sR M 3 this 1 (some (5, a1)))) (pc' := 83) (tb_Reader hγ) [.getfield 80, .istore 11, .aload_n 0, .getfield 20, .aload_n 2, .iload_n 3] (by decide +kernel) rfl rfl trivial ?_
  refine E_callV (κ' := k_Words_begin) (As := [vr (some (400, a2)), vi a3]) (st := []) mv_Words_begin (Or.inl (tbk_mem (j := 6) (k := 45) rfl)) rfl (by decide +kernel) (Nat.le_of_ble_eq_true rfl) (Nat.le_of_ble_eq_true rfl) rfl (by decide) (lk_Words_begin hγ 0 a2 a3 _ (sR M 3 this 1 (some (5, a1))) h) (fun _ _ => Qv_r) (fun v M9 hp => Qv_k (R := fun st => E γ k_Reader_define 13 86 [some (vr (some (3, this))), some (vr (some (5, a1))), some (vr (some (400, a2))), some (vi a3), some (vi (mI (sR M 3 this 1 (some (5, a1))) 5 i1 2)), some (vi (mI (sR M 3 this 1 (some (5, a1))) 5 i2 17)), some (vi (mI (sR M 3 this 1 (some (5, a1))) 5 i3 26)), some (vi (mI (sR M 3 this 1 (some (5, a1))) 5 i4 39)), some (vi (mI (sR M 3 this 1 (some (5, a1))) 5 i5 47)), some (vi (mI (sR M 3 this 1 (some (5, a1))) 5 i6 49)), some (vi (mI (sR M 3 this 1 (some (5, a1))) 5 i7 51)), some (vi (mI (sR M 3 this 1 (some (5, a1))) 5 i8 53)), none] st M9 (Qx (9, 0) (Qi Q) X)) hp (fun h => ?_))
  refine E_blk (lv' := [some (vr (some (3, this))), some (vr (some (5, a1))), some (vr (some (400, a2))), some (vi a3), some (vi (mI (sR M 3 this 1 (some (5, a1))) 5 i1 2)), some (vi (mI (sR M 3 this 1 (some (5, a1))) 5 i2 17)), some (vi (mI (sR M 3 this 1 (some (5, a1))) 5 i3 26)), some (vi (mI (sR M 3 this 1 (some (5, a1))) 5 i4 39)), some (vi (mI (sR M 3 this 1 (some (5, a1))) 5 i5 47)), some (vi (mI (sR M 3 this 1 (some (5, a1))) 5 i6 49)), some (vi (mI (sR M 3 this 1 (some (5, a1))) 5 i7 51)), some (vi (mI (sR M 3 this 1 (some (5, a1))) 5 i8 53)), none]) (st' := [vi a3]) (M1 := M9) (pc' := 87) (tb_Reader hγ) [.iload_n 3] (by decide +kernel) rfl rfl trivial ?_
  refine E_if_le (off := 14) (tgt := 101) (by decide +kernel) (by decide) (fun b10 => ?_) (fun b10 => ?_)
  · rw [if_pos b10] at h
    refine E_mask [true, false, false, false, true, true, true, true, true, true, true, true, false] rfl ?_
    exact lk_Reader_define_j101 hγ this Q X (mI (sR M 3 this 1 (some (5, a1))) 5 i1 2) (mI (sR M 3 this 1 (some (5, a1))) 5 i2 17) (mI (sR M 3 this 1 (some (5, a1))) 5 i3 26) (mI (sR M 3 this 1 (some (5, a1))) 5 i4 39) (mI (sR M 3 this 1 (some (5, a1))) 5 i5 47) (mI (sR M 3 this 1 (some (5, a1))) 5 i6 49) (mI (sR M 3 this 1 (some (5, a1))) 5 i7 51) (mI (sR M 3 this 1 (some (5, a1))) 5 i8 53) M9 h
  · rw [if_neg b10] at h
    refine E_blk (lv' := [some (vr (some (3, this))), some (vr (some (5, a1))), some (vr (some (400, a2))), some (vi a3), some (vi (mI (sR M 3 this 1 (some (5, a1))) 5 i1 2)), some (vi (mI (sR M 3 this 1 (some (5, a1))) 5 i2 17)), some (vi (mI (sR M 3 this 1 (some (5, a1))) 5 i3 26)), some (vi (mI (sR M 3 this 1 (some (5, a1))) 5 i4 39)), some (vi (mI (sR M 3 this 1 (some (5, a1))) 5 i5 47)), some (vi (mI (sR M 3 this 1 (some (5, a1))) 5 i6 49)), some (vi (mI (sR M 3 this 1 (some (5, a1))) 5 i7 51)), some (vi (mI (sR M 3 this 1 (some (5, a1))) 5 i8 53)), none]) (st' := [vr (some (3, this))]) (M1 := M9) (pc' := 91) (tb_Reader hγ) [.aload_n 0] (by decide +kernel) rfl rfl trivial ?_
    refine E_callV (κ' := k_Reader_begin) (As := []) (st := []) mv_Reader_begin (Or.inl (tbk_mem (j := 6) (k := 49) rfl)) rfl (by decide +kernel) (Nat.le_of_ble_eq_true rfl) (Nat.le_of_ble_eq_true rfl) rfl (by decide) (lk_Reader_begin hγ this _ M9 h) (fun _ _ => Qi_r) (fun v M26 hp => Qi_k (R := fun st => E γ k_Reader_define 13 94 [some (vr (some (3, this))), some (vr (some (5, a1))), some (vr (some (400, a2))), some (vi a3), some (vi (mI (sR M 3 this 1 (some (5, a1))) 5 i1 2)), some (vi (mI (sR M 3 this 1 (some (5, a1))) 5 i2 17)), some (vi (mI (sR M 3 this 1 (some (5, a1))) 5 i3 26)), some (vi (mI (sR M 3 this 1 (some (5, a1))) 5 i4 39)), some (vi (mI (sR M 3 this 1 (some (5, a1))) 5 i5 47)), some (vi (mI (sR M 3 this 1 (some (5, a1))) 5 i6 49)), some (vi (mI (sR M 3 this 1 (some (5, a1))) 5 i7 51)), some (vi (mI (sR M 3 this 1 (some (5, a1))) 5 i8 53)), none] st M26 (Qx (9, 0) (Qi Q) X)) hp (fun r27 h => ?_))
    refine E_if_eq (off := 7) (tgt := 101) (by decide +kernel) (by decide) (fun b28 => ?_) (fun b28 => ?_)
    · rw [if_pos b28] at h
      refine E_mask [true, false, false, false, true, true, true, true, true, true, true, true, false] rfl ?_
      exact lk_Reader_define_j101 hγ this Q X (mI (sR M 3 this 1 (some (5, a1))) 5 i1 2) (mI (sR M 3 this 1 (some (5, a1))) 5 i2 17) (mI (sR M 3 this 1 (some (5, a1))) 5 i3 26) (mI (sR M 3 this 1 (some (5, a1))) 5 i4 39) (mI (sR M 3 this 1 (some (5, a1))) 5 i5 47) (mI (sR M 3 this 1 (some (5, a1))) 5 i6 49) (mI (sR M 3 this 1 (some (5, a1))) 5 i7 51) (mI (sR M 3 this 1 (some (5, a1))) 5 i8 53) M26 h
    · rw [if_neg b28] at h
      refine E_blk (lv' := [some (vr (some (3, this))), some (vr (some (5, a1))), some (vr (some (400, a2))), some (vi a3), some (vi (mI (sR M 3 this 1 (some (5, a1))) 5 i1 2)), some (vi (mI (sR M 3 this 1 (some (5, a1))) 5 i2 17)), some (vi (mI (sR M 3 this 1 (some (5, a1))) 5 i3 26)), some (vi (mI (sR M 3 this 1 (some (5, a1))) 5 i4 39)), some (vi (mI (sR M 3 this 1 (some (5, a1))) 5 i5 47)), some (vi (mI (sR M 3 this 1 (some (5, a1))) 5 i6 49)), some (vi (mI (sR M 3 this 1 (some (5, a1))) 5 i7 51)), some (vi (mI (sR M 3 this 1 (some (5, a1))) 5 i8 53)), none]) (st' := [vi (1 : Int32)]) (M1 := M26) (pc' := 98) (tb_Reader hγ) [.iconst 1] (by decide +kernel) rfl rfl trivial ?_
      refine E_goto (off := 4) (tgt := 102) (by decide +kernel) (by decide) ?_
      refine E_mask [true, false, false, false, true, true, true, true, true, true, true, true, false] rfl ?_
      exact lk_Reader_define_j102 hγ this Q X (mI (sR M 3 this 1 (some (5, a1))) 5 i1 2) (mI (sR M 3 this 1 (some (5, a1))) 5 i2 17) (mI (sR M 3 this 1 (some (5, a1))) 5 i3 26) (mI (sR M 3 this 1 (some (5, a1))) 5 i4 39) (mI (sR M 3 this 1 (some (5, a1))) 5 i5 47) (mI (sR M 3 this 1 (some (5, a1))) 5 i6 49) (mI (sR M 3 this 1 (some (5, a1))) 5 i7 51) (mI (sR M 3 this 1 (some (5, a1))) 5 i8 53) (1 : Int32) M26 h
def w_Reader_call_j87 (this : Nat) (Q : Mem → Prop) (X : Mem → Prop)  (M : Mem) : Prop :=
  w_Reader_wrong this (fun i16 M15 => i16 = 0 ∧ X M15) M
def w_Reader_call_j67 (this : Nat) (Q : Mem → Prop) (X : Mem → Prop) (k42 : Int32 → Int32 → Int32 → Int32 → Mem → Prop) (v2 : Int32) (v3 : Int32) (v4 : Int32) (v5 : Int32) (M : Mem) : Prop :=
  w_Words_isWord 0 (1 : Int32) (fun r13 M12 => if r13 = 0 then (w_Reader_call_j87 this Q X  M12) else (if (mI M12 3 this 18) = (6 : Int32) then (w_Reader_call_j87 this Q X  M12) else (vp_in (mI M12 3 this 18) (mL M12 211 0) ∧ ∃ M19, M19 = (sI (sI M12 211 0 (mI M12 3 this 18).toNatClampNeg (0 : Int32)) 3 this 18 ((mI (sI M12 211 0 (mI M12 3 this 18).toNatClampNeg (0 : Int32)) 3 this 18) + (1 : Int32))) ∧ w_Words_next 0 (fun M20 => k42 v2 v3 v4 v5 M20) M19))) M
def w_Reader_call_j160 (this : Nat) (Q : Mem → Prop) (X : Mem → Prop) (k138 : Int32 → Int32 → Int32 → Int32 → Int32 → Int32 → Mem → Prop) (v2 : Int32) (v3 : Int32) (v4 : Int32) (v5 : Int32) (v6 : Int32) (v7 : Int32) (s0 : Int32) (M : Mem) : Prop :=
  w_Reader_sign this s0 (fun M32 => w_Reader_number this (-2147483648 : Int32) (2147483647 : Int32) (fun r34 M33 => vp_in v7 (mL M33 30 this) ∧ k138 v2 v3 v4 v5 v6 (v7 + (1 : Int32)) (sI M33 30 this v7.toNatClampNeg r34)) X M32) X M
def w_Reader_call_L138 (this : Nat) (Q : Mem → Prop) (X : Mem → Prop) : Nat → Int32 → Int32 → Int32 → Int32 → Int32 → Int32 → Mem → Prop
  | 0, _, _, _, _, _, _, _ => False
  | n + 1, v2, v3, v4, v5, v6, v7, M => if (mI M 3 this 18) ≤ v7 then (w_Reader_end this (fun M26 => ∃ i27, (mR M26 3 this 1) = some (5, i27) ∧ w_Reader_addReference this v4 v5 v6 (fun r29 M28 => ∃ i30, (mR M28 3 this 1) = some (5, i30) ∧ Q (sI M28 5 i30 53 v3)) (sI M26 5 i27 53 v2)) X M) else (if v7 = 0 then (w_Reader_call_j160 this Q X (w_Reader_call_L138 this Q X n) v2 v3 v4 v5 v6 v7 (58 : Int32) M) else (w_Reader_call_j160 this Q X (w_Reader_call_L138 this Q X n) v2 v3 v4 v5 v6 v7 (44 : Int32) M))
def w_Reader_call_L42 (this : Nat) (Q : Mem → Prop) (X : Mem → Prop) : Nat → Int32 → Int32 → Int32 → Int32 → Mem → Prop
  | 0, _, _, _, _, _ => False
  | n + 1, v2, v3, v4, v5, M => w_Words_isSign 0 (41 : Int32) (fun r9 M8 => if r9 = 0 then (if (mI M8 3 this 18) ≤ 0 then (w_Reader_call_j67 this Q X (w_Reader_call_L42 this Q X n) v2 v3 v4 v5 M8) else (w_Reader_sign this (44 : Int32) (fun M21 => w_Reader_call_j67 this Q X (w_Reader_call_L42 this Q X n) v2 v3 v4 v5 M21) X M8)) else (w_Words_next 0 (fun M22 => w_Reader_result this (fun r24 M23 => ∃ n36 : Nat, w_Reader_call_L138 this Q X n36 v2 v3 v4 v5 r24 (0 : Int32) M23) X M22) M8)) M
def w_Reader_call (this : Nat) (a1 : Nat) (a2 : Int32) (Q : Mem → Prop) (X : Mem → Prop) (M : Mem) : Prop :=
  ∃ i1, (mR (sR M 3 this 1 (some (5, a1))) 3 this 1) = some (5, i1) ∧ w_Reader_className this (fun r3 M2 => w_Reader_sign this (46 : Int32) (fun M4 => w_Reader_anyName this (fun r6 M5 => w_Reader_sign this (40 : Int32) (fun M7 => ∃ n37 : Nat, w_Reader_call_L42 this Q X n37 a2 (mI (sR M 3 this 1 (some (5, a1))) 5 i1 53) r3 r6 (sI M7 3 this 18 (0 : Int32))) X M5) X M4) X M2) X (sR M 3 this 1 (some (5, a1)))
set_option maxRecDepth 4096 in
theorem lk_Reader_call_j87 {γ : Gm} (hγ : Gk γ) (this : Nat) (Q : Mem → Prop) (X : Mem → Prop)  (M : Mem) (h : w_Reader_call_j87 this Q X  M) : E γ k_Reader_call 7 87 [some (vr (some (3, this))), none, none, none, none, none, none, none] [] M (Qx (9, 0) (Qv Q) X) := by
  unfold w_Reader_call_j87 at h
  refine E_blk (lv' := [some (vr (some (3, this))), none, none, none, none, none, none, none]) (st' := [vr (some (3, this))]) (M1 := M) (pc' := 88) (tb_Reader hγ) [.aload_n 0] (by decide +kernel) rfl rfl trivial ?_
  refine E_callV (κ' := k_Reader_wrong) (As := []) (st := []) mv_Reader_wrong (Or.inl (tbk_mem (j := 6) (k := 122) rfl)) rfl (by decide +kernel) (Nat.le_of_ble_eq_true rfl) (Nat.le_of_ble_eq_true rfl) rfl (by decide) (lk_Reader_wrong hγ this _ M h) (fun _ _ => Qr_r) (fun v M15 hp => Qr_k (R := fun st => E γ k_Reader_call 7 91 [some (vr (some (3, this))), none, none, none, none, none, none, none] st M15 (Qx (9, 0) (Qv Q) X)) hp (fun i16 h => ?_))
  obtain ⟨e0, h⟩ := h
  rw [e0]
  exact E_throw (by decide) rfl (by decide +kernel) h
set_option maxRecDepth 4096 in
theorem lk_Reader_call_j67 {γ : Gm} (hγ : Gk γ) (this : Nat) (Q : Mem → Prop) (X : Mem → Prop) (k42 : Int32 → Int32 → Int32 → Int32 → Mem → Prop) (hk42 : ∀ (v2 : Int32) (v3 : Int32) (v4 : Int32) (v5 : Int32) (M : Mem), k42 v2 v3 v4 v5 M → E γ k_Reader_call 7 42 [some (vr (some (3, this))), none, some (vi v2), some (vi v3), some (vi v4), some (vi v5), none, none] [] M (Qx (9, 0) (Qv Q) X)) (v2 : Int32) (v3 : Int32) (v4 : Int32) (v5 : Int32) (M : Mem) (h : w_Reader_call_j67 this Q X k42 v2 v3 v4 v5 M) : E γ k_Reader_call 7 67 [some (vr (some (3, this))), none, some (vi v2), some (vi v3), some (vi v4), some (vi v5), none, none] [] M (Qx (9, 0) (Qv Q) X) := by
  unfold w_Reader_call_j67 at h
  refine E_blk (lv' := [some (vr (some (3, this))), none, some (vi v2), some (vi v3), some (vi v4), some (vi v5), none, none]) (st' := [vi (1 : Int32), vr (some (2, 0))]) (M1 := M) (pc' := 72) (tb_Reader hγ) [.aload_n 0, .getfield 20, .iconst 1] (by decide +kernel) rfl rfl trivial ?_
  refine E_callV (κ' := k_Words_isWord) (As := [vi (1 : Int32)]) (st := []) mv_Words_isWord (Or.inl (tbk_mem (j := 6) (k := 118) rfl)) rfl (by decide +kernel) (Nat.le_of_ble_eq_true rfl) (Nat.le_of_ble_eq_true rfl) rfl (by decide) (lk_Words_isWord hγ 0 (1 : Int32) _ M h) (fun _ _ => Qi_r) (fun v M12 hp => Qi_k (R := fun st => E γ k_Reader_call 7 75 [some (vr (some (3, this))), none, some (vi v2), some (vi v3), some (vi v4), some (vi v5), none, none] st M12 (Qx (9, 0) (Qv Q) X)) hp (fun r13 h => ?_))
  refine E_if_eq (off := 12) (tgt := 87) (by decide +kernel) (by decide) (fun b14 => ?_) (fun b14 => ?_)
  · rw [if_pos b14] at h
    refine E_mask [true, false, false, false, false, false, false, false] rfl ?_
    exact lk_Reader_call_j87 hγ this Q X  M12 h
  · rw [if_neg b14] at h
    refine E_blk (lv' := [some (vr (some (3, this))), none, some (vi v2), some (vi v3), some (vi v4), some (vi v5), none, none]) (st' := [vi (6 : Int32), vi (mI M12 3 this 18)]) (M1 := M12) (pc' := 84) (tb_Reader hγ) [.aload_n 0, .getfield 167, .bipush 6] (by decide +kernel) rfl rfl trivial ?_
    refine E_icmp_ne (off := 8) (tgt := 92) (by decide +kernel) (by decide) (fun b17 => ?_) (fun b17 => ?_)
    · rw [if_pos b17] at h
      refine E_mask [true, false, false, false, false, false, false, false] rfl ?_
      exact lk_Reader_call_j87 hγ this Q X  M12 h
    · rw [if_neg b17] at h
      obtain ⟨c18, h⟩ := h
      refine E_blk (lv' := [some (vr (some (3, this))), none, some (vi v2), some (vi v3), some (vi v4), some (vi v5), none, none]) (st' := []) (M1 := (sI (sI M12 211 0 (mI M12 3 this 18).toNatClampNeg (0 : Int32)) 3 this 18 ((mI (sI M12 211 0 (mI M12 3 this 18).toNatClampNeg (0 : Int32)) 3 this 18) + (1 : Int32)))) (pc' := 112) (tb_Reader hγ) [.aload_n 0, .getfield 46, .aload_n 0, .getfield 167, .iconst 0, .iastore, .aload_n 0, .dup, .getfield 167, .iconst 1, .iadd, .putfield 167] (by decide +kernel) rfl rfl ⟨c18, trivial⟩ ?_
      obtain ⟨M19, eM19, h⟩ := h
      rw [← eM19]
      refine E_blk (lv' := [some (vr (some (3, this))), none, some (vi v2), some (vi v3), some (vi v4), some (vi v5), none, none]) (st' := [vr (some (2, 0))]) (M1 := M19) (pc' := 116) (tb_Reader hγ) [.aload_n 0, .getfield 20] (by decide +kernel) rfl rfl trivial ?_
      refine E_callV (κ' := k_Words_next) (As := []) (st := []) mv_Words_next (Or.inl (tbk_mem (j := 6) (k := 53) rfl)) rfl (by decide +kernel) (Nat.le_of_ble_eq_true rfl) (Nat.le_of_ble_eq_true rfl) rfl (by decide) (lk_Words_next hγ 0 _ M19 h) (fun _ _ => Qv_r) (fun v M20 hp => Qv_k (R := fun st => E γ k_Reader_call 7 119 [some (vr (some (3, this))), none, some (vi v2), some (vi v3), some (vi v4), some (vi v5), none, none] st M20 (Qx (9, 0) (Qv Q) X)) hp (fun h => ?_))
      refine E_goto (off := -77) (tgt := 42) (by decide +kernel) (by decide) ?_
      refine E_mask [true, false, true, true, true, true, false, false] rfl ?_
      exact hk42 v2 v3 v4 v5 M20 h
set_option maxRecDepth 4096 in
theorem lk_Reader_call_j160 {γ : Gm} (hγ : Gk γ) (this : Nat) (Q : Mem → Prop) (X : Mem → Prop) (k138 : Int32 → Int32 → Int32 → Int32 → Int32 → Int32 → Mem → Prop) (hk138 : ∀ (v2 : Int32) (v3 : Int32) (v4 : Int32) (v5 : Int32) (v6 : Int32) (v7 : Int32) (M : Mem), k138 v2 v3 v4 v5 v6 v7 M → E γ k_Reader_call 7 138 [some (vr (some (3, this))), none, some (vi v2), some (vi v3), some (vi v4), some (vi v5), some (vi v6), some (vi v7)] [] M (Qx (9, 0) (Qv Q) X)) (v2 : Int32) (v3 : Int32) (v4 : Int32) (v5 : Int32) (v6 : Int32) (v7 : Int32) (s0 : Int32) (M : Mem) (h : w_Reader_call_j160 this Q X k138 v2 v3 v4 v5 v6 v7 s0 M) : E γ k_Reader_call 7 160 [some (vr (some (3, this))), none, some (vi v2), some (vi v3), some (vi v4), some (vi v5), some (vi v6), some (vi v7)] [vi s0, vr (some (3, this))] M (Qx (9, 0) (Qv Q) X) := by
  unfold w_Reader_call_j160 at h
  refine E_callX (κ' := k_Reader_sign) (As := [vi s0]) (st := []) mv_Reader_sign (Or.inl (tbk_mem (j := 6) (k := 139) rfl)) rfl (by decide +kernel) (Nat.le_of_ble_eq_true rfl) (Nat.le_of_ble_eq_true rfl) rfl (by decide) rfl (lk_Reader_sign hγ this s0 _ _ M h) (fun _ _ => Qv_r) (fun _ h => h) (fun v M32 hp => Qv_k (R := fun st => E γ k_Reader_call 7 163 [some (vr (some (3, this))), none, some (vi v2), some (vi v3), some (vi v4), some (vi v5), some (vi v6), some (vi v7)] st M32 (Qx (9, 0) (Qv Q) X)) hp (fun h => ?_))
  refine E_blk (lv' := [some (vr (some (3, this))), none, some (vi v2), some (vi v3), some (vi v4), some (vi v5), some (vi v6), some (vi v7)]) (st' := [vi (2147483647 : Int32), vi (-2147483648 : Int32), vr (some (3, this)), vi v7, vr (some (30, this))]) (M1 := M32) (pc' := 174) (tb_Reader hγ) [.aload_n 0, .getfield 49, .iload 7, .aload_n 0, .ldc 217, .ldc 218] (by decide +kernel) rfl rfl trivial ?_
  refine E_callX (κ' := k_Reader_number) (As := [vi (-2147483648 : Int32), vi (2147483647 : Int32)]) (st := [vi v7, vr (some (30, this))]) mv_Reader_number (Or.inl (tbk_mem (j := 6) (k := 185) rfl)) rfl (by decide +kernel) (Nat.le_of_ble_eq_true rfl) (Nat.le_of_ble_eq_true rfl) rfl (by decide) rfl (lk_Reader_number hγ this (-2147483648 : Int32) (2147483647 : Int32) _ _ M32 h) (fun _ _ => Qi_r) (fun _ h => h) (fun v M33 hp => Qi_k (R := fun st => E γ k_Reader_call 7 177 [some (vr (some (3, this))), none, some (vi v2), some (vi v3), some (vi v4), some (vi v5), some (vi v6), some (vi v7)] st M33 (Qx (9, 0) (Qv Q) X)) hp (fun r34 h => ?_))
  obtain ⟨c35, h⟩ := h
  refine E_blk (lv' := [some (vr (some (3, this))), none, some (vi v2), some (vi v3), some (vi v4), some (vi v5), some (vi v6), some (vi (v7 + (1 : Int32)))]) (st' := []) (M1 := (sI M33 30 this v7.toNatClampNeg r34)) (pc' := 181) (tb_Reader hγ) [.iastore, .iinc 7 1] (by decide +kernel) rfl rfl ⟨c35, trivial⟩ ?_
  refine E_goto (off := -43) (tgt := 138) (by decide +kernel) (by decide) ?_
  refine E_mask [true, false, true, true, true, true, true, true] rfl ?_
  exact hk138 v2 v3 v4 v5 v6 (v7 + (1 : Int32)) (sI M33 30 this v7.toNatClampNeg r34) h
set_option maxRecDepth 4096 in
theorem lk_Reader_call_L138 {γ : Gm} (hγ : Gk γ) (this : Nat) (Q : Mem → Prop) (X : Mem → Prop) : ∀ (n : Nat) (v2 : Int32) (v3 : Int32) (v4 : Int32) (v5 : Int32) (v6 : Int32) (v7 : Int32) (M : Mem), w_Reader_call_L138 this Q X n v2 v3 v4 v5 v6 v7 M → E γ k_Reader_call 7 138 [some (vr (some (3, this))), none, some (vi v2), some (vi v3), some (vi v4), some (vi v5), some (vi v6), some (vi v7)] [] M (Qx (9, 0) (Qv Q) X) := by
  intro n
  induction n with
  | zero => intro v2 v3 v4 v5 v6 v7 M h; exact h.elim
  | succ n ih =>
    intro v2 v3 v4 v5 v6 v7 M h
    unfold w_Reader_call_L138 at h
    refine E_blk (lv' := [some (vr (some (3, this))), none, some (vi v2), some (vi v3), some (vi v4), some (vi v5), some (vi v6), some (vi v7)]) (st' := [vi (mI M 3 this 18), vi v7]) (M1 := M) (pc' := 144) (tb_Reader hγ) [.iload 7, .aload_n 0, .getfield 167] (by decide +kernel) rfl rfl trivial ?_
    refine E_icmp_ge (off := 40) (tgt := 184) (by decide +kernel) (by decide) (fun b25 => ?_) (fun b25 => ?_)
    · rw [if_pos b25] at h
      refine E_blk (lv' := [some (vr (some (3, this))), none, some (vi v2), some (vi v3), some (vi v4), some (vi v5), some (vi v6), some (vi v7)]) (st' := [vr (some (3, this))]) (M1 := M) (pc' := 185) (tb_Reader hγ) [.aload_n 0] (by decide +kernel) rfl rfl trivial ?_
      refine E_callX (κ' := k_Reader_end) (As := []) (st := []) mv_Reader_end (Or.inl (tbk_mem (j := 6) (k := 191) rfl)) rfl (by decide +kernel) (Nat.le_of_ble_eq_true rfl) (Nat.le_of_ble_eq_true rfl) rfl (by decide) rfl (lk_Reader_end hγ this _ _ M h) (fun _ _ => Qv_r) (fun _ h => h) (fun v M26 hp => Qv_k (R := fun st => E γ k_Reader_call 7 188 [some (vr (some (3, this))), none, some (vi v2), some (vi v3), some (vi v4), some (vi v5), some (vi v6), some (vi v7)] st M26 (Qx (9, 0) (Qv Q) X)) hp (fun h => ?_))
      refine E_blk (lv' := [some (vr (some (3, this))), none, some (vi v2), some (vi v3), some (vi v4), some (vi v5), some (vi v6), some (vi v7)]) (st' := [vr (mR M26 3 this 1)]) (M1 := M26) (pc' := 192) (tb_Reader hγ) [.aload_n 0, .getfield 52] (by decide +kernel) rfl rfl trivial ?_
      obtain ⟨i27, ei27, h⟩ := h
      rw [ei27]
      refine E_blk (lv' := [some (vr (some (3, this))), none, some (vi v2), some (vi v3), some (vi v4), some (vi v5), some (vi v6), some (vi v7)]) (st' := [vi v6, vi v5, vi v4, vr (some (3, this))]) (M1 := (sI M26 5 i27 53 v2)) (pc' := 203) (tb_Reader hγ) [.iload_n 2, .putfield 80, .aload_n 0, .iload 4, .iload 5, .iload 6] (by decide +kernel) rfl rfl trivial ?_
      refine E_callV (κ' := k_Reader_addReference) (As := [vi v4, vi v5, vi v6]) (st := []) mv_Reader_addReference (Or.inl (tbk_mem (j := 7) (k := 24) rfl)) rfl (by decide +kernel) (Nat.le_of_ble_eq_true rfl) (Nat.le_of_ble_eq_true rfl) rfl (by decide) (lk_Reader_addReference hγ this v4 v5 v6 _ (sI M26 5 i27 53 v2) h) (fun _ _ => Qi_r) (fun v M28 hp => Qi_k (R := fun st => E γ k_Reader_call 7 206 [some (vr (some (3, this))), none, some (vi v2), some (vi v3), some (vi v4), some (vi v5), some (vi v6), some (vi v7)] st M28 (Qx (9, 0) (Qv Q) X)) hp (fun r29 h => ?_))
      refine E_blk (lv' := [some (vr (some (3, this))), none, some (vi v2), some (vi v3), some (vi v4), some (vi v5), some (vi v6), some (vi r29)]) (st' := [vr (mR M28 3 this 1)]) (M1 := M28) (pc' := 212) (tb_Reader hγ) [.istore 7, .aload_n 0, .getfield 52] (by decide +kernel) rfl rfl trivial ?_
      obtain ⟨i30, ei30, h⟩ := h
      rw [ei30]
      refine E_blk (lv' := [some (vr (some (3, this))), none, some (vi v2), some (vi v3), some (vi v4), some (vi v5), some (vi v6), some (vi r29)]) (st' := []) (M1 := (sI M28 5 i30 53 v3)) (pc' := 216) (tb_Reader hγ) [.iload_n 3, .putfield 80] (by decide +kernel) rfl rfl trivial ?_
      exact (E_vret rfl (by decide +kernel) h).nx
    · rw [if_neg b25] at h
      refine E_blk (lv' := [some (vr (some (3, this))), none, some (vi v2), some (vi v3), some (vi v4), some (vi v5), some (vi v6), some (vi v7)]) (st' := [vi v7, vr (some (3, this))]) (M1 := M) (pc' := 150) (tb_Reader hγ) [.aload_n 0, .iload 7] (by decide +kernel) rfl rfl trivial ?_
      refine E_if_ne (off := 8) (tgt := 158) (by decide +kernel) (by decide) (fun b31 => ?_) (fun b31 => ?_)
      · rw [if_pos b31] at h
        refine E_blk (lv' := [some (vr (some (3, this))), none, some (vi v2), some (vi v3), some (vi v4), some (vi v5), some (vi v6), some (vi v7)]) (st' := [vi (58 : Int32), vr (some (3, this))]) (M1 := M) (pc' := 155) (tb_Reader hγ) [.bipush 58] (by decide +kernel) rfl rfl trivial ?_
        refine E_goto (off := 5) (tgt := 160) (by decide +kernel) (by decide) ?_
        refine E_mask [true, false, true, true, true, true, true, true] rfl ?_
        exact lk_Reader_call_j160 hγ this Q X (w_Reader_call_L138 this Q X n) ih v2 v3 v4 v5 v6 v7 (58 : Int32) M h
      · rw [if_neg b31] at h
        refine E_blk (lv' := [some (vr (some (3, this))), none, some (vi v2), some (vi v3), some (vi v4), some (vi v5), some (vi v6), some (vi v7)]) (st' := [vi (44 : Int32), vr (some (3, this))]) (M1 := M) (pc' := 160) (tb_Reader hγ) [.bipush 44] (by decide +kernel) rfl rfl trivial ?_
        refine E_mask [true, false, true, true, true, true, true, true] rfl ?_
        exact lk_Reader_call_j160 hγ this Q X (w_Reader_call_L138 this Q X n) ih v2 v3 v4 v5 v6 v7 (44 : Int32) M h
set_option maxRecDepth 4096 in
theorem lk_Reader_call_L42 {γ : Gm} (hγ : Gk γ) (this : Nat) (Q : Mem → Prop) (X : Mem → Prop) : ∀ (n : Nat) (v2 : Int32) (v3 : Int32) (v4 : Int32) (v5 : Int32) (M : Mem), w_Reader_call_L42 this Q X n v2 v3 v4 v5 M → E γ k_Reader_call 7 42 [some (vr (some (3, this))), none, some (vi v2), some (vi v3), some (vi v4), some (vi v5), none, none] [] M (Qx (9, 0) (Qv Q) X) := by
  intro n
  induction n with
  | zero => intro v2 v3 v4 v5 M h; exact h.elim
  | succ n ih =>
    intro v2 v3 v4 v5 M h
    unfold w_Reader_call_L42 at h
    refine E_blk (lv' := [some (vr (some (3, this))), none, some (vi v2), some (vi v3), some (vi v4), some (vi v5), none, none]) (st' := [vi (41 : Int32), vr (some (2, 0))]) (M1 := M) (pc' := 48) (tb_Reader hγ) [.aload_n 0, .getfield 20, .bipush 41] (by decide +kernel) rfl rfl trivial ?_
    refine E_callV (κ' := k_Words_isSign) (As := [vi (41 : Int32)]) (st := []) mv_Words_isSign (Or.inl (tbk_mem (j := 6) (k := 143) rfl)) rfl (by decide +kernel) (Nat.le_of_ble_eq_true rfl) (Nat.le_of_ble_eq_true rfl) rfl (by decide) (lk_Words_isSign hγ 0 (41 : Int32) _ M h) (fun _ _ => Qi_r) (fun v M8 hp => Qi_k (R := fun st => E γ k_Reader_call 7 51 [some (vr (some (3, this))), none, some (vi v2), some (vi v3), some (vi v4), some (vi v5), none, none] st M8 (Qx (9, 0) (Qv Q) X)) hp (fun r9 h => ?_))
    refine E_if_ne (off := 71) (tgt := 122) (by decide +kernel) (by decide) (fun b10 => ?_) (fun b10 => ?_)
    · rw [if_pos b10] at h
      refine E_blk (lv' := [some (vr (some (3, this))), none, some (vi v2), some (vi v3), some (vi v4), some (vi v5), none, none]) (st' := [vi (mI M8 3 this 18)]) (M1 := M8) (pc' := 58) (tb_Reader hγ) [.aload_n 0, .getfield 167] (by decide +kernel) rfl rfl trivial ?_
      refine E_if_le (off := 9) (tgt := 67) (by decide +kernel) (by decide) (fun b11 => ?_) (fun b11 => ?_)
      · rw [if_pos b11] at h
        refine E_mask [true, false, true, true, true, true, false, false] rfl ?_
        exact lk_Reader_call_j67 hγ this Q X (w_Reader_call_L42 this Q X n) ih v2 v3 v4 v5 M8 h
      · rw [if_neg b11] at h
        refine E_blk (lv' := [some (vr (some (3, this))), none, some (vi v2), some (vi v3), some (vi v4), some (vi v5), none, none]) (st' := [vi (44 : Int32), vr (some (3, this))]) (M1 := M8) (pc' := 64) (tb_Reader hγ) [.aload_n 0, .bipush 44] (by decide +kernel) rfl rfl trivial ?_
        refine E_callX (κ' := k_Reader_sign) (As := [vi (44 : Int32)]) (st := []) mv_Reader_sign (Or.inl (tbk_mem (j := 6) (k := 139) rfl)) rfl (by decide +kernel) (Nat.le_of_ble_eq_true rfl) (Nat.le_of_ble_eq_true rfl) rfl (by decide) rfl (lk_Reader_sign hγ this (44 : Int32) _ _ M8 h) (fun _ _ => Qv_r) (fun _ h => h) (fun v M21 hp => Qv_k (R := fun st => E γ k_Reader_call 7 67 [some (vr (some (3, this))), none, some (vi v2), some (vi v3), some (vi v4), some (vi v5), none, none] st M21 (Qx (9, 0) (Qv Q) X)) hp (fun h => ?_))
        refine E_mask [true, false, true, true, true, true, false, false] rfl ?_
        exact lk_Reader_call_j67 hγ this Q X (w_Reader_call_L42 this Q X n) ih v2 v3 v4 v5 M21 h
    · rw [if_neg b10] at h
      refine E_blk (lv' := [some (vr (some (3, this))), none, some (vi v2), some (vi v3), some (vi v4), some (vi v5), none, none]) (st' := [vr (some (2, 0))]) (M1 := M8) (pc' := 126) (tb_Reader hγ) [.aload_n 0, .getfield 20] (by decide +kernel) rfl rfl trivial ?_
      refine E_callV (κ' := k_Words_next) (As := []) (st := []) mv_Words_next (Or.inl (tbk_mem (j := 6) (k := 53) rfl)) rfl (by decide +kernel) (Nat.le_of_ble_eq_true rfl) (Nat.le_of_ble_eq_true rfl) rfl (by decide) (lk_Words_next hγ 0 _ M8 h) (fun _ _ => Qv_r) (fun v M22 hp => Qv_k (R := fun st => E γ k_Reader_call 7 129 [some (vr (some (3, this))), none, some (vi v2), some (vi v3), some (vi v4), some (vi v5), none, none] st M22 (Qx (9, 0) (Qv Q) X)) hp (fun h => ?_))
      refine E_blk (lv' := [some (vr (some (3, this))), none, some (vi v2), some (vi v3), some (vi v4), some (vi v5), none, none]) (st' := [vr (some (3, this))]) (M1 := M22) (pc' := 130) (tb_Reader hγ) [.aload_n 0] (by decide +kernel) rfl rfl trivial ?_
      refine E_callX (κ' := k_Reader_result) (As := []) (st := []) mv_Reader_result (Or.inl (tbk_mem (j := 6) (k := 211) rfl)) rfl (by decide +kernel) (Nat.le_of_ble_eq_true rfl) (Nat.le_of_ble_eq_true rfl) rfl (by decide) rfl (lk_Reader_result hγ this _ _ M22 h) (fun _ _ => Qi_r) (fun _ h => h) (fun v M23 hp => Qi_k (R := fun st => E γ k_Reader_call 7 133 [some (vr (some (3, this))), none, some (vi v2), some (vi v3), some (vi v4), some (vi v5), none, none] st M23 (Qx (9, 0) (Qv Q) X)) hp (fun r24 h => ?_))
      refine E_blk (lv' := [some (vr (some (3, this))), none, some (vi v2), some (vi v3), some (vi v4), some (vi v5), some (vi r24), some (vi (0 : Int32))]) (st' := []) (M1 := M23) (pc' := 138) (tb_Reader hγ) [.istore 6, .iconst 0, .istore 7] (by decide +kernel) rfl rfl trivial ?_
      obtain ⟨n36, h⟩ := h
      refine E_mask [true, false, true, true, true, true, true, true] rfl ?_
      exact lk_Reader_call_L138 hγ this Q X n36 v2 v3 v4 v5 r24 (0 : Int32) M23 h
set_option maxRecDepth 4096 in
theorem lk_Reader_call {γ : Gm} (hγ : Gk γ) (this : Nat) (a1 : Nat) (a2 : Int32) (Q : Mem → Prop) (X : Mem → Prop) (M : Mem) (h : w_Reader_call this a1 a2 Q X M) : E γ k_Reader_call 7 0 [some (vr (some (3, this))), some (vr (some (5, a1))), some (vi a2), none, none, none, none, none] [] M (Qx (9, 0) (Qv Q) X) := by
  unfold w_Reader_call at h
  refine E_blk (lv' := [some (vr (some (3, this))), some (vr (some (5, a1))), some (vi a2), none, none, none, none, none]) (st' := [vr (mR (sR M 3 this 1 (some (5, a1))) 3 this 1)]) (M1 := (sR M 3 this 1 (some (5, a1)))) (pc' := 9) (tb_Reader hγ) [.aload_n 0, .aload_n 1, .putfield 52, .aload_n 0, .getfield 52] (by decide +kernel) rfl rfl trivial ?_
  obtain ⟨i1, ei1, h⟩ := h
  rw [ei1]
  refine E_blk (lv' := [some (vr (some (3, this))), some (vr (some (5, a1))), some (vi a2), some (vi (mI (sR M 3 this 1 (some (5, a1))) 5 i1 53)), none, none, none, none]) (st' := [vr (some (3, this))]) (M1 := (sR M 3 this 1 (some (5, a1)))) (pc' := 14) (tb_Reader hγ) [.getfield 80, .istore_n 3, .aload_n 0] (by decide +kernel) rfl rfl trivial ?_
  refine E_callX (κ' := k_Reader_className) (As := []) (st := []) mv_Reader_className (Or.inl (tbk_mem (j := 6) (k := 130) rfl)) rfl (by decide +kernel) (Nat.le_of_ble_eq_true rfl) (Nat.le_of_ble_eq_true rfl) rfl (by decide) rfl (lk_Reader_className hγ this _ _ (sR M 3 this 1 (some (5, a1))) h) (fun _ _ => Qi_r) (fun _ h => h) (fun v M2 hp => Qi_k (R := fun st => E γ k_Reader_call 7 17 [some (vr (some (3, this))), some (vr (some (5, a1))), some (vi a2), some (vi (mI (sR M 3 this 1 (some (5, a1))) 5 i1 53)), none, none, none, none] st M2 (Qx (9, 0) (Qv Q) X)) hp (fun r3 h => ?_))
  refine E_blk (lv' := [some (vr (some (3, this))), some (vr (some (5, a1))), some (vi a2), some (vi (mI (sR M 3 this 1 (some (5, a1))) 5 i1 53)), some (vi r3), none, none, none]) (st' := [vi (46 : Int32), vr (some (3, this))]) (M1 := M2) (pc' := 22) (tb_Reader hγ) [.istore 4, .aload_n 0, .bipush 46] (by decide +kernel) rfl rfl trivial ?_
  refine E_callX (κ' := k_Reader_sign) (As := [vi (46 : Int32)]) (st := []) mv_Reader_sign (Or.inl (tbk_mem (j := 6) (k := 139) rfl)) rfl (by decide +kernel) (Nat.le_of_ble_eq_true rfl) (Nat.le_of_ble_eq_true rfl) rfl (by decide) rfl (lk_Reader_sign hγ this (46 : Int32) _ _ M2 h) (fun _ _ => Qv_r) (fun _ h => h) (fun v M4 hp => Qv_k (R := fun st => E γ k_Reader_call 7 25 [some (vr (some (3, this))), some (vr (some (5, a1))), some (vi a2), some (vi (mI (sR M 3 this 1 (some (5, a1))) 5 i1 53)), some (vi r3), none, none, none] st M4 (Qx (9, 0) (Qv Q) X)) hp (fun h => ?_))
  refine E_blk (lv' := [some (vr (some (3, this))), some (vr (some (5, a1))), some (vi a2), some (vi (mI (sR M 3 this 1 (some (5, a1))) 5 i1 53)), some (vi r3), none, none, none]) (st' := [vr (some (3, this))]) (M1 := M4) (pc' := 26) (tb_Reader hγ) [.aload_n 0] (by decide +kernel) rfl rfl trivial ?_
  refine E_callX (κ' := k_Reader_anyName) (As := []) (st := []) mv_Reader_anyName (Or.inl (tbk_mem (j := 6) (k := 172) rfl)) rfl (by decide +kernel) (Nat.le_of_ble_eq_true rfl) (Nat.le_of_ble_eq_true rfl) rfl (by decide) rfl (lk_Reader_anyName hγ this _ _ M4 h) (fun _ _ => Qi_r) (fun _ h => h) (fun v M5 hp => Qi_k (R := fun st => E γ k_Reader_call 7 29 [some (vr (some (3, this))), some (vr (some (5, a1))), some (vi a2), some (vi (mI (sR M 3 this 1 (some (5, a1))) 5 i1 53)), some (vi r3), none, none, none] st M5 (Qx (9, 0) (Qv Q) X)) hp (fun r6 h => ?_))
  refine E_blk (lv' := [some (vr (some (3, this))), some (vr (some (5, a1))), some (vi a2), some (vi (mI (sR M 3 this 1 (some (5, a1))) 5 i1 53)), some (vi r3), some (vi r6), none, none]) (st' := [vi (40 : Int32), vr (some (3, this))]) (M1 := M5) (pc' := 34) (tb_Reader hγ) [.istore 5, .aload_n 0, .bipush 40] (by decide +kernel) rfl rfl trivial ?_
  refine E_callX (κ' := k_Reader_sign) (As := [vi (40 : Int32)]) (st := []) mv_Reader_sign (Or.inl (tbk_mem (j := 6) (k := 139) rfl)) rfl (by decide +kernel) (Nat.le_of_ble_eq_true rfl) (Nat.le_of_ble_eq_true rfl) rfl (by decide) rfl (lk_Reader_sign hγ this (40 : Int32) _ _ M5 h) (fun _ _ => Qv_r) (fun _ h => h) (fun v M7 hp => Qv_k (R := fun st => E γ k_Reader_call 7 37 [some (vr (some (3, this))), some (vr (some (5, a1))), some (vi a2), some (vi (mI (sR M 3 this 1 (some (5, a1))) 5 i1 53)), some (vi r3), some (vi r6), none, none] st M7 (Qx (9, 0) (Qv Q) X)) hp (fun h => ?_))
  refine E_blk (lv' := [some (vr (some (3, this))), some (vr (some (5, a1))), some (vi a2), some (vi (mI (sR M 3 this 1 (some (5, a1))) 5 i1 53)), some (vi r3), some (vi r6), none, none]) (st' := []) (M1 := (sI M7 3 this 18 (0 : Int32))) (pc' := 42) (tb_Reader hγ) [.aload_n 0, .iconst 0, .putfield 167] (by decide +kernel) rfl rfl trivial ?_
  obtain ⟨n37, h⟩ := h
  refine E_mask [true, false, true, true, true, true, false, false] rfl ?_
  exact lk_Reader_call_L42 hγ this Q X n37 a2 (mI (sR M 3 this 1 (some (5, a1))) 5 i1 53) r3 r6 (sI M7 3 this 18 (0 : Int32)) h
def w_Line_call (this : Nat) (a1 : Nat) (Q : Mem → Prop) (M : Mem) : Prop :=
  w_Line_clear this (fun M1 => ¬ (0 : Int32) < 0 ∧ ¬ (0 : Int32) < 0 ∧ ¬ (6 : Int32) < 0 ∧ (0 : Int32).toNatClampNeg + (6 : Int32).toNatClampNeg ≤ mL M1 30 a1 ∧ (0 : Int32).toNatClampNeg + (6 : Int32).toNatClampNeg ≤ mL M1 95 this ∧ ∃ M2, M2 = cpI M1 30 a1 (0 : Int32).toNatClampNeg 95 this (0 : Int32).toNatClampNeg (6 : Int32).toNatClampNeg ∧ ((1 : Int32) = 0 ∨ (1 : Int32) = 1) ∧ Q (sI (sI M2 7 this 10 (1 : Int32)) 7 this 11 (1 : Int32))) M
set_option maxRecDepth 4096 in
theorem lk_Line_call {γ : Gm} (hγ : Gk γ) (this : Nat) (a1 : Nat) (Q : Mem → Prop) (M : Mem) (h : w_Line_call this a1 Q M) : E γ k_Line_call 1 0 [some (vr (some (7, this))), some (vr (some (30, a1)))] [] M (Qv Q) := by
  unfold w_Line_call at h
  refine E_blk (lv' := [some (vr (some (7, this))), some (vr (some (30, a1)))]) (st' := [vr (some (7, this))]) (M1 := M) (pc' := 1) (tb_Line hγ) [.aload_n 0] (by decide +kernel) rfl rfl trivial ?_
  refine E_callV (κ' := k_Line_clear) (As := []) (st := []) mv_Line_clear (Or.inl (tbk_mem (j := 8) (k := 101) rfl)) rfl (by decide +kernel) (Nat.le_of_ble_eq_true rfl) (Nat.le_of_ble_eq_true rfl) rfl (by decide) (lk_Line_clear hγ this _ M h) (fun _ _ => Qv_r) (fun v M1 hp => Qv_k (R := fun st => E γ k_Line_call 1 4 [some (vr (some (7, this))), some (vr (some (30, a1)))] st M1 (Qv Q)) hp (fun h => ?_))
  refine E_blk (lv' := [some (vr (some (7, this))), some (vr (some (30, a1)))]) (st' := [vi (6 : Int32), vi (0 : Int32), vr (some (95, this)), vi (0 : Int32), vr (some (30, a1))]) (M1 := M1) (pc' := 13) (tb_Line hγ) [.aload_n 1, .iconst 0, .aload_n 0, .getfield 34, .iconst 0, .bipush 6] (by decide +kernel) rfl rfl trivial ?_
  obtain ⟨c3, c4, c5, c6, c7, M2, eM2, h⟩ := h
  refine E_copy (pc := 13) (κ := k_Line_call) (f := 30) (i := a1) (g := 95) (j := this) (sp := (0 : Int32)) (dp := (0 : Int32)) (n := (6 : Int32)) (idx := 78) (st := []) c3 c4 c5 c6 c7 (by decide) (by decide) rfl (by decide) (tbk_mem (j := 8) (k := 102) rfl) (by decide +kernel) (Nat.le_of_ble_eq_true rfl) ?_
  rw [← eM2]
  obtain ⟨c8, h⟩ := h
  refine E_blk (lv' := [some (vr (some (7, this))), some (vr (some (30, a1)))]) (st' := []) (M1 := (sI (sI M2 7 this 10 (1 : Int32)) 7 this 11 (1 : Int32))) (pc' := 26) (tb_Line hγ) [.aload_n 0, .iconst 1, .putfield 47, .aload_n 0, .iconst 1, .putfield 51] (by decide +kernel) rfl rfl ⟨c8, trivial⟩ ?_
  exact E_vret rfl (by decide +kernel) h
def w_Machine_isLockedFor (this : Nat) (a1 : Nat) (a2 : Int32) (Q : Int32 → Mem → Prop) (M : Mem) : Prop :=
  if a2 ≤ (800 : Int32) then (vp_in a2 (mL M 301 (6 * this + 0)) ∧ if (mI M 301 (6 * this + 0) a2.toNatClampNeg) ≤ 0 then (Q (0 : Int32) M) else (vp_in a2 (mL M 301 (6 * this + 1)) ∧ if (mI M 301 (6 * this + 1) a2.toNatClampNeg) = (mI M 7 a1 0) then (Q (0 : Int32) M) else (Q (1 : Int32) M))) else (∃ i6, (mR M 6 this 24) = some (301, i6) ∧ vp_in ((a2 - (800 : Int32)) - (1 : Int32)) (mL M 301 i6) ∧ if (mI M 301 i6 ((a2 - (800 : Int32)) - (1 : Int32)).toNatClampNeg) ≤ 0 then (Q (0 : Int32) M) else (∃ i9, (mR M 6 this 25) = some (301, i9) ∧ vp_in ((a2 - (800 : Int32)) - (1 : Int32)) (mL M 301 i9) ∧ if (mI M 301 i9 ((a2 - (800 : Int32)) - (1 : Int32)).toNatClampNeg) = (mI M 7 a1 0) then (Q (0 : Int32) M) else (Q (1 : Int32) M)))
set_option maxRecDepth 4096 in
theorem lk_Machine_isLockedFor {γ : Gm} (hγ : Gk γ) (this : Nat) (a1 : Nat) (a2 : Int32) (Q : Int32 → Mem → Prop) (M : Mem) (h : w_Machine_isLockedFor this a1 a2 Q M) : E γ k_Machine_isLockedFor 0 0 [some (vr (some (6, this))), some (vr (some (7, a1))), some (vi a2)] [] M (Qi Q) := by
  unfold w_Machine_isLockedFor at h
  refine E_blk (lv' := [some (vr (some (6, this))), some (vr (some (7, a1))), some (vi a2)]) (st' := [vi (800 : Int32), vi a2]) (M1 := M) (pc' := 4) (tb_Machine hγ) [.iload_n 2, .sipush 800] (by decide +kernel) rfl rfl trivial ?_
  refine E_icmp_le (off := 45) (tgt := 49) (by decide +kernel) (by decide) (fun b1 => ?_) (fun b1 => ?_)
  · rw [if_pos b1] at h
    obtain ⟨c2, h⟩ := h
    refine E_blk (lv' := [some (vr (some (6, this))), some (vr (some (7, a1))), some (vi a2)]) (st' := [vi (mI M 301 (6 * this + 0) a2.toNatClampNeg)]) (M1 := M) (pc' := 55) (tb_Machine hγ) [.aload_n 0, .getfield 38, .iload_n 2, .iaload] (by decide +kernel) rfl rfl ⟨c2, trivial⟩ ?_
    refine E_if_le (off := 20) (tgt := 75) (by decide +kernel) (by decide) (fun b3 => ?_) (fun b3 => ?_)
    · rw [if_pos b3] at h
      refine E_blk (lv' := [some (vr (some (6, this))), some (vr (some (7, a1))), some (vi a2)]) (st' := [vi (0 : Int32)]) (M1 := M) (pc' := 76) (tb_Machine hγ) [.iconst 0] (by decide +kernel) rfl rfl trivial ?_
      exact E_zret rfl (Or.inl rfl) (by decide +kernel) h
    · rw [if_neg b3] at h
      obtain ⟨c4, h⟩ := h
      refine E_blk (lv' := [some (vr (some (6, this))), some (vr (some (7, a1))), some (vi a2)]) (st' := [vi (mI M 7 a1 0), vi (mI M 301 (6 * this + 1) a2.toNatClampNeg)]) (M1 := M) (pc' := 68) (tb_Machine hγ) [.aload_n 0, .getfield 41, .iload_n 2, .iaload, .aload_n 1, .getfield 131] (by decide +kernel) rfl rfl ⟨c4, trivial⟩ ?_
      refine E_icmp_eq (off := 7) (tgt := 75) (by decide +kernel) (by decide) (fun b5 => ?_) (fun b5 => ?_)
      · rw [if_pos b5] at h
        refine E_blk (lv' := [some (vr (some (6, this))), some (vr (some (7, a1))), some (vi a2)]) (st' := [vi (0 : Int32)]) (M1 := M) (pc' := 76) (tb_Machine hγ) [.iconst 0] (by decide +kernel) rfl rfl trivial ?_
        exact E_zret rfl (Or.inl rfl) (by decide +kernel) h
      · rw [if_neg b5] at h
        refine E_blk (lv' := [some (vr (some (6, this))), some (vr (some (7, a1))), some (vi a2)]) (st' := [vi (1 : Int32)]) (M1 := M) (pc' := 72) (tb_Machine hγ) [.iconst 1] (by decide +kernel) rfl rfl trivial ?_
        refine E_goto (off := 4) (tgt := 76) (by decide +kernel) (by decide) ?_
        exact E_zret rfl (Or.inr rfl) (by decide +kernel) h
  · rw [if_neg b1] at h
    refine E_blk (lv' := [some (vr (some (6, this))), some (vr (some (7, a1))), some (vi a2)]) (st' := [vr (mR M 6 this 24)]) (M1 := M) (pc' := 11) (tb_Machine hγ) [.aload_n 0, .getfield 66] (by decide +kernel) rfl rfl trivial ?_
    obtain ⟨i6, ei6, h⟩ := h
    rw [ei6]
    obtain ⟨c7, h⟩ := h
    refine E_blk (lv' := [some (vr (some (6, this))), some (vr (some (7, a1))), some (vi a2)]) (st' := [vi (mI M 301 i6 ((a2 - (800 : Int32)) - (1 : Int32)).toNatClampNeg)]) (M1 := M) (pc' := 19) (tb_Machine hγ) [.iload_n 2, .sipush 800, .isub, .iconst 1, .isub, .iaload] (by decide +kernel) rfl rfl ⟨c7, trivial⟩ ?_
    refine E_if_le (off := 26) (tgt := 45) (by decide +kernel) (by decide) (fun b8 => ?_) (fun b8 => ?_)
    · rw [if_pos b8] at h
      refine E_blk (lv' := [some (vr (some (6, this))), some (vr (some (7, a1))), some (vi a2)]) (st' := [vi (0 : Int32)]) (M1 := M) (pc' := 46) (tb_Machine hγ) [.iconst 0] (by decide +kernel) rfl rfl trivial ?_
      refine E_goto (off := 30) (tgt := 76) (by decide +kernel) (by decide) ?_
      exact E_zret rfl (Or.inl rfl) (by decide +kernel) h
    · rw [if_neg b8] at h
      refine E_blk (lv' := [some (vr (some (6, this))), some (vr (some (7, a1))), some (vi a2)]) (st' := [vr (mR M 6 this 25)]) (M1 := M) (pc' := 26) (tb_Machine hγ) [.aload_n 0, .getfield 69] (by decide +kernel) rfl rfl trivial ?_
      obtain ⟨i9, ei9, h⟩ := h
      rw [ei9]
      obtain ⟨c10, h⟩ := h
      refine E_blk (lv' := [some (vr (some (6, this))), some (vr (some (7, a1))), some (vi a2)]) (st' := [vi (mI M 7 a1 0), vi (mI M 301 i9 ((a2 - (800 : Int32)) - (1 : Int32)).toNatClampNeg)]) (M1 := M) (pc' := 38) (tb_Machine hγ) [.iload_n 2, .sipush 800, .isub, .iconst 1, .isub, .iaload, .aload_n 1, .getfield 131] (by decide +kernel) rfl rfl ⟨c10, trivial⟩ ?_
      refine E_icmp_eq (off := 7) (tgt := 45) (by decide +kernel) (by decide) (fun b11 => ?_) (fun b11 => ?_)
      · rw [if_pos b11] at h
        refine E_blk (lv' := [some (vr (some (6, this))), some (vr (some (7, a1))), some (vi a2)]) (st' := [vi (0 : Int32)]) (M1 := M) (pc' := 46) (tb_Machine hγ) [.iconst 0] (by decide +kernel) rfl rfl trivial ?_
        refine E_goto (off := 30) (tgt := 76) (by decide +kernel) (by decide) ?_
        exact E_zret rfl (Or.inl rfl) (by decide +kernel) h
      · rw [if_neg b11] at h
        refine E_blk (lv' := [some (vr (some (6, this))), some (vr (some (7, a1))), some (vi a2)]) (st' := [vi (1 : Int32)]) (M1 := M) (pc' := 42) (tb_Machine hγ) [.iconst 1] (by decide +kernel) rfl rfl trivial ?_
        refine E_goto (off := 34) (tgt := 76) (by decide +kernel) (by decide) ?_
        exact E_zret rfl (Or.inr rfl) (by decide +kernel) h
def w_Machine_waits (this : Nat) (a1 : Nat) (Q : Int32 → Mem → Prop) (M : Mem) : Prop :=
  if (mI M 7 a1 18) ≤ 0 then (if (mI M 7 a1 19) < 0 then (Q (0 : Int32) M) else (vp_in (mI M 7 a1 19) (mL M 46 this) ∧ if (mI M 46 this (mI M 7 a1 19).toNatClampNeg) = (1 : Int32) then (vp_in (mI M 7 a1 19) (mL M 86 this) ∧ if (mI M 86 this (mI M 7 a1 19).toNatClampNeg) = (mI M 7 a1 0) then (Q (0 : Int32) M) else (Q (1 : Int32) M)) else (Q (0 : Int32) M))) else (w_Machine_isLockedFor this a1 (mI M 7 a1 18) (fun r8 M7 => (r8 = 0 ∨ r8 = 1) ∧ Q r8 M7) M)
set_option maxRecDepth 4096 in
theorem lk_Machine_waits {γ : Gm} (hγ : Gk γ) (this : Nat) (a1 : Nat) (Q : Int32 → Mem → Prop) (M : Mem) (h : w_Machine_waits this a1 Q M) : E γ k_Machine_waits 1 0 [some (vr (some (6, this))), some (vr (some (7, a1)))] [] M (Qi Q) := by
  unfold w_Machine_waits at h
  refine E_blk (lv' := [some (vr (some (6, this))), some (vr (some (7, a1)))]) (st' := [vi (mI M 7 a1 18)]) (M1 := M) (pc' := 4) (tb_Machine hγ) [.aload_n 1, .getfield 160] (by decide +kernel) rfl rfl trivial ?_
  refine E_if_le (off := 13) (tgt := 17) (by decide +kernel) (by decide) (fun b1 => ?_) (fun b1 => ?_)
  · rw [if_pos b1] at h
    refine E_blk (lv' := [some (vr (some (6, this))), some (vr (some (7, a1)))]) (st' := [vi (mI M 7 a1 19)]) (M1 := M) (pc' := 21) (tb_Machine hγ) [.aload_n 1, .getfield 167] (by decide +kernel) rfl rfl trivial ?_
    refine E_if_lt (off := 39) (tgt := 60) (by decide +kernel) (by decide) (fun b2 => ?_) (fun b2 => ?_)
    · rw [if_pos b2] at h
      refine E_blk (lv' := [some (vr (some (6, this))), some (vr (some (7, a1)))]) (st' := [vi (0 : Int32)]) (M1 := M) (pc' := 61) (tb_Machine hγ) [.iconst 0] (by decide +kernel) rfl rfl trivial ?_
      exact E_zret rfl (Or.inl rfl) (by decide +kernel) h
    · rw [if_neg b2] at h
      obtain ⟨c3, h⟩ := h
      refine E_blk (lv' := [some (vr (some (6, this))), some (vr (some (7, a1)))]) (st' := [vi (1 : Int32), vi (mI M 46 this (mI M 7 a1 19).toNatClampNeg)]) (M1 := M) (pc' := 37) (tb_Machine hγ) [.aload_n 0, .getfield 84, .getfield 158, .aload_n 1, .getfield 167, .iaload, .iconst 1] (by decide +kernel) rfl rfl ⟨c3, trivial⟩ ?_
      refine E_icmp_ne (off := 23) (tgt := 60) (by decide +kernel) (by decide) (fun b4 => ?_) (fun b4 => ?_)
      · rw [if_pos b4] at h
        obtain ⟨c5, h⟩ := h
        refine E_blk (lv' := [some (vr (some (6, this))), some (vr (some (7, a1)))]) (st' := [vi (mI M 7 a1 0), vi (mI M 86 this (mI M 7 a1 19).toNatClampNeg)]) (M1 := M) (pc' := 53) (tb_Machine hγ) [.aload_n 0, .getfield 75, .aload_n 1, .getfield 167, .iaload, .aload_n 1, .getfield 131] (by decide +kernel) rfl rfl ⟨c5, trivial⟩ ?_
        refine E_icmp_eq (off := 7) (tgt := 60) (by decide +kernel) (by decide) (fun b6 => ?_) (fun b6 => ?_)
        · rw [if_pos b6] at h
          refine E_blk (lv' := [some (vr (some (6, this))), some (vr (some (7, a1)))]) (st' := [vi (0 : Int32)]) (M1 := M) (pc' := 61) (tb_Machine hγ) [.iconst 0] (by decide +kernel) rfl rfl trivial ?_
          exact E_zret rfl (Or.inl rfl) (by decide +kernel) h
        · rw [if_neg b6] at h
          refine E_blk (lv' := [some (vr (some (6, this))), some (vr (some (7, a1)))]) (st' := [vi (1 : Int32)]) (M1 := M) (pc' := 57) (tb_Machine hγ) [.iconst 1] (by decide +kernel) rfl rfl trivial ?_
          refine E_goto (off := 4) (tgt := 61) (by decide +kernel) (by decide) ?_
          exact E_zret rfl (Or.inr rfl) (by decide +kernel) h
      · rw [if_neg b4] at h
        refine E_blk (lv' := [some (vr (some (6, this))), some (vr (some (7, a1)))]) (st' := [vi (0 : Int32)]) (M1 := M) (pc' := 61) (tb_Machine hγ) [.iconst 0] (by decide +kernel) rfl rfl trivial ?_
        exact E_zret rfl (Or.inl rfl) (by decide +kernel) h
  · rw [if_neg b1] at h
    refine E_blk (lv' := [some (vr (some (6, this))), some (vr (some (7, a1)))]) (st' := [vi (mI M 7 a1 18), vr (some (7, a1)), vr (some (6, this))]) (M1 := M) (pc' := 13) (tb_Machine hγ) [.aload_n 0, .aload_n 1, .aload_n 1, .getfield 160] (by decide +kernel) rfl rfl trivial ?_
    refine E_callV (κ' := k_Machine_isLockedFor) (As := [vr (some (7, a1)), vi (mI M 7 a1 18)]) (st := []) mv_Machine_isLockedFor (Or.inl (tbk_mem (j := 8) (k := 127) rfl)) rfl (by decide +kernel) (Nat.le_of_ble_eq_true rfl) (Nat.le_of_ble_eq_true rfl) rfl (by decide) (lk_Machine_isLockedFor hγ this a1 (mI M 7 a1 18) _ M h) (fun _ _ => Qi_r) (fun v M7 hp => Qi_k (R := fun st => E γ k_Machine_waits 1 16 [some (vr (some (6, this))), some (vr (some (7, a1)))] st M7 (Qi Q)) hp (fun r8 h => ?_))
    exact E_zret rfl h.1 (by decide +kernel) h.2
def w_Machine_canGo (this : Nat) (a1 : Nat) (Q : Int32 → Mem → Prop) (M : Mem) : Prop :=
  if (mI M 7 a1 11) = (1 : Int32) then (w_Machine_waits this a1 (fun r3 M2 => if r3 = 0 then (Q (1 : Int32) M2) else (Q (0 : Int32) M2)) M) else (Q (0 : Int32) M)
set_option maxRecDepth 4096 in
theorem lk_Machine_canGo {γ : Gm} (hγ : Gk γ) (this : Nat) (a1 : Nat) (Q : Int32 → Mem → Prop) (M : Mem) (h : w_Machine_canGo this a1 Q M) : E γ k_Machine_canGo 2 0 [some (vr (some (6, this))), some (vr (some (7, a1)))] [] M (Qi Q) := by
  unfold w_Machine_canGo at h
  refine E_blk (lv' := [some (vr (some (6, this))), some (vr (some (7, a1)))]) (st' := [vi (1 : Int32), vi (mI M 7 a1 11)]) (M1 := M) (pc' := 5) (tb_Machine hγ) [.aload_n 1, .getfield 149, .iconst 1] (by decide +kernel) rfl rfl trivial ?_
  refine E_icmp_ne (off := 15) (tgt := 20) (by decide +kernel) (by decide) (fun b1 => ?_) (fun b1 => ?_)
  · rw [if_pos b1] at h
    refine E_blk (lv' := [some (vr (some (6, this))), some (vr (some (7, a1)))]) (st' := [vr (some (7, a1)), vr (some (6, this))]) (M1 := M) (pc' := 10) (tb_Machine hγ) [.aload_n 0, .aload_n 1] (by decide +kernel) rfl rfl trivial ?_
    refine E_callV (κ' := k_Machine_waits) (As := [vr (some (7, a1))]) (st := []) mv_Machine_waits (Or.inl (tbk_mem (j := 8) (k := 123) rfl)) rfl (by decide +kernel) (Nat.le_of_ble_eq_true rfl) (Nat.le_of_ble_eq_true rfl) rfl (by decide) (lk_Machine_waits hγ this a1 _ M h) (fun _ _ => Qi_r) (fun v M2 hp => Qi_k (R := fun st => E γ k_Machine_canGo 2 13 [some (vr (some (6, this))), some (vr (some (7, a1)))] st M2 (Qi Q)) hp (fun r3 h => ?_))
    refine E_if_ne (off := 7) (tgt := 20) (by decide +kernel) (by decide) (fun b4 => ?_) (fun b4 => ?_)
    · rw [if_pos b4] at h
      refine E_blk (lv' := [some (vr (some (6, this))), some (vr (some (7, a1)))]) (st' := [vi (1 : Int32)]) (M1 := M2) (pc' := 17) (tb_Machine hγ) [.iconst 1] (by decide +kernel) rfl rfl trivial ?_
      refine E_goto (off := 4) (tgt := 21) (by decide +kernel) (by decide) ?_
      exact E_zret rfl (Or.inr rfl) (by decide +kernel) h
    · rw [if_neg b4] at h
      refine E_blk (lv' := [some (vr (some (6, this))), some (vr (some (7, a1)))]) (st' := [vi (0 : Int32)]) (M1 := M2) (pc' := 21) (tb_Machine hγ) [.iconst 0] (by decide +kernel) rfl rfl trivial ?_
      exact E_zret rfl (Or.inl rfl) (by decide +kernel) h
  · rw [if_neg b1] at h
    refine E_blk (lv' := [some (vr (some (6, this))), some (vr (some (7, a1)))]) (st' := [vi (0 : Int32)]) (M1 := M) (pc' := 21) (tb_Machine hγ) [.iconst 0] (by decide +kernel) rfl rfl trivial ?_
    exact E_zret rfl (Or.inl rfl) (by decide +kernel) h
def w_Machine_hasTurn_L40 (this : Nat) (Q : Int32 → Mem → Prop) : Nat → Int32 → Mem → Prop
  | 0, _, _ => False
  | n + 1, v1, M => if (3 : Int32) < v1 then (Q (0 : Int32) M) else (¬ (3 : Int32) = 0 ∧ ∃ x4 : Int32, x4 = (((mI M 6 this 3) + v1) - ((mI M 6 this 3) + v1) / (3 : Int32) * (3 : Int32)) ∧ vp_in x4 (mL M 700 this) ∧ ∃ i6, (mR M 700 this x4.toNatClampNeg) = some (7, i6) ∧ w_Machine_canGo this i6 (fun r8 M7 => if r8 = 0 then ((w_Machine_hasTurn_L40 this Q n) (v1 + (1 : Int32)) M7) else (vp_in x4 (mL (sI (sI M7 6 this 3 x4) 6 this 4 (mI (sI M7 6 this 3 x4) 6 this 5)) 700 this) ∧ ∃ i11, (mR (sI (sI M7 6 this 3 x4) 6 this 4 (mI (sI M7 6 this 3 x4) 6 this 5)) 700 this x4.toNatClampNeg) = some (7, i11) ∧ ∃ M12, M12 = (sR (sI (sI M7 6 this 3 x4) 6 this 4 (mI (sI M7 6 this 3 x4) 6 this 5)) 6 this 2 (some (7, i11))) ∧ Q (1 : Int32) M12)) M)
def w_Machine_hasTurn_j38 (this : Nat) (Q : Int32 → Mem → Prop)  (M : Mem) : Prop :=
  ∃ n13 : Nat, w_Machine_hasTurn_L40 this Q n13 (1 : Int32) M
def w_Machine_hasTurn (this : Nat) (Q : Int32 → Mem → Prop) (M : Mem) : Prop :=
  if (mI M 6 this 4) ≤ 0 then (w_Machine_hasTurn_j38 this Q  M) else (vp_in (mI M 6 this 3) (mL M 700 this) ∧ ∃ i15, (mR M 700 this (mI M 6 this 3).toNatClampNeg) = some (7, i15) ∧ w_Machine_canGo this i15 (fun r17 M16 => if r17 = 0 then (w_Machine_hasTurn_j38 this Q  M16) else (vp_in (mI M16 6 this 3) (mL M16 700 this) ∧ ∃ i20, (mR M16 700 this (mI M16 6 this 3).toNatClampNeg) = some (7, i20) ∧ Q (1 : Int32) (sR M16 6 this 2 (some (7, i20))))) M)
set_option maxRecDepth 4096 in
theorem lk_Machine_hasTurn_L40 {γ : Gm} (hγ : Gk γ) (this : Nat) (Q : Int32 → Mem → Prop) : ∀ (n : Nat) (v1 : Int32) (M : Mem), w_Machine_hasTurn_L40 this Q n v1 M → E γ k_Machine_hasTurn 3 40 [some (vr (some (6, this))), some (vi v1), none] [] M (Qi Q) := by
  intro n
  induction n with
  | zero => intro v1 M h; exact h.elim
  | succ n ih =>
    intro v1 M h
    unfold w_Machine_hasTurn_L40 at h
    refine E_blk (lv' := [some (vr (some (6, this))), some (vi v1), none]) (st' := [vi (3 : Int32), vi v1]) (M1 := M) (pc' := 42) (tb_Machine hγ) [.iload_n 1, .iconst 3] (by decide +kernel) rfl rfl trivial ?_
    refine E_icmp_gt (off := 59) (tgt := 101) (by decide +kernel) (by decide) (fun b2 => ?_) (fun b2 => ?_)
    · rw [if_pos b2] at h
      refine E_blk (lv' := [some (vr (some (6, this))), some (vi v1), none]) (st' := [vi (0 : Int32)]) (M1 := M) (pc' := 102) (tb_Machine hγ) [.iconst 0] (by decide +kernel) rfl rfl trivial ?_
      exact E_zret rfl (Or.inl rfl) (by decide +kernel) h
    · rw [if_neg b2] at h
      obtain ⟨c3, h⟩ := h
      refine E_blk (lv' := [some (vr (some (6, this))), some (vi v1), some (vi (((mI M 6 this 3) + v1) - ((mI M 6 this 3) + v1) / (3 : Int32) * (3 : Int32)))]) (st' := []) (M1 := M) (pc' := 54) (tb_Machine hγ) [.aload_n 0, .getfield 91, .iload_n 1, .iadd, .iconst 3, .irem, .istore_n 2] (by decide +kernel) rfl rfl ⟨c3, trivial⟩ ?_
      obtain ⟨x4, ex4, h⟩ := h
      rw [← ex4]
      obtain ⟨c5, h⟩ := h
      refine E_blk (lv' := [some (vr (some (6, this))), some (vi v1), some (vi x4)]) (st' := [vr (mR M 700 this x4.toNatClampNeg), vr (some (6, this))]) (M1 := M) (pc' := 61) (tb_Machine hγ) [.aload_n 0, .aload_n 0, .getfield 20, .iload_n 2, .aaload] (by decide +kernel) rfl rfl ⟨c5, trivial⟩ ?_
      obtain ⟨i6, ei6, h⟩ := h
      rw [ei6]
      refine E_callV (κ' := k_Machine_canGo) (As := [vr (some (7, i6))]) (st := []) mv_Machine_canGo (Or.inl (tbk_mem (j := 8) (k := 119) rfl)) rfl (by decide +kernel) (Nat.le_of_ble_eq_true rfl) (Nat.le_of_ble_eq_true rfl) rfl (by decide) (lk_Machine_canGo hγ this i6 _ M h) (fun _ _ => Qi_r) (fun v M7 hp => Qi_k (R := fun st => E γ k_Machine_hasTurn 3 64 [some (vr (some (6, this))), some (vi v1), some (vi x4)] st M7 (Qi Q)) hp (fun r8 h => ?_))
      refine E_if_ne (off := 6) (tgt := 70) (by decide +kernel) (by decide) (fun b9 => ?_) (fun b9 => ?_)
      · rw [if_pos b9] at h
        refine E_goto (off := 28) (tgt := 95) (by decide +kernel) (by decide) ?_
        refine E_blk (lv' := [some (vr (some (6, this))), some (vi (v1 + (1 : Int32))), some (vi x4)]) (st' := []) (M1 := M7) (pc' := 98) (tb_Machine hγ) [.iinc 1 1] (by decide +kernel) rfl rfl trivial ?_
        refine E_goto (off := -58) (tgt := 40) (by decide +kernel) (by decide) ?_
        refine E_mask [true, true, false] rfl ?_
        exact ih (v1 + (1 : Int32)) M7 h
      · rw [if_neg b9] at h
        obtain ⟨c10, h⟩ := h
        refine E_blk (lv' := [some (vr (some (6, this))), some (vi v1), some (vi x4)]) (st' := [vr (mR (sI (sI M7 6 this 3 x4) 6 this 4 (mI (sI M7 6 this 3 x4) 6 this 5)) 700 this x4.toNatClampNeg), vr (some (6, this))]) (M1 := (sI (sI M7 6 this 3 x4) 6 this 4 (mI (sI M7 6 this 3 x4) 6 this 5))) (pc' := 90) (tb_Machine hγ) [.aload_n 0, .iload_n 2, .putfield 91, .aload_n 0, .aload_n 0, .getfield 95, .putfield 98, .aload_n 0, .aload_n 0, .getfield 20, .iload_n 2, .aaload] (by decide +kernel) rfl rfl ⟨c10, trivial⟩ ?_
        obtain ⟨i11, ei11, h⟩ := h
        rw [ei11]
        refine E_blk (lv' := [some (vr (some (6, this))), some (vi v1), some (vi x4)]) (st' := []) (M1 := (sR (sI (sI M7 6 this 3 x4) 6 this 4 (mI (sI M7 6 this 3 x4) 6 this 5)) 6 this 2 (some (7, i11)))) (pc' := 93) (tb_Machine hγ) [.putfield 24] (by decide +kernel) rfl rfl trivial ?_
        obtain ⟨M12, eM12, h⟩ := h
        rw [← eM12]
        refine E_blk (lv' := [some (vr (some (6, this))), some (vi v1), some (vi x4)]) (st' := [vi (1 : Int32)]) (M1 := M12) (pc' := 94) (tb_Machine hγ) [.iconst 1] (by decide +kernel) rfl rfl trivial ?_
        exact E_zret rfl (Or.inr rfl) (by decide +kernel) h
set_option maxRecDepth 4096 in
theorem lk_Machine_hasTurn_j38 {γ : Gm} (hγ : Gk γ) (this : Nat) (Q : Int32 → Mem → Prop)  (M : Mem) (h : w_Machine_hasTurn_j38 this Q  M) : E γ k_Machine_hasTurn 3 38 [some (vr (some (6, this))), none, none] [] M (Qi Q) := by
  unfold w_Machine_hasTurn_j38 at h
  refine E_blk (lv' := [some (vr (some (6, this))), some (vi (1 : Int32)), none]) (st' := []) (M1 := M) (pc' := 40) (tb_Machine hγ) [.iconst 1, .istore_n 1] (by decide +kernel) rfl rfl trivial ?_
  obtain ⟨n13, h⟩ := h
  refine E_mask [true, true, false] rfl ?_
  exact lk_Machine_hasTurn_L40 hγ this Q n13 (1 : Int32) M h
set_option maxRecDepth 4096 in
theorem lk_Machine_hasTurn {γ : Gm} (hγ : Gk γ) (this : Nat) (Q : Int32 → Mem → Prop) (M : Mem) (h : w_Machine_hasTurn this Q M) : E γ k_Machine_hasTurn 3 0 [some (vr (some (6, this))), none, none] [] M (Qi Q) := by
  unfold w_Machine_hasTurn at h
  refine E_blk (lv' := [some (vr (some (6, this))), none, none]) (st' := [vi (mI M 6 this 4)]) (M1 := M) (pc' := 4) (tb_Machine hγ) [.aload_n 0, .getfield 98] (by decide +kernel) rfl rfl trivial ?_
  refine E_if_le (off := 34) (tgt := 38) (by decide +kernel) (by decide) (fun b1 => ?_) (fun b1 => ?_)
  · rw [if_pos b1] at h
    refine E_mask [true, false, false] rfl ?_
    exact lk_Machine_hasTurn_j38 hγ this Q  M h
  · rw [if_neg b1] at h
    obtain ⟨c14, h⟩ := h
    refine E_blk (lv' := [some (vr (some (6, this))), none, none]) (st' := [vr (mR M 700 this (mI M 6 this 3).toNatClampNeg), vr (some (6, this))]) (M1 := M) (pc' := 17) (tb_Machine hγ) [.aload_n 0, .aload_n 0, .getfield 20, .aload_n 0, .getfield 91, .aaload] (by decide +kernel) rfl rfl ⟨c14, trivial⟩ ?_
    obtain ⟨i15, ei15, h⟩ := h
    rw [ei15]
    refine E_callV (κ' := k_Machine_canGo) (As := [vr (some (7, i15))]) (st := []) mv_Machine_canGo (Or.inl (tbk_mem (j := 8) (k := 119) rfl)) rfl (by decide +kernel) (Nat.le_of_ble_eq_true rfl) (Nat.le_of_ble_eq_true rfl) rfl (by decide) (lk_Machine_canGo hγ this i15 _ M h) (fun _ _ => Qi_r) (fun v M16 hp => Qi_k (R := fun st => E γ k_Machine_hasTurn 3 20 [some (vr (some (6, this))), none, none] st M16 (Qi Q)) hp (fun r17 h => ?_))
    refine E_if_eq (off := 18) (tgt := 38) (by decide +kernel) (by decide) (fun b18 => ?_) (fun b18 => ?_)
    · rw [if_pos b18] at h
      refine E_mask [true, false, false] rfl ?_
      exact lk_Machine_hasTurn_j38 hγ this Q  M16 h
    · rw [if_neg b18] at h
      obtain ⟨c19, h⟩ := h
      refine E_blk (lv' := [some (vr (some (6, this))), none, none]) (st' := [vr (mR M16 700 this (mI M16 6 this 3).toNatClampNeg), vr (some (6, this))]) (M1 := M16) (pc' := 33) (tb_Machine hγ) [.aload_n 0, .aload_n 0, .getfield 20, .aload_n 0, .getfield 91, .aaload] (by decide +kernel) rfl rfl ⟨c19, trivial⟩ ?_
      obtain ⟨i20, ei20, h⟩ := h
      rw [ei20]
      refine E_blk (lv' := [some (vr (some (6, this))), none, none]) (st' := [vi (1 : Int32)]) (M1 := (sR M16 6 this 2 (some (7, i20)))) (pc' := 37) (tb_Machine hγ) [.putfield 24, .iconst 1] (by decide +kernel) rfl rfl trivial ?_
      exact E_zret rfl (Or.inr rfl) (by decide +kernel) h
def w_World_refClass (this : Nat) (a1 : Int32) (Q : Int32 → Mem → Prop) (M : Mem) : Prop :=
  vp_in ((4 : Int32) * a1) (mL M 76 this) ∧ Q (mI M 76 this ((4 : Int32) * a1).toNatClampNeg) M
set_option maxRecDepth 4096 in
theorem lk_World_refClass {γ : Gm} (hγ : Gk γ) (this : Nat) (a1 : Int32) (Q : Int32 → Mem → Prop) (M : Mem) (h : w_World_refClass this a1 Q M) : E γ k_World_refClass 0 0 [some (vr (some (5, this))), some (vi a1)] [] M (Qi Q) := by
  unfold w_World_refClass at h
  obtain ⟨c1, h⟩ := h
  refine E_blk (lv' := [some (vr (some (5, this))), some (vi a1)]) (st' := [vi (mI M 76 this ((4 : Int32) * a1).toNatClampNeg)]) (M1 := M) (pc' := 8) (tb_World hγ) [.aload_n 0, .getfield 174, .iconst 4, .iload_n 1, .imul, .iaload] (by decide +kernel) rfl rfl ⟨c1, trivial⟩ ?_
  exact E_iret rfl (by decide +kernel) h
def w_Machine_thrown (this : Nat) (a1 : Int32) (a2 : Int32) (Q : Int32 → Mem → Prop) (M : Mem) : Prop :=
  Q (((-100 : Int32) * a2) - a1) M
set_option maxRecDepth 4096 in
theorem lk_Machine_thrown {γ : Gm} (hγ : Gk γ) (this : Nat) (a1 : Int32) (a2 : Int32) (Q : Int32 → Mem → Prop) (M : Mem) (h : w_Machine_thrown this a1 a2 Q M) : E γ k_Machine_thrown 0 0 [some (vr (some (6, this))), some (vi a1), some (vi a2)] [] M (Qi Q) := by
  unfold w_Machine_thrown at h
  refine E_blk (lv' := [some (vr (some (6, this))), some (vi a1), some (vi a2)]) (st' := [vi (((-100 : Int32) * a2) - a1)]) (M1 := M) (pc' := 6) (tb_Machine hγ) [.bipush (.negSucc 99), .iload_n 2, .imul, .iload_n 1, .isub] (by decide +kernel) rfl rfl trivial ?_
  exact E_iret rfl (by decide +kernel) h
def w_Machine_findClass (this : Nat) (a1 : Int32) (Q : Int32 → Mem → Prop) (M : Mem) : Prop :=
  w_World_find this a1 (fun r2 M1 => if 0 ≤ r2 then (Q r2 M1) else (w_Machine_thrown this (11 : Int32) (50 : Int32) (fun r5 M4 => Q r5 M4) M1)) M
set_option maxRecDepth 4096 in
theorem lk_Machine_findClass {γ : Gm} (hγ : Gk γ) (this : Nat) (a1 : Int32) (Q : Int32 → Mem → Prop) (M : Mem) (h : w_Machine_findClass this a1 Q M) : E γ k_Machine_findClass 1 0 [some (vr (some (6, this))), some (vi a1), none] [] M (Qi Q) := by
  unfold w_Machine_findClass at h
  refine E_blk (lv' := [some (vr (some (6, this))), some (vi a1), none]) (st' := [vi a1, vr (some (5, this))]) (M1 := M) (pc' := 5) (tb_Machine hγ) [.aload_n 0, .getfield 84, .iload_n 1] (by decide +kernel) rfl rfl trivial ?_
  refine E_callV (κ' := k_World_find) (As := [vi a1]) (st := []) mv_World_find (Or.inl (tbk_mem (j := 8) (k := 148) rfl)) rfl (by decide +kernel) (Nat.le_of_ble_eq_true rfl) (Nat.le_of_ble_eq_true rfl) rfl (by decide) (lk_World_find hγ this a1 _ M h) (fun _ _ => Qi_r) (fun v M1 hp => Qi_k (R := fun st => E γ k_Machine_findClass 1 8 [some (vr (some (6, this))), some (vi a1), none] st M1 (Qi Q)) hp (fun r2 h => ?_))
  refine E_blk (lv' := [some (vr (some (6, this))), some (vi a1), some (vi r2)]) (st' := [vi r2]) (M1 := M1) (pc' := 10) (tb_Machine hγ) [.istore_n 2, .iload_n 2] (by decide +kernel) rfl rfl trivial ?_
  refine E_if_ge (off := 14) (tgt := 24) (by decide +kernel) (by decide) (fun b3 => ?_) (fun b3 => ?_)
  · rw [if_pos b3] at h
    refine E_blk (lv' := [some (vr (some (6, this))), some (vi a1), some (vi r2)]) (st' := [vi r2]) (M1 := M1) (pc' := 25) (tb_Machine hγ) [.iload_n 2] (by decide +kernel) rfl rfl trivial ?_
    exact E_iret rfl (by decide +kernel) h
  · rw [if_neg b3] at h
    refine E_blk (lv' := [some (vr (some (6, this))), some (vi a1), some (vi r2)]) (st' := [vi (50 : Int32), vi (11 : Int32), vr (some (6, this))]) (M1 := M1) (pc' := 18) (tb_Machine hγ) [.aload_n 0, .bipush 11, .bipush 50] (by decide +kernel) rfl rfl trivial ?_
    refine E_callV (κ' := k_Machine_thrown) (As := [vi (11 : Int32), vi (50 : Int32)]) (st := []) mv_Machine_thrown (Or.inl (tbk_mem (j := 8) (k := 149) rfl)) rfl (by decide +kernel) (Nat.le_of_ble_eq_true rfl) (Nat.le_of_ble_eq_true rfl) rfl (by decide) (lk_Machine_thrown hγ this (11 : Int32) (50 : Int32) _ M1 h) (fun _ _ => Qi_r) (fun v M4 hp => Qi_k (R := fun st => E γ k_Machine_findClass 1 21 [some (vr (some (6, this))), some (vi a1), some (vi r2)] st M4 (Qi Q)) hp (fun r5 h => ?_))
    refine E_goto (off := 4) (tgt := 25) (by decide +kernel) (by decide) ?_
    exact E_iret rfl (by decide +kernel) h
def w_World_comesBack_j131 (this : Nat) (Q : Int32 → Mem → Prop) (k28 : Int32 → Nat → Nat → Int32 → Mem → Prop) (k45 : Int32 → Nat → Nat → Int32 → Int32 → Int32 → Mem → Prop) (v1 : Int32) (v2 : Nat) (v3 : Nat) (v4 : Int32) (v5 : Int32) (v6 : Int32) (M : Mem) : Prop :=
  k45 v1 v2 v3 v4 v5 (v6 + (1 : Int32)) M
def w_World_comesBack_j92 (this : Nat) (Q : Int32 → Mem → Prop) (k28 : Int32 → Nat → Nat → Int32 → Mem → Prop) (k45 : Int32 → Nat → Nat → Int32 → Int32 → Int32 → Mem → Prop) (v1 : Int32) (v2 : Nat) (v3 : Nat) (v4 : Int32) (v5 : Int32) (v6 : Int32) (s0 : Int32) (M : Mem) : Prop :=
  if s0 = v1 then (Q (1 : Int32) M) else (if s0 < 0 then (w_World_comesBack_j131 this Q k28 k45 v1 v2 v3 v4 v5 v6 M) else (vp_in s0 (mL M 515 v2) ∧ if (mI M 515 v2 s0.toNatClampNeg) = 0 then (vp_in s0 (mL M 515 v2) ∧ vp_in v4 (mL (sI M 515 v2 s0.toNatClampNeg ((1 : Int32) &&& 1)) 97 v3) ∧ ∃ M18, M18 = (sI (sI M 515 v2 s0.toNatClampNeg ((1 : Int32) &&& 1)) 97 v3 v4.toNatClampNeg s0) ∧ w_World_comesBack_j131 this Q k28 k45 v1 v2 v3 (v4 + (1 : Int32)) v5 v6 M18) else (w_World_comesBack_j131 this Q k28 k45 v1 v2 v3 v4 v5 v6 M)))
def w_World_comesBack_L45 (this : Nat) (Q : Int32 → Mem → Prop) (k28 : Int32 → Nat → Nat → Int32 → Mem → Prop) : Nat → Int32 → Nat → Nat → Int32 → Int32 → Int32 → Mem → Prop
  | 0, _, _, _, _, _, _, _ => False
  | n + 1, v1, v2, v3, v4, v5, v6, M => vp_in v5 (mL M 39 this) ∧ if (mI M 39 this v5.toNatClampNeg) ≤ v6 then (k28 v1 v2 v3 v4 M) else (if 0 ≤ v6 then (vp_in (((4 : Int32) * v5) + v6) (mL M 38 this) ∧ w_World_find this (mI M 38 this (((4 : Int32) * v5) + v6).toNatClampNeg) (fun r11 M10 => w_World_comesBack_j92 this Q k28 (w_World_comesBack_L45 this Q k28 n) v1 v2 v3 v4 v5 v6 r11 M10) M) else (vp_in v5 (mL M 37 this) ∧ w_World_find this (mI M 37 this v5.toNatClampNeg) (fun r21 M20 => w_World_comesBack_j92 this Q k28 (w_World_comesBack_L45 this Q k28 n) v1 v2 v3 v4 v5 v6 r21 M20) M))
def w_World_comesBack_L28 (this : Nat) (Q : Int32 → Mem → Prop) : Nat → Int32 → Nat → Nat → Int32 → Mem → Prop
  | 0, _, _, _, _, _ => False
  | n + 1, v1, v2, v3, v4, M => if v4 ≤ 0 then (Q (0 : Int32) M) else (vp_in (v4 + (-1 : Int32)) (mL M 97 v3) ∧ ∃ n22 : Nat, w_World_comesBack_L45 this Q (w_World_comesBack_L28 this Q n) n22 v1 v2 v3 (v4 + (-1 : Int32)) (mI M 97 v3 (v4 + (-1 : Int32)).toNatClampNeg) (-1 : Int32) M)
def w_World_comesBack (this : Nat) (a1 : Int32) (Q : Int32 → Mem → Prop) (M : Mem) : Prop :=
  mL M 515 0 < 2 ^ 31 ∧ ∃ M1, M1 = flI M 515 0 (0 : Int32) ∧ vp_in (0 : Int32) (mL M1 97 0) ∧ ∃ n23 : Nat, w_World_comesBack_L28 this Q n23 a1 0 0 (1 : Int32) (sI M1 97 0 (0 : Int32).toNatClampNeg a1)
set_option maxRecDepth 4096 in
theorem lk_World_comesBack_j131 {γ : Gm} (hγ : Gk γ) (this : Nat) (Q : Int32 → Mem → Prop) (k28 : Int32 → Nat → Nat → Int32 → Mem → Prop) (k45 : Int32 → Nat → Nat → Int32 → Int32 → Int32 → Mem → Prop) (hk28 : ∀ (v1 : Int32) (v2 : Nat) (v3 : Nat) (v4 : Int32) (M : Mem), k28 v1 v2 v3 v4 M → E γ k_World_comesBack 1 28 [some (vr (some (5, this))), some (vi v1), some (vr (some (515, v2))), some (vr (some (97, v3))), some (vi v4), none, none, none] [] M (Qi Q)) (hk45 : ∀ (v1 : Int32) (v2 : Nat) (v3 : Nat) (v4 : Int32) (v5 : Int32) (v6 : Int32) (M : Mem), k45 v1 v2 v3 v4 v5 v6 M → E γ k_World_comesBack 1 45 [some (vr (some (5, this))), some (vi v1), some (vr (some (515, v2))), some (vr (some (97, v3))), some (vi v4), some (vi v5), some (vi v6), none] [] M (Qi Q)) (v1 : Int32) (v2 : Nat) (v3 : Nat) (v4 : Int32) (v5 : Int32) (v6 : Int32) (M : Mem) (h : w_World_comesBack_j131 this Q k28 k45 v1 v2 v3 v4 v5 v6 M) : E γ k_World_comesBack 1 131 [some (vr (some (5, this))), some (vi v1), some (vr (some (515, v2))), some (vr (some (97, v3))), some (vi v4), some (vi v5), some (vi v6), none] [] M (Qi Q) := by
  unfold w_World_comesBack_j131 at h
  refine E_blk (lv' := [some (vr (some (5, this))), some (vi v1), some (vr (some (515, v2))), some (vr (some (97, v3))), some (vi v4), some (vi v5), some (vi (v6 + (1 : Int32))), none]) (st' := []) (M1 := M) (pc' := 134) (tb_World hγ) [.iinc 6 1] (by decide +kernel) rfl rfl trivial ?_
  refine E_goto (off := -89) (tgt := 45) (by decide +kernel) (by decide) ?_
  refine E_mask [true, true, true, true, true, true, true, false] rfl ?_
  exact hk45 v1 v2 v3 v4 v5 (v6 + (1 : Int32)) M h
set_option maxRecDepth 4096 in
theorem lk_World_comesBack_j92 {γ : Gm} (hγ : Gk γ) (this : Nat) (Q : Int32 → Mem → Prop) (k28 : Int32 → Nat → Nat → Int32 → Mem → Prop) (k45 : Int32 → Nat → Nat → Int32 → Int32 → Int32 → Mem → Prop) (hk28 : ∀ (v1 : Int32) (v2 : Nat) (v3 : Nat) (v4 : Int32) (M : Mem), k28 v1 v2 v3 v4 M → E γ k_World_comesBack 1 28 [some (vr (some (5, this))), some (vi v1), some (vr (some (515, v2))), some (vr (some (97, v3))), some (vi v4), none, none, none] [] M (Qi Q)) (hk45 : ∀ (v1 : Int32) (v2 : Nat) (v3 : Nat) (v4 : Int32) (v5 : Int32) (v6 : Int32) (M : Mem), k45 v1 v2 v3 v4 v5 v6 M → E γ k_World_comesBack 1 45 [some (vr (some (5, this))), some (vi v1), some (vr (some (515, v2))), some (vr (some (97, v3))), some (vi v4), some (vi v5), some (vi v6), none] [] M (Qi Q)) (v1 : Int32) (v2 : Nat) (v3 : Nat) (v4 : Int32) (v5 : Int32) (v6 : Int32) (s0 : Int32) (M : Mem) (h : w_World_comesBack_j92 this Q k28 k45 v1 v2 v3 v4 v5 v6 s0 M) : E γ k_World_comesBack 1 92 [some (vr (some (5, this))), some (vi v1), some (vr (some (515, v2))), some (vr (some (97, v3))), some (vi v4), some (vi v5), some (vi v6), none] [vi s0] M (Qi Q) := by
  unfold w_World_comesBack_j92 at h
  refine E_blk (lv' := [some (vr (some (5, this))), some (vi v1), some (vr (some (515, v2))), some (vr (some (97, v3))), some (vi v4), some (vi v5), some (vi v6), some (vi s0)]) (st' := [vi v1, vi s0]) (M1 := M) (pc' := 97) (tb_World hγ) [.istore 7, .iload 7, .iload_n 1] (by decide +kernel) rfl rfl trivial ?_
  refine E_icmp_ne (off := 5) (tgt := 102) (by decide +kernel) (by decide) (fun b12 => ?_) (fun b12 => ?_)
  · rw [if_pos b12] at h
    refine E_blk (lv' := [some (vr (some (5, this))), some (vi v1), some (vr (some (515, v2))), some (vr (some (97, v3))), some (vi v4), some (vi v5), some (vi v6), some (vi s0)]) (st' := [vi (1 : Int32)]) (M1 := M) (pc' := 101) (tb_World hγ) [.iconst 1] (by decide +kernel) rfl rfl trivial ?_
    exact E_zret rfl (Or.inr rfl) (by decide +kernel) h
  · rw [if_neg b12] at h
    refine E_blk (lv' := [some (vr (some (5, this))), some (vi v1), some (vr (some (515, v2))), some (vr (some (97, v3))), some (vi v4), some (vi v5), some (vi v6), some (vi s0)]) (st' := [vi s0]) (M1 := M) (pc' := 104) (tb_World hγ) [.iload 7] (by decide +kernel) rfl rfl trivial ?_
    refine E_if_lt (off := 27) (tgt := 131) (by decide +kernel) (by decide) (fun b13 => ?_) (fun b13 => ?_)
    · rw [if_pos b13] at h
      refine E_mask [true, true, true, true, true, true, true, false] rfl ?_
      exact lk_World_comesBack_j131 hγ this Q k28 k45 hk28 hk45 v1 v2 v3 v4 v5 v6 M h
    · rw [if_neg b13] at h
      obtain ⟨c14, h⟩ := h
      refine E_blk (lv' := [some (vr (some (5, this))), some (vi v1), some (vr (some (515, v2))), some (vr (some (97, v3))), some (vi v4), some (vi v5), some (vi v6), some (vi s0)]) (st' := [vi (mI M 515 v2 s0.toNatClampNeg)]) (M1 := M) (pc' := 111) (tb_World hγ) [.aload_n 2, .iload 7, .baload] (by decide +kernel) rfl rfl ⟨c14, trivial⟩ ?_
      refine E_if_eq (off := 6) (tgt := 117) (by decide +kernel) (by decide) (fun b15 => ?_) (fun b15 => ?_)
      · rw [if_pos b15] at h
        obtain ⟨c16, c17, h⟩ := h
        refine E_blk (lv' := [some (vr (some (5, this))), some (vi v1), some (vr (some (515, v2))), some (vr (some (97, v3))), some (vi v4), some (vi v5), some (vi v6), some (vi s0)]) (st' := []) (M1 := (sI (sI M 515 v2 s0.toNatClampNeg ((1 : Int32) &&& 1)) 97 v3 v4.toNatClampNeg s0)) (pc' := 128) (tb_World hγ) [.aload_n 2, .iload 7, .iconst 1, .bastore, .aload_n 3, .iload 4, .iload 7, .iastore] (by decide +kernel) rfl rfl ⟨c16, c17, trivial⟩ ?_
        obtain ⟨M18, eM18, h⟩ := h
        rw [← eM18]
        refine E_blk (lv' := [some (vr (some (5, this))), some (vi v1), some (vr (some (515, v2))), some (vr (some (97, v3))), some (vi (v4 + (1 : Int32))), some (vi v5), some (vi v6), some (vi s0)]) (st' := []) (M1 := M18) (pc' := 131) (tb_World hγ) [.iinc 4 1] (by decide +kernel) rfl rfl trivial ?_
        refine E_mask [true, true, true, true, true, true, true, false] rfl ?_
        exact lk_World_comesBack_j131 hγ this Q k28 k45 hk28 hk45 v1 v2 v3 (v4 + (1 : Int32)) v5 v6 M18 h
      · rw [if_neg b15] at h
        refine E_goto (off := 17) (tgt := 131) (by decide +kernel) (by decide) ?_
        refine E_mask [true, true, true, true, true, true, true, false] rfl ?_
        exact lk_World_comesBack_j131 hγ this Q k28 k45 hk28 hk45 v1 v2 v3 v4 v5 v6 M h
set_option maxRecDepth 4096 in
theorem lk_World_comesBack_L45 {γ : Gm} (hγ : Gk γ) (this : Nat) (Q : Int32 → Mem → Prop) (k28 : Int32 → Nat → Nat → Int32 → Mem → Prop) (hk28 : ∀ (v1 : Int32) (v2 : Nat) (v3 : Nat) (v4 : Int32) (M : Mem), k28 v1 v2 v3 v4 M → E γ k_World_comesBack 1 28 [some (vr (some (5, this))), some (vi v1), some (vr (some (515, v2))), some (vr (some (97, v3))), some (vi v4), none, none, none] [] M (Qi Q)) : ∀ (n : Nat) (v1 : Int32) (v2 : Nat) (v3 : Nat) (v4 : Int32) (v5 : Int32) (v6 : Int32) (M : Mem), w_World_comesBack_L45 this Q k28 n v1 v2 v3 v4 v5 v6 M → E γ k_World_comesBack 1 45 [some (vr (some (5, this))), some (vi v1), some (vr (some (515, v2))), some (vr (some (97, v3))), some (vi v4), some (vi v5), some (vi v6), none] [] M (Qi Q) := by
  intro n
  induction n with
  | zero => intro v1 v2 v3 v4 v5 v6 M h; exact h.elim
  | succ n ih =>
    intro v1 v2 v3 v4 v5 v6 M h
    unfold w_World_comesBack_L45 at h
    obtain ⟨c6, h⟩ := h
    refine E_blk (lv' := [some (vr (some (5, this))), some (vi v1), some (vr (some (515, v2))), some (vr (some (97, v3))), some (vi v4), some (vi v5), some (vi v6), none]) (st' := [vi (mI M 39 this v5.toNatClampNeg), vi v6]) (M1 := M) (pc' := 54) (tb_World hγ) [.iload 6, .aload_n 0, .getfield 29, .iload 5, .iaload] (by decide +kernel) rfl rfl ⟨c6, trivial⟩ ?_
    refine E_icmp_ge (off := 83) (tgt := 137) (by decide +kernel) (by decide) (fun b7 => ?_) (fun b7 => ?_)
    · rw [if_pos b7] at h
      refine E_goto (off := -109) (tgt := 28) (by decide +kernel) (by decide) ?_
      refine E_mask [true, true, true, true, true, false, false, false] rfl ?_
      exact hk28 v1 v2 v3 v4 M h
    · rw [if_neg b7] at h
      refine E_blk (lv' := [some (vr (some (5, this))), some (vi v1), some (vr (some (515, v2))), some (vr (some (97, v3))), some (vi v4), some (vi v5), some (vi v6), none]) (st' := [vi v6]) (M1 := M) (pc' := 59) (tb_World hγ) [.iload 6] (by decide +kernel) rfl rfl trivial ?_
      refine E_if_ge (off := 17) (tgt := 76) (by decide +kernel) (by decide) (fun b8 => ?_) (fun b8 => ?_)
      · rw [if_pos b8] at h
        obtain ⟨c9, h⟩ := h
        refine E_blk (lv' := [some (vr (some (5, this))), some (vi v1), some (vr (some (515, v2))), some (vr (some (97, v3))), some (vi v4), some (vi v5), some (vi v6), none]) (st' := [vi (mI M 38 this (((4 : Int32) * v5) + v6).toNatClampNeg), vr (some (5, this))]) (M1 := M) (pc' := 89) (tb_World hγ) [.aload_n 0, .aload_n 0, .getfield 26, .iconst 4, .iload 5, .imul, .iload 6, .iadd, .iaload] (by decide +kernel) rfl rfl ⟨c9, trivial⟩ ?_
        refine E_callV (κ' := k_World_find) (As := [vi (mI M 38 this (((4 : Int32) * v5) + v6).toNatClampNeg)]) (st := []) mv_World_find (Or.inl (tbk_mem (j := 7) (k := 89) rfl)) rfl (by decide +kernel) (Nat.le_of_ble_eq_true rfl) (Nat.le_of_ble_eq_true rfl) rfl (by decide) (lk_World_find hγ this (mI M 38 this (((4 : Int32) * v5) + v6).toNatClampNeg) _ M h) (fun _ _ => Qi_r) (fun v M10 hp => Qi_k (R := fun st => E γ k_World_comesBack 1 92 [some (vr (some (5, this))), some (vi v1), some (vr (some (515, v2))), some (vr (some (97, v3))), some (vi v4), some (vi v5), some (vi v6), none] st M10 (Qi Q)) hp (fun r11 h => ?_))
        refine E_mask [true, true, true, true, true, true, true, false] rfl ?_
        exact lk_World_comesBack_j92 hγ this Q k28 (w_World_comesBack_L45 this Q k28 n) hk28 ih v1 v2 v3 v4 v5 v6 r11 M10 h
      · rw [if_neg b8] at h
        obtain ⟨c19, h⟩ := h
        refine E_blk (lv' := [some (vr (some (5, this))), some (vi v1), some (vr (some (515, v2))), some (vr (some (97, v3))), some (vi v4), some (vi v5), some (vi v6), none]) (st' := [vi (mI M 37 this v5.toNatClampNeg), vr (some (5, this))]) (M1 := M) (pc' := 70) (tb_World hγ) [.aload_n 0, .aload_n 0, .getfield 23, .iload 5, .iaload] (by decide +kernel) rfl rfl ⟨c19, trivial⟩ ?_
        refine E_callV (κ' := k_World_find) (As := [vi (mI M 37 this v5.toNatClampNeg)]) (st := []) mv_World_find (Or.inl (tbk_mem (j := 7) (k := 89) rfl)) rfl (by decide +kernel) (Nat.le_of_ble_eq_true rfl) (Nat.le_of_ble_eq_true rfl) rfl (by decide) (lk_World_find hγ this (mI M 37 this v5.toNatClampNeg) _ M h) (fun _ _ => Qi_r) (fun v M20 hp => Qi_k (R := fun st => E γ k_World_comesBack 1 73 [some (vr (some (5, this))), some (vi v1), some (vr (some (515, v2))), some (vr (some (97, v3))), some (vi v4), some (vi v5), some (vi v6), none] st M20 (Qi Q)) hp (fun r21 h => ?_))
        refine E_goto (off := 19) (tgt := 92) (by decide +kernel) (by decide) ?_
        refine E_mask [true, true, true, true, true, true, true, false] rfl ?_
        exact lk_World_comesBack_j92 hγ this Q k28 (w_World_comesBack_L45 this Q k28 n) hk28 ih v1 v2 v3 v4 v5 v6 r21 M20 h
set_option maxRecDepth 4096 in
theorem lk_World_comesBack_L28 {γ : Gm} (hγ : Gk γ) (this : Nat) (Q : Int32 → Mem → Prop) : ∀ (n : Nat) (v1 : Int32) (v2 : Nat) (v3 : Nat) (v4 : Int32) (M : Mem), w_World_comesBack_L28 this Q n v1 v2 v3 v4 M → E γ k_World_comesBack 1 28 [some (vr (some (5, this))), some (vi v1), some (vr (some (515, v2))), some (vr (some (97, v3))), some (vi v4), none, none, none] [] M (Qi Q) := by
  intro n
  induction n with
  | zero => intro v1 v2 v3 v4 M h; exact h.elim
  | succ n ih =>
    intro v1 v2 v3 v4 M h
    unfold w_World_comesBack_L28 at h
    refine E_blk (lv' := [some (vr (some (5, this))), some (vi v1), some (vr (some (515, v2))), some (vr (some (97, v3))), some (vi v4), none, none, none]) (st' := [vi v4]) (M1 := M) (pc' := 30) (tb_World hγ) [.iload 4] (by decide +kernel) rfl rfl trivial ?_
    refine E_if_le (off := 110) (tgt := 140) (by decide +kernel) (by decide) (fun b4 => ?_) (fun b4 => ?_)
    · rw [if_pos b4] at h
      refine E_blk (lv' := [some (vr (some (5, this))), some (vi v1), some (vr (some (515, v2))), some (vr (some (97, v3))), some (vi v4), none, none, none]) (st' := [vi (0 : Int32)]) (M1 := M) (pc' := 141) (tb_World hγ) [.iconst 0] (by decide +kernel) rfl rfl trivial ?_
      exact E_zret rfl (Or.inl rfl) (by decide +kernel) h
    · rw [if_neg b4] at h
      obtain ⟨c5, h⟩ := h
      refine E_blk (lv' := [some (vr (some (5, this))), some (vi v1), some (vr (some (515, v2))), some (vr (some (97, v3))), some (vi (v4 + (-1 : Int32))), some (vi (mI M 97 v3 (v4 + (-1 : Int32)).toNatClampNeg)), some (vi (-1 : Int32)), none]) (st' := []) (M1 := M) (pc' := 45) (tb_World hγ) [.iinc 4 (.negSucc 0), .aload_n 3, .iload 4, .iaload, .istore 5, .iconst (.negSucc 0), .istore 6] (by decide +kernel) rfl rfl ⟨c5, trivial⟩ ?_
      obtain ⟨n22, h⟩ := h
      refine E_mask [true, true, true, true, true, true, true, false] rfl ?_
      exact lk_World_comesBack_L45 hγ this Q (w_World_comesBack_L28 this Q n) ih n22 v1 v2 v3 (v4 + (-1 : Int32)) (mI M 97 v3 (v4 + (-1 : Int32)).toNatClampNeg) (-1 : Int32) M h
set_option maxRecDepth 4096 in
theorem lk_World_comesBack {γ : Gm} (hγ : Gk γ) (this : Nat) (a1 : Int32) (Q : Int32 → Mem → Prop) (M : Mem) (h : w_World_comesBack this a1 Q M) : E γ k_World_comesBack 1 0 [some (vr (some (5, this))), some (vi a1), none, none, none, none, none, none] [] M (Qi Q) := by
  unfold w_World_comesBack at h
  refine E_blk (lv' := [some (vr (some (5, this))), some (vi a1), some (vr (some (515, 0))), some (vr (some (97, 0))), none, none, none, none]) (st' := [vi (0 : Int32), vr (some (515, 0))]) (M1 := M) (pc' := 18) (tb_World hγ) [.aload_n 0, .getfield 3, .getfield 282, .astore_n 2, .aload_n 0, .getfield 3, .getfield 285, .astore_n 3, .aload_n 2, .iconst 0] (by decide +kernel) rfl rfl trivial ?_
  obtain ⟨c2, M1, eM1, h⟩ := h
  refine E_fillZ (st := []) (by decide) (by decide) (by decide) c2 (tbk_mem (j := 7) (k := 88) rfl) (by decide +kernel) (Nat.le_of_ble_eq_true rfl) ?_
  rw [← eM1]
  obtain ⟨c3, h⟩ := h
  refine E_blk (lv' := [some (vr (some (5, this))), some (vi a1), some (vr (some (515, 0))), some (vr (some (97, 0))), some (vi (1 : Int32)), none, none, none]) (st' := []) (M1 := (sI M1 97 0 (0 : Int32).toNatClampNeg a1)) (pc' := 28) (tb_World hγ) [.iconst 1, .istore 4, .aload_n 3, .iconst 0, .iload_n 1, .iastore] (by decide +kernel) rfl rfl ⟨c3, trivial⟩ ?_
  obtain ⟨n23, h⟩ := h
  refine E_mask [true, true, true, true, true, false, false, false] rfl ?_
  exact lk_World_comesBack_L28 hγ this Q n23 a1 0 0 (1 : Int32) (sI M1 97 0 (0 : Int32).toNatClampNeg a1) h
def w_World_up (this : Nat) (a1 : Int32) (Q : Int32 → Mem → Prop) (M : Mem) : Prop :=
  if a1 = 0 then (Q (-2 : Int32) M) else (w_World_isFace this a1 (fun r3 M2 => if r3 = 0 then (vp_in a1 (mL M2 37 this) ∧ w_World_find this (mI M2 37 this a1.toNatClampNeg) (fun r7 M6 => Q r7 M6) M2) else (Q (0 : Int32) M2)) M)
set_option maxRecDepth 4096 in
theorem lk_World_up {γ : Gm} (hγ : Gk γ) (this : Nat) (a1 : Int32) (Q : Int32 → Mem → Prop) (M : Mem) (h : w_World_up this a1 Q M) : E γ k_World_up 1 0 [some (vr (some (5, this))), some (vi a1)] [] M (Qi Q) := by
  unfold w_World_up at h
  refine E_blk (lv' := [some (vr (some (5, this))), some (vi a1)]) (st' := [vi a1]) (M1 := M) (pc' := 1) (tb_World hγ) [.iload_n 1] (by decide +kernel) rfl rfl trivial ?_
  refine E_if_ne (off := 8) (tgt := 9) (by decide +kernel) (by decide) (fun b1 => ?_) (fun b1 => ?_)
  · rw [if_pos b1] at h
    refine E_blk (lv' := [some (vr (some (5, this))), some (vi a1)]) (st' := [vi (-2 : Int32)]) (M1 := M) (pc' := 6) (tb_World hγ) [.bipush (.negSucc 1)] (by decide +kernel) rfl rfl trivial ?_
    refine E_goto (off := 25) (tgt := 31) (by decide +kernel) (by decide) ?_
    exact E_iret rfl (by decide +kernel) h
  · rw [if_neg b1] at h
    refine E_blk (lv' := [some (vr (some (5, this))), some (vi a1)]) (st' := [vi a1, vr (some (5, this))]) (M1 := M) (pc' := 11) (tb_World hγ) [.aload_n 0, .iload_n 1] (by decide +kernel) rfl rfl trivial ?_
    refine E_callV (κ' := k_World_isFace) (As := [vi a1]) (st := []) mv_World_isFace (Or.inl (tbk_mem (j := 7) (k := 91) rfl)) rfl (by decide +kernel) (Nat.le_of_ble_eq_true rfl) (Nat.le_of_ble_eq_true rfl) rfl (by decide) (lk_World_isFace hγ this a1 _ M h) (fun _ _ => Qi_r) (fun v M2 hp => Qi_k (R := fun st => E γ k_World_up 1 14 [some (vr (some (5, this))), some (vi a1)] st M2 (Qi Q)) hp (fun r3 h => ?_))
    refine E_if_eq (off := 7) (tgt := 21) (by decide +kernel) (by decide) (fun b4 => ?_) (fun b4 => ?_)
    · rw [if_pos b4] at h
      obtain ⟨c5, h⟩ := h
      refine E_blk (lv' := [some (vr (some (5, this))), some (vi a1)]) (st' := [vi (mI M2 37 this a1.toNatClampNeg), vr (some (5, this))]) (M1 := M2) (pc' := 28) (tb_World hγ) [.aload_n 0, .aload_n 0, .getfield 23, .iload_n 1, .iaload] (by decide +kernel) rfl rfl ⟨c5, trivial⟩ ?_
      refine E_callV (κ' := k_World_find) (As := [vi (mI M2 37 this a1.toNatClampNeg)]) (st := []) mv_World_find (Or.inl (tbk_mem (j := 7) (k := 89) rfl)) rfl (by decide +kernel) (Nat.le_of_ble_eq_true rfl) (Nat.le_of_ble_eq_true rfl) rfl (by decide) (lk_World_find hγ this (mI M2 37 this a1.toNatClampNeg) _ M2 h) (fun _ _ => Qi_r) (fun v M6 hp => Qi_k (R := fun st => E γ k_World_up 1 31 [some (vr (some (5, this))), some (vi a1)] st M6 (Qi Q)) hp (fun r7 h => ?_))
      exact E_iret rfl (by decide +kernel) h
    · rw [if_neg b4] at h
      refine E_blk (lv' := [some (vr (some (5, this))), some (vi a1)]) (st' := [vi (0 : Int32)]) (M1 := M2) (pc' := 18) (tb_World hγ) [.iconst 0] (by decide +kernel) rfl rfl trivial ?_
      refine E_goto (off := 13) (tgt := 31) (by decide +kernel) (by decide) ?_
      exact E_iret rfl (by decide +kernel) h
def w_World_own_j75 (this : Nat) (Q : Int32 → Mem → Prop) (k8 : Int32 → Int32 → Int32 → Int32 → Int32 → Mem → Prop) (v1 : Int32) (v2 : Int32) (v3 : Int32) (v4 : Int32) (v5 : Int32) (M : Mem) : Prop :=
  k8 v1 v2 v3 v4 (v5 + (1 : Int32)) M
def w_World_own_L8 (this : Nat) (Q : Int32 → Mem → Prop) : Nat → Int32 → Int32 → Int32 → Int32 → Int32 → Mem → Prop
  | 0, _, _, _, _, _, _ => False
  | n + 1, v1, v2, v3, v4, v5, M => vp_in v1 (mL M 43 this) ∧ vp_in v1 (mL M 44 this) ∧ if ((mI M 43 this v1.toNatClampNeg) + (mI M 44 this v1.toNatClampNeg)) ≤ v5 then (Q (-2 : Int32) M) else (vp_in v5 (mL M 56 this) ∧ if (mI M 56 this v5.toNatClampNeg) = v2 then (vp_in v5 (mL M 59 this) ∧ if (mI M 59 this v5.toNatClampNeg) = v4 then (vp_in v3 (mL M 58 this) ∧ w_World_sameArguments this v5 (2 * this + 1) ((6 : Int32) * v3) (mI M 58 this v3.toNatClampNeg) (fun r11 M10 => if r11 = 0 then (w_World_own_j75 this Q (w_World_own_L8 this Q n) v1 v2 v3 v4 v5 M10) else (Q v5 M10)) M) else (w_World_own_j75 this Q (w_World_own_L8 this Q n) v1 v2 v3 v4 v5 M)) else (w_World_own_j75 this Q (w_World_own_L8 this Q n) v1 v2 v3 v4 v5 M))
def w_World_own (this : Nat) (a1 : Int32) (a2 : Int32) (a3 : Int32) (a4 : Int32) (Q : Int32 → Mem → Prop) (M : Mem) : Prop :=
  vp_in a1 (mL M 43 this) ∧ ∃ n13 : Nat, w_World_own_L8 this Q n13 a1 a2 a3 a4 (mI M 43 this a1.toNatClampNeg) M
set_option maxRecDepth 4096 in
theorem lk_World_own_j75 {γ : Gm} (hγ : Gk γ) (this : Nat) (Q : Int32 → Mem → Prop) (k8 : Int32 → Int32 → Int32 → Int32 → Int32 → Mem → Prop) (hk8 : ∀ (v1 : Int32) (v2 : Int32) (v3 : Int32) (v4 : Int32) (v5 : Int32) (M : Mem), k8 v1 v2 v3 v4 v5 M → E γ k_World_own 1 8 [some (vr (some (5, this))), some (vi v1), some (vi v2), some (vi v3), some (vi v4), some (vi v5)] [] M (Qi Q)) (v1 : Int32) (v2 : Int32) (v3 : Int32) (v4 : Int32) (v5 : Int32) (M : Mem) (h : w_World_own_j75 this Q k8 v1 v2 v3 v4 v5 M) : E γ k_World_own 1 75 [some (vr (some (5, this))), some (vi v1), some (vi v2), some (vi v3), some (vi v4), some (vi v5)] [] M (Qi Q) := by
  unfold w_World_own_j75 at h
  refine E_blk (lv' := [some (vr (some (5, this))), some (vi v1), some (vi v2), some (vi v3), some (vi v4), some (vi (v5 + (1 : Int32)))]) (st' := []) (M1 := M) (pc' := 78) (tb_World hγ) [.iinc 5 1] (by decide +kernel) rfl rfl trivial ?_
  refine E_goto (off := -70) (tgt := 8) (by decide +kernel) (by decide) ?_
  refine E_mask [true, true, true, true, true, true] rfl ?_
  exact hk8 v1 v2 v3 v4 (v5 + (1 : Int32)) M h
set_option maxRecDepth 4096 in
theorem lk_World_own_L8 {γ : Gm} (hγ : Gk γ) (this : Nat) (Q : Int32 → Mem → Prop) : ∀ (n : Nat) (v1 : Int32) (v2 : Int32) (v3 : Int32) (v4 : Int32) (v5 : Int32) (M : Mem), w_World_own_L8 this Q n v1 v2 v3 v4 v5 M → E γ k_World_own 1 8 [some (vr (some (5, this))), some (vi v1), some (vi v2), some (vi v3), some (vi v4), some (vi v5)] [] M (Qi Q) := by
  intro n
  induction n with
  | zero => intro v1 v2 v3 v4 v5 M h; exact h.elim
  | succ n ih =>
    intro v1 v2 v3 v4 v5 M h
    unfold w_World_own_L8 at h
    obtain ⟨c2, c3, h⟩ := h
    refine E_blk (lv' := [some (vr (some (5, this))), some (vi v1), some (vi v2), some (vi v3), some (vi v4), some (vi v5)]) (st' := [vi ((mI M 43 this v1.toNatClampNeg) + (mI M 44 this v1.toNatClampNeg)), vi v5]) (M1 := M) (pc' := 23) (tb_World hγ) [.iload 5, .aload_n 0, .getfield 41, .iload_n 1, .iaload, .aload_n 0, .getfield 44, .iload_n 1, .iaload, .iadd] (by decide +kernel) rfl rfl ⟨c2, c3, trivial⟩ ?_
    refine E_icmp_ge (off := 58) (tgt := 81) (by decide +kernel) (by decide) (fun b4 => ?_) (fun b4 => ?_)
    · rw [if_pos b4] at h
      refine E_blk (lv' := [some (vr (some (5, this))), some (vi v1), some (vi v2), some (vi v3), some (vi v4), some (vi v5)]) (st' := [vi (-2 : Int32)]) (M1 := M) (pc' := 83) (tb_World hγ) [.bipush (.negSucc 1)] (by decide +kernel) rfl rfl trivial ?_
      exact E_iret rfl (by decide +kernel) h
    · rw [if_neg b4] at h
      obtain ⟨c5, h⟩ := h
      refine E_blk (lv' := [some (vr (some (5, this))), some (vi v1), some (vi v2), some (vi v3), some (vi v4), some (vi v5)]) (st' := [vi v2, vi (mI M 56 this v5.toNatClampNeg)]) (M1 := M) (pc' := 34) (tb_World hγ) [.aload_n 0, .getfield 90, .iload 5, .iaload, .iload_n 2] (by decide +kernel) rfl rfl ⟨c5, trivial⟩ ?_
      refine E_icmp_ne (off := 41) (tgt := 75) (by decide +kernel) (by decide) (fun b6 => ?_) (fun b6 => ?_)
      · rw [if_pos b6] at h
        obtain ⟨c7, h⟩ := h
        refine E_blk (lv' := [some (vr (some (5, this))), some (vi v1), some (vi v2), some (vi v3), some (vi v4), some (vi v5)]) (st' := [vi v4, vi (mI M 59 this v5.toNatClampNeg)]) (M1 := M) (pc' := 46) (tb_World hγ) [.aload_n 0, .getfield 102, .iload 5, .iaload, .iload 4] (by decide +kernel) rfl rfl ⟨c7, trivial⟩ ?_
        refine E_icmp_ne (off := 29) (tgt := 75) (by decide +kernel) (by decide) (fun b8 => ?_) (fun b8 => ?_)
        · rw [if_pos b8] at h
          obtain ⟨c9, h⟩ := h
          refine E_blk (lv' := [some (vr (some (5, this))), some (vi v1), some (vi v2), some (vi v3), some (vi v4), some (vi v5)]) (st' := [vi (mI M 58 this v3.toNatClampNeg), vi ((6 : Int32) * v3), vr (some (211, (2 * this + 1))), vi v5, vr (some (5, this))]) (M1 := M) (pc' := 66) (tb_World hγ) [.aload_n 0, .iload 5, .aload_n 0, .getfield 99, .bipush 6, .iload_n 3, .imul, .aload_n 0, .getfield 96, .iload_n 3, .iaload] (by decide +kernel) rfl rfl ⟨c9, trivial⟩ ?_
          refine E_callV (κ' := k_World_sameArguments) (As := [vi v5, vr (some (211, (2 * this + 1))), vi ((6 : Int32) * v3), vi (mI M 58 this v3.toNatClampNeg)]) (st := []) mv_World_sameArguments (Or.inl (tbk_mem (j := 7) (k := 105) rfl)) rfl (by decide +kernel) (Nat.le_of_ble_eq_true rfl) (Nat.le_of_ble_eq_true rfl) rfl (by decide) (lk_World_sameArguments hγ this v5 (2 * this + 1) ((6 : Int32) * v3) (mI M 58 this v3.toNatClampNeg) _ M h) (fun _ _ => Qi_r) (fun v M10 hp => Qi_k (R := fun st => E γ k_World_own 1 69 [some (vr (some (5, this))), some (vi v1), some (vi v2), some (vi v3), some (vi v4), some (vi v5)] st M10 (Qi Q)) hp (fun r11 h => ?_))
          refine E_if_eq (off := 6) (tgt := 75) (by decide +kernel) (by decide) (fun b12 => ?_) (fun b12 => ?_)
          · rw [if_pos b12] at h
            refine E_mask [true, true, true, true, true, true] rfl ?_
            exact lk_World_own_j75 hγ this Q (w_World_own_L8 this Q n) ih v1 v2 v3 v4 v5 M10 h
          · rw [if_neg b12] at h
            refine E_blk (lv' := [some (vr (some (5, this))), some (vi v1), some (vi v2), some (vi v3), some (vi v4), some (vi v5)]) (st' := [vi v5]) (M1 := M10) (pc' := 74) (tb_World hγ) [.iload 5] (by decide +kernel) rfl rfl trivial ?_
            exact E_iret rfl (by decide +kernel) h
        · rw [if_neg b8] at h
          refine E_mask [true, true, true, true, true, true] rfl ?_
          exact lk_World_own_j75 hγ this Q (w_World_own_L8 this Q n) ih v1 v2 v3 v4 v5 M h
      · rw [if_neg b6] at h
        refine E_mask [true, true, true, true, true, true] rfl ?_
        exact lk_World_own_j75 hγ this Q (w_World_own_L8 this Q n) ih v1 v2 v3 v4 v5 M h
set_option maxRecDepth 4096 in
theorem lk_World_own {γ : Gm} (hγ : Gk γ) (this : Nat) (a1 : Int32) (a2 : Int32) (a3 : Int32) (a4 : Int32) (Q : Int32 → Mem → Prop) (M : Mem) (h : w_World_own this a1 a2 a3 a4 Q M) : E γ k_World_own 1 0 [some (vr (some (5, this))), some (vi a1), some (vi a2), some (vi a3), some (vi a4), none] [] M (Qi Q) := by
  unfold w_World_own at h
  obtain ⟨c1, h⟩ := h
  refine E_blk (lv' := [some (vr (some (5, this))), some (vi a1), some (vi a2), some (vi a3), some (vi a4), some (vi (mI M 43 this a1.toNatClampNeg))]) (st' := []) (M1 := M) (pc' := 8) (tb_World hγ) [.aload_n 0, .getfield 41, .iload_n 1, .iaload, .istore 5] (by decide +kernel) rfl rfl ⟨c1, trivial⟩ ?_
  obtain ⟨n13, h⟩ := h
  refine E_mask [true, true, true, true, true, true] rfl ?_
  exact lk_World_own_L8 hγ this Q n13 a1 a2 a3 a4 (mI M 43 this a1.toNatClampNeg) M h
def w_World_changesFinal_j130 (this : Nat) (Q : Int32 → Mem → Prop) (k7 : Int32 → Int32 → Int32 → Mem → Prop) (v1 : Int32) (v2 : Int32) (v3 : Int32) (M : Mem) : Prop :=
  k7 v1 v2 (v3 + (1 : Int32)) M
def w_World_changesFinal_j119 (this : Nat) (Q : Int32 → Mem → Prop) (k7 : Int32 → Int32 → Int32 → Mem → Prop) (k67 : Int32 → Int32 → Int32 → Int32 → Int32 → Mem → Prop) (v1 : Int32) (v2 : Int32) (v3 : Int32) (v4 : Int32) (v5 : Int32) (M : Mem) : Prop :=
  w_World_up this v5 (fun r15 M14 => k67 v1 v2 v3 v4 r15 M14) M
def w_World_changesFinal_L67 (this : Nat) (Q : Int32 → Mem → Prop) (k7 : Int32 → Int32 → Int32 → Mem → Prop) : Nat → Int32 → Int32 → Int32 → Int32 → Int32 → Mem → Prop
  | 0, _, _, _, _, _, _ => False
  | n + 1, v1, v2, v3, v4, v5, M => if v5 ≤ 0 then (w_World_changesFinal_j130 this Q k7 v1 v2 v3 M) else (if v4 = 0 then (w_World_changesFinal_j130 this Q k7 v1 v2 v3 M) else (vp_in v3 (mL M 56 this) ∧ vp_in v3 (mL M 59 this) ∧ w_World_own this v5 (mI M 56 this v3.toNatClampNeg) v3 (mI M 59 this v3.toNatClampNeg) (fun r12 M11 => if r12 < 0 then (w_World_changesFinal_j119 this Q k7 (w_World_changesFinal_L67 this Q k7 n) v1 v2 v3 v4 v5 M11) else (vp_in r12 (mL M11 57 this) ∧ if ((mI M11 57 this r12.toNatClampNeg) &&& (7 : Int32)) = (2 : Int32) then (Q (1 : Int32) M11) else (w_World_changesFinal_j119 this Q k7 (w_World_changesFinal_L67 this Q k7 n) v1 v2 v3 v4 v5 M11))) M))
def w_World_changesFinal_j62 (this : Nat) (Q : Int32 → Mem → Prop) (k7 : Int32 → Int32 → Int32 → Mem → Prop) (v1 : Int32) (v2 : Int32) (v3 : Int32) (s0 : Int32) (M : Mem) : Prop :=
  ∃ n18 : Nat, w_World_changesFinal_L67 this Q k7 n18 v1 v2 v3 s0 v2 M
def w_World_changesFinal_j61 (this : Nat) (Q : Int32 → Mem → Prop) (k7 : Int32 → Int32 → Int32 → Mem → Prop) (v1 : Int32) (v2 : Int32) (v3 : Int32) (M : Mem) : Prop :=
  w_World_changesFinal_j62 this Q k7 v1 v2 v3 (0 : Int32) M
def w_World_changesFinal_L7 (this : Nat) (Q : Int32 → Mem → Prop) : Nat → Int32 → Int32 → Int32 → Mem → Prop
  | 0, _, _, _, _ => False
  | n + 1, v1, v2, v3, M => vp_in v1 (mL M 43 this) ∧ vp_in v1 (mL M 44 this) ∧ if ((mI M 43 this v1.toNatClampNeg) + (mI M 44 this v1.toNatClampNeg)) ≤ v3 then (Q (0 : Int32) M) else (vp_in v3 (mL M 56 this) ∧ if (mI M 56 this v3.toNatClampNeg) = (79 : Int32) then (w_World_changesFinal_j61 this Q (w_World_changesFinal_L7 this Q n) v1 v2 v3 M) else (vp_in v3 (mL M 56 this) ∧ if (mI M 56 this v3.toNatClampNeg) = (80 : Int32) then (w_World_changesFinal_j61 this Q (w_World_changesFinal_L7 this Q n) v1 v2 v3 M) else (vp_in v3 (mL M 57 this) ∧ if ((mI M 57 this v3.toNatClampNeg) &&& (5 : Int32)) = 0 then (w_World_changesFinal_j62 this Q (w_World_changesFinal_L7 this Q n) v1 v2 v3 (1 : Int32) M) else (w_World_changesFinal_j61 this Q (w_World_changesFinal_L7 this Q n) v1 v2 v3 M))))
def w_World_changesFinal (this : Nat) (a1 : Int32) (a2 : Int32) (Q : Int32 → Mem → Prop) (M : Mem) : Prop :=
  vp_in a1 (mL M 43 this) ∧ ∃ n23 : Nat, w_World_changesFinal_L7 this Q n23 a1 a2 (mI M 43 this a1.toNatClampNeg) M
set_option maxRecDepth 4096 in
theorem lk_World_changesFinal_j130 {γ : Gm} (hγ : Gk γ) (this : Nat) (Q : Int32 → Mem → Prop) (k7 : Int32 → Int32 → Int32 → Mem → Prop) (hk7 : ∀ (v1 : Int32) (v2 : Int32) (v3 : Int32) (M : Mem), k7 v1 v2 v3 M → E γ k_World_changesFinal 2 7 [some (vr (some (5, this))), some (vi v1), some (vi v2), some (vi v3), none, none, none] [] M (Qi Q)) (v1 : Int32) (v2 : Int32) (v3 : Int32) (M : Mem) (h : w_World_changesFinal_j130 this Q k7 v1 v2 v3 M) : E γ k_World_changesFinal 2 130 [some (vr (some (5, this))), some (vi v1), some (vi v2), some (vi v3), none, none, none] [] M (Qi Q) := by
  unfold w_World_changesFinal_j130 at h
  refine E_blk (lv' := [some (vr (some (5, this))), some (vi v1), some (vi v2), some (vi (v3 + (1 : Int32))), none, none, none]) (st' := []) (M1 := M) (pc' := 133) (tb_World hγ) [.iinc 3 1] (by decide +kernel) rfl rfl trivial ?_
  refine E_goto (off := -126) (tgt := 7) (by decide +kernel) (by decide) ?_
  refine E_mask [true, true, true, true, false, false, false] rfl ?_
  exact hk7 v1 v2 (v3 + (1 : Int32)) M h
set_option maxRecDepth 4096 in
theorem lk_World_changesFinal_j119 {γ : Gm} (hγ : Gk γ) (this : Nat) (Q : Int32 → Mem → Prop) (k7 : Int32 → Int32 → Int32 → Mem → Prop) (k67 : Int32 → Int32 → Int32 → Int32 → Int32 → Mem → Prop) (hk7 : ∀ (v1 : Int32) (v2 : Int32) (v3 : Int32) (M : Mem), k7 v1 v2 v3 M → E γ k_World_changesFinal 2 7 [some (vr (some (5, this))), some (vi v1), some (vi v2), some (vi v3), none, none, none] [] M (Qi Q)) (hk67 : ∀ (v1 : Int32) (v2 : Int32) (v3 : Int32) (v4 : Int32) (v5 : Int32) (M : Mem), k67 v1 v2 v3 v4 v5 M → E γ k_World_changesFinal 2 67 [some (vr (some (5, this))), some (vi v1), some (vi v2), some (vi v3), some (vi v4), some (vi v5), none] [] M (Qi Q)) (v1 : Int32) (v2 : Int32) (v3 : Int32) (v4 : Int32) (v5 : Int32) (M : Mem) (h : w_World_changesFinal_j119 this Q k7 k67 v1 v2 v3 v4 v5 M) : E γ k_World_changesFinal 2 119 [some (vr (some (5, this))), some (vi v1), some (vi v2), some (vi v3), some (vi v4), some (vi v5), none] [] M (Qi Q) := by
  unfold w_World_changesFinal_j119 at h
  refine E_blk (lv' := [some (vr (some (5, this))), some (vi v1), some (vi v2), some (vi v3), some (vi v4), some (vi v5), none]) (st' := [vi v5, vr (some (5, this))]) (M1 := M) (pc' := 122) (tb_World hγ) [.aload_n 0, .iload 5] (by decide +kernel) rfl rfl trivial ?_
  refine E_callV (κ' := k_World_up) (As := [vi v5]) (st := []) mv_World_up (Or.inl (tbk_mem (j := 7) (k := 93) rfl)) rfl (by decide +kernel) (Nat.le_of_ble_eq_true rfl) (Nat.le_of_ble_eq_true rfl) rfl (by decide) (lk_World_up hγ this v5 _ M h) (fun _ _ => Qi_r) (fun v M14 hp => Qi_k (R := fun st => E γ k_World_changesFinal 2 125 [some (vr (some (5, this))), some (vi v1), some (vi v2), some (vi v3), some (vi v4), some (vi v5), none] st M14 (Qi Q)) hp (fun r15 h => ?_))
  refine E_blk (lv' := [some (vr (some (5, this))), some (vi v1), some (vi v2), some (vi v3), some (vi v4), some (vi r15), none]) (st' := []) (M1 := M14) (pc' := 127) (tb_World hγ) [.istore 5] (by decide +kernel) rfl rfl trivial ?_
  refine E_goto (off := -60) (tgt := 67) (by decide +kernel) (by decide) ?_
  refine E_mask [true, true, true, true, true, true, false] rfl ?_
  exact hk67 v1 v2 v3 v4 r15 M14 h
set_option maxRecDepth 4096 in
theorem lk_World_changesFinal_L67 {γ : Gm} (hγ : Gk γ) (this : Nat) (Q : Int32 → Mem → Prop) (k7 : Int32 → Int32 → Int32 → Mem → Prop) (hk7 : ∀ (v1 : Int32) (v2 : Int32) (v3 : Int32) (M : Mem), k7 v1 v2 v3 M → E γ k_World_changesFinal 2 7 [some (vr (some (5, this))), some (vi v1), some (vi v2), some (vi v3), none, none, none] [] M (Qi Q)) : ∀ (n : Nat) (v1 : Int32) (v2 : Int32) (v3 : Int32) (v4 : Int32) (v5 : Int32) (M : Mem), w_World_changesFinal_L67 this Q k7 n v1 v2 v3 v4 v5 M → E γ k_World_changesFinal 2 67 [some (vr (some (5, this))), some (vi v1), some (vi v2), some (vi v3), some (vi v4), some (vi v5), none] [] M (Qi Q) := by
  intro n
  induction n with
  | zero => intro v1 v2 v3 v4 v5 M h; exact h.elim
  | succ n ih =>
    intro v1 v2 v3 v4 v5 M h
    unfold w_World_changesFinal_L67 at h
    refine E_blk (lv' := [some (vr (some (5, this))), some (vi v1), some (vi v2), some (vi v3), some (vi v4), some (vi v5), none]) (st' := [vi v5]) (M1 := M) (pc' := 69) (tb_World hγ) [.iload 5] (by decide +kernel) rfl rfl trivial ?_
    refine E_if_le (off := 61) (tgt := 130) (by decide +kernel) (by decide) (fun b7 => ?_) (fun b7 => ?_)
    · rw [if_pos b7] at h
      refine E_mask [true, true, true, true, false, false, false] rfl ?_
      exact lk_World_changesFinal_j130 hγ this Q k7 hk7 v1 v2 v3 M h
    · rw [if_neg b7] at h
      refine E_blk (lv' := [some (vr (some (5, this))), some (vi v1), some (vi v2), some (vi v3), some (vi v4), some (vi v5), none]) (st' := [vi v4]) (M1 := M) (pc' := 74) (tb_World hγ) [.iload 4] (by decide +kernel) rfl rfl trivial ?_
      refine E_if_eq (off := 56) (tgt := 130) (by decide +kernel) (by decide) (fun b8 => ?_) (fun b8 => ?_)
      · rw [if_pos b8] at h
        refine E_mask [true, true, true, true, false, false, false] rfl ?_
        exact lk_World_changesFinal_j130 hγ this Q k7 hk7 v1 v2 v3 M h
      · rw [if_neg b8] at h
        obtain ⟨c9, c10, h⟩ := h
        refine E_blk (lv' := [some (vr (some (5, this))), some (vi v1), some (vi v2), some (vi v3), some (vi v4), some (vi v5), none]) (st' := [vi (mI M 59 this v3.toNatClampNeg), vi v3, vi (mI M 56 this v3.toNatClampNeg), vi v5, vr (some (5, this))]) (M1 := M) (pc' := 93) (tb_World hγ) [.aload_n 0, .iload 5, .aload_n 0, .getfield 90, .iload_n 3, .iaload, .iload_n 3, .aload_n 0, .getfield 102, .iload_n 3, .iaload] (by decide +kernel) rfl rfl ⟨c9, c10, trivial⟩ ?_
        refine E_callV (κ' := k_World_own) (As := [vi v5, vi (mI M 56 this v3.toNatClampNeg), vi v3, vi (mI M 59 this v3.toNatClampNeg)]) (st := []) mv_World_own (Or.inl (tbk_mem (j := 7) (k := 101) rfl)) rfl (by decide +kernel) (Nat.le_of_ble_eq_true rfl) (Nat.le_of_ble_eq_true rfl) rfl (by decide) (lk_World_own hγ this v5 (mI M 56 this v3.toNatClampNeg) v3 (mI M 59 this v3.toNatClampNeg) _ M h) (fun _ _ => Qi_r) (fun v M11 hp => Qi_k (R := fun st => E γ k_World_changesFinal 2 96 [some (vr (some (5, this))), some (vi v1), some (vi v2), some (vi v3), some (vi v4), some (vi v5), none] st M11 (Qi Q)) hp (fun r12 h => ?_))
        refine E_blk (lv' := [some (vr (some (5, this))), some (vi v1), some (vi v2), some (vi v3), some (vi v4), some (vi v5), some (vi r12)]) (st' := [vi r12]) (M1 := M11) (pc' := 100) (tb_World hγ) [.istore 6, .iload 6] (by decide +kernel) rfl rfl trivial ?_
        refine E_if_lt (off := 19) (tgt := 119) (by decide +kernel) (by decide) (fun b13 => ?_) (fun b13 => ?_)
        · rw [if_pos b13] at h
          refine E_mask [true, true, true, true, true, true, false] rfl ?_
          exact lk_World_changesFinal_j119 hγ this Q k7 (w_World_changesFinal_L67 this Q k7 n) hk7 ih v1 v2 v3 v4 v5 M11 h
        · rw [if_neg b13] at h
          obtain ⟨c16, h⟩ := h
          refine E_blk (lv' := [some (vr (some (5, this))), some (vi v1), some (vi v2), some (vi v3), some (vi v4), some (vi v5), some (vi r12)]) (st' := [vi (2 : Int32), vi ((mI M11 57 this r12.toNatClampNeg) &&& (7 : Int32))]) (M1 := M11) (pc' := 114) (tb_World hγ) [.aload_n 0, .getfield 93, .iload 6, .iaload, .bipush 7, .iand, .iconst 2] (by decide +kernel) rfl rfl ⟨c16, trivial⟩ ?_
          refine E_icmp_ne (off := 5) (tgt := 119) (by decide +kernel) (by decide) (fun b17 => ?_) (fun b17 => ?_)
          · rw [if_pos b17] at h
            refine E_blk (lv' := [some (vr (some (5, this))), some (vi v1), some (vi v2), some (vi v3), some (vi v4), some (vi v5), some (vi r12)]) (st' := [vi (1 : Int32)]) (M1 := M11) (pc' := 118) (tb_World hγ) [.iconst 1] (by decide +kernel) rfl rfl trivial ?_
            exact E_zret rfl (Or.inr rfl) (by decide +kernel) h
          · rw [if_neg b17] at h
            refine E_mask [true, true, true, true, true, true, false] rfl ?_
            exact lk_World_changesFinal_j119 hγ this Q k7 (w_World_changesFinal_L67 this Q k7 n) hk7 ih v1 v2 v3 v4 v5 M11 h
set_option maxRecDepth 4096 in
theorem lk_World_changesFinal_j62 {γ : Gm} (hγ : Gk γ) (this : Nat) (Q : Int32 → Mem → Prop) (k7 : Int32 → Int32 → Int32 → Mem → Prop) (hk7 : ∀ (v1 : Int32) (v2 : Int32) (v3 : Int32) (M : Mem), k7 v1 v2 v3 M → E γ k_World_changesFinal 2 7 [some (vr (some (5, this))), some (vi v1), some (vi v2), some (vi v3), none, none, none] [] M (Qi Q)) (v1 : Int32) (v2 : Int32) (v3 : Int32) (s0 : Int32) (M : Mem) (h : w_World_changesFinal_j62 this Q k7 v1 v2 v3 s0 M) : E γ k_World_changesFinal 2 62 [some (vr (some (5, this))), some (vi v1), some (vi v2), some (vi v3), none, none, none] [vi s0] M (Qi Q) := by
  unfold w_World_changesFinal_j62 at h
  refine E_blk (lv' := [some (vr (some (5, this))), some (vi v1), some (vi v2), some (vi v3), some (vi s0), some (vi v2), none]) (st' := []) (M1 := M) (pc' := 67) (tb_World hγ) [.istore 4, .iload_n 2, .istore 5] (by decide +kernel) rfl rfl trivial ?_
  obtain ⟨n18, h⟩ := h
  refine E_mask [true, true, true, true, true, true, false] rfl ?_
  exact lk_World_changesFinal_L67 hγ this Q k7 hk7 n18 v1 v2 v3 s0 v2 M h
set_option maxRecDepth 4096 in
theorem lk_World_changesFinal_j61 {γ : Gm} (hγ : Gk γ) (this : Nat) (Q : Int32 → Mem → Prop) (k7 : Int32 → Int32 → Int32 → Mem → Prop) (hk7 : ∀ (v1 : Int32) (v2 : Int32) (v3 : Int32) (M : Mem), k7 v1 v2 v3 M → E γ k_World_changesFinal 2 7 [some (vr (some (5, this))), some (vi v1), some (vi v2), some (vi v3), none, none, none] [] M (Qi Q)) (v1 : Int32) (v2 : Int32) (v3 : Int32) (M : Mem) (h : w_World_changesFinal_j61 this Q k7 v1 v2 v3 M) : E γ k_World_changesFinal 2 61 [some (vr (some (5, this))), some (vi v1), some (vi v2), some (vi v3), none, none, none] [] M (Qi Q) := by
  unfold w_World_changesFinal_j61 at h
  refine E_blk (lv' := [some (vr (some (5, this))), some (vi v1), some (vi v2), some (vi v3), none, none, none]) (st' := [vi (0 : Int32)]) (M1 := M) (pc' := 62) (tb_World hγ) [.iconst 0] (by decide +kernel) rfl rfl trivial ?_
  refine E_mask [true, true, true, true, false, false, false] rfl ?_
  exact lk_World_changesFinal_j62 hγ this Q k7 hk7 v1 v2 v3 (0 : Int32) M h
set_option maxRecDepth 4096 in
theorem lk_World_changesFinal_L7 {γ : Gm} (hγ : Gk γ) (this : Nat) (Q : Int32 → Mem → Prop) : ∀ (n : Nat) (v1 : Int32) (v2 : Int32) (v3 : Int32) (M : Mem), w_World_changesFinal_L7 this Q n v1 v2 v3 M → E γ k_World_changesFinal 2 7 [some (vr (some (5, this))), some (vi v1), some (vi v2), some (vi v3), none, none, none] [] M (Qi Q) := by
  intro n
  induction n with
  | zero => intro v1 v2 v3 M h; exact h.elim
  | succ n ih =>
    intro v1 v2 v3 M h
    unfold w_World_changesFinal_L7 at h
    obtain ⟨c2, c3, h⟩ := h
    refine E_blk (lv' := [some (vr (some (5, this))), some (vi v1), some (vi v2), some (vi v3), none, none, none]) (st' := [vi ((mI M 43 this v1.toNatClampNeg) + (mI M 44 this v1.toNatClampNeg)), vi v3]) (M1 := M) (pc' := 21) (tb_World hγ) [.iload_n 3, .aload_n 0, .getfield 41, .iload_n 1, .iaload, .aload_n 0, .getfield 44, .iload_n 1, .iaload, .iadd] (by decide +kernel) rfl rfl ⟨c2, c3, trivial⟩ ?_
    refine E_icmp_ge (off := 115) (tgt := 136) (by decide +kernel) (by decide) (fun b4 => ?_) (fun b4 => ?_)
    · rw [if_pos b4] at h
      refine E_blk (lv' := [some (vr (some (5, this))), some (vi v1), some (vi v2), some (vi v3), none, none, none]) (st' := [vi (0 : Int32)]) (M1 := M) (pc' := 137) (tb_World hγ) [.iconst 0] (by decide +kernel) rfl rfl trivial ?_
      exact E_zret rfl (Or.inl rfl) (by decide +kernel) h
    · rw [if_neg b4] at h
      obtain ⟨c5, h⟩ := h
      refine E_blk (lv' := [some (vr (some (5, this))), some (vi v1), some (vi v2), some (vi v3), none, none, none]) (st' := [vi (79 : Int32), vi (mI M 56 this v3.toNatClampNeg)]) (M1 := M) (pc' := 32) (tb_World hγ) [.aload_n 0, .getfield 90, .iload_n 3, .iaload, .bipush 79] (by decide +kernel) rfl rfl ⟨c5, trivial⟩ ?_
      refine E_icmp_eq (off := 29) (tgt := 61) (by decide +kernel) (by decide) (fun b6 => ?_) (fun b6 => ?_)
      · rw [if_pos b6] at h
        refine E_mask [true, true, true, true, false, false, false] rfl ?_
        exact lk_World_changesFinal_j61 hγ this Q (w_World_changesFinal_L7 this Q n) ih v1 v2 v3 M h
      · rw [if_neg b6] at h
        obtain ⟨c19, h⟩ := h
        refine E_blk (lv' := [some (vr (some (5, this))), some (vi v1), some (vi v2), some (vi v3), none, none, none]) (st' := [vi (80 : Int32), vi (mI M 56 this v3.toNatClampNeg)]) (M1 := M) (pc' := 43) (tb_World hγ) [.aload_n 0, .getfield 90, .iload_n 3, .iaload, .bipush 80] (by decide +kernel) rfl rfl ⟨c19, trivial⟩ ?_
        refine E_icmp_eq (off := 18) (tgt := 61) (by decide +kernel) (by decide) (fun b20 => ?_) (fun b20 => ?_)
        · rw [if_pos b20] at h
          refine E_mask [true, true, true, true, false, false, false] rfl ?_
          exact lk_World_changesFinal_j61 hγ this Q (w_World_changesFinal_L7 this Q n) ih v1 v2 v3 M h
        · rw [if_neg b20] at h
          obtain ⟨c21, h⟩ := h
          refine E_blk (lv' := [some (vr (some (5, this))), some (vi v1), some (vi v2), some (vi v3), none, none, none]) (st' := [vi ((mI M 57 this v3.toNatClampNeg) &&& (5 : Int32))]) (M1 := M) (pc' := 54) (tb_World hγ) [.aload_n 0, .getfield 93, .iload_n 3, .iaload, .iconst 5, .iand] (by decide +kernel) rfl rfl ⟨c21, trivial⟩ ?_
          refine E_if_ne (off := 7) (tgt := 61) (by decide +kernel) (by decide) (fun b22 => ?_) (fun b22 => ?_)
          · rw [if_pos b22] at h
            refine E_blk (lv' := [some (vr (some (5, this))), some (vi v1), some (vi v2), some (vi v3), none, none, none]) (st' := [vi (1 : Int32)]) (M1 := M) (pc' := 58) (tb_World hγ) [.iconst 1] (by decide +kernel) rfl rfl trivial ?_
            refine E_goto (off := 4) (tgt := 62) (by decide +kernel) (by decide) ?_
            refine E_mask [true, true, true, true, false, false, false] rfl ?_
            exact lk_World_changesFinal_j62 hγ this Q (w_World_changesFinal_L7 this Q n) ih v1 v2 v3 (1 : Int32) M h
          · rw [if_neg b22] at h
            refine E_mask [true, true, true, true, false, false, false] rfl ?_
            exact lk_World_changesFinal_j61 hγ this Q (w_World_changesFinal_L7 this Q n) ih v1 v2 v3 M h
set_option maxRecDepth 4096 in
theorem lk_World_changesFinal {γ : Gm} (hγ : Gk γ) (this : Nat) (a1 : Int32) (a2 : Int32) (Q : Int32 → Mem → Prop) (M : Mem) (h : w_World_changesFinal this a1 a2 Q M) : E γ k_World_changesFinal 2 0 [some (vr (some (5, this))), some (vi a1), some (vi a2), none, none, none, none] [] M (Qi Q) := by
  unfold w_World_changesFinal at h
  obtain ⟨c1, h⟩ := h
  refine E_blk (lv' := [some (vr (some (5, this))), some (vi a1), some (vi a2), some (vi (mI M 43 this a1.toNatClampNeg)), none, none, none]) (st' := []) (M1 := M) (pc' := 7) (tb_World hγ) [.aload_n 0, .getfield 41, .iload_n 1, .iaload, .istore_n 3] (by decide +kernel) rfl rfl ⟨c1, trivial⟩ ?_
  obtain ⟨n23, h⟩ := h
  refine E_mask [true, true, true, true, false, false, false] rfl ?_
  exact lk_World_changesFinal_L7 hγ this Q n23 a1 a2 (mI M 43 this a1.toNatClampNeg) M h
def w_World_lay_j71 (this : Nat) (Q : Mem → Prop) (k27 : Int32 → Int32 → Int32 → Mem → Prop) (v1 : Int32) (v3 : Int32) (v4 : Int32) (M : Mem) : Prop :=
  k27 v1 v3 (v4 + (1 : Int32)) M
def w_World_lay_L27 (this : Nat) (Q : Mem → Prop) : Nat → Int32 → Int32 → Int32 → Mem → Prop
  | 0, _, _, _, _ => False
  | n + 1, v1, v3, v4, M => vp_in v1 (mL M 41 this) ∧ vp_in v1 (mL M 42 this) ∧ if ((mI M 41 this v1.toNatClampNeg) + (mI M 42 this v1.toNatClampNeg)) ≤ v4 then (vp_in v1 (mL M 48 this) ∧ Q (sI M 48 this v1.toNatClampNeg v3)) else (vp_in v4 (mL M 51 this) ∧ if ((mI M 51 this v4.toNatClampNeg) &&& (1 : Int32)) = 0 then (vp_in v4 (mL M 53 this) ∧ w_World_lay_j71 this Q (w_World_lay_L27 this Q n) v1 (v3 + (1 : Int32)) v4 (sI M 53 this v4.toNatClampNeg v3)) else (w_World_lay_j71 this Q (w_World_lay_L27 this Q n) v1 v3 v4 M))
def w_World_lay (this : Nat) (a1 : Int32) (a2 : Int32) (Q : Mem → Prop) (M : Mem) : Prop :=
  vp_in a2 (mL M 48 this) ∧ vp_in a1 (mL M 47 this) ∧ vp_in a1 (mL (sI M 47 this a1.toNatClampNeg (mI M 48 this a2.toNatClampNeg)) 47 this) ∧ ∃ x4 : Int32, x4 = (mI (sI M 47 this a1.toNatClampNeg (mI M 48 this a2.toNatClampNeg)) 47 this a1.toNatClampNeg) ∧ vp_in a1 (mL (sI M 47 this a1.toNatClampNeg (mI M 48 this a2.toNatClampNeg)) 41 this) ∧ ∃ x6 : Int32, x6 = (mI (sI M 47 this a1.toNatClampNeg (mI M 48 this a2.toNatClampNeg)) 41 this a1.toNatClampNeg) ∧ ∃ n14 : Nat, w_World_lay_L27 this Q n14 a1 x4 x6 (sI M 47 this a1.toNatClampNeg (mI M 48 this a2.toNatClampNeg))
set_option maxRecDepth 4096 in
theorem lk_World_lay_j71 {γ : Gm} (hγ : Gk γ) (this : Nat) (Q : Mem → Prop) (k27 : Int32 → Int32 → Int32 → Mem → Prop) (hk27 : ∀ (v1 : Int32) (v3 : Int32) (v4 : Int32) (M : Mem), k27 v1 v3 v4 M → E γ k_World_lay 0 27 [some (vr (some (5, this))), some (vi v1), none, some (vi v3), some (vi v4)] [] M (Qv Q)) (v1 : Int32) (v3 : Int32) (v4 : Int32) (M : Mem) (h : w_World_lay_j71 this Q k27 v1 v3 v4 M) : E γ k_World_lay 0 71 [some (vr (some (5, this))), some (vi v1), none, some (vi v3), some (vi v4)] [] M (Qv Q) := by
  unfold w_World_lay_j71 at h
  refine E_blk (lv' := [some (vr (some (5, this))), some (vi v1), none, some (vi v3), some (vi (v4 + (1 : Int32)))]) (st' := []) (M1 := M) (pc' := 74) (tb_World hγ) [.iinc 4 1] (by decide +kernel) rfl rfl trivial ?_
  refine E_goto (off := -47) (tgt := 27) (by decide +kernel) (by decide) ?_
  refine E_mask [true, true, false, true, true] rfl ?_
  exact hk27 v1 v3 (v4 + (1 : Int32)) M h
set_option maxRecDepth 4096 in
theorem lk_World_lay_L27 {γ : Gm} (hγ : Gk γ) (this : Nat) (Q : Mem → Prop) : ∀ (n : Nat) (v1 : Int32) (v3 : Int32) (v4 : Int32) (M : Mem), w_World_lay_L27 this Q n v1 v3 v4 M → E γ k_World_lay 0 27 [some (vr (some (5, this))), some (vi v1), none, some (vi v3), some (vi v4)] [] M (Qv Q) := by
  intro n
  induction n with
  | zero => intro v1 v3 v4 M h; exact h.elim
  | succ n ih =>
    intro v1 v3 v4 M h
    unfold w_World_lay_L27 at h
    obtain ⟨c7, c8, h⟩ := h
    refine E_blk (lv' := [some (vr (some (5, this))), some (vi v1), none, some (vi v3), some (vi v4)]) (st' := [vi ((mI M 41 this v1.toNatClampNeg) + (mI M 42 this v1.toNatClampNeg)), vi v4]) (M1 := M) (pc' := 42) (tb_World hγ) [.iload 4, .aload_n 0, .getfield 35, .iload_n 1, .iaload, .aload_n 0, .getfield 38, .iload_n 1, .iaload, .iadd] (by decide +kernel) rfl rfl ⟨c7, c8, trivial⟩ ?_
    refine E_icmp_ge (off := 35) (tgt := 77) (by decide +kernel) (by decide) (fun b9 => ?_) (fun b9 => ?_)
    · rw [if_pos b9] at h
      obtain ⟨c10, h⟩ := h
      refine E_blk (lv' := [some (vr (some (5, this))), some (vi v1), none, some (vi v3), some (vi v4)]) (st' := []) (M1 := (sI M 48 this v1.toNatClampNeg v3)) (pc' := 84) (tb_World hγ) [.aload_n 0, .getfield 56, .iload_n 1, .iload_n 3, .iastore] (by decide +kernel) rfl rfl ⟨c10, trivial⟩ ?_
      exact E_vret rfl (by decide +kernel) h
    · rw [if_neg b9] at h
      obtain ⟨c11, h⟩ := h
      refine E_blk (lv' := [some (vr (some (5, this))), some (vi v1), none, some (vi v3), some (vi v4)]) (st' := [vi ((mI M 51 this v4.toNatClampNeg) &&& (1 : Int32))]) (M1 := M) (pc' := 54) (tb_World hγ) [.aload_n 0, .getfield 68, .iload 4, .iaload, .iconst 1, .iand] (by decide +kernel) rfl rfl ⟨c11, trivial⟩ ?_
      refine E_if_eq (off := 6) (tgt := 60) (by decide +kernel) (by decide) (fun b12 => ?_) (fun b12 => ?_)
      · rw [if_pos b12] at h
        obtain ⟨c13, h⟩ := h
        refine E_blk (lv' := [some (vr (some (5, this))), some (vi v1), none, some (vi (v3 + (1 : Int32))), some (vi v4)]) (st' := []) (M1 := (sI M 53 this v4.toNatClampNeg v3)) (pc' := 71) (tb_World hγ) [.aload_n 0, .getfield 78, .iload 4, .iload_n 3, .iastore, .iinc 3 1] (by decide +kernel) rfl rfl ⟨c13, trivial⟩ ?_
        refine E_mask [true, true, false, true, true] rfl ?_
        exact lk_World_lay_j71 hγ this Q (w_World_lay_L27 this Q n) ih v1 (v3 + (1 : Int32)) v4 (sI M 53 this v4.toNatClampNeg v3) h
      · rw [if_neg b12] at h
        refine E_goto (off := 14) (tgt := 71) (by decide +kernel) (by decide) ?_
        refine E_mask [true, true, false, true, true] rfl ?_
        exact lk_World_lay_j71 hγ this Q (w_World_lay_L27 this Q n) ih v1 v3 v4 M h
set_option maxRecDepth 4096 in
theorem lk_World_lay {γ : Gm} (hγ : Gk γ) (this : Nat) (a1 : Int32) (a2 : Int32) (Q : Mem → Prop) (M : Mem) (h : w_World_lay this a1 a2 Q M) : E γ k_World_lay 0 0 [some (vr (some (5, this))), some (vi a1), some (vi a2), none, none] [] M (Qv Q) := by
  unfold w_World_lay at h
  obtain ⟨c1, c2, c3, h⟩ := h
  refine E_blk (lv' := [some (vr (some (5, this))), some (vi a1), some (vi a2), some (vi (mI (sI M 47 this a1.toNatClampNeg (mI M 48 this a2.toNatClampNeg)) 47 this a1.toNatClampNeg)), none]) (st' := []) (M1 := (sI M 47 this a1.toNatClampNeg (mI M 48 this a2.toNatClampNeg))) (pc' := 19) (tb_World hγ) [.aload_n 0, .getfield 53, .iload_n 1, .aload_n 0, .getfield 56, .iload_n 2, .iaload, .iastore, .aload_n 0, .getfield 53, .iload_n 1, .iaload, .istore_n 3] (by decide +kernel) rfl rfl ⟨c1, c2, c3, trivial⟩ ?_
  obtain ⟨x4, ex4, h⟩ := h
  rw [← ex4]
  obtain ⟨c5, h⟩ := h
  refine E_blk (lv' := [some (vr (some (5, this))), some (vi a1), some (vi a2), some (vi x4), some (vi (mI (sI M 47 this a1.toNatClampNeg (mI M 48 this a2.toNatClampNeg)) 41 this a1.toNatClampNeg))]) (st' := []) (M1 := (sI M 47 this a1.toNatClampNeg (mI M 48 this a2.toNatClampNeg))) (pc' := 27) (tb_World hγ) [.aload_n 0, .getfield 35, .iload_n 1, .iaload, .istore 4] (by decide +kernel) rfl rfl ⟨c5, trivial⟩ ?_
  obtain ⟨x6, ex6, h⟩ := h
  rw [← ex6]
  obtain ⟨n14, h⟩ := h
  refine E_mask [true, true, false, true, true] rfl ?_
  exact lk_World_lay_L27 hγ this Q n14 a1 x4 x6 (sI M 47 this a1.toNatClampNeg (mI M 48 this a2.toNatClampNeg)) h
def w_Checker_isMaker (this : Nat) (Q : Int32 → Mem → Prop) (M : Mem) : Prop :=
  ∃ i1, (mR M 4 this 4) = some (5, i1) ∧ vp_in (mI M 4 this 6) (mL M 56 i1) ∧ if (mI M 56 i1 (mI M 4 this 6).toNatClampNeg) = (79 : Int32) then (Q (1 : Int32) M) else (Q (0 : Int32) M)
set_option maxRecDepth 4096 in
theorem lk_Checker_isMaker {γ : Gm} (hγ : Gk γ) (this : Nat) (Q : Int32 → Mem → Prop) (M : Mem) (h : w_Checker_isMaker this Q M) : E γ k_Checker_isMaker 0 0 [some (vr (some (4, this)))] [] M (Qi Q) := by
  unfold w_Checker_isMaker at h
  refine E_blk (lv' := [some (vr (some (4, this)))]) (st' := [vr (mR M 4 this 4)]) (M1 := M) (pc' := 4) (tb_Checker hγ) [.aload_n 0, .getfield 35] (by decide +kernel) rfl rfl trivial ?_
  obtain ⟨i1, ei1, h⟩ := h
  rw [ei1]
  obtain ⟨c2, h⟩ := h
  refine E_blk (lv' := [some (vr (some (4, this)))]) (st' := [vi (79 : Int32), vi (mI M 56 i1 (mI M 4 this 6).toNatClampNeg)]) (M1 := M) (pc' := 14) (tb_Checker hγ) [.getfield 75, .aload_n 0, .getfield 54, .iaload, .bipush 79] (by decide +kernel) rfl rfl ⟨c2, trivial⟩ ?_
  refine E_icmp_ne (off := 7) (tgt := 21) (by decide +kernel) (by decide) (fun b3 => ?_) (fun b3 => ?_)
  · rw [if_pos b3] at h
    refine E_blk (lv' := [some (vr (some (4, this)))]) (st' := [vi (1 : Int32)]) (M1 := M) (pc' := 18) (tb_Checker hγ) [.iconst 1] (by decide +kernel) rfl rfl trivial ?_
    refine E_goto (off := 4) (tgt := 22) (by decide +kernel) (by decide) ?_
    exact E_zret rfl (Or.inr rfl) (by decide +kernel) h
  · rw [if_neg b3] at h
    refine E_blk (lv' := [some (vr (some (4, this)))]) (st' := [vi (0 : Int32)]) (M1 := M) (pc' := 22) (tb_Checker hγ) [.iconst 0] (by decide +kernel) rfl rfl trivial ?_
    exact E_zret rfl (Or.inl rfl) (by decide +kernel) h
def w_Checker_classKind (this : Nat) (Q : Int32 → Mem → Prop) (M : Mem) : Prop :=
  ∃ i1, (mR M 4 this 4) = some (5, i1) ∧ vp_in (mI M 4 this 5) (mL M 36 i1) ∧ w_Works_kindOf (mI M 36 i1 (mI M 4 this 5).toNatClampNeg) (fun r4 M3 => Q r4 M3) M
set_option maxRecDepth 4096 in
theorem lk_Checker_classKind {γ : Gm} (hγ : Gk γ) (this : Nat) (Q : Int32 → Mem → Prop) (M : Mem) (h : w_Checker_classKind this Q M) : E γ k_Checker_classKind 1 0 [some (vr (some (4, this)))] [] M (Qi Q) := by
  unfold w_Checker_classKind at h
  refine E_blk (lv' := [some (vr (some (4, this)))]) (st' := [vr (mR M 4 this 4)]) (M1 := M) (pc' := 4) (tb_Checker hγ) [.aload_n 0, .getfield 35] (by decide +kernel) rfl rfl trivial ?_
  obtain ⟨i1, ei1, h⟩ := h
  rw [ei1]
  obtain ⟨c2, h⟩ := h
  refine E_blk (lv' := [some (vr (some (4, this)))]) (st' := [vi (mI M 36 i1 (mI M 4 this 5).toNatClampNeg)]) (M1 := M) (pc' := 12) (tb_Checker hγ) [.getfield 78, .aload_n 0, .getfield 39, .iaload] (by decide +kernel) rfl rfl ⟨c2, trivial⟩ ?_
  refine E_callS (κ' := k_Works_kindOf) (As := [vi (mI M 36 i1 (mI M 4 this 5).toNatClampNeg)]) (st := []) ms_Works_kindOf (Or.inr ⟨"ClassWorks", (tbk_mem (j := 7) (k := 130) rfl)⟩) rfl (by decide +kernel) (Nat.le_of_ble_eq_true rfl) (Nat.le_of_ble_eq_true rfl) rfl (by decide) (lk_Works_kindOf hγ (mI M 36 i1 (mI M 4 this 5).toNatClampNeg) _ M h) (fun _ _ => Qi_r) (fun v M3 hp => Qi_k (R := fun st => E γ k_Checker_classKind 1 15 [some (vr (some (4, this)))] st M3 (Qi Q)) hp (fun r4 h => ?_))
  exact E_iret rfl (by decide +kernel) h
def w_Checker_begin_L106 (this : Nat) (Q : Mem → Prop) : Nat → Int32 → Int32 → Mem → Prop
  | 0, _, _, _ => False
  | n + 1, v1, v2, M => if v1 ≤ v2 then (((1 : Int32) = 0 ∨ (1 : Int32) = 1) ∧ Q (sI (sI M 4 this 2 (0 : Int32)) 4 this 3 (1 : Int32))) else (vp_in v2 (mL M 31 this) ∧ (w_Checker_begin_L106 this Q n) v1 (v2 + (1 : Int32)) (sI M 31 this v2.toNatClampNeg (-2 : Int32)))
def w_Checker_begin_L58 (this : Nat) (Q : Mem → Prop) : Nat → Int32 → Int32 → Int32 → Mem → Prop
  | 0, _, _, _, _ => False
  | n + 1, v1, v2, v3, M => ∃ i12, (mR M 4 this 4) = some (5, i12) ∧ vp_in (mI M 4 this 6) (mL M 58 i12) ∧ if (mI M 58 i12 (mI M 4 this 6).toNatClampNeg) ≤ v3 then (∃ n18 : Nat, w_Checker_begin_L106 this Q n18 v1 v2 M) else (∃ i19, (mR M 4 this 4) = some (5, i19) ∧ vp_in (((6 : Int32) * (mI M 4 this 6)) + v3) (mL M 211 (2 * i19 + 1)) ∧ vp_in v2 (mL M 31 this) ∧ ∃ M22, M22 = (sI M 31 this v2.toNatClampNeg (mI M 211 (2 * i19 + 1) (((6 : Int32) * (mI M 4 this 6)) + v3).toNatClampNeg)) ∧ (w_Checker_begin_L58 this Q n) v1 (v2 + (1 : Int32)) (v3 + (1 : Int32)) M22)
def w_Checker_begin_j56 (this : Nat) (Q : Mem → Prop) (v1 : Int32) (v2 : Int32) (M : Mem) : Prop :=
  ∃ n23 : Nat, w_Checker_begin_L58 this Q n23 v1 v2 (0 : Int32) M
def w_Checker_begin_j53 (this : Nat) (Q : Mem → Prop) (v1 : Int32) (s0 : Int32) (s1 : Int32) (M : Mem) : Prop :=
  vp_in s1 (mL M 31 this) ∧ w_Checker_begin_j56 this Q v1 (1 : Int32) (sI M 31 this s1.toNatClampNeg s0)
def w_Checker_begin (this : Nat) (Q : Mem → Prop) (M : Mem) : Prop :=
  ∃ i1, (mR M 4 this 4) = some (5, i1) ∧ vp_in (mI M 4 this 6) (mL M 61 i1) ∧ ∃ i3, (mR M 4 this 4) = some (5, i3) ∧ vp_in (mI M 4 this 6) (mL M 57 i3) ∧ if ((mI M 57 i3 (mI M 4 this 6).toNatClampNeg) &&& (1 : Int32)) = 0 then (w_Checker_isMaker this (fun r7 M6 => if r7 = 0 then (w_Checker_classKind this (fun r10 M9 => w_Checker_begin_j53 this Q (mI M 61 i1 (mI M 4 this 6).toNatClampNeg) r10 (0 : Int32) M9) M6) else (w_Checker_begin_j53 this Q (mI M 61 i1 (mI M 4 this 6).toNatClampNeg) (-3 : Int32) (0 : Int32) M6)) M) else (w_Checker_begin_j56 this Q (mI M 61 i1 (mI M 4 this 6).toNatClampNeg) (0 : Int32) M)
set_option maxRecDepth 4096 in
theorem lk_Checker_begin_L106 {γ : Gm} (hγ : Gk γ) (this : Nat) (Q : Mem → Prop) : ∀ (n : Nat) (v1 : Int32) (v2 : Int32) (M : Mem), w_Checker_begin_L106 this Q n v1 v2 M → E γ k_Checker_begin 2 106 [some (vr (some (4, this))), some (vi v1), some (vi v2), none] [] M (Qv Q) := by
  intro n
  induction n with
  | zero => intro v1 v2 M h; exact h.elim
  | succ n ih =>
    intro v1 v2 M h
    unfold w_Checker_begin_L106 at h
    refine E_blk (lv' := [some (vr (some (4, this))), some (vi v1), some (vi v2), none]) (st' := [vi v1, vi v2]) (M1 := M) (pc' := 108) (tb_Checker hγ) [.iload_n 2, .iload_n 1] (by decide +kernel) rfl rfl trivial ?_
    refine E_icmp_ge (off := 17) (tgt := 125) (by decide +kernel) (by decide) (fun b15 => ?_) (fun b15 => ?_)
    · rw [if_pos b15] at h
      obtain ⟨c16, h⟩ := h
      refine E_blk (lv' := [some (vr (some (4, this))), some (vi v1), some (vi v2), none]) (st' := []) (M1 := (sI (sI M 4 this 2 (0 : Int32)) 4 this 3 (1 : Int32))) (pc' := 135) (tb_Checker hγ) [.aload_n 0, .iconst 0, .putfield 102, .aload_n 0, .iconst 1, .putfield 105] (by decide +kernel) rfl rfl ⟨c16, trivial⟩ ?_
      exact E_vret rfl (by decide +kernel) h
    · rw [if_neg b15] at h
      obtain ⟨c17, h⟩ := h
      refine E_blk (lv' := [some (vr (some (4, this))), some (vi v1), some (vi (v2 + (1 : Int32))), none]) (st' := []) (M1 := (sI M 31 this v2.toNatClampNeg (-2 : Int32))) (pc' := 122) (tb_Checker hγ) [.aload_n 0, .getfield 15, .iload_n 2, .bipush (.negSucc 1), .iastore, .iinc 2 1] (by decide +kernel) rfl rfl ⟨c17, trivial⟩ ?_
      refine E_goto (off := -16) (tgt := 106) (by decide +kernel) (by decide) ?_
      refine E_mask [true, true, true, false] rfl ?_
      exact ih v1 (v2 + (1 : Int32)) (sI M 31 this v2.toNatClampNeg (-2 : Int32)) h
set_option maxRecDepth 4096 in
theorem lk_Checker_begin_L58 {γ : Gm} (hγ : Gk γ) (this : Nat) (Q : Mem → Prop) : ∀ (n : Nat) (v1 : Int32) (v2 : Int32) (v3 : Int32) (M : Mem), w_Checker_begin_L58 this Q n v1 v2 v3 M → E γ k_Checker_begin 2 58 [some (vr (some (4, this))), some (vi v1), some (vi v2), some (vi v3)] [] M (Qv Q) := by
  intro n
  induction n with
  | zero => intro v1 v2 v3 M h; exact h.elim
  | succ n ih =>
    intro v1 v2 v3 M h
    unfold w_Checker_begin_L58 at h
    refine E_blk (lv' := [some (vr (some (4, this))), some (vi v1), some (vi v2), some (vi v3)]) (st' := [vr (mR M 4 this 4), vi v3]) (M1 := M) (pc' := 63) (tb_Checker hγ) [.iload_n 3, .aload_n 0, .getfield 35] (by decide +kernel) rfl rfl trivial ?_
    obtain ⟨i12, ei12, h⟩ := h
    rw [ei12]
    obtain ⟨c13, h⟩ := h
    refine E_blk (lv' := [some (vr (some (4, this))), some (vi v1), some (vi v2), some (vi v3)]) (st' := [vi (mI M 58 i12 (mI M 4 this 6).toNatClampNeg), vi v3]) (M1 := M) (pc' := 71) (tb_Checker hγ) [.getfield 96, .aload_n 0, .getfield 54, .iaload] (by decide +kernel) rfl rfl ⟨c13, trivial⟩ ?_
    refine E_icmp_ge (off := 35) (tgt := 106) (by decide +kernel) (by decide) (fun b14 => ?_) (fun b14 => ?_)
    · rw [if_pos b14] at h
      obtain ⟨n18, h⟩ := h
      refine E_mask [true, true, true, false] rfl ?_
      exact lk_Checker_begin_L106 hγ this Q n18 v1 v2 M h
    · rw [if_neg b14] at h
      refine E_blk (lv' := [some (vr (some (4, this))), some (vi v1), some (vi v2), some (vi v3)]) (st' := [vr (mR M 4 this 4), vi v2, vr (some (31, this))]) (M1 := M) (pc' := 83) (tb_Checker hγ) [.aload_n 0, .getfield 15, .iload_n 2, .aload_n 0, .getfield 35] (by decide +kernel) rfl rfl trivial ?_
      obtain ⟨i19, ei19, h⟩ := h
      rw [ei19]
      obtain ⟨c20, c21, h⟩ := h
      refine E_blk (lv' := [some (vr (some (4, this))), some (vi v1), some (vi v2), some (vi v3)]) (st' := []) (M1 := (sI M 31 this v2.toNatClampNeg (mI M 211 (2 * i19 + 1) (((6 : Int32) * (mI M 4 this 6)) + v3).toNatClampNeg))) (pc' := 97) (tb_Checker hγ) [.getfield 99, .bipush 6, .aload_n 0, .getfield 54, .imul, .iload_n 3, .iadd, .iaload, .iastore] (by decide +kernel) rfl rfl ⟨c20, c21, trivial⟩ ?_
      obtain ⟨M22, eM22, h⟩ := h
      rw [← eM22]
      refine E_blk (lv' := [some (vr (some (4, this))), some (vi v1), some (vi (v2 + (1 : Int32))), some (vi (v3 + (1 : Int32)))]) (st' := []) (M1 := M22) (pc' := 103) (tb_Checker hγ) [.iinc 2 1, .iinc 3 1] (by decide +kernel) rfl rfl trivial ?_
      refine E_goto (off := -45) (tgt := 58) (by decide +kernel) (by decide) ?_
      refine E_mask [true, true, true, true] rfl ?_
      exact ih v1 (v2 + (1 : Int32)) (v3 + (1 : Int32)) M22 h
set_option maxRecDepth 4096 in
theorem lk_Checker_begin_j56 {γ : Gm} (hγ : Gk γ) (this : Nat) (Q : Mem → Prop) (v1 : Int32) (v2 : Int32) (M : Mem) (h : w_Checker_begin_j56 this Q v1 v2 M) : E γ k_Checker_begin 2 56 [some (vr (some (4, this))), some (vi v1), some (vi v2), none] [] M (Qv Q) := by
  unfold w_Checker_begin_j56 at h
  refine E_blk (lv' := [some (vr (some (4, this))), some (vi v1), some (vi v2), some (vi (0 : Int32))]) (st' := []) (M1 := M) (pc' := 58) (tb_Checker hγ) [.iconst 0, .istore_n 3] (by decide +kernel) rfl rfl trivial ?_
  obtain ⟨n23, h⟩ := h
  refine E_mask [true, true, true, true] rfl ?_
  exact lk_Checker_begin_L58 hγ this Q n23 v1 v2 (0 : Int32) M h
set_option maxRecDepth 4096 in
theorem lk_Checker_begin_j53 {γ : Gm} (hγ : Gk γ) (this : Nat) (Q : Mem → Prop) (v1 : Int32) (s0 : Int32) (s1 : Int32) (M : Mem) (h : w_Checker_begin_j53 this Q v1 s0 s1 M) : E γ k_Checker_begin 2 53 [some (vr (some (4, this))), some (vi v1), none, none] [vi s0, vi s1, vr (some (31, this))] M (Qv Q) := by
  unfold w_Checker_begin_j53 at h
  obtain ⟨c11, h⟩ := h
  refine E_blk (lv' := [some (vr (some (4, this))), some (vi v1), some (vi (1 : Int32)), none]) (st' := []) (M1 := (sI M 31 this s1.toNatClampNeg s0)) (pc' := 56) (tb_Checker hγ) [.iastore, .iconst 1, .istore_n 2] (by decide +kernel) rfl rfl ⟨c11, trivial⟩ ?_
  refine E_mask [true, true, true, false] rfl ?_
  exact lk_Checker_begin_j56 hγ this Q v1 (1 : Int32) (sI M 31 this s1.toNatClampNeg s0) h
set_option maxRecDepth 4096 in
theorem lk_Checker_begin {γ : Gm} (hγ : Gk γ) (this : Nat) (Q : Mem → Prop) (M : Mem) (h : w_Checker_begin this Q M) : E γ k_Checker_begin 2 0 [some (vr (some (4, this))), none, none, none] [] M (Qv Q) := by
  unfold w_Checker_begin at h
  refine E_blk (lv' := [some (vr (some (4, this))), none, none, none]) (st' := [vr (mR M 4 this 4)]) (M1 := M) (pc' := 4) (tb_Checker hγ) [.aload_n 0, .getfield 35] (by decide +kernel) rfl rfl trivial ?_
  obtain ⟨i1, ei1, h⟩ := h
  rw [ei1]
  obtain ⟨c2, h⟩ := h
  refine E_blk (lv' := [some (vr (some (4, this))), some (vi (mI M 61 i1 (mI M 4 this 6).toNatClampNeg)), some (vi (0 : Int32)), none]) (st' := [vr (mR M 4 this 4)]) (M1 := M) (pc' := 19) (tb_Checker hγ) [.getfield 85, .aload_n 0, .getfield 54, .iaload, .istore_n 1, .iconst 0, .istore_n 2, .aload_n 0, .getfield 35] (by decide +kernel) rfl rfl ⟨c2, trivial⟩ ?_
  obtain ⟨i3, ei3, h⟩ := h
  rw [ei3]
  obtain ⟨c4, h⟩ := h
  refine E_blk (lv' := [some (vr (some (4, this))), some (vi (mI M 61 i1 (mI M 4 this 6).toNatClampNeg)), some (vi (0 : Int32)), none]) (st' := [vi ((mI M 57 i3 (mI M 4 this 6).toNatClampNeg) &&& (1 : Int32))]) (M1 := M) (pc' := 29) (tb_Checker hγ) [.getfield 51, .aload_n 0, .getfield 54, .iaload, .iconst 1, .iand] (by decide +kernel) rfl rfl ⟨c4, trivial⟩ ?_
  refine E_if_ne (off := 27) (tgt := 56) (by decide +kernel) (by decide) (fun b5 => ?_) (fun b5 => ?_)
  · rw [if_pos b5] at h
    refine E_blk (lv' := [some (vr (some (4, this))), some (vi (mI M 61 i1 (mI M 4 this 6).toNatClampNeg)), some (vi (0 : Int32)), none]) (st' := [vr (some (4, this)), vi (0 : Int32), vr (some (31, this))]) (M1 := M) (pc' := 38) (tb_Checker hγ) [.aload_n 0, .getfield 15, .iconst 0, .aload_n 0] (by decide +kernel) rfl rfl trivial ?_
    refine E_callV (κ' := k_Checker_isMaker) (As := []) (st := [vi (0 : Int32), vr (some (31, this))]) mv_Checker_isMaker (Or.inl (tbk_mem (j := 7) (k := 122) rfl)) rfl (by decide +kernel) (Nat.le_of_ble_eq_true rfl) (Nat.le_of_ble_eq_true rfl) rfl (by decide) (lk_Checker_isMaker hγ this _ M h) (fun _ _ => Qi_r) (fun v M6 hp => Qi_k (R := fun st => E γ k_Checker_begin 2 41 [some (vr (some (4, this))), some (vi (mI M 61 i1 (mI M 4 this 6).toNatClampNeg)), some (vi (0 : Int32)), none] st M6 (Qv Q)) hp (fun r7 h => ?_))
    refine E_if_eq (off := 8) (tgt := 49) (by decide +kernel) (by decide) (fun b8 => ?_) (fun b8 => ?_)
    · rw [if_pos b8] at h
      refine E_blk (lv' := [some (vr (some (4, this))), some (vi (mI M 61 i1 (mI M 4 this 6).toNatClampNeg)), some (vi (0 : Int32)), none]) (st' := [vr (some (4, this)), vi (0 : Int32), vr (some (31, this))]) (M1 := M6) (pc' := 50) (tb_Checker hγ) [.aload_n 0] (by decide +kernel) rfl rfl trivial ?_
      refine E_callV (κ' := k_Checker_classKind) (As := []) (st := [vi (0 : Int32), vr (some (31, this))]) mv_Checker_classKind (Or.inl (tbk_mem (j := 7) (k := 126) rfl)) rfl (by decide +kernel) (Nat.le_of_ble_eq_true rfl) (Nat.le_of_ble_eq_true rfl) rfl (by decide) (lk_Checker_classKind hγ this _ M6 h) (fun _ _ => Qi_r) (fun v M9 hp => Qi_k (R := fun st => E γ k_Checker_begin 2 53 [some (vr (some (4, this))), some (vi (mI M 61 i1 (mI M 4 this 6).toNatClampNeg)), some (vi (0 : Int32)), none] st M9 (Qv Q)) hp (fun r10 h => ?_))
      refine E_mask [true, true, false, false] rfl ?_
      exact lk_Checker_begin_j53 hγ this Q (mI M 61 i1 (mI M 4 this 6).toNatClampNeg) r10 (0 : Int32) M9 h
    · rw [if_neg b8] at h
      refine E_blk (lv' := [some (vr (some (4, this))), some (vi (mI M 61 i1 (mI M 4 this 6).toNatClampNeg)), some (vi (0 : Int32)), none]) (st' := [vi (-3 : Int32), vi (0 : Int32), vr (some (31, this))]) (M1 := M6) (pc' := 46) (tb_Checker hγ) [.bipush (.negSucc 2)] (by decide +kernel) rfl rfl trivial ?_
      refine E_goto (off := 7) (tgt := 53) (by decide +kernel) (by decide) ?_
      refine E_mask [true, true, false, false] rfl ?_
      exact lk_Checker_begin_j53 hγ this Q (mI M 61 i1 (mI M 4 this 6).toNatClampNeg) (-3 : Int32) (0 : Int32) M6 h
  · rw [if_neg b5] at h
    refine E_mask [true, true, true, false] rfl ?_
    exact lk_Checker_begin_j56 hγ this Q (mI M 61 i1 (mI M 4 this 6).toNatClampNeg) (0 : Int32) M h
def w_Checker_code (this : Nat) (Q : Int32 → Mem → Prop) (M : Mem) : Prop :=
  ∃ i1, (mR M 4 this 4) = some (5, i1) ∧ vp_in (mI M 4 this 6) (mL M 62 i1) ∧ Q ((mI M 62 i1 (mI M 4 this 6).toNatClampNeg) + (mI M 4 this 7)) M
set_option maxRecDepth 4096 in
theorem lk_Checker_code {γ : Gm} (hγ : Gk γ) (this : Nat) (Q : Int32 → Mem → Prop) (M : Mem) (h : w_Checker_code this Q M) : E γ k_Checker_code 0 0 [some (vr (some (4, this)))] [] M (Qi Q) := by
  unfold w_Checker_code at h
  refine E_blk (lv' := [some (vr (some (4, this)))]) (st' := [vr (mR M 4 this 4)]) (M1 := M) (pc' := 4) (tb_Checker hγ) [.aload_n 0, .getfield 35] (by decide +kernel) rfl rfl trivial ?_
  obtain ⟨i1, ei1, h⟩ := h
  rw [ei1]
  obtain ⟨c2, h⟩ := h
  refine E_blk (lv' := [some (vr (some (4, this)))]) (st' := [vi ((mI M 62 i1 (mI M 4 this 6).toNatClampNeg) + (mI M 4 this 7))]) (M1 := M) (pc' := 17) (tb_Checker hγ) [.getfield 118, .aload_n 0, .getfield 54, .iaload, .aload_n 0, .getfield 69, .iadd] (by decide +kernel) rfl rfl ⟨c2, trivial⟩ ?_
  exact E_iret rfl (by decide +kernel) h
def w_Checker_breaks (this : Nat) (a1 : Int32) (Q : Int32 → Mem → Prop) (M : Mem) : Prop :=
  if (mI M 4 this 8) = 0 then (Q (0 : Int32) (sI M 4 this 8 a1)) else (Q (0 : Int32) M)
set_option maxRecDepth 4096 in
theorem lk_Checker_breaks {γ : Gm} (hγ : Gk γ) (this : Nat) (a1 : Int32) (Q : Int32 → Mem → Prop) (M : Mem) (h : w_Checker_breaks this a1 Q M) : E γ k_Checker_breaks 0 0 [some (vr (some (4, this))), some (vi a1)] [] M (Qi Q) := by
  unfold w_Checker_breaks at h
  refine E_blk (lv' := [some (vr (some (4, this))), some (vi a1)]) (st' := [vi (mI M 4 this 8)]) (M1 := M) (pc' := 4) (tb_Checker hγ) [.aload_n 0, .getfield 57] (by decide +kernel) rfl rfl trivial ?_
  refine E_if_ne (off := 8) (tgt := 12) (by decide +kernel) (by decide) (fun b1 => ?_) (fun b1 => ?_)
  · rw [if_pos b1] at h
    refine E_blk (lv' := [some (vr (some (4, this))), some (vi a1)]) (st' := [vi (0 : Int32)]) (M1 := (sI M 4 this 8 a1)) (pc' := 13) (tb_Checker hγ) [.aload_n 0, .iload_n 1, .putfield 57, .iconst 0] (by decide +kernel) rfl rfl trivial ?_
    exact E_zret rfl (Or.inl rfl) (by decide +kernel) h
  · rw [if_neg b1] at h
    refine E_blk (lv' := [some (vr (some (4, this))), some (vi a1)]) (st' := [vi (0 : Int32)]) (M1 := M) (pc' := 13) (tb_Checker hγ) [.iconst 0] (by decide +kernel) rfl rfl trivial ?_
    exact E_zret rfl (Or.inl rfl) (by decide +kernel) h
def w_Checker_isRight_j71 (this : Nat) (Q : Int32 → Mem → Prop)  (M : Mem) : Prop :=
  w_Checker_breaks this (38 : Int32) (fun r10 M9 => (r10 = 0 ∨ r10 = 1) ∧ Q r10 M9) M
def w_Checker_isRight_j138 (this : Nat) (Q : Int32 → Mem → Prop)  (M : Mem) : Prop :=
  w_Checker_breaks this (38 : Int32) (fun r24 M23 => (r24 = 0 ∨ r24 = 1) ∧ Q r24 M23) M
def w_Checker_isRight_j145 (this : Nat) (Q : Int32 → Mem → Prop) (k81 : Int32 → Int32 → Int32 → Int32 → Mem → Prop) (v1 : Int32) (v2 : Int32) (v3 : Int32) (v4 : Int32) (M : Mem) : Prop :=
  k81 v1 v2 v3 (v4 + (1 : Int32)) M
def w_Checker_isRight_j124 (this : Nat) (Q : Int32 → Mem → Prop) (k81 : Int32 → Int32 → Int32 → Int32 → Mem → Prop) (v1 : Int32) (v2 : Int32) (v3 : Int32) (v4 : Int32) (v5 : Int32) (M : Mem) : Prop :=
  if v5 = (-3 : Int32) then (w_Checker_isMaker this (fun r27 M26 => if r27 = 0 then (w_Checker_isRight_j138 this Q  M26) else (w_Checker_isRight_j145 this Q k81 v1 v2 v3 v4 M26)) M) else (w_Checker_isRight_j145 this Q k81 v1 v2 v3 v4 M)
def w_Checker_isRight_L81 (this : Nat) (Q : Int32 → Mem → Prop) : Nat → Int32 → Int32 → Int32 → Int32 → Mem → Prop
  | 0, _, _, _, _, _ => False
  | n + 1, v1, v2, v3, v4, M => ∃ i16, (mR M 4 this 4) = some (5, i16) ∧ vp_in v1 (mL M 72 i16) ∧ if (v3 + (mI M 72 i16 v1.toNatClampNeg)) ≤ v4 then (Q (1 : Int32) M) else (∃ i19, (mR M 4 this 4) = some (5, i19) ∧ vp_in (v2 + v4) (mL M 73 i19) ∧ if (mI M 73 i19 (v2 + v4).toNatClampNeg) = (-2 : Int32) then (if v3 ≤ v4 then (w_Checker_isRight_j138 this Q  M) else (w_Checker_isRight_j124 this Q (w_Checker_isRight_L81 this Q n) v1 v2 v3 v4 (mI M 73 i19 (v2 + v4).toNatClampNeg) M)) else (w_Checker_isRight_j124 this Q (w_Checker_isRight_L81 this Q n) v1 v2 v3 v4 (mI M 73 i19 (v2 + v4).toNatClampNeg) M))
def w_Checker_isRight (this : Nat) (a1 : Int32) (Q : Int32 → Mem → Prop) (M : Mem) : Prop :=
  ∃ i1, (mR M 4 this 4) = some (5, i1) ∧ vp_in a1 (mL M 70 i1) ∧ ∃ i3, (mR M 4 this 4) = some (5, i3) ∧ vp_in a1 (mL M 71 i3) ∧ if 0 ≤ (mI M 70 i1 a1.toNatClampNeg) then (∃ i6, (mR M 4 this 4) = some (5, i6) ∧ vp_in (mI M 4 this 6) (mL M 61 i6) ∧ if (mI M 61 i6 (mI M 4 this 6).toNatClampNeg) < (mI M 71 i3 a1.toNatClampNeg) then (w_Checker_isRight_j71 this Q  M) else (∃ i11, (mR M 4 this 4) = some (5, i11) ∧ vp_in a1 (mL M 72 i11) ∧ ∃ i13, (mR M 4 this 4) = some (5, i13) ∧ vp_in (mI M 4 this 6) (mL M 60 i13) ∧ if (mI M 72 i11 a1.toNatClampNeg) ≤ (mI M 60 i13 (mI M 4 this 6).toNatClampNeg) then (∃ n29 : Nat, w_Checker_isRight_L81 this Q n29 a1 (mI M 70 i1 a1.toNatClampNeg) (mI M 71 i3 a1.toNatClampNeg) (0 : Int32) M) else (w_Checker_isRight_j71 this Q  M))) else (w_Checker_breaks this (36 : Int32) (fun r31 M30 => (r31 = 0 ∨ r31 = 1) ∧ Q r31 M30) M)
set_option maxRecDepth 4096 in
theorem lk_Checker_isRight_j71 {γ : Gm} (hγ : Gk γ) (this : Nat) (Q : Int32 → Mem → Prop)  (M : Mem) (h : w_Checker_isRight_j71 this Q  M) : E γ k_Checker_isRight 1 71 [some (vr (some (4, this))), none, none, none, none, none] [] M (Qi Q) := by
  unfold w_Checker_isRight_j71 at h
  refine E_blk (lv' := [some (vr (some (4, this))), none, none, none, none, none]) (st' := [vi (38 : Int32), vr (some (4, this))]) (M1 := M) (pc' := 74) (tb_Checker hγ) [.aload_n 0, .bipush 38] (by decide +kernel) rfl rfl trivial ?_
  refine E_callV (κ' := k_Checker_breaks) (As := [vi (38 : Int32)]) (st := []) mv_Checker_breaks (Or.inl (tbk_mem (j := 7) (k := 147) rfl)) rfl (by decide +kernel) (Nat.le_of_ble_eq_true rfl) (Nat.le_of_ble_eq_true rfl) rfl (by decide) (lk_Checker_breaks hγ this (38 : Int32) _ M h) (fun _ _ => Qi_r) (fun v M9 hp => Qi_k (R := fun st => E γ k_Checker_isRight 1 77 [some (vr (some (4, this))), none, none, none, none, none] st M9 (Qi Q)) hp (fun r10 h => ?_))
  exact E_zret rfl h.1 (by decide +kernel) h.2
set_option maxRecDepth 4096 in
theorem lk_Checker_isRight_j138 {γ : Gm} (hγ : Gk γ) (this : Nat) (Q : Int32 → Mem → Prop)  (M : Mem) (h : w_Checker_isRight_j138 this Q  M) : E γ k_Checker_isRight 1 138 [some (vr (some (4, this))), none, none, none, none, none] [] M (Qi Q) := by
  unfold w_Checker_isRight_j138 at h
  refine E_blk (lv' := [some (vr (some (4, this))), none, none, none, none, none]) (st' := [vi (38 : Int32), vr (some (4, this))]) (M1 := M) (pc' := 141) (tb_Checker hγ) [.aload_n 0, .bipush 38] (by decide +kernel) rfl rfl trivial ?_
  refine E_callV (κ' := k_Checker_breaks) (As := [vi (38 : Int32)]) (st := []) mv_Checker_breaks (Or.inl (tbk_mem (j := 7) (k := 147) rfl)) rfl (by decide +kernel) (Nat.le_of_ble_eq_true rfl) (Nat.le_of_ble_eq_true rfl) rfl (by decide) (lk_Checker_breaks hγ this (38 : Int32) _ M h) (fun _ _ => Qi_r) (fun v M23 hp => Qi_k (R := fun st => E γ k_Checker_isRight 1 144 [some (vr (some (4, this))), none, none, none, none, none] st M23 (Qi Q)) hp (fun r24 h => ?_))
  exact E_zret rfl h.1 (by decide +kernel) h.2
set_option maxRecDepth 4096 in
theorem lk_Checker_isRight_j145 {γ : Gm} (hγ : Gk γ) (this : Nat) (Q : Int32 → Mem → Prop) (k81 : Int32 → Int32 → Int32 → Int32 → Mem → Prop) (hk81 : ∀ (v1 : Int32) (v2 : Int32) (v3 : Int32) (v4 : Int32) (M : Mem), k81 v1 v2 v3 v4 M → E γ k_Checker_isRight 1 81 [some (vr (some (4, this))), some (vi v1), some (vi v2), some (vi v3), some (vi v4), none] [] M (Qi Q)) (v1 : Int32) (v2 : Int32) (v3 : Int32) (v4 : Int32) (M : Mem) (h : w_Checker_isRight_j145 this Q k81 v1 v2 v3 v4 M) : E γ k_Checker_isRight 1 145 [some (vr (some (4, this))), some (vi v1), some (vi v2), some (vi v3), some (vi v4), none] [] M (Qi Q) := by
  unfold w_Checker_isRight_j145 at h
  refine E_blk (lv' := [some (vr (some (4, this))), some (vi v1), some (vi v2), some (vi v3), some (vi (v4 + (1 : Int32))), none]) (st' := []) (M1 := M) (pc' := 148) (tb_Checker hγ) [.iinc 4 1] (by decide +kernel) rfl rfl trivial ?_
  refine E_goto (off := -67) (tgt := 81) (by decide +kernel) (by decide) ?_
  refine E_mask [true, true, true, true, true, false] rfl ?_
  exact hk81 v1 v2 v3 (v4 + (1 : Int32)) M h
set_option maxRecDepth 4096 in
theorem lk_Checker_isRight_j124 {γ : Gm} (hγ : Gk γ) (this : Nat) (Q : Int32 → Mem → Prop) (k81 : Int32 → Int32 → Int32 → Int32 → Mem → Prop) (hk81 : ∀ (v1 : Int32) (v2 : Int32) (v3 : Int32) (v4 : Int32) (M : Mem), k81 v1 v2 v3 v4 M → E γ k_Checker_isRight 1 81 [some (vr (some (4, this))), some (vi v1), some (vi v2), some (vi v3), some (vi v4), none] [] M (Qi Q)) (v1 : Int32) (v2 : Int32) (v3 : Int32) (v4 : Int32) (v5 : Int32) (M : Mem) (h : w_Checker_isRight_j124 this Q k81 v1 v2 v3 v4 v5 M) : E γ k_Checker_isRight 1 124 [some (vr (some (4, this))), some (vi v1), some (vi v2), some (vi v3), some (vi v4), some (vi v5)] [] M (Qi Q) := by
  unfold w_Checker_isRight_j124 at h
  refine E_blk (lv' := [some (vr (some (4, this))), some (vi v1), some (vi v2), some (vi v3), some (vi v4), some (vi v5)]) (st' := [vi (-3 : Int32), vi v5]) (M1 := M) (pc' := 128) (tb_Checker hγ) [.iload 5, .bipush (.negSucc 2)] (by decide +kernel) rfl rfl trivial ?_
  refine E_icmp_ne (off := 17) (tgt := 145) (by decide +kernel) (by decide) (fun b25 => ?_) (fun b25 => ?_)
  · rw [if_pos b25] at h
    refine E_blk (lv' := [some (vr (some (4, this))), some (vi v1), some (vi v2), some (vi v3), some (vi v4), some (vi v5)]) (st' := [vr (some (4, this))]) (M1 := M) (pc' := 132) (tb_Checker hγ) [.aload_n 0] (by decide +kernel) rfl rfl trivial ?_
    refine E_callV (κ' := k_Checker_isMaker) (As := []) (st := []) mv_Checker_isMaker (Or.inl (tbk_mem (j := 7) (k := 122) rfl)) rfl (by decide +kernel) (Nat.le_of_ble_eq_true rfl) (Nat.le_of_ble_eq_true rfl) rfl (by decide) (lk_Checker_isMaker hγ this _ M h) (fun _ _ => Qi_r) (fun v M26 hp => Qi_k (R := fun st => E γ k_Checker_isRight 1 135 [some (vr (some (4, this))), some (vi v1), some (vi v2), some (vi v3), some (vi v4), some (vi v5)] st M26 (Qi Q)) hp (fun r27 h => ?_))
    refine E_if_ne (off := 10) (tgt := 145) (by decide +kernel) (by decide) (fun b28 => ?_) (fun b28 => ?_)
    · rw [if_pos b28] at h
      refine E_mask [true, false, false, false, false, false] rfl ?_
      exact lk_Checker_isRight_j138 hγ this Q  M26 h
    · rw [if_neg b28] at h
      refine E_mask [true, true, true, true, true, false] rfl ?_
      exact lk_Checker_isRight_j145 hγ this Q k81 hk81 v1 v2 v3 v4 M26 h
  · rw [if_neg b25] at h
    refine E_mask [true, true, true, true, true, false] rfl ?_
    exact lk_Checker_isRight_j145 hγ this Q k81 hk81 v1 v2 v3 v4 M h
set_option maxRecDepth 4096 in
theorem lk_Checker_isRight_L81 {γ : Gm} (hγ : Gk γ) (this : Nat) (Q : Int32 → Mem → Prop) : ∀ (n : Nat) (v1 : Int32) (v2 : Int32) (v3 : Int32) (v4 : Int32) (M : Mem), w_Checker_isRight_L81 this Q n v1 v2 v3 v4 M → E γ k_Checker_isRight 1 81 [some (vr (some (4, this))), some (vi v1), some (vi v2), some (vi v3), some (vi v4), none] [] M (Qi Q) := by
  intro n
  induction n with
  | zero => intro v1 v2 v3 v4 M h; exact h.elim
  | succ n ih =>
    intro v1 v2 v3 v4 M h
    unfold w_Checker_isRight_L81 at h
    refine E_blk (lv' := [some (vr (some (4, this))), some (vi v1), some (vi v2), some (vi v3), some (vi v4), none]) (st' := [vr (mR M 4 this 4), vi v3, vi v4]) (M1 := M) (pc' := 88) (tb_Checker hγ) [.iload 4, .iload_n 3, .aload_n 0, .getfield 35] (by decide +kernel) rfl rfl trivial ?_
    obtain ⟨i16, ei16, h⟩ := h
    rw [ei16]
    obtain ⟨c17, h⟩ := h
    refine E_blk (lv' := [some (vr (some (4, this))), some (vi v1), some (vi v2), some (vi v3), some (vi v4), none]) (st' := [vi (v3 + (mI M 72 i16 v1.toNatClampNeg)), vi v4]) (M1 := M) (pc' := 94) (tb_Checker hγ) [.getfield 137, .iload_n 1, .iaload, .iadd] (by decide +kernel) rfl rfl ⟨c17, trivial⟩ ?_
    refine E_icmp_ge (off := 57) (tgt := 151) (by decide +kernel) (by decide) (fun b18 => ?_) (fun b18 => ?_)
    · rw [if_pos b18] at h
      refine E_blk (lv' := [some (vr (some (4, this))), some (vi v1), some (vi v2), some (vi v3), some (vi v4), none]) (st' := [vi (1 : Int32)]) (M1 := M) (pc' := 152) (tb_Checker hγ) [.iconst 1] (by decide +kernel) rfl rfl trivial ?_
      exact E_zret rfl (Or.inr rfl) (by decide +kernel) h
    · rw [if_neg b18] at h
      refine E_blk (lv' := [some (vr (some (4, this))), some (vi v1), some (vi v2), some (vi v3), some (vi v4), none]) (st' := [vr (mR M 4 this 4)]) (M1 := M) (pc' := 101) (tb_Checker hγ) [.aload_n 0, .getfield 35] (by decide +kernel) rfl rfl trivial ?_
      obtain ⟨i19, ei19, h⟩ := h
      rw [ei19]
      obtain ⟨c20, h⟩ := h
      refine E_blk (lv' := [some (vr (some (4, this))), some (vi v1), some (vi v2), some (vi v3), some (vi v4), some (vi (mI M 73 i19 (v2 + v4).toNatClampNeg))]) (st' := [vi (-2 : Int32), vi (mI M 73 i19 (v2 + v4).toNatClampNeg)]) (M1 := M) (pc' := 115) (tb_Checker hγ) [.getfield 134, .iload_n 2, .iload 4, .iadd, .iaload, .istore 5, .iload 5, .bipush (.negSucc 1)] (by decide +kernel) rfl rfl ⟨c20, trivial⟩ ?_
      refine E_icmp_ne (off := 9) (tgt := 124) (by decide +kernel) (by decide) (fun b21 => ?_) (fun b21 => ?_)
      · rw [if_pos b21] at h
        refine E_blk (lv' := [some (vr (some (4, this))), some (vi v1), some (vi v2), some (vi v3), some (vi v4), some (vi (mI M 73 i19 (v2 + v4).toNatClampNeg))]) (st' := [vi v3, vi v4]) (M1 := M) (pc' := 121) (tb_Checker hγ) [.iload 4, .iload_n 3] (by decide +kernel) rfl rfl trivial ?_
        refine E_icmp_ge (off := 17) (tgt := 138) (by decide +kernel) (by decide) (fun b22 => ?_) (fun b22 => ?_)
        · rw [if_pos b22] at h
          refine E_mask [true, false, false, false, false, false] rfl ?_
          exact lk_Checker_isRight_j138 hγ this Q  M h
        · rw [if_neg b22] at h
          refine E_mask [true, true, true, true, true, true] rfl ?_
          exact lk_Checker_isRight_j124 hγ this Q (w_Checker_isRight_L81 this Q n) ih v1 v2 v3 v4 (mI M 73 i19 (v2 + v4).toNatClampNeg) M h
      · rw [if_neg b21] at h
        refine E_mask [true, true, true, true, true, true] rfl ?_
        exact lk_Checker_isRight_j124 hγ this Q (w_Checker_isRight_L81 this Q n) ih v1 v2 v3 v4 (mI M 73 i19 (v2 + v4).toNatClampNeg) M h
set_option maxRecDepth 4096 in
theorem lk_Checker_isRight {γ : Gm} (hγ : Gk γ) (this : Nat) (a1 : Int32) (Q : Int32 → Mem → Prop) (M : Mem) (h : w_Checker_isRight this a1 Q M) : E γ k_Checker_isRight 1 0 [some (vr (some (4, this))), some (vi a1), none, none, none, none] [] M (Qi Q) := by
  unfold w_Checker_isRight at h
  refine E_blk (lv' := [some (vr (some (4, this))), some (vi a1), none, none, none, none]) (st' := [vr (mR M 4 this 4)]) (M1 := M) (pc' := 4) (tb_Checker hγ) [.aload_n 0, .getfield 35] (by decide +kernel) rfl rfl trivial ?_
  obtain ⟨i1, ei1, h⟩ := h
  rw [ei1]
  obtain ⟨c2, h⟩ := h
  refine E_blk (lv' := [some (vr (some (4, this))), some (vi a1), some (vi (mI M 70 i1 a1.toNatClampNeg)), none, none, none]) (st' := [vr (mR M 4 this 4)]) (M1 := M) (pc' := 14) (tb_Checker hγ) [.getfield 124, .iload_n 1, .iaload, .istore_n 2, .aload_n 0, .getfield 35] (by decide +kernel) rfl rfl ⟨c2, trivial⟩ ?_
  obtain ⟨i3, ei3, h⟩ := h
  rw [ei3]
  obtain ⟨c4, h⟩ := h
  refine E_blk (lv' := [some (vr (some (4, this))), some (vi a1), some (vi (mI M 70 i1 a1.toNatClampNeg)), some (vi (mI M 71 i3 a1.toNatClampNeg)), none, none]) (st' := [vi (mI M 70 i1 a1.toNatClampNeg)]) (M1 := M) (pc' := 21) (tb_Checker hγ) [.getfield 131, .iload_n 1, .iaload, .istore_n 3, .iload_n 2] (by decide +kernel) rfl rfl ⟨c4, trivial⟩ ?_
  refine E_if_ge (off := 10) (tgt := 31) (by decide +kernel) (by decide) (fun b5 => ?_) (fun b5 => ?_)
  · rw [if_pos b5] at h
    refine E_blk (lv' := [some (vr (some (4, this))), some (vi a1), some (vi (mI M 70 i1 a1.toNatClampNeg)), some (vi (mI M 71 i3 a1.toNatClampNeg)), none, none]) (st' := [vr (mR M 4 this 4), vi (mI M 71 i3 a1.toNatClampNeg)]) (M1 := M) (pc' := 36) (tb_Checker hγ) [.iload_n 3, .aload_n 0, .getfield 35] (by decide +kernel) rfl rfl trivial ?_
    obtain ⟨i6, ei6, h⟩ := h
    rw [ei6]
    obtain ⟨c7, h⟩ := h
    refine E_blk (lv' := [some (vr (some (4, this))), some (vi a1), some (vi (mI M 70 i1 a1.toNatClampNeg)), some (vi (mI M 71 i3 a1.toNatClampNeg)), none, none]) (st' := [vi (mI M 61 i6 (mI M 4 this 6).toNatClampNeg), vi (mI M 71 i3 a1.toNatClampNeg)]) (M1 := M) (pc' := 44) (tb_Checker hγ) [.getfield 85, .aload_n 0, .getfield 54, .iaload] (by decide +kernel) rfl rfl ⟨c7, trivial⟩ ?_
    refine E_icmp_gt (off := 27) (tgt := 71) (by decide +kernel) (by decide) (fun b8 => ?_) (fun b8 => ?_)
    · rw [if_pos b8] at h
      refine E_mask [true, false, false, false, false, false] rfl ?_
      exact lk_Checker_isRight_j71 hγ this Q  M h
    · rw [if_neg b8] at h
      refine E_blk (lv' := [some (vr (some (4, this))), some (vi a1), some (vi (mI M 70 i1 a1.toNatClampNeg)), some (vi (mI M 71 i3 a1.toNatClampNeg)), none, none]) (st' := [vr (mR M 4 this 4)]) (M1 := M) (pc' := 51) (tb_Checker hγ) [.aload_n 0, .getfield 35] (by decide +kernel) rfl rfl trivial ?_
      obtain ⟨i11, ei11, h⟩ := h
      rw [ei11]
      obtain ⟨c12, h⟩ := h
      refine E_blk (lv' := [some (vr (some (4, this))), some (vi a1), some (vi (mI M 70 i1 a1.toNatClampNeg)), some (vi (mI M 71 i3 a1.toNatClampNeg)), none, none]) (st' := [vr (mR M 4 this 4), vi (mI M 72 i11 a1.toNatClampNeg)]) (M1 := M) (pc' := 60) (tb_Checker hγ) [.getfield 137, .iload_n 1, .iaload, .aload_n 0, .getfield 35] (by decide +kernel) rfl rfl ⟨c12, trivial⟩ ?_
      obtain ⟨i13, ei13, h⟩ := h
      rw [ei13]
      obtain ⟨c14, h⟩ := h
      refine E_blk (lv' := [some (vr (some (4, this))), some (vi a1), some (vi (mI M 70 i1 a1.toNatClampNeg)), some (vi (mI M 71 i3 a1.toNatClampNeg)), none, none]) (st' := [vi (mI M 60 i13 (mI M 4 this 6).toNatClampNeg), vi (mI M 72 i11 a1.toNatClampNeg)]) (M1 := M) (pc' := 68) (tb_Checker hγ) [.getfield 250, .aload_n 0, .getfield 54, .iaload] (by decide +kernel) rfl rfl ⟨c14, trivial⟩ ?_
      refine E_icmp_le (off := 10) (tgt := 78) (by decide +kernel) (by decide) (fun b15 => ?_) (fun b15 => ?_)
      · rw [if_pos b15] at h
        refine E_blk (lv' := [some (vr (some (4, this))), some (vi a1), some (vi (mI M 70 i1 a1.toNatClampNeg)), some (vi (mI M 71 i3 a1.toNatClampNeg)), some (vi (0 : Int32)), none]) (st' := []) (M1 := M) (pc' := 81) (tb_Checker hγ) [.iconst 0, .istore 4] (by decide +kernel) rfl rfl trivial ?_
        obtain ⟨n29, h⟩ := h
        refine E_mask [true, true, true, true, true, false] rfl ?_
        exact lk_Checker_isRight_L81 hγ this Q n29 a1 (mI M 70 i1 a1.toNatClampNeg) (mI M 71 i3 a1.toNatClampNeg) (0 : Int32) M h
      · rw [if_neg b15] at h
        refine E_mask [true, false, false, false, false, false] rfl ?_
        exact lk_Checker_isRight_j71 hγ this Q  M h
  · rw [if_neg b5] at h
    refine E_blk (lv' := [some (vr (some (4, this))), some (vi a1), some (vi (mI M 70 i1 a1.toNatClampNeg)), some (vi (mI M 71 i3 a1.toNatClampNeg)), none, none]) (st' := [vi (36 : Int32), vr (some (4, this))]) (M1 := M) (pc' := 27) (tb_Checker hγ) [.aload_n 0, .bipush 36] (by decide +kernel) rfl rfl trivial ?_
    refine E_callV (κ' := k_Checker_breaks) (As := [vi (36 : Int32)]) (st := []) mv_Checker_breaks (Or.inl (tbk_mem (j := 7) (k := 147) rfl)) rfl (by decide +kernel) (Nat.le_of_ble_eq_true rfl) (Nat.le_of_ble_eq_true rfl) rfl (by decide) (lk_Checker_breaks hγ this (36 : Int32) _ M h) (fun _ _ => Qi_r) (fun v M30 hp => Qi_k (R := fun st => E γ k_Checker_isRight 1 30 [some (vr (some (4, this))), some (vi a1), some (vi (mI M 70 i1 a1.toNatClampNeg)), some (vi (mI M 71 i3 a1.toNatClampNeg)), none, none] st M30 (Qi Q)) hp (fun r31 h => ?_))
    exact E_zret rfl h.1 (by decide +kernel) h.2
def w_World_upName (this : Nat) (a1 : Int32) (Q : Int32 → Mem → Prop) (M : Mem) : Prop :=
  w_World_isFace this a1 (fun r2 M1 => if r2 = 0 then (vp_in a1 (mL M1 37 this) ∧ Q (mI M1 37 this a1.toNatClampNeg) M1) else (Q (81 : Int32) M1)) M
set_option maxRecDepth 4096 in
theorem lk_World_upName {γ : Gm} (hγ : Gk γ) (this : Nat) (a1 : Int32) (Q : Int32 → Mem → Prop) (M : Mem) (h : w_World_upName this a1 Q M) : E γ k_World_upName 1 0 [some (vr (some (5, this))), some (vi a1)] [] M (Qi Q) := by
  unfold w_World_upName at h
  refine E_blk (lv' := [some (vr (some (5, this))), some (vi a1)]) (st' := [vi a1, vr (some (5, this))]) (M1 := M) (pc' := 2) (tb_World hγ) [.aload_n 0, .iload_n 1] (by decide +kernel) rfl rfl trivial ?_
  refine E_callV (κ' := k_World_isFace) (As := [vi a1]) (st := []) mv_World_isFace (Or.inl (tbk_mem (j := 7) (k := 91) rfl)) rfl (by decide +kernel) (Nat.le_of_ble_eq_true rfl) (Nat.le_of_ble_eq_true rfl) rfl (by decide) (lk_World_isFace hγ this a1 _ M h) (fun _ _ => Qi_r) (fun v M1 hp => Qi_k (R := fun st => E γ k_World_upName 1 5 [some (vr (some (5, this))), some (vi a1)] st M1 (Qi Q)) hp (fun r2 h => ?_))
  refine E_if_eq (off := 8) (tgt := 13) (by decide +kernel) (by decide) (fun b3 => ?_) (fun b3 => ?_)
  · rw [if_pos b3] at h
    obtain ⟨c4, h⟩ := h
    refine E_blk (lv' := [some (vr (some (5, this))), some (vi a1)]) (st' := [vi (mI M1 37 this a1.toNatClampNeg)]) (M1 := M1) (pc' := 19) (tb_World hγ) [.aload_n 0, .getfield 23, .iload_n 1, .iaload] (by decide +kernel) rfl rfl ⟨c4, trivial⟩ ?_
    exact E_iret rfl (by decide +kernel) h
  · rw [if_neg b3] at h
    refine E_blk (lv' := [some (vr (some (5, this))), some (vi a1)]) (st' := [vi (81 : Int32)]) (M1 := M1) (pc' := 10) (tb_World hγ) [.bipush 81] (by decide +kernel) rfl rfl trivial ?_
    refine E_goto (off := 9) (tgt := 19) (by decide +kernel) (by decide) ?_
    exact E_iret rfl (by decide +kernel) h
def w_Checker_fits_L105 (this : Nat) (Q : Int32 → Mem → Prop) : Nat → Int32 → Int32 → Int32 → Mem → Prop
  | 0, _, _, _, _ => False
  | n + 1, v3, v4, v5, M => ∃ i20, (mR M 4 this 4) = some (5, i20) ∧ if (mI M 5 i20 2) < v5 then (Q (0 : Int32) M) else (∃ i22, (mR M 4 this 4) = some (5, i22) ∧ w_World_find i22 v4 (fun r24 M23 => if 0 ≤ r24 then (if r24 = v3 then (Q (1 : Int32) M23) else (if r24 = 0 then (Q (0 : Int32) M23) else (∃ i28, (mR M23 4 this 4) = some (5, i28) ∧ w_World_upName i28 r24 (fun r30 M29 => (w_Checker_fits_L105 this Q n) v3 r30 (v5 + (1 : Int32)) M29) M23))) else (w_Checker_breaks this (43 : Int32) (fun r32 M31 => (r32 = 0 ∨ r32 = 1) ∧ Q r32 M31) M23)) M)
def w_Checker_fits (this : Nat) (a1 : Int32) (a2 : Int32) (Q : Int32 → Mem → Prop) (M : Mem) : Prop :=
  if a2 = (-2 : Int32) then (Q (1 : Int32) M) else (if a1 = a2 then (Q (1 : Int32) M) else (if a1 ≤ (-2 : Int32) then (Q (0 : Int32) M) else (if (1 : Int32) ≤ a2 then (if a1 = (-1 : Int32) then (Q (1 : Int32) M) else (if a1 = 0 then (Q (0 : Int32) M) else (w_Works_kindOf (81 : Int32) (fun r8 M7 => if a2 = r8 then (Q (1 : Int32) M7) else (if a1 = (1 : Int32) then (Q (0 : Int32) M7) else (if a2 = (1 : Int32) then (Q (0 : Int32) M7) else (∃ i12, (mR M7 4 this 4) = some (5, i12) ∧ w_World_find i12 (a2 - (2 : Int32)) (fun r14 M13 => if 0 ≤ r14 then (∃ i16, (mR M13 4 this 4) = some (5, i16) ∧ w_World_isFace i16 r14 (fun r18 M17 => if r18 = 0 then (∃ n33 : Nat, w_Checker_fits_L105 this Q n33 r14 (a1 - (2 : Int32)) (0 : Int32) M17) else (Q (1 : Int32) M17)) M13) else (w_Checker_breaks this (43 : Int32) (fun r35 M34 => (r35 = 0 ∨ r35 = 1) ∧ Q r35 M34) M13)) M7)))) M))) else (Q (0 : Int32) M))))
set_option maxRecDepth 4096 in
theorem lk_Checker_fits_L105 {γ : Gm} (hγ : Gk γ) (this : Nat) (Q : Int32 → Mem → Prop) : ∀ (n : Nat) (v3 : Int32) (v4 : Int32) (v5 : Int32) (M : Mem), w_Checker_fits_L105 this Q n v3 v4 v5 M → E γ k_Checker_fits 2 105 [some (vr (some (4, this))), none, none, some (vi v3), some (vi v4), some (vi v5), none] [] M (Qi Q) := by
  intro n
  induction n with
  | zero => intro v3 v4 v5 M h; exact h.elim
  | succ n ih =>
    intro v3 v4 v5 M h
    unfold w_Checker_fits_L105 at h
    refine E_blk (lv' := [some (vr (some (4, this))), none, none, some (vi v3), some (vi v4), some (vi v5), none]) (st' := [vr (mR M 4 this 4), vi v5]) (M1 := M) (pc' := 111) (tb_Checker hγ) [.iload 5, .aload_n 0, .getfield 35] (by decide +kernel) rfl rfl trivial ?_
    obtain ⟨i20, ei20, h⟩ := h
    rw [ei20]
    refine E_blk (lv' := [some (vr (some (4, this))), none, none, some (vi v3), some (vi v4), some (vi v5), none]) (st' := [vi (mI M 5 i20 2), vi v5]) (M1 := M) (pc' := 114) (tb_Checker hγ) [.getfield 231] (by decide +kernel) rfl rfl trivial ?_
    refine E_icmp_gt (off := 58) (tgt := 172) (by decide +kernel) (by decide) (fun b21 => ?_) (fun b21 => ?_)
    · rw [if_pos b21] at h
      refine E_blk (lv' := [some (vr (some (4, this))), none, none, some (vi v3), some (vi v4), some (vi v5), none]) (st' := [vi (0 : Int32)]) (M1 := M) (pc' := 173) (tb_Checker hγ) [.iconst 0] (by decide +kernel) rfl rfl trivial ?_
      exact E_zret rfl (Or.inl rfl) (by decide +kernel) h
    · rw [if_neg b21] at h
      refine E_blk (lv' := [some (vr (some (4, this))), none, none, some (vi v3), some (vi v4), some (vi v5), none]) (st' := [vr (mR M 4 this 4)]) (M1 := M) (pc' := 121) (tb_Checker hγ) [.aload_n 0, .getfield 35] (by decide +kernel) rfl rfl trivial ?_
      obtain ⟨i22, ei22, h⟩ := h
      rw [ei22]
      refine E_blk (lv' := [some (vr (some (4, this))), none, none, some (vi v3), some (vi v4), some (vi v5), none]) (st' := [vi v4, vr (some (5, i22))]) (M1 := M) (pc' := 123) (tb_Checker hγ) [.iload 4] (by decide +kernel) rfl rfl trivial ?_
      refine E_callV (κ' := k_World_find) (As := [vi v4]) (st := []) mv_World_find (Or.inl (tbk_mem (j := 7) (k := 159) rfl)) rfl (by decide +kernel) (Nat.le_of_ble_eq_true rfl) (Nat.le_of_ble_eq_true rfl) rfl (by decide) (lk_World_find hγ i22 v4 _ M h) (fun _ _ => Qi_r) (fun v M23 hp => Qi_k (R := fun st => E γ k_Checker_fits 2 126 [some (vr (some (4, this))), none, none, some (vi v3), some (vi v4), some (vi v5), none] st M23 (Qi Q)) hp (fun r24 h => ?_))
      refine E_blk (lv' := [some (vr (some (4, this))), none, none, some (vi v3), some (vi v4), some (vi v5), some (vi r24)]) (st' := [vi r24]) (M1 := M23) (pc' := 130) (tb_Checker hγ) [.istore 6, .iload 6] (by decide +kernel) rfl rfl trivial ?_
      refine E_if_ge (off := 10) (tgt := 140) (by decide +kernel) (by decide) (fun b25 => ?_) (fun b25 => ?_)
      · rw [if_pos b25] at h
        refine E_blk (lv' := [some (vr (some (4, this))), none, none, some (vi v3), some (vi v4), some (vi v5), some (vi r24)]) (st' := [vi v3, vi r24]) (M1 := M23) (pc' := 143) (tb_Checker hγ) [.iload 6, .iload_n 3] (by decide +kernel) rfl rfl trivial ?_
        refine E_icmp_ne (off := 5) (tgt := 148) (by decide +kernel) (by decide) (fun b26 => ?_) (fun b26 => ?_)
        · rw [if_pos b26] at h
          refine E_blk (lv' := [some (vr (some (4, this))), none, none, some (vi v3), some (vi v4), some (vi v5), some (vi r24)]) (st' := [vi (1 : Int32)]) (M1 := M23) (pc' := 147) (tb_Checker hγ) [.iconst 1] (by decide +kernel) rfl rfl trivial ?_
          exact E_zret rfl (Or.inr rfl) (by decide +kernel) h
        · rw [if_neg b26] at h
          refine E_blk (lv' := [some (vr (some (4, this))), none, none, some (vi v3), some (vi v4), some (vi v5), some (vi r24)]) (st' := [vi r24]) (M1 := M23) (pc' := 150) (tb_Checker hγ) [.iload 6] (by decide +kernel) rfl rfl trivial ?_
          refine E_if_ne (off := 5) (tgt := 155) (by decide +kernel) (by decide) (fun b27 => ?_) (fun b27 => ?_)
          · rw [if_pos b27] at h
            refine E_blk (lv' := [some (vr (some (4, this))), none, none, some (vi v3), some (vi v4), some (vi v5), some (vi r24)]) (st' := [vi (0 : Int32)]) (M1 := M23) (pc' := 154) (tb_Checker hγ) [.iconst 0] (by decide +kernel) rfl rfl trivial ?_
            exact E_zret rfl (Or.inl rfl) (by decide +kernel) h
          · rw [if_neg b27] at h
            refine E_blk (lv' := [some (vr (some (4, this))), none, none, some (vi v3), some (vi v4), some (vi v5), some (vi r24)]) (st' := [vr (mR M23 4 this 4)]) (M1 := M23) (pc' := 159) (tb_Checker hγ) [.aload_n 0, .getfield 35] (by decide +kernel) rfl rfl trivial ?_
            obtain ⟨i28, ei28, h⟩ := h
            rw [ei28]
            refine E_blk (lv' := [some (vr (some (4, this))), none, none, some (vi v3), some (vi v4), some (vi v5), some (vi r24)]) (st' := [vi r24, vr (some (5, i28))]) (M1 := M23) (pc' := 161) (tb_Checker hγ) [.iload 6] (by decide +kernel) rfl rfl trivial ?_
            refine E_callV (κ' := k_World_upName) (As := [vi r24]) (st := []) mv_World_upName (Or.inl (tbk_mem (j := 7) (k := 161) rfl)) rfl (by decide +kernel) (Nat.le_of_ble_eq_true rfl) (Nat.le_of_ble_eq_true rfl) rfl (by decide) (lk_World_upName hγ i28 r24 _ M23 h) (fun _ _ => Qi_r) (fun v M29 hp => Qi_k (R := fun st => E γ k_Checker_fits 2 164 [some (vr (some (4, this))), none, none, some (vi v3), some (vi v4), some (vi v5), some (vi r24)] st M29 (Qi Q)) hp (fun r30 h => ?_))
            refine E_blk (lv' := [some (vr (some (4, this))), none, none, some (vi v3), some (vi r30), some (vi (v5 + (1 : Int32))), some (vi r24)]) (st' := []) (M1 := M29) (pc' := 169) (tb_Checker hγ) [.istore 4, .iinc 5 1] (by decide +kernel) rfl rfl trivial ?_
            refine E_goto (off := -64) (tgt := 105) (by decide +kernel) (by decide) ?_
            refine E_mask [true, false, false, true, true, true, false] rfl ?_
            exact ih v3 r30 (v5 + (1 : Int32)) M29 h
      · rw [if_neg b25] at h
        refine E_blk (lv' := [some (vr (some (4, this))), none, none, some (vi v3), some (vi v4), some (vi v5), some (vi r24)]) (st' := [vi (43 : Int32), vr (some (4, this))]) (M1 := M23) (pc' := 136) (tb_Checker hγ) [.aload_n 0, .bipush 43] (by decide +kernel) rfl rfl trivial ?_
        refine E_callV (κ' := k_Checker_breaks) (As := [vi (43 : Int32)]) (st := []) mv_Checker_breaks (Or.inl (tbk_mem (j := 7) (k := 147) rfl)) rfl (by decide +kernel) (Nat.le_of_ble_eq_true rfl) (Nat.le_of_ble_eq_true rfl) rfl (by decide) (lk_Checker_breaks hγ this (43 : Int32) _ M23 h) (fun _ _ => Qi_r) (fun v M31 hp => Qi_k (R := fun st => E γ k_Checker_fits 2 139 [some (vr (some (4, this))), none, none, some (vi v3), some (vi v4), some (vi v5), some (vi r24)] st M31 (Qi Q)) hp (fun r32 h => ?_))
        exact E_zret rfl h.1 (by decide +kernel) h.2
set_option maxRecDepth 4096 in
theorem lk_Checker_fits {γ : Gm} (hγ : Gk γ) (this : Nat) (a1 : Int32) (a2 : Int32) (Q : Int32 → Mem → Prop) (M : Mem) (h : w_Checker_fits this a1 a2 Q M) : E γ k_Checker_fits 2 0 [some (vr (some (4, this))), some (vi a1), some (vi a2), none, none, none, none] [] M (Qi Q) := by
  unfold w_Checker_fits at h
  refine E_blk (lv' := [some (vr (some (4, this))), some (vi a1), some (vi a2), none, none, none, none]) (st' := [vi (-2 : Int32), vi a2]) (M1 := M) (pc' := 3) (tb_Checker hγ) [.iload_n 2, .bipush (.negSucc 1)] (by decide +kernel) rfl rfl trivial ?_
  refine E_icmp_eq (off := 8) (tgt := 11) (by decide +kernel) (by decide) (fun b1 => ?_) (fun b1 => ?_)
  · rw [if_pos b1] at h
    refine E_blk (lv' := [some (vr (some (4, this))), some (vi a1), some (vi a2), none, none, none, none]) (st' := [vi (1 : Int32)]) (M1 := M) (pc' := 12) (tb_Checker hγ) [.iconst 1] (by decide +kernel) rfl rfl trivial ?_
    exact E_zret rfl (Or.inr rfl) (by decide +kernel) h
  · rw [if_neg b1] at h
    refine E_blk (lv' := [some (vr (some (4, this))), some (vi a1), some (vi a2), none, none, none, none]) (st' := [vi a2, vi a1]) (M1 := M) (pc' := 8) (tb_Checker hγ) [.iload_n 1, .iload_n 2] (by decide +kernel) rfl rfl trivial ?_
    refine E_icmp_ne (off := 5) (tgt := 13) (by decide +kernel) (by decide) (fun b2 => ?_) (fun b2 => ?_)
    · rw [if_pos b2] at h
      refine E_blk (lv' := [some (vr (some (4, this))), some (vi a1), some (vi a2), none, none, none, none]) (st' := [vi (1 : Int32)]) (M1 := M) (pc' := 12) (tb_Checker hγ) [.iconst 1] (by decide +kernel) rfl rfl trivial ?_
      exact E_zret rfl (Or.inr rfl) (by decide +kernel) h
    · rw [if_neg b2] at h
      refine E_blk (lv' := [some (vr (some (4, this))), some (vi a1), some (vi a2), none, none, none, none]) (st' := [vi (-2 : Int32), vi a1]) (M1 := M) (pc' := 16) (tb_Checker hγ) [.iload_n 1, .bipush (.negSucc 1)] (by decide +kernel) rfl rfl trivial ?_
      refine E_icmp_le (off := 8) (tgt := 24) (by decide +kernel) (by decide) (fun b3 => ?_) (fun b3 => ?_)
      · rw [if_pos b3] at h
        refine E_blk (lv' := [some (vr (some (4, this))), some (vi a1), some (vi a2), none, none, none, none]) (st' := [vi (0 : Int32)]) (M1 := M) (pc' := 25) (tb_Checker hγ) [.iconst 0] (by decide +kernel) rfl rfl trivial ?_
        exact E_zret rfl (Or.inl rfl) (by decide +kernel) h
      · rw [if_neg b3] at h
        refine E_blk (lv' := [some (vr (some (4, this))), some (vi a1), some (vi a2), none, none, none, none]) (st' := [vi (1 : Int32), vi a2]) (M1 := M) (pc' := 21) (tb_Checker hγ) [.iload_n 2, .iconst 1] (by decide +kernel) rfl rfl trivial ?_
        refine E_icmp_ge (off := 5) (tgt := 26) (by decide +kernel) (by decide) (fun b4 => ?_) (fun b4 => ?_)
        · rw [if_pos b4] at h
          refine E_blk (lv' := [some (vr (some (4, this))), some (vi a1), some (vi a2), none, none, none, none]) (st' := [vi (-1 : Int32), vi a1]) (M1 := M) (pc' := 28) (tb_Checker hγ) [.iload_n 1, .iconst (.negSucc 0)] (by decide +kernel) rfl rfl trivial ?_
          refine E_icmp_ne (off := 5) (tgt := 33) (by decide +kernel) (by decide) (fun b5 => ?_) (fun b5 => ?_)
          · rw [if_pos b5] at h
            refine E_blk (lv' := [some (vr (some (4, this))), some (vi a1), some (vi a2), none, none, none, none]) (st' := [vi (1 : Int32)]) (M1 := M) (pc' := 32) (tb_Checker hγ) [.iconst 1] (by decide +kernel) rfl rfl trivial ?_
            exact E_zret rfl (Or.inr rfl) (by decide +kernel) h
          · rw [if_neg b5] at h
            refine E_blk (lv' := [some (vr (some (4, this))), some (vi a1), some (vi a2), none, none, none, none]) (st' := [vi a1]) (M1 := M) (pc' := 34) (tb_Checker hγ) [.iload_n 1] (by decide +kernel) rfl rfl trivial ?_
            refine E_if_ne (off := 5) (tgt := 39) (by decide +kernel) (by decide) (fun b6 => ?_) (fun b6 => ?_)
            · rw [if_pos b6] at h
              refine E_blk (lv' := [some (vr (some (4, this))), some (vi a1), some (vi a2), none, none, none, none]) (st' := [vi (0 : Int32)]) (M1 := M) (pc' := 38) (tb_Checker hγ) [.iconst 0] (by decide +kernel) rfl rfl trivial ?_
              exact E_zret rfl (Or.inl rfl) (by decide +kernel) h
            · rw [if_neg b6] at h
              refine E_blk (lv' := [some (vr (some (4, this))), some (vi a1), some (vi a2), none, none, none, none]) (st' := [vi (81 : Int32), vi a2]) (M1 := M) (pc' := 42) (tb_Checker hγ) [.iload_n 2, .bipush 81] (by decide +kernel) rfl rfl trivial ?_
              refine E_callS (κ' := k_Works_kindOf) (As := [vi (81 : Int32)]) (st := [vi a2]) ms_Works_kindOf (Or.inr ⟨"ClassWorks", (tbk_mem (j := 7) (k := 130) rfl)⟩) rfl (by decide +kernel) (Nat.le_of_ble_eq_true rfl) (Nat.le_of_ble_eq_true rfl) rfl (by decide) (lk_Works_kindOf hγ (81 : Int32) _ M h) (fun _ _ => Qi_r) (fun v M7 hp => Qi_k (R := fun st => E γ k_Checker_fits 2 45 [some (vr (some (4, this))), some (vi a1), some (vi a2), none, none, none, none] st M7 (Qi Q)) hp (fun r8 h => ?_))
              refine E_icmp_ne (off := 5) (tgt := 50) (by decide +kernel) (by decide) (fun b9 => ?_) (fun b9 => ?_)
              · rw [if_pos b9] at h
                refine E_blk (lv' := [some (vr (some (4, this))), some (vi a1), some (vi a2), none, none, none, none]) (st' := [vi (1 : Int32)]) (M1 := M7) (pc' := 49) (tb_Checker hγ) [.iconst 1] (by decide +kernel) rfl rfl trivial ?_
                exact E_zret rfl (Or.inr rfl) (by decide +kernel) h
              · rw [if_neg b9] at h
                refine E_blk (lv' := [some (vr (some (4, this))), some (vi a1), some (vi a2), none, none, none, none]) (st' := [vi (1 : Int32), vi a1]) (M1 := M7) (pc' := 52) (tb_Checker hγ) [.iload_n 1, .iconst 1] (by decide +kernel) rfl rfl trivial ?_
                refine E_icmp_eq (off := 8) (tgt := 60) (by decide +kernel) (by decide) (fun b10 => ?_) (fun b10 => ?_)
                · rw [if_pos b10] at h
                  refine E_blk (lv' := [some (vr (some (4, this))), some (vi a1), some (vi a2), none, none, none, none]) (st' := [vi (0 : Int32)]) (M1 := M7) (pc' := 61) (tb_Checker hγ) [.iconst 0] (by decide +kernel) rfl rfl trivial ?_
                  exact E_zret rfl (Or.inl rfl) (by decide +kernel) h
                · rw [if_neg b10] at h
                  refine E_blk (lv' := [some (vr (some (4, this))), some (vi a1), some (vi a2), none, none, none, none]) (st' := [vi (1 : Int32), vi a2]) (M1 := M7) (pc' := 57) (tb_Checker hγ) [.iload_n 2, .iconst 1] (by decide +kernel) rfl rfl trivial ?_
                  refine E_icmp_ne (off := 5) (tgt := 62) (by decide +kernel) (by decide) (fun b11 => ?_) (fun b11 => ?_)
                  · rw [if_pos b11] at h
                    refine E_blk (lv' := [some (vr (some (4, this))), some (vi a1), some (vi a2), none, none, none, none]) (st' := [vi (0 : Int32)]) (M1 := M7) (pc' := 61) (tb_Checker hγ) [.iconst 0] (by decide +kernel) rfl rfl trivial ?_
                    exact E_zret rfl (Or.inl rfl) (by decide +kernel) h
                  · rw [if_neg b11] at h
                    refine E_blk (lv' := [some (vr (some (4, this))), some (vi a1), some (vi a2), none, none, none, none]) (st' := [vr (mR M7 4 this 4)]) (M1 := M7) (pc' := 66) (tb_Checker hγ) [.aload_n 0, .getfield 35] (by decide +kernel) rfl rfl trivial ?_
                    obtain ⟨i12, ei12, h⟩ := h
                    rw [ei12]
                    refine E_blk (lv' := [some (vr (some (4, this))), some (vi a1), some (vi a2), none, none, none, none]) (st' := [vi (a2 - (2 : Int32)), vr (some (5, i12))]) (M1 := M7) (pc' := 69) (tb_Checker hγ) [.iload_n 2, .iconst 2, .isub] (by decide +kernel) rfl rfl trivial ?_
                    refine E_callV (κ' := k_World_find) (As := [vi (a2 - (2 : Int32))]) (st := []) mv_World_find (Or.inl (tbk_mem (j := 7) (k := 159) rfl)) rfl (by decide +kernel) (Nat.le_of_ble_eq_true rfl) (Nat.le_of_ble_eq_true rfl) rfl (by decide) (lk_World_find hγ i12 (a2 - (2 : Int32)) _ M7 h) (fun _ _ => Qi_r) (fun v M13 hp => Qi_k (R := fun st => E γ k_Checker_fits 2 72 [some (vr (some (4, this))), some (vi a1), some (vi a2), none, none, none, none] st M13 (Qi Q)) hp (fun r14 h => ?_))
                    refine E_blk (lv' := [some (vr (some (4, this))), some (vi a1), some (vi a2), some (vi r14), none, none, none]) (st' := [vi r14]) (M1 := M13) (pc' := 74) (tb_Checker hγ) [.istore_n 3, .iload_n 3] (by decide +kernel) rfl rfl trivial ?_
                    refine E_if_ge (off := 10) (tgt := 84) (by decide +kernel) (by decide) (fun b15 => ?_) (fun b15 => ?_)
                    · rw [if_pos b15] at h
                      refine E_blk (lv' := [some (vr (some (4, this))), some (vi a1), some (vi a2), some (vi r14), none, none, none]) (st' := [vr (mR M13 4 this 4)]) (M1 := M13) (pc' := 88) (tb_Checker hγ) [.aload_n 0, .getfield 35] (by decide +kernel) rfl rfl trivial ?_
                      obtain ⟨i16, ei16, h⟩ := h
                      rw [ei16]
                      refine E_blk (lv' := [some (vr (some (4, this))), some (vi a1), some (vi a2), some (vi r14), none, none, none]) (st' := [vi r14, vr (some (5, i16))]) (M1 := M13) (pc' := 89) (tb_Checker hγ) [.iload_n 3] (by decide +kernel) rfl rfl trivial ?_
                      refine E_callV (κ' := k_World_isFace) (As := [vi r14]) (st := []) mv_World_isFace (Or.inl (tbk_mem (j := 7) (k := 160) rfl)) rfl (by decide +kernel) (Nat.le_of_ble_eq_true rfl) (Nat.le_of_ble_eq_true rfl) rfl (by decide) (lk_World_isFace hγ i16 r14 _ M13 h) (fun _ _ => Qi_r) (fun v M17 hp => Qi_k (R := fun st => E γ k_Checker_fits 2 92 [some (vr (some (4, this))), some (vi a1), some (vi a2), some (vi r14), none, none, none] st M17 (Qi Q)) hp (fun r18 h => ?_))
                      refine E_if_eq (off := 5) (tgt := 97) (by decide +kernel) (by decide) (fun b19 => ?_) (fun b19 => ?_)
                      · rw [if_pos b19] at h
                        refine E_blk (lv' := [some (vr (some (4, this))), some (vi a1), some (vi a2), some (vi r14), some (vi (a1 - (2 : Int32))), some (vi (0 : Int32)), none]) (st' := []) (M1 := M17) (pc' := 105) (tb_Checker hγ) [.iload_n 1, .iconst 2, .isub, .istore 4, .iconst 0, .istore 5] (by decide +kernel) rfl rfl trivial ?_
                        obtain ⟨n33, h⟩ := h
                        refine E_mask [true, false, false, true, true, true, false] rfl ?_
                        exact lk_Checker_fits_L105 hγ this Q n33 r14 (a1 - (2 : Int32)) (0 : Int32) M17 h
                      · rw [if_neg b19] at h
                        refine E_blk (lv' := [some (vr (some (4, this))), some (vi a1), some (vi a2), some (vi r14), none, none, none]) (st' := [vi (1 : Int32)]) (M1 := M17) (pc' := 96) (tb_Checker hγ) [.iconst 1] (by decide +kernel) rfl rfl trivial ?_
                        exact E_zret rfl (Or.inr rfl) (by decide +kernel) h
                    · rw [if_neg b15] at h
                      refine E_blk (lv' := [some (vr (some (4, this))), some (vi a1), some (vi a2), some (vi r14), none, none, none]) (st' := [vi (43 : Int32), vr (some (4, this))]) (M1 := M13) (pc' := 80) (tb_Checker hγ) [.aload_n 0, .bipush 43] (by decide +kernel) rfl rfl trivial ?_
                      refine E_callV (κ' := k_Checker_breaks) (As := [vi (43 : Int32)]) (st := []) mv_Checker_breaks (Or.inl (tbk_mem (j := 7) (k := 147) rfl)) rfl (by decide +kernel) (Nat.le_of_ble_eq_true rfl) (Nat.le_of_ble_eq_true rfl) rfl (by decide) (lk_Checker_breaks hγ this (43 : Int32) _ M13 h) (fun _ _ => Qi_r) (fun v M34 hp => Qi_k (R := fun st => E γ k_Checker_fits 2 83 [some (vr (some (4, this))), some (vi a1), some (vi a2), some (vi r14), none, none, none] st M34 (Qi Q)) hp (fun r35 h => ?_))
                      exact E_zret rfl h.1 (by decide +kernel) h.2
        · rw [if_neg b4] at h
          refine E_blk (lv' := [some (vr (some (4, this))), some (vi a1), some (vi a2), none, none, none, none]) (st' := [vi (0 : Int32)]) (M1 := M) (pc' := 25) (tb_Checker hγ) [.iconst 0] (by decide +kernel) rfl rfl trivial ?_
          exact E_zret rfl (Or.inl rfl) (by decide +kernel) h
def w_Checker_localsFit_j62 (this : Nat) (Q : Int32 → Mem → Prop) (k2 : Int32 → Int32 → Mem → Prop) (v1 : Int32) (v2 : Int32) (s0 : Int32) (s1 : Int32) (M : Mem) : Prop :=
  w_Checker_fits this s1 s0 (fun r9 M8 => if r9 = 0 then (w_Checker_breaks this (37 : Int32) (fun r12 M11 => (r12 = 0 ∨ r12 = 1) ∧ Q r12 M11) M8) else (k2 v1 (v2 + (1 : Int32)) M8)) M
def w_Checker_localsFit_L2 (this : Nat) (Q : Int32 → Mem → Prop) : Nat → Int32 → Int32 → Mem → Prop
  | 0, _, _, _ => False
  | n + 1, v1, v2, M => ∃ i1, (mR M 4 this 4) = some (5, i1) ∧ vp_in (mI M 4 this 6) (mL M 61 i1) ∧ if (mI M 61 i1 (mI M 4 this 6).toNatClampNeg) ≤ v2 then (Q (1 : Int32) M) else (vp_in v2 (mL M 31 this) ∧ ∃ i5, (mR M 4 this 4) = some (5, i5) ∧ vp_in v1 (mL M 71 i5) ∧ if (mI M 71 i5 v1.toNatClampNeg) ≤ v2 then (w_Checker_localsFit_j62 this Q (w_Checker_localsFit_L2 this Q n) v1 v2 (-2 : Int32) (mI M 31 this v2.toNatClampNeg) M) else (∃ i13, (mR M 4 this 4) = some (5, i13) ∧ ∃ i14, (mR M 4 this 4) = some (5, i14) ∧ vp_in v1 (mL M 70 i14) ∧ vp_in ((mI M 70 i14 v1.toNatClampNeg) + v2) (mL M 73 i13) ∧ w_Checker_localsFit_j62 this Q (w_Checker_localsFit_L2 this Q n) v1 v2 (mI M 73 i13 ((mI M 70 i14 v1.toNatClampNeg) + v2).toNatClampNeg) (mI M 31 this v2.toNatClampNeg) M))
def w_Checker_localsFit (this : Nat) (a1 : Int32) (Q : Int32 → Mem → Prop) (M : Mem) : Prop :=
  ∃ n17 : Nat, w_Checker_localsFit_L2 this Q n17 a1 (0 : Int32) M
set_option maxRecDepth 4096 in
theorem lk_Checker_localsFit_j62 {γ : Gm} (hγ : Gk γ) (this : Nat) (Q : Int32 → Mem → Prop) (k2 : Int32 → Int32 → Mem → Prop) (hk2 : ∀ (v1 : Int32) (v2 : Int32) (M : Mem), k2 v1 v2 M → E γ k_Checker_localsFit 3 2 [some (vr (some (4, this))), some (vi v1), some (vi v2)] [] M (Qi Q)) (v1 : Int32) (v2 : Int32) (s0 : Int32) (s1 : Int32) (M : Mem) (h : w_Checker_localsFit_j62 this Q k2 v1 v2 s0 s1 M) : E γ k_Checker_localsFit 3 62 [some (vr (some (4, this))), some (vi v1), some (vi v2)] [vi s0, vi s1, vr (some (4, this))] M (Qi Q) := by
  unfold w_Checker_localsFit_j62 at h
  refine E_callV (κ' := k_Checker_fits) (As := [vi s1, vi s0]) (st := []) mv_Checker_fits (Or.inl (tbk_mem (j := 7) (k := 155) rfl)) rfl (by decide +kernel) (Nat.le_of_ble_eq_true rfl) (Nat.le_of_ble_eq_true rfl) rfl (by decide) (lk_Checker_fits hγ this s1 s0 _ M h) (fun _ _ => Qi_r) (fun v M8 hp => Qi_k (R := fun st => E γ k_Checker_localsFit 3 65 [some (vr (some (4, this))), some (vi v1), some (vi v2)] st M8 (Qi Q)) hp (fun r9 h => ?_))
  refine E_if_ne (off := 10) (tgt := 75) (by decide +kernel) (by decide) (fun b10 => ?_) (fun b10 => ?_)
  · rw [if_pos b10] at h
    refine E_blk (lv' := [some (vr (some (4, this))), some (vi v1), some (vi v2)]) (st' := [vi (37 : Int32), vr (some (4, this))]) (M1 := M8) (pc' := 71) (tb_Checker hγ) [.aload_n 0, .bipush 37] (by decide +kernel) rfl rfl trivial ?_
    refine E_callV (κ' := k_Checker_breaks) (As := [vi (37 : Int32)]) (st := []) mv_Checker_breaks (Or.inl (tbk_mem (j := 7) (k := 147) rfl)) rfl (by decide +kernel) (Nat.le_of_ble_eq_true rfl) (Nat.le_of_ble_eq_true rfl) rfl (by decide) (lk_Checker_breaks hγ this (37 : Int32) _ M8 h) (fun _ _ => Qi_r) (fun v M11 hp => Qi_k (R := fun st => E γ k_Checker_localsFit 3 74 [some (vr (some (4, this))), some (vi v1), some (vi v2)] st M11 (Qi Q)) hp (fun r12 h => ?_))
    exact E_zret rfl h.1 (by decide +kernel) h.2
  · rw [if_neg b10] at h
    refine E_blk (lv' := [some (vr (some (4, this))), some (vi v1), some (vi (v2 + (1 : Int32)))]) (st' := []) (M1 := M8) (pc' := 78) (tb_Checker hγ) [.iinc 2 1] (by decide +kernel) rfl rfl trivial ?_
    refine E_goto (off := -76) (tgt := 2) (by decide +kernel) (by decide) ?_
    refine E_mask [true, true, true] rfl ?_
    exact hk2 v1 (v2 + (1 : Int32)) M8 h
set_option maxRecDepth 4096 in
theorem lk_Checker_localsFit_L2 {γ : Gm} (hγ : Gk γ) (this : Nat) (Q : Int32 → Mem → Prop) : ∀ (n : Nat) (v1 : Int32) (v2 : Int32) (M : Mem), w_Checker_localsFit_L2 this Q n v1 v2 M → E γ k_Checker_localsFit 3 2 [some (vr (some (4, this))), some (vi v1), some (vi v2)] [] M (Qi Q) := by
  intro n
  induction n with
  | zero => intro v1 v2 M h; exact h.elim
  | succ n ih =>
    intro v1 v2 M h
    unfold w_Checker_localsFit_L2 at h
    refine E_blk (lv' := [some (vr (some (4, this))), some (vi v1), some (vi v2)]) (st' := [vr (mR M 4 this 4), vi v2]) (M1 := M) (pc' := 7) (tb_Checker hγ) [.iload_n 2, .aload_n 0, .getfield 35] (by decide +kernel) rfl rfl trivial ?_
    obtain ⟨i1, ei1, h⟩ := h
    rw [ei1]
    obtain ⟨c2, h⟩ := h
    refine E_blk (lv' := [some (vr (some (4, this))), some (vi v1), some (vi v2)]) (st' := [vi (mI M 61 i1 (mI M 4 this 6).toNatClampNeg), vi v2]) (M1 := M) (pc' := 15) (tb_Checker hγ) [.getfield 85, .aload_n 0, .getfield 54, .iaload] (by decide +kernel) rfl rfl ⟨c2, trivial⟩ ?_
    refine E_icmp_ge (off := 66) (tgt := 81) (by decide +kernel) (by decide) (fun b3 => ?_) (fun b3 => ?_)
    · rw [if_pos b3] at h
      refine E_blk (lv' := [some (vr (some (4, this))), some (vi v1), some (vi v2)]) (st' := [vi (1 : Int32)]) (M1 := M) (pc' := 82) (tb_Checker hγ) [.iconst 1] (by decide +kernel) rfl rfl trivial ?_
      exact E_zret rfl (Or.inr rfl) (by decide +kernel) h
    · rw [if_neg b3] at h
      obtain ⟨c4, h⟩ := h
      refine E_blk (lv' := [some (vr (some (4, this))), some (vi v1), some (vi v2)]) (st' := [vr (mR M 4 this 4), vi v2, vi (mI M 31 this v2.toNatClampNeg), vr (some (4, this))]) (M1 := M) (pc' := 30) (tb_Checker hγ) [.aload_n 0, .aload_n 0, .getfield 15, .iload_n 2, .iaload, .iload_n 2, .aload_n 0, .getfield 35] (by decide +kernel) rfl rfl ⟨c4, trivial⟩ ?_
      obtain ⟨i5, ei5, h⟩ := h
      rw [ei5]
      obtain ⟨c6, h⟩ := h
      refine E_blk (lv' := [some (vr (some (4, this))), some (vi v1), some (vi v2)]) (st' := [vi (mI M 71 i5 v1.toNatClampNeg), vi v2, vi (mI M 31 this v2.toNatClampNeg), vr (some (4, this))]) (M1 := M) (pc' := 35) (tb_Checker hγ) [.getfield 131, .iload_n 1, .iaload] (by decide +kernel) rfl rfl ⟨c6, trivial⟩ ?_
      refine E_icmp_ge (off := 25) (tgt := 60) (by decide +kernel) (by decide) (fun b7 => ?_) (fun b7 => ?_)
      · rw [if_pos b7] at h
        refine E_blk (lv' := [some (vr (some (4, this))), some (vi v1), some (vi v2)]) (st' := [vi (-2 : Int32), vi (mI M 31 this v2.toNatClampNeg), vr (some (4, this))]) (M1 := M) (pc' := 62) (tb_Checker hγ) [.bipush (.negSucc 1)] (by decide +kernel) rfl rfl trivial ?_
        refine E_mask [true, true, true] rfl ?_
        exact lk_Checker_localsFit_j62 hγ this Q (w_Checker_localsFit_L2 this Q n) ih v1 v2 (-2 : Int32) (mI M 31 this v2.toNatClampNeg) M h
      · rw [if_neg b7] at h
        refine E_blk (lv' := [some (vr (some (4, this))), some (vi v1), some (vi v2)]) (st' := [vr (mR M 4 this 4), vi (mI M 31 this v2.toNatClampNeg), vr (some (4, this))]) (M1 := M) (pc' := 42) (tb_Checker hγ) [.aload_n 0, .getfield 35] (by decide +kernel) rfl rfl trivial ?_
        obtain ⟨i13, ei13, h⟩ := h
        rw [ei13]
        refine E_blk (lv' := [some (vr (some (4, this))), some (vi v1), some (vi v2)]) (st' := [vr (mR M 4 this 4), vr (some (73, i13)), vi (mI M 31 this v2.toNatClampNeg), vr (some (4, this))]) (M1 := M) (pc' := 49) (tb_Checker hγ) [.getfield 134, .aload_n 0, .getfield 35] (by decide +kernel) rfl rfl trivial ?_
        obtain ⟨i14, ei14, h⟩ := h
        rw [ei14]
        obtain ⟨c15, c16, h⟩ := h
        refine E_blk (lv' := [some (vr (some (4, this))), some (vi v1), some (vi v2)]) (st' := [vi (mI M 73 i13 ((mI M 70 i14 v1.toNatClampNeg) + v2).toNatClampNeg), vi (mI M 31 this v2.toNatClampNeg), vr (some (4, this))]) (M1 := M) (pc' := 57) (tb_Checker hγ) [.getfield 124, .iload_n 1, .iaload, .iload_n 2, .iadd, .iaload] (by decide +kernel) rfl rfl ⟨c15, c16, trivial⟩ ?_
        refine E_goto (off := 5) (tgt := 62) (by decide +kernel) (by decide) ?_
        refine E_mask [true, true, true] rfl ?_
        exact lk_Checker_localsFit_j62 hγ this Q (w_Checker_localsFit_L2 this Q n) ih v1 v2 (mI M 73 i13 ((mI M 70 i14 v1.toNatClampNeg) + v2).toNatClampNeg) (mI M 31 this v2.toNatClampNeg) M h
set_option maxRecDepth 4096 in
theorem lk_Checker_localsFit {γ : Gm} (hγ : Gk γ) (this : Nat) (a1 : Int32) (Q : Int32 → Mem → Prop) (M : Mem) (h : w_Checker_localsFit this a1 Q M) : E γ k_Checker_localsFit 3 0 [some (vr (some (4, this))), some (vi a1), none] [] M (Qi Q) := by
  unfold w_Checker_localsFit at h
  refine E_blk (lv' := [some (vr (some (4, this))), some (vi a1), some (vi (0 : Int32))]) (st' := []) (M1 := M) (pc' := 2) (tb_Checker hγ) [.iconst 0, .istore_n 2] (by decide +kernel) rfl rfl trivial ?_
  obtain ⟨n17, h⟩ := h
  refine E_mask [true, true, true] rfl ?_
  exact lk_Checker_localsFit_L2 hγ this Q n17 a1 (0 : Int32) M h
def w_Checker_stackFits_L2 (this : Nat) (Q : Int32 → Mem → Prop) : Nat → Int32 → Int32 → Mem → Prop
  | 0, _, _, _ => False
  | n + 1, v1, v2, M => if (mI M 4 this 2) ≤ v2 then (Q (1 : Int32) M) else (vp_in v2 (mL M 32 this) ∧ ∃ i3, (mR M 4 this 4) = some (5, i3) ∧ vp_in (v1 + v2) (mL M 73 i3) ∧ w_Checker_fits this (mI M 32 this v2.toNatClampNeg) (mI M 73 i3 (v1 + v2).toNatClampNeg) (fun r6 M5 => if r6 = 0 then (w_Checker_breaks this (37 : Int32) (fun r9 M8 => (r9 = 0 ∨ r9 = 1) ∧ Q r9 M8) M5) else ((w_Checker_stackFits_L2 this Q n) v1 (v2 + (1 : Int32)) M5)) M)
def w_Checker_stackFits (this : Nat) (a1 : Int32) (Q : Int32 → Mem → Prop) (M : Mem) : Prop :=
  ∃ n10 : Nat, w_Checker_stackFits_L2 this Q n10 a1 (0 : Int32) M
set_option maxRecDepth 4096 in
theorem lk_Checker_stackFits_L2 {γ : Gm} (hγ : Gk γ) (this : Nat) (Q : Int32 → Mem → Prop) : ∀ (n : Nat) (v1 : Int32) (v2 : Int32) (M : Mem), w_Checker_stackFits_L2 this Q n v1 v2 M → E γ k_Checker_stackFits 3 2 [some (vr (some (4, this))), some (vi v1), some (vi v2)] [] M (Qi Q) := by
  intro n
  induction n with
  | zero => intro v1 v2 M h; exact h.elim
  | succ n ih =>
    intro v1 v2 M h
    unfold w_Checker_stackFits_L2 at h
    refine E_blk (lv' := [some (vr (some (4, this))), some (vi v1), some (vi v2)]) (st' := [vi (mI M 4 this 2), vi v2]) (M1 := M) (pc' := 7) (tb_Checker hγ) [.iload_n 2, .aload_n 0, .getfield 102] (by decide +kernel) rfl rfl trivial ?_
    refine E_icmp_ge (off := 40) (tgt := 47) (by decide +kernel) (by decide) (fun b1 => ?_) (fun b1 => ?_)
    · rw [if_pos b1] at h
      refine E_blk (lv' := [some (vr (some (4, this))), some (vi v1), some (vi v2)]) (st' := [vi (1 : Int32)]) (M1 := M) (pc' := 48) (tb_Checker hγ) [.iconst 1] (by decide +kernel) rfl rfl trivial ?_
      exact E_zret rfl (Or.inr rfl) (by decide +kernel) h
    · rw [if_neg b1] at h
      obtain ⟨c2, h⟩ := h
      refine E_blk (lv' := [some (vr (some (4, this))), some (vi v1), some (vi v2)]) (st' := [vr (mR M 4 this 4), vi (mI M 32 this v2.toNatClampNeg), vr (some (4, this))]) (M1 := M) (pc' := 21) (tb_Checker hγ) [.aload_n 0, .aload_n 0, .getfield 19, .iload_n 2, .iaload, .aload_n 0, .getfield 35] (by decide +kernel) rfl rfl ⟨c2, trivial⟩ ?_
      obtain ⟨i3, ei3, h⟩ := h
      rw [ei3]
      obtain ⟨c4, h⟩ := h
      refine E_blk (lv' := [some (vr (some (4, this))), some (vi v1), some (vi v2)]) (st' := [vi (mI M 73 i3 (v1 + v2).toNatClampNeg), vi (mI M 32 this v2.toNatClampNeg), vr (some (4, this))]) (M1 := M) (pc' := 28) (tb_Checker hγ) [.getfield 134, .iload_n 1, .iload_n 2, .iadd, .iaload] (by decide +kernel) rfl rfl ⟨c4, trivial⟩ ?_
      refine E_callV (κ' := k_Checker_fits) (As := [vi (mI M 32 this v2.toNatClampNeg), vi (mI M 73 i3 (v1 + v2).toNatClampNeg)]) (st := []) mv_Checker_fits (Or.inl (tbk_mem (j := 7) (k := 155) rfl)) rfl (by decide +kernel) (Nat.le_of_ble_eq_true rfl) (Nat.le_of_ble_eq_true rfl) rfl (by decide) (lk_Checker_fits hγ this (mI M 32 this v2.toNatClampNeg) (mI M 73 i3 (v1 + v2).toNatClampNeg) _ M h) (fun _ _ => Qi_r) (fun v M5 hp => Qi_k (R := fun st => E γ k_Checker_stackFits 3 31 [some (vr (some (4, this))), some (vi v1), some (vi v2)] st M5 (Qi Q)) hp (fun r6 h => ?_))
      refine E_if_ne (off := 10) (tgt := 41) (by decide +kernel) (by decide) (fun b7 => ?_) (fun b7 => ?_)
      · rw [if_pos b7] at h
        refine E_blk (lv' := [some (vr (some (4, this))), some (vi v1), some (vi v2)]) (st' := [vi (37 : Int32), vr (some (4, this))]) (M1 := M5) (pc' := 37) (tb_Checker hγ) [.aload_n 0, .bipush 37] (by decide +kernel) rfl rfl trivial ?_
        refine E_callV (κ' := k_Checker_breaks) (As := [vi (37 : Int32)]) (st := []) mv_Checker_breaks (Or.inl (tbk_mem (j := 7) (k := 147) rfl)) rfl (by decide +kernel) (Nat.le_of_ble_eq_true rfl) (Nat.le_of_ble_eq_true rfl) rfl (by decide) (lk_Checker_breaks hγ this (37 : Int32) _ M5 h) (fun _ _ => Qi_r) (fun v M8 hp => Qi_k (R := fun st => E γ k_Checker_stackFits 3 40 [some (vr (some (4, this))), some (vi v1), some (vi v2)] st M8 (Qi Q)) hp (fun r9 h => ?_))
        exact E_zret rfl h.1 (by decide +kernel) h.2
      · rw [if_neg b7] at h
        refine E_blk (lv' := [some (vr (some (4, this))), some (vi v1), some (vi (v2 + (1 : Int32)))]) (st' := []) (M1 := M5) (pc' := 44) (tb_Checker hγ) [.iinc 2 1] (by decide +kernel) rfl rfl trivial ?_
        refine E_goto (off := -42) (tgt := 2) (by decide +kernel) (by decide) ?_
        refine E_mask [true, true, true] rfl ?_
        exact ih v1 (v2 + (1 : Int32)) M5 h
set_option maxRecDepth 4096 in
theorem lk_Checker_stackFits {γ : Gm} (hγ : Gk γ) (this : Nat) (a1 : Int32) (Q : Int32 → Mem → Prop) (M : Mem) (h : w_Checker_stackFits this a1 Q M) : E γ k_Checker_stackFits 3 0 [some (vr (some (4, this))), some (vi a1), none] [] M (Qi Q) := by
  unfold w_Checker_stackFits at h
  refine E_blk (lv' := [some (vr (some (4, this))), some (vi a1), some (vi (0 : Int32))]) (st' := []) (M1 := M) (pc' := 2) (tb_Checker hγ) [.iconst 0, .istore_n 2] (by decide +kernel) rfl rfl trivial ?_
  obtain ⟨n10, h⟩ := h
  refine E_mask [true, true, true] rfl ?_
  exact lk_Checker_stackFits_L2 hγ this Q n10 a1 (0 : Int32) M h
def w_Checker_goes_j77 (this : Nat) (Q : Int32 → Mem → Prop) (v2 : Int32) (v3 : Int32) (M : Mem) : Prop :=
  ∃ i16, (mR M 4 this 4) = some (5, i16) ∧ vp_in v2 (mL M 71 i16) ∧ w_Checker_stackFits this (v3 + (mI M 71 i16 v2.toNatClampNeg)) (fun r19 M18 => if r19 = 0 then (Q (0 : Int32) M18) else (Q (1 : Int32) M18)) M
def w_Checker_goes (this : Nat) (a1 : Int32) (Q : Int32 → Mem → Prop) (M : Mem) : Prop :=
  ∃ i1, (mR M 4 this 4) = some (5, i1) ∧ vp_in (mI M 4 this 6) (mL M 62 i1) ∧ w_Checker_isRight this ((mI M 62 i1 (mI M 4 this 6).toNatClampNeg) + a1) (fun r4 M3 => if r4 = 0 then (Q (0 : Int32) M3) else (if (mI M3 4 this 3) = 0 then (Q (1 : Int32) M3) else (∃ i7, (mR M3 4 this 4) = some (5, i7) ∧ vp_in ((mI M 62 i1 (mI M 4 this 6).toNatClampNeg) + a1) (mL M3 70 i7) ∧ ∃ x9 : Int32, x9 = (mI M3 70 i7 ((mI M 62 i1 (mI M 4 this 6).toNatClampNeg) + a1).toNatClampNeg) ∧ w_Checker_localsFit this ((mI M 62 i1 (mI M 4 this 6).toNatClampNeg) + a1) (fun r11 M10 => if r11 = 0 then (Q (0 : Int32) M10) else (∃ i13, (mR M10 4 this 4) = some (5, i13) ∧ vp_in ((mI M 62 i1 (mI M 4 this 6).toNatClampNeg) + a1) (mL M10 72 i13) ∧ if (mI M10 4 this 2) = (mI M10 72 i13 ((mI M 62 i1 (mI M 4 this 6).toNatClampNeg) + a1).toNatClampNeg) then (w_Checker_goes_j77 this Q ((mI M 62 i1 (mI M 4 this 6).toNatClampNeg) + a1) x9 M10) else (w_Checker_breaks this (37 : Int32) (fun r22 M21 => if r22 = 0 then (Q (0 : Int32) M21) else (w_Checker_goes_j77 this Q ((mI M 62 i1 (mI M 4 this 6).toNatClampNeg) + a1) x9 M21)) M10))) M3))) M
set_option maxRecDepth 4096 in
theorem lk_Checker_goes_j77 {γ : Gm} (hγ : Gk γ) (this : Nat) (Q : Int32 → Mem → Prop) (v2 : Int32) (v3 : Int32) (M : Mem) (h : w_Checker_goes_j77 this Q v2 v3 M) : E γ k_Checker_goes 4 77 [some (vr (some (4, this))), none, some (vi v2), some (vi v3)] [] M (Qi Q) := by
  unfold w_Checker_goes_j77 at h
  refine E_blk (lv' := [some (vr (some (4, this))), none, some (vi v2), some (vi v3)]) (st' := [vr (mR M 4 this 4), vi v3, vr (some (4, this))]) (M1 := M) (pc' := 83) (tb_Checker hγ) [.aload_n 0, .iload_n 3, .aload_n 0, .getfield 35] (by decide +kernel) rfl rfl trivial ?_
  obtain ⟨i16, ei16, h⟩ := h
  rw [ei16]
  obtain ⟨c17, h⟩ := h
  refine E_blk (lv' := [some (vr (some (4, this))), none, some (vi v2), some (vi v3)]) (st' := [vi (v3 + (mI M 71 i16 v2.toNatClampNeg)), vr (some (4, this))]) (M1 := M) (pc' := 89) (tb_Checker hγ) [.getfield 131, .iload_n 2, .iaload, .iadd] (by decide +kernel) rfl rfl ⟨c17, trivial⟩ ?_
  refine E_callV (κ' := k_Checker_stackFits) (As := [vi (v3 + (mI M 71 i16 v2.toNatClampNeg))]) (st := []) mv_Checker_stackFits (Or.inl (tbk_mem (j := 7) (k := 165) rfl)) rfl (by decide +kernel) (Nat.le_of_ble_eq_true rfl) (Nat.le_of_ble_eq_true rfl) rfl (by decide) (lk_Checker_stackFits hγ this (v3 + (mI M 71 i16 v2.toNatClampNeg)) _ M h) (fun _ _ => Qi_r) (fun v M18 hp => Qi_k (R := fun st => E γ k_Checker_goes 4 92 [some (vr (some (4, this))), none, some (vi v2), some (vi v3)] st M18 (Qi Q)) hp (fun r19 h => ?_))
  refine E_if_eq (off := 7) (tgt := 99) (by decide +kernel) (by decide) (fun b20 => ?_) (fun b20 => ?_)
  · rw [if_pos b20] at h
    refine E_blk (lv' := [some (vr (some (4, this))), none, some (vi v2), some (vi v3)]) (st' := [vi (0 : Int32)]) (M1 := M18) (pc' := 100) (tb_Checker hγ) [.iconst 0] (by decide +kernel) rfl rfl trivial ?_
    exact E_zret rfl (Or.inl rfl) (by decide +kernel) h
  · rw [if_neg b20] at h
    refine E_blk (lv' := [some (vr (some (4, this))), none, some (vi v2), some (vi v3)]) (st' := [vi (1 : Int32)]) (M1 := M18) (pc' := 96) (tb_Checker hγ) [.iconst 1] (by decide +kernel) rfl rfl trivial ?_
    refine E_goto (off := 4) (tgt := 100) (by decide +kernel) (by decide) ?_
    exact E_zret rfl (Or.inr rfl) (by decide +kernel) h
set_option maxRecDepth 4096 in
theorem lk_Checker_goes {γ : Gm} (hγ : Gk γ) (this : Nat) (a1 : Int32) (Q : Int32 → Mem → Prop) (M : Mem) (h : w_Checker_goes this a1 Q M) : E γ k_Checker_goes 4 0 [some (vr (some (4, this))), some (vi a1), none, none] [] M (Qi Q) := by
  unfold w_Checker_goes at h
  refine E_blk (lv' := [some (vr (some (4, this))), some (vi a1), none, none]) (st' := [vr (mR M 4 this 4)]) (M1 := M) (pc' := 4) (tb_Checker hγ) [.aload_n 0, .getfield 35] (by decide +kernel) rfl rfl trivial ?_
  obtain ⟨i1, ei1, h⟩ := h
  rw [ei1]
  obtain ⟨c2, h⟩ := h
  refine E_blk (lv' := [some (vr (some (4, this))), some (vi a1), some (vi ((mI M 62 i1 (mI M 4 this 6).toNatClampNeg) + a1)), none]) (st' := [vi ((mI M 62 i1 (mI M 4 this 6).toNatClampNeg) + a1), vr (some (4, this))]) (M1 := M) (pc' := 17) (tb_Checker hγ) [.getfield 118, .aload_n 0, .getfield 54, .iaload, .iload_n 1, .iadd, .istore_n 2, .aload_n 0, .iload_n 2] (by decide +kernel) rfl rfl ⟨c2, trivial⟩ ?_
  refine E_callV (κ' := k_Checker_isRight) (As := [vi ((mI M 62 i1 (mI M 4 this 6).toNatClampNeg) + a1)]) (st := []) mv_Checker_isRight (Or.inl (tbk_mem (j := 7) (k := 143) rfl)) rfl (by decide +kernel) (Nat.le_of_ble_eq_true rfl) (Nat.le_of_ble_eq_true rfl) rfl (by decide) (lk_Checker_isRight hγ this ((mI M 62 i1 (mI M 4 this 6).toNatClampNeg) + a1) _ M h) (fun _ _ => Qi_r) (fun v M3 hp => Qi_k (R := fun st => E γ k_Checker_goes 4 20 [some (vr (some (4, this))), some (vi a1), some (vi ((mI M 62 i1 (mI M 4 this 6).toNatClampNeg) + a1)), none] st M3 (Qi Q)) hp (fun r4 h => ?_))
  refine E_if_ne (off := 5) (tgt := 25) (by decide +kernel) (by decide) (fun b5 => ?_) (fun b5 => ?_)
  · rw [if_pos b5] at h
    refine E_blk (lv' := [some (vr (some (4, this))), some (vi a1), some (vi ((mI M 62 i1 (mI M 4 this 6).toNatClampNeg) + a1)), none]) (st' := [vi (0 : Int32)]) (M1 := M3) (pc' := 24) (tb_Checker hγ) [.iconst 0] (by decide +kernel) rfl rfl trivial ?_
    exact E_zret rfl (Or.inl rfl) (by decide +kernel) h
  · rw [if_neg b5] at h
    refine E_blk (lv' := [some (vr (some (4, this))), some (vi a1), some (vi ((mI M 62 i1 (mI M 4 this 6).toNatClampNeg) + a1)), none]) (st' := [vi (mI M3 4 this 3)]) (M1 := M3) (pc' := 29) (tb_Checker hγ) [.aload_n 0, .getfield 105] (by decide +kernel) rfl rfl trivial ?_
    refine E_if_ne (off := 5) (tgt := 34) (by decide +kernel) (by decide) (fun b6 => ?_) (fun b6 => ?_)
    · rw [if_pos b6] at h
      refine E_blk (lv' := [some (vr (some (4, this))), some (vi a1), some (vi ((mI M 62 i1 (mI M 4 this 6).toNatClampNeg) + a1)), none]) (st' := [vi (1 : Int32)]) (M1 := M3) (pc' := 33) (tb_Checker hγ) [.iconst 1] (by decide +kernel) rfl rfl trivial ?_
      exact E_zret rfl (Or.inr rfl) (by decide +kernel) h
    · rw [if_neg b6] at h
      refine E_blk (lv' := [some (vr (some (4, this))), some (vi a1), some (vi ((mI M 62 i1 (mI M 4 this 6).toNatClampNeg) + a1)), none]) (st' := [vr (mR M3 4 this 4)]) (M1 := M3) (pc' := 38) (tb_Checker hγ) [.aload_n 0, .getfield 35] (by decide +kernel) rfl rfl trivial ?_
      obtain ⟨i7, ei7, h⟩ := h
      rw [ei7]
      obtain ⟨c8, h⟩ := h
      refine E_blk (lv' := [some (vr (some (4, this))), some (vi a1), some (vi ((mI M 62 i1 (mI M 4 this 6).toNatClampNeg) + a1)), some (vi (mI M3 70 i7 ((mI M 62 i1 (mI M 4 this 6).toNatClampNeg) + a1).toNatClampNeg))]) (st' := []) (M1 := M3) (pc' := 44) (tb_Checker hγ) [.getfield 124, .iload_n 2, .iaload, .istore_n 3] (by decide +kernel) rfl rfl ⟨c8, trivial⟩ ?_
      obtain ⟨x9, ex9, h⟩ := h
      rw [← ex9]
      refine E_blk (lv' := [some (vr (some (4, this))), some (vi a1), some (vi ((mI M 62 i1 (mI M 4 this 6).toNatClampNeg) + a1)), some (vi x9)]) (st' := [vi ((mI M 62 i1 (mI M 4 this 6).toNatClampNeg) + a1), vr (some (4, this))]) (M1 := M3) (pc' := 46) (tb_Checker hγ) [.aload_n 0, .iload_n 2] (by decide +kernel) rfl rfl trivial ?_
      refine E_callV (κ' := k_Checker_localsFit) (As := [vi ((mI M 62 i1 (mI M 4 this 6).toNatClampNeg) + a1)]) (st := []) mv_Checker_localsFit (Or.inl (tbk_mem (j := 7) (k := 151) rfl)) rfl (by decide +kernel) (Nat.le_of_ble_eq_true rfl) (Nat.le_of_ble_eq_true rfl) rfl (by decide) (lk_Checker_localsFit hγ this ((mI M 62 i1 (mI M 4 this 6).toNatClampNeg) + a1) _ M3 h) (fun _ _ => Qi_r) (fun v M10 hp => Qi_k (R := fun st => E γ k_Checker_goes 4 49 [some (vr (some (4, this))), some (vi a1), some (vi ((mI M 62 i1 (mI M 4 this 6).toNatClampNeg) + a1)), some (vi x9)] st M10 (Qi Q)) hp (fun r11 h => ?_))
      refine E_if_eq (off := 50) (tgt := 99) (by decide +kernel) (by decide) (fun b12 => ?_) (fun b12 => ?_)
      · rw [if_pos b12] at h
        refine E_blk (lv' := [some (vr (some (4, this))), some (vi a1), some (vi ((mI M 62 i1 (mI M 4 this 6).toNatClampNeg) + a1)), some (vi x9)]) (st' := [vi (0 : Int32)]) (M1 := M10) (pc' := 100) (tb_Checker hγ) [.iconst 0] (by decide +kernel) rfl rfl trivial ?_
        exact E_zret rfl (Or.inl rfl) (by decide +kernel) h
      · rw [if_neg b12] at h
        refine E_blk (lv' := [some (vr (some (4, this))), some (vi a1), some (vi ((mI M 62 i1 (mI M 4 this 6).toNatClampNeg) + a1)), some (vi x9)]) (st' := [vr (mR M10 4 this 4), vi (mI M10 4 this 2)]) (M1 := M10) (pc' := 60) (tb_Checker hγ) [.aload_n 0, .getfield 102, .aload_n 0, .getfield 35] (by decide +kernel) rfl rfl trivial ?_
        obtain ⟨i13, ei13, h⟩ := h
        rw [ei13]
        obtain ⟨c14, h⟩ := h
        refine E_blk (lv' := [some (vr (some (4, this))), some (vi a1), some (vi ((mI M 62 i1 (mI M 4 this 6).toNatClampNeg) + a1)), some (vi x9)]) (st' := [vi (mI M10 72 i13 ((mI M 62 i1 (mI M 4 this 6).toNatClampNeg) + a1).toNatClampNeg), vi (mI M10 4 this 2)]) (M1 := M10) (pc' := 65) (tb_Checker hγ) [.getfield 137, .iload_n 2, .iaload] (by decide +kernel) rfl rfl ⟨c14, trivial⟩ ?_
        refine E_icmp_eq (off := 12) (tgt := 77) (by decide +kernel) (by decide) (fun b15 => ?_) (fun b15 => ?_)
        · rw [if_pos b15] at h
          refine E_mask [true, false, true, true] rfl ?_
          exact lk_Checker_goes_j77 hγ this Q ((mI M 62 i1 (mI M 4 this 6).toNatClampNeg) + a1) x9 M10 h
        · rw [if_neg b15] at h
          refine E_blk (lv' := [some (vr (some (4, this))), some (vi a1), some (vi ((mI M 62 i1 (mI M 4 this 6).toNatClampNeg) + a1)), some (vi x9)]) (st' := [vi (37 : Int32), vr (some (4, this))]) (M1 := M10) (pc' := 71) (tb_Checker hγ) [.aload_n 0, .bipush 37] (by decide +kernel) rfl rfl trivial ?_
          refine E_callV (κ' := k_Checker_breaks) (As := [vi (37 : Int32)]) (st := []) mv_Checker_breaks (Or.inl (tbk_mem (j := 7) (k := 147) rfl)) rfl (by decide +kernel) (Nat.le_of_ble_eq_true rfl) (Nat.le_of_ble_eq_true rfl) rfl (by decide) (lk_Checker_breaks hγ this (37 : Int32) _ M10 h) (fun _ _ => Qi_r) (fun v M21 hp => Qi_k (R := fun st => E γ k_Checker_goes 4 74 [some (vr (some (4, this))), some (vi a1), some (vi ((mI M 62 i1 (mI M 4 this 6).toNatClampNeg) + a1)), some (vi x9)] st M21 (Qi Q)) hp (fun r22 h => ?_))
          refine E_if_eq (off := 25) (tgt := 99) (by decide +kernel) (by decide) (fun b23 => ?_) (fun b23 => ?_)
          · rw [if_pos b23] at h
            refine E_blk (lv' := [some (vr (some (4, this))), some (vi a1), some (vi ((mI M 62 i1 (mI M 4 this 6).toNatClampNeg) + a1)), some (vi x9)]) (st' := [vi (0 : Int32)]) (M1 := M21) (pc' := 100) (tb_Checker hγ) [.iconst 0] (by decide +kernel) rfl rfl trivial ?_
            exact E_zret rfl (Or.inl rfl) (by decide +kernel) h
          · rw [if_neg b23] at h
            refine E_mask [true, false, true, true] rfl ?_
            exact lk_Checker_goes_j77 hγ this Q ((mI M 62 i1 (mI M 4 this 6).toNatClampNeg) + a1) x9 M21 h
def w_Checker_keep (this : Nat) (Q : Mem → Prop) (M : Mem) : Prop :=
  if (mI M 4 this 9) = 0 then (Q M) else (vp_in (mI M 4 this 7) (mL M 510 this) ∧ vp_in (mI (sI M 510 this (mI M 4 this 7).toNatClampNeg ((1 : Int32) &&& 1)) 4 this 7) (mL (sI M 510 this (mI M 4 this 7).toNatClampNeg ((1 : Int32) &&& 1)) 33 this) ∧ ∃ M4, M4 = (sI (sI M 510 this (mI M 4 this 7).toNatClampNeg ((1 : Int32) &&& 1)) 33 this (mI (sI M 510 this (mI M 4 this 7).toNatClampNeg ((1 : Int32) &&& 1)) 4 this 7).toNatClampNeg (mI (sI M 510 this (mI M 4 this 7).toNatClampNeg ((1 : Int32) &&& 1)) 4 this 2)) ∧ ¬ (0 : Int32) < 0 ∧ ¬ ((40 : Int32) * (mI M4 4 this 7)) < 0 ∧ ¬ (20 : Int32) < 0 ∧ (0 : Int32).toNatClampNeg + (20 : Int32).toNatClampNeg ≤ mL M4 31 this ∧ ((40 : Int32) * (mI M4 4 this 7)).toNatClampNeg + (20 : Int32).toNatClampNeg ≤ mL M4 34 this ∧ ∃ M5, M5 = cpI M4 31 this (0 : Int32).toNatClampNeg 34 this ((40 : Int32) * (mI M4 4 this 7)).toNatClampNeg (20 : Int32).toNatClampNeg ∧ ¬ (0 : Int32) < 0 ∧ ¬ (((40 : Int32) * (mI M5 4 this 7)) + (20 : Int32)) < 0 ∧ ¬ (mI M5 4 this 2) < 0 ∧ (0 : Int32).toNatClampNeg + (mI M5 4 this 2).toNatClampNeg ≤ mL M5 32 this ∧ (((40 : Int32) * (mI M5 4 this 7)) + (20 : Int32)).toNatClampNeg + (mI M5 4 this 2).toNatClampNeg ≤ mL M5 34 this ∧ ∃ M11, M11 = cpI M5 32 this (0 : Int32).toNatClampNeg 34 this (((40 : Int32) * (mI M5 4 this 7)) + (20 : Int32)).toNatClampNeg (mI M5 4 this 2).toNatClampNeg ∧ Q M11)
set_option maxRecDepth 4096 in
theorem lk_Checker_keep {γ : Gm} (hγ : Gk γ) (this : Nat) (Q : Mem → Prop) (M : Mem) (h : w_Checker_keep this Q M) : E γ k_Checker_keep 1 0 [some (vr (some (4, this)))] [] M (Qv Q) := by
  unfold w_Checker_keep at h
  refine E_blk (lv' := [some (vr (some (4, this)))]) (st' := [vi (mI M 4 this 9)]) (M1 := M) (pc' := 4) (tb_Checker hγ) [.aload_n 0, .getfield 155] (by decide +kernel) rfl rfl trivial ?_
  refine E_if_ne (off := 4) (tgt := 8) (by decide +kernel) (by decide) (fun b1 => ?_) (fun b1 => ?_)
  · rw [if_pos b1] at h
    exact E_vret rfl (by decide +kernel) h
  · rw [if_neg b1] at h
    obtain ⟨c2, c3, h⟩ := h
    refine E_blk (lv' := [some (vr (some (4, this)))]) (st' := []) (M1 := (sI (sI M 510 this (mI M 4 this 7).toNatClampNeg ((1 : Int32) &&& 1)) 33 this (mI (sI M 510 this (mI M 4 this 7).toNatClampNeg ((1 : Int32) &&& 1)) 4 this 7).toNatClampNeg (mI (sI M 510 this (mI M 4 this 7).toNatClampNeg ((1 : Int32) &&& 1)) 4 this 2))) (pc' := 31) (tb_Checker hγ) [.aload_n 0, .getfield 22, .aload_n 0, .getfield 69, .iconst 1, .bastore, .aload_n 0, .getfield 26, .aload_n 0, .getfield 69, .aload_n 0, .getfield 102, .iastore] (by decide +kernel) rfl rfl ⟨c2, c3, trivial⟩ ?_
    obtain ⟨M4, eM4, h⟩ := h
    rw [← eM4]
    refine E_blk (lv' := [some (vr (some (4, this)))]) (st' := [vi (20 : Int32), vi ((40 : Int32) * (mI M4 4 this 7)), vr (some (34, this)), vi (0 : Int32), vr (some (31, this))]) (M1 := M4) (pc' := 49) (tb_Checker hγ) [.aload_n 0, .getfield 15, .iconst 0, .aload_n 0, .getfield 29, .bipush 40, .aload_n 0, .getfield 69, .imul, .bipush 20] (by decide +kernel) rfl rfl trivial ?_
    obtain ⟨c6, c7, c8, c9, c10, M5, eM5, h⟩ := h
    refine E_copy (pc := 49) (κ := k_Checker_keep) (f := 31) (i := this) (g := 34) (j := this) (sp := (0 : Int32)) (dp := ((40 : Int32) * (mI M4 4 this 7))) (n := (20 : Int32)) (idx := 158) (st := []) c6 c7 c8 c9 c10 (by decide) (by decide) rfl (by decide) (tbk_mem (j := 7) (k := 173) rfl) (by decide +kernel) (Nat.le_of_ble_eq_true rfl) ?_
    rw [← eM5]
    refine E_blk (lv' := [some (vr (some (4, this)))]) (st' := [vi (mI M5 4 this 2), vi (((40 : Int32) * (mI M5 4 this 7)) + (20 : Int32)), vr (some (34, this)), vi (0 : Int32), vr (some (32, this))]) (M1 := M5) (pc' := 75) (tb_Checker hγ) [.aload_n 0, .getfield 19, .iconst 0, .aload_n 0, .getfield 29, .bipush 40, .aload_n 0, .getfield 69, .imul, .bipush 20, .iadd, .aload_n 0, .getfield 102] (by decide +kernel) rfl rfl trivial ?_
    obtain ⟨c12, c13, c14, c15, c16, M11, eM11, h⟩ := h
    refine E_copy (pc := 75) (κ := k_Checker_keep) (f := 32) (i := this) (g := 34) (j := this) (sp := (0 : Int32)) (dp := (((40 : Int32) * (mI M5 4 this 7)) + (20 : Int32))) (n := (mI M5 4 this 2)) (idx := 158) (st := []) c12 c13 c14 c15 c16 (by decide) (by decide) rfl (by decide) (tbk_mem (j := 7) (k := 173) rfl) (by decide +kernel) (Nat.le_of_ble_eq_true rfl) ?_
    rw [← eM11]
    exact E_vret rfl (by decide +kernel) h
def w_Checker_isUp_L5 (this : Nat) (Q : Int32 → Mem → Prop) : Nat → Int32 → Int32 → Int32 → Mem → Prop
  | 0, _, _, _, _ => False
  | n + 1, v2, v3, v4, M => ∃ i1, (mR M 4 this 4) = some (5, i1) ∧ if (mI M 5 i1 2) < v4 then (Q (0 : Int32) M) else (∃ i3, (mR M 4 this 4) = some (5, i3) ∧ w_World_find i3 v3 (fun r5 M4 => if r5 = v2 then (Q (1 : Int32) M4) else (if 0 < r5 then (∃ i8, (mR M4 4 this 4) = some (5, i8) ∧ w_World_upName i8 r5 (fun r10 M9 => (w_Checker_isUp_L5 this Q n) v2 r10 (v4 + (1 : Int32)) M9) M4) else (Q (0 : Int32) M4))) M)
def w_Checker_isUp (this : Nat) (a1 : Int32) (a2 : Int32) (Q : Int32 → Mem → Prop) (M : Mem) : Prop :=
  ∃ n11 : Nat, w_Checker_isUp_L5 this Q n11 a2 a1 (0 : Int32) M
set_option maxRecDepth 4096 in
theorem lk_Checker_isUp_L5 {γ : Gm} (hγ : Gk γ) (this : Nat) (Q : Int32 → Mem → Prop) : ∀ (n : Nat) (v2 : Int32) (v3 : Int32) (v4 : Int32) (M : Mem), w_Checker_isUp_L5 this Q n v2 v3 v4 M → E γ k_Checker_isUp 2 5 [some (vr (some (4, this))), none, some (vi v2), some (vi v3), some (vi v4), none] [] M (Qi Q) := by
  intro n
  induction n with
  | zero => intro v2 v3 v4 M h; exact h.elim
  | succ n ih =>
    intro v2 v3 v4 M h
    unfold w_Checker_isUp_L5 at h
    refine E_blk (lv' := [some (vr (some (4, this))), none, some (vi v2), some (vi v3), some (vi v4), none]) (st' := [vr (mR M 4 this 4), vi v4]) (M1 := M) (pc' := 11) (tb_Checker hγ) [.iload 4, .aload_n 0, .getfield 35] (by decide +kernel) rfl rfl trivial ?_
    obtain ⟨i1, ei1, h⟩ := h
    rw [ei1]
    refine E_blk (lv' := [some (vr (some (4, this))), none, some (vi v2), some (vi v3), some (vi v4), none]) (st' := [vi (mI M 5 i1 2), vi v4]) (M1 := M) (pc' := 14) (tb_Checker hγ) [.getfield 231] (by decide +kernel) rfl rfl trivial ?_
    refine E_icmp_gt (off := 44) (tgt := 58) (by decide +kernel) (by decide) (fun b2 => ?_) (fun b2 => ?_)
    · rw [if_pos b2] at h
      refine E_blk (lv' := [some (vr (some (4, this))), none, some (vi v2), some (vi v3), some (vi v4), none]) (st' := [vi (0 : Int32)]) (M1 := M) (pc' := 59) (tb_Checker hγ) [.iconst 0] (by decide +kernel) rfl rfl trivial ?_
      exact E_zret rfl (Or.inl rfl) (by decide +kernel) h
    · rw [if_neg b2] at h
      refine E_blk (lv' := [some (vr (some (4, this))), none, some (vi v2), some (vi v3), some (vi v4), none]) (st' := [vr (mR M 4 this 4)]) (M1 := M) (pc' := 21) (tb_Checker hγ) [.aload_n 0, .getfield 35] (by decide +kernel) rfl rfl trivial ?_
      obtain ⟨i3, ei3, h⟩ := h
      rw [ei3]
      refine E_blk (lv' := [some (vr (some (4, this))), none, some (vi v2), some (vi v3), some (vi v4), none]) (st' := [vi v3, vr (some (5, i3))]) (M1 := M) (pc' := 22) (tb_Checker hγ) [.iload_n 3] (by decide +kernel) rfl rfl trivial ?_
      refine E_callV (κ' := k_World_find) (As := [vi v3]) (st := []) mv_World_find (Or.inl (tbk_mem (j := 7) (k := 159) rfl)) rfl (by decide +kernel) (Nat.le_of_ble_eq_true rfl) (Nat.le_of_ble_eq_true rfl) rfl (by decide) (lk_World_find hγ i3 v3 _ M h) (fun _ _ => Qi_r) (fun v M4 hp => Qi_k (R := fun st => E γ k_Checker_isUp 2 25 [some (vr (some (4, this))), none, some (vi v2), some (vi v3), some (vi v4), none] st M4 (Qi Q)) hp (fun r5 h => ?_))
      refine E_blk (lv' := [some (vr (some (4, this))), none, some (vi v2), some (vi v3), some (vi v4), some (vi r5)]) (st' := [vi v2, vi r5]) (M1 := M4) (pc' := 30) (tb_Checker hγ) [.istore 5, .iload 5, .iload_n 2] (by decide +kernel) rfl rfl trivial ?_
      refine E_icmp_ne (off := 5) (tgt := 35) (by decide +kernel) (by decide) (fun b6 => ?_) (fun b6 => ?_)
      · rw [if_pos b6] at h
        refine E_blk (lv' := [some (vr (some (4, this))), none, some (vi v2), some (vi v3), some (vi v4), some (vi r5)]) (st' := [vi (1 : Int32)]) (M1 := M4) (pc' := 34) (tb_Checker hγ) [.iconst 1] (by decide +kernel) rfl rfl trivial ?_
        exact E_zret rfl (Or.inr rfl) (by decide +kernel) h
      · rw [if_neg b6] at h
        refine E_blk (lv' := [some (vr (some (4, this))), none, some (vi v2), some (vi v3), some (vi v4), some (vi r5)]) (st' := [vi r5]) (M1 := M4) (pc' := 37) (tb_Checker hγ) [.iload 5] (by decide +kernel) rfl rfl trivial ?_
        refine E_if_gt (off := 5) (tgt := 42) (by decide +kernel) (by decide) (fun b7 => ?_) (fun b7 => ?_)
        · rw [if_pos b7] at h
          refine E_blk (lv' := [some (vr (some (4, this))), none, some (vi v2), some (vi v3), some (vi v4), some (vi r5)]) (st' := [vr (mR M4 4 this 4)]) (M1 := M4) (pc' := 46) (tb_Checker hγ) [.aload_n 0, .getfield 35] (by decide +kernel) rfl rfl trivial ?_
          obtain ⟨i8, ei8, h⟩ := h
          rw [ei8]
          refine E_blk (lv' := [some (vr (some (4, this))), none, some (vi v2), some (vi v3), some (vi v4), some (vi r5)]) (st' := [vi r5, vr (some (5, i8))]) (M1 := M4) (pc' := 48) (tb_Checker hγ) [.iload 5] (by decide +kernel) rfl rfl trivial ?_
          refine E_callV (κ' := k_World_upName) (As := [vi r5]) (st := []) mv_World_upName (Or.inl (tbk_mem (j := 7) (k := 161) rfl)) rfl (by decide +kernel) (Nat.le_of_ble_eq_true rfl) (Nat.le_of_ble_eq_true rfl) rfl (by decide) (lk_World_upName hγ i8 r5 _ M4 h) (fun _ _ => Qi_r) (fun v M9 hp => Qi_k (R := fun st => E γ k_Checker_isUp 2 51 [some (vr (some (4, this))), none, some (vi v2), some (vi v3), some (vi v4), some (vi r5)] st M9 (Qi Q)) hp (fun r10 h => ?_))
          refine E_blk (lv' := [some (vr (some (4, this))), none, some (vi v2), some (vi r10), some (vi (v4 + (1 : Int32))), some (vi r5)]) (st' := []) (M1 := M9) (pc' := 55) (tb_Checker hγ) [.istore_n 3, .iinc 4 1] (by decide +kernel) rfl rfl trivial ?_
          refine E_goto (off := -50) (tgt := 5) (by decide +kernel) (by decide) ?_
          refine E_mask [true, false, true, true, true, false] rfl ?_
          exact ih v2 r10 (v4 + (1 : Int32)) M9 h
        · rw [if_neg b7] at h
          refine E_blk (lv' := [some (vr (some (4, this))), none, some (vi v2), some (vi v3), some (vi v4), some (vi r5)]) (st' := [vi (0 : Int32)]) (M1 := M4) (pc' := 41) (tb_Checker hγ) [.iconst 0] (by decide +kernel) rfl rfl trivial ?_
          exact E_zret rfl (Or.inl rfl) (by decide +kernel) h
set_option maxRecDepth 4096 in
theorem lk_Checker_isUp {γ : Gm} (hγ : Gk γ) (this : Nat) (a1 : Int32) (a2 : Int32) (Q : Int32 → Mem → Prop) (M : Mem) (h : w_Checker_isUp this a1 a2 Q M) : E γ k_Checker_isUp 2 0 [some (vr (some (4, this))), some (vi a1), some (vi a2), none, none, none] [] M (Qi Q) := by
  unfold w_Checker_isUp at h
  refine E_blk (lv' := [some (vr (some (4, this))), some (vi a1), some (vi a2), some (vi a1), some (vi (0 : Int32)), none]) (st' := []) (M1 := M) (pc' := 5) (tb_Checker hγ) [.iload_n 1, .istore_n 3, .iconst 0, .istore 4] (by decide +kernel) rfl rfl trivial ?_
  obtain ⟨n11, h⟩ := h
  refine E_mask [true, false, true, true, true, false] rfl ?_
  exact lk_Checker_isUp_L5 hγ this Q n11 a2 a1 (0 : Int32) M h
def w_Checker_joined_j34 (this : Nat) (Q : Int32 → Mem → Prop) (v1 : Int32) (v2 : Int32) (M : Mem) : Prop :=
  if v1 = (-1 : Int32) then (Q v2 M) else (Q v1 M)
def w_Checker_joined_L97 (this : Nat) (Q : Int32 → Mem → Prop) : Nat → Int32 → Int32 → Int32 → Int32 → Mem → Prop
  | 0, _, _, _, _, _ => False
  | n + 1, v2, v3, v4, v5, M => ∃ i23, (mR M 4 this 4) = some (5, i23) ∧ if (mI M 5 i23 2) < v5 then (Q v3 M) else (∃ i25, (mR M 4 this 4) = some (5, i25) ∧ w_World_find i25 v4 (fun r27 M26 => if 0 ≤ r27 then (w_Checker_isUp this (v2 - (2 : Int32)) r27 (fun r30 M29 => if r30 = 0 then (if r27 = 0 then (Q v3 M29) else (∃ i33, (mR M29 4 this 4) = some (5, i33) ∧ w_World_upName i33 r27 (fun r35 M34 => (w_Checker_joined_L97 this Q n) v2 v3 r35 (v5 + (1 : Int32)) M34) M29)) else (w_Works_kindOf v4 (fun r37 M36 => Q r37 M36) M29)) M26) else (Q v3 M26)) M)
def w_Checker_joined (this : Nat) (a1 : Int32) (a2 : Int32) (Q : Int32 → Mem → Prop) (M : Mem) : Prop :=
  if a1 = a2 then (Q a1 M) else (w_Works_isReference a1 (fun r3 M2 => if r3 = 0 then (Q (-2 : Int32) M2) else (w_Works_isReference a2 (fun r6 M5 => if r6 = 0 then (Q (-2 : Int32) M5) else (if a1 = (-1 : Int32) then (w_Checker_joined_j34 this Q a1 a2 M5) else (if a2 = (-1 : Int32) then (w_Checker_joined_j34 this Q a1 a2 M5) else (w_Works_kindOf (81 : Int32) (fun r12 M11 => if a1 = (1 : Int32) then (Q r12 M11) else (if a2 = (1 : Int32) then (Q r12 M11) else (∃ i15, (mR M11 4 this 4) = some (5, i15) ∧ w_World_find i15 (a1 - (2 : Int32)) (fun r17 M16 => if r17 < 0 then (Q r12 M16) else (∃ i19, (mR M16 4 this 4) = some (5, i19) ∧ w_World_find i19 (a2 - (2 : Int32)) (fun r21 M20 => if 0 ≤ r21 then (∃ n38 : Nat, w_Checker_joined_L97 this Q n38 a2 r12 (a1 - (2 : Int32)) (0 : Int32) M20) else (Q r12 M20)) M16)) M11))) M5)))) M2)) M)
set_option maxRecDepth 4096 in
theorem lk_Checker_joined_j34 {γ : Gm} (hγ : Gk γ) (this : Nat) (Q : Int32 → Mem → Prop) (v1 : Int32) (v2 : Int32) (M : Mem) (h : w_Checker_joined_j34 this Q v1 v2 M) : E γ k_Checker_joined 3 34 [none, some (vi v1), some (vi v2), none, none, none, none] [] M (Qi Q) := by
  unfold w_Checker_joined_j34 at h
  refine E_blk (lv' := [none, some (vi v1), some (vi v2), none, none, none, none]) (st' := [vi (-1 : Int32), vi v1]) (M1 := M) (pc' := 36) (tb_Checker hγ) [.iload_n 1, .iconst (.negSucc 0)] (by decide +kernel) rfl rfl trivial ?_
  refine E_icmp_ne (off := 7) (tgt := 43) (by decide +kernel) (by decide) (fun b9 => ?_) (fun b9 => ?_)
  · rw [if_pos b9] at h
    refine E_blk (lv' := [none, some (vi v1), some (vi v2), none, none, none, none]) (st' := [vi v2]) (M1 := M) (pc' := 40) (tb_Checker hγ) [.iload_n 2] (by decide +kernel) rfl rfl trivial ?_
    refine E_goto (off := 4) (tgt := 44) (by decide +kernel) (by decide) ?_
    exact E_iret rfl (by decide +kernel) h
  · rw [if_neg b9] at h
    refine E_blk (lv' := [none, some (vi v1), some (vi v2), none, none, none, none]) (st' := [vi v1]) (M1 := M) (pc' := 44) (tb_Checker hγ) [.iload_n 1] (by decide +kernel) rfl rfl trivial ?_
    exact E_iret rfl (by decide +kernel) h
set_option maxRecDepth 4096 in
theorem lk_Checker_joined_L97 {γ : Gm} (hγ : Gk γ) (this : Nat) (Q : Int32 → Mem → Prop) : ∀ (n : Nat) (v2 : Int32) (v3 : Int32) (v4 : Int32) (v5 : Int32) (M : Mem), w_Checker_joined_L97 this Q n v2 v3 v4 v5 M → E γ k_Checker_joined 3 97 [some (vr (some (4, this))), none, some (vi v2), some (vi v3), some (vi v4), some (vi v5), none] [] M (Qi Q) := by
  intro n
  induction n with
  | zero => intro v2 v3 v4 v5 M h; exact h.elim
  | succ n ih =>
    intro v2 v3 v4 v5 M h
    unfold w_Checker_joined_L97 at h
    refine E_blk (lv' := [some (vr (some (4, this))), none, some (vi v2), some (vi v3), some (vi v4), some (vi v5), none]) (st' := [vr (mR M 4 this 4), vi v5]) (M1 := M) (pc' := 103) (tb_Checker hγ) [.iload 5, .aload_n 0, .getfield 35] (by decide +kernel) rfl rfl trivial ?_
    obtain ⟨i23, ei23, h⟩ := h
    rw [ei23]
    refine E_blk (lv' := [some (vr (some (4, this))), none, some (vi v2), some (vi v3), some (vi v4), some (vi v5), none]) (st' := [vi (mI M 5 i23 2), vi v5]) (M1 := M) (pc' := 106) (tb_Checker hγ) [.getfield 231] (by decide +kernel) rfl rfl trivial ?_
    refine E_icmp_gt (off := 63) (tgt := 169) (by decide +kernel) (by decide) (fun b24 => ?_) (fun b24 => ?_)
    · rw [if_pos b24] at h
      refine E_blk (lv' := [some (vr (some (4, this))), none, some (vi v2), some (vi v3), some (vi v4), some (vi v5), none]) (st' := [vi v3]) (M1 := M) (pc' := 170) (tb_Checker hγ) [.iload_n 3] (by decide +kernel) rfl rfl trivial ?_
      exact E_iret rfl (by decide +kernel) h
    · rw [if_neg b24] at h
      refine E_blk (lv' := [some (vr (some (4, this))), none, some (vi v2), some (vi v3), some (vi v4), some (vi v5), none]) (st' := [vr (mR M 4 this 4)]) (M1 := M) (pc' := 113) (tb_Checker hγ) [.aload_n 0, .getfield 35] (by decide +kernel) rfl rfl trivial ?_
      obtain ⟨i25, ei25, h⟩ := h
      rw [ei25]
      refine E_blk (lv' := [some (vr (some (4, this))), none, some (vi v2), some (vi v3), some (vi v4), some (vi v5), none]) (st' := [vi v4, vr (some (5, i25))]) (M1 := M) (pc' := 115) (tb_Checker hγ) [.iload 4] (by decide +kernel) rfl rfl trivial ?_
      refine E_callV (κ' := k_World_find) (As := [vi v4]) (st := []) mv_World_find (Or.inl (tbk_mem (j := 7) (k := 159) rfl)) rfl (by decide +kernel) (Nat.le_of_ble_eq_true rfl) (Nat.le_of_ble_eq_true rfl) rfl (by decide) (lk_World_find hγ i25 v4 _ M h) (fun _ _ => Qi_r) (fun v M26 hp => Qi_k (R := fun st => E γ k_Checker_joined 3 118 [some (vr (some (4, this))), none, some (vi v2), some (vi v3), some (vi v4), some (vi v5), none] st M26 (Qi Q)) hp (fun r27 h => ?_))
      refine E_blk (lv' := [some (vr (some (4, this))), none, some (vi v2), some (vi v3), some (vi v4), some (vi v5), some (vi r27)]) (st' := [vi r27]) (M1 := M26) (pc' := 122) (tb_Checker hγ) [.istore 6, .iload 6] (by decide +kernel) rfl rfl trivial ?_
      refine E_if_ge (off := 5) (tgt := 127) (by decide +kernel) (by decide) (fun b28 => ?_) (fun b28 => ?_)
      · rw [if_pos b28] at h
        refine E_blk (lv' := [some (vr (some (4, this))), none, some (vi v2), some (vi v3), some (vi v4), some (vi v5), some (vi r27)]) (st' := [vi r27, vi (v2 - (2 : Int32)), vr (some (4, this))]) (M1 := M26) (pc' := 133) (tb_Checker hγ) [.aload_n 0, .iload_n 2, .iconst 2, .isub, .iload 6] (by decide +kernel) rfl rfl trivial ?_
        refine E_callV (κ' := k_Checker_isUp) (As := [vi (v2 - (2 : Int32)), vi r27]) (st := []) mv_Checker_isUp (Or.inl (tbk_mem (j := 7) (k := 195) rfl)) rfl (by decide +kernel) (Nat.le_of_ble_eq_true rfl) (Nat.le_of_ble_eq_true rfl) rfl (by decide) (lk_Checker_isUp hγ this (v2 - (2 : Int32)) r27 _ M26 h) (fun _ _ => Qi_r) (fun v M29 hp => Qi_k (R := fun st => E γ k_Checker_joined 3 136 [some (vr (some (4, this))), none, some (vi v2), some (vi v3), some (vi v4), some (vi v5), some (vi r27)] st M29 (Qi Q)) hp (fun r30 h => ?_))
        refine E_if_eq (off := 9) (tgt := 145) (by decide +kernel) (by decide) (fun b31 => ?_) (fun b31 => ?_)
        · rw [if_pos b31] at h
          refine E_blk (lv' := [some (vr (some (4, this))), none, some (vi v2), some (vi v3), some (vi v4), some (vi v5), some (vi r27)]) (st' := [vi r27]) (M1 := M29) (pc' := 147) (tb_Checker hγ) [.iload 6] (by decide +kernel) rfl rfl trivial ?_
          refine E_if_ne (off := 5) (tgt := 152) (by decide +kernel) (by decide) (fun b32 => ?_) (fun b32 => ?_)
          · rw [if_pos b32] at h
            refine E_blk (lv' := [some (vr (some (4, this))), none, some (vi v2), some (vi v3), some (vi v4), some (vi v5), some (vi r27)]) (st' := [vi v3]) (M1 := M29) (pc' := 151) (tb_Checker hγ) [.iload_n 3] (by decide +kernel) rfl rfl trivial ?_
            exact E_iret rfl (by decide +kernel) h
          · rw [if_neg b32] at h
            refine E_blk (lv' := [some (vr (some (4, this))), none, some (vi v2), some (vi v3), some (vi v4), some (vi v5), some (vi r27)]) (st' := [vr (mR M29 4 this 4)]) (M1 := M29) (pc' := 156) (tb_Checker hγ) [.aload_n 0, .getfield 35] (by decide +kernel) rfl rfl trivial ?_
            obtain ⟨i33, ei33, h⟩ := h
            rw [ei33]
            refine E_blk (lv' := [some (vr (some (4, this))), none, some (vi v2), some (vi v3), some (vi v4), some (vi v5), some (vi r27)]) (st' := [vi r27, vr (some (5, i33))]) (M1 := M29) (pc' := 158) (tb_Checker hγ) [.iload 6] (by decide +kernel) rfl rfl trivial ?_
            refine E_callV (κ' := k_World_upName) (As := [vi r27]) (st := []) mv_World_upName (Or.inl (tbk_mem (j := 7) (k := 161) rfl)) rfl (by decide +kernel) (Nat.le_of_ble_eq_true rfl) (Nat.le_of_ble_eq_true rfl) rfl (by decide) (lk_World_upName hγ i33 r27 _ M29 h) (fun _ _ => Qi_r) (fun v M34 hp => Qi_k (R := fun st => E γ k_Checker_joined 3 161 [some (vr (some (4, this))), none, some (vi v2), some (vi v3), some (vi v4), some (vi v5), some (vi r27)] st M34 (Qi Q)) hp (fun r35 h => ?_))
            refine E_blk (lv' := [some (vr (some (4, this))), none, some (vi v2), some (vi v3), some (vi r35), some (vi (v5 + (1 : Int32))), some (vi r27)]) (st' := []) (M1 := M34) (pc' := 166) (tb_Checker hγ) [.istore 4, .iinc 5 1] (by decide +kernel) rfl rfl trivial ?_
            refine E_goto (off := -69) (tgt := 97) (by decide +kernel) (by decide) ?_
            refine E_mask [true, false, true, true, true, true, false] rfl ?_
            exact ih v2 v3 r35 (v5 + (1 : Int32)) M34 h
        · rw [if_neg b31] at h
          refine E_blk (lv' := [some (vr (some (4, this))), none, some (vi v2), some (vi v3), some (vi v4), some (vi v5), some (vi r27)]) (st' := [vi v4]) (M1 := M29) (pc' := 141) (tb_Checker hγ) [.iload 4] (by decide +kernel) rfl rfl trivial ?_
          refine E_callS (κ' := k_Works_kindOf) (As := [vi v4]) (st := []) ms_Works_kindOf (Or.inr ⟨"ClassWorks", (tbk_mem (j := 7) (k := 130) rfl)⟩) rfl (by decide +kernel) (Nat.le_of_ble_eq_true rfl) (Nat.le_of_ble_eq_true rfl) rfl (by decide) (lk_Works_kindOf hγ v4 _ M29 h) (fun _ _ => Qi_r) (fun v M36 hp => Qi_k (R := fun st => E γ k_Checker_joined 3 144 [some (vr (some (4, this))), none, some (vi v2), some (vi v3), some (vi v4), some (vi v5), some (vi r27)] st M36 (Qi Q)) hp (fun r37 h => ?_))
          exact E_iret rfl (by decide +kernel) h
      · rw [if_neg b28] at h
        refine E_blk (lv' := [some (vr (some (4, this))), none, some (vi v2), some (vi v3), some (vi v4), some (vi v5), some (vi r27)]) (st' := [vi v3]) (M1 := M26) (pc' := 126) (tb_Checker hγ) [.iload_n 3] (by decide +kernel) rfl rfl trivial ?_
        exact E_iret rfl (by decide +kernel) h
set_option maxRecDepth 4096 in
theorem lk_Checker_joined {γ : Gm} (hγ : Gk γ) (this : Nat) (a1 : Int32) (a2 : Int32) (Q : Int32 → Mem → Prop) (M : Mem) (h : w_Checker_joined this a1 a2 Q M) : E γ k_Checker_joined 3 0 [some (vr (some (4, this))), some (vi a1), some (vi a2), none, none, none, none] [] M (Qi Q) := by
  unfold w_Checker_joined at h
  refine E_blk (lv' := [some (vr (some (4, this))), some (vi a1), some (vi a2), none, none, none, none]) (st' := [vi a2, vi a1]) (M1 := M) (pc' := 2) (tb_Checker hγ) [.iload_n 1, .iload_n 2] (by decide +kernel) rfl rfl trivial ?_
  refine E_icmp_ne (off := 5) (tgt := 7) (by decide +kernel) (by decide) (fun b1 => ?_) (fun b1 => ?_)
  · rw [if_pos b1] at h
    refine E_blk (lv' := [some (vr (some (4, this))), some (vi a1), some (vi a2), none, none, none, none]) (st' := [vi a1]) (M1 := M) (pc' := 6) (tb_Checker hγ) [.iload_n 1] (by decide +kernel) rfl rfl trivial ?_
    exact E_iret rfl (by decide +kernel) h
  · rw [if_neg b1] at h
    refine E_blk (lv' := [some (vr (some (4, this))), some (vi a1), some (vi a2), none, none, none, none]) (st' := [vi a1]) (M1 := M) (pc' := 8) (tb_Checker hγ) [.iload_n 1] (by decide +kernel) rfl rfl trivial ?_
    refine E_callS (κ' := k_Works_isReference) (As := [vi a1]) (st := []) ms_Works_isReference (Or.inr ⟨"ClassWorks", (tbk_mem (j := 7) (k := 192) rfl)⟩) rfl (by decide +kernel) (Nat.le_of_ble_eq_true rfl) (Nat.le_of_ble_eq_true rfl) rfl (by decide) (lk_Works_isReference hγ a1 _ M h) (fun _ _ => Qi_r) (fun v M2 hp => Qi_k (R := fun st => E γ k_Checker_joined 3 11 [some (vr (some (4, this))), some (vi a1), some (vi a2), none, none, none, none] st M2 (Qi Q)) hp (fun r3 h => ?_))
    refine E_if_eq (off := 10) (tgt := 21) (by decide +kernel) (by decide) (fun b4 => ?_) (fun b4 => ?_)
    · rw [if_pos b4] at h
      refine E_blk (lv' := [some (vr (some (4, this))), some (vi a1), some (vi a2), none, none, none, none]) (st' := [vi (-2 : Int32)]) (M1 := M2) (pc' := 23) (tb_Checker hγ) [.bipush (.negSucc 1)] (by decide +kernel) rfl rfl trivial ?_
      exact E_iret rfl (by decide +kernel) h
    · rw [if_neg b4] at h
      refine E_blk (lv' := [some (vr (some (4, this))), some (vi a1), some (vi a2), none, none, none, none]) (st' := [vi a2]) (M1 := M2) (pc' := 15) (tb_Checker hγ) [.iload_n 2] (by decide +kernel) rfl rfl trivial ?_
      refine E_callS (κ' := k_Works_isReference) (As := [vi a2]) (st := []) ms_Works_isReference (Or.inr ⟨"ClassWorks", (tbk_mem (j := 7) (k := 192) rfl)⟩) rfl (by decide +kernel) (Nat.le_of_ble_eq_true rfl) (Nat.le_of_ble_eq_true rfl) rfl (by decide) (lk_Works_isReference hγ a2 _ M2 h) (fun _ _ => Qi_r) (fun v M5 hp => Qi_k (R := fun st => E γ k_Checker_joined 3 18 [some (vr (some (4, this))), some (vi a1), some (vi a2), none, none, none, none] st M5 (Qi Q)) hp (fun r6 h => ?_))
      refine E_if_ne (off := 6) (tgt := 24) (by decide +kernel) (by decide) (fun b7 => ?_) (fun b7 => ?_)
      · rw [if_pos b7] at h
        refine E_blk (lv' := [some (vr (some (4, this))), some (vi a1), some (vi a2), none, none, none, none]) (st' := [vi (-2 : Int32)]) (M1 := M5) (pc' := 23) (tb_Checker hγ) [.bipush (.negSucc 1)] (by decide +kernel) rfl rfl trivial ?_
        exact E_iret rfl (by decide +kernel) h
      · rw [if_neg b7] at h
        refine E_blk (lv' := [some (vr (some (4, this))), some (vi a1), some (vi a2), none, none, none, none]) (st' := [vi (-1 : Int32), vi a1]) (M1 := M5) (pc' := 26) (tb_Checker hγ) [.iload_n 1, .iconst (.negSucc 0)] (by decide +kernel) rfl rfl trivial ?_
        refine E_icmp_eq (off := 8) (tgt := 34) (by decide +kernel) (by decide) (fun b8 => ?_) (fun b8 => ?_)
        · rw [if_pos b8] at h
          refine E_mask [false, true, true, false, false, false, false] rfl ?_
          exact lk_Checker_joined_j34 hγ this Q a1 a2 M5 h
        · rw [if_neg b8] at h
          refine E_blk (lv' := [some (vr (some (4, this))), some (vi a1), some (vi a2), none, none, none, none]) (st' := [vi (-1 : Int32), vi a2]) (M1 := M5) (pc' := 31) (tb_Checker hγ) [.iload_n 2, .iconst (.negSucc 0)] (by decide +kernel) rfl rfl trivial ?_
          refine E_icmp_ne (off := 14) (tgt := 45) (by decide +kernel) (by decide) (fun b10 => ?_) (fun b10 => ?_)
          · rw [if_pos b10] at h
            refine E_mask [false, true, true, false, false, false, false] rfl ?_
            exact lk_Checker_joined_j34 hγ this Q a1 a2 M5 h
          · rw [if_neg b10] at h
            refine E_blk (lv' := [some (vr (some (4, this))), some (vi a1), some (vi a2), none, none, none, none]) (st' := [vi (81 : Int32)]) (M1 := M5) (pc' := 47) (tb_Checker hγ) [.bipush 81] (by decide +kernel) rfl rfl trivial ?_
            refine E_callS (κ' := k_Works_kindOf) (As := [vi (81 : Int32)]) (st := []) ms_Works_kindOf (Or.inr ⟨"ClassWorks", (tbk_mem (j := 7) (k := 130) rfl)⟩) rfl (by decide +kernel) (Nat.le_of_ble_eq_true rfl) (Nat.le_of_ble_eq_true rfl) rfl (by decide) (lk_Works_kindOf hγ (81 : Int32) _ M5 h) (fun _ _ => Qi_r) (fun v M11 hp => Qi_k (R := fun st => E γ k_Checker_joined 3 50 [some (vr (some (4, this))), some (vi a1), some (vi a2), none, none, none, none] st M11 (Qi Q)) hp (fun r12 h => ?_))
            refine E_blk (lv' := [some (vr (some (4, this))), some (vi a1), some (vi a2), some (vi r12), none, none, none]) (st' := [vi (1 : Int32), vi a1]) (M1 := M11) (pc' := 53) (tb_Checker hγ) [.istore_n 3, .iload_n 1, .iconst 1] (by decide +kernel) rfl rfl trivial ?_
            refine E_icmp_eq (off := 34) (tgt := 87) (by decide +kernel) (by decide) (fun b13 => ?_) (fun b13 => ?_)
            · rw [if_pos b13] at h
              refine E_blk (lv' := [some (vr (some (4, this))), some (vi a1), some (vi a2), some (vi r12), none, none, none]) (st' := [vi r12]) (M1 := M11) (pc' := 88) (tb_Checker hγ) [.iload_n 3] (by decide +kernel) rfl rfl trivial ?_
              exact E_iret rfl (by decide +kernel) h
            · rw [if_neg b13] at h
              refine E_blk (lv' := [some (vr (some (4, this))), some (vi a1), some (vi a2), some (vi r12), none, none, none]) (st' := [vi (1 : Int32), vi a2]) (M1 := M11) (pc' := 58) (tb_Checker hγ) [.iload_n 2, .iconst 1] (by decide +kernel) rfl rfl trivial ?_
              refine E_icmp_eq (off := 29) (tgt := 87) (by decide +kernel) (by decide) (fun b14 => ?_) (fun b14 => ?_)
              · rw [if_pos b14] at h
                refine E_blk (lv' := [some (vr (some (4, this))), some (vi a1), some (vi a2), some (vi r12), none, none, none]) (st' := [vi r12]) (M1 := M11) (pc' := 88) (tb_Checker hγ) [.iload_n 3] (by decide +kernel) rfl rfl trivial ?_
                exact E_iret rfl (by decide +kernel) h
              · rw [if_neg b14] at h
                refine E_blk (lv' := [some (vr (some (4, this))), some (vi a1), some (vi a2), some (vi r12), none, none, none]) (st' := [vr (mR M11 4 this 4)]) (M1 := M11) (pc' := 65) (tb_Checker hγ) [.aload_n 0, .getfield 35] (by decide +kernel) rfl rfl trivial ?_
                obtain ⟨i15, ei15, h⟩ := h
                rw [ei15]
                refine E_blk (lv' := [some (vr (some (4, this))), some (vi a1), some (vi a2), some (vi r12), none, none, none]) (st' := [vi (a1 - (2 : Int32)), vr (some (5, i15))]) (M1 := M11) (pc' := 68) (tb_Checker hγ) [.iload_n 1, .iconst 2, .isub] (by decide +kernel) rfl rfl trivial ?_
                refine E_callV (κ' := k_World_find) (As := [vi (a1 - (2 : Int32))]) (st := []) mv_World_find (Or.inl (tbk_mem (j := 7) (k := 159) rfl)) rfl (by decide +kernel) (Nat.le_of_ble_eq_true rfl) (Nat.le_of_ble_eq_true rfl) rfl (by decide) (lk_World_find hγ i15 (a1 - (2 : Int32)) _ M11 h) (fun _ _ => Qi_r) (fun v M16 hp => Qi_k (R := fun st => E γ k_Checker_joined 3 71 [some (vr (some (4, this))), some (vi a1), some (vi a2), some (vi r12), none, none, none] st M16 (Qi Q)) hp (fun r17 h => ?_))
                refine E_if_lt (off := 16) (tgt := 87) (by decide +kernel) (by decide) (fun b18 => ?_) (fun b18 => ?_)
                · rw [if_pos b18] at h
                  refine E_blk (lv' := [some (vr (some (4, this))), some (vi a1), some (vi a2), some (vi r12), none, none, none]) (st' := [vi r12]) (M1 := M16) (pc' := 88) (tb_Checker hγ) [.iload_n 3] (by decide +kernel) rfl rfl trivial ?_
                  exact E_iret rfl (by decide +kernel) h
                · rw [if_neg b18] at h
                  refine E_blk (lv' := [some (vr (some (4, this))), some (vi a1), some (vi a2), some (vi r12), none, none, none]) (st' := [vr (mR M16 4 this 4)]) (M1 := M16) (pc' := 78) (tb_Checker hγ) [.aload_n 0, .getfield 35] (by decide +kernel) rfl rfl trivial ?_
                  obtain ⟨i19, ei19, h⟩ := h
                  rw [ei19]
                  refine E_blk (lv' := [some (vr (some (4, this))), some (vi a1), some (vi a2), some (vi r12), none, none, none]) (st' := [vi (a2 - (2 : Int32)), vr (some (5, i19))]) (M1 := M16) (pc' := 81) (tb_Checker hγ) [.iload_n 2, .iconst 2, .isub] (by decide +kernel) rfl rfl trivial ?_
                  refine E_callV (κ' := k_World_find) (As := [vi (a2 - (2 : Int32))]) (st := []) mv_World_find (Or.inl (tbk_mem (j := 7) (k := 159) rfl)) rfl (by decide +kernel) (Nat.le_of_ble_eq_true rfl) (Nat.le_of_ble_eq_true rfl) rfl (by decide) (lk_World_find hγ i19 (a2 - (2 : Int32)) _ M16 h) (fun _ _ => Qi_r) (fun v M20 hp => Qi_k (R := fun st => E γ k_Checker_joined 3 84 [some (vr (some (4, this))), some (vi a1), some (vi a2), some (vi r12), none, none, none] st M20 (Qi Q)) hp (fun r21 h => ?_))
                  refine E_if_ge (off := 5) (tgt := 89) (by decide +kernel) (by decide) (fun b22 => ?_) (fun b22 => ?_)
                  · rw [if_pos b22] at h
                    refine E_blk (lv' := [some (vr (some (4, this))), some (vi a1), some (vi a2), some (vi r12), some (vi (a1 - (2 : Int32))), some (vi (0 : Int32)), none]) (st' := []) (M1 := M20) (pc' := 97) (tb_Checker hγ) [.iload_n 1, .iconst 2, .isub, .istore 4, .iconst 0, .istore 5] (by decide +kernel) rfl rfl trivial ?_
                    obtain ⟨n38, h⟩ := h
                    refine E_mask [true, false, true, true, true, true, false] rfl ?_
                    exact lk_Checker_joined_L97 hγ this Q n38 a2 r12 (a1 - (2 : Int32)) (0 : Int32) M20 h
                  · rw [if_neg b22] at h
                    refine E_blk (lv' := [some (vr (some (4, this))), some (vi a1), some (vi a2), some (vi r12), none, none, none]) (st' := [vi r12]) (M1 := M20) (pc' := 88) (tb_Checker hγ) [.iload_n 3] (by decide +kernel) rfl rfl trivial ?_
                    exact E_iret rfl (by decide +kernel) h
def w_Checker_put_j20 (this : Nat) (Q : Mem → Prop) (v1 : Int32) (v2 : Int32) (s0 : Int32) (s1 : Int32) (M : Mem) : Prop :=
  ((s1 ||| s0) = 0 ∨ (s1 ||| s0) = 1) ∧ vp_in v1 (mL (sI M 4 this 14 (s1 ||| s0)) 34 this) ∧ Q (sI (sI M 4 this 14 (s1 ||| s0)) 34 this v1.toNatClampNeg v2)
def w_Checker_put (this : Nat) (a1 : Int32) (a2 : Int32) (Q : Mem → Prop) (M : Mem) : Prop :=
  vp_in a1 (mL M 34 this) ∧ if (mI M 34 this a1.toNatClampNeg) = a2 then (w_Checker_put_j20 this Q a1 a2 (0 : Int32) (mI M 4 this 14) M) else (w_Checker_put_j20 this Q a1 a2 (1 : Int32) (mI M 4 this 14) M)
set_option maxRecDepth 4096 in
theorem lk_Checker_put_j20 {γ : Gm} (hγ : Gk γ) (this : Nat) (Q : Mem → Prop) (v1 : Int32) (v2 : Int32) (s0 : Int32) (s1 : Int32) (M : Mem) (h : w_Checker_put_j20 this Q v1 v2 s0 s1 M) : E γ k_Checker_put 0 20 [some (vr (some (4, this))), some (vi v1), some (vi v2)] [vi s0, vi s1, vr (some (4, this))] M (Qv Q) := by
  unfold w_Checker_put_j20 at h
  obtain ⟨c3, c4, h⟩ := h
  refine E_blk (lv' := [some (vr (some (4, this))), some (vi v1), some (vi v2)]) (st' := []) (M1 := (sI (sI M 4 this 14 (s1 ||| s0)) 34 this v1.toNatClampNeg v2)) (pc' := 31) (tb_Checker hγ) [.ior, .putfield 180, .aload_n 0, .getfield 29, .iload_n 1, .iload_n 2, .iastore] (by decide +kernel) rfl rfl ⟨c3, c4, trivial⟩ ?_
  exact E_vret rfl (by decide +kernel) h
set_option maxRecDepth 4096 in
theorem lk_Checker_put {γ : Gm} (hγ : Gk γ) (this : Nat) (a1 : Int32) (a2 : Int32) (Q : Mem → Prop) (M : Mem) (h : w_Checker_put this a1 a2 Q M) : E γ k_Checker_put 0 0 [some (vr (some (4, this))), some (vi a1), some (vi a2)] [] M (Qv Q) := by
  unfold w_Checker_put at h
  obtain ⟨c1, h⟩ := h
  refine E_blk (lv' := [some (vr (some (4, this))), some (vi a1), some (vi a2)]) (st' := [vi a2, vi (mI M 34 this a1.toNatClampNeg), vi (mI M 4 this 14), vr (some (4, this))]) (M1 := M) (pc' := 12) (tb_Checker hγ) [.aload_n 0, .dup, .getfield 180, .aload_n 0, .getfield 29, .iload_n 1, .iaload, .iload_n 2] (by decide +kernel) rfl rfl ⟨c1, trivial⟩ ?_
  refine E_icmp_eq (off := 7) (tgt := 19) (by decide +kernel) (by decide) (fun b2 => ?_) (fun b2 => ?_)
  · rw [if_pos b2] at h
    refine E_blk (lv' := [some (vr (some (4, this))), some (vi a1), some (vi a2)]) (st' := [vi (0 : Int32), vi (mI M 4 this 14), vr (some (4, this))]) (M1 := M) (pc' := 20) (tb_Checker hγ) [.iconst 0] (by decide +kernel) rfl rfl trivial ?_
    refine E_mask [true, true, true] rfl ?_
    exact lk_Checker_put_j20 hγ this Q a1 a2 (0 : Int32) (mI M 4 this 14) M h
  · rw [if_neg b2] at h
    refine E_blk (lv' := [some (vr (some (4, this))), some (vi a1), some (vi a2)]) (st' := [vi (1 : Int32), vi (mI M 4 this 14), vr (some (4, this))]) (M1 := M) (pc' := 16) (tb_Checker hγ) [.iconst 1] (by decide +kernel) rfl rfl trivial ?_
    refine E_goto (off := 4) (tgt := 20) (by decide +kernel) (by decide) ?_
    refine E_mask [true, true, true] rfl ?_
    exact lk_Checker_put_j20 hγ this Q a1 a2 (1 : Int32) (mI M 4 this 14) M h
def w_Checker_joins_L193 (this : Nat) (Q : Int32 → Mem → Prop) : Nat → Int32 → Int32 → Mem → Prop
  | 0, _, _, _ => False
  | n + 1, v2, v3, M => if (mI M 4 this 2) ≤ v3 then (Q (1 : Int32) M) else (vp_in ((v2 + (20 : Int32)) + v3) (mL M 34 this) ∧ vp_in v3 (mL M 32 this) ∧ w_Checker_joined this (mI M 34 this ((v2 + (20 : Int32)) + v3).toNatClampNeg) (mI M 32 this v3.toNatClampNeg) (fun r29 M28 => w_Checker_put this ((v2 + (20 : Int32)) + v3) r29 (fun M30 => (w_Checker_joins_L193 this Q n) v2 (v3 + (1 : Int32)) M30) M28) M)
def w_Checker_joins_L144 (this : Nat) (Q : Int32 → Mem → Prop) : Nat → Int32 → Int32 → Mem → Prop
  | 0, _, _, _ => False
  | n + 1, v2, v3, M => ∃ i22, (mR M 4 this 4) = some (5, i22) ∧ vp_in (mI M 4 this 6) (mL M 61 i22) ∧ if (mI M 61 i22 (mI M 4 this 6).toNatClampNeg) ≤ v3 then (∃ n31 : Nat, w_Checker_joins_L193 this Q n31 v2 (0 : Int32) M) else (vp_in (v2 + v3) (mL M 34 this) ∧ vp_in v3 (mL M 31 this) ∧ w_Checker_joined this (mI M 34 this (v2 + v3).toNatClampNeg) (mI M 31 this v3.toNatClampNeg) (fun r35 M34 => w_Checker_put this (v2 + v3) r35 (fun M36 => (w_Checker_joins_L144 this Q n) v2 (v3 + (1 : Int32)) M36) M34) M)
def w_Checker_joins_L95 (this : Nat) (Q : Int32 → Mem → Prop) : Nat → Int32 → Int32 → Mem → Prop
  | 0, _, _, _ => False
  | n + 1, v2, v3, M => if (mI M 4 this 2) ≤ v3 then (∃ n37 : Nat, w_Checker_joins_L144 this Q n37 v2 (0 : Int32) M) else (vp_in ((v2 + (20 : Int32)) + v3) (mL M 34 this) ∧ vp_in v3 (mL M 32 this) ∧ w_Checker_joined this (mI M 34 this ((v2 + (20 : Int32)) + v3).toNatClampNeg) (mI M 32 this v3.toNatClampNeg) (fun r41 M40 => if r41 = (-2 : Int32) then (w_Checker_breaks this (37 : Int32) (fun r44 M43 => (r44 = 0 ∨ r44 = 1) ∧ Q r44 M43) M40) else ((w_Checker_joins_L95 this Q n) v2 (v3 + (1 : Int32)) M40)) M)
def w_Checker_joins (this : Nat) (a1 : Int32) (Q : Int32 → Mem → Prop) (M : Mem) : Prop :=
  vp_in a1 (mL M 510 this) ∧ if (mI M 510 this a1.toNatClampNeg) = 0 then (vp_in a1 (mL M 510 this) ∧ vp_in a1 (mL (sI M 510 this a1.toNatClampNeg ((1 : Int32) &&& 1)) 33 this) ∧ ∃ M5, M5 = (sI (sI M 510 this a1.toNatClampNeg ((1 : Int32) &&& 1)) 33 this a1.toNatClampNeg (mI (sI M 510 this a1.toNatClampNeg ((1 : Int32) &&& 1)) 4 this 2)) ∧ ¬ (0 : Int32) < 0 ∧ ¬ ((40 : Int32) * a1) < 0 ∧ ¬ (20 : Int32) < 0 ∧ (0 : Int32).toNatClampNeg + (20 : Int32).toNatClampNeg ≤ mL M5 31 this ∧ ((40 : Int32) * a1).toNatClampNeg + (20 : Int32).toNatClampNeg ≤ mL M5 34 this ∧ ∃ M6, M6 = cpI M5 31 this (0 : Int32).toNatClampNeg 34 this ((40 : Int32) * a1).toNatClampNeg (20 : Int32).toNatClampNeg ∧ ¬ (0 : Int32) < 0 ∧ ¬ (((40 : Int32) * a1) + (20 : Int32)) < 0 ∧ ¬ (mI M6 4 this 2) < 0 ∧ (0 : Int32).toNatClampNeg + (mI M6 4 this 2).toNatClampNeg ≤ mL M6 32 this ∧ (((40 : Int32) * a1) + (20 : Int32)).toNatClampNeg + (mI M6 4 this 2).toNatClampNeg ≤ mL M6 34 this ∧ ∃ M12, M12 = cpI M6 32 this (0 : Int32).toNatClampNeg 34 this (((40 : Int32) * a1) + (20 : Int32)).toNatClampNeg (mI M6 4 this 2).toNatClampNeg ∧ ((1 : Int32) = 0 ∨ (1 : Int32) = 1) ∧ Q (1 : Int32) (sI M12 4 this 14 (1 : Int32))) else (vp_in a1 (mL M 33 this) ∧ if (mI M 33 this a1.toNatClampNeg) = (mI M 4 this 2) then (∃ n45 : Nat, w_Checker_joins_L95 this Q n45 ((40 : Int32) * a1) (0 : Int32) M) else (w_Checker_breaks this (37 : Int32) (fun r47 M46 => (r47 = 0 ∨ r47 = 1) ∧ Q r47 M46) M))
set_option maxRecDepth 4096 in
theorem lk_Checker_joins_L193 {γ : Gm} (hγ : Gk γ) (this : Nat) (Q : Int32 → Mem → Prop) : ∀ (n : Nat) (v2 : Int32) (v3 : Int32) (M : Mem), w_Checker_joins_L193 this Q n v2 v3 M → E γ k_Checker_joins 4 193 [some (vr (some (4, this))), none, some (vi v2), some (vi v3)] [] M (Qi Q) := by
  intro n
  induction n with
  | zero => intro v2 v3 M h; exact h.elim
  | succ n ih =>
    intro v2 v3 M h
    unfold w_Checker_joins_L193 at h
    refine E_blk (lv' := [some (vr (some (4, this))), none, some (vi v2), some (vi v3)]) (st' := [vi (mI M 4 this 2), vi v3]) (M1 := M) (pc' := 198) (tb_Checker hγ) [.iload_n 3, .aload_n 0, .getfield 102] (by decide +kernel) rfl rfl trivial ?_
    refine E_icmp_ge (off := 40) (tgt := 238) (by decide +kernel) (by decide) (fun b25 => ?_) (fun b25 => ?_)
    · rw [if_pos b25] at h
      refine E_blk (lv' := [some (vr (some (4, this))), none, some (vi v2), some (vi v3)]) (st' := [vi (1 : Int32)]) (M1 := M) (pc' := 239) (tb_Checker hγ) [.iconst 1] (by decide +kernel) rfl rfl trivial ?_
      exact E_zret rfl (Or.inr rfl) (by decide +kernel) h
    · rw [if_neg b25] at h
      obtain ⟨c26, c27, h⟩ := h
      refine E_blk (lv' := [some (vr (some (4, this))), none, some (vi v2), some (vi v3)]) (st' := [vi (mI M 32 this v3.toNatClampNeg), vi (mI M 34 this ((v2 + (20 : Int32)) + v3).toNatClampNeg), vr (some (4, this)), vi ((v2 + (20 : Int32)) + v3), vr (some (4, this))]) (M1 := M) (pc' := 226) (tb_Checker hγ) [.aload_n 0, .iload_n 2, .bipush 20, .iadd, .iload_n 3, .iadd, .aload_n 0, .aload_n 0, .getfield 29, .iload_n 2, .bipush 20, .iadd, .iload_n 3, .iadd, .iaload, .aload_n 0, .getfield 19, .iload_n 3, .iaload] (by decide +kernel) rfl rfl ⟨c26, c27, trivial⟩ ?_
      refine E_callV (κ' := k_Checker_joined) (As := [vi (mI M 34 this ((v2 + (20 : Int32)) + v3).toNatClampNeg), vi (mI M 32 this v3.toNatClampNeg)]) (st := [vi ((v2 + (20 : Int32)) + v3), vr (some (4, this))]) mv_Checker_joined (Or.inl (tbk_mem (j := 7) (k := 188) rfl)) rfl (by decide +kernel) (Nat.le_of_ble_eq_true rfl) (Nat.le_of_ble_eq_true rfl) rfl (by decide) (lk_Checker_joined hγ this (mI M 34 this ((v2 + (20 : Int32)) + v3).toNatClampNeg) (mI M 32 this v3.toNatClampNeg) _ M h) (fun _ _ => Qi_r) (fun v M28 hp => Qi_k (R := fun st => E γ k_Checker_joins 4 229 [some (vr (some (4, this))), none, some (vi v2), some (vi v3)] st M28 (Qi Q)) hp (fun r29 h => ?_))
      refine E_callV (κ' := k_Checker_put) (As := [vi ((v2 + (20 : Int32)) + v3), vi r29]) (st := []) mv_Checker_put (Or.inl (tbk_mem (j := 7) (k := 199) rfl)) rfl (by decide +kernel) (Nat.le_of_ble_eq_true rfl) (Nat.le_of_ble_eq_true rfl) rfl (by decide) (lk_Checker_put hγ this ((v2 + (20 : Int32)) + v3) r29 _ M28 h) (fun _ _ => Qv_r) (fun v M30 hp => Qv_k (R := fun st => E γ k_Checker_joins 4 232 [some (vr (some (4, this))), none, some (vi v2), some (vi v3)] st M30 (Qi Q)) hp (fun h => ?_))
      refine E_blk (lv' := [some (vr (some (4, this))), none, some (vi v2), some (vi (v3 + (1 : Int32)))]) (st' := []) (M1 := M30) (pc' := 235) (tb_Checker hγ) [.iinc 3 1] (by decide +kernel) rfl rfl trivial ?_
      refine E_goto (off := -42) (tgt := 193) (by decide +kernel) (by decide) ?_
      refine E_mask [true, false, true, true] rfl ?_
      exact ih v2 (v3 + (1 : Int32)) M30 h
set_option maxRecDepth 4096 in
theorem lk_Checker_joins_L144 {γ : Gm} (hγ : Gk γ) (this : Nat) (Q : Int32 → Mem → Prop) : ∀ (n : Nat) (v2 : Int32) (v3 : Int32) (M : Mem), w_Checker_joins_L144 this Q n v2 v3 M → E γ k_Checker_joins 4 144 [some (vr (some (4, this))), none, some (vi v2), some (vi v3)] [] M (Qi Q) := by
  intro n
  induction n with
  | zero => intro v2 v3 M h; exact h.elim
  | succ n ih =>
    intro v2 v3 M h
    unfold w_Checker_joins_L144 at h
    refine E_blk (lv' := [some (vr (some (4, this))), none, some (vi v2), some (vi v3)]) (st' := [vr (mR M 4 this 4), vi v3]) (M1 := M) (pc' := 149) (tb_Checker hγ) [.iload_n 3, .aload_n 0, .getfield 35] (by decide +kernel) rfl rfl trivial ?_
    obtain ⟨i22, ei22, h⟩ := h
    rw [ei22]
    obtain ⟨c23, h⟩ := h
    refine E_blk (lv' := [some (vr (some (4, this))), none, some (vi v2), some (vi v3)]) (st' := [vi (mI M 61 i22 (mI M 4 this 6).toNatClampNeg), vi v3]) (M1 := M) (pc' := 157) (tb_Checker hγ) [.getfield 85, .aload_n 0, .getfield 54, .iaload] (by decide +kernel) rfl rfl ⟨c23, trivial⟩ ?_
    refine E_icmp_ge (off := 34) (tgt := 191) (by decide +kernel) (by decide) (fun b24 => ?_) (fun b24 => ?_)
    · rw [if_pos b24] at h
      refine E_blk (lv' := [some (vr (some (4, this))), none, some (vi v2), some (vi (0 : Int32))]) (st' := []) (M1 := M) (pc' := 193) (tb_Checker hγ) [.iconst 0, .istore_n 3] (by decide +kernel) rfl rfl trivial ?_
      obtain ⟨n31, h⟩ := h
      refine E_mask [true, false, true, true] rfl ?_
      exact lk_Checker_joins_L193 hγ this Q n31 v2 (0 : Int32) M h
    · rw [if_neg b24] at h
      obtain ⟨c32, c33, h⟩ := h
      refine E_blk (lv' := [some (vr (some (4, this))), none, some (vi v2), some (vi v3)]) (st' := [vi (mI M 31 this v3.toNatClampNeg), vi (mI M 34 this (v2 + v3).toNatClampNeg), vr (some (4, this)), vi (v2 + v3), vr (some (4, this))]) (M1 := M) (pc' := 179) (tb_Checker hγ) [.aload_n 0, .iload_n 2, .iload_n 3, .iadd, .aload_n 0, .aload_n 0, .getfield 29, .iload_n 2, .iload_n 3, .iadd, .iaload, .aload_n 0, .getfield 15, .iload_n 3, .iaload] (by decide +kernel) rfl rfl ⟨c32, c33, trivial⟩ ?_
      refine E_callV (κ' := k_Checker_joined) (As := [vi (mI M 34 this (v2 + v3).toNatClampNeg), vi (mI M 31 this v3.toNatClampNeg)]) (st := [vi (v2 + v3), vr (some (4, this))]) mv_Checker_joined (Or.inl (tbk_mem (j := 7) (k := 188) rfl)) rfl (by decide +kernel) (Nat.le_of_ble_eq_true rfl) (Nat.le_of_ble_eq_true rfl) rfl (by decide) (lk_Checker_joined hγ this (mI M 34 this (v2 + v3).toNatClampNeg) (mI M 31 this v3.toNatClampNeg) _ M h) (fun _ _ => Qi_r) (fun v M34 hp => Qi_k (R := fun st => E γ k_Checker_joins 4 182 [some (vr (some (4, this))), none, some (vi v2), some (vi v3)] st M34 (Qi Q)) hp (fun r35 h => ?_))
      refine E_callV (κ' := k_Checker_put) (As := [vi (v2 + v3), vi r35]) (st := []) mv_Checker_put (Or.inl (tbk_mem (j := 7) (k := 199) rfl)) rfl (by decide +kernel) (Nat.le_of_ble_eq_true rfl) (Nat.le_of_ble_eq_true rfl) rfl (by decide) (lk_Checker_put hγ this (v2 + v3) r35 _ M34 h) (fun _ _ => Qv_r) (fun v M36 hp => Qv_k (R := fun st => E γ k_Checker_joins 4 185 [some (vr (some (4, this))), none, some (vi v2), some (vi v3)] st M36 (Qi Q)) hp (fun h => ?_))
      refine E_blk (lv' := [some (vr (some (4, this))), none, some (vi v2), some (vi (v3 + (1 : Int32)))]) (st' := []) (M1 := M36) (pc' := 188) (tb_Checker hγ) [.iinc 3 1] (by decide +kernel) rfl rfl trivial ?_
      refine E_goto (off := -44) (tgt := 144) (by decide +kernel) (by decide) ?_
      refine E_mask [true, false, true, true] rfl ?_
      exact ih v2 (v3 + (1 : Int32)) M36 h
set_option maxRecDepth 4096 in
theorem lk_Checker_joins_L95 {γ : Gm} (hγ : Gk γ) (this : Nat) (Q : Int32 → Mem → Prop) : ∀ (n : Nat) (v2 : Int32) (v3 : Int32) (M : Mem), w_Checker_joins_L95 this Q n v2 v3 M → E γ k_Checker_joins 4 95 [some (vr (some (4, this))), none, some (vi v2), some (vi v3)] [] M (Qi Q) := by
  intro n
  induction n with
  | zero => intro v2 v3 M h; exact h.elim
  | succ n ih =>
    intro v2 v3 M h
    unfold w_Checker_joins_L95 at h
    refine E_blk (lv' := [some (vr (some (4, this))), none, some (vi v2), some (vi v3)]) (st' := [vi (mI M 4 this 2), vi v3]) (M1 := M) (pc' := 100) (tb_Checker hγ) [.iload_n 3, .aload_n 0, .getfield 102] (by decide +kernel) rfl rfl trivial ?_
    refine E_icmp_ge (off := 42) (tgt := 142) (by decide +kernel) (by decide) (fun b21 => ?_) (fun b21 => ?_)
    · rw [if_pos b21] at h
      refine E_blk (lv' := [some (vr (some (4, this))), none, some (vi v2), some (vi (0 : Int32))]) (st' := []) (M1 := M) (pc' := 144) (tb_Checker hγ) [.iconst 0, .istore_n 3] (by decide +kernel) rfl rfl trivial ?_
      obtain ⟨n37, h⟩ := h
      refine E_mask [true, false, true, true] rfl ?_
      exact lk_Checker_joins_L144 hγ this Q n37 v2 (0 : Int32) M h
    · rw [if_neg b21] at h
      obtain ⟨c38, c39, h⟩ := h
      refine E_blk (lv' := [some (vr (some (4, this))), none, some (vi v2), some (vi v3)]) (st' := [vi (mI M 32 this v3.toNatClampNeg), vi (mI M 34 this ((v2 + (20 : Int32)) + v3).toNatClampNeg), vr (some (4, this))]) (M1 := M) (pc' := 121) (tb_Checker hγ) [.aload_n 0, .aload_n 0, .getfield 29, .iload_n 2, .bipush 20, .iadd, .iload_n 3, .iadd, .iaload, .aload_n 0, .getfield 19, .iload_n 3, .iaload] (by decide +kernel) rfl rfl ⟨c38, c39, trivial⟩ ?_
      refine E_callV (κ' := k_Checker_joined) (As := [vi (mI M 34 this ((v2 + (20 : Int32)) + v3).toNatClampNeg), vi (mI M 32 this v3.toNatClampNeg)]) (st := []) mv_Checker_joined (Or.inl (tbk_mem (j := 7) (k := 188) rfl)) rfl (by decide +kernel) (Nat.le_of_ble_eq_true rfl) (Nat.le_of_ble_eq_true rfl) rfl (by decide) (lk_Checker_joined hγ this (mI M 34 this ((v2 + (20 : Int32)) + v3).toNatClampNeg) (mI M 32 this v3.toNatClampNeg) _ M h) (fun _ _ => Qi_r) (fun v M40 hp => Qi_k (R := fun st => E γ k_Checker_joins 4 124 [some (vr (some (4, this))), none, some (vi v2), some (vi v3)] st M40 (Qi Q)) hp (fun r41 h => ?_))
      refine E_blk (lv' := [some (vr (some (4, this))), none, some (vi v2), some (vi v3)]) (st' := [vi (-2 : Int32), vi r41]) (M1 := M40) (pc' := 126) (tb_Checker hγ) [.bipush (.negSucc 1)] (by decide +kernel) rfl rfl trivial ?_
      refine E_icmp_ne (off := 10) (tgt := 136) (by decide +kernel) (by decide) (fun b42 => ?_) (fun b42 => ?_)
      · rw [if_pos b42] at h
        refine E_blk (lv' := [some (vr (some (4, this))), none, some (vi v2), some (vi v3)]) (st' := [vi (37 : Int32), vr (some (4, this))]) (M1 := M40) (pc' := 132) (tb_Checker hγ) [.aload_n 0, .bipush 37] (by decide +kernel) rfl rfl trivial ?_
        refine E_callV (κ' := k_Checker_breaks) (As := [vi (37 : Int32)]) (st := []) mv_Checker_breaks (Or.inl (tbk_mem (j := 7) (k := 147) rfl)) rfl (by decide +kernel) (Nat.le_of_ble_eq_true rfl) (Nat.le_of_ble_eq_true rfl) rfl (by decide) (lk_Checker_breaks hγ this (37 : Int32) _ M40 h) (fun _ _ => Qi_r) (fun v M43 hp => Qi_k (R := fun st => E γ k_Checker_joins 4 135 [some (vr (some (4, this))), none, some (vi v2), some (vi v3)] st M43 (Qi Q)) hp (fun r44 h => ?_))
        exact E_zret rfl h.1 (by decide +kernel) h.2
      · rw [if_neg b42] at h
        refine E_blk (lv' := [some (vr (some (4, this))), none, some (vi v2), some (vi (v3 + (1 : Int32)))]) (st' := []) (M1 := M40) (pc' := 139) (tb_Checker hγ) [.iinc 3 1] (by decide +kernel) rfl rfl trivial ?_
        refine E_goto (off := -44) (tgt := 95) (by decide +kernel) (by decide) ?_
        refine E_mask [true, false, true, true] rfl ?_
        exact ih v2 (v3 + (1 : Int32)) M40 h
set_option maxRecDepth 4096 in
theorem lk_Checker_joins {γ : Gm} (hγ : Gk γ) (this : Nat) (a1 : Int32) (Q : Int32 → Mem → Prop) (M : Mem) (h : w_Checker_joins this a1 Q M) : E γ k_Checker_joins 4 0 [some (vr (some (4, this))), some (vi a1), none, none] [] M (Qi Q) := by
  unfold w_Checker_joins at h
  obtain ⟨c1, h⟩ := h
  refine E_blk (lv' := [some (vr (some (4, this))), some (vi a1), some (vi ((40 : Int32) * a1)), none]) (st' := [vi (mI M 510 this a1.toNatClampNeg)]) (M1 := M) (pc' := 11) (tb_Checker hγ) [.bipush 40, .iload_n 1, .imul, .istore_n 2, .aload_n 0, .getfield 22, .iload_n 1, .baload] (by decide +kernel) rfl rfl ⟨c1, trivial⟩ ?_
  refine E_if_ne (off := 62) (tgt := 73) (by decide +kernel) (by decide) (fun b2 => ?_) (fun b2 => ?_)
  · rw [if_pos b2] at h
    obtain ⟨c3, c4, h⟩ := h
    refine E_blk (lv' := [some (vr (some (4, this))), some (vi a1), some (vi ((40 : Int32) * a1)), none]) (st' := []) (M1 := (sI (sI M 510 this a1.toNatClampNeg ((1 : Int32) &&& 1)) 33 this a1.toNatClampNeg (mI (sI M 510 this a1.toNatClampNeg ((1 : Int32) &&& 1)) 4 this 2))) (pc' := 31) (tb_Checker hγ) [.aload_n 0, .getfield 22, .iload_n 1, .iconst 1, .bastore, .aload_n 0, .getfield 26, .iload_n 1, .aload_n 0, .getfield 102, .iastore] (by decide +kernel) rfl rfl ⟨c3, c4, trivial⟩ ?_
    obtain ⟨M5, eM5, h⟩ := h
    rw [← eM5]
    refine E_blk (lv' := [some (vr (some (4, this))), some (vi a1), some (vi ((40 : Int32) * a1)), none]) (st' := [vi (20 : Int32), vi ((40 : Int32) * a1), vr (some (34, this)), vi (0 : Int32), vr (some (31, this))]) (M1 := M5) (pc' := 43) (tb_Checker hγ) [.aload_n 0, .getfield 15, .iconst 0, .aload_n 0, .getfield 29, .iload_n 2, .bipush 20] (by decide +kernel) rfl rfl trivial ?_
    obtain ⟨c7, c8, c9, c10, c11, M6, eM6, h⟩ := h
    refine E_copy (pc := 43) (κ := k_Checker_joins) (f := 31) (i := this) (g := 34) (j := this) (sp := (0 : Int32)) (dp := ((40 : Int32) * a1)) (n := (20 : Int32)) (idx := 158) (st := []) c7 c8 c9 c10 c11 (by decide) (by decide) rfl (by decide) (tbk_mem (j := 7) (k := 173) rfl) (by decide +kernel) (Nat.le_of_ble_eq_true rfl) ?_
    rw [← eM6]
    refine E_blk (lv' := [some (vr (some (4, this))), some (vi a1), some (vi ((40 : Int32) * a1)), none]) (st' := [vi (mI M6 4 this 2), vi (((40 : Int32) * a1) + (20 : Int32)), vr (some (34, this)), vi (0 : Int32), vr (some (32, this))]) (M1 := M6) (pc' := 63) (tb_Checker hγ) [.aload_n 0, .getfield 19, .iconst 0, .aload_n 0, .getfield 29, .iload_n 2, .bipush 20, .iadd, .aload_n 0, .getfield 102] (by decide +kernel) rfl rfl trivial ?_
    obtain ⟨c13, c14, c15, c16, c17, M12, eM12, h⟩ := h
    refine E_copy (pc := 63) (κ := k_Checker_joins) (f := 32) (i := this) (g := 34) (j := this) (sp := (0 : Int32)) (dp := (((40 : Int32) * a1) + (20 : Int32))) (n := (mI M6 4 this 2)) (idx := 158) (st := []) c13 c14 c15 c16 c17 (by decide) (by decide) rfl (by decide) (tbk_mem (j := 7) (k := 173) rfl) (by decide +kernel) (Nat.le_of_ble_eq_true rfl) ?_
    rw [← eM12]
    obtain ⟨c18, h⟩ := h
    refine E_blk (lv' := [some (vr (some (4, this))), some (vi a1), some (vi ((40 : Int32) * a1)), none]) (st' := [vi (1 : Int32)]) (M1 := (sI M12 4 this 14 (1 : Int32))) (pc' := 72) (tb_Checker hγ) [.aload_n 0, .iconst 1, .putfield 180, .iconst 1] (by decide +kernel) rfl rfl ⟨c18, trivial⟩ ?_
    exact E_zret rfl (Or.inr rfl) (by decide +kernel) h
  · rw [if_neg b2] at h
    obtain ⟨c19, h⟩ := h
    refine E_blk (lv' := [some (vr (some (4, this))), some (vi a1), some (vi ((40 : Int32) * a1)), none]) (st' := [vi (mI M 4 this 2), vi (mI M 33 this a1.toNatClampNeg)]) (M1 := M) (pc' := 83) (tb_Checker hγ) [.aload_n 0, .getfield 26, .iload_n 1, .iaload, .aload_n 0, .getfield 102] (by decide +kernel) rfl rfl ⟨c19, trivial⟩ ?_
    refine E_icmp_eq (off := 10) (tgt := 93) (by decide +kernel) (by decide) (fun b20 => ?_) (fun b20 => ?_)
    · rw [if_pos b20] at h
      refine E_blk (lv' := [some (vr (some (4, this))), some (vi a1), some (vi ((40 : Int32) * a1)), some (vi (0 : Int32))]) (st' := []) (M1 := M) (pc' := 95) (tb_Checker hγ) [.iconst 0, .istore_n 3] (by decide +kernel) rfl rfl trivial ?_
      obtain ⟨n45, h⟩ := h
      refine E_mask [true, false, true, true] rfl ?_
      exact lk_Checker_joins_L95 hγ this Q n45 ((40 : Int32) * a1) (0 : Int32) M h
    · rw [if_neg b20] at h
      refine E_blk (lv' := [some (vr (some (4, this))), some (vi a1), some (vi ((40 : Int32) * a1)), none]) (st' := [vi (37 : Int32), vr (some (4, this))]) (M1 := M) (pc' := 89) (tb_Checker hγ) [.aload_n 0, .bipush 37] (by decide +kernel) rfl rfl trivial ?_
      refine E_callV (κ' := k_Checker_breaks) (As := [vi (37 : Int32)]) (st := []) mv_Checker_breaks (Or.inl (tbk_mem (j := 7) (k := 147) rfl)) rfl (by decide +kernel) (Nat.le_of_ble_eq_true rfl) (Nat.le_of_ble_eq_true rfl) rfl (by decide) (lk_Checker_breaks hγ this (37 : Int32) _ M h) (fun _ _ => Qi_r) (fun v M46 hp => Qi_k (R := fun st => E γ k_Checker_joins 4 92 [some (vr (some (4, this))), some (vi a1), some (vi ((40 : Int32) * a1)), none] st M46 (Qi Q)) hp (fun r47 h => ?_))
      exact E_zret rfl h.1 (by decide +kernel) h.2
def w_Checker_handles_j76 (this : Nat) (Q : Int32 → Mem → Prop) (v1 : Int32) (v2 : Int32) (v3 : Int32) (s0 : Int32) (s1 : Int32) (M : Mem) : Prop :=
  w_Works_kindOf s0 (fun r11 M10 => vp_in s1 (mL M10 32 this) ∧ ∃ i13, (mR (sI M10 32 this s1.toNatClampNeg r11) 4 this 4) = some (5, i13) ∧ vp_in (v1 + (2 : Int32)) (mL (sI M10 32 this s1.toNatClampNeg r11) 75 i13) ∧ w_Checker_joins this (mI (sI M10 32 this s1.toNatClampNeg r11) 75 i13 (v1 + (2 : Int32)).toNatClampNeg) (fun r16 M15 => vp_in (0 : Int32) (mL (sI M15 4 this 2 v2) 32 this) ∧ (r16 = 0 ∨ r16 = 1) ∧ Q r16 (sI (sI M15 4 this 2 v2) 32 this (0 : Int32).toNatClampNeg v3)) (sI M10 32 this s1.toNatClampNeg r11)) M
def w_Checker_handles (this : Nat) (a1 : Int32) (Q : Int32 → Mem → Prop) (M : Mem) : Prop :=
  ∃ i1, (mR M 4 this 4) = some (5, i1) ∧ vp_in (mI M 4 this 6) (mL M 60 i1) ∧ if (mI M 60 i1 (mI M 4 this 6).toNatClampNeg) = 0 then (w_Checker_breaks this (30 : Int32) (fun r5 M4 => (r5 = 0 ∨ r5 = 1) ∧ Q r5 M4) M) else (vp_in (0 : Int32) (mL M 32 this) ∧ ∃ i7, (mR (sI M 4 this 2 (1 : Int32)) 4 this 4) = some (5, i7) ∧ vp_in (a1 + (3 : Int32)) (mL (sI M 4 this 2 (1 : Int32)) 75 i7) ∧ if (mI (sI M 4 this 2 (1 : Int32)) 75 i7 (a1 + (3 : Int32)).toNatClampNeg) = (77 : Int32) then (w_Checker_handles_j76 this Q a1 (mI M 4 this 2) (mI M 32 this (0 : Int32).toNatClampNeg) (82 : Int32) (0 : Int32) (sI M 4 this 2 (1 : Int32))) else (∃ i18, (mR (sI M 4 this 2 (1 : Int32)) 4 this 4) = some (5, i18) ∧ vp_in (a1 + (3 : Int32)) (mL (sI M 4 this 2 (1 : Int32)) 75 i18) ∧ w_Checker_handles_j76 this Q a1 (mI M 4 this 2) (mI M 32 this (0 : Int32).toNatClampNeg) (mI (sI M 4 this 2 (1 : Int32)) 75 i18 (a1 + (3 : Int32)).toNatClampNeg) (0 : Int32) (sI M 4 this 2 (1 : Int32))))
set_option maxRecDepth 4096 in
theorem lk_Checker_handles_j76 {γ : Gm} (hγ : Gk γ) (this : Nat) (Q : Int32 → Mem → Prop) (v1 : Int32) (v2 : Int32) (v3 : Int32) (s0 : Int32) (s1 : Int32) (M : Mem) (h : w_Checker_handles_j76 this Q v1 v2 v3 s0 s1 M) : E γ k_Checker_handles 5 76 [some (vr (some (4, this))), some (vi v1), some (vi v2), some (vi v3), none] [vi s0, vi s1, vr (some (32, this))] M (Qi Q) := by
  unfold w_Checker_handles_j76 at h
  refine E_callS (κ' := k_Works_kindOf) (As := [vi s0]) (st := [vi s1, vr (some (32, this))]) ms_Works_kindOf (Or.inr ⟨"ClassWorks", (tbk_mem (j := 7) (k := 130) rfl)⟩) rfl (by decide +kernel) (Nat.le_of_ble_eq_true rfl) (Nat.le_of_ble_eq_true rfl) rfl (by decide) (lk_Works_kindOf hγ s0 _ M h) (fun _ _ => Qi_r) (fun v M10 hp => Qi_k (R := fun st => E γ k_Checker_handles 5 79 [some (vr (some (4, this))), some (vi v1), some (vi v2), some (vi v3), none] st M10 (Qi Q)) hp (fun r11 h => ?_))
  obtain ⟨c12, h⟩ := h
  refine E_blk (lv' := [some (vr (some (4, this))), some (vi v1), some (vi v2), some (vi v3), none]) (st' := [vr (mR (sI M10 32 this s1.toNatClampNeg r11) 4 this 4), vr (some (4, this))]) (M1 := (sI M10 32 this s1.toNatClampNeg r11)) (pc' := 85) (tb_Checker hγ) [.iastore, .aload_n 0, .aload_n 0, .getfield 35] (by decide +kernel) rfl rfl ⟨c12, trivial⟩ ?_
  obtain ⟨i13, ei13, h⟩ := h
  rw [ei13]
  obtain ⟨c14, h⟩ := h
  refine E_blk (lv' := [some (vr (some (4, this))), some (vi v1), some (vi v2), some (vi v3), none]) (st' := [vi (mI (sI M10 32 this s1.toNatClampNeg r11) 75 i13 (v1 + (2 : Int32)).toNatClampNeg), vr (some (4, this))]) (M1 := (sI M10 32 this s1.toNatClampNeg r11)) (pc' := 92) (tb_Checker hγ) [.getfield 265, .iload_n 1, .iconst 2, .iadd, .iaload] (by decide +kernel) rfl rfl ⟨c14, trivial⟩ ?_
  refine E_callV (κ' := k_Checker_joins) (As := [vi (mI (sI M10 32 this s1.toNatClampNeg r11) 75 i13 (v1 + (2 : Int32)).toNatClampNeg)]) (st := []) mv_Checker_joins (Or.inl (tbk_mem (j := 7) (k := 184) rfl)) rfl (by decide +kernel) (Nat.le_of_ble_eq_true rfl) (Nat.le_of_ble_eq_true rfl) rfl (by decide) (lk_Checker_joins hγ this (mI (sI M10 32 this s1.toNatClampNeg r11) 75 i13 (v1 + (2 : Int32)).toNatClampNeg) _ (sI M10 32 this s1.toNatClampNeg r11) h) (fun _ _ => Qi_r) (fun v M15 hp => Qi_k (R := fun st => E γ k_Checker_handles 5 95 [some (vr (some (4, this))), some (vi v1), some (vi v2), some (vi v3), none] st M15 (Qi Q)) hp (fun r16 h => ?_))
  obtain ⟨c17, h⟩ := h
  refine E_blk (lv' := [some (vr (some (4, this))), some (vi v1), some (vi v2), some (vi v3), some (vi r16)]) (st' := [vi r16]) (M1 := (sI (sI M15 4 this 2 v2) 32 this (0 : Int32).toNatClampNeg v3)) (pc' := 111) (tb_Checker hγ) [.istore 4, .aload_n 0, .iload_n 2, .putfield 102, .aload_n 0, .getfield 19, .iconst 0, .iload_n 3, .iastore, .iload 4] (by decide +kernel) rfl rfl ⟨c17, trivial⟩ ?_
  exact E_zret rfl h.1 (by decide +kernel) h.2
set_option maxRecDepth 4096 in
theorem lk_Checker_handles {γ : Gm} (hγ : Gk γ) (this : Nat) (a1 : Int32) (Q : Int32 → Mem → Prop) (M : Mem) (h : w_Checker_handles this a1 Q M) : E γ k_Checker_handles 5 0 [some (vr (some (4, this))), some (vi a1), none, none, none] [] M (Qi Q) := by
  unfold w_Checker_handles at h
  refine E_blk (lv' := [some (vr (some (4, this))), some (vi a1), none, none, none]) (st' := [vr (mR M 4 this 4)]) (M1 := M) (pc' := 4) (tb_Checker hγ) [.aload_n 0, .getfield 35] (by decide +kernel) rfl rfl trivial ?_
  obtain ⟨i1, ei1, h⟩ := h
  rw [ei1]
  obtain ⟨c2, h⟩ := h
  refine E_blk (lv' := [some (vr (some (4, this))), some (vi a1), none, none, none]) (st' := [vi (mI M 60 i1 (mI M 4 this 6).toNatClampNeg)]) (M1 := M) (pc' := 12) (tb_Checker hγ) [.getfield 250, .aload_n 0, .getfield 54, .iaload] (by decide +kernel) rfl rfl ⟨c2, trivial⟩ ?_
  refine E_if_ne (off := 10) (tgt := 22) (by decide +kernel) (by decide) (fun b3 => ?_) (fun b3 => ?_)
  · rw [if_pos b3] at h
    refine E_blk (lv' := [some (vr (some (4, this))), some (vi a1), none, none, none]) (st' := [vi (30 : Int32), vr (some (4, this))]) (M1 := M) (pc' := 18) (tb_Checker hγ) [.aload_n 0, .bipush 30] (by decide +kernel) rfl rfl trivial ?_
    refine E_callV (κ' := k_Checker_breaks) (As := [vi (30 : Int32)]) (st := []) mv_Checker_breaks (Or.inl (tbk_mem (j := 7) (k := 147) rfl)) rfl (by decide +kernel) (Nat.le_of_ble_eq_true rfl) (Nat.le_of_ble_eq_true rfl) rfl (by decide) (lk_Checker_breaks hγ this (30 : Int32) _ M h) (fun _ _ => Qi_r) (fun v M4 hp => Qi_k (R := fun st => E γ k_Checker_handles 5 21 [some (vr (some (4, this))), some (vi a1), none, none, none] st M4 (Qi Q)) hp (fun r5 h => ?_))
    exact E_zret rfl h.1 (by decide +kernel) h.2
  · rw [if_neg b3] at h
    obtain ⟨c6, h⟩ := h
    refine E_blk (lv' := [some (vr (some (4, this))), some (vi a1), some (vi (mI M 4 this 2)), some (vi (mI M 32 this (0 : Int32).toNatClampNeg)), none]) (st' := [vr (mR (sI M 4 this 2 (1 : Int32)) 4 this 4), vi (0 : Int32), vr (some (32, this))]) (M1 := (sI M 4 this 2 (1 : Int32))) (pc' := 48) (tb_Checker hγ) [.aload_n 0, .getfield 102, .istore_n 2, .aload_n 0, .getfield 19, .iconst 0, .iaload, .istore_n 3, .aload_n 0, .iconst 1, .putfield 102, .aload_n 0, .getfield 19, .iconst 0, .aload_n 0, .getfield 35] (by decide +kernel) rfl rfl ⟨c6, trivial⟩ ?_
    obtain ⟨i7, ei7, h⟩ := h
    rw [ei7]
    obtain ⟨c8, h⟩ := h
    refine E_blk (lv' := [some (vr (some (4, this))), some (vi a1), some (vi (mI M 4 this 2)), some (vi (mI M 32 this (0 : Int32).toNatClampNeg)), none]) (st' := [vi (77 : Int32), vi (mI (sI M 4 this 2 (1 : Int32)) 75 i7 (a1 + (3 : Int32)).toNatClampNeg), vi (0 : Int32), vr (some (32, this))]) (M1 := (sI M 4 this 2 (1 : Int32))) (pc' := 57) (tb_Checker hγ) [.getfield 265, .iload_n 1, .iconst 3, .iadd, .iaload, .bipush 77] (by decide +kernel) rfl rfl ⟨c8, trivial⟩ ?_
    refine E_icmp_ne (off := 8) (tgt := 65) (by decide +kernel) (by decide) (fun b9 => ?_) (fun b9 => ?_)
    · rw [if_pos b9] at h
      refine E_blk (lv' := [some (vr (some (4, this))), some (vi a1), some (vi (mI M 4 this 2)), some (vi (mI M 32 this (0 : Int32).toNatClampNeg)), none]) (st' := [vi (82 : Int32), vi (0 : Int32), vr (some (32, this))]) (M1 := (sI M 4 this 2 (1 : Int32))) (pc' := 62) (tb_Checker hγ) [.bipush 82] (by decide +kernel) rfl rfl trivial ?_
      refine E_goto (off := 14) (tgt := 76) (by decide +kernel) (by decide) ?_
      refine E_mask [true, true, true, true, false] rfl ?_
      exact lk_Checker_handles_j76 hγ this Q a1 (mI M 4 this 2) (mI M 32 this (0 : Int32).toNatClampNeg) (82 : Int32) (0 : Int32) (sI M 4 this 2 (1 : Int32)) h
    · rw [if_neg b9] at h
      refine E_blk (lv' := [some (vr (some (4, this))), some (vi a1), some (vi (mI M 4 this 2)), some (vi (mI M 32 this (0 : Int32).toNatClampNeg)), none]) (st' := [vr (mR (sI M 4 this 2 (1 : Int32)) 4 this 4), vi (0 : Int32), vr (some (32, this))]) (M1 := (sI M 4 this 2 (1 : Int32))) (pc' := 69) (tb_Checker hγ) [.aload_n 0, .getfield 35] (by decide +kernel) rfl rfl trivial ?_
      obtain ⟨i18, ei18, h⟩ := h
      rw [ei18]
      obtain ⟨c19, h⟩ := h
      refine E_blk (lv' := [some (vr (some (4, this))), some (vi a1), some (vi (mI M 4 this 2)), some (vi (mI M 32 this (0 : Int32).toNatClampNeg)), none]) (st' := [vi (mI (sI M 4 this 2 (1 : Int32)) 75 i18 (a1 + (3 : Int32)).toNatClampNeg), vi (0 : Int32), vr (some (32, this))]) (M1 := (sI M 4 this 2 (1 : Int32))) (pc' := 76) (tb_Checker hγ) [.getfield 265, .iload_n 1, .iconst 3, .iadd, .iaload] (by decide +kernel) rfl rfl ⟨c19, trivial⟩ ?_
      refine E_mask [true, true, true, true, false] rfl ?_
      exact lk_Checker_handles_j76 hγ this Q a1 (mI M 4 this 2) (mI M 32 this (0 : Int32).toNatClampNeg) (mI (sI M 4 this 2 (1 : Int32)) 75 i18 (a1 + (3 : Int32)).toNatClampNeg) (0 : Int32) (sI M 4 this 2 (1 : Int32)) h
