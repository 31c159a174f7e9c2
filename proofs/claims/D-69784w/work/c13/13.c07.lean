def k_Writer_instruction : Kp := (⟨"ClassWorks$Writer", "instruction", "(I)V"⟩, prog_11_method_19_code, 5, none, [])
theorem mv_Writer_instruction : MV k_Writer_instruction 8 1 := ⟨⟨_, rfl, rfl⟩, by decide, (tbk_mem (j := 9) (k := 228) rfl), Or.inr ⟨(tbk_mem (j := 9) (k := 227) rfl), 7, (tbk_mem (j := 5) (k := 96) rfl)⟩, Or.inl ⟨rfl, (tbk_mem (j := 9) (k := 229) rfl)⟩, ⟨by decide, by decide⟩, by decide +kernel, by decide +kernel, by decide⟩
def k_Writer_handler : Kp := (⟨"ClassWorks$Writer", "handler", "(I)V"⟩, prog_11_method_18_code, 3, none, [])
theorem mv_Writer_handler : MV k_Writer_handler 8 1 := ⟨⟨_, rfl, rfl⟩, by decide, (tbk_mem (j := 9) (k := 236) rfl), Or.inr ⟨(tbk_mem (j := 9) (k := 235) rfl), 7, (tbk_mem (j := 5) (k := 96) rfl)⟩, Or.inl ⟨rfl, (tbk_mem (j := 9) (k := 237) rfl)⟩, ⟨by decide, by decide⟩, by decide +kernel, by decide +kernel, by decide⟩
def k_Writer_method : Kp := (⟨"ClassWorks$Writer", "method", "(I)V"⟩, prog_11_method_14_code, 5, none, [])
theorem mv_Writer_method : MV k_Writer_method 8 1 := ⟨⟨_, rfl, rfl⟩, by decide, (tbk_mem (j := 9) (k := 207) rfl), Or.inr ⟨(tbk_mem (j := 9) (k := 206) rfl), 7, (tbk_mem (j := 5) (k := 96) rfl)⟩, Or.inl ⟨rfl, (tbk_mem (j := 9) (k := 208) rfl)⟩, ⟨by decide, by decide⟩, by decide +kernel, by decide +kernel, by decide⟩
def k_Writer_write : Kp := (⟨"ClassWorks$Writer", "write", "(LClassWorks$World;I)I"⟩, prog_11_method_12_code, 4, some (.int), [])
theorem mv_Writer_write : MV k_Writer_write 8 2 := ⟨⟨_, rfl, rfl⟩, by decide, (tbk_mem (j := 9) (k := 158) rfl), Or.inl (tbk_mem (j := 9) (k := 159) rfl), Or.inl ⟨rfl, (tbk_mem (j := 9) (k := 160) rfl)⟩, ⟨by decide, by decide⟩, by decide +kernel, by decide +kernel, by decide⟩
def k_Works_print : Kp := (⟨"ClassWorks", "print", "(II)I"⟩, prog_1_method_38_code, 3, some (.int), [])
theorem mv_Works_print : MV k_Works_print 10 2 := ⟨⟨_, rfl, rfl⟩, by decide, (tbk_mem (j := 9) (k := 154) rfl), Or.inl (tbk_mem (j := 9) (k := 155) rfl), Or.inl ⟨rfl, (tbk_mem (j := 9) (k := 156) rfl)⟩, ⟨by decide, by decide⟩, by decide +kernel, by decide +kernel, by decide⟩
def k_Works_written : Kp := (⟨"ClassWorks", "written", "(I)I"⟩, prog_1_method_39_code, 2, some (.int), [])
theorem mv_Works_written : MV k_Works_written 10 1 := ⟨⟨_, rfl, rfl⟩, by decide, (tbk_mem (j := 9) (k := 239) rfl), Or.inl (tbk_mem (j := 10) (k := 0) rfl), Or.inl ⟨rfl, (tbk_mem (j := 10) (k := 1) rfl)⟩, ⟨by decide, by decide⟩, by decide +kernel, by decide +kernel, by decide⟩
def k_Checker_ask : Kp := (⟨"ClassWorks$Checker", "ask", "(LClassWorks$World;I)V"⟩, prog_2_method_11_code, 4, none, [])
theorem mv_Checker_ask : MV k_Checker_ask 4 2 := ⟨⟨_, rfl, rfl⟩, by decide, (tbk_mem (j := 10) (k := 12) rfl), Or.inr ⟨(tbk_mem (j := 10) (k := 11) rfl), 19, (tbk_mem (j := 2) (k := 124) rfl)⟩, Or.inl ⟨rfl, (tbk_mem (j := 10) (k := 13) rfl)⟩, ⟨by decide, by decide⟩, by decide +kernel, by decide +kernel, by decide⟩
def k_Checker_follows : Kp := (⟨"ClassWorks$Checker", "follows", "(I)Z"⟩, prog_2_method_17_code, 4, some (.boolean), [])
theorem mv_Checker_follows : MV k_Checker_follows 4 1 := ⟨⟨_, rfl, rfl⟩, by decide, (tbk_mem (j := 10) (k := 20) rfl), Or.inr ⟨(tbk_mem (j := 10) (k := 19) rfl), 19, (tbk_mem (j := 2) (k := 124) rfl)⟩, Or.inl ⟨rfl, (tbk_mem (j := 10) (k := 21) rfl)⟩, ⟨by decide, by decide⟩, by decide +kernel, by decide +kernel, by decide⟩
def k_Checker_lookAt : Kp := (⟨"ClassWorks$Checker", "lookAt", "(I)Z"⟩, prog_2_method_16_code, 3, some (.boolean), [])
theorem mv_Checker_lookAt : MV k_Checker_lookAt 4 1 := ⟨⟨_, rfl, rfl⟩, by decide, (tbk_mem (j := 10) (k := 16) rfl), Or.inr ⟨(tbk_mem (j := 10) (k := 15) rfl), 19, (tbk_mem (j := 2) (k := 124) rfl)⟩, Or.inl ⟨rfl, (tbk_mem (j := 10) (k := 17) rfl)⟩, ⟨by decide, by decide⟩, by decide +kernel, by decide +kernel, by decide⟩
def k_Checker_toldKind : Kp := (⟨"ClassWorks$Checker", "toldKind", "(I)I"⟩, prog_2_method_15_code, 3, some (.int), [])
theorem mv_Checker_toldKind : MV k_Checker_toldKind 4 1 := ⟨⟨_, rfl, rfl⟩, by decide, (tbk_mem (j := 10) (k := 28) rfl), Or.inr ⟨(tbk_mem (j := 10) (k := 27) rfl), 19, (tbk_mem (j := 2) (k := 124) rfl)⟩, Or.inl ⟨rfl, (tbk_mem (j := 10) (k := 29) rfl)⟩, ⟨by decide, by decide⟩, by decide +kernel, by decide +kernel, by decide⟩
def k_Checker_tell : Kp := (⟨"ClassWorks$Checker", "tell", "()V"⟩, prog_2_method_14_code, 3, none, [])
theorem mv_Checker_tell : MV k_Checker_tell 4 0 := ⟨⟨_, rfl, rfl⟩, by decide, (tbk_mem (j := 10) (k := 24) rfl), Or.inr ⟨(tbk_mem (j := 10) (k := 23) rfl), 19, (tbk_mem (j := 2) (k := 124) rfl)⟩, Or.inl ⟨rfl, (tbk_mem (j := 10) (k := 25) rfl)⟩, ⟨by decide, by decide⟩, by decide +kernel, by decide +kernel, by decide⟩
def k_Checker_inferred : Kp := (⟨"ClassWorks$Checker", "inferred", "(LClassWorks$World;I)I"⟩, prog_2_method_13_code, 4, some (.int), [])
theorem mv_Checker_inferred : MV k_Checker_inferred 4 2 := ⟨⟨_, rfl, rfl⟩, by decide, (tbk_mem (j := 10) (k := 7) rfl), Or.inl (tbk_mem (j := 10) (k := 8) rfl), Or.inl ⟨rfl, (tbk_mem (j := 10) (k := 9) rfl)⟩, ⟨by decide, by decide⟩, by decide +kernel, by decide +kernel, by decide⟩
def k_Checker_withFrames : Kp := (⟨"ClassWorks$Checker", "withFrames", "(LClassWorks$World;I)I"⟩, prog_2_method_12_code, 3, some (.int), [])
theorem mv_Checker_withFrames : MV k_Checker_withFrames 4 2 := ⟨⟨_, rfl, rfl⟩, by decide, (tbk_mem (j := 10) (k := 31) rfl), Or.inl (tbk_mem (j := 10) (k := 32) rfl), Or.inl ⟨rfl, (tbk_mem (j := 10) (k := 33) rfl)⟩, ⟨by decide, by decide⟩, by decide +kernel, by decide +kernel, by decide⟩
def k_Works_kinds : Kp := (⟨"ClassWorks", "kinds", "(IIIZ)I"⟩, prog_1_method_40_code, 7, some (.int), [])
theorem mv_Works_kinds : MV k_Works_kinds 10 4 := ⟨⟨_, rfl, rfl⟩, by decide, (tbk_mem (j := 10) (k := 3) rfl), Or.inl (tbk_mem (j := 10) (k := 4) rfl), Or.inl ⟨rfl, (tbk_mem (j := 10) (k := 5) rfl)⟩, ⟨by decide, by decide⟩, by decide +kernel, by decide +kernel, by decide⟩
def k_Checker_toldAt : Kp := (⟨"ClassWorks$Checker", "toldAt", "(II)I"⟩, prog_2_method_22_code, 3, some (.int), [])
theorem mv_Checker_toldAt : MV k_Checker_toldAt 4 2 := ⟨⟨_, rfl, rfl⟩, by decide, (tbk_mem (j := 10) (k := 39) rfl), Or.inl (tbk_mem (j := 10) (k := 40) rfl), Or.inl ⟨rfl, (tbk_mem (j := 10) (k := 41) rfl)⟩, ⟨by decide, by decide⟩, by decide +kernel, by decide +kernel, by decide⟩
def k_Works_kind : Kp := (⟨"ClassWorks", "kind", "(II)I"⟩, prog_1_method_41_code, 3, some (.int), [])
theorem mv_Works_kind : MV k_Works_kind 10 2 := ⟨⟨_, rfl, rfl⟩, by decide, (tbk_mem (j := 10) (k := 35) rfl), Or.inl (tbk_mem (j := 10) (k := 36) rfl), Or.inl ⟨rfl, (tbk_mem (j := 10) (k := 37) rfl)⟩, ⟨by decide, by decide⟩, by decide +kernel, by decide +kernel, by decide⟩
def k_Works_foretell : Kp := (⟨"ClassWorks", "foretell", "(IIII)I"⟩, prog_1_method_42_code, 10, some (.int), [])
theorem mv_Works_foretell : MV k_Works_foretell 10 4 := ⟨⟨_, rfl, rfl⟩, by decide, (tbk_mem (j := 10) (k := 43) rfl), Or.inl (tbk_mem (j := 10) (k := 44) rfl), Or.inl ⟨rfl, (tbk_mem (j := 10) (k := 45) rfl)⟩, ⟨by decide, by decide⟩, by decide +kernel, by decide +kernel, by decide⟩
def k_Machine_asks : Kp := (⟨"ClassWorks$Machine", "asks", "(I)I"⟩, prog_5_method_37_code, 5, some (.int), [])
theorem mv_Machine_asks : MV k_Machine_asks 6 1 := ⟨⟨_, rfl, rfl⟩, by decide, (tbk_mem (j := 10) (k := 52) rfl), Or.inl (tbk_mem (j := 10) (k := 53) rfl), Or.inl ⟨rfl, (tbk_mem (j := 10) (k := 54) rfl)⟩, ⟨by decide, by decide⟩, by decide +kernel, by decide +kernel, by decide⟩
def k_Works_asked : Kp := (⟨"ClassWorks", "asked", "(II)I"⟩, prog_1_method_43_code, 5, some (.int), [])
theorem mv_Works_asked : MV k_Works_asked 10 2 := ⟨⟨_, rfl, rfl⟩, by decide, (tbk_mem (j := 10) (k := 48) rfl), Or.inl (tbk_mem (j := 10) (k := 49) rfl), Or.inl ⟨rfl, (tbk_mem (j := 10) (k := 50) rfl)⟩, ⟨by decide, by decide⟩, by decide +kernel, by decide +kernel, by decide⟩
def k_Works_trace : Kp := (⟨"ClassWorks", "trace", "(III)I"⟩, prog_1_method_45_code, 5, some (.int), [])
theorem mv_Works_trace : MV k_Works_trace 10 3 := ⟨⟨_, rfl, rfl⟩, by decide, (tbk_mem (j := 10) (k := 56) rfl), Or.inl (tbk_mem (j := 10) (k := 57) rfl), Or.inl ⟨rfl, (tbk_mem (j := 10) (k := 58) rfl)⟩, ⟨by decide, by decide⟩, by decide +kernel, by decide +kernel, by decide⟩
def k_Works_done : Kp := (⟨"ClassWorks", "done", "(II)I"⟩, prog_1_method_46_code, 3, some (.int), [])
theorem mv_Works_done : MV k_Works_done 10 2 := ⟨⟨_, rfl, rfl⟩, by decide, (tbk_mem (j := 10) (k := 60) rfl), Or.inl (tbk_mem (j := 10) (k := 61) rfl), Or.inl ⟨rfl, (tbk_mem (j := 10) (k := 62) rfl)⟩, ⟨by decide, by decide⟩, by decide +kernel, by decide +kernel, by decide⟩
def k_Works_quantum : Kp := (⟨"ClassWorks", "quantum", "(II)I"⟩, prog_1_method_47_code, 4, some (.int), [])
theorem mv_Works_quantum : MV k_Works_quantum 10 2 := ⟨⟨_, rfl, rfl⟩, by decide, (tbk_mem (j := 10) (k := 64) rfl), Or.inl (tbk_mem (j := 10) (k := 65) rfl), Or.inl ⟨rfl, (tbk_mem (j := 10) (k := 66) rfl)⟩, ⟨by decide, by decide⟩, by decide +kernel, by decide +kernel, by decide⟩
def k_Machine_halt : Kp := (⟨"ClassWorks$Machine", "halt", "()I"⟩, prog_5_method_5_code, 7, some (.int), [])
theorem mv_Machine_halt : MV k_Machine_halt 6 0 := ⟨⟨_, rfl, rfl⟩, by decide, (tbk_mem (j := 10) (k := 72) rfl), Or.inl (tbk_mem (j := 10) (k := 73) rfl), Or.inl ⟨rfl, (tbk_mem (j := 10) (k := 74) rfl)⟩, ⟨by decide, by decide⟩, by decide +kernel, by decide +kernel, by decide⟩
def k_Works_halt : Kp := (⟨"ClassWorks", "halt", "(I)I"⟩, prog_1_method_48_code, 2, some (.int), [])
theorem mv_Works_halt : MV k_Works_halt 10 1 := ⟨⟨_, rfl, rfl⟩, by decide, (tbk_mem (j := 10) (k := 68) rfl), Or.inl (tbk_mem (j := 10) (k := 69) rfl), Or.inl ⟨rfl, (tbk_mem (j := 10) (k := 70) rfl)⟩, ⟨by decide, by decide⟩, by decide +kernel, by decide +kernel, by decide⟩
def k_Machine_reaches : Kp := (⟨"ClassWorks$Machine", "reaches", "(I)V"⟩, prog_5_method_21_code, 2, none, [])
theorem mv_Machine_reaches : MV k_Machine_reaches 6 1 := ⟨⟨_, rfl, rfl⟩, by decide, (tbk_mem (j := 10) (k := 85) rfl), Or.inr ⟨(tbk_mem (j := 10) (k := 84) rfl), 38, (tbk_mem (j := 2) (k := 195) rfl)⟩, Or.inl ⟨rfl, (tbk_mem (j := 10) (k := 86) rfl)⟩, ⟨by decide, by decide⟩, by decide +kernel, by decide +kernel, by decide⟩
def k_Machine_sweep : Kp := (⟨"ClassWorks$Machine", "sweep", "()I"⟩, prog_5_method_23_code, 4, some (.int), [])
theorem mv_Machine_sweep : MV k_Machine_sweep 6 0 := ⟨⟨_, rfl, rfl⟩, by decide, (tbk_mem (j := 10) (k := 90) rfl), Or.inr ⟨(tbk_mem (j := 10) (k := 89) rfl), 38, (tbk_mem (j := 2) (k := 195) rfl)⟩, Or.inl ⟨rfl, (tbk_mem (j := 10) (k := 91) rfl)⟩, ⟨by decide, by decide⟩, by decide +kernel, by decide +kernel, by decide⟩
def k_Machine_collect : Kp := (⟨"ClassWorks$Machine", "collect", "()I"⟩, prog_5_method_22_code, 7, some (.int), [])
theorem mv_Machine_collect : MV k_Machine_collect 6 0 := ⟨⟨_, rfl, rfl⟩, by decide, (tbk_mem (j := 10) (k := 80) rfl), Or.inl (tbk_mem (j := 10) (k := 81) rfl), Or.inl ⟨rfl, (tbk_mem (j := 10) (k := 82) rfl)⟩, ⟨by decide, by decide⟩, by decide +kernel, by decide +kernel, by decide⟩
def k_Works_collect : Kp := (⟨"ClassWorks", "collect", "(I)I"⟩, prog_1_method_49_code, 2, some (.int), [])
theorem mv_Works_collect : MV k_Works_collect 10 1 := ⟨⟨_, rfl, rfl⟩, by decide, (tbk_mem (j := 10) (k := 76) rfl), Or.inl (tbk_mem (j := 10) (k := 77) rfl), Or.inl ⟨rfl, (tbk_mem (j := 10) (k := 78) rfl)⟩, ⟨by decide, by decide⟩, by decide +kernel, by decide +kernel, by decide⟩
def k_Works_hasField : Kp := (⟨"ClassWorks", "hasField", "(LClassWorks$World;ILClassWorks$World;I)Z"⟩, prog_1_method_51_code, 7, some (.boolean), [])
theorem mv_Works_hasField : MV k_Works_hasField 10 4 := ⟨⟨_, rfl, rfl⟩, by decide, (tbk_mem (j := 10) (k := 98) rfl), Or.inr ⟨(tbk_mem (j := 10) (k := 97) rfl), 31, (tbk_mem (j := 1) (k := 30) rfl)⟩, Or.inl ⟨rfl, (tbk_mem (j := 10) (k := 99) rfl)⟩, ⟨by decide, by decide⟩, by decide +kernel, by decide +kernel, by decide⟩
def k_Works_likeMethod : Kp := (⟨"ClassWorks", "likeMethod", "(LClassWorks$World;ILClassWorks$World;I)I"⟩, prog_1_method_52_code, 6, some (.int), [])
theorem mv_Works_likeMethod : MV k_Works_likeMethod 10 4 := ⟨⟨_, rfl, rfl⟩, by decide, (tbk_mem (j := 10) (k := 102) rfl), Or.inr ⟨(tbk_mem (j := 10) (k := 101) rfl), 31, (tbk_mem (j := 1) (k := 30) rfl)⟩, Or.inl ⟨rfl, (tbk_mem (j := 10) (k := 103) rfl)⟩, ⟨by decide, by decide⟩, by decide +kernel, by decide +kernel, by decide⟩
def k_Works_isSameMember : Kp := (⟨"ClassWorks", "isSameMember", "(LClassWorks$World;ILClassWorks$World;I)Z"⟩, prog_1_method_55_code, 7, some (.boolean), [])
theorem mv_Works_isSameMember : MV k_Works_isSameMember 10 4 := ⟨⟨_, rfl, rfl⟩, by decide, (tbk_mem (j := 10) (k := 115) rfl), Or.inr ⟨(tbk_mem (j := 10) (k := 114) rfl), 31, (tbk_mem (j := 1) (k := 30) rfl)⟩, Or.inl ⟨rfl, (tbk_mem (j := 10) (k := 116) rfl)⟩, ⟨by decide, by decide⟩, by decide +kernel, by decide +kernel, by decide⟩
def k_Works_isAlike : Kp := (⟨"ClassWorks", "isAlike", "(LClassWorks$World;ILClassWorks$World;I)Z"⟩, prog_1_method_54_code, 7, some (.boolean), [])
theorem mv_Works_isAlike : MV k_Works_isAlike 10 4 := ⟨⟨_, rfl, rfl⟩, by decide, (tbk_mem (j := 10) (k := 111) rfl), Or.inr ⟨(tbk_mem (j := 10) (k := 110) rfl), 31, (tbk_mem (j := 1) (k := 30) rfl)⟩, Or.inl ⟨rfl, (tbk_mem (j := 10) (k := 112) rfl)⟩, ⟨by decide, by decide⟩, by decide +kernel, by decide +kernel, by decide⟩
def k_Works_isWrittenAlike : Kp := (⟨"ClassWorks", "isWrittenAlike", "(LClassWorks$World;ILClassWorks$World;I)Z"⟩, prog_1_method_53_code, 7, some (.boolean), [])
theorem mv_Works_isWrittenAlike : MV k_Works_isWrittenAlike 10 4 := ⟨⟨_, rfl, rfl⟩, by decide, (tbk_mem (j := 10) (k := 107) rfl), Or.inr ⟨(tbk_mem (j := 10) (k := 106) rfl), 31, (tbk_mem (j := 1) (k := 30) rfl)⟩, Or.inl ⟨rfl, (tbk_mem (j := 10) (k := 108) rfl)⟩, ⟨by decide, by decide⟩, by decide +kernel, by decide +kernel, by decide⟩
def w_Writer_instruction_j40 (this : Nat) (Q : Mem → Prop) (v1 : Int32) (v2 : Int32) (v3 : Int32) (M : Mem) : Prop :=
  w_Writer_digits this v3 (fun M7 => if v2 = (7 : Int32) then (∃ i9, (mR M7 8 this 5) = some (5, i9) ∧ vp_in v1 (mL M7 68 i9) ∧ w_Writer_digits this (mI M7 68 i9 v1.toNatClampNeg) (fun M11 => Q M11) M7) else (Q M7)) M
def w_Writer_instruction_j125 (this : Nat) (Q : Mem → Prop) (k100 : Int32 → Int32 → Mem → Prop) (v1 : Int32) (v4 : Int32) (M : Mem) : Prop :=
  ∃ i24, (mR M 8 this 5) = some (5, i24) ∧ ∃ i25, (mR M 8 this 5) = some (5, i25) ∧ vp_in v1 (mL M 68 i25) ∧ vp_in ((mI M 68 i25 v1.toNatClampNeg) + v4) (mL M 74 i24) ∧ w_Writer_label this (mI M 74 i24 ((mI M 68 i25 v1.toNatClampNeg) + v4).toNatClampNeg) (fun M28 => k100 v1 (v4 + (1 : Int32)) M28) M
def w_Writer_instruction_L100 (this : Nat) (Q : Mem → Prop) : Nat → Int32 → Int32 → Mem → Prop
  | 0, _, _, _ => False
  | n + 1, v1, v4, M => ∃ i20, (mR M 8 this 5) = some (5, i20) ∧ vp_in v1 (mL M 69 i20) ∧ if (mI M 69 i20 v1.toNatClampNeg) ≤ v4 then (Q M) else (if v4 ≤ 0 then (w_Writer_instruction_j125 this Q (w_Writer_instruction_L100 this Q n) v1 v4 M) else (w_Writer_sign this (44 : Int32) (fun M29 => w_Writer_instruction_j125 this Q (w_Writer_instruction_L100 this Q n) v1 v4 M29) M))
def w_Writer_instruction_j176 (this : Nat) (Q : Mem → Prop) (v3 : Int32) (M : Mem) : Prop :=
  w_Writer_word this v3 (fun M32 => Q M32) M
def w_Writer_instruction (this : Nat) (a1 : Int32) (Q : Mem → Prop) (M : Mem) : Prop :=
  ∃ i1, (mR M 8 this 5) = some (5, i1) ∧ vp_in a1 (mL M 66 i1) ∧ ∃ i3, (mR M 8 this 5) = some (5, i3) ∧ vp_in a1 (mL M 67 i3) ∧ w_Writer_word this (mI M 66 i1 a1.toNatClampNeg) (fun M5 => if (mI M 66 i1 a1.toNatClampNeg) = (1 : Int32) then (w_Writer_instruction_j40 this Q a1 (mI M 66 i1 a1.toNatClampNeg) (mI M 67 i3 a1.toNatClampNeg) M5) else (w_Works_isIn (mI M 66 i1 a1.toNatClampNeg) (3 : Int32) (7 : Int32) (fun r13 M12 => if r13 = 0 then (w_Works_isIn (mI M 66 i1 a1.toNatClampNeg) (23 : Int32) (39 : Int32) (fun r16 M15 => if r16 = 0 then (if (mI M 66 i1 a1.toNatClampNeg) = (40 : Int32) then (w_Writer_digits this (mI M 67 i3 a1.toNatClampNeg) (fun M19 => ∃ n30 : Nat, w_Writer_instruction_L100 this Q n30 a1 (0 : Int32) M19) M15) else (if (mI M 66 i1 a1.toNatClampNeg) = (41 : Int32) then (w_Writer_instruction_j176 this Q (mI M 67 i3 a1.toNatClampNeg) M15) else (if (mI M 66 i1 a1.toNatClampNeg) = (54 : Int32) then (w_Writer_instruction_j176 this Q (mI M 67 i3 a1.toNatClampNeg) M15) else (if (mI M 66 i1 a1.toNatClampNeg) = (55 : Int32) then (w_Writer_instruction_j176 this Q (mI M 67 i3 a1.toNatClampNeg) M15) else (w_Works_isIn (mI M 66 i1 a1.toNatClampNeg) (46 : Int32) (53 : Int32) (fun r36 M35 => if r36 = 0 then (Q M35) else (∃ i38, (mR M35 8 this 5) = some (5, i38) ∧ w_World_refClass i38 (mI M 67 i3 a1.toNatClampNeg) (fun r40 M39 => w_Writer_word this r40 (fun M41 => w_Writer_sign this (46 : Int32) (fun M42 => ∃ i43, (mR M42 8 this 5) = some (5, i43) ∧ w_World_refName i43 (mI M 67 i3 a1.toNatClampNeg) (fun r45 M44 => w_Writer_word this r45 (fun M46 => if (50 : Int32) ≤ (mI M 66 i1 a1.toNatClampNeg) then (∃ i48, (mR M46 8 this 5) = some (5, i48) ∧ ∃ i49, (mR M46 8 this 5) = some (5, i49) ∧ w_World_refArguments i49 (mI M 67 i3 a1.toNatClampNeg) (fun r51 M50 => ∃ i52, (mR M50 8 this 5) = some (5, i52) ∧ w_World_refType i52 (mI M 67 i3 a1.toNatClampNeg) (fun r54 M53 => w_Writer_types this (2 * i48 + 2) ((6 : Int32) * (mI M 67 i3 a1.toNatClampNeg)) r51 r54 (fun M55 => Q M55) M53) M50) M46) else (∃ i56, (mR M46 8 this 5) = some (5, i56) ∧ w_World_refType i56 (mI M 67 i3 a1.toNatClampNeg) (fun r58 M57 => w_Writer_kind this r58 (fun M59 => Q M59) M57) M46)) M44) M42) M41) M39) M35)) M15))))) else (w_Writer_label this (mI M 67 i3 a1.toNatClampNeg) (fun M60 => Q M60) M15)) M12) else (w_Writer_instruction_j40 this Q a1 (mI M 66 i1 a1.toNatClampNeg) (mI M 67 i3 a1.toNatClampNeg) M12)) M5)) M
set_option maxRecDepth 4096 in
theorem lk_Writer_instruction_j40 {γ : Gm} (hγ : Gk γ) (this : Nat) (Q : Mem → Prop) (v1 : Int32) (v2 : Int32) (v3 : Int32) (M : Mem) (h : w_Writer_instruction_j40 this Q v1 v2 v3 M) : E γ k_Writer_instruction 5 40 [some (vr (some (8, this))), some (vi v1), some (vi v2), some (vi v3), none] [] M (Qv Q) := by
  unfold w_Writer_instruction_j40 at h
  refine E_blk (lv' := [some (vr (some (8, this))), some (vi v1), some (vi v2), some (vi v3), none]) (st' := [vi v3, vr (some (8, this))]) (M1 := M) (pc' := 42) (tb_Writer hγ) [.aload_n 0, .iload_n 3] (by decide +kernel) rfl rfl trivial ?_
  refine E_callV (κ' := k_Writer_digits) (As := [vi v3]) (st := []) mv_Writer_digits (Or.inl (tbk_mem (j := 9) (k := 198) rfl)) rfl (by decide +kernel) (Nat.le_of_ble_eq_true rfl) (Nat.le_of_ble_eq_true rfl) rfl (by decide) (lk_Writer_digits hγ this v3 _ M h) (fun _ _ => Qv_r) (fun v M7 hp => Qv_k (R := fun st => E γ k_Writer_instruction 5 45 [some (vr (some (8, this))), some (vi v1), some (vi v2), some (vi v3), none] st M7 (Qv Q)) hp (fun h => ?_))
  refine E_blk (lv' := [some (vr (some (8, this))), some (vi v1), some (vi v2), some (vi v3), none]) (st' := [vi (7 : Int32), vi v2]) (M1 := M7) (pc' := 48) (tb_Writer hγ) [.iload_n 2, .bipush 7] (by decide +kernel) rfl rfl trivial ?_
  refine E_icmp_ne (off := 229) (tgt := 277) (by decide +kernel) (by decide) (fun b8 => ?_) (fun b8 => ?_)
  · rw [if_pos b8] at h
    refine E_blk (lv' := [some (vr (some (8, this))), some (vi v1), some (vi v2), some (vi v3), none]) (st' := [vr (mR M7 8 this 5), vr (some (8, this))]) (M1 := M7) (pc' := 56) (tb_Writer hγ) [.aload_n 0, .aload_n 0, .getfield 66] (by decide +kernel) rfl rfl trivial ?_
    obtain ⟨i9, ei9, h⟩ := h
    rw [ei9]
    obtain ⟨c10, h⟩ := h
    refine E_blk (lv' := [some (vr (some (8, this))), some (vi v1), some (vi v2), some (vi v3), none]) (st' := [vi (mI M7 68 i9 v1.toNatClampNeg), vr (some (8, this))]) (M1 := M7) (pc' := 61) (tb_Writer hγ) [.getfield 202, .iload_n 1, .iaload] (by decide +kernel) rfl rfl ⟨c10, trivial⟩ ?_
    refine E_callV (κ' := k_Writer_digits) (As := [vi (mI M7 68 i9 v1.toNatClampNeg)]) (st := []) mv_Writer_digits (Or.inl (tbk_mem (j := 9) (k := 198) rfl)) rfl (by decide +kernel) (Nat.le_of_ble_eq_true rfl) (Nat.le_of_ble_eq_true rfl) rfl (by decide) (lk_Writer_digits hγ this (mI M7 68 i9 v1.toNatClampNeg) _ M7 h) (fun _ _ => Qv_r) (fun v M11 hp => Qv_k (R := fun st => E γ k_Writer_instruction 5 64 [some (vr (some (8, this))), some (vi v1), some (vi v2), some (vi v3), none] st M11 (Qv Q)) hp (fun h => ?_))
    refine E_goto (off := 213) (tgt := 277) (by decide +kernel) (by decide) ?_
    exact E_vret rfl (by decide +kernel) h
  · rw [if_neg b8] at h
    exact E_vret rfl (by decide +kernel) h
set_option maxRecDepth 4096 in
theorem lk_Writer_instruction_j125 {γ : Gm} (hγ : Gk γ) (this : Nat) (Q : Mem → Prop) (k100 : Int32 → Int32 → Mem → Prop) (hk100 : ∀ (v1 : Int32) (v4 : Int32) (M : Mem), k100 v1 v4 M → E γ k_Writer_instruction 5 100 [some (vr (some (8, this))), some (vi v1), none, none, some (vi v4)] [] M (Qv Q)) (v1 : Int32) (v4 : Int32) (M : Mem) (h : w_Writer_instruction_j125 this Q k100 v1 v4 M) : E γ k_Writer_instruction 5 125 [some (vr (some (8, this))), some (vi v1), none, none, some (vi v4)] [] M (Qv Q) := by
  unfold w_Writer_instruction_j125 at h
  refine E_blk (lv' := [some (vr (some (8, this))), some (vi v1), none, none, some (vi v4)]) (st' := [vr (mR M 8 this 5), vr (some (8, this))]) (M1 := M) (pc' := 130) (tb_Writer hγ) [.aload_n 0, .aload_n 0, .getfield 66] (by decide +kernel) rfl rfl trivial ?_
  obtain ⟨i24, ei24, h⟩ := h
  rw [ei24]
  refine E_blk (lv' := [some (vr (some (8, this))), some (vi v1), none, none, some (vi v4)]) (st' := [vr (mR M 8 this 5), vr (some (74, i24)), vr (some (8, this))]) (M1 := M) (pc' := 137) (tb_Writer hγ) [.getfield 199, .aload_n 0, .getfield 66] (by decide +kernel) rfl rfl trivial ?_
  obtain ⟨i25, ei25, h⟩ := h
  rw [ei25]
  obtain ⟨c26, c27, h⟩ := h
  refine E_blk (lv' := [some (vr (some (8, this))), some (vi v1), none, none, some (vi v4)]) (st' := [vi (mI M 74 i24 ((mI M 68 i25 v1.toNatClampNeg) + v4).toNatClampNeg), vr (some (8, this))]) (M1 := M) (pc' := 146) (tb_Writer hγ) [.getfield 202, .iload_n 1, .iaload, .iload 4, .iadd, .iaload] (by decide +kernel) rfl rfl ⟨c26, c27, trivial⟩ ?_
  refine E_callV (κ' := k_Writer_label) (As := [vi (mI M 74 i24 ((mI M 68 i25 v1.toNatClampNeg) + v4).toNatClampNeg)]) (st := []) mv_Writer_label (Or.inl (tbk_mem (j := 9) (k := 222) rfl)) rfl (by decide +kernel) (Nat.le_of_ble_eq_true rfl) (Nat.le_of_ble_eq_true rfl) rfl (by decide) (lk_Writer_label hγ this (mI M 74 i24 ((mI M 68 i25 v1.toNatClampNeg) + v4).toNatClampNeg) _ M h) (fun _ _ => Qv_r) (fun v M28 hp => Qv_k (R := fun st => E γ k_Writer_instruction 5 149 [some (vr (some (8, this))), some (vi v1), none, none, some (vi v4)] st M28 (Qv Q)) hp (fun h => ?_))
  refine E_blk (lv' := [some (vr (some (8, this))), some (vi v1), none, none, some (vi (v4 + (1 : Int32)))]) (st' := []) (M1 := M28) (pc' := 152) (tb_Writer hγ) [.iinc 4 1] (by decide +kernel) rfl rfl trivial ?_
  refine E_goto (off := -52) (tgt := 100) (by decide +kernel) (by decide) ?_
  refine E_mask [true, true, false, false, true] rfl ?_
  exact hk100 v1 (v4 + (1 : Int32)) M28 h
set_option maxRecDepth 4096 in
theorem lk_Writer_instruction_L100 {γ : Gm} (hγ : Gk γ) (this : Nat) (Q : Mem → Prop) : ∀ (n : Nat) (v1 : Int32) (v4 : Int32) (M : Mem), w_Writer_instruction_L100 this Q n v1 v4 M → E γ k_Writer_instruction 5 100 [some (vr (some (8, this))), some (vi v1), none, none, some (vi v4)] [] M (Qv Q) := by
  intro n
  induction n with
  | zero => intro v1 v4 M h; exact h.elim
  | succ n ih =>
    intro v1 v4 M h
    unfold w_Writer_instruction_L100 at h
    refine E_blk (lv' := [some (vr (some (8, this))), some (vi v1), none, none, some (vi v4)]) (st' := [vr (mR M 8 this 5), vi v4]) (M1 := M) (pc' := 106) (tb_Writer hγ) [.iload 4, .aload_n 0, .getfield 66] (by decide +kernel) rfl rfl trivial ?_
    obtain ⟨i20, ei20, h⟩ := h
    rw [ei20]
    obtain ⟨c21, h⟩ := h
    refine E_blk (lv' := [some (vr (some (8, this))), some (vi v1), none, none, some (vi v4)]) (st' := [vi (mI M 69 i20 v1.toNatClampNeg), vi v4]) (M1 := M) (pc' := 111) (tb_Writer hγ) [.getfield 196, .iload_n 1, .iaload] (by decide +kernel) rfl rfl ⟨c21, trivial⟩ ?_
    refine E_icmp_ge (off := 44) (tgt := 155) (by decide +kernel) (by decide) (fun b22 => ?_) (fun b22 => ?_)
    · rw [if_pos b22] at h
      refine E_goto (off := 122) (tgt := 277) (by decide +kernel) (by decide) ?_
      exact E_vret rfl (by decide +kernel) h
    · rw [if_neg b22] at h
      refine E_blk (lv' := [some (vr (some (8, this))), some (vi v1), none, none, some (vi v4)]) (st' := [vi v4]) (M1 := M) (pc' := 116) (tb_Writer hγ) [.iload 4] (by decide +kernel) rfl rfl trivial ?_
      refine E_if_le (off := 9) (tgt := 125) (by decide +kernel) (by decide) (fun b23 => ?_) (fun b23 => ?_)
      · rw [if_pos b23] at h
        refine E_mask [true, true, false, false, true] rfl ?_
        exact lk_Writer_instruction_j125 hγ this Q (w_Writer_instruction_L100 this Q n) ih v1 v4 M h
      · rw [if_neg b23] at h
        refine E_blk (lv' := [some (vr (some (8, this))), some (vi v1), none, none, some (vi v4)]) (st' := [vi (44 : Int32), vr (some (8, this))]) (M1 := M) (pc' := 122) (tb_Writer hγ) [.aload_n 0, .bipush 44] (by decide +kernel) rfl rfl trivial ?_
        refine E_callV (κ' := k_Writer_sign) (As := [vi (44 : Int32)]) (st := []) mv_Writer_sign (Or.inl (tbk_mem (j := 9) (k := 182) rfl)) rfl (by decide +kernel) (Nat.le_of_ble_eq_true rfl) (Nat.le_of_ble_eq_true rfl) rfl (by decide) (lk_Writer_sign hγ this (44 : Int32) _ M h) (fun _ _ => Qv_r) (fun v M29 hp => Qv_k (R := fun st => E γ k_Writer_instruction 5 125 [some (vr (some (8, this))), some (vi v1), none, none, some (vi v4)] st M29 (Qv Q)) hp (fun h => ?_))
        refine E_mask [true, true, false, false, true] rfl ?_
        exact lk_Writer_instruction_j125 hγ this Q (w_Writer_instruction_L100 this Q n) ih v1 v4 M29 h
set_option maxRecDepth 4096 in
theorem lk_Writer_instruction_j176 {γ : Gm} (hγ : Gk γ) (this : Nat) (Q : Mem → Prop) (v3 : Int32) (M : Mem) (h : w_Writer_instruction_j176 this Q v3 M) : E γ k_Writer_instruction 5 176 [some (vr (some (8, this))), none, none, some (vi v3), none] [] M (Qv Q) := by
  unfold w_Writer_instruction_j176 at h
  refine E_blk (lv' := [some (vr (some (8, this))), none, none, some (vi v3), none]) (st' := [vi v3, vr (some (8, this))]) (M1 := M) (pc' := 178) (tb_Writer hγ) [.aload_n 0, .iload_n 3] (by decide +kernel) rfl rfl trivial ?_
  refine E_callV (κ' := k_Writer_word) (As := [vi v3]) (st := []) mv_Writer_word (Or.inl (tbk_mem (j := 9) (k := 173) rfl)) rfl (by decide +kernel) (Nat.le_of_ble_eq_true rfl) (Nat.le_of_ble_eq_true rfl) rfl (by decide) (lk_Writer_word hγ this v3 _ M h) (fun _ _ => Qv_r) (fun v M32 hp => Qv_k (R := fun st => E γ k_Writer_instruction 5 181 [some (vr (some (8, this))), none, none, some (vi v3), none] st M32 (Qv Q)) hp (fun h => ?_))
  refine E_goto (off := 96) (tgt := 277) (by decide +kernel) (by decide) ?_
  exact E_vret rfl (by decide +kernel) h
set_option maxRecDepth 4096 in
theorem lk_Writer_instruction {γ : Gm} (hγ : Gk γ) (this : Nat) (a1 : Int32) (Q : Mem → Prop) (M : Mem) (h : w_Writer_instruction this a1 Q M) : E γ k_Writer_instruction 5 0 [some (vr (some (8, this))), some (vi a1), none, none, none] [] M (Qv Q) := by
  unfold w_Writer_instruction at h
  refine E_blk (lv' := [some (vr (some (8, this))), some (vi a1), none, none, none]) (st' := [vr (mR M 8 this 5)]) (M1 := M) (pc' := 4) (tb_Writer hγ) [.aload_n 0, .getfield 66] (by decide +kernel) rfl rfl trivial ?_
  obtain ⟨i1, ei1, h⟩ := h
  rw [ei1]
  obtain ⟨c2, h⟩ := h
  refine E_blk (lv' := [some (vr (some (8, this))), some (vi a1), some (vi (mI M 66 i1 a1.toNatClampNeg)), none, none]) (st' := [vr (mR M 8 this 5)]) (M1 := M) (pc' := 14) (tb_Writer hγ) [.getfield 186, .iload_n 1, .iaload, .istore_n 2, .aload_n 0, .getfield 66] (by decide +kernel) rfl rfl ⟨c2, trivial⟩ ?_
  obtain ⟨i3, ei3, h⟩ := h
  rw [ei3]
  obtain ⟨c4, h⟩ := h
  refine E_blk (lv' := [some (vr (some (8, this))), some (vi a1), some (vi (mI M 66 i1 a1.toNatClampNeg)), some (vi (mI M 67 i3 a1.toNatClampNeg)), none]) (st' := [vi (mI M 66 i1 a1.toNatClampNeg), vr (some (8, this))]) (M1 := M) (pc' := 22) (tb_Writer hγ) [.getfield 193, .iload_n 1, .iaload, .istore_n 3, .aload_n 0, .iload_n 2] (by decide +kernel) rfl rfl ⟨c4, trivial⟩ ?_
  refine E_callV (κ' := k_Writer_word) (As := [vi (mI M 66 i1 a1.toNatClampNeg)]) (st := []) mv_Writer_word (Or.inl (tbk_mem (j := 9) (k := 173) rfl)) rfl (by decide +kernel) (Nat.le_of_ble_eq_true rfl) (Nat.le_of_ble_eq_true rfl) rfl (by decide) (lk_Writer_word hγ this (mI M 66 i1 a1.toNatClampNeg) _ M h) (fun _ _ => Qv_r) (fun v M5 hp => Qv_k (R := fun st => E γ k_Writer_instruction 5 25 [some (vr (some (8, this))), some (vi a1), some (vi (mI M 66 i1 a1.toNatClampNeg)), some (vi (mI M 67 i3 a1.toNatClampNeg)), none] st M5 (Qv Q)) hp (fun h => ?_))
  refine E_blk (lv' := [some (vr (some (8, this))), some (vi a1), some (vi (mI M 66 i1 a1.toNatClampNeg)), some (vi (mI M 67 i3 a1.toNatClampNeg)), none]) (st' := [vi (1 : Int32), vi (mI M 66 i1 a1.toNatClampNeg)]) (M1 := M5) (pc' := 27) (tb_Writer hγ) [.iload_n 2, .iconst 1] (by decide +kernel) rfl rfl trivial ?_
  refine E_icmp_eq (off := 13) (tgt := 40) (by decide +kernel) (by decide) (fun b6 => ?_) (fun b6 => ?_)
  · rw [if_pos b6] at h
    refine E_mask [true, true, true, true, false] rfl ?_
    exact lk_Writer_instruction_j40 hγ this Q a1 (mI M 66 i1 a1.toNatClampNeg) (mI M 67 i3 a1.toNatClampNeg) M5 h
  · rw [if_neg b6] at h
    refine E_blk (lv' := [some (vr (some (8, this))), some (vi a1), some (vi (mI M 66 i1 a1.toNatClampNeg)), some (vi (mI M 67 i3 a1.toNatClampNeg)), none]) (st' := [vi (7 : Int32), vi (3 : Int32), vi (mI M 66 i1 a1.toNatClampNeg)]) (M1 := M5) (pc' := 34) (tb_Writer hγ) [.iload_n 2, .iconst 3, .bipush 7] (by decide +kernel) rfl rfl trivial ?_
    refine E_callS (κ' := k_Works_isIn) (As := [vi (mI M 66 i1 a1.toNatClampNeg), vi (3 : Int32), vi (7 : Int32)]) (st := []) ms_Works_isIn (Or.inr ⟨"ClassWorks", (tbk_mem (j := 9) (k := 217) rfl)⟩) rfl (by decide +kernel) (Nat.le_of_ble_eq_true rfl) (Nat.le_of_ble_eq_true rfl) rfl (by decide) (lk_Works_isIn hγ (mI M 66 i1 a1.toNatClampNeg) (3 : Int32) (7 : Int32) _ M5 h) (fun _ _ => Qi_r) (fun v M12 hp => Qi_k (R := fun st => E γ k_Writer_instruction 5 37 [some (vr (some (8, this))), some (vi a1), some (vi (mI M 66 i1 a1.toNatClampNeg)), some (vi (mI M 67 i3 a1.toNatClampNeg)), none] st M12 (Qv Q)) hp (fun r13 h => ?_))
    refine E_if_eq (off := 30) (tgt := 67) (by decide +kernel) (by decide) (fun b14 => ?_) (fun b14 => ?_)
    · rw [if_pos b14] at h
      refine E_blk (lv' := [some (vr (some (8, this))), some (vi a1), some (vi (mI M 66 i1 a1.toNatClampNeg)), some (vi (mI M 67 i3 a1.toNatClampNeg)), none]) (st' := [vi (39 : Int32), vi (23 : Int32), vi (mI M 66 i1 a1.toNatClampNeg)]) (M1 := M12) (pc' := 72) (tb_Writer hγ) [.iload_n 2, .bipush 23, .bipush 39] (by decide +kernel) rfl rfl trivial ?_
      refine E_callS (κ' := k_Works_isIn) (As := [vi (mI M 66 i1 a1.toNatClampNeg), vi (23 : Int32), vi (39 : Int32)]) (st := []) ms_Works_isIn (Or.inr ⟨"ClassWorks", (tbk_mem (j := 9) (k := 217) rfl)⟩) rfl (by decide +kernel) (Nat.le_of_ble_eq_true rfl) (Nat.le_of_ble_eq_true rfl) rfl (by decide) (lk_Works_isIn hγ (mI M 66 i1 a1.toNatClampNeg) (23 : Int32) (39 : Int32) _ M12 h) (fun _ _ => Qi_r) (fun v M15 hp => Qi_k (R := fun st => E γ k_Writer_instruction 5 75 [some (vr (some (8, this))), some (vi a1), some (vi (mI M 66 i1 a1.toNatClampNeg)), some (vi (mI M 67 i3 a1.toNatClampNeg)), none] st M15 (Qv Q)) hp (fun r16 h => ?_))
      refine E_if_eq (off := 11) (tgt := 86) (by decide +kernel) (by decide) (fun b17 => ?_) (fun b17 => ?_)
      · rw [if_pos b17] at h
        refine E_blk (lv' := [some (vr (some (8, this))), some (vi a1), some (vi (mI M 66 i1 a1.toNatClampNeg)), some (vi (mI M 67 i3 a1.toNatClampNeg)), none]) (st' := [vi (40 : Int32), vi (mI M 66 i1 a1.toNatClampNeg)]) (M1 := M15) (pc' := 89) (tb_Writer hγ) [.iload_n 2, .bipush 40] (by decide +kernel) rfl rfl trivial ?_
        refine E_icmp_ne (off := 69) (tgt := 158) (by decide +kernel) (by decide) (fun b18 => ?_) (fun b18 => ?_)
        · rw [if_pos b18] at h
          refine E_blk (lv' := [some (vr (some (8, this))), some (vi a1), some (vi (mI M 66 i1 a1.toNatClampNeg)), some (vi (mI M 67 i3 a1.toNatClampNeg)), none]) (st' := [vi (mI M 67 i3 a1.toNatClampNeg), vr (some (8, this))]) (M1 := M15) (pc' := 94) (tb_Writer hγ) [.aload_n 0, .iload_n 3] (by decide +kernel) rfl rfl trivial ?_
          refine E_callV (κ' := k_Writer_digits) (As := [vi (mI M 67 i3 a1.toNatClampNeg)]) (st := []) mv_Writer_digits (Or.inl (tbk_mem (j := 9) (k := 198) rfl)) rfl (by decide +kernel) (Nat.le_of_ble_eq_true rfl) (Nat.le_of_ble_eq_true rfl) rfl (by decide) (lk_Writer_digits hγ this (mI M 67 i3 a1.toNatClampNeg) _ M15 h) (fun _ _ => Qv_r) (fun v M19 hp => Qv_k (R := fun st => E γ k_Writer_instruction 5 97 [some (vr (some (8, this))), some (vi a1), some (vi (mI M 66 i1 a1.toNatClampNeg)), some (vi (mI M 67 i3 a1.toNatClampNeg)), none] st M19 (Qv Q)) hp (fun h => ?_))
          refine E_blk (lv' := [some (vr (some (8, this))), some (vi a1), some (vi (mI M 66 i1 a1.toNatClampNeg)), some (vi (mI M 67 i3 a1.toNatClampNeg)), some (vi (0 : Int32))]) (st' := []) (M1 := M19) (pc' := 100) (tb_Writer hγ) [.iconst 0, .istore 4] (by decide +kernel) rfl rfl trivial ?_
          obtain ⟨n30, h⟩ := h
          refine E_mask [true, true, false, false, true] rfl ?_
          exact lk_Writer_instruction_L100 hγ this Q n30 a1 (0 : Int32) M19 h
        · rw [if_neg b18] at h
          refine E_blk (lv' := [some (vr (some (8, this))), some (vi a1), some (vi (mI M 66 i1 a1.toNatClampNeg)), some (vi (mI M 67 i3 a1.toNatClampNeg)), none]) (st' := [vi (41 : Int32), vi (mI M 66 i1 a1.toNatClampNeg)]) (M1 := M15) (pc' := 161) (tb_Writer hγ) [.iload_n 2, .bipush 41] (by decide +kernel) rfl rfl trivial ?_
          refine E_icmp_eq (off := 15) (tgt := 176) (by decide +kernel) (by decide) (fun b31 => ?_) (fun b31 => ?_)
          · rw [if_pos b31] at h
            refine E_mask [true, false, false, true, false] rfl ?_
            exact lk_Writer_instruction_j176 hγ this Q (mI M 67 i3 a1.toNatClampNeg) M15 h
          · rw [if_neg b31] at h
            refine E_blk (lv' := [some (vr (some (8, this))), some (vi a1), some (vi (mI M 66 i1 a1.toNatClampNeg)), some (vi (mI M 67 i3 a1.toNatClampNeg)), none]) (st' := [vi (54 : Int32), vi (mI M 66 i1 a1.toNatClampNeg)]) (M1 := M15) (pc' := 167) (tb_Writer hγ) [.iload_n 2, .bipush 54] (by decide +kernel) rfl rfl trivial ?_
            refine E_icmp_eq (off := 9) (tgt := 176) (by decide +kernel) (by decide) (fun b33 => ?_) (fun b33 => ?_)
            · rw [if_pos b33] at h
              refine E_mask [true, false, false, true, false] rfl ?_
              exact lk_Writer_instruction_j176 hγ this Q (mI M 67 i3 a1.toNatClampNeg) M15 h
            · rw [if_neg b33] at h
              refine E_blk (lv' := [some (vr (some (8, this))), some (vi a1), some (vi (mI M 66 i1 a1.toNatClampNeg)), some (vi (mI M 67 i3 a1.toNatClampNeg)), none]) (st' := [vi (55 : Int32), vi (mI M 66 i1 a1.toNatClampNeg)]) (M1 := M15) (pc' := 173) (tb_Writer hγ) [.iload_n 2, .bipush 55] (by decide +kernel) rfl rfl trivial ?_
              refine E_icmp_ne (off := 11) (tgt := 184) (by decide +kernel) (by decide) (fun b34 => ?_) (fun b34 => ?_)
              · rw [if_pos b34] at h
                refine E_mask [true, false, false, true, false] rfl ?_
                exact lk_Writer_instruction_j176 hγ this Q (mI M 67 i3 a1.toNatClampNeg) M15 h
              · rw [if_neg b34] at h
                refine E_blk (lv' := [some (vr (some (8, this))), some (vi a1), some (vi (mI M 66 i1 a1.toNatClampNeg)), some (vi (mI M 67 i3 a1.toNatClampNeg)), none]) (st' := [vi (53 : Int32), vi (46 : Int32), vi (mI M 66 i1 a1.toNatClampNeg)]) (M1 := M15) (pc' := 189) (tb_Writer hγ) [.iload_n 2, .bipush 46, .bipush 53] (by decide +kernel) rfl rfl trivial ?_
                refine E_callS (κ' := k_Works_isIn) (As := [vi (mI M 66 i1 a1.toNatClampNeg), vi (46 : Int32), vi (53 : Int32)]) (st := []) ms_Works_isIn (Or.inr ⟨"ClassWorks", (tbk_mem (j := 9) (k := 217) rfl)⟩) rfl (by decide +kernel) (Nat.le_of_ble_eq_true rfl) (Nat.le_of_ble_eq_true rfl) rfl (by decide) (lk_Works_isIn hγ (mI M 66 i1 a1.toNatClampNeg) (46 : Int32) (53 : Int32) _ M15 h) (fun _ _ => Qi_r) (fun v M35 hp => Qi_k (R := fun st => E γ k_Writer_instruction 5 192 [some (vr (some (8, this))), some (vi a1), some (vi (mI M 66 i1 a1.toNatClampNeg)), some (vi (mI M 67 i3 a1.toNatClampNeg)), none] st M35 (Qv Q)) hp (fun r36 h => ?_))
                refine E_if_eq (off := 85) (tgt := 277) (by decide +kernel) (by decide) (fun b37 => ?_) (fun b37 => ?_)
                · rw [if_pos b37] at h
                  exact E_vret rfl (by decide +kernel) h
                · rw [if_neg b37] at h
                  refine E_blk (lv' := [some (vr (some (8, this))), some (vi a1), some (vi (mI M 66 i1 a1.toNatClampNeg)), some (vi (mI M 67 i3 a1.toNatClampNeg)), none]) (st' := [vr (mR M35 8 this 5), vr (some (8, this))]) (M1 := M35) (pc' := 200) (tb_Writer hγ) [.aload_n 0, .aload_n 0, .getfield 66] (by decide +kernel) rfl rfl trivial ?_
                  obtain ⟨i38, ei38, h⟩ := h
                  rw [ei38]
                  refine E_blk (lv' := [some (vr (some (8, this))), some (vi a1), some (vi (mI M 66 i1 a1.toNatClampNeg)), some (vi (mI M 67 i3 a1.toNatClampNeg)), none]) (st' := [vi (mI M 67 i3 a1.toNatClampNeg), vr (some (5, i38)), vr (some (8, this))]) (M1 := M35) (pc' := 201) (tb_Writer hγ) [.iload_n 3] (by decide +kernel) rfl rfl trivial ?_
                  refine E_callV (κ' := k_World_refClass) (As := [vi (mI M 67 i3 a1.toNatClampNeg)]) (st := [vr (some (8, this))]) mv_World_refClass (Or.inl (tbk_mem (j := 9) (k := 230) rfl)) rfl (by decide +kernel) (Nat.le_of_ble_eq_true rfl) (Nat.le_of_ble_eq_true rfl) rfl (by decide) (lk_World_refClass hγ i38 (mI M 67 i3 a1.toNatClampNeg) _ M35 h) (fun _ _ => Qi_r) (fun v M39 hp => Qi_k (R := fun st => E γ k_Writer_instruction 5 204 [some (vr (some (8, this))), some (vi a1), some (vi (mI M 66 i1 a1.toNatClampNeg)), some (vi (mI M 67 i3 a1.toNatClampNeg)), none] st M39 (Qv Q)) hp (fun r40 h => ?_))
                  refine E_callV (κ' := k_Writer_word) (As := [vi r40]) (st := []) mv_Writer_word (Or.inl (tbk_mem (j := 9) (k := 173) rfl)) rfl (by decide +kernel) (Nat.le_of_ble_eq_true rfl) (Nat.le_of_ble_eq_true rfl) rfl (by decide) (lk_Writer_word hγ this r40 _ M39 h) (fun _ _ => Qv_r) (fun v M41 hp => Qv_k (R := fun st => E γ k_Writer_instruction 5 207 [some (vr (some (8, this))), some (vi a1), some (vi (mI M 66 i1 a1.toNatClampNeg)), some (vi (mI M 67 i3 a1.toNatClampNeg)), none] st M41 (Qv Q)) hp (fun h => ?_))
                  refine E_blk (lv' := [some (vr (some (8, this))), some (vi a1), some (vi (mI M 66 i1 a1.toNatClampNeg)), some (vi (mI M 67 i3 a1.toNatClampNeg)), none]) (st' := [vi (46 : Int32), vr (some (8, this))]) (M1 := M41) (pc' := 210) (tb_Writer hγ) [.aload_n 0, .bipush 46] (by decide +kernel) rfl rfl trivial ?_
                  refine E_callV (κ' := k_Writer_sign) (As := [vi (46 : Int32)]) (st := []) mv_Writer_sign (Or.inl (tbk_mem (j := 9) (k := 182) rfl)) rfl (by decide +kernel) (Nat.le_of_ble_eq_true rfl) (Nat.le_of_ble_eq_true rfl) rfl (by decide) (lk_Writer_sign hγ this (46 : Int32) _ M41 h) (fun _ _ => Qv_r) (fun v M42 hp => Qv_k (R := fun st => E γ k_Writer_instruction 5 213 [some (vr (some (8, this))), some (vi a1), some (vi (mI M 66 i1 a1.toNatClampNeg)), some (vi (mI M 67 i3 a1.toNatClampNeg)), none] st M42 (Qv Q)) hp (fun h => ?_))
                  refine E_blk (lv' := [some (vr (some (8, this))), some (vi a1), some (vi (mI M 66 i1 a1.toNatClampNeg)), some (vi (mI M 67 i3 a1.toNatClampNeg)), none]) (st' := [vr (mR M42 8 this 5), vr (some (8, this))]) (M1 := M42) (pc' := 218) (tb_Writer hγ) [.aload_n 0, .aload_n 0, .getfield 66] (by decide +kernel) rfl rfl trivial ?_
                  obtain ⟨i43, ei43, h⟩ := h
                  rw [ei43]
                  refine E_blk (lv' := [some (vr (some (8, this))), some (vi a1), some (vi (mI M 66 i1 a1.toNatClampNeg)), some (vi (mI M 67 i3 a1.toNatClampNeg)), none]) (st' := [vi (mI M 67 i3 a1.toNatClampNeg), vr (some (5, i43)), vr (some (8, this))]) (M1 := M42) (pc' := 219) (tb_Writer hγ) [.iload_n 3] (by decide +kernel) rfl rfl trivial ?_
                  refine E_callV (κ' := k_World_refName) (As := [vi (mI M 67 i3 a1.toNatClampNeg)]) (st := [vr (some (8, this))]) mv_World_refName (Or.inl (tbk_mem (j := 9) (k := 231) rfl)) rfl (by decide +kernel) (Nat.le_of_ble_eq_true rfl) (Nat.le_of_ble_eq_true rfl) rfl (by decide) (lk_World_refName hγ i43 (mI M 67 i3 a1.toNatClampNeg) _ M42 h) (fun _ _ => Qi_r) (fun v M44 hp => Qi_k (R := fun st => E γ k_Writer_instruction 5 222 [some (vr (some (8, this))), some (vi a1), some (vi (mI M 66 i1 a1.toNatClampNeg)), some (vi (mI M 67 i3 a1.toNatClampNeg)), none] st M44 (Qv Q)) hp (fun r45 h => ?_))
                  refine E_callV (κ' := k_Writer_word) (As := [vi r45]) (st := []) mv_Writer_word (Or.inl (tbk_mem (j := 9) (k := 173) rfl)) rfl (by decide +kernel) (Nat.le_of_ble_eq_true rfl) (Nat.le_of_ble_eq_true rfl) rfl (by decide) (lk_Writer_word hγ this r45 _ M44 h) (fun _ _ => Qv_r) (fun v M46 hp => Qv_k (R := fun st => E γ k_Writer_instruction 5 225 [some (vr (some (8, this))), some (vi a1), some (vi (mI M 66 i1 a1.toNatClampNeg)), some (vi (mI M 67 i3 a1.toNatClampNeg)), none] st M46 (Qv Q)) hp (fun h => ?_))
                  refine E_blk (lv' := [some (vr (some (8, this))), some (vi a1), some (vi (mI M 66 i1 a1.toNatClampNeg)), some (vi (mI M 67 i3 a1.toNatClampNeg)), none]) (st' := [vi (50 : Int32), vi (mI M 66 i1 a1.toNatClampNeg)]) (M1 := M46) (pc' := 228) (tb_Writer hγ) [.iload_n 2, .bipush 50] (by decide +kernel) rfl rfl trivial ?_
                  refine E_icmp_ge (off := 18) (tgt := 246) (by decide +kernel) (by decide) (fun b47 => ?_) (fun b47 => ?_)
                  · rw [if_pos b47] at h
                    refine E_blk (lv' := [some (vr (some (8, this))), some (vi a1), some (vi (mI M 66 i1 a1.toNatClampNeg)), some (vi (mI M 67 i3 a1.toNatClampNeg)), none]) (st' := [vr (mR M46 8 this 5), vr (some (8, this))]) (M1 := M46) (pc' := 251) (tb_Writer hγ) [.aload_n 0, .aload_n 0, .getfield 66] (by decide +kernel) rfl rfl trivial ?_
                    obtain ⟨i48, ei48, h⟩ := h
                    rw [ei48]
                    refine E_blk (lv' := [some (vr (some (8, this))), some (vi a1), some (vi (mI M 66 i1 a1.toNatClampNeg)), some (vi (mI M 67 i3 a1.toNatClampNeg)), none]) (st' := [vr (mR M46 8 this 5), vi ((6 : Int32) * (mI M 67 i3 a1.toNatClampNeg)), vr (some (211, (2 * i48 + 2))), vr (some (8, this))]) (M1 := M46) (pc' := 262) (tb_Writer hγ) [.getfield 225, .bipush 6, .iload_n 3, .imul, .aload_n 0, .getfield 66] (by decide +kernel) rfl rfl trivial ?_
                    obtain ⟨i49, ei49, h⟩ := h
                    rw [ei49]
                    refine E_blk (lv' := [some (vr (some (8, this))), some (vi a1), some (vi (mI M 66 i1 a1.toNatClampNeg)), some (vi (mI M 67 i3 a1.toNatClampNeg)), none]) (st' := [vi (mI M 67 i3 a1.toNatClampNeg), vr (some (5, i49)), vi ((6 : Int32) * (mI M 67 i3 a1.toNatClampNeg)), vr (some (211, (2 * i48 + 2))), vr (some (8, this))]) (M1 := M46) (pc' := 263) (tb_Writer hγ) [.iload_n 3] (by decide +kernel) rfl rfl trivial ?_
                    refine E_callV (κ' := k_World_refArguments) (As := [vi (mI M 67 i3 a1.toNatClampNeg)]) (st := [vi ((6 : Int32) * (mI M 67 i3 a1.toNatClampNeg)), vr (some (211, (2 * i48 + 2))), vr (some (8, this))]) mv_World_refArguments (Or.inl (tbk_mem (j := 9) (k := 233) rfl)) rfl (by decide +kernel) (Nat.le_of_ble_eq_true rfl) (Nat.le_of_ble_eq_true rfl) rfl (by decide) (lk_World_refArguments hγ i49 (mI M 67 i3 a1.toNatClampNeg) _ M46 h) (fun _ _ => Qi_r) (fun v M50 hp => Qi_k (R := fun st => E γ k_Writer_instruction 5 266 [some (vr (some (8, this))), some (vi a1), some (vi (mI M 66 i1 a1.toNatClampNeg)), some (vi (mI M 67 i3 a1.toNatClampNeg)), none] st M50 (Qv Q)) hp (fun r51 h => ?_))
                    refine E_blk (lv' := [some (vr (some (8, this))), some (vi a1), some (vi (mI M 66 i1 a1.toNatClampNeg)), some (vi (mI M 67 i3 a1.toNatClampNeg)), none]) (st' := [vr (mR M50 8 this 5), vi r51, vi ((6 : Int32) * (mI M 67 i3 a1.toNatClampNeg)), vr (some (211, (2 * i48 + 2))), vr (some (8, this))]) (M1 := M50) (pc' := 270) (tb_Writer hγ) [.aload_n 0, .getfield 66] (by decide +kernel) rfl rfl trivial ?_
                    obtain ⟨i52, ei52, h⟩ := h
                    rw [ei52]
                    refine E_blk (lv' := [some (vr (some (8, this))), some (vi a1), some (vi (mI M 66 i1 a1.toNatClampNeg)), some (vi (mI M 67 i3 a1.toNatClampNeg)), none]) (st' := [vi (mI M 67 i3 a1.toNatClampNeg), vr (some (5, i52)), vi r51, vi ((6 : Int32) * (mI M 67 i3 a1.toNatClampNeg)), vr (some (211, (2 * i48 + 2))), vr (some (8, this))]) (M1 := M50) (pc' := 271) (tb_Writer hγ) [.iload_n 3] (by decide +kernel) rfl rfl trivial ?_
                    refine E_callV (κ' := k_World_refType) (As := [vi (mI M 67 i3 a1.toNatClampNeg)]) (st := [vi r51, vi ((6 : Int32) * (mI M 67 i3 a1.toNatClampNeg)), vr (some (211, (2 * i48 + 2))), vr (some (8, this))]) mv_World_refType (Or.inl (tbk_mem (j := 9) (k := 232) rfl)) rfl (by decide +kernel) (Nat.le_of_ble_eq_true rfl) (Nat.le_of_ble_eq_true rfl) rfl (by decide) (lk_World_refType hγ i52 (mI M 67 i3 a1.toNatClampNeg) _ M50 h) (fun _ _ => Qi_r) (fun v M53 hp => Qi_k (R := fun st => E γ k_Writer_instruction 5 274 [some (vr (some (8, this))), some (vi a1), some (vi (mI M 66 i1 a1.toNatClampNeg)), some (vi (mI M 67 i3 a1.toNatClampNeg)), none] st M53 (Qv Q)) hp (fun r54 h => ?_))
                    refine E_callV (κ' := k_Writer_types) (As := [vr (some (211, (2 * i48 + 2))), vi ((6 : Int32) * (mI M 67 i3 a1.toNatClampNeg)), vi r51, vi r54]) (st := []) mv_Writer_types (Or.inl (tbk_mem (j := 9) (k := 209) rfl)) rfl (by decide +kernel) (Nat.le_of_ble_eq_true rfl) (Nat.le_of_ble_eq_true rfl) rfl (by decide) (lk_Writer_types hγ this (2 * i48 + 2) ((6 : Int32) * (mI M 67 i3 a1.toNatClampNeg)) r51 r54 _ M53 h) (fun _ _ => Qv_r) (fun v M55 hp => Qv_k (R := fun st => E γ k_Writer_instruction 5 277 [some (vr (some (8, this))), some (vi a1), some (vi (mI M 66 i1 a1.toNatClampNeg)), some (vi (mI M 67 i3 a1.toNatClampNeg)), none] st M55 (Qv Q)) hp (fun h => ?_))
                    exact E_vret rfl (by decide +kernel) h
                  · rw [if_neg b47] at h
                    refine E_blk (lv' := [some (vr (some (8, this))), some (vi a1), some (vi (mI M 66 i1 a1.toNatClampNeg)), some (vi (mI M 67 i3 a1.toNatClampNeg)), none]) (st' := [vr (mR M46 8 this 5), vr (some (8, this))]) (M1 := M46) (pc' := 236) (tb_Writer hγ) [.aload_n 0, .aload_n 0, .getfield 66] (by decide +kernel) rfl rfl trivial ?_
                    obtain ⟨i56, ei56, h⟩ := h
                    rw [ei56]
                    refine E_blk (lv' := [some (vr (some (8, this))), some (vi a1), some (vi (mI M 66 i1 a1.toNatClampNeg)), some (vi (mI M 67 i3 a1.toNatClampNeg)), none]) (st' := [vi (mI M 67 i3 a1.toNatClampNeg), vr (some (5, i56)), vr (some (8, this))]) (M1 := M46) (pc' := 237) (tb_Writer hγ) [.iload_n 3] (by decide +kernel) rfl rfl trivial ?_
                    refine E_callV (κ' := k_World_refType) (As := [vi (mI M 67 i3 a1.toNatClampNeg)]) (st := [vr (some (8, this))]) mv_World_refType (Or.inl (tbk_mem (j := 9) (k := 232) rfl)) rfl (by decide +kernel) (Nat.le_of_ble_eq_true rfl) (Nat.le_of_ble_eq_true rfl) rfl (by decide) (lk_World_refType hγ i56 (mI M 67 i3 a1.toNatClampNeg) _ M46 h) (fun _ _ => Qi_r) (fun v M57 hp => Qi_k (R := fun st => E γ k_Writer_instruction 5 240 [some (vr (some (8, this))), some (vi a1), some (vi (mI M 66 i1 a1.toNatClampNeg)), some (vi (mI M 67 i3 a1.toNatClampNeg)), none] st M57 (Qv Q)) hp (fun r58 h => ?_))
                    refine E_callV (κ' := k_Writer_kind) (As := [vi r58]) (st := []) mv_Writer_kind (Or.inl (tbk_mem (j := 9) (k := 194) rfl)) rfl (by decide +kernel) (Nat.le_of_ble_eq_true rfl) (Nat.le_of_ble_eq_true rfl) rfl (by decide) (lk_Writer_kind hγ this r58 _ M57 h) (fun _ _ => Qv_r) (fun v M59 hp => Qv_k (R := fun st => E γ k_Writer_instruction 5 243 [some (vr (some (8, this))), some (vi a1), some (vi (mI M 66 i1 a1.toNatClampNeg)), some (vi (mI M 67 i3 a1.toNatClampNeg)), none] st M59 (Qv Q)) hp (fun h => ?_))
                    refine E_goto (off := 34) (tgt := 277) (by decide +kernel) (by decide) ?_
                    exact E_vret rfl (by decide +kernel) h
      · rw [if_neg b17] at h
        refine E_blk (lv' := [some (vr (some (8, this))), some (vi a1), some (vi (mI M 66 i1 a1.toNatClampNeg)), some (vi (mI M 67 i3 a1.toNatClampNeg)), none]) (st' := [vi (mI M 67 i3 a1.toNatClampNeg), vr (some (8, this))]) (M1 := M15) (pc' := 80) (tb_Writer hγ) [.aload_n 0, .iload_n 3] (by decide +kernel) rfl rfl trivial ?_
        refine E_callV (κ' := k_Writer_label) (As := [vi (mI M 67 i3 a1.toNatClampNeg)]) (st := []) mv_Writer_label (Or.inl (tbk_mem (j := 9) (k := 222) rfl)) rfl (by decide +kernel) (Nat.le_of_ble_eq_true rfl) (Nat.le_of_ble_eq_true rfl) rfl (by decide) (lk_Writer_label hγ this (mI M 67 i3 a1.toNatClampNeg) _ M15 h) (fun _ _ => Qv_r) (fun v M60 hp => Qv_k (R := fun st => E γ k_Writer_instruction 5 83 [some (vr (some (8, this))), some (vi a1), some (vi (mI M 66 i1 a1.toNatClampNeg)), some (vi (mI M 67 i3 a1.toNatClampNeg)), none] st M60 (Qv Q)) hp (fun h => ?_))
        refine E_goto (off := 194) (tgt := 277) (by decide +kernel) (by decide) ?_
        exact E_vret rfl (by decide +kernel) h
    · rw [if_neg b14] at h
      refine E_mask [true, true, true, true, false] rfl ?_
      exact lk_Writer_instruction_j40 hγ this Q a1 (mI M 66 i1 a1.toNatClampNeg) (mI M 67 i3 a1.toNatClampNeg) M12 h
def w_Writer_handler_L13 (this : Nat) (Q : Mem → Prop) : Nat → Int32 → Int32 → Mem → Prop
  | 0, _, _, _ => False
  | n + 1, v1, v2, M => if (3 : Int32) ≤ v2 then (∃ i4, (mR M 8 this 5) = some (5, i4) ∧ vp_in (v1 + (3 : Int32)) (mL M 75 i4) ∧ w_Writer_word this (mI M 75 i4 (v1 + (3 : Int32)).toNatClampNeg) (fun M6 => w_Writer_end this (fun M7 => Q M7) M6) M) else (∃ i8, (mR M 8 this 5) = some (5, i8) ∧ vp_in (v1 + v2) (mL M 75 i8) ∧ w_Writer_label this (mI M 75 i8 (v1 + v2).toNatClampNeg) (fun M10 => (w_Writer_handler_L13 this Q n) v1 (v2 + (1 : Int32)) M10) M)
def w_Writer_handler (this : Nat) (a1 : Int32) (Q : Mem → Prop) (M : Mem) : Prop :=
  w_Writer_line this (2 : Int32) (fun M1 => w_Writer_word this (67 : Int32) (fun M2 => ∃ n11 : Nat, w_Writer_handler_L13 this Q n11 a1 (0 : Int32) M2) M1) M
set_option maxRecDepth 4096 in
theorem lk_Writer_handler_L13 {γ : Gm} (hγ : Gk γ) (this : Nat) (Q : Mem → Prop) : ∀ (n : Nat) (v1 : Int32) (v2 : Int32) (M : Mem), w_Writer_handler_L13 this Q n v1 v2 M → E γ k_Writer_handler 4 13 [some (vr (some (8, this))), some (vi v1), some (vi v2)] [] M (Qv Q) := by
  intro n
  induction n with
  | zero => intro v1 v2 M h; exact h.elim
  | succ n ih =>
    intro v1 v2 M h
    unfold w_Writer_handler_L13 at h
    refine E_blk (lv' := [some (vr (some (8, this))), some (vi v1), some (vi v2)]) (st' := [vi (3 : Int32), vi v2]) (M1 := M) (pc' := 15) (tb_Writer hγ) [.iload_n 2, .iconst 3] (by decide +kernel) rfl rfl trivial ?_
    refine E_icmp_ge (off := 24) (tgt := 39) (by decide +kernel) (by decide) (fun b3 => ?_) (fun b3 => ?_)
    · rw [if_pos b3] at h
      refine E_blk (lv' := [some (vr (some (8, this))), some (vi v1), some (vi v2)]) (st' := [vr (mR M 8 this 5), vr (some (8, this))]) (M1 := M) (pc' := 44) (tb_Writer hγ) [.aload_n 0, .aload_n 0, .getfield 66] (by decide +kernel) rfl rfl trivial ?_
      obtain ⟨i4, ei4, h⟩ := h
      rw [ei4]
      obtain ⟨c5, h⟩ := h
      refine E_blk (lv' := [some (vr (some (8, this))), some (vi v1), some (vi v2)]) (st' := [vi (mI M 75 i4 (v1 + (3 : Int32)).toNatClampNeg), vr (some (8, this))]) (M1 := M) (pc' := 51) (tb_Writer hγ) [.getfield 205, .iload_n 1, .iconst 3, .iadd, .iaload] (by decide +kernel) rfl rfl ⟨c5, trivial⟩ ?_
      refine E_callV (κ' := k_Writer_word) (As := [vi (mI M 75 i4 (v1 + (3 : Int32)).toNatClampNeg)]) (st := []) mv_Writer_word (Or.inl (tbk_mem (j := 9) (k := 173) rfl)) rfl (by decide +kernel) (Nat.le_of_ble_eq_true rfl) (Nat.le_of_ble_eq_true rfl) rfl (by decide) (lk_Writer_word hγ this (mI M 75 i4 (v1 + (3 : Int32)).toNatClampNeg) _ M h) (fun _ _ => Qv_r) (fun v M6 hp => Qv_k (R := fun st => E γ k_Writer_handler 4 54 [some (vr (some (8, this))), some (vi v1), some (vi v2)] st M6 (Qv Q)) hp (fun h => ?_))
      refine E_blk (lv' := [some (vr (some (8, this))), some (vi v1), some (vi v2)]) (st' := [vr (some (8, this))]) (M1 := M6) (pc' := 55) (tb_Writer hγ) [.aload_n 0] (by decide +kernel) rfl rfl trivial ?_
      refine E_callV (κ' := k_Writer_end) (As := []) (st := []) mv_Writer_end (Or.inl (tbk_mem (j := 9) (k := 186) rfl)) rfl (by decide +kernel) (Nat.le_of_ble_eq_true rfl) (Nat.le_of_ble_eq_true rfl) rfl (by decide) (lk_Writer_end hγ this _ M6 h) (fun _ _ => Qv_r) (fun v M7 hp => Qv_k (R := fun st => E γ k_Writer_handler 4 58 [some (vr (some (8, this))), some (vi v1), some (vi v2)] st M7 (Qv Q)) hp (fun h => ?_))
      exact E_vret rfl (by decide +kernel) h
    · rw [if_neg b3] at h
      refine E_blk (lv' := [some (vr (some (8, this))), some (vi v1), some (vi v2)]) (st' := [vr (mR M 8 this 5), vr (some (8, this))]) (M1 := M) (pc' := 23) (tb_Writer hγ) [.aload_n 0, .aload_n 0, .getfield 66] (by decide +kernel) rfl rfl trivial ?_
      obtain ⟨i8, ei8, h⟩ := h
      rw [ei8]
      obtain ⟨c9, h⟩ := h
      refine E_blk (lv' := [some (vr (some (8, this))), some (vi v1), some (vi v2)]) (st' := [vi (mI M 75 i8 (v1 + v2).toNatClampNeg), vr (some (8, this))]) (M1 := M) (pc' := 30) (tb_Writer hγ) [.getfield 205, .iload_n 1, .iload_n 2, .iadd, .iaload] (by decide +kernel) rfl rfl ⟨c9, trivial⟩ ?_
      refine E_callV (κ' := k_Writer_label) (As := [vi (mI M 75 i8 (v1 + v2).toNatClampNeg)]) (st := []) mv_Writer_label (Or.inl (tbk_mem (j := 9) (k := 222) rfl)) rfl (by decide +kernel) (Nat.le_of_ble_eq_true rfl) (Nat.le_of_ble_eq_true rfl) rfl (by decide) (lk_Writer_label hγ this (mI M 75 i8 (v1 + v2).toNatClampNeg) _ M h) (fun _ _ => Qv_r) (fun v M10 hp => Qv_k (R := fun st => E γ k_Writer_handler 4 33 [some (vr (some (8, this))), some (vi v1), some (vi v2)] st M10 (Qv Q)) hp (fun h => ?_))
      refine E_blk (lv' := [some (vr (some (8, this))), some (vi v1), some (vi (v2 + (1 : Int32)))]) (st' := []) (M1 := M10) (pc' := 36) (tb_Writer hγ) [.iinc 2 1] (by decide +kernel) rfl rfl trivial ?_
      refine E_goto (off := -23) (tgt := 13) (by decide +kernel) (by decide) ?_
      refine E_mask [true, true, true] rfl ?_
      exact ih v1 (v2 + (1 : Int32)) M10 h
set_option maxRecDepth 4096 in
theorem lk_Writer_handler {γ : Gm} (hγ : Gk γ) (this : Nat) (a1 : Int32) (Q : Mem → Prop) (M : Mem) (h : w_Writer_handler this a1 Q M) : E γ k_Writer_handler 4 0 [some (vr (some (8, this))), some (vi a1), none] [] M (Qv Q) := by
  unfold w_Writer_handler at h
  refine E_blk (lv' := [some (vr (some (8, this))), some (vi a1), none]) (st' := [vi (2 : Int32), vr (some (8, this))]) (M1 := M) (pc' := 2) (tb_Writer hγ) [.aload_n 0, .iconst 2] (by decide +kernel) rfl rfl trivial ?_
  refine E_callV (κ' := k_Writer_line) (As := [vi (2 : Int32)]) (st := []) mv_Writer_line (Or.inl (tbk_mem (j := 9) (k := 161) rfl)) rfl (by decide +kernel) (Nat.le_of_ble_eq_true rfl) (Nat.le_of_ble_eq_true rfl) rfl (by decide) (lk_Writer_line hγ this (2 : Int32) _ M h) (fun _ _ => Qv_r) (fun v M1 hp => Qv_k (R := fun st => E γ k_Writer_handler 4 5 [some (vr (some (8, this))), some (vi a1), none] st M1 (Qv Q)) hp (fun h => ?_))
  refine E_blk (lv' := [some (vr (some (8, this))), some (vi a1), none]) (st' := [vi (67 : Int32), vr (some (8, this))]) (M1 := M1) (pc' := 8) (tb_Writer hγ) [.aload_n 0, .bipush 67] (by decide +kernel) rfl rfl trivial ?_
  refine E_callV (κ' := k_Writer_word) (As := [vi (67 : Int32)]) (st := []) mv_Writer_word (Or.inl (tbk_mem (j := 9) (k := 173) rfl)) rfl (by decide +kernel) (Nat.le_of_ble_eq_true rfl) (Nat.le_of_ble_eq_true rfl) rfl (by decide) (lk_Writer_word hγ this (67 : Int32) _ M1 h) (fun _ _ => Qv_r) (fun v M2 hp => Qv_k (R := fun st => E γ k_Writer_handler 4 11 [some (vr (some (8, this))), some (vi a1), none] st M2 (Qv Q)) hp (fun h => ?_))
  refine E_blk (lv' := [some (vr (some (8, this))), some (vi a1), some (vi (0 : Int32))]) (st' := []) (M1 := M2) (pc' := 13) (tb_Writer hγ) [.iconst 0, .istore_n 2] (by decide +kernel) rfl rfl trivial ?_
  obtain ⟨n11, h⟩ := h
  refine E_mask [true, true, true] rfl ?_
  exact lk_Writer_handler_L13 hγ this Q n11 a1 (0 : Int32) M2 h
def w_Writer_method_L274 (this : Nat) (Q : Mem → Prop) : Nat → Int32 → Int32 → Mem → Prop
  | 0, _, _, _ => False
  | n + 1, v1, v3, M => ∃ i34, (mR M 8 this 5) = some (5, i34) ∧ vp_in v1 (mL M 65 i34) ∧ if (mI M 65 i34 v1.toNatClampNeg) ≤ v3 then (Q M) else (∃ i37, (mR M 8 this 5) = some (5, i37) ∧ vp_in v1 (mL M 64 i37) ∧ w_Writer_handler this ((4 : Int32) * ((mI M 64 i37 v1.toNatClampNeg) + v3)) (fun M39 => (w_Writer_method_L274 this Q n) v1 (v3 + (1 : Int32)) M39) M)
def w_Writer_method_j272 (this : Nat) (Q : Mem → Prop) (v1 : Int32) (M : Mem) : Prop :=
  ∃ n40 : Nat, w_Writer_method_L274 this Q n40 v1 (0 : Int32) M
def w_Writer_method_j227 (this : Nat) (Q : Mem → Prop) (k156 : Int32 → Int32 → Int32 → Mem → Prop) (v1 : Int32) (v2 : Int32) (v3 : Int32) (v4 : Int32) (M : Mem) : Prop :=
  w_Writer_instruction this v4 (fun M55 => w_Writer_end this (fun M56 => k156 v1 v2 (v3 + (1 : Int32)) M56) M55) M
def w_Writer_method_j212 (this : Nat) (Q : Mem → Prop) (k156 : Int32 → Int32 → Int32 → Mem → Prop) (v1 : Int32) (v2 : Int32) (v3 : Int32) (v4 : Int32) (M : Mem) : Prop :=
  vp_in v3 (mL M 96 this) ∧ if (mI M 96 this v3.toNatClampNeg) < 0 then (w_Writer_method_j227 this Q k156 v1 v2 v3 v4 M) else (w_Writer_sign this (58 : Int32) (fun M57 => w_Writer_method_j227 this Q k156 v1 v2 v3 v4 M57) M)
def w_Writer_method_j193 (this : Nat) (Q : Mem → Prop) (k156 : Int32 → Int32 → Int32 → Mem → Prop) (v1 : Int32) (v2 : Int32) (v3 : Int32) (v4 : Int32) (M : Mem) : Prop :=
  w_Writer_line this (2 : Int32) (fun M50 => vp_in v3 (mL M50 96 this) ∧ if (mI M50 96 this v3.toNatClampNeg) < 0 then (w_Writer_method_j212 this Q k156 v1 v2 v3 v4 M50) else (w_Writer_label this v3 (fun M58 => w_Writer_method_j212 this Q k156 v1 v2 v3 v4 M58) M50)) M
def w_Writer_method_L156 (this : Nat) (Q : Mem → Prop) : Nat → Int32 → Int32 → Int32 → Mem → Prop
  | 0, _, _, _, _ => False
  | n + 1, v1, v2, v3, M => if v2 ≤ v3 then (vp_in v2 (mL M 96 this) ∧ if (mI M 96 this v2.toNatClampNeg) < 0 then (w_Writer_method_j272 this Q v1 M) else (w_Writer_line this (2 : Int32) (fun M41 => w_Writer_label this v2 (fun M42 => w_Writer_sign this (58 : Int32) (fun M43 => w_Writer_end this (fun M44 => w_Writer_method_j272 this Q v1 M44) M43) M42) M41) M)) else (∃ i45, (mR M 8 this 5) = some (5, i45) ∧ vp_in v1 (mL M 62 i45) ∧ ∃ i47, (mR M 8 this 5) = some (5, i47) ∧ vp_in ((mI M 62 i45 v1.toNatClampNeg) + v3) (mL M 70 i47) ∧ if (mI M 70 i47 ((mI M 62 i45 v1.toNatClampNeg) + v3).toNatClampNeg) < 0 then (w_Writer_method_j193 this Q (w_Writer_method_L156 this Q n) v1 v2 v3 ((mI M 62 i45 v1.toNatClampNeg) + v3) M) else (w_Writer_frame this ((mI M 62 i45 v1.toNatClampNeg) + v3) (fun M59 => w_Writer_method_j193 this Q (w_Writer_method_L156 this Q n) v1 v2 v3 ((mI M 62 i45 v1.toNatClampNeg) + v3) M59) M))
def w_Writer_method (this : Nat) (a1 : Int32) (Q : Mem → Prop) (M : Mem) : Prop :=
  w_Writer_line this (1 : Int32) (fun M1 => w_Writer_word this (64 : Int32) (fun M2 => ∃ i3, (mR M2 8 this 5) = some (5, i3) ∧ vp_in a1 (mL M2 57 i3) ∧ w_Writer_flags this (mI M2 57 i3 a1.toNatClampNeg) (52 : Int32) (69 : Int32) (72 : Int32) (70 : Int32) (fun M5 => ∃ i6, (mR M5 8 this 5) = some (5, i6) ∧ vp_in a1 (mL M5 56 i6) ∧ w_Writer_word this (mI M5 56 i6 a1.toNatClampNeg) (fun M8 => ∃ i9, (mR M8 8 this 5) = some (5, i9) ∧ ∃ i10, (mR M8 8 this 5) = some (5, i10) ∧ vp_in a1 (mL M8 58 i10) ∧ ∃ i12, (mR M8 8 this 5) = some (5, i12) ∧ vp_in a1 (mL M8 59 i12) ∧ w_Writer_types this (2 * i9 + 1) ((6 : Int32) * a1) (mI M8 58 i10 a1.toNatClampNeg) (mI M8 59 i12 a1.toNatClampNeg) (fun M14 => w_Writer_end this (fun M15 => ∃ i16, (mR M15 8 this 5) = some (5, i16) ∧ vp_in a1 (mL M15 57 i16) ∧ if ((mI M15 57 i16 a1.toNatClampNeg) &&& (8 : Int32)) = 0 then (w_Writer_line this (2 : Int32) (fun M19 => w_Writer_word this (65 : Int32) (fun M20 => ∃ i21, (mR M20 8 this 5) = some (5, i21) ∧ vp_in a1 (mL M20 60 i21) ∧ w_Writer_digits this (mI M20 60 i21 a1.toNatClampNeg) (fun M23 => ∃ i24, (mR M23 8 this 5) = some (5, i24) ∧ vp_in a1 (mL M23 61 i24) ∧ w_Writer_digits this (mI M23 61 i24 a1.toNatClampNeg) (fun M26 => w_Writer_end this (fun M27 => w_Writer_labels this a1 (fun M28 => ∃ i29, (mR M28 8 this 5) = some (5, i29) ∧ vp_in a1 (mL M28 63 i29) ∧ ∃ n60 : Nat, w_Writer_method_L156 this Q n60 a1 (mI M28 63 i29 a1.toNatClampNeg) (0 : Int32) M28) M27) M26) M23) M20) M19) M15) else (Q M15)) M14) M8) M5) M2) M1) M
set_option maxRecDepth 4096 in
theorem lk_Writer_method_L274 {γ : Gm} (hγ : Gk γ) (this : Nat) (Q : Mem → Prop) : ∀ (n : Nat) (v1 : Int32) (v3 : Int32) (M : Mem), w_Writer_method_L274 this Q n v1 v3 M → E γ k_Writer_method 6 274 [some (vr (some (8, this))), some (vi v1), none, some (vi v3), none] [] M (Qv Q) := by
  intro n
  induction n with
  | zero => intro v1 v3 M h; exact h.elim
  | succ n ih =>
    intro v1 v3 M h
    unfold w_Writer_method_L274 at h
    refine E_blk (lv' := [some (vr (some (8, this))), some (vi v1), none, some (vi v3), none]) (st' := [vr (mR M 8 this 5), vi v3]) (M1 := M) (pc' := 279) (tb_Writer hγ) [.iload_n 3, .aload_n 0, .getfield 66] (by decide +kernel) rfl rfl trivial ?_
    obtain ⟨i34, ei34, h⟩ := h
    rw [ei34]
    obtain ⟨c35, h⟩ := h
    refine E_blk (lv' := [some (vr (some (8, this))), some (vi v1), none, some (vi v3), none]) (st' := [vi (mI M 65 i34 v1.toNatClampNeg), vi v3]) (M1 := M) (pc' := 284) (tb_Writer hγ) [.getfield 177, .iload_n 1, .iaload] (by decide +kernel) rfl rfl ⟨c35, trivial⟩ ?_
    refine E_icmp_ge (off := 26) (tgt := 310) (by decide +kernel) (by decide) (fun b36 => ?_) (fun b36 => ?_)
    · rw [if_pos b36] at h
      exact E_vret rfl (by decide +kernel) h
    · rw [if_neg b36] at h
      refine E_blk (lv' := [some (vr (some (8, this))), some (vi v1), none, some (vi v3), none]) (st' := [vr (mR M 8 this 5), vi (4 : Int32), vr (some (8, this))]) (M1 := M) (pc' := 293) (tb_Writer hγ) [.aload_n 0, .iconst 4, .aload_n 0, .getfield 66] (by decide +kernel) rfl rfl trivial ?_
      obtain ⟨i37, ei37, h⟩ := h
      rw [ei37]
      obtain ⟨c38, h⟩ := h
      refine E_blk (lv' := [some (vr (some (8, this))), some (vi v1), none, some (vi v3), none]) (st' := [vi ((4 : Int32) * ((mI M 64 i37 v1.toNatClampNeg) + v3)), vr (some (8, this))]) (M1 := M) (pc' := 301) (tb_Writer hγ) [.getfield 180, .iload_n 1, .iaload, .iload_n 3, .iadd, .imul] (by decide +kernel) rfl rfl ⟨c38, trivial⟩ ?_
      refine E_callV (κ' := k_Writer_handler) (As := [vi ((4 : Int32) * ((mI M 64 i37 v1.toNatClampNeg) + v3))]) (st := []) mv_Writer_handler (Or.inl (tbk_mem (j := 9) (k := 234) rfl)) rfl (by decide +kernel) (Nat.le_of_ble_eq_true rfl) (Nat.le_of_ble_eq_true rfl) rfl (by decide) (lk_Writer_handler hγ this ((4 : Int32) * ((mI M 64 i37 v1.toNatClampNeg) + v3)) _ M h) (fun _ _ => Qv_r) (fun v M39 hp => Qv_k (R := fun st => E γ k_Writer_method 6 304 [some (vr (some (8, this))), some (vi v1), none, some (vi v3), none] st M39 (Qv Q)) hp (fun h => ?_))
      refine E_blk (lv' := [some (vr (some (8, this))), some (vi v1), none, some (vi (v3 + (1 : Int32))), none]) (st' := []) (M1 := M39) (pc' := 307) (tb_Writer hγ) [.iinc 3 1] (by decide +kernel) rfl rfl trivial ?_
      refine E_goto (off := -33) (tgt := 274) (by decide +kernel) (by decide) ?_
      refine E_mask [true, true, false, true, false] rfl ?_
      exact ih v1 (v3 + (1 : Int32)) M39 h
set_option maxRecDepth 4096 in
theorem lk_Writer_method_j272 {γ : Gm} (hγ : Gk γ) (this : Nat) (Q : Mem → Prop) (v1 : Int32) (M : Mem) (h : w_Writer_method_j272 this Q v1 M) : E γ k_Writer_method 6 272 [some (vr (some (8, this))), some (vi v1), none, none, none] [] M (Qv Q) := by
  unfold w_Writer_method_j272 at h
  refine E_blk (lv' := [some (vr (some (8, this))), some (vi v1), none, some (vi (0 : Int32)), none]) (st' := []) (M1 := M) (pc' := 274) (tb_Writer hγ) [.iconst 0, .istore_n 3] (by decide +kernel) rfl rfl trivial ?_
  obtain ⟨n40, h⟩ := h
  refine E_mask [true, true, false, true, false] rfl ?_
  exact lk_Writer_method_L274 hγ this Q n40 v1 (0 : Int32) M h
set_option maxRecDepth 4096 in
theorem lk_Writer_method_j227 {γ : Gm} (hγ : Gk γ) (this : Nat) (Q : Mem → Prop) (k156 : Int32 → Int32 → Int32 → Mem → Prop) (hk156 : ∀ (v1 : Int32) (v2 : Int32) (v3 : Int32) (M : Mem), k156 v1 v2 v3 M → E γ k_Writer_method 6 156 [some (vr (some (8, this))), some (vi v1), some (vi v2), some (vi v3), none] [] M (Qv Q)) (v1 : Int32) (v2 : Int32) (v3 : Int32) (v4 : Int32) (M : Mem) (h : w_Writer_method_j227 this Q k156 v1 v2 v3 v4 M) : E γ k_Writer_method 6 227 [some (vr (some (8, this))), some (vi v1), some (vi v2), some (vi v3), some (vi v4)] [] M (Qv Q) := by
  unfold w_Writer_method_j227 at h
  refine E_blk (lv' := [some (vr (some (8, this))), some (vi v1), some (vi v2), some (vi v3), some (vi v4)]) (st' := [vi v4, vr (some (8, this))]) (M1 := M) (pc' := 230) (tb_Writer hγ) [.aload_n 0, .iload 4] (by decide +kernel) rfl rfl trivial ?_
  refine E_callV (κ' := k_Writer_instruction) (As := [vi v4]) (st := []) mv_Writer_instruction (Or.inl (tbk_mem (j := 9) (k := 226) rfl)) rfl (by decide +kernel) (Nat.le_of_ble_eq_true rfl) (Nat.le_of_ble_eq_true rfl) rfl (by decide) (lk_Writer_instruction hγ this v4 _ M h) (fun _ _ => Qv_r) (fun v M55 hp => Qv_k (R := fun st => E γ k_Writer_method 6 233 [some (vr (some (8, this))), some (vi v1), some (vi v2), some (vi v3), some (vi v4)] st M55 (Qv Q)) hp (fun h => ?_))
  refine E_blk (lv' := [some (vr (some (8, this))), some (vi v1), some (vi v2), some (vi v3), some (vi v4)]) (st' := [vr (some (8, this))]) (M1 := M55) (pc' := 234) (tb_Writer hγ) [.aload_n 0] (by decide +kernel) rfl rfl trivial ?_
  refine E_callV (κ' := k_Writer_end) (As := []) (st := []) mv_Writer_end (Or.inl (tbk_mem (j := 9) (k := 186) rfl)) rfl (by decide +kernel) (Nat.le_of_ble_eq_true rfl) (Nat.le_of_ble_eq_true rfl) rfl (by decide) (lk_Writer_end hγ this _ M55 h) (fun _ _ => Qv_r) (fun v M56 hp => Qv_k (R := fun st => E γ k_Writer_method 6 237 [some (vr (some (8, this))), some (vi v1), some (vi v2), some (vi v3), some (vi v4)] st M56 (Qv Q)) hp (fun h => ?_))
  refine E_blk (lv' := [some (vr (some (8, this))), some (vi v1), some (vi v2), some (vi (v3 + (1 : Int32))), some (vi v4)]) (st' := []) (M1 := M56) (pc' := 240) (tb_Writer hγ) [.iinc 3 1] (by decide +kernel) rfl rfl trivial ?_
  refine E_goto (off := -84) (tgt := 156) (by decide +kernel) (by decide) ?_
  refine E_mask [true, true, true, true, false] rfl ?_
  exact hk156 v1 v2 (v3 + (1 : Int32)) M56 h
set_option maxRecDepth 4096 in
theorem lk_Writer_method_j212 {γ : Gm} (hγ : Gk γ) (this : Nat) (Q : Mem → Prop) (k156 : Int32 → Int32 → Int32 → Mem → Prop) (hk156 : ∀ (v1 : Int32) (v2 : Int32) (v3 : Int32) (M : Mem), k156 v1 v2 v3 M → E γ k_Writer_method 6 156 [some (vr (some (8, this))), some (vi v1), some (vi v2), some (vi v3), none] [] M (Qv Q)) (v1 : Int32) (v2 : Int32) (v3 : Int32) (v4 : Int32) (M : Mem) (h : w_Writer_method_j212 this Q k156 v1 v2 v3 v4 M) : E γ k_Writer_method 6 212 [some (vr (some (8, this))), some (vi v1), some (vi v2), some (vi v3), some (vi v4)] [] M (Qv Q) := by
  unfold w_Writer_method_j212 at h
  obtain ⟨c53, h⟩ := h
  refine E_blk (lv' := [some (vr (some (8, this))), some (vi v1), some (vi v2), some (vi v3), some (vi v4)]) (st' := [vi (mI M 96 this v3.toNatClampNeg)]) (M1 := M) (pc' := 218) (tb_Writer hγ) [.aload_n 0, .getfield 19, .iload_n 3, .iaload] (by decide +kernel) rfl rfl ⟨c53, trivial⟩ ?_
  refine E_if_lt (off := 9) (tgt := 227) (by decide +kernel) (by decide) (fun b54 => ?_) (fun b54 => ?_)
  · rw [if_pos b54] at h
    refine E_mask [true, true, true, true, true] rfl ?_
    exact lk_Writer_method_j227 hγ this Q k156 hk156 v1 v2 v3 v4 M h
  · rw [if_neg b54] at h
    refine E_blk (lv' := [some (vr (some (8, this))), some (vi v1), some (vi v2), some (vi v3), some (vi v4)]) (st' := [vi (58 : Int32), vr (some (8, this))]) (M1 := M) (pc' := 224) (tb_Writer hγ) [.aload_n 0, .bipush 58] (by decide +kernel) rfl rfl trivial ?_
    refine E_callV (κ' := k_Writer_sign) (As := [vi (58 : Int32)]) (st := []) mv_Writer_sign (Or.inl (tbk_mem (j := 9) (k := 182) rfl)) rfl (by decide +kernel) (Nat.le_of_ble_eq_true rfl) (Nat.le_of_ble_eq_true rfl) rfl (by decide) (lk_Writer_sign hγ this (58 : Int32) _ M h) (fun _ _ => Qv_r) (fun v M57 hp => Qv_k (R := fun st => E γ k_Writer_method 6 227 [some (vr (some (8, this))), some (vi v1), some (vi v2), some (vi v3), some (vi v4)] st M57 (Qv Q)) hp (fun h => ?_))
    refine E_mask [true, true, true, true, true] rfl ?_
    exact lk_Writer_method_j227 hγ this Q k156 hk156 v1 v2 v3 v4 M57 h
set_option maxRecDepth 4096 in
theorem lk_Writer_method_j193 {γ : Gm} (hγ : Gk γ) (this : Nat) (Q : Mem → Prop) (k156 : Int32 → Int32 → Int32 → Mem → Prop) (hk156 : ∀ (v1 : Int32) (v2 : Int32) (v3 : Int32) (M : Mem), k156 v1 v2 v3 M → E γ k_Writer_method 6 156 [some (vr (some (8, this))), some (vi v1), some (vi v2), some (vi v3), none] [] M (Qv Q)) (v1 : Int32) (v2 : Int32) (v3 : Int32) (v4 : Int32) (M : Mem) (h : w_Writer_method_j193 this Q k156 v1 v2 v3 v4 M) : E γ k_Writer_method 6 193 [some (vr (some (8, this))), some (vi v1), some (vi v2), some (vi v3), some (vi v4)] [] M (Qv Q) := by
  unfold w_Writer_method_j193 at h
  refine E_blk (lv' := [some (vr (some (8, this))), some (vi v1), some (vi v2), some (vi v3), some (vi v4)]) (st' := [vi (2 : Int32), vr (some (8, this))]) (M1 := M) (pc' := 195) (tb_Writer hγ) [.aload_n 0, .iconst 2] (by decide +kernel) rfl rfl trivial ?_
  refine E_callV (κ' := k_Writer_line) (As := [vi (2 : Int32)]) (st := []) mv_Writer_line (Or.inl (tbk_mem (j := 9) (k := 161) rfl)) rfl (by decide +kernel) (Nat.le_of_ble_eq_true rfl) (Nat.le_of_ble_eq_true rfl) rfl (by decide) (lk_Writer_line hγ this (2 : Int32) _ M h) (fun _ _ => Qv_r) (fun v M50 hp => Qv_k (R := fun st => E γ k_Writer_method 6 198 [some (vr (some (8, this))), some (vi v1), some (vi v2), some (vi v3), some (vi v4)] st M50 (Qv Q)) hp (fun h => ?_))
  obtain ⟨c51, h⟩ := h
  refine E_blk (lv' := [some (vr (some (8, this))), some (vi v1), some (vi v2), some (vi v3), some (vi v4)]) (st' := [vi (mI M50 96 this v3.toNatClampNeg)]) (M1 := M50) (pc' := 204) (tb_Writer hγ) [.aload_n 0, .getfield 19, .iload_n 3, .iaload] (by decide +kernel) rfl rfl ⟨c51, trivial⟩ ?_
  refine E_if_lt (off := 8) (tgt := 212) (by decide +kernel) (by decide) (fun b52 => ?_) (fun b52 => ?_)
  · rw [if_pos b52] at h
    refine E_mask [true, true, true, true, true] rfl ?_
    exact lk_Writer_method_j212 hγ this Q k156 hk156 v1 v2 v3 v4 M50 h
  · rw [if_neg b52] at h
    refine E_blk (lv' := [some (vr (some (8, this))), some (vi v1), some (vi v2), some (vi v3), some (vi v4)]) (st' := [vi v3, vr (some (8, this))]) (M1 := M50) (pc' := 209) (tb_Writer hγ) [.aload_n 0, .iload_n 3] (by decide +kernel) rfl rfl trivial ?_
    refine E_callV (κ' := k_Writer_label) (As := [vi v3]) (st := []) mv_Writer_label (Or.inl (tbk_mem (j := 9) (k := 222) rfl)) rfl (by decide +kernel) (Nat.le_of_ble_eq_true rfl) (Nat.le_of_ble_eq_true rfl) rfl (by decide) (lk_Writer_label hγ this v3 _ M50 h) (fun _ _ => Qv_r) (fun v M58 hp => Qv_k (R := fun st => E γ k_Writer_method 6 212 [some (vr (some (8, this))), some (vi v1), some (vi v2), some (vi v3), some (vi v4)] st M58 (Qv Q)) hp (fun h => ?_))
    refine E_mask [true, true, true, true, true] rfl ?_
    exact lk_Writer_method_j212 hγ this Q k156 hk156 v1 v2 v3 v4 M58 h
set_option maxRecDepth 4096 in
theorem lk_Writer_method_L156 {γ : Gm} (hγ : Gk γ) (this : Nat) (Q : Mem → Prop) : ∀ (n : Nat) (v1 : Int32) (v2 : Int32) (v3 : Int32) (M : Mem), w_Writer_method_L156 this Q n v1 v2 v3 M → E γ k_Writer_method 6 156 [some (vr (some (8, this))), some (vi v1), some (vi v2), some (vi v3), none] [] M (Qv Q) := by
  intro n
  induction n with
  | zero => intro v1 v2 v3 M h; exact h.elim
  | succ n ih =>
    intro v1 v2 v3 M h
    unfold w_Writer_method_L156 at h
    refine E_blk (lv' := [some (vr (some (8, this))), some (vi v1), some (vi v2), some (vi v3), none]) (st' := [vi v2, vi v3]) (M1 := M) (pc' := 158) (tb_Writer hγ) [.iload_n 3, .iload_n 2] (by decide +kernel) rfl rfl trivial ?_
    refine E_icmp_ge (off := 85) (tgt := 243) (by decide +kernel) (by decide) (fun b31 => ?_) (fun b31 => ?_)
    · rw [if_pos b31] at h
      obtain ⟨c32, h⟩ := h
      refine E_blk (lv' := [some (vr (some (8, this))), some (vi v1), some (vi v2), some (vi v3), none]) (st' := [vi (mI M 96 this v2.toNatClampNeg)]) (M1 := M) (pc' := 249) (tb_Writer hγ) [.aload_n 0, .getfield 19, .iload_n 2, .iaload] (by decide +kernel) rfl rfl ⟨c32, trivial⟩ ?_
      refine E_if_lt (off := 23) (tgt := 272) (by decide +kernel) (by decide) (fun b33 => ?_) (fun b33 => ?_)
      · rw [if_pos b33] at h
        refine E_mask [true, true, false, false, false] rfl ?_
        exact lk_Writer_method_j272 hγ this Q v1 M h
      · rw [if_neg b33] at h
        refine E_blk (lv' := [some (vr (some (8, this))), some (vi v1), some (vi v2), some (vi v3), none]) (st' := [vi (2 : Int32), vr (some (8, this))]) (M1 := M) (pc' := 254) (tb_Writer hγ) [.aload_n 0, .iconst 2] (by decide +kernel) rfl rfl trivial ?_
        refine E_callV (κ' := k_Writer_line) (As := [vi (2 : Int32)]) (st := []) mv_Writer_line (Or.inl (tbk_mem (j := 9) (k := 161) rfl)) rfl (by decide +kernel) (Nat.le_of_ble_eq_true rfl) (Nat.le_of_ble_eq_true rfl) rfl (by decide) (lk_Writer_line hγ this (2 : Int32) _ M h) (fun _ _ => Qv_r) (fun v M41 hp => Qv_k (R := fun st => E γ k_Writer_method 6 257 [some (vr (some (8, this))), some (vi v1), some (vi v2), some (vi v3), none] st M41 (Qv Q)) hp (fun h => ?_))
        refine E_blk (lv' := [some (vr (some (8, this))), some (vi v1), some (vi v2), some (vi v3), none]) (st' := [vi v2, vr (some (8, this))]) (M1 := M41) (pc' := 259) (tb_Writer hγ) [.aload_n 0, .iload_n 2] (by decide +kernel) rfl rfl trivial ?_
        refine E_callV (κ' := k_Writer_label) (As := [vi v2]) (st := []) mv_Writer_label (Or.inl (tbk_mem (j := 9) (k := 222) rfl)) rfl (by decide +kernel) (Nat.le_of_ble_eq_true rfl) (Nat.le_of_ble_eq_true rfl) rfl (by decide) (lk_Writer_label hγ this v2 _ M41 h) (fun _ _ => Qv_r) (fun v M42 hp => Qv_k (R := fun st => E γ k_Writer_method 6 262 [some (vr (some (8, this))), some (vi v1), some (vi v2), some (vi v3), none] st M42 (Qv Q)) hp (fun h => ?_))
        refine E_blk (lv' := [some (vr (some (8, this))), some (vi v1), some (vi v2), some (vi v3), none]) (st' := [vi (58 : Int32), vr (some (8, this))]) (M1 := M42) (pc' := 265) (tb_Writer hγ) [.aload_n 0, .bipush 58] (by decide +kernel) rfl rfl trivial ?_
        refine E_callV (κ' := k_Writer_sign) (As := [vi (58 : Int32)]) (st := []) mv_Writer_sign (Or.inl (tbk_mem (j := 9) (k := 182) rfl)) rfl (by decide +kernel) (Nat.le_of_ble_eq_true rfl) (Nat.le_of_ble_eq_true rfl) rfl (by decide) (lk_Writer_sign hγ this (58 : Int32) _ M42 h) (fun _ _ => Qv_r) (fun v M43 hp => Qv_k (R := fun st => E γ k_Writer_method 6 268 [some (vr (some (8, this))), some (vi v1), some (vi v2), some (vi v3), none] st M43 (Qv Q)) hp (fun h => ?_))
        refine E_blk (lv' := [some (vr (some (8, this))), some (vi v1), some (vi v2), some (vi v3), none]) (st' := [vr (some (8, this))]) (M1 := M43) (pc' := 269) (tb_Writer hγ) [.aload_n 0] (by decide +kernel) rfl rfl trivial ?_
        refine E_callV (κ' := k_Writer_end) (As := []) (st := []) mv_Writer_end (Or.inl (tbk_mem (j := 9) (k := 186) rfl)) rfl (by decide +kernel) (Nat.le_of_ble_eq_true rfl) (Nat.le_of_ble_eq_true rfl) rfl (by decide) (lk_Writer_end hγ this _ M43 h) (fun _ _ => Qv_r) (fun v M44 hp => Qv_k (R := fun st => E γ k_Writer_method 6 272 [some (vr (some (8, this))), some (vi v1), some (vi v2), some (vi v3), none] st M44 (Qv Q)) hp (fun h => ?_))
        refine E_mask [true, true, false, false, false] rfl ?_
        exact lk_Writer_method_j272 hγ this Q v1 M44 h
    · rw [if_neg b31] at h
      refine E_blk (lv' := [some (vr (some (8, this))), some (vi v1), some (vi v2), some (vi v3), none]) (st' := [vr (mR M 8 this 5)]) (M1 := M) (pc' := 165) (tb_Writer hγ) [.aload_n 0, .getfield 66] (by decide +kernel) rfl rfl trivial ?_
      obtain ⟨i45, ei45, h⟩ := h
      rw [ei45]
      obtain ⟨c46, h⟩ := h
      refine E_blk (lv' := [some (vr (some (8, this))), some (vi v1), some (vi v2), some (vi v3), some (vi ((mI M 62 i45 v1.toNatClampNeg) + v3))]) (st' := [vr (mR M 8 this 5)]) (M1 := M) (pc' := 178) (tb_Writer hγ) [.getfield 163, .iload_n 1, .iaload, .iload_n 3, .iadd, .istore 4, .aload_n 0, .getfield 66] (by decide +kernel) rfl rfl ⟨c46, trivial⟩ ?_
      obtain ⟨i47, ei47, h⟩ := h
      rw [ei47]
      obtain ⟨c48, h⟩ := h
      refine E_blk (lv' := [some (vr (some (8, this))), some (vi v1), some (vi v2), some (vi v3), some (vi ((mI M 62 i45 v1.toNatClampNeg) + v3))]) (st' := [vi (mI M 70 i47 ((mI M 62 i45 v1.toNatClampNeg) + v3).toNatClampNeg)]) (M1 := M) (pc' := 184) (tb_Writer hγ) [.getfield 166, .iload 4, .iaload] (by decide +kernel) rfl rfl ⟨c48, trivial⟩ ?_
      refine E_if_lt (off := 9) (tgt := 193) (by decide +kernel) (by decide) (fun b49 => ?_) (fun b49 => ?_)
      · rw [if_pos b49] at h
        refine E_mask [true, true, true, true, true] rfl ?_
        exact lk_Writer_method_j193 hγ this Q (w_Writer_method_L156 this Q n) ih v1 v2 v3 ((mI M 62 i45 v1.toNatClampNeg) + v3) M h
      · rw [if_neg b49] at h
        refine E_blk (lv' := [some (vr (some (8, this))), some (vi v1), some (vi v2), some (vi v3), some (vi ((mI M 62 i45 v1.toNatClampNeg) + v3))]) (st' := [vi ((mI M 62 i45 v1.toNatClampNeg) + v3), vr (some (8, this))]) (M1 := M) (pc' := 190) (tb_Writer hγ) [.aload_n 0, .iload 4] (by decide +kernel) rfl rfl trivial ?_
        refine E_callV (κ' := k_Writer_frame) (As := [vi ((mI M 62 i45 v1.toNatClampNeg) + v3)]) (st := []) mv_Writer_frame (Or.inl (tbk_mem (j := 9) (k := 218) rfl)) rfl (by decide +kernel) (Nat.le_of_ble_eq_true rfl) (Nat.le_of_ble_eq_true rfl) rfl (by decide) (lk_Writer_frame hγ this ((mI M 62 i45 v1.toNatClampNeg) + v3) _ M h) (fun _ _ => Qv_r) (fun v M59 hp => Qv_k (R := fun st => E γ k_Writer_method 6 193 [some (vr (some (8, this))), some (vi v1), some (vi v2), some (vi v3), some (vi ((mI M 62 i45 v1.toNatClampNeg) + v3))] st M59 (Qv Q)) hp (fun h => ?_))
        refine E_mask [true, true, true, true, true] rfl ?_
        exact lk_Writer_method_j193 hγ this Q (w_Writer_method_L156 this Q n) ih v1 v2 v3 ((mI M 62 i45 v1.toNatClampNeg) + v3) M59 h
set_option maxRecDepth 4096 in
theorem lk_Writer_method {γ : Gm} (hγ : Gk γ) (this : Nat) (a1 : Int32) (Q : Mem → Prop) (M : Mem) (h : w_Writer_method this a1 Q M) : E γ k_Writer_method 6 0 [some (vr (some (8, this))), some (vi a1), none, none, none] [] M (Qv Q) := by
  unfold w_Writer_method at h
  refine E_blk (lv' := [some (vr (some (8, this))), some (vi a1), none, none, none]) (st' := [vi (1 : Int32), vr (some (8, this))]) (M1 := M) (pc' := 2) (tb_Writer hγ) [.aload_n 0, .iconst 1] (by decide +kernel) rfl rfl trivial ?_
  refine E_callV (κ' := k_Writer_line) (As := [vi (1 : Int32)]) (st := []) mv_Writer_line (Or.inl (tbk_mem (j := 9) (k := 161) rfl)) rfl (by decide +kernel) (Nat.le_of_ble_eq_true rfl) (Nat.le_of_ble_eq_true rfl) rfl (by decide) (lk_Writer_line hγ this (1 : Int32) _ M h) (fun _ _ => Qv_r) (fun v M1 hp => Qv_k (R := fun st => E γ k_Writer_method 6 5 [some (vr (some (8, this))), some (vi a1), none, none, none] st M1 (Qv Q)) hp (fun h => ?_))
  refine E_blk (lv' := [some (vr (some (8, this))), some (vi a1), none, none, none]) (st' := [vi (64 : Int32), vr (some (8, this))]) (M1 := M1) (pc' := 8) (tb_Writer hγ) [.aload_n 0, .bipush 64] (by decide +kernel) rfl rfl trivial ?_
  refine E_callV (κ' := k_Writer_word) (As := [vi (64 : Int32)]) (st := []) mv_Writer_word (Or.inl (tbk_mem (j := 9) (k := 173) rfl)) rfl (by decide +kernel) (Nat.le_of_ble_eq_true rfl) (Nat.le_of_ble_eq_true rfl) rfl (by decide) (lk_Writer_word hγ this (64 : Int32) _ M1 h) (fun _ _ => Qv_r) (fun v M2 hp => Qv_k (R := fun st => E γ k_Writer_method 6 11 [some (vr (some (8, this))), some (vi a1), none, none, none] st M2 (Qv Q)) hp (fun h => ?_))
  refine E_blk (lv' := [some (vr (some (8, this))), some (vi a1), none, none, none]) (st' := [vr (mR M2 8 this 5), vr (some (8, this))]) (M1 := M2) (pc' := 16) (tb_Writer hγ) [.aload_n 0, .aload_n 0, .getfield 66] (by decide +kernel) rfl rfl trivial ?_
  obtain ⟨i3, ei3, h⟩ := h
  rw [ei3]
  obtain ⟨c4, h⟩ := h
  refine E_blk (lv' := [some (vr (some (8, this))), some (vi a1), none, none, none]) (st' := [vi (70 : Int32), vi (72 : Int32), vi (69 : Int32), vi (52 : Int32), vi (mI M2 57 i3 a1.toNatClampNeg), vr (some (8, this))]) (M1 := M2) (pc' := 29) (tb_Writer hγ) [.getfield 132, .iload_n 1, .iaload, .bipush 52, .bipush 69, .bipush 72, .bipush 70] (by decide +kernel) rfl rfl ⟨c4, trivial⟩ ?_
  refine E_callV (κ' := k_Writer_flags) (As := [vi (mI M2 57 i3 a1.toNatClampNeg), vi (52 : Int32), vi (69 : Int32), vi (72 : Int32), vi (70 : Int32)]) (st := []) mv_Writer_flags (Or.inl (tbk_mem (j := 9) (k := 169) rfl)) rfl (by decide +kernel) (Nat.le_of_ble_eq_true rfl) (Nat.le_of_ble_eq_true rfl) rfl (by decide) (lk_Writer_flags hγ this (mI M2 57 i3 a1.toNatClampNeg) (52 : Int32) (69 : Int32) (72 : Int32) (70 : Int32) _ M2 h) (fun _ _ => Qv_r) (fun v M5 hp => Qv_k (R := fun st => E γ k_Writer_method 6 32 [some (vr (some (8, this))), some (vi a1), none, none, none] st M5 (Qv Q)) hp (fun h => ?_))
  refine E_blk (lv' := [some (vr (some (8, this))), some (vi a1), none, none, none]) (st' := [vr (mR M5 8 this 5), vr (some (8, this))]) (M1 := M5) (pc' := 37) (tb_Writer hγ) [.aload_n 0, .aload_n 0, .getfield 66] (by decide +kernel) rfl rfl trivial ?_
  obtain ⟨i6, ei6, h⟩ := h
  rw [ei6]
  obtain ⟨c7, h⟩ := h
  refine E_blk (lv' := [some (vr (some (8, this))), some (vi a1), none, none, none]) (st' := [vi (mI M5 56 i6 a1.toNatClampNeg), vr (some (8, this))]) (M1 := M5) (pc' := 42) (tb_Writer hγ) [.getfield 135, .iload_n 1, .iaload] (by decide +kernel) rfl rfl ⟨c7, trivial⟩ ?_
  refine E_callV (κ' := k_Writer_word) (As := [vi (mI M5 56 i6 a1.toNatClampNeg)]) (st := []) mv_Writer_word (Or.inl (tbk_mem (j := 9) (k := 173) rfl)) rfl (by decide +kernel) (Nat.le_of_ble_eq_true rfl) (Nat.le_of_ble_eq_true rfl) rfl (by decide) (lk_Writer_word hγ this (mI M5 56 i6 a1.toNatClampNeg) _ M5 h) (fun _ _ => Qv_r) (fun v M8 hp => Qv_k (R := fun st => E γ k_Writer_method 6 45 [some (vr (some (8, this))), some (vi a1), none, none, none] st M8 (Qv Q)) hp (fun h => ?_))
  refine E_blk (lv' := [some (vr (some (8, this))), some (vi a1), none, none, none]) (st' := [vr (mR M8 8 this 5), vr (some (8, this))]) (M1 := M8) (pc' := 50) (tb_Writer hγ) [.aload_n 0, .aload_n 0, .getfield 66] (by decide +kernel) rfl rfl trivial ?_
  obtain ⟨i9, ei9, h⟩ := h
  rw [ei9]
  refine E_blk (lv' := [some (vr (some (8, this))), some (vi a1), none, none, none]) (st' := [vr (mR M8 8 this 5), vi ((6 : Int32) * a1), vr (some (211, (2 * i9 + 1))), vr (some (8, this))]) (M1 := M8) (pc' := 61) (tb_Writer hγ) [.getfield 138, .bipush 6, .iload_n 1, .imul, .aload_n 0, .getfield 66] (by decide +kernel) rfl rfl trivial ?_
  obtain ⟨i10, ei10, h⟩ := h
  rw [ei10]
  obtain ⟨c11, h⟩ := h
  refine E_blk (lv' := [some (vr (some (8, this))), some (vi a1), none, none, none]) (st' := [vr (mR M8 8 this 5), vi (mI M8 58 i10 a1.toNatClampNeg), vi ((6 : Int32) * a1), vr (some (211, (2 * i9 + 1))), vr (some (8, this))]) (M1 := M8) (pc' := 70) (tb_Writer hγ) [.getfield 141, .iload_n 1, .iaload, .aload_n 0, .getfield 66] (by decide +kernel) rfl rfl ⟨c11, trivial⟩ ?_
  obtain ⟨i12, ei12, h⟩ := h
  rw [ei12]
  obtain ⟨c13, h⟩ := h
  refine E_blk (lv' := [some (vr (some (8, this))), some (vi a1), none, none, none]) (st' := [vi (mI M8 59 i12 a1.toNatClampNeg), vi (mI M8 58 i10 a1.toNatClampNeg), vi ((6 : Int32) * a1), vr (some (211, (2 * i9 + 1))), vr (some (8, this))]) (M1 := M8) (pc' := 75) (tb_Writer hγ) [.getfield 144, .iload_n 1, .iaload] (by decide +kernel) rfl rfl ⟨c13, trivial⟩ ?_
  refine E_callV (κ' := k_Writer_types) (As := [vr (some (211, (2 * i9 + 1))), vi ((6 : Int32) * a1), vi (mI M8 58 i10 a1.toNatClampNeg), vi (mI M8 59 i12 a1.toNatClampNeg)]) (st := []) mv_Writer_types (Or.inl (tbk_mem (j := 9) (k := 209) rfl)) rfl (by decide +kernel) (Nat.le_of_ble_eq_true rfl) (Nat.le_of_ble_eq_true rfl) rfl (by decide) (lk_Writer_types hγ this (2 * i9 + 1) ((6 : Int32) * a1) (mI M8 58 i10 a1.toNatClampNeg) (mI M8 59 i12 a1.toNatClampNeg) _ M8 h) (fun _ _ => Qv_r) (fun v M14 hp => Qv_k (R := fun st => E γ k_Writer_method 6 78 [some (vr (some (8, this))), some (vi a1), none, none, none] st M14 (Qv Q)) hp (fun h => ?_))
  refine E_blk (lv' := [some (vr (some (8, this))), some (vi a1), none, none, none]) (st' := [vr (some (8, this))]) (M1 := M14) (pc' := 79) (tb_Writer hγ) [.aload_n 0] (by decide +kernel) rfl rfl trivial ?_
  refine E_callV (κ' := k_Writer_end) (As := []) (st := []) mv_Writer_end (Or.inl (tbk_mem (j := 9) (k := 186) rfl)) rfl (by decide +kernel) (Nat.le_of_ble_eq_true rfl) (Nat.le_of_ble_eq_true rfl) rfl (by decide) (lk_Writer_end hγ this _ M14 h) (fun _ _ => Qv_r) (fun v M15 hp => Qv_k (R := fun st => E γ k_Writer_method 6 82 [some (vr (some (8, this))), some (vi a1), none, none, none] st M15 (Qv Q)) hp (fun h => ?_))
  refine E_blk (lv' := [some (vr (some (8, this))), some (vi a1), none, none, none]) (st' := [vr (mR M15 8 this 5)]) (M1 := M15) (pc' := 86) (tb_Writer hγ) [.aload_n 0, .getfield 66] (by decide +kernel) rfl rfl trivial ?_
  obtain ⟨i16, ei16, h⟩ := h
  rw [ei16]
  obtain ⟨c17, h⟩ := h
  refine E_blk (lv' := [some (vr (some (8, this))), some (vi a1), none, none, none]) (st' := [vi ((mI M15 57 i16 a1.toNatClampNeg) &&& (8 : Int32))]) (M1 := M15) (pc' := 94) (tb_Writer hγ) [.getfield 132, .iload_n 1, .iaload, .bipush 8, .iand] (by decide +kernel) rfl rfl ⟨c17, trivial⟩ ?_
  refine E_if_eq (off := 4) (tgt := 98) (by decide +kernel) (by decide) (fun b18 => ?_) (fun b18 => ?_)
  · rw [if_pos b18] at h
    refine E_blk (lv' := [some (vr (some (8, this))), some (vi a1), none, none, none]) (st' := [vi (2 : Int32), vr (some (8, this))]) (M1 := M15) (pc' := 100) (tb_Writer hγ) [.aload_n 0, .iconst 2] (by decide +kernel) rfl rfl trivial ?_
    refine E_callV (κ' := k_Writer_line) (As := [vi (2 : Int32)]) (st := []) mv_Writer_line (Or.inl (tbk_mem (j := 9) (k := 161) rfl)) rfl (by decide +kernel) (Nat.le_of_ble_eq_true rfl) (Nat.le_of_ble_eq_true rfl) rfl (by decide) (lk_Writer_line hγ this (2 : Int32) _ M15 h) (fun _ _ => Qv_r) (fun v M19 hp => Qv_k (R := fun st => E γ k_Writer_method 6 103 [some (vr (some (8, this))), some (vi a1), none, none, none] st M19 (Qv Q)) hp (fun h => ?_))
    refine E_blk (lv' := [some (vr (some (8, this))), some (vi a1), none, none, none]) (st' := [vi (65 : Int32), vr (some (8, this))]) (M1 := M19) (pc' := 106) (tb_Writer hγ) [.aload_n 0, .bipush 65] (by decide +kernel) rfl rfl trivial ?_
    refine E_callV (κ' := k_Writer_word) (As := [vi (65 : Int32)]) (st := []) mv_Writer_word (Or.inl (tbk_mem (j := 9) (k := 173) rfl)) rfl (by decide +kernel) (Nat.le_of_ble_eq_true rfl) (Nat.le_of_ble_eq_true rfl) rfl (by decide) (lk_Writer_word hγ this (65 : Int32) _ M19 h) (fun _ _ => Qv_r) (fun v M20 hp => Qv_k (R := fun st => E γ k_Writer_method 6 109 [some (vr (some (8, this))), some (vi a1), none, none, none] st M20 (Qv Q)) hp (fun h => ?_))
    refine E_blk (lv' := [some (vr (some (8, this))), some (vi a1), none, none, none]) (st' := [vr (mR M20 8 this 5), vr (some (8, this))]) (M1 := M20) (pc' := 114) (tb_Writer hγ) [.aload_n 0, .aload_n 0, .getfield 66] (by decide +kernel) rfl rfl trivial ?_
    obtain ⟨i21, ei21, h⟩ := h
    rw [ei21]
    obtain ⟨c22, h⟩ := h
    refine E_blk (lv' := [some (vr (some (8, this))), some (vi a1), none, none, none]) (st' := [vi (mI M20 60 i21 a1.toNatClampNeg), vr (some (8, this))]) (M1 := M20) (pc' := 119) (tb_Writer hγ) [.getfield 151, .iload_n 1, .iaload] (by decide +kernel) rfl rfl ⟨c22, trivial⟩ ?_
    refine E_callV (κ' := k_Writer_digits) (As := [vi (mI M20 60 i21 a1.toNatClampNeg)]) (st := []) mv_Writer_digits (Or.inl (tbk_mem (j := 9) (k := 198) rfl)) rfl (by decide +kernel) (Nat.le_of_ble_eq_true rfl) (Nat.le_of_ble_eq_true rfl) rfl (by decide) (lk_Writer_digits hγ this (mI M20 60 i21 a1.toNatClampNeg) _ M20 h) (fun _ _ => Qv_r) (fun v M23 hp => Qv_k (R := fun st => E γ k_Writer_method 6 122 [some (vr (some (8, this))), some (vi a1), none, none, none] st M23 (Qv Q)) hp (fun h => ?_))
    refine E_blk (lv' := [some (vr (some (8, this))), some (vi a1), none, none, none]) (st' := [vr (mR M23 8 this 5), vr (some (8, this))]) (M1 := M23) (pc' := 127) (tb_Writer hγ) [.aload_n 0, .aload_n 0, .getfield 66] (by decide +kernel) rfl rfl trivial ?_
    obtain ⟨i24, ei24, h⟩ := h
    rw [ei24]
    obtain ⟨c25, h⟩ := h
    refine E_blk (lv' := [some (vr (some (8, this))), some (vi a1), none, none, none]) (st' := [vi (mI M23 61 i24 a1.toNatClampNeg), vr (some (8, this))]) (M1 := M23) (pc' := 132) (tb_Writer hγ) [.getfield 154, .iload_n 1, .iaload] (by decide +kernel) rfl rfl ⟨c25, trivial⟩ ?_
    refine E_callV (κ' := k_Writer_digits) (As := [vi (mI M23 61 i24 a1.toNatClampNeg)]) (st := []) mv_Writer_digits (Or.inl (tbk_mem (j := 9) (k := 198) rfl)) rfl (by decide +kernel) (Nat.le_of_ble_eq_true rfl) (Nat.le_of_ble_eq_true rfl) rfl (by decide) (lk_Writer_digits hγ this (mI M23 61 i24 a1.toNatClampNeg) _ M23 h) (fun _ _ => Qv_r) (fun v M26 hp => Qv_k (R := fun st => E γ k_Writer_method 6 135 [some (vr (some (8, this))), some (vi a1), none, none, none] st M26 (Qv Q)) hp (fun h => ?_))
    refine E_blk (lv' := [some (vr (some (8, this))), some (vi a1), none, none, none]) (st' := [vr (some (8, this))]) (M1 := M26) (pc' := 136) (tb_Writer hγ) [.aload_n 0] (by decide +kernel) rfl rfl trivial ?_
    refine E_callV (κ' := k_Writer_end) (As := []) (st := []) mv_Writer_end (Or.inl (tbk_mem (j := 9) (k := 186) rfl)) rfl (by decide +kernel) (Nat.le_of_ble_eq_true rfl) (Nat.le_of_ble_eq_true rfl) rfl (by decide) (lk_Writer_end hγ this _ M26 h) (fun _ _ => Qv_r) (fun v M27 hp => Qv_k (R := fun st => E γ k_Writer_method 6 139 [some (vr (some (8, this))), some (vi a1), none, none, none] st M27 (Qv Q)) hp (fun h => ?_))
    refine E_blk (lv' := [some (vr (some (8, this))), some (vi a1), none, none, none]) (st' := [vi a1, vr (some (8, this))]) (M1 := M27) (pc' := 141) (tb_Writer hγ) [.aload_n 0, .iload_n 1] (by decide +kernel) rfl rfl trivial ?_
    refine E_callV (κ' := k_Writer_labels) (As := [vi a1]) (st := []) mv_Writer_labels (Or.inl (tbk_mem (j := 9) (k := 213) rfl)) rfl (by decide +kernel) (Nat.le_of_ble_eq_true rfl) (Nat.le_of_ble_eq_true rfl) rfl (by decide) (lk_Writer_labels hγ this a1 _ M27 h) (fun _ _ => Qv_r) (fun v M28 hp => Qv_k (R := fun st => E γ k_Writer_method 6 144 [some (vr (some (8, this))), some (vi a1), none, none, none] st M28 (Qv Q)) hp (fun h => ?_))
    refine E_blk (lv' := [some (vr (some (8, this))), some (vi a1), none, none, none]) (st' := [vr (mR M28 8 this 5)]) (M1 := M28) (pc' := 148) (tb_Writer hγ) [.aload_n 0, .getfield 66] (by decide +kernel) rfl rfl trivial ?_
    obtain ⟨i29, ei29, h⟩ := h
    rw [ei29]
    obtain ⟨c30, h⟩ := h
    refine E_blk (lv' := [some (vr (some (8, this))), some (vi a1), some (vi (mI M28 63 i29 a1.toNatClampNeg)), some (vi (0 : Int32)), none]) (st' := []) (M1 := M28) (pc' := 156) (tb_Writer hγ) [.getfield 160, .iload_n 1, .iaload, .istore_n 2, .iconst 0, .istore_n 3] (by decide +kernel) rfl rfl ⟨c30, trivial⟩ ?_
    obtain ⟨n60, h⟩ := h
    refine E_mask [true, true, true, true, false] rfl ?_
    exact lk_Writer_method_L156 hγ this Q n60 a1 (mI M28 63 i29 a1.toNatClampNeg) (0 : Int32) M28 h
  · rw [if_neg b18] at h
    exact E_vret rfl (by decide +kernel) h
def w_Writer_write_L175 (this : Nat) (Q : Int32 → Mem → Prop) : Nat → Int32 → Int32 → Mem → Prop
  | 0, _, _, _ => False
  | n + 1, v2, v3, M => ∃ i26, (mR M 8 this 5) = some (5, i26) ∧ vp_in v2 (mL M 43 i26) ∧ ∃ i28, (mR M 8 this 5) = some (5, i28) ∧ vp_in v2 (mL M 44 i28) ∧ if ((mI M 43 i26 v2.toNatClampNeg) + (mI M 44 i28 v2.toNatClampNeg)) ≤ v3 then (w_Writer_line this (0 : Int32) (fun M31 => w_Writer_word this (68 : Int32) (fun M32 => w_Writer_end this (fun M33 => Q (mI M33 8 this 1) M33) M32) M31) M) else (w_Writer_method this v3 (fun M34 => (w_Writer_write_L175 this Q n) v2 (v3 + (1 : Int32)) M34) M)
def w_Writer_write_L131 (this : Nat) (Q : Int32 → Mem → Prop) : Nat → Int32 → Int32 → Mem → Prop
  | 0, _, _, _ => False
  | n + 1, v2, v3, M => ∃ i19, (mR M 8 this 5) = some (5, i19) ∧ vp_in v2 (mL M 41 i19) ∧ ∃ i21, (mR M 8 this 5) = some (5, i21) ∧ vp_in v2 (mL M 42 i21) ∧ if ((mI M 41 i19 v2.toNatClampNeg) + (mI M 42 i21 v2.toNatClampNeg)) ≤ v3 then (∃ i24, (mR M 8 this 5) = some (5, i24) ∧ vp_in v2 (mL M 43 i24) ∧ ∃ n35 : Nat, w_Writer_write_L175 this Q n35 v2 (mI M 43 i24 v2.toNatClampNeg) M) else (w_Writer_field this v3 (fun M36 => (w_Writer_write_L131 this Q n) v2 (v3 + (1 : Int32)) M36) M)
def w_Writer_write_L75 (this : Nat) (Q : Int32 → Mem → Prop) : Nat → Int32 → Int32 → Mem → Prop
  | 0, _, _, _ => False
  | n + 1, v2, v3, M => ∃ i13, (mR M 8 this 5) = some (5, i13) ∧ vp_in v2 (mL M 39 i13) ∧ if (mI M 39 i13 v2.toNatClampNeg) ≤ v3 then (w_Writer_end this (fun M16 => ∃ i17, (mR M16 8 this 5) = some (5, i17) ∧ vp_in v2 (mL M16 41 i17) ∧ ∃ n37 : Nat, w_Writer_write_L131 this Q n37 v2 (mI M16 41 i17 v2.toNatClampNeg) M16) M) else (w_Writer_sign this (44 : Int32) (fun M38 => ∃ i39, (mR M38 8 this 5) = some (5, i39) ∧ vp_in (((4 : Int32) * v2) + v3) (mL M38 38 i39) ∧ w_Writer_word this (mI M38 38 i39 (((4 : Int32) * v2) + v3).toNatClampNeg) (fun M41 => (w_Writer_write_L75 this Q n) v2 (v3 + (1 : Int32)) M41) M38) M)
def w_Writer_write (this : Nat) (a1 : Nat) (a2 : Int32) (Q : Int32 → Mem → Prop) (M : Mem) : Prop :=
  w_Writer_line this (0 : Int32) (fun M1 => ∃ i2, (mR M1 8 this 5) = some (5, i2) ∧ vp_in a2 (mL M1 40 i2) ∧ w_Writer_flags this (mI M1 40 i2 a2.toNatClampNeg) (69 : Int32) (70 : Int32) (71 : Int32) (0 : Int32) (fun M4 => w_Writer_word this (62 : Int32) (fun M5 => ∃ i6, (mR M5 8 this 5) = some (5, i6) ∧ vp_in a2 (mL M5 36 i6) ∧ w_Writer_word this (mI M5 36 i6 a2.toNatClampNeg) (fun M8 => w_Writer_sign this (58 : Int32) (fun M9 => ∃ i10, (mR M9 8 this 5) = some (5, i10) ∧ vp_in a2 (mL M9 37 i10) ∧ w_Writer_word this (mI M9 37 i10 a2.toNatClampNeg) (fun M12 => ∃ n42 : Nat, w_Writer_write_L75 this Q n42 a2 (0 : Int32) M12) M9) M8) M5) M4) M1) (sI (sR M 8 this 5 (some (5, a1))) 8 this 1 (0 : Int32))
set_option maxRecDepth 4096 in
theorem lk_Writer_write_L175 {γ : Gm} (hγ : Gk γ) (this : Nat) (Q : Int32 → Mem → Prop) : ∀ (n : Nat) (v2 : Int32) (v3 : Int32) (M : Mem), w_Writer_write_L175 this Q n v2 v3 M → E γ k_Writer_write 7 175 [some (vr (some (8, this))), none, some (vi v2), some (vi v3)] [] M (Qi Q) := by
  intro n
  induction n with
  | zero => intro v2 v3 M h; exact h.elim
  | succ n ih =>
    intro v2 v3 M h
    unfold w_Writer_write_L175 at h
    refine E_blk (lv' := [some (vr (some (8, this))), none, some (vi v2), some (vi v3)]) (st' := [vr (mR M 8 this 5), vi v3]) (M1 := M) (pc' := 180) (tb_Writer hγ) [.iload_n 3, .aload_n 0, .getfield 66] (by decide +kernel) rfl rfl trivial ?_
    obtain ⟨i26, ei26, h⟩ := h
    rw [ei26]
    obtain ⟨c27, h⟩ := h
    refine E_blk (lv' := [some (vr (some (8, this))), none, some (vi v2), some (vi v3)]) (st' := [vr (mR M 8 this 5), vi (mI M 43 i26 v2.toNatClampNeg), vi v3]) (M1 := M) (pc' := 189) (tb_Writer hγ) [.getfield 105, .iload_n 2, .iaload, .aload_n 0, .getfield 66] (by decide +kernel) rfl rfl ⟨c27, trivial⟩ ?_
    obtain ⟨i28, ei28, h⟩ := h
    rw [ei28]
    obtain ⟨c29, h⟩ := h
    refine E_blk (lv' := [some (vr (some (8, this))), none, some (vi v2), some (vi v3)]) (st' := [vi ((mI M 43 i26 v2.toNatClampNeg) + (mI M 44 i28 v2.toNatClampNeg)), vi v3]) (M1 := M) (pc' := 195) (tb_Writer hγ) [.getfield 108, .iload_n 2, .iaload, .iadd] (by decide +kernel) rfl rfl ⟨c29, trivial⟩ ?_
    refine E_icmp_ge (off := 14) (tgt := 209) (by decide +kernel) (by decide) (fun b30 => ?_) (fun b30 => ?_)
    · rw [if_pos b30] at h
      refine E_blk (lv' := [some (vr (some (8, this))), none, some (vi v2), some (vi v3)]) (st' := [vi (0 : Int32), vr (some (8, this))]) (M1 := M) (pc' := 211) (tb_Writer hγ) [.aload_n 0, .iconst 0] (by decide +kernel) rfl rfl trivial ?_
      refine E_callV (κ' := k_Writer_line) (As := [vi (0 : Int32)]) (st := []) mv_Writer_line (Or.inl (tbk_mem (j := 9) (k := 161) rfl)) rfl (by decide +kernel) (Nat.le_of_ble_eq_true rfl) (Nat.le_of_ble_eq_true rfl) rfl (by decide) (lk_Writer_line hγ this (0 : Int32) _ M h) (fun _ _ => Qv_r) (fun v M31 hp => Qv_k (R := fun st => E γ k_Writer_write 7 214 [some (vr (some (8, this))), none, some (vi v2), some (vi v3)] st M31 (Qi Q)) hp (fun h => ?_))
      refine E_blk (lv' := [some (vr (some (8, this))), none, some (vi v2), some (vi v3)]) (st' := [vi (68 : Int32), vr (some (8, this))]) (M1 := M31) (pc' := 217) (tb_Writer hγ) [.aload_n 0, .bipush 68] (by decide +kernel) rfl rfl trivial ?_
      refine E_callV (κ' := k_Writer_word) (As := [vi (68 : Int32)]) (st := []) mv_Writer_word (Or.inl (tbk_mem (j := 9) (k := 173) rfl)) rfl (by decide +kernel) (Nat.le_of_ble_eq_true rfl) (Nat.le_of_ble_eq_true rfl) rfl (by decide) (lk_Writer_word hγ this (68 : Int32) _ M31 h) (fun _ _ => Qv_r) (fun v M32 hp => Qv_k (R := fun st => E γ k_Writer_write 7 220 [some (vr (some (8, this))), none, some (vi v2), some (vi v3)] st M32 (Qi Q)) hp (fun h => ?_))
      refine E_blk (lv' := [some (vr (some (8, this))), none, some (vi v2), some (vi v3)]) (st' := [vr (some (8, this))]) (M1 := M32) (pc' := 221) (tb_Writer hγ) [.aload_n 0] (by decide +kernel) rfl rfl trivial ?_
      refine E_callV (κ' := k_Writer_end) (As := []) (st := []) mv_Writer_end (Or.inl (tbk_mem (j := 9) (k := 186) rfl)) rfl (by decide +kernel) (Nat.le_of_ble_eq_true rfl) (Nat.le_of_ble_eq_true rfl) rfl (by decide) (lk_Writer_end hγ this _ M32 h) (fun _ _ => Qv_r) (fun v M33 hp => Qv_k (R := fun st => E γ k_Writer_write 7 224 [some (vr (some (8, this))), none, some (vi v2), some (vi v3)] st M33 (Qi Q)) hp (fun h => ?_))
      refine E_blk (lv' := [some (vr (some (8, this))), none, some (vi v2), some (vi v3)]) (st' := [vi (mI M33 8 this 1)]) (M1 := M33) (pc' := 228) (tb_Writer hγ) [.aload_n 0, .getfield 34] (by decide +kernel) rfl rfl trivial ?_
      exact E_iret rfl (by decide +kernel) h
    · rw [if_neg b30] at h
      refine E_blk (lv' := [some (vr (some (8, this))), none, some (vi v2), some (vi v3)]) (st' := [vi v3, vr (some (8, this))]) (M1 := M) (pc' := 200) (tb_Writer hγ) [.aload_n 0, .iload_n 3] (by decide +kernel) rfl rfl trivial ?_
      refine E_callV (κ' := k_Writer_method) (As := [vi v3]) (st := []) mv_Writer_method (Or.inl (tbk_mem (j := 9) (k := 205) rfl)) rfl (by decide +kernel) (Nat.le_of_ble_eq_true rfl) (Nat.le_of_ble_eq_true rfl) rfl (by decide) (lk_Writer_method hγ this v3 _ M h) (fun _ _ => Qv_r) (fun v M34 hp => Qv_k (R := fun st => E γ k_Writer_write 7 203 [some (vr (some (8, this))), none, some (vi v2), some (vi v3)] st M34 (Qi Q)) hp (fun h => ?_))
      refine E_blk (lv' := [some (vr (some (8, this))), none, some (vi v2), some (vi (v3 + (1 : Int32)))]) (st' := []) (M1 := M34) (pc' := 206) (tb_Writer hγ) [.iinc 3 1] (by decide +kernel) rfl rfl trivial ?_
      refine E_goto (off := -31) (tgt := 175) (by decide +kernel) (by decide) ?_
      refine E_mask [true, false, true, true] rfl ?_
      exact ih v2 (v3 + (1 : Int32)) M34 h
set_option maxRecDepth 4096 in
theorem lk_Writer_write_L131 {γ : Gm} (hγ : Gk γ) (this : Nat) (Q : Int32 → Mem → Prop) : ∀ (n : Nat) (v2 : Int32) (v3 : Int32) (M : Mem), w_Writer_write_L131 this Q n v2 v3 M → E γ k_Writer_write 7 131 [some (vr (some (8, this))), none, some (vi v2), some (vi v3)] [] M (Qi Q) := by
  intro n
  induction n with
  | zero => intro v2 v3 M h; exact h.elim
  | succ n ih =>
    intro v2 v3 M h
    unfold w_Writer_write_L131 at h
    refine E_blk (lv' := [some (vr (some (8, this))), none, some (vi v2), some (vi v3)]) (st' := [vr (mR M 8 this 5), vi v3]) (M1 := M) (pc' := 136) (tb_Writer hγ) [.iload_n 3, .aload_n 0, .getfield 66] (by decide +kernel) rfl rfl trivial ?_
    obtain ⟨i19, ei19, h⟩ := h
    rw [ei19]
    obtain ⟨c20, h⟩ := h
    refine E_blk (lv' := [some (vr (some (8, this))), none, some (vi v2), some (vi v3)]) (st' := [vr (mR M 8 this 5), vi (mI M 41 i19 v2.toNatClampNeg), vi v3]) (M1 := M) (pc' := 145) (tb_Writer hγ) [.getfield 96, .iload_n 2, .iaload, .aload_n 0, .getfield 66] (by decide +kernel) rfl rfl ⟨c20, trivial⟩ ?_
    obtain ⟨i21, ei21, h⟩ := h
    rw [ei21]
    obtain ⟨c22, h⟩ := h
    refine E_blk (lv' := [some (vr (some (8, this))), none, some (vi v2), some (vi v3)]) (st' := [vi ((mI M 41 i19 v2.toNatClampNeg) + (mI M 42 i21 v2.toNatClampNeg)), vi v3]) (M1 := M) (pc' := 151) (tb_Writer hγ) [.getfield 99, .iload_n 2, .iaload, .iadd] (by decide +kernel) rfl rfl ⟨c22, trivial⟩ ?_
    refine E_icmp_ge (off := 14) (tgt := 165) (by decide +kernel) (by decide) (fun b23 => ?_) (fun b23 => ?_)
    · rw [if_pos b23] at h
      refine E_blk (lv' := [some (vr (some (8, this))), none, some (vi v2), some (vi v3)]) (st' := [vr (mR M 8 this 5)]) (M1 := M) (pc' := 169) (tb_Writer hγ) [.aload_n 0, .getfield 66] (by decide +kernel) rfl rfl trivial ?_
      obtain ⟨i24, ei24, h⟩ := h
      rw [ei24]
      obtain ⟨c25, h⟩ := h
      refine E_blk (lv' := [some (vr (some (8, this))), none, some (vi v2), some (vi (mI M 43 i24 v2.toNatClampNeg))]) (st' := []) (M1 := M) (pc' := 175) (tb_Writer hγ) [.getfield 105, .iload_n 2, .iaload, .istore_n 3] (by decide +kernel) rfl rfl ⟨c25, trivial⟩ ?_
      obtain ⟨n35, h⟩ := h
      refine E_mask [true, false, true, true] rfl ?_
      exact lk_Writer_write_L175 hγ this Q n35 v2 (mI M 43 i24 v2.toNatClampNeg) M h
    · rw [if_neg b23] at h
      refine E_blk (lv' := [some (vr (some (8, this))), none, some (vi v2), some (vi v3)]) (st' := [vi v3, vr (some (8, this))]) (M1 := M) (pc' := 156) (tb_Writer hγ) [.aload_n 0, .iload_n 3] (by decide +kernel) rfl rfl trivial ?_
      refine E_callV (κ' := k_Writer_field) (As := [vi v3]) (st := []) mv_Writer_field (Or.inl (tbk_mem (j := 9) (k := 190) rfl)) rfl (by decide +kernel) (Nat.le_of_ble_eq_true rfl) (Nat.le_of_ble_eq_true rfl) rfl (by decide) (lk_Writer_field hγ this v3 _ M h) (fun _ _ => Qv_r) (fun v M36 hp => Qv_k (R := fun st => E γ k_Writer_write 7 159 [some (vr (some (8, this))), none, some (vi v2), some (vi v3)] st M36 (Qi Q)) hp (fun h => ?_))
      refine E_blk (lv' := [some (vr (some (8, this))), none, some (vi v2), some (vi (v3 + (1 : Int32)))]) (st' := []) (M1 := M36) (pc' := 162) (tb_Writer hγ) [.iinc 3 1] (by decide +kernel) rfl rfl trivial ?_
      refine E_goto (off := -31) (tgt := 131) (by decide +kernel) (by decide) ?_
      refine E_mask [true, false, true, true] rfl ?_
      exact ih v2 (v3 + (1 : Int32)) M36 h
set_option maxRecDepth 4096 in
theorem lk_Writer_write_L75 {γ : Gm} (hγ : Gk γ) (this : Nat) (Q : Int32 → Mem → Prop) : ∀ (n : Nat) (v2 : Int32) (v3 : Int32) (M : Mem), w_Writer_write_L75 this Q n v2 v3 M → E γ k_Writer_write 7 75 [some (vr (some (8, this))), none, some (vi v2), some (vi v3)] [] M (Qi Q) := by
  intro n
  induction n with
  | zero => intro v2 v3 M h; exact h.elim
  | succ n ih =>
    intro v2 v3 M h
    unfold w_Writer_write_L75 at h
    refine E_blk (lv' := [some (vr (some (8, this))), none, some (vi v2), some (vi v3)]) (st' := [vr (mR M 8 this 5), vi v3]) (M1 := M) (pc' := 80) (tb_Writer hγ) [.iload_n 3, .aload_n 0, .getfield 66] (by decide +kernel) rfl rfl trivial ?_
    obtain ⟨i13, ei13, h⟩ := h
    rw [ei13]
    obtain ⟨c14, h⟩ := h
    refine E_blk (lv' := [some (vr (some (8, this))), none, some (vi v2), some (vi v3)]) (st' := [vi (mI M 39 i13 v2.toNatClampNeg), vi v3]) (M1 := M) (pc' := 85) (tb_Writer hγ) [.getfield 87, .iload_n 2, .iaload] (by decide +kernel) rfl rfl ⟨c14, trivial⟩ ?_
    refine E_icmp_ge (off := 32) (tgt := 117) (by decide +kernel) (by decide) (fun b15 => ?_) (fun b15 => ?_)
    · rw [if_pos b15] at h
      refine E_blk (lv' := [some (vr (some (8, this))), none, some (vi v2), some (vi v3)]) (st' := [vr (some (8, this))]) (M1 := M) (pc' := 118) (tb_Writer hγ) [.aload_n 0] (by decide +kernel) rfl rfl trivial ?_
      refine E_callV (κ' := k_Writer_end) (As := []) (st := []) mv_Writer_end (Or.inl (tbk_mem (j := 9) (k := 186) rfl)) rfl (by decide +kernel) (Nat.le_of_ble_eq_true rfl) (Nat.le_of_ble_eq_true rfl) rfl (by decide) (lk_Writer_end hγ this _ M h) (fun _ _ => Qv_r) (fun v M16 hp => Qv_k (R := fun st => E γ k_Writer_write 7 121 [some (vr (some (8, this))), none, some (vi v2), some (vi v3)] st M16 (Qi Q)) hp (fun h => ?_))
      refine E_blk (lv' := [some (vr (some (8, this))), none, some (vi v2), some (vi v3)]) (st' := [vr (mR M16 8 this 5)]) (M1 := M16) (pc' := 125) (tb_Writer hγ) [.aload_n 0, .getfield 66] (by decide +kernel) rfl rfl trivial ?_
      obtain ⟨i17, ei17, h⟩ := h
      rw [ei17]
      obtain ⟨c18, h⟩ := h
      refine E_blk (lv' := [some (vr (some (8, this))), none, some (vi v2), some (vi (mI M16 41 i17 v2.toNatClampNeg))]) (st' := []) (M1 := M16) (pc' := 131) (tb_Writer hγ) [.getfield 96, .iload_n 2, .iaload, .istore_n 3] (by decide +kernel) rfl rfl ⟨c18, trivial⟩ ?_
      obtain ⟨n37, h⟩ := h
      refine E_mask [true, false, true, true] rfl ?_
      exact lk_Writer_write_L131 hγ this Q n37 v2 (mI M16 41 i17 v2.toNatClampNeg) M16 h
    · rw [if_neg b15] at h
      refine E_blk (lv' := [some (vr (some (8, this))), none, some (vi v2), some (vi v3)]) (st' := [vi (44 : Int32), vr (some (8, this))]) (M1 := M) (pc' := 91) (tb_Writer hγ) [.aload_n 0, .bipush 44] (by decide +kernel) rfl rfl trivial ?_
      refine E_callV (κ' := k_Writer_sign) (As := [vi (44 : Int32)]) (st := []) mv_Writer_sign (Or.inl (tbk_mem (j := 9) (k := 182) rfl)) rfl (by decide +kernel) (Nat.le_of_ble_eq_true rfl) (Nat.le_of_ble_eq_true rfl) rfl (by decide) (lk_Writer_sign hγ this (44 : Int32) _ M h) (fun _ _ => Qv_r) (fun v M38 hp => Qv_k (R := fun st => E γ k_Writer_write 7 94 [some (vr (some (8, this))), none, some (vi v2), some (vi v3)] st M38 (Qi Q)) hp (fun h => ?_))
      refine E_blk (lv' := [some (vr (some (8, this))), none, some (vi v2), some (vi v3)]) (st' := [vr (mR M38 8 this 5), vr (some (8, this))]) (M1 := M38) (pc' := 99) (tb_Writer hγ) [.aload_n 0, .aload_n 0, .getfield 66] (by decide +kernel) rfl rfl trivial ?_
      obtain ⟨i39, ei39, h⟩ := h
      rw [ei39]
      obtain ⟨c40, h⟩ := h
      refine E_blk (lv' := [some (vr (some (8, this))), none, some (vi v2), some (vi v3)]) (st' := [vi (mI M38 38 i39 (((4 : Int32) * v2) + v3).toNatClampNeg), vr (some (8, this))]) (M1 := M38) (pc' := 108) (tb_Writer hγ) [.getfield 90, .iconst 4, .iload_n 2, .imul, .iload_n 3, .iadd, .iaload] (by decide +kernel) rfl rfl ⟨c40, trivial⟩ ?_
      refine E_callV (κ' := k_Writer_word) (As := [vi (mI M38 38 i39 (((4 : Int32) * v2) + v3).toNatClampNeg)]) (st := []) mv_Writer_word (Or.inl (tbk_mem (j := 9) (k := 173) rfl)) rfl (by decide +kernel) (Nat.le_of_ble_eq_true rfl) (Nat.le_of_ble_eq_true rfl) rfl (by decide) (lk_Writer_word hγ this (mI M38 38 i39 (((4 : Int32) * v2) + v3).toNatClampNeg) _ M38 h) (fun _ _ => Qv_r) (fun v M41 hp => Qv_k (R := fun st => E γ k_Writer_write 7 111 [some (vr (some (8, this))), none, some (vi v2), some (vi v3)] st M41 (Qi Q)) hp (fun h => ?_))
      refine E_blk (lv' := [some (vr (some (8, this))), none, some (vi v2), some (vi (v3 + (1 : Int32)))]) (st' := []) (M1 := M41) (pc' := 114) (tb_Writer hγ) [.iinc 3 1] (by decide +kernel) rfl rfl trivial ?_
      refine E_goto (off := -39) (tgt := 75) (by decide +kernel) (by decide) ?_
      refine E_mask [true, false, true, true] rfl ?_
      exact ih v2 (v3 + (1 : Int32)) M41 h
set_option maxRecDepth 4096 in
theorem lk_Writer_write {γ : Gm} (hγ : Gk γ) (this : Nat) (a1 : Nat) (a2 : Int32) (Q : Int32 → Mem → Prop) (M : Mem) (h : w_Writer_write this a1 a2 Q M) : E γ k_Writer_write 7 0 [some (vr (some (8, this))), some (vr (some (5, a1))), some (vi a2), none] [] M (Qi Q) := by
  unfold w_Writer_write at h
  refine E_blk (lv' := [some (vr (some (8, this))), some (vr (some (5, a1))), some (vi a2), none]) (st' := [vi (0 : Int32), vr (some (8, this))]) (M1 := (sI (sR M 8 this 5 (some (5, a1))) 8 this 1 (0 : Int32))) (pc' := 12) (tb_Writer hγ) [.aload_n 0, .aload_n 1, .putfield 66, .aload_n 0, .iconst 0, .putfield 34, .aload_n 0, .iconst 0] (by decide +kernel) rfl rfl trivial ?_
  refine E_callV (κ' := k_Writer_line) (As := [vi (0 : Int32)]) (st := []) mv_Writer_line (Or.inl (tbk_mem (j := 9) (k := 161) rfl)) rfl (by decide +kernel) (Nat.le_of_ble_eq_true rfl) (Nat.le_of_ble_eq_true rfl) rfl (by decide) (lk_Writer_line hγ this (0 : Int32) _ (sI (sR M 8 this 5 (some (5, a1))) 8 this 1 (0 : Int32)) h) (fun _ _ => Qv_r) (fun v M1 hp => Qv_k (R := fun st => E γ k_Writer_write 7 15 [some (vr (some (8, this))), some (vr (some (5, a1))), some (vi a2), none] st M1 (Qi Q)) hp (fun h => ?_))
  refine E_blk (lv' := [some (vr (some (8, this))), some (vr (some (5, a1))), some (vi a2), none]) (st' := [vr (mR M1 8 this 5), vr (some (8, this))]) (M1 := M1) (pc' := 20) (tb_Writer hγ) [.aload_n 0, .aload_n 0, .getfield 66] (by decide +kernel) rfl rfl trivial ?_
  obtain ⟨i2, ei2, h⟩ := h
  rw [ei2]
  obtain ⟨c3, h⟩ := h
  refine E_blk (lv' := [some (vr (some (8, this))), some (vr (some (5, a1))), some (vi a2), none]) (st' := [vi (0 : Int32), vi (71 : Int32), vi (70 : Int32), vi (69 : Int32), vi (mI M1 40 i2 a2.toNatClampNeg), vr (some (8, this))]) (M1 := M1) (pc' := 32) (tb_Writer hγ) [.getfield 73, .iload_n 2, .iaload, .bipush 69, .bipush 70, .bipush 71, .iconst 0] (by decide +kernel) rfl rfl ⟨c3, trivial⟩ ?_
  refine E_callV (κ' := k_Writer_flags) (As := [vi (mI M1 40 i2 a2.toNatClampNeg), vi (69 : Int32), vi (70 : Int32), vi (71 : Int32), vi (0 : Int32)]) (st := []) mv_Writer_flags (Or.inl (tbk_mem (j := 9) (k := 169) rfl)) rfl (by decide +kernel) (Nat.le_of_ble_eq_true rfl) (Nat.le_of_ble_eq_true rfl) rfl (by decide) (lk_Writer_flags hγ this (mI M1 40 i2 a2.toNatClampNeg) (69 : Int32) (70 : Int32) (71 : Int32) (0 : Int32) _ M1 h) (fun _ _ => Qv_r) (fun v M4 hp => Qv_k (R := fun st => E γ k_Writer_write 7 35 [some (vr (some (8, this))), some (vr (some (5, a1))), some (vi a2), none] st M4 (Qi Q)) hp (fun h => ?_))
  refine E_blk (lv' := [some (vr (some (8, this))), some (vr (some (5, a1))), some (vi a2), none]) (st' := [vi (62 : Int32), vr (some (8, this))]) (M1 := M4) (pc' := 38) (tb_Writer hγ) [.aload_n 0, .bipush 62] (by decide +kernel) rfl rfl trivial ?_
  refine E_callV (κ' := k_Writer_word) (As := [vi (62 : Int32)]) (st := []) mv_Writer_word (Or.inl (tbk_mem (j := 9) (k := 173) rfl)) rfl (by decide +kernel) (Nat.le_of_ble_eq_true rfl) (Nat.le_of_ble_eq_true rfl) rfl (by decide) (lk_Writer_word hγ this (62 : Int32) _ M4 h) (fun _ _ => Qv_r) (fun v M5 hp => Qv_k (R := fun st => E γ k_Writer_write 7 41 [some (vr (some (8, this))), some (vr (some (5, a1))), some (vi a2), none] st M5 (Qi Q)) hp (fun h => ?_))
  refine E_blk (lv' := [some (vr (some (8, this))), some (vr (some (5, a1))), some (vi a2), none]) (st' := [vr (mR M5 8 this 5), vr (some (8, this))]) (M1 := M5) (pc' := 46) (tb_Writer hγ) [.aload_n 0, .aload_n 0, .getfield 66] (by decide +kernel) rfl rfl trivial ?_
  obtain ⟨i6, ei6, h⟩ := h
  rw [ei6]
  obtain ⟨c7, h⟩ := h
  refine E_blk (lv' := [some (vr (some (8, this))), some (vr (some (5, a1))), some (vi a2), none]) (st' := [vi (mI M5 36 i6 a2.toNatClampNeg), vr (some (8, this))]) (M1 := M5) (pc' := 51) (tb_Writer hγ) [.getfield 81, .iload_n 2, .iaload] (by decide +kernel) rfl rfl ⟨c7, trivial⟩ ?_
  refine E_callV (κ' := k_Writer_word) (As := [vi (mI M5 36 i6 a2.toNatClampNeg)]) (st := []) mv_Writer_word (Or.inl (tbk_mem (j := 9) (k := 173) rfl)) rfl (by decide +kernel) (Nat.le_of_ble_eq_true rfl) (Nat.le_of_ble_eq_true rfl) rfl (by decide) (lk_Writer_word hγ this (mI M5 36 i6 a2.toNatClampNeg) _ M5 h) (fun _ _ => Qv_r) (fun v M8 hp => Qv_k (R := fun st => E γ k_Writer_write 7 54 [some (vr (some (8, this))), some (vr (some (5, a1))), some (vi a2), none] st M8 (Qi Q)) hp (fun h => ?_))
  refine E_blk (lv' := [some (vr (some (8, this))), some (vr (some (5, a1))), some (vi a2), none]) (st' := [vi (58 : Int32), vr (some (8, this))]) (M1 := M8) (pc' := 57) (tb_Writer hγ) [.aload_n 0, .bipush 58] (by decide +kernel) rfl rfl trivial ?_
  refine E_callV (κ' := k_Writer_sign) (As := [vi (58 : Int32)]) (st := []) mv_Writer_sign (Or.inl (tbk_mem (j := 9) (k := 182) rfl)) rfl (by decide +kernel) (Nat.le_of_ble_eq_true rfl) (Nat.le_of_ble_eq_true rfl) rfl (by decide) (lk_Writer_sign hγ this (58 : Int32) _ M8 h) (fun _ _ => Qv_r) (fun v M9 hp => Qv_k (R := fun st => E γ k_Writer_write 7 60 [some (vr (some (8, this))), some (vr (some (5, a1))), some (vi a2), none] st M9 (Qi Q)) hp (fun h => ?_))
  refine E_blk (lv' := [some (vr (some (8, this))), some (vr (some (5, a1))), some (vi a2), none]) (st' := [vr (mR M9 8 this 5), vr (some (8, this))]) (M1 := M9) (pc' := 65) (tb_Writer hγ) [.aload_n 0, .aload_n 0, .getfield 66] (by decide +kernel) rfl rfl trivial ?_
  obtain ⟨i10, ei10, h⟩ := h
  rw [ei10]
  obtain ⟨c11, h⟩ := h
  refine E_blk (lv' := [some (vr (some (8, this))), some (vr (some (5, a1))), some (vi a2), none]) (st' := [vi (mI M9 37 i10 a2.toNatClampNeg), vr (some (8, this))]) (M1 := M9) (pc' := 70) (tb_Writer hγ) [.getfield 84, .iload_n 2, .iaload] (by decide +kernel) rfl rfl ⟨c11, trivial⟩ ?_
  refine E_callV (κ' := k_Writer_word) (As := [vi (mI M9 37 i10 a2.toNatClampNeg)]) (st := []) mv_Writer_word (Or.inl (tbk_mem (j := 9) (k := 173) rfl)) rfl (by decide +kernel) (Nat.le_of_ble_eq_true rfl) (Nat.le_of_ble_eq_true rfl) rfl (by decide) (lk_Writer_word hγ this (mI M9 37 i10 a2.toNatClampNeg) _ M9 h) (fun _ _ => Qv_r) (fun v M12 hp => Qv_k (R := fun st => E γ k_Writer_write 7 73 [some (vr (some (8, this))), some (vr (some (5, a1))), some (vi a2), none] st M12 (Qi Q)) hp (fun h => ?_))
  refine E_blk (lv' := [some (vr (some (8, this))), some (vr (some (5, a1))), some (vi a2), some (vi (0 : Int32))]) (st' := []) (M1 := M12) (pc' := 75) (tb_Writer hγ) [.iconst 0, .istore_n 3] (by decide +kernel) rfl rfl trivial ?_
  obtain ⟨n42, h⟩ := h
  refine E_mask [true, false, true, true] rfl ?_
  exact lk_Writer_write_L75 hγ this Q n42 a2 (0 : Int32) M12 h
def w_Works_print (this : Nat) (a1 : Int32) (a2 : Int32) (Q : Int32 → Mem → Prop) (M : Mem) : Prop :=
  w_Works_isClass this a1 a2 (fun r2 M1 => if r2 = 0 then (Q (-1 : Int32) M1) else (if a2 < (21 : Int32) then (Q (-1 : Int32) M1) else (vp_in a1 (mL M1 702 0) ∧ ∃ i6, (mR M1 702 0 a1.toNatClampNeg) = some (5, i6) ∧ w_Writer_write 0 i6 a2 (fun r8 M7 => Q r8 M7) M1))) M
set_option maxRecDepth 4096 in
theorem lk_Works_print {γ : Gm} (hγ : Gk γ) (this : Nat) (a1 : Int32) (a2 : Int32) (Q : Int32 → Mem → Prop) (M : Mem) (h : w_Works_print this a1 a2 Q M) : E γ k_Works_print 8 0 [some (vr (some (10, this))), some (vi a1), some (vi a2)] [] M (Qi Q) := by
  unfold w_Works_print at h
  refine E_blk (lv' := [some (vr (some (10, this))), some (vi a1), some (vi a2)]) (st' := [vi a2, vi a1, vr (some (10, this))]) (M1 := M) (pc' := 3) (tb_Works hγ) [.aload_n 0, .iload_n 1, .iload_n 2] (by decide +kernel) rfl rfl trivial ?_
  refine E_callV (κ' := k_Works_isClass) (As := [vi a1, vi a2]) (st := []) mv_Works_isClass (Or.inl (tbk_mem (j := 7) (k := 49) rfl)) rfl (by decide +kernel) (Nat.le_of_ble_eq_true rfl) (Nat.le_of_ble_eq_true rfl) rfl (by decide) (lk_Works_isClass hγ this a1 a2 _ M h) (fun _ _ => Qi_r) (fun v M1 hp => Qi_k (R := fun st => E γ k_Works_print 8 6 [some (vr (some (10, this))), some (vi a1), some (vi a2)] st M1 (Qi Q)) hp (fun r2 h => ?_))
  refine E_if_eq (off := 26) (tgt := 32) (by decide +kernel) (by decide) (fun b3 => ?_) (fun b3 => ?_)
  · rw [if_pos b3] at h
    refine E_blk (lv' := [some (vr (some (10, this))), some (vi a1), some (vi a2)]) (st' := [vi (-1 : Int32)]) (M1 := M1) (pc' := 33) (tb_Works hγ) [.iconst (.negSucc 0)] (by decide +kernel) rfl rfl trivial ?_
    exact E_iret rfl (by decide +kernel) h
  · rw [if_neg b3] at h
    refine E_blk (lv' := [some (vr (some (10, this))), some (vi a1), some (vi a2)]) (st' := [vi (21 : Int32), vi a2]) (M1 := M1) (pc' := 12) (tb_Works hγ) [.iload_n 2, .bipush 21] (by decide +kernel) rfl rfl trivial ?_
    refine E_icmp_lt (off := 20) (tgt := 32) (by decide +kernel) (by decide) (fun b4 => ?_) (fun b4 => ?_)
    · rw [if_pos b4] at h
      refine E_blk (lv' := [some (vr (some (10, this))), some (vi a1), some (vi a2)]) (st' := [vi (-1 : Int32)]) (M1 := M1) (pc' := 33) (tb_Works hγ) [.iconst (.negSucc 0)] (by decide +kernel) rfl rfl trivial ?_
      exact E_iret rfl (by decide +kernel) h
    · rw [if_neg b4] at h
      obtain ⟨c5, h⟩ := h
      refine E_blk (lv' := [some (vr (some (10, this))), some (vi a1), some (vi a2)]) (st' := [vr (mR M1 702 0 a1.toNatClampNeg), vr (some (8, 0))]) (M1 := M1) (pc' := 25) (tb_Works hγ) [.aload_n 0, .getfield 99, .aload_n 0, .getfield 85, .iload_n 1, .aaload] (by decide +kernel) rfl rfl ⟨c5, trivial⟩ ?_
      obtain ⟨i6, ei6, h⟩ := h
      rw [ei6]
      refine E_blk (lv' := [some (vr (some (10, this))), some (vi a1), some (vi a2)]) (st' := [vi a2, vr (some (5, i6)), vr (some (8, 0))]) (M1 := M1) (pc' := 26) (tb_Works hγ) [.iload_n 2] (by decide +kernel) rfl rfl trivial ?_
      refine E_callV (κ' := k_Writer_write) (As := [vr (some (5, i6)), vi a2]) (st := []) mv_Writer_write (Or.inl (tbk_mem (j := 9) (k := 157) rfl)) rfl (by decide +kernel) (Nat.le_of_ble_eq_true rfl) (Nat.le_of_ble_eq_true rfl) rfl (by decide) (lk_Writer_write hγ 0 i6 a2 _ M1 h) (fun _ _ => Qi_r) (fun v M7 hp => Qi_k (R := fun st => E γ k_Works_print 8 29 [some (vr (some (10, this))), some (vi a1), some (vi a2)] st M7 (Qi Q)) hp (fun r8 h => ?_))
      refine E_goto (off := 4) (tgt := 33) (by decide +kernel) (by decide) ?_
      exact E_iret rfl (by decide +kernel) h
def w_Works_written (this : Nat) (a1 : Int32) (Q : Int32 → Mem → Prop) (M : Mem) : Prop :=
  w_Works_isIn a1 (0 : Int32) ((mI M 8 0 1) - (1 : Int32)) (fun r2 M1 => if r2 = 0 then (Q (-1 : Int32) M1) else (vp_in a1 (mL M1 410 0) ∧ Q (mI M1 410 0 a1.toNatClampNeg) M1)) M
set_option maxRecDepth 4096 in
theorem lk_Works_written {γ : Gm} (hγ : Gk γ) (this : Nat) (a1 : Int32) (Q : Int32 → Mem → Prop) (M : Mem) (h : w_Works_written this a1 Q M) : E γ k_Works_written 1 0 [some (vr (some (10, this))), some (vi a1)] [] M (Qi Q) := by
  unfold w_Works_written at h
  refine E_blk (lv' := [some (vr (some (10, this))), some (vi a1)]) (st' := [vi ((mI M 8 0 1) - (1 : Int32)), vi (0 : Int32), vi a1]) (M1 := M) (pc' := 11) (tb_Works hγ) [.iload_n 1, .iconst 0, .aload_n 0, .getfield 99, .getfield 427, .iconst 1, .isub] (by decide +kernel) rfl rfl trivial ?_
  refine E_callS (κ' := k_Works_isIn) (As := [vi a1, vi (0 : Int32), vi ((mI M 8 0 1) - (1 : Int32))]) (st := []) ms_Works_isIn (Or.inl (tbk_mem (j := 5) (k := 237) rfl)) rfl (by decide +kernel) (Nat.le_of_ble_eq_true rfl) (Nat.le_of_ble_eq_true rfl) rfl (by decide) (lk_Works_isIn hγ a1 (0 : Int32) ((mI M 8 0 1) - (1 : Int32)) _ M h) (fun _ _ => Qi_r) (fun v M1 hp => Qi_k (R := fun st => E γ k_Works_written 1 14 [some (vr (some (10, this))), some (vi a1)] st M1 (Qi Q)) hp (fun r2 h => ?_))
  refine E_if_eq (off := 15) (tgt := 29) (by decide +kernel) (by decide) (fun b3 => ?_) (fun b3 => ?_)
  · rw [if_pos b3] at h
    refine E_blk (lv' := [some (vr (some (10, this))), some (vi a1)]) (st' := [vi (-1 : Int32)]) (M1 := M1) (pc' := 30) (tb_Works hγ) [.iconst (.negSucc 0)] (by decide +kernel) rfl rfl trivial ?_
    exact E_iret rfl (by decide +kernel) h
  · rw [if_neg b3] at h
    obtain ⟨c4, h⟩ := h
    refine E_blk (lv' := [some (vr (some (10, this))), some (vi a1)]) (st' := [vi (mI M1 410 0 a1.toNatClampNeg)]) (M1 := M1) (pc' := 26) (tb_Works hγ) [.aload_n 0, .getfield 99, .getfield 430, .iload_n 1, .baload] (by decide +kernel) rfl rfl ⟨c4, trivial⟩ ?_
    refine E_goto (off := 4) (tgt := 30) (by decide +kernel) (by decide) ?_
    exact E_iret rfl (by decide +kernel) h
def w_Checker_ask_L37 (this : Nat) (Q : Mem → Prop) : Nat → Int32 → Mem → Prop
  | 0, _, _ => False
  | n + 1, v3, M => if (80 : Int32) ≤ v3 then (Q M) else (vp_in v3 (mL M 510 this) ∧ (w_Checker_ask_L37 this Q n) (v3 + (1 : Int32)) (sI M 510 this v3.toNatClampNeg ((0 : Int32) &&& 1)))
def w_Checker_ask (this : Nat) (a1 : Nat) (a2 : Int32) (Q : Mem → Prop) (M : Mem) : Prop :=
  vp_in a2 (mL (sR M 4 this 4 (some (5, a1))) 55 a1) ∧ ∃ M2, M2 = (sI (sR M 4 this 4 (some (5, a1))) 4 this 5 (mI (sR M 4 this 4 (some (5, a1))) 55 a1 a2.toNatClampNeg)) ∧ vp_in a2 (mL (sI (sI M2 4 this 6 a2) 4 this 8 (0 : Int32)) 63 a1) ∧ ∃ M4, M4 = (sI (sI (sI M2 4 this 6 a2) 4 this 8 (0 : Int32)) 4 this 15 (mI (sI (sI M2 4 this 6 a2) 4 this 8 (0 : Int32)) 63 a1 a2.toNatClampNeg)) ∧ ∃ n7 : Nat, w_Checker_ask_L37 this Q n7 (0 : Int32) M4
set_option maxRecDepth 4096 in
theorem lk_Checker_ask_L37 {γ : Gm} (hγ : Gk γ) (this : Nat) (Q : Mem → Prop) : ∀ (n : Nat) (v3 : Int32) (M : Mem), w_Checker_ask_L37 this Q n v3 M → E γ k_Checker_ask 0 37 [some (vr (some (4, this))), none, none, some (vi v3)] [] M (Qv Q) := by
  intro n
  induction n with
  | zero => intro v3 M h; exact h.elim
  | succ n ih =>
    intro v3 M h
    unfold w_Checker_ask_L37 at h
    refine E_blk (lv' := [some (vr (some (4, this))), none, none, some (vi v3)]) (st' := [vi (80 : Int32), vi v3]) (M1 := M) (pc' := 40) (tb_Checker hγ) [.iload_n 3, .bipush 80] (by decide +kernel) rfl rfl trivial ?_
    refine E_icmp_ge (off := 16) (tgt := 56) (by decide +kernel) (by decide) (fun b5 => ?_) (fun b5 => ?_)
    · rw [if_pos b5] at h
      exact E_vret rfl (by decide +kernel) h
    · rw [if_neg b5] at h
      obtain ⟨c6, h⟩ := h
      refine E_blk (lv' := [some (vr (some (4, this))), none, none, some (vi (v3 + (1 : Int32)))]) (st' := []) (M1 := (sI M 510 this v3.toNatClampNeg ((0 : Int32) &&& 1))) (pc' := 53) (tb_Checker hγ) [.aload_n 0, .getfield 22, .iload_n 3, .iconst 0, .bastore, .iinc 3 1] (by decide +kernel) rfl rfl ⟨c6, trivial⟩ ?_
      refine E_goto (off := -16) (tgt := 37) (by decide +kernel) (by decide) ?_
      refine E_mask [true, false, false, true] rfl ?_
      exact ih (v3 + (1 : Int32)) (sI M 510 this v3.toNatClampNeg ((0 : Int32) &&& 1)) h
set_option maxRecDepth 4096 in
theorem lk_Checker_ask {γ : Gm} (hγ : Gk γ) (this : Nat) (a1 : Nat) (a2 : Int32) (Q : Mem → Prop) (M : Mem) (h : w_Checker_ask this a1 a2 Q M) : E γ k_Checker_ask 0 0 [some (vr (some (4, this))), some (vr (some (5, a1))), some (vi a2), none] [] M (Qv Q) := by
  unfold w_Checker_ask at h
  obtain ⟨c1, h⟩ := h
  refine E_blk (lv' := [some (vr (some (4, this))), some (vr (some (5, a1))), some (vi a2), none]) (st' := []) (M1 := (sI (sR M 4 this 4 (some (5, a1))) 4 this 5 (mI (sR M 4 this 4 (some (5, a1))) 55 a1 a2.toNatClampNeg))) (pc' := 15) (tb_Checker hγ) [.aload_n 0, .aload_n 1, .putfield 35, .aload_n 0, .aload_n 1, .getfield 164, .iload_n 2, .iaload, .putfield 39] (by decide +kernel) rfl rfl ⟨c1, trivial⟩ ?_
  obtain ⟨M2, eM2, h⟩ := h
  rw [← eM2]
  obtain ⟨c3, h⟩ := h
  refine E_blk (lv' := [some (vr (some (4, this))), some (vr (some (5, a1))), some (vi a2), none]) (st' := []) (M1 := (sI (sI (sI M2 4 this 6 a2) 4 this 8 (0 : Int32)) 4 this 15 (mI (sI (sI M2 4 this 6 a2) 4 this 8 (0 : Int32)) 63 a1 a2.toNatClampNeg))) (pc' := 35) (tb_Checker hγ) [.aload_n 0, .iload_n 2, .putfield 54, .aload_n 0, .iconst 0, .putfield 57, .aload_n 0, .aload_n 1, .getfield 112, .iload_n 2, .iaload, .putfield 167] (by decide +kernel) rfl rfl ⟨c3, trivial⟩ ?_
  obtain ⟨M4, eM4, h⟩ := h
  rw [← eM4]
  refine E_blk (lv' := [some (vr (some (4, this))), some (vr (some (5, a1))), some (vi a2), some (vi (0 : Int32))]) (st' := []) (M1 := M4) (pc' := 37) (tb_Checker hγ) [.iconst 0, .istore_n 3] (by decide +kernel) rfl rfl trivial ?_
  obtain ⟨n7, h⟩ := h
  refine E_mask [true, false, false, true] rfl ?_
  exact lk_Checker_ask_L37 hγ this Q n7 (0 : Int32) M4 h
def w_Checker_follows_j94 (this : Nat) (Q : Int32 → Mem → Prop) (v2 : Int32) (M : Mem) : Prop :=
  if v2 = (23 : Int32) then (Q (1 : Int32) M) else (if v2 = (40 : Int32) then (Q (1 : Int32) M) else (if v2 = (56 : Int32) then (Q (1 : Int32) M) else (w_Works_isIn v2 (57 : Int32) (59 : Int32) (fun r14 M13 => if r14 = 0 then (if (mI M13 4 this 7) = ((mI M13 4 this 15) - (1 : Int32)) then (w_Checker_breaks this (35 : Int32) (fun r18 M17 => (r18 = 0 ∨ r18 = 1) ∧ Q r18 M17) M13) else (w_Checker_joins this ((mI M13 4 this 7) + (1 : Int32)) (fun r20 M19 => (r20 = 0 ∨ r20 = 1) ∧ Q r20 M19) M13)) else (Q (1 : Int32) M13)) M)))
def w_Checker_follows_L41 (this : Nat) (Q : Int32 → Mem → Prop) : Nat → Int32 → Int32 → Int32 → Mem → Prop
  | 0, _, _, _, _ => False
  | n + 1, v1, v2, v3, M => if v2 = (40 : Int32) then (∃ i7, (mR M 4 this 4) = some (5, i7) ∧ vp_in v1 (mL M 69 i7) ∧ if (mI M 69 i7 v1.toNatClampNeg) ≤ v3 then (w_Checker_follows_j94 this Q v2 M) else (∃ i21, (mR M 4 this 4) = some (5, i21) ∧ ∃ i22, (mR M 4 this 4) = some (5, i22) ∧ vp_in v1 (mL M 68 i22) ∧ vp_in ((mI M 68 i22 v1.toNatClampNeg) + v3) (mL M 74 i21) ∧ w_Checker_joins this (mI M 74 i21 ((mI M 68 i22 v1.toNatClampNeg) + v3).toNatClampNeg) (fun r26 M25 => if r26 = 0 then (Q (0 : Int32) M25) else ((w_Checker_follows_L41 this Q n) v1 v2 (v3 + (1 : Int32)) M25)) M)) else (w_Checker_follows_j94 this Q v2 M)
def w_Checker_follows_j39 (this : Nat) (Q : Int32 → Mem → Prop) (v1 : Int32) (v2 : Int32) (M : Mem) : Prop :=
  ∃ n28 : Nat, w_Checker_follows_L41 this Q n28 v1 v2 (0 : Int32) M
def w_Checker_follows (this : Nat) (a1 : Int32) (Q : Int32 → Mem → Prop) (M : Mem) : Prop :=
  ∃ i1, (mR M 4 this 4) = some (5, i1) ∧ vp_in a1 (mL M 66 i1) ∧ w_Works_isIn (mI M 66 i1 a1.toNatClampNeg) (23 : Int32) (39 : Int32) (fun r4 M3 => if r4 = 0 then (w_Checker_follows_j39 this Q a1 (mI M 66 i1 a1.toNatClampNeg) M3) else (∃ i29, (mR M3 4 this 4) = some (5, i29) ∧ vp_in a1 (mL M3 67 i29) ∧ w_Checker_joins this (mI M3 67 i29 a1.toNatClampNeg) (fun r32 M31 => if r32 = 0 then (Q (0 : Int32) M31) else (w_Checker_follows_j39 this Q a1 (mI M 66 i1 a1.toNatClampNeg) M31)) M3)) M
set_option maxRecDepth 4096 in
theorem lk_Checker_follows_j94 {γ : Gm} (hγ : Gk γ) (this : Nat) (Q : Int32 → Mem → Prop) (v2 : Int32) (M : Mem) (h : w_Checker_follows_j94 this Q v2 M) : E γ k_Checker_follows 5 94 [some (vr (some (4, this))), none, some (vi v2), none] [] M (Qi Q) := by
  unfold w_Checker_follows_j94 at h
  refine E_blk (lv' := [some (vr (some (4, this))), none, some (vi v2), none]) (st' := [vi (23 : Int32), vi v2]) (M1 := M) (pc' := 97) (tb_Checker hγ) [.iload_n 2, .bipush 23] (by decide +kernel) rfl rfl trivial ?_
  refine E_icmp_eq (off := 26) (tgt := 123) (by decide +kernel) (by decide) (fun b10 => ?_) (fun b10 => ?_)
  · rw [if_pos b10] at h
    refine E_blk (lv' := [some (vr (some (4, this))), none, some (vi v2), none]) (st' := [vi (1 : Int32)]) (M1 := M) (pc' := 124) (tb_Checker hγ) [.iconst 1] (by decide +kernel) rfl rfl trivial ?_
    exact E_zret rfl (Or.inr rfl) (by decide +kernel) h
  · rw [if_neg b10] at h
    refine E_blk (lv' := [some (vr (some (4, this))), none, some (vi v2), none]) (st' := [vi (40 : Int32), vi v2]) (M1 := M) (pc' := 103) (tb_Checker hγ) [.iload_n 2, .bipush 40] (by decide +kernel) rfl rfl trivial ?_
    refine E_icmp_eq (off := 20) (tgt := 123) (by decide +kernel) (by decide) (fun b11 => ?_) (fun b11 => ?_)
    · rw [if_pos b11] at h
      refine E_blk (lv' := [some (vr (some (4, this))), none, some (vi v2), none]) (st' := [vi (1 : Int32)]) (M1 := M) (pc' := 124) (tb_Checker hγ) [.iconst 1] (by decide +kernel) rfl rfl trivial ?_
      exact E_zret rfl (Or.inr rfl) (by decide +kernel) h
    · rw [if_neg b11] at h
      refine E_blk (lv' := [some (vr (some (4, this))), none, some (vi v2), none]) (st' := [vi (56 : Int32), vi v2]) (M1 := M) (pc' := 109) (tb_Checker hγ) [.iload_n 2, .bipush 56] (by decide +kernel) rfl rfl trivial ?_
      refine E_icmp_eq (off := 14) (tgt := 123) (by decide +kernel) (by decide) (fun b12 => ?_) (fun b12 => ?_)
      · rw [if_pos b12] at h
        refine E_blk (lv' := [some (vr (some (4, this))), none, some (vi v2), none]) (st' := [vi (1 : Int32)]) (M1 := M) (pc' := 124) (tb_Checker hγ) [.iconst 1] (by decide +kernel) rfl rfl trivial ?_
        exact E_zret rfl (Or.inr rfl) (by decide +kernel) h
      · rw [if_neg b12] at h
        refine E_blk (lv' := [some (vr (some (4, this))), none, some (vi v2), none]) (st' := [vi (59 : Int32), vi (57 : Int32), vi v2]) (M1 := M) (pc' := 117) (tb_Checker hγ) [.iload_n 2, .bipush 57, .bipush 59] (by decide +kernel) rfl rfl trivial ?_
        refine E_callS (κ' := k_Works_isIn) (As := [vi v2, vi (57 : Int32), vi (59 : Int32)]) (st := []) ms_Works_isIn (Or.inr ⟨"ClassWorks", (tbk_mem (j := 7) (k := 207) rfl)⟩) rfl (by decide +kernel) (Nat.le_of_ble_eq_true rfl) (Nat.le_of_ble_eq_true rfl) rfl (by decide) (lk_Works_isIn hγ v2 (57 : Int32) (59 : Int32) _ M h) (fun _ _ => Qi_r) (fun v M13 hp => Qi_k (R := fun st => E γ k_Checker_follows 5 120 [some (vr (some (4, this))), none, some (vi v2), none] st M13 (Qi Q)) hp (fun r14 h => ?_))
        refine E_if_eq (off := 5) (tgt := 125) (by decide +kernel) (by decide) (fun b15 => ?_) (fun b15 => ?_)
        · rw [if_pos b15] at h
          refine E_blk (lv' := [some (vr (some (4, this))), none, some (vi v2), none]) (st' := [vi ((mI M13 4 this 15) - (1 : Int32)), vi (mI M13 4 this 7)]) (M1 := M13) (pc' := 135) (tb_Checker hγ) [.aload_n 0, .getfield 69, .aload_n 0, .getfield 167, .iconst 1, .isub] (by decide +kernel) rfl rfl trivial ?_
          refine E_icmp_ne (off := 12) (tgt := 147) (by decide +kernel) (by decide) (fun b16 => ?_) (fun b16 => ?_)
          · rw [if_pos b16] at h
            refine E_blk (lv' := [some (vr (some (4, this))), none, some (vi v2), none]) (st' := [vi (35 : Int32), vr (some (4, this))]) (M1 := M13) (pc' := 141) (tb_Checker hγ) [.aload_n 0, .bipush 35] (by decide +kernel) rfl rfl trivial ?_
            refine E_callV (κ' := k_Checker_breaks) (As := [vi (35 : Int32)]) (st := []) mv_Checker_breaks (Or.inl (tbk_mem (j := 7) (k := 147) rfl)) rfl (by decide +kernel) (Nat.le_of_ble_eq_true rfl) (Nat.le_of_ble_eq_true rfl) rfl (by decide) (lk_Checker_breaks hγ this (35 : Int32) _ M13 h) (fun _ _ => Qi_r) (fun v M17 hp => Qi_k (R := fun st => E γ k_Checker_follows 5 144 [some (vr (some (4, this))), none, some (vi v2), none] st M17 (Qi Q)) hp (fun r18 h => ?_))
            refine E_goto (off := 13) (tgt := 157) (by decide +kernel) (by decide) ?_
            exact E_zret rfl h.1 (by decide +kernel) h.2
          · rw [if_neg b16] at h
            refine E_blk (lv' := [some (vr (some (4, this))), none, some (vi v2), none]) (st' := [vi ((mI M13 4 this 7) + (1 : Int32)), vr (some (4, this))]) (M1 := M13) (pc' := 154) (tb_Checker hγ) [.aload_n 0, .aload_n 0, .getfield 69, .iconst 1, .iadd] (by decide +kernel) rfl rfl trivial ?_
            refine E_callV (κ' := k_Checker_joins) (As := [vi ((mI M13 4 this 7) + (1 : Int32))]) (st := []) mv_Checker_joins (Or.inl (tbk_mem (j := 7) (k := 184) rfl)) rfl (by decide +kernel) (Nat.le_of_ble_eq_true rfl) (Nat.le_of_ble_eq_true rfl) rfl (by decide) (lk_Checker_joins hγ this ((mI M13 4 this 7) + (1 : Int32)) _ M13 h) (fun _ _ => Qi_r) (fun v M19 hp => Qi_k (R := fun st => E γ k_Checker_follows 5 157 [some (vr (some (4, this))), none, some (vi v2), none] st M19 (Qi Q)) hp (fun r20 h => ?_))
            exact E_zret rfl h.1 (by decide +kernel) h.2
        · rw [if_neg b15] at h
          refine E_blk (lv' := [some (vr (some (4, this))), none, some (vi v2), none]) (st' := [vi (1 : Int32)]) (M1 := M13) (pc' := 124) (tb_Checker hγ) [.iconst 1] (by decide +kernel) rfl rfl trivial ?_
          exact E_zret rfl (Or.inr rfl) (by decide +kernel) h
set_option maxRecDepth 4096 in
theorem lk_Checker_follows_L41 {γ : Gm} (hγ : Gk γ) (this : Nat) (Q : Int32 → Mem → Prop) : ∀ (n : Nat) (v1 : Int32) (v2 : Int32) (v3 : Int32) (M : Mem), w_Checker_follows_L41 this Q n v1 v2 v3 M → E γ k_Checker_follows 5 41 [some (vr (some (4, this))), some (vi v1), some (vi v2), some (vi v3)] [] M (Qi Q) := by
  intro n
  induction n with
  | zero => intro v1 v2 v3 M h; exact h.elim
  | succ n ih =>
    intro v1 v2 v3 M h
    unfold w_Checker_follows_L41 at h
    refine E_blk (lv' := [some (vr (some (4, this))), some (vi v1), some (vi v2), some (vi v3)]) (st' := [vi (40 : Int32), vi v2]) (M1 := M) (pc' := 44) (tb_Checker hγ) [.iload_n 2, .bipush 40] (by decide +kernel) rfl rfl trivial ?_
    refine E_icmp_ne (off := 50) (tgt := 94) (by decide +kernel) (by decide) (fun b6 => ?_) (fun b6 => ?_)
    · rw [if_pos b6] at h
      refine E_blk (lv' := [some (vr (some (4, this))), some (vi v1), some (vi v2), some (vi v3)]) (st' := [vr (mR M 4 this 4), vi v3]) (M1 := M) (pc' := 52) (tb_Checker hγ) [.iload_n 3, .aload_n 0, .getfield 35] (by decide +kernel) rfl rfl trivial ?_
      obtain ⟨i7, ei7, h⟩ := h
      rw [ei7]
      obtain ⟨c8, h⟩ := h
      refine E_blk (lv' := [some (vr (some (4, this))), some (vi v1), some (vi v2), some (vi v3)]) (st' := [vi (mI M 69 i7 v1.toNatClampNeg), vi v3]) (M1 := M) (pc' := 57) (tb_Checker hγ) [.getfield 211, .iload_n 1, .iaload] (by decide +kernel) rfl rfl ⟨c8, trivial⟩ ?_
      refine E_icmp_ge (off := 37) (tgt := 94) (by decide +kernel) (by decide) (fun b9 => ?_) (fun b9 => ?_)
      · rw [if_pos b9] at h
        refine E_mask [true, false, true, false] rfl ?_
        exact lk_Checker_follows_j94 hγ this Q v2 M h
      · rw [if_neg b9] at h
        refine E_blk (lv' := [some (vr (some (4, this))), some (vi v1), some (vi v2), some (vi v3)]) (st' := [vr (mR M 4 this 4), vr (some (4, this))]) (M1 := M) (pc' := 65) (tb_Checker hγ) [.aload_n 0, .aload_n 0, .getfield 35] (by decide +kernel) rfl rfl trivial ?_
        obtain ⟨i21, ei21, h⟩ := h
        rw [ei21]
        refine E_blk (lv' := [some (vr (some (4, this))), some (vi v1), some (vi v2), some (vi v3)]) (st' := [vr (mR M 4 this 4), vr (some (74, i21)), vr (some (4, this))]) (M1 := M) (pc' := 72) (tb_Checker hγ) [.getfield 214, .aload_n 0, .getfield 35] (by decide +kernel) rfl rfl trivial ?_
        obtain ⟨i22, ei22, h⟩ := h
        rw [ei22]
        obtain ⟨c23, c24, h⟩ := h
        refine E_blk (lv' := [some (vr (some (4, this))), some (vi v1), some (vi v2), some (vi v3)]) (st' := [vi (mI M 74 i21 ((mI M 68 i22 v1.toNatClampNeg) + v3).toNatClampNeg), vr (some (4, this))]) (M1 := M) (pc' := 80) (tb_Checker hγ) [.getfield 217, .iload_n 1, .iaload, .iload_n 3, .iadd, .iaload] (by decide +kernel) rfl rfl ⟨c23, c24, trivial⟩ ?_
        refine E_callV (κ' := k_Checker_joins) (As := [vi (mI M 74 i21 ((mI M 68 i22 v1.toNatClampNeg) + v3).toNatClampNeg)]) (st := []) mv_Checker_joins (Or.inl (tbk_mem (j := 7) (k := 184) rfl)) rfl (by decide +kernel) (Nat.le_of_ble_eq_true rfl) (Nat.le_of_ble_eq_true rfl) rfl (by decide) (lk_Checker_joins hγ this (mI M 74 i21 ((mI M 68 i22 v1.toNatClampNeg) + v3).toNatClampNeg) _ M h) (fun _ _ => Qi_r) (fun v M25 hp => Qi_k (R := fun st => E γ k_Checker_follows 5 83 [some (vr (some (4, this))), some (vi v1), some (vi v2), some (vi v3)] st M25 (Qi Q)) hp (fun r26 h => ?_))
        refine E_if_ne (off := 5) (tgt := 88) (by decide +kernel) (by decide) (fun b27 => ?_) (fun b27 => ?_)
        · rw [if_pos b27] at h
          refine E_blk (lv' := [some (vr (some (4, this))), some (vi v1), some (vi v2), some (vi v3)]) (st' := [vi (0 : Int32)]) (M1 := M25) (pc' := 87) (tb_Checker hγ) [.iconst 0] (by decide +kernel) rfl rfl trivial ?_
          exact E_zret rfl (Or.inl rfl) (by decide +kernel) h
        · rw [if_neg b27] at h
          refine E_blk (lv' := [some (vr (some (4, this))), some (vi v1), some (vi v2), some (vi (v3 + (1 : Int32)))]) (st' := []) (M1 := M25) (pc' := 91) (tb_Checker hγ) [.iinc 3 1] (by decide +kernel) rfl rfl trivial ?_
          refine E_goto (off := -50) (tgt := 41) (by decide +kernel) (by decide) ?_
          refine E_mask [true, true, true, true] rfl ?_
          exact ih v1 v2 (v3 + (1 : Int32)) M25 h
    · rw [if_neg b6] at h
      refine E_mask [true, false, true, false] rfl ?_
      exact lk_Checker_follows_j94 hγ this Q v2 M h
set_option maxRecDepth 4096 in
theorem lk_Checker_follows_j39 {γ : Gm} (hγ : Gk γ) (this : Nat) (Q : Int32 → Mem → Prop) (v1 : Int32) (v2 : Int32) (M : Mem) (h : w_Checker_follows_j39 this Q v1 v2 M) : E γ k_Checker_follows 5 39 [some (vr (some (4, this))), some (vi v1), some (vi v2), none] [] M (Qi Q) := by
  unfold w_Checker_follows_j39 at h
  refine E_blk (lv' := [some (vr (some (4, this))), some (vi v1), some (vi v2), some (vi (0 : Int32))]) (st' := []) (M1 := M) (pc' := 41) (tb_Checker hγ) [.iconst 0, .istore_n 3] (by decide +kernel) rfl rfl trivial ?_
  obtain ⟨n28, h⟩ := h
  refine E_mask [true, true, true, true] rfl ?_
  exact lk_Checker_follows_L41 hγ this Q n28 v1 v2 (0 : Int32) M h
set_option maxRecDepth 4096 in
theorem lk_Checker_follows {γ : Gm} (hγ : Gk γ) (this : Nat) (a1 : Int32) (Q : Int32 → Mem → Prop) (M : Mem) (h : w_Checker_follows this a1 Q M) : E γ k_Checker_follows 5 0 [some (vr (some (4, this))), some (vi a1), none, none] [] M (Qi Q) := by
  unfold w_Checker_follows at h
  refine E_blk (lv' := [some (vr (some (4, this))), some (vi a1), none, none]) (st' := [vr (mR M 4 this 4)]) (M1 := M) (pc' := 4) (tb_Checker hγ) [.aload_n 0, .getfield 35] (by decide +kernel) rfl rfl trivial ?_
  obtain ⟨i1, ei1, h⟩ := h
  rw [ei1]
  obtain ⟨c2, h⟩ := h
  refine E_blk (lv' := [some (vr (some (4, this))), some (vi a1), some (vi (mI M 66 i1 a1.toNatClampNeg)), none]) (st' := [vi (39 : Int32), vi (23 : Int32), vi (mI M 66 i1 a1.toNatClampNeg)]) (M1 := M) (pc' := 15) (tb_Checker hγ) [.getfield 198, .iload_n 1, .iaload, .istore_n 2, .iload_n 2, .bipush 23, .bipush 39] (by decide +kernel) rfl rfl ⟨c2, trivial⟩ ?_
  refine E_callS (κ' := k_Works_isIn) (As := [vi (mI M 66 i1 a1.toNatClampNeg), vi (23 : Int32), vi (39 : Int32)]) (st := []) ms_Works_isIn (Or.inr ⟨"ClassWorks", (tbk_mem (j := 7) (k := 207) rfl)⟩) rfl (by decide +kernel) (Nat.le_of_ble_eq_true rfl) (Nat.le_of_ble_eq_true rfl) rfl (by decide) (lk_Works_isIn hγ (mI M 66 i1 a1.toNatClampNeg) (23 : Int32) (39 : Int32) _ M h) (fun _ _ => Qi_r) (fun v M3 hp => Qi_k (R := fun st => E γ k_Checker_follows 5 18 [some (vr (some (4, this))), some (vi a1), some (vi (mI M 66 i1 a1.toNatClampNeg)), none] st M3 (Qi Q)) hp (fun r4 h => ?_))
  refine E_if_eq (off := 21) (tgt := 39) (by decide +kernel) (by decide) (fun b5 => ?_) (fun b5 => ?_)
  · rw [if_pos b5] at h
    refine E_mask [true, true, true, false] rfl ?_
    exact lk_Checker_follows_j39 hγ this Q a1 (mI M 66 i1 a1.toNatClampNeg) M3 h
  · rw [if_neg b5] at h
    refine E_blk (lv' := [some (vr (some (4, this))), some (vi a1), some (vi (mI M 66 i1 a1.toNatClampNeg)), none]) (st' := [vr (mR M3 4 this 4), vr (some (4, this))]) (M1 := M3) (pc' := 26) (tb_Checker hγ) [.aload_n 0, .aload_n 0, .getfield 35] (by decide +kernel) rfl rfl trivial ?_
    obtain ⟨i29, ei29, h⟩ := h
    rw [ei29]
    obtain ⟨c30, h⟩ := h
    refine E_blk (lv' := [some (vr (some (4, this))), some (vi a1), some (vi (mI M 66 i1 a1.toNatClampNeg)), none]) (st' := [vi (mI M3 67 i29 a1.toNatClampNeg), vr (some (4, this))]) (M1 := M3) (pc' := 31) (tb_Checker hγ) [.getfield 205, .iload_n 1, .iaload] (by decide +kernel) rfl rfl ⟨c30, trivial⟩ ?_
    refine E_callV (κ' := k_Checker_joins) (As := [vi (mI M3 67 i29 a1.toNatClampNeg)]) (st := []) mv_Checker_joins (Or.inl (tbk_mem (j := 7) (k := 184) rfl)) rfl (by decide +kernel) (Nat.le_of_ble_eq_true rfl) (Nat.le_of_ble_eq_true rfl) rfl (by decide) (lk_Checker_joins hγ this (mI M3 67 i29 a1.toNatClampNeg) _ M3 h) (fun _ _ => Qi_r) (fun v M31 hp => Qi_k (R := fun st => E γ k_Checker_follows 5 34 [some (vr (some (4, this))), some (vi a1), some (vi (mI M 66 i1 a1.toNatClampNeg)), none] st M31 (Qi Q)) hp (fun r32 h => ?_))
    refine E_if_ne (off := 5) (tgt := 39) (by decide +kernel) (by decide) (fun b33 => ?_) (fun b33 => ?_)
    · rw [if_pos b33] at h
      refine E_blk (lv' := [some (vr (some (4, this))), some (vi a1), some (vi (mI M 66 i1 a1.toNatClampNeg)), none]) (st' := [vi (0 : Int32)]) (M1 := M31) (pc' := 38) (tb_Checker hγ) [.iconst 0] (by decide +kernel) rfl rfl trivial ?_
      exact E_zret rfl (Or.inl rfl) (by decide +kernel) h
    · rw [if_neg b33] at h
      refine E_mask [true, true, true, false] rfl ?_
      exact lk_Checker_follows_j39 hγ this Q a1 (mI M 66 i1 a1.toNatClampNeg) M31 h
def w_Checker_lookAt (this : Nat) (a1 : Int32) (Q : Int32 → Mem → Prop) (M : Mem) : Prop :=
  ¬ ((40 : Int32) * (mI M 4 this 7)) < 0 ∧ ¬ (0 : Int32) < 0 ∧ ¬ (20 : Int32) < 0 ∧ ((40 : Int32) * (mI M 4 this 7)).toNatClampNeg + (20 : Int32).toNatClampNeg ≤ mL M 34 this ∧ (0 : Int32).toNatClampNeg + (20 : Int32).toNatClampNeg ≤ mL M 31 this ∧ ∃ M1, M1 = cpI M 34 this ((40 : Int32) * (mI M 4 this 7)).toNatClampNeg 31 this (0 : Int32).toNatClampNeg (20 : Int32).toNatClampNeg ∧ vp_in (mI M1 4 this 7) (mL M1 33 this) ∧ ¬ (((40 : Int32) * (mI M 4 this 7)) + (20 : Int32)) < 0 ∧ ¬ (0 : Int32) < 0 ∧ ¬ (mI (sI M1 4 this 2 (mI M1 33 this (mI M1 4 this 7).toNatClampNeg)) 4 this 2) < 0 ∧ (((40 : Int32) * (mI M 4 this 7)) + (20 : Int32)).toNatClampNeg + (mI (sI M1 4 this 2 (mI M1 33 this (mI M1 4 this 7).toNatClampNeg)) 4 this 2).toNatClampNeg ≤ mL (sI M1 4 this 2 (mI M1 33 this (mI M1 4 this 7).toNatClampNeg)) 34 this ∧ (0 : Int32).toNatClampNeg + (mI (sI M1 4 this 2 (mI M1 33 this (mI M1 4 this 7).toNatClampNeg)) 4 this 2).toNatClampNeg ≤ mL (sI M1 4 this 2 (mI M1 33 this (mI M1 4 this 7).toNatClampNeg)) 32 this ∧ ∃ M8, M8 = cpI (sI M1 4 this 2 (mI M1 33 this (mI M1 4 this 7).toNatClampNeg)) 34 this (((40 : Int32) * (mI M 4 this 7)) + (20 : Int32)).toNatClampNeg 32 this (0 : Int32).toNatClampNeg (mI (sI M1 4 this 2 (mI M1 33 this (mI M1 4 this 7).toNatClampNeg)) 4 this 2).toNatClampNeg ∧ w_Checker_handlers this (fun r15 M14 => if r15 = 0 then (Q (0 : Int32) M14) else (w_Checker_act this a1 (fun r18 M17 => if r18 = 0 then (Q (0 : Int32) M17) else (w_Checker_follows this a1 (fun r21 M20 => if r21 = 0 then (Q (0 : Int32) M20) else (Q (1 : Int32) M20)) M17)) M14)) M8
set_option maxRecDepth 4096 in
theorem lk_Checker_lookAt {γ : Gm} (hγ : Gk γ) (this : Nat) (a1 : Int32) (Q : Int32 → Mem → Prop) (M : Mem) (h : w_Checker_lookAt this a1 Q M) : E γ k_Checker_lookAt 9 0 [some (vr (some (4, this))), some (vi a1), none] [] M (Qi Q) := by
  unfold w_Checker_lookAt at h
  refine E_blk (lv' := [some (vr (some (4, this))), some (vi a1), some (vi ((40 : Int32) * (mI M 4 this 7)))]) (st' := [vi (20 : Int32), vi (0 : Int32), vr (some (31, this)), vi ((40 : Int32) * (mI M 4 this 7)), vr (some (34, this))]) (M1 := M) (pc' := 20) (tb_Checker hγ) [.bipush 40, .aload_n 0, .getfield 69, .imul, .istore_n 2, .aload_n 0, .getfield 29, .iload_n 2, .aload_n 0, .getfield 15, .iconst 0, .bipush 20] (by decide +kernel) rfl rfl trivial ?_
  obtain ⟨c2, c3, c4, c5, c6, M1, eM1, h⟩ := h
  refine E_copy (pc := 20) (κ := k_Checker_lookAt) (f := 34) (i := this) (g := 31) (j := this) (sp := ((40 : Int32) * (mI M 4 this 7))) (dp := (0 : Int32)) (n := (20 : Int32)) (idx := 158) (st := []) c2 c3 c4 c5 c6 (by decide) (by decide) rfl (by decide) (tbk_mem (j := 7) (k := 173) rfl) (by decide +kernel) (Nat.le_of_ble_eq_true rfl) ?_
  rw [← eM1]
  obtain ⟨c7, h⟩ := h
  refine E_blk (lv' := [some (vr (some (4, this))), some (vi a1), some (vi ((40 : Int32) * (mI M 4 this 7)))]) (st' := [vi (mI (sI M1 4 this 2 (mI M1 33 this (mI M1 4 this 7).toNatClampNeg)) 4 this 2), vi (0 : Int32), vr (some (32, this)), vi (((40 : Int32) * (mI M 4 this 7)) + (20 : Int32)), vr (some (34, this))]) (M1 := (sI M1 4 this 2 (mI M1 33 this (mI M1 4 this 7).toNatClampNeg))) (pc' := 53) (tb_Checker hγ) [.aload_n 0, .aload_n 0, .getfield 26, .aload_n 0, .getfield 69, .iaload, .putfield 102, .aload_n 0, .getfield 29, .iload_n 2, .bipush 20, .iadd, .aload_n 0, .getfield 19, .iconst 0, .aload_n 0, .getfield 102] (by decide +kernel) rfl rfl ⟨c7, trivial⟩ ?_
  obtain ⟨c9, c10, c11, c12, c13, M8, eM8, h⟩ := h
  refine E_copy (pc := 53) (κ := k_Checker_lookAt) (f := 34) (i := this) (g := 32) (j := this) (sp := (((40 : Int32) * (mI M 4 this 7)) + (20 : Int32))) (dp := (0 : Int32)) (n := (mI (sI M1 4 this 2 (mI M1 33 this (mI M1 4 this 7).toNatClampNeg)) 4 this 2)) (idx := 158) (st := []) c9 c10 c11 c12 c13 (by decide) (by decide) rfl (by decide) (tbk_mem (j := 7) (k := 173) rfl) (by decide +kernel) (Nat.le_of_ble_eq_true rfl) ?_
  rw [← eM8]
  refine E_blk (lv' := [some (vr (some (4, this))), some (vi a1), some (vi ((40 : Int32) * (mI M 4 this 7)))]) (st' := [vr (some (4, this))]) (M1 := M8) (pc' := 57) (tb_Checker hγ) [.aload_n 0] (by decide +kernel) rfl rfl trivial ?_
  refine E_callV (κ' := k_Checker_handlers) (As := []) (st := []) mv_Checker_handlers (Or.inl (tbk_mem (j := 7) (k := 176) rfl)) rfl (by decide +kernel) (Nat.le_of_ble_eq_true rfl) (Nat.le_of_ble_eq_true rfl) rfl (by decide) (lk_Checker_handlers hγ this _ M8 h) (fun _ _ => Qi_r) (fun v M14 hp => Qi_k (R := fun st => E γ k_Checker_lookAt 9 60 [some (vr (some (4, this))), some (vi a1), some (vi ((40 : Int32) * (mI M 4 this 7)))] st M14 (Qi Q)) hp (fun r15 h => ?_))
  refine E_if_eq (off := 23) (tgt := 83) (by decide +kernel) (by decide) (fun b16 => ?_) (fun b16 => ?_)
  · rw [if_pos b16] at h
    refine E_blk (lv' := [some (vr (some (4, this))), some (vi a1), some (vi ((40 : Int32) * (mI M 4 this 7)))]) (st' := [vi (0 : Int32)]) (M1 := M14) (pc' := 84) (tb_Checker hγ) [.iconst 0] (by decide +kernel) rfl rfl trivial ?_
    exact E_zret rfl (Or.inl rfl) (by decide +kernel) h
  · rw [if_neg b16] at h
    refine E_blk (lv' := [some (vr (some (4, this))), some (vi a1), some (vi ((40 : Int32) * (mI M 4 this 7)))]) (st' := [vi a1, vr (some (4, this))]) (M1 := M14) (pc' := 65) (tb_Checker hγ) [.aload_n 0, .iload_n 1] (by decide +kernel) rfl rfl trivial ?_
    refine E_callV (κ' := k_Checker_act) (As := [vi a1]) (st := []) mv_Checker_act (Or.inl (tbk_mem (j := 7) (k := 203) rfl)) rfl (by decide +kernel) (Nat.le_of_ble_eq_true rfl) (Nat.le_of_ble_eq_true rfl) rfl (by decide) (lk_Checker_act hγ this a1 _ M14 h) (fun _ _ => Qi_r) (fun v M17 hp => Qi_k (R := fun st => E γ k_Checker_lookAt 9 68 [some (vr (some (4, this))), some (vi a1), some (vi ((40 : Int32) * (mI M 4 this 7)))] st M17 (Qi Q)) hp (fun r18 h => ?_))
    refine E_if_eq (off := 15) (tgt := 83) (by decide +kernel) (by decide) (fun b19 => ?_) (fun b19 => ?_)
    · rw [if_pos b19] at h
      refine E_blk (lv' := [some (vr (some (4, this))), some (vi a1), some (vi ((40 : Int32) * (mI M 4 this 7)))]) (st' := [vi (0 : Int32)]) (M1 := M17) (pc' := 84) (tb_Checker hγ) [.iconst 0] (by decide +kernel) rfl rfl trivial ?_
      exact E_zret rfl (Or.inl rfl) (by decide +kernel) h
    · rw [if_neg b19] at h
      refine E_blk (lv' := [some (vr (some (4, this))), some (vi a1), some (vi ((40 : Int32) * (mI M 4 this 7)))]) (st' := [vi a1, vr (some (4, this))]) (M1 := M17) (pc' := 73) (tb_Checker hγ) [.aload_n 0, .iload_n 1] (by decide +kernel) rfl rfl trivial ?_
      refine E_callV (κ' := k_Checker_follows) (As := [vi a1]) (st := []) mv_Checker_follows (Or.inl (tbk_mem (j := 10) (k := 18) rfl)) rfl (by decide +kernel) (Nat.le_of_ble_eq_true rfl) (Nat.le_of_ble_eq_true rfl) rfl (by decide) (lk_Checker_follows hγ this a1 _ M17 h) (fun _ _ => Qi_r) (fun v M20 hp => Qi_k (R := fun st => E γ k_Checker_lookAt 9 76 [some (vr (some (4, this))), some (vi a1), some (vi ((40 : Int32) * (mI M 4 this 7)))] st M20 (Qi Q)) hp (fun r21 h => ?_))
      refine E_if_eq (off := 7) (tgt := 83) (by decide +kernel) (by decide) (fun b22 => ?_) (fun b22 => ?_)
      · rw [if_pos b22] at h
        refine E_blk (lv' := [some (vr (some (4, this))), some (vi a1), some (vi ((40 : Int32) * (mI M 4 this 7)))]) (st' := [vi (0 : Int32)]) (M1 := M20) (pc' := 84) (tb_Checker hγ) [.iconst 0] (by decide +kernel) rfl rfl trivial ?_
        exact E_zret rfl (Or.inl rfl) (by decide +kernel) h
      · rw [if_neg b22] at h
        refine E_blk (lv' := [some (vr (some (4, this))), some (vi a1), some (vi ((40 : Int32) * (mI M 4 this 7)))]) (st' := [vi (1 : Int32)]) (M1 := M20) (pc' := 80) (tb_Checker hγ) [.iconst 1] (by decide +kernel) rfl rfl trivial ?_
        refine E_goto (off := 4) (tgt := 84) (by decide +kernel) (by decide) ?_
        exact E_zret rfl (Or.inr rfl) (by decide +kernel) h
def w_Checker_toldKind (this : Nat) (a1 : Int32) (Q : Int32 → Mem → Prop) (M : Mem) : Prop :=
  if 0 ≤ a1 then (if (2 : Int32) ≤ a1 then (∃ i3, (mR M 4 this 4) = some (5, i3) ∧ w_World_find i3 (a1 - (2 : Int32)) (fun r5 M4 => if 0 ≤ r5 then (Q ((100 : Int32) + r5) M4) else (Q (99 : Int32) M4)) M) else (Q a1 M)) else (if a1 = (-1 : Int32) then (Q (2 : Int32) M) else (if a1 = (-2 : Int32) then (Q (3 : Int32) M) else (if a1 = (-3 : Int32) then (Q (4 : Int32) M) else (Q (5 : Int32) M))))
set_option maxRecDepth 4096 in
theorem lk_Checker_toldKind {γ : Gm} (hγ : Gk γ) (this : Nat) (a1 : Int32) (Q : Int32 → Mem → Prop) (M : Mem) (h : w_Checker_toldKind this a1 Q M) : E γ k_Checker_toldKind 1 0 [some (vr (some (4, this))), some (vi a1), none] [] M (Qi Q) := by
  unfold w_Checker_toldKind at h
  refine E_blk (lv' := [some (vr (some (4, this))), some (vi a1), none]) (st' := [vi a1]) (M1 := M) (pc' := 1) (tb_Checker hγ) [.iload_n 1] (by decide +kernel) rfl rfl trivial ?_
  refine E_if_ge (off := 34) (tgt := 35) (by decide +kernel) (by decide) (fun b1 => ?_) (fun b1 => ?_)
  · rw [if_pos b1] at h
    refine E_blk (lv' := [some (vr (some (4, this))), some (vi a1), none]) (st' := [vi (2 : Int32), vi a1]) (M1 := M) (pc' := 37) (tb_Checker hγ) [.iload_n 1, .iconst 2] (by decide +kernel) rfl rfl trivial ?_
    refine E_icmp_ge (off := 5) (tgt := 42) (by decide +kernel) (by decide) (fun b2 => ?_) (fun b2 => ?_)
    · rw [if_pos b2] at h
      refine E_blk (lv' := [some (vr (some (4, this))), some (vi a1), none]) (st' := [vr (mR M 4 this 4)]) (M1 := M) (pc' := 46) (tb_Checker hγ) [.aload_n 0, .getfield 35] (by decide +kernel) rfl rfl trivial ?_
      obtain ⟨i3, ei3, h⟩ := h
      rw [ei3]
      refine E_blk (lv' := [some (vr (some (4, this))), some (vi a1), none]) (st' := [vi (a1 - (2 : Int32)), vr (some (5, i3))]) (M1 := M) (pc' := 49) (tb_Checker hγ) [.iload_n 1, .iconst 2, .isub] (by decide +kernel) rfl rfl trivial ?_
      refine E_callV (κ' := k_World_find) (As := [vi (a1 - (2 : Int32))]) (st := []) mv_World_find (Or.inl (tbk_mem (j := 7) (k := 159) rfl)) rfl (by decide +kernel) (Nat.le_of_ble_eq_true rfl) (Nat.le_of_ble_eq_true rfl) rfl (by decide) (lk_World_find hγ i3 (a1 - (2 : Int32)) _ M h) (fun _ _ => Qi_r) (fun v M4 hp => Qi_k (R := fun st => E γ k_Checker_toldKind 1 52 [some (vr (some (4, this))), some (vi a1), none] st M4 (Qi Q)) hp (fun r5 h => ?_))
      refine E_blk (lv' := [some (vr (some (4, this))), some (vi a1), some (vi r5)]) (st' := [vi r5]) (M1 := M4) (pc' := 54) (tb_Checker hγ) [.istore_n 2, .iload_n 2] (by decide +kernel) rfl rfl trivial ?_
      refine E_if_ge (off := 8) (tgt := 62) (by decide +kernel) (by decide) (fun b6 => ?_) (fun b6 => ?_)
      · rw [if_pos b6] at h
        refine E_blk (lv' := [some (vr (some (4, this))), some (vi a1), some (vi r5)]) (st' := [vi ((100 : Int32) + r5)]) (M1 := M4) (pc' := 66) (tb_Checker hγ) [.bipush 100, .iload_n 2, .iadd] (by decide +kernel) rfl rfl trivial ?_
        exact E_iret rfl (by decide +kernel) h
      · rw [if_neg b6] at h
        refine E_blk (lv' := [some (vr (some (4, this))), some (vi a1), some (vi r5)]) (st' := [vi (99 : Int32)]) (M1 := M4) (pc' := 59) (tb_Checker hγ) [.bipush 99] (by decide +kernel) rfl rfl trivial ?_
        refine E_goto (off := 7) (tgt := 66) (by decide +kernel) (by decide) ?_
        exact E_iret rfl (by decide +kernel) h
    · rw [if_neg b2] at h
      refine E_blk (lv' := [some (vr (some (4, this))), some (vi a1), none]) (st' := [vi a1]) (M1 := M) (pc' := 41) (tb_Checker hγ) [.iload_n 1] (by decide +kernel) rfl rfl trivial ?_
      exact E_iret rfl (by decide +kernel) h
  · rw [if_neg b1] at h
    refine E_blk (lv' := [some (vr (some (4, this))), some (vi a1), none]) (st' := [vi (-1 : Int32), vi a1]) (M1 := M) (pc' := 6) (tb_Checker hγ) [.iload_n 1, .iconst (.negSucc 0)] (by decide +kernel) rfl rfl trivial ?_
    refine E_icmp_ne (off := 7) (tgt := 13) (by decide +kernel) (by decide) (fun b7 => ?_) (fun b7 => ?_)
    · rw [if_pos b7] at h
      refine E_blk (lv' := [some (vr (some (4, this))), some (vi a1), none]) (st' := [vi (2 : Int32)]) (M1 := M) (pc' := 10) (tb_Checker hγ) [.iconst 2] (by decide +kernel) rfl rfl trivial ?_
      refine E_goto (off := 24) (tgt := 34) (by decide +kernel) (by decide) ?_
      exact E_iret rfl (by decide +kernel) h
    · rw [if_neg b7] at h
      refine E_blk (lv' := [some (vr (some (4, this))), some (vi a1), none]) (st' := [vi (-2 : Int32), vi a1]) (M1 := M) (pc' := 16) (tb_Checker hγ) [.iload_n 1, .bipush (.negSucc 1)] (by decide +kernel) rfl rfl trivial ?_
      refine E_icmp_ne (off := 7) (tgt := 23) (by decide +kernel) (by decide) (fun b8 => ?_) (fun b8 => ?_)
      · rw [if_pos b8] at h
        refine E_blk (lv' := [some (vr (some (4, this))), some (vi a1), none]) (st' := [vi (3 : Int32)]) (M1 := M) (pc' := 20) (tb_Checker hγ) [.iconst 3] (by decide +kernel) rfl rfl trivial ?_
        refine E_goto (off := 14) (tgt := 34) (by decide +kernel) (by decide) ?_
        exact E_iret rfl (by decide +kernel) h
      · rw [if_neg b8] at h
        refine E_blk (lv' := [some (vr (some (4, this))), some (vi a1), none]) (st' := [vi (-3 : Int32), vi a1]) (M1 := M) (pc' := 26) (tb_Checker hγ) [.iload_n 1, .bipush (.negSucc 2)] (by decide +kernel) rfl rfl trivial ?_
        refine E_icmp_ne (off := 7) (tgt := 33) (by decide +kernel) (by decide) (fun b9 => ?_) (fun b9 => ?_)
        · rw [if_pos b9] at h
          refine E_blk (lv' := [some (vr (some (4, this))), some (vi a1), none]) (st' := [vi (4 : Int32)]) (M1 := M) (pc' := 30) (tb_Checker hγ) [.iconst 4] (by decide +kernel) rfl rfl trivial ?_
          refine E_goto (off := 4) (tgt := 34) (by decide +kernel) (by decide) ?_
          exact E_iret rfl (by decide +kernel) h
        · rw [if_neg b9] at h
          refine E_blk (lv' := [some (vr (some (4, this))), some (vi a1), none]) (st' := [vi (5 : Int32)]) (M1 := M) (pc' := 34) (tb_Checker hγ) [.iconst 5] (by decide +kernel) rfl rfl trivial ?_
          exact E_iret rfl (by decide +kernel) h
def w_Checker_tell_j105 (this : Nat) (Q : Mem → Prop) (k18 : Int32 → Mem → Prop) (v1 : Int32) (M : Mem) : Prop :=
  k18 (v1 + (1 : Int32)) M
def w_Checker_tell_j99 (this : Nat) (Q : Mem → Prop) (k18 : Int32 → Mem → Prop) (k28 : Int32 → Int32 → Mem → Prop) (v1 : Int32) (v2 : Int32) (M : Mem) : Prop :=
  k28 v1 (v2 + (1 : Int32)) M
def w_Checker_tell_j73 (this : Nat) (Q : Mem → Prop) (k18 : Int32 → Mem → Prop) (k28 : Int32 → Int32 → Mem → Prop) (v1 : Int32) (v2 : Int32) (M : Mem) : Prop :=
  vp_in (((40 : Int32) * v1) + v2) (mL M 34 this) ∧ w_Checker_toldKind this (mI M 34 this (((40 : Int32) * v1) + v2).toNatClampNeg) (fun r12 M11 => vp_in (((40 : Int32) * v1) + v2) (mL M11 35 this) ∧ w_Checker_tell_j99 this Q k18 k28 v1 v2 (sI M11 35 this (((40 : Int32) * v1) + v2).toNatClampNeg r12)) M
def w_Checker_tell_L28 (this : Nat) (Q : Mem → Prop) (k18 : Int32 → Mem → Prop) : Nat → Int32 → Int32 → Mem → Prop
  | 0, _, _, _ => False
  | n + 1, v1, v2, M => if (40 : Int32) ≤ v2 then (w_Checker_tell_j105 this Q k18 v1 M) else (vp_in v1 (mL M 510 this) ∧ if (mI M 510 this v1.toNatClampNeg) = 0 then (w_Checker_tell_j105 this Q k18 v1 M) else (if (20 : Int32) ≤ v2 then (vp_in v1 (mL M 33 this) ∧ if (mI M 33 this v1.toNatClampNeg) ≤ (v2 - (20 : Int32)) then (w_Checker_tell_j99 this Q k18 (w_Checker_tell_L28 this Q k18 n) v1 v2 M) else (w_Checker_tell_j73 this Q k18 (w_Checker_tell_L28 this Q k18 n) v1 v2 M)) else (if (mI M 4 this 16) ≤ v2 then (w_Checker_tell_j99 this Q k18 (w_Checker_tell_L28 this Q k18 n) v1 v2 M) else (w_Checker_tell_j73 this Q k18 (w_Checker_tell_L28 this Q k18 n) v1 v2 M))))
def w_Checker_tell_L18 (this : Nat) (Q : Mem → Prop) : Nat → Int32 → Mem → Prop
  | 0, _, _ => False
  | n + 1, v1, M => if (mI M 4 this 15) ≤ v1 then (Q M) else (∃ n15 : Nat, w_Checker_tell_L28 this Q (w_Checker_tell_L18 this Q n) n15 v1 (0 : Int32) M)
def w_Checker_tell (this : Nat) (Q : Mem → Prop) (M : Mem) : Prop :=
  ∃ i1, (mR M 4 this 4) = some (5, i1) ∧ vp_in (mI M 4 this 6) (mL M 61 i1) ∧ ∃ n16 : Nat, w_Checker_tell_L18 this Q n16 (0 : Int32) (sI M 4 this 16 (mI M 61 i1 (mI M 4 this 6).toNatClampNeg))
set_option maxRecDepth 4096 in
theorem lk_Checker_tell_j105 {γ : Gm} (hγ : Gk γ) (this : Nat) (Q : Mem → Prop) (k18 : Int32 → Mem → Prop) (hk18 : ∀ (v1 : Int32) (M : Mem), k18 v1 M → E γ k_Checker_tell 2 18 [some (vr (some (4, this))), some (vi v1), none] [] M (Qv Q)) (v1 : Int32) (M : Mem) (h : w_Checker_tell_j105 this Q k18 v1 M) : E γ k_Checker_tell 2 105 [some (vr (some (4, this))), some (vi v1), none] [] M (Qv Q) := by
  unfold w_Checker_tell_j105 at h
  refine E_blk (lv' := [some (vr (some (4, this))), some (vi (v1 + (1 : Int32))), none]) (st' := []) (M1 := M) (pc' := 108) (tb_Checker hγ) [.iinc 1 1] (by decide +kernel) rfl rfl trivial ?_
  refine E_goto (off := -90) (tgt := 18) (by decide +kernel) (by decide) ?_
  refine E_mask [true, true, false] rfl ?_
  exact hk18 (v1 + (1 : Int32)) M h
set_option maxRecDepth 4096 in
theorem lk_Checker_tell_j99 {γ : Gm} (hγ : Gk γ) (this : Nat) (Q : Mem → Prop) (k18 : Int32 → Mem → Prop) (k28 : Int32 → Int32 → Mem → Prop) (hk18 : ∀ (v1 : Int32) (M : Mem), k18 v1 M → E γ k_Checker_tell 2 18 [some (vr (some (4, this))), some (vi v1), none] [] M (Qv Q)) (hk28 : ∀ (v1 : Int32) (v2 : Int32) (M : Mem), k28 v1 v2 M → E γ k_Checker_tell 2 28 [some (vr (some (4, this))), some (vi v1), some (vi v2)] [] M (Qv Q)) (v1 : Int32) (v2 : Int32) (M : Mem) (h : w_Checker_tell_j99 this Q k18 k28 v1 v2 M) : E γ k_Checker_tell 2 99 [some (vr (some (4, this))), some (vi v1), some (vi v2)] [] M (Qv Q) := by
  unfold w_Checker_tell_j99 at h
  refine E_blk (lv' := [some (vr (some (4, this))), some (vi v1), some (vi (v2 + (1 : Int32)))]) (st' := []) (M1 := M) (pc' := 102) (tb_Checker hγ) [.iinc 2 1] (by decide +kernel) rfl rfl trivial ?_
  refine E_goto (off := -74) (tgt := 28) (by decide +kernel) (by decide) ?_
  refine E_mask [true, true, true] rfl ?_
  exact hk28 v1 (v2 + (1 : Int32)) M h
set_option maxRecDepth 4096 in
theorem lk_Checker_tell_j73 {γ : Gm} (hγ : Gk γ) (this : Nat) (Q : Mem → Prop) (k18 : Int32 → Mem → Prop) (k28 : Int32 → Int32 → Mem → Prop) (hk18 : ∀ (v1 : Int32) (M : Mem), k18 v1 M → E γ k_Checker_tell 2 18 [some (vr (some (4, this))), some (vi v1), none] [] M (Qv Q)) (hk28 : ∀ (v1 : Int32) (v2 : Int32) (M : Mem), k28 v1 v2 M → E γ k_Checker_tell 2 28 [some (vr (some (4, this))), some (vi v1), some (vi v2)] [] M (Qv Q)) (v1 : Int32) (v2 : Int32) (M : Mem) (h : w_Checker_tell_j73 this Q k18 k28 v1 v2 M) : E γ k_Checker_tell 2 73 [some (vr (some (4, this))), some (vi v1), some (vi v2)] [] M (Qv Q) := by
  unfold w_Checker_tell_j73 at h
  obtain ⟨c10, h⟩ := h
  refine E_blk (lv' := [some (vr (some (4, this))), some (vi v1), some (vi v2)]) (st' := [vi (mI M 34 this (((40 : Int32) * v1) + v2).toNatClampNeg), vr (some (4, this)), vi (((40 : Int32) * v1) + v2), vr (some (35, this))]) (M1 := M) (pc' := 95) (tb_Checker hγ) [.aload_n 0, .getfield 32, .bipush 40, .iload_n 1, .imul, .iload_n 2, .iadd, .aload_n 0, .aload_n 0, .getfield 29, .bipush 40, .iload_n 1, .imul, .iload_n 2, .iadd, .iaload] (by decide +kernel) rfl rfl ⟨c10, trivial⟩ ?_
  refine E_callV (κ' := k_Checker_toldKind) (As := [vi (mI M 34 this (((40 : Int32) * v1) + v2).toNatClampNeg)]) (st := [vi (((40 : Int32) * v1) + v2), vr (some (35, this))]) mv_Checker_toldKind (Or.inl (tbk_mem (j := 10) (k := 26) rfl)) rfl (by decide +kernel) (Nat.le_of_ble_eq_true rfl) (Nat.le_of_ble_eq_true rfl) rfl (by decide) (lk_Checker_toldKind hγ this (mI M 34 this (((40 : Int32) * v1) + v2).toNatClampNeg) _ M h) (fun _ _ => Qi_r) (fun v M11 hp => Qi_k (R := fun st => E γ k_Checker_tell 2 98 [some (vr (some (4, this))), some (vi v1), some (vi v2)] st M11 (Qv Q)) hp (fun r12 h => ?_))
  obtain ⟨c13, h⟩ := h
  refine E_blk (lv' := [some (vr (some (4, this))), some (vi v1), some (vi v2)]) (st' := []) (M1 := (sI M11 35 this (((40 : Int32) * v1) + v2).toNatClampNeg r12)) (pc' := 99) (tb_Checker hγ) [.iastore] (by decide +kernel) rfl rfl ⟨c13, trivial⟩ ?_
  refine E_mask [true, true, true] rfl ?_
  exact lk_Checker_tell_j99 hγ this Q k18 k28 hk18 hk28 v1 v2 (sI M11 35 this (((40 : Int32) * v1) + v2).toNatClampNeg r12) h
set_option maxRecDepth 4096 in
theorem lk_Checker_tell_L28 {γ : Gm} (hγ : Gk γ) (this : Nat) (Q : Mem → Prop) (k18 : Int32 → Mem → Prop) (hk18 : ∀ (v1 : Int32) (M : Mem), k18 v1 M → E γ k_Checker_tell 2 18 [some (vr (some (4, this))), some (vi v1), none] [] M (Qv Q)) : ∀ (n : Nat) (v1 : Int32) (v2 : Int32) (M : Mem), w_Checker_tell_L28 this Q k18 n v1 v2 M → E γ k_Checker_tell 2 28 [some (vr (some (4, this))), some (vi v1), some (vi v2)] [] M (Qv Q) := by
  intro n
  induction n with
  | zero => intro v1 v2 M h; exact h.elim
  | succ n ih =>
    intro v1 v2 M h
    unfold w_Checker_tell_L28 at h
    refine E_blk (lv' := [some (vr (some (4, this))), some (vi v1), some (vi v2)]) (st' := [vi (40 : Int32), vi v2]) (M1 := M) (pc' := 31) (tb_Checker hγ) [.iload_n 2, .bipush 40] (by decide +kernel) rfl rfl trivial ?_
    refine E_icmp_ge (off := 74) (tgt := 105) (by decide +kernel) (by decide) (fun b4 => ?_) (fun b4 => ?_)
    · rw [if_pos b4] at h
      refine E_mask [true, true, false] rfl ?_
      exact lk_Checker_tell_j105 hγ this Q k18 hk18 v1 M h
    · rw [if_neg b4] at h
      obtain ⟨c5, h⟩ := h
      refine E_blk (lv' := [some (vr (some (4, this))), some (vi v1), some (vi v2)]) (st' := [vi (mI M 510 this v1.toNatClampNeg)]) (M1 := M) (pc' := 40) (tb_Checker hγ) [.aload_n 0, .getfield 22, .iload_n 1, .baload] (by decide +kernel) rfl rfl ⟨c5, trivial⟩ ?_
      refine E_if_eq (off := 65) (tgt := 105) (by decide +kernel) (by decide) (fun b6 => ?_) (fun b6 => ?_)
      · rw [if_pos b6] at h
        refine E_mask [true, true, false] rfl ?_
        exact lk_Checker_tell_j105 hγ this Q k18 hk18 v1 M h
      · rw [if_neg b6] at h
        refine E_blk (lv' := [some (vr (some (4, this))), some (vi v1), some (vi v2)]) (st' := [vi (20 : Int32), vi v2]) (M1 := M) (pc' := 46) (tb_Checker hγ) [.iload_n 2, .bipush 20] (by decide +kernel) rfl rfl trivial ?_
        refine E_icmp_ge (off := 14) (tgt := 60) (by decide +kernel) (by decide) (fun b7 => ?_) (fun b7 => ?_)
        · rw [if_pos b7] at h
          obtain ⟨c8, h⟩ := h
          refine E_blk (lv' := [some (vr (some (4, this))), some (vi v1), some (vi v2)]) (st' := [vi (mI M 33 this v1.toNatClampNeg), vi (v2 - (20 : Int32))]) (M1 := M) (pc' := 70) (tb_Checker hγ) [.iload_n 2, .bipush 20, .isub, .aload_n 0, .getfield 26, .iload_n 1, .iaload] (by decide +kernel) rfl rfl ⟨c8, trivial⟩ ?_
          refine E_icmp_ge (off := 29) (tgt := 99) (by decide +kernel) (by decide) (fun b9 => ?_) (fun b9 => ?_)
          · rw [if_pos b9] at h
            refine E_mask [true, true, true] rfl ?_
            exact lk_Checker_tell_j99 hγ this Q k18 (w_Checker_tell_L28 this Q k18 n) hk18 ih v1 v2 M h
          · rw [if_neg b9] at h
            refine E_mask [true, true, true] rfl ?_
            exact lk_Checker_tell_j73 hγ this Q k18 (w_Checker_tell_L28 this Q k18 n) hk18 ih v1 v2 M h
        · rw [if_neg b7] at h
          refine E_blk (lv' := [some (vr (some (4, this))), some (vi v1), some (vi v2)]) (st' := [vi (mI M 4 this 16), vi v2]) (M1 := M) (pc' := 54) (tb_Checker hγ) [.iload_n 2, .aload_n 0, .getfield 186] (by decide +kernel) rfl rfl trivial ?_
          refine E_icmp_ge (off := 45) (tgt := 99) (by decide +kernel) (by decide) (fun b14 => ?_) (fun b14 => ?_)
          · rw [if_pos b14] at h
            refine E_mask [true, true, true] rfl ?_
            exact lk_Checker_tell_j99 hγ this Q k18 (w_Checker_tell_L28 this Q k18 n) hk18 ih v1 v2 M h
          · rw [if_neg b14] at h
            refine E_goto (off := 16) (tgt := 73) (by decide +kernel) (by decide) ?_
            refine E_mask [true, true, true] rfl ?_
            exact lk_Checker_tell_j73 hγ this Q k18 (w_Checker_tell_L28 this Q k18 n) hk18 ih v1 v2 M h
set_option maxRecDepth 4096 in
theorem lk_Checker_tell_L18 {γ : Gm} (hγ : Gk γ) (this : Nat) (Q : Mem → Prop) : ∀ (n : Nat) (v1 : Int32) (M : Mem), w_Checker_tell_L18 this Q n v1 M → E γ k_Checker_tell 2 18 [some (vr (some (4, this))), some (vi v1), none] [] M (Qv Q) := by
  intro n
  induction n with
  | zero => intro v1 M h; exact h.elim
  | succ n ih =>
    intro v1 M h
    unfold w_Checker_tell_L18 at h
    refine E_blk (lv' := [some (vr (some (4, this))), some (vi v1), none]) (st' := [vi (mI M 4 this 15), vi v1]) (M1 := M) (pc' := 23) (tb_Checker hγ) [.iload_n 1, .aload_n 0, .getfield 167] (by decide +kernel) rfl rfl trivial ?_
    refine E_icmp_ge (off := 88) (tgt := 111) (by decide +kernel) (by decide) (fun b3 => ?_) (fun b3 => ?_)
    · rw [if_pos b3] at h
      exact E_vret rfl (by decide +kernel) h
    · rw [if_neg b3] at h
      refine E_blk (lv' := [some (vr (some (4, this))), some (vi v1), some (vi (0 : Int32))]) (st' := []) (M1 := M) (pc' := 28) (tb_Checker hγ) [.iconst 0, .istore_n 2] (by decide +kernel) rfl rfl trivial ?_
      obtain ⟨n15, h⟩ := h
      refine E_mask [true, true, true] rfl ?_
      exact lk_Checker_tell_L28 hγ this Q (w_Checker_tell_L18 this Q n) ih n15 v1 (0 : Int32) M h
set_option maxRecDepth 4096 in
theorem lk_Checker_tell {γ : Gm} (hγ : Gk γ) (this : Nat) (Q : Mem → Prop) (M : Mem) (h : w_Checker_tell this Q M) : E γ k_Checker_tell 2 0 [some (vr (some (4, this))), none, none] [] M (Qv Q) := by
  unfold w_Checker_tell at h
  refine E_blk (lv' := [some (vr (some (4, this))), none, none]) (st' := [vr (mR M 4 this 4), vr (some (4, this))]) (M1 := M) (pc' := 5) (tb_Checker hγ) [.aload_n 0, .aload_n 0, .getfield 35] (by decide +kernel) rfl rfl trivial ?_
  obtain ⟨i1, ei1, h⟩ := h
  rw [ei1]
  obtain ⟨c2, h⟩ := h
  refine E_blk (lv' := [some (vr (some (4, this))), some (vi (0 : Int32)), none]) (st' := []) (M1 := (sI M 4 this 16 (mI M 61 i1 (mI M 4 this 6).toNatClampNeg))) (pc' := 18) (tb_Checker hγ) [.getfield 85, .aload_n 0, .getfield 54, .iaload, .putfield 186, .iconst 0, .istore_n 1] (by decide +kernel) rfl rfl ⟨c2, trivial⟩ ?_
  obtain ⟨n16, h⟩ := h
  refine E_mask [true, true, false] rfl ?_
  exact lk_Checker_tell_L18 hγ this Q n16 (0 : Int32) (sI M 4 this 16 (mI M 61 i1 (mI M 4 this 6).toNatClampNeg)) h
def w_Checker_inferred_j187 (this : Nat) (Q : Int32 → Mem → Prop)  (M : Mem) : Prop :=
  ((0 : Int32) = 0 ∨ (0 : Int32) = 1) ∧ w_Checker_tell this (fun M16 => if (mI M16 4 this 8) = 0 then (Q (0 : Int32) M16) else (Q (((1000 : Int32) * (mI M16 4 this 8)) + (mI M16 4 this 7)) M16)) (sI M 4 this 10 (0 : Int32))
def w_Checker_inferred_j149 (this : Nat) (Q : Int32 → Mem → Prop) (k51 : Int32 → Int32 → Mem → Prop) (v2 : Int32) (v3 : Int32) (M : Mem) : Prop :=
  if (mI M 4 this 14) = 0 then (k51 v2 (v3 + (1 : Int32)) M) else (if (v3 + (1 : Int32)) = (100 : Int32) then (if (mI M 4 this 8) = 0 then (w_Checker_breaks this (44 : Int32) (fun r25 M24 => k51 v2 (v3 + (1 : Int32)) (sI M24 4 this 7 (0 : Int32))) M) else (k51 v2 (v3 + (1 : Int32)) M)) else (k51 v2 (v3 + (1 : Int32)) M))
def w_Checker_inferred_j136 (this : Nat) (Q : Int32 → Mem → Prop) (k51 : Int32 → Int32 → Mem → Prop) (k75 : Int32 → Int32 → Mem → Prop) (v2 : Int32) (v3 : Int32) (M : Mem) : Prop :=
  k75 v2 v3 (sI M 4 this 7 ((mI M 4 this 7) + (1 : Int32)))
def w_Checker_inferred_L75 (this : Nat) (Q : Int32 → Mem → Prop) (k51 : Int32 → Int32 → Mem → Prop) : Nat → Int32 → Int32 → Mem → Prop
  | 0, _, _, _ => False
  | n + 1, v2, v3, M => if (mI M 4 this 15) ≤ (mI M 4 this 7) then (w_Checker_inferred_j149 this Q k51 v2 v3 M) else (if (mI M 4 this 8) = 0 then (vp_in (mI M 4 this 7) (mL M 510 this) ∧ if (mI M 510 this (mI M 4 this 7).toNatClampNeg) = 0 then (w_Checker_inferred_j136 this Q k51 (w_Checker_inferred_L75 this Q k51 n) v2 v3 M) else (∃ i29, (mR M 4 this 4) = some (5, i29) ∧ vp_in v2 (mL M 62 i29) ∧ w_Checker_lookAt this ((mI M 62 i29 v2.toNatClampNeg) + (mI M 4 this 7)) (fun r32 M31 => if r32 = 0 then (w_Checker_inferred_j136 this Q k51 (w_Checker_inferred_L75 this Q k51 n) v2 v3 (sI M31 4 this 7 ((mI M31 4 this 7) - (1 : Int32)))) else (w_Checker_inferred_j136 this Q k51 (w_Checker_inferred_L75 this Q k51 n) v2 v3 M31)) M)) else (w_Checker_inferred_j149 this Q k51 v2 v3 M))
def w_Checker_inferred_L51 (this : Nat) (Q : Int32 → Mem → Prop) : Nat → Int32 → Int32 → Mem → Prop
  | 0, _, _, _ => False
  | n + 1, v2, v3, M => if (mI M 4 this 14) = 0 then (w_Checker_inferred_j187 this Q  M) else (if (mI M 4 this 8) = 0 then (((0 : Int32) = 0 ∨ (0 : Int32) = 1) ∧ ∃ n34 : Nat, w_Checker_inferred_L75 this Q (w_Checker_inferred_L51 this Q n) n34 v2 v3 (sI (sI M 4 this 14 (0 : Int32)) 4 this 7 (0 : Int32))) else (w_Checker_inferred_j187 this Q  M))
def w_Checker_inferred (this : Nat) (a1 : Nat) (a2 : Int32) (Q : Int32 → Mem → Prop) (M : Mem) : Prop :=
  w_Checker_ask this a1 a2 (fun M1 => ((1 : Int32) = 0 ∨ (1 : Int32) = 1) ∧ w_Checker_begin this (fun M3 => vp_in (0 : Int32) (mL M3 510 this) ∧ vp_in (0 : Int32) (mL (sI M3 510 this (0 : Int32).toNatClampNeg ((1 : Int32) &&& 1)) 33 this) ∧ ∃ M6, M6 = (sI (sI M3 510 this (0 : Int32).toNatClampNeg ((1 : Int32) &&& 1)) 33 this (0 : Int32).toNatClampNeg (0 : Int32)) ∧ ¬ (0 : Int32) < 0 ∧ ¬ (0 : Int32) < 0 ∧ ¬ (20 : Int32) < 0 ∧ (0 : Int32).toNatClampNeg + (20 : Int32).toNatClampNeg ≤ mL M6 31 this ∧ (0 : Int32).toNatClampNeg + (20 : Int32).toNatClampNeg ≤ mL M6 34 this ∧ ∃ M7, M7 = cpI M6 31 this (0 : Int32).toNatClampNeg 34 this (0 : Int32).toNatClampNeg (20 : Int32).toNatClampNeg ∧ ((1 : Int32) = 0 ∨ (1 : Int32) = 1) ∧ ∃ n35 : Nat, w_Checker_inferred_L51 this Q n35 a2 (0 : Int32) (sI M7 4 this 14 (1 : Int32))) (sI M1 4 this 10 (1 : Int32))) M
set_option maxRecDepth 4096 in
theorem lk_Checker_inferred_j187 {γ : Gm} (hγ : Gk γ) (this : Nat) (Q : Int32 → Mem → Prop)  (M : Mem) (h : w_Checker_inferred_j187 this Q  M) : E γ k_Checker_inferred 10 187 [some (vr (some (4, this))), none, none, none] [] M (Qi Q) := by
  unfold w_Checker_inferred_j187 at h
  obtain ⟨c15, h⟩ := h
  refine E_blk (lv' := [some (vr (some (4, this))), none, none, none]) (st' := [vr (some (4, this))]) (M1 := (sI M 4 this 10 (0 : Int32))) (pc' := 193) (tb_Checker hγ) [.aload_n 0, .iconst 0, .putfield 177, .aload_n 0] (by decide +kernel) rfl rfl ⟨c15, trivial⟩ ?_
  refine E_callV (κ' := k_Checker_tell) (As := []) (st := []) mv_Checker_tell (Or.inl (tbk_mem (j := 10) (k := 22) rfl)) rfl (by decide +kernel) (Nat.le_of_ble_eq_true rfl) (Nat.le_of_ble_eq_true rfl) rfl (by decide) (lk_Checker_tell hγ this _ (sI M 4 this 10 (0 : Int32)) h) (fun _ _ => Qv_r) (fun v M16 hp => Qv_k (R := fun st => E γ k_Checker_inferred 10 196 [some (vr (some (4, this))), none, none, none] st M16 (Qi Q)) hp (fun h => ?_))
  refine E_blk (lv' := [some (vr (some (4, this))), none, none, none]) (st' := [vi (mI M16 4 this 8)]) (M1 := M16) (pc' := 200) (tb_Checker hγ) [.aload_n 0, .getfield 57] (by decide +kernel) rfl rfl trivial ?_
  refine E_if_ne (off := 7) (tgt := 207) (by decide +kernel) (by decide) (fun b17 => ?_) (fun b17 => ?_)
  · rw [if_pos b17] at h
    refine E_blk (lv' := [some (vr (some (4, this))), none, none, none]) (st' := [vi (0 : Int32)]) (M1 := M16) (pc' := 204) (tb_Checker hγ) [.iconst 0] (by decide +kernel) rfl rfl trivial ?_
    refine E_goto (off := 16) (tgt := 220) (by decide +kernel) (by decide) ?_
    exact E_iret rfl (by decide +kernel) h
  · rw [if_neg b17] at h
    refine E_blk (lv' := [some (vr (some (4, this))), none, none, none]) (st' := [vi (((1000 : Int32) * (mI M16 4 this 8)) + (mI M16 4 this 7))]) (M1 := M16) (pc' := 220) (tb_Checker hγ) [.sipush 1000, .aload_n 0, .getfield 57, .imul, .aload_n 0, .getfield 69, .iadd] (by decide +kernel) rfl rfl trivial ?_
    exact E_iret rfl (by decide +kernel) h
set_option maxRecDepth 4096 in
theorem lk_Checker_inferred_j149 {γ : Gm} (hγ : Gk γ) (this : Nat) (Q : Int32 → Mem → Prop) (k51 : Int32 → Int32 → Mem → Prop) (hk51 : ∀ (v2 : Int32) (v3 : Int32) (M : Mem), k51 v2 v3 M → E γ k_Checker_inferred 10 51 [some (vr (some (4, this))), none, some (vi v2), some (vi v3)] [] M (Qi Q)) (v2 : Int32) (v3 : Int32) (M : Mem) (h : w_Checker_inferred_j149 this Q k51 v2 v3 M) : E γ k_Checker_inferred 10 149 [some (vr (some (4, this))), none, some (vi v2), some (vi v3)] [] M (Qi Q) := by
  unfold w_Checker_inferred_j149 at h
  refine E_blk (lv' := [some (vr (some (4, this))), none, some (vi v2), some (vi (v3 + (1 : Int32)))]) (st' := [vi (mI M 4 this 14)]) (M1 := M) (pc' := 156) (tb_Checker hγ) [.iinc 3 1, .aload_n 0, .getfield 180] (by decide +kernel) rfl rfl trivial ?_
  refine E_if_eq (off := -105) (tgt := 51) (by decide +kernel) (by decide) (fun b21 => ?_) (fun b21 => ?_)
  · rw [if_pos b21] at h
    refine E_mask [true, false, true, true] rfl ?_
    exact hk51 v2 (v3 + (1 : Int32)) M h
  · rw [if_neg b21] at h
    refine E_blk (lv' := [some (vr (some (4, this))), none, some (vi v2), some (vi (v3 + (1 : Int32)))]) (st' := [vi (100 : Int32), vi (v3 + (1 : Int32))]) (M1 := M) (pc' := 162) (tb_Checker hγ) [.iload_n 3, .bipush 100] (by decide +kernel) rfl rfl trivial ?_
    refine E_icmp_ne (off := -111) (tgt := 51) (by decide +kernel) (by decide) (fun b22 => ?_) (fun b22 => ?_)
    · rw [if_pos b22] at h
      refine E_blk (lv' := [some (vr (some (4, this))), none, some (vi v2), some (vi (v3 + (1 : Int32)))]) (st' := [vi (mI M 4 this 8)]) (M1 := M) (pc' := 169) (tb_Checker hγ) [.aload_n 0, .getfield 57] (by decide +kernel) rfl rfl trivial ?_
      refine E_if_ne (off := -118) (tgt := 51) (by decide +kernel) (by decide) (fun b23 => ?_) (fun b23 => ?_)
      · rw [if_pos b23] at h
        refine E_blk (lv' := [some (vr (some (4, this))), none, some (vi v2), some (vi (v3 + (1 : Int32)))]) (st' := [vi (44 : Int32), vr (some (4, this))]) (M1 := M) (pc' := 175) (tb_Checker hγ) [.aload_n 0, .bipush 44] (by decide +kernel) rfl rfl trivial ?_
        refine E_callV (κ' := k_Checker_breaks) (As := [vi (44 : Int32)]) (st := []) mv_Checker_breaks (Or.inl (tbk_mem (j := 7) (k := 147) rfl)) rfl (by decide +kernel) (Nat.le_of_ble_eq_true rfl) (Nat.le_of_ble_eq_true rfl) rfl (by decide) (lk_Checker_breaks hγ this (44 : Int32) _ M h) (fun _ _ => Qi_r) (fun v M24 hp => Qi_k (R := fun st => E γ k_Checker_inferred 10 178 [some (vr (some (4, this))), none, some (vi v2), some (vi (v3 + (1 : Int32)))] st M24 (Qi Q)) hp (fun r25 h => ?_))
        refine E_blk (lv' := [some (vr (some (4, this))), none, some (vi v2), some (vi (v3 + (1 : Int32)))]) (st' := []) (M1 := (sI M24 4 this 7 (0 : Int32))) (pc' := 184) (tb_Checker hγ) [.pop, .aload_n 0, .iconst 0, .putfield 69] (by decide +kernel) rfl rfl trivial ?_
        refine E_goto (off := -133) (tgt := 51) (by decide +kernel) (by decide) ?_
        refine E_mask [true, false, true, true] rfl ?_
        exact hk51 v2 (v3 + (1 : Int32)) (sI M24 4 this 7 (0 : Int32)) h
      · rw [if_neg b23] at h
        refine E_mask [true, false, true, true] rfl ?_
        exact hk51 v2 (v3 + (1 : Int32)) M h
    · rw [if_neg b22] at h
      refine E_mask [true, false, true, true] rfl ?_
      exact hk51 v2 (v3 + (1 : Int32)) M h
set_option maxRecDepth 4096 in
theorem lk_Checker_inferred_j136 {γ : Gm} (hγ : Gk γ) (this : Nat) (Q : Int32 → Mem → Prop) (k51 : Int32 → Int32 → Mem → Prop) (k75 : Int32 → Int32 → Mem → Prop) (hk51 : ∀ (v2 : Int32) (v3 : Int32) (M : Mem), k51 v2 v3 M → E γ k_Checker_inferred 10 51 [some (vr (some (4, this))), none, some (vi v2), some (vi v3)] [] M (Qi Q)) (hk75 : ∀ (v2 : Int32) (v3 : Int32) (M : Mem), k75 v2 v3 M → E γ k_Checker_inferred 10 75 [some (vr (some (4, this))), none, some (vi v2), some (vi v3)] [] M (Qi Q)) (v2 : Int32) (v3 : Int32) (M : Mem) (h : w_Checker_inferred_j136 this Q k51 k75 v2 v3 M) : E γ k_Checker_inferred 10 136 [some (vr (some (4, this))), none, some (vi v2), some (vi v3)] [] M (Qi Q) := by
  unfold w_Checker_inferred_j136 at h
  refine E_blk (lv' := [some (vr (some (4, this))), none, some (vi v2), some (vi v3)]) (st' := []) (M1 := (sI M 4 this 7 ((mI M 4 this 7) + (1 : Int32)))) (pc' := 146) (tb_Checker hγ) [.aload_n 0, .dup, .getfield 69, .iconst 1, .iadd, .putfield 69] (by decide +kernel) rfl rfl trivial ?_
  refine E_goto (off := -71) (tgt := 75) (by decide +kernel) (by decide) ?_
  refine E_mask [true, false, true, true] rfl ?_
  exact hk75 v2 v3 (sI M 4 this 7 ((mI M 4 this 7) + (1 : Int32))) h
set_option maxRecDepth 4096 in
theorem lk_Checker_inferred_L75 {γ : Gm} (hγ : Gk γ) (this : Nat) (Q : Int32 → Mem → Prop) (k51 : Int32 → Int32 → Mem → Prop) (hk51 : ∀ (v2 : Int32) (v3 : Int32) (M : Mem), k51 v2 v3 M → E γ k_Checker_inferred 10 51 [some (vr (some (4, this))), none, some (vi v2), some (vi v3)] [] M (Qi Q)) : ∀ (n : Nat) (v2 : Int32) (v3 : Int32) (M : Mem), w_Checker_inferred_L75 this Q k51 n v2 v3 M → E γ k_Checker_inferred 10 75 [some (vr (some (4, this))), none, some (vi v2), some (vi v3)] [] M (Qi Q) := by
  intro n
  induction n with
  | zero => intro v2 v3 M h; exact h.elim
  | succ n ih =>
    intro v2 v3 M h
    unfold w_Checker_inferred_L75 at h
    refine E_blk (lv' := [some (vr (some (4, this))), none, some (vi v2), some (vi v3)]) (st' := [vi (mI M 4 this 15), vi (mI M 4 this 7)]) (M1 := M) (pc' := 83) (tb_Checker hγ) [.aload_n 0, .getfield 69, .aload_n 0, .getfield 167] (by decide +kernel) rfl rfl trivial ?_
    refine E_icmp_ge (off := 66) (tgt := 149) (by decide +kernel) (by decide) (fun b20 => ?_) (fun b20 => ?_)
    · rw [if_pos b20] at h
      refine E_mask [true, false, true, true] rfl ?_
      exact lk_Checker_inferred_j149 hγ this Q k51 hk51 v2 v3 M h
    · rw [if_neg b20] at h
      refine E_blk (lv' := [some (vr (some (4, this))), none, some (vi v2), some (vi v3)]) (st' := [vi (mI M 4 this 8)]) (M1 := M) (pc' := 90) (tb_Checker hγ) [.aload_n 0, .getfield 57] (by decide +kernel) rfl rfl trivial ?_
      refine E_if_ne (off := 59) (tgt := 149) (by decide +kernel) (by decide) (fun b26 => ?_) (fun b26 => ?_)
      · rw [if_pos b26] at h
        obtain ⟨c27, h⟩ := h
        refine E_blk (lv' := [some (vr (some (4, this))), none, some (vi v2), some (vi v3)]) (st' := [vi (mI M 510 this (mI M 4 this 7).toNatClampNeg)]) (M1 := M) (pc' := 102) (tb_Checker hγ) [.aload_n 0, .getfield 22, .aload_n 0, .getfield 69, .baload] (by decide +kernel) rfl rfl ⟨c27, trivial⟩ ?_
        refine E_if_eq (off := 34) (tgt := 136) (by decide +kernel) (by decide) (fun b28 => ?_) (fun b28 => ?_)
        · rw [if_pos b28] at h
          refine E_mask [true, false, true, true] rfl ?_
          exact lk_Checker_inferred_j136 hγ this Q k51 (w_Checker_inferred_L75 this Q k51 n) hk51 ih v2 v3 M h
        · rw [if_neg b28] at h
          refine E_blk (lv' := [some (vr (some (4, this))), none, some (vi v2), some (vi v3)]) (st' := [vr (mR M 4 this 4), vr (some (4, this))]) (M1 := M) (pc' := 110) (tb_Checker hγ) [.aload_n 0, .aload_n 0, .getfield 35] (by decide +kernel) rfl rfl trivial ?_
          obtain ⟨i29, ei29, h⟩ := h
          rw [ei29]
          obtain ⟨c30, h⟩ := h
          refine E_blk (lv' := [some (vr (some (4, this))), none, some (vi v2), some (vi v3)]) (st' := [vi ((mI M 62 i29 v2.toNatClampNeg) + (mI M 4 this 7)), vr (some (4, this))]) (M1 := M) (pc' := 120) (tb_Checker hγ) [.getfield 118, .iload_n 2, .iaload, .aload_n 0, .getfield 69, .iadd] (by decide +kernel) rfl rfl ⟨c30, trivial⟩ ?_
          refine E_callV (κ' := k_Checker_lookAt) (As := [vi ((mI M 62 i29 v2.toNatClampNeg) + (mI M 4 this 7))]) (st := []) mv_Checker_lookAt (Or.inl (tbk_mem (j := 10) (k := 14) rfl)) rfl (by decide +kernel) (Nat.le_of_ble_eq_true rfl) (Nat.le_of_ble_eq_true rfl) rfl (by decide) (lk_Checker_lookAt hγ this ((mI M 62 i29 v2.toNatClampNeg) + (mI M 4 this 7)) _ M h) (fun _ _ => Qi_r) (fun v M31 hp => Qi_k (R := fun st => E γ k_Checker_inferred 10 123 [some (vr (some (4, this))), none, some (vi v2), some (vi v3)] st M31 (Qi Q)) hp (fun r32 h => ?_))
          refine E_if_ne (off := 13) (tgt := 136) (by decide +kernel) (by decide) (fun b33 => ?_) (fun b33 => ?_)
          · rw [if_pos b33] at h
            refine E_blk (lv' := [some (vr (some (4, this))), none, some (vi v2), some (vi v3)]) (st' := []) (M1 := (sI M31 4 this 7 ((mI M31 4 this 7) - (1 : Int32)))) (pc' := 136) (tb_Checker hγ) [.aload_n 0, .dup, .getfield 69, .iconst 1, .isub, .putfield 69] (by decide +kernel) rfl rfl trivial ?_
            refine E_mask [true, false, true, true] rfl ?_
            exact lk_Checker_inferred_j136 hγ this Q k51 (w_Checker_inferred_L75 this Q k51 n) hk51 ih v2 v3 (sI M31 4 this 7 ((mI M31 4 this 7) - (1 : Int32))) h
          · rw [if_neg b33] at h
            refine E_mask [true, false, true, true] rfl ?_
            exact lk_Checker_inferred_j136 hγ this Q k51 (w_Checker_inferred_L75 this Q k51 n) hk51 ih v2 v3 M31 h
      · rw [if_neg b26] at h
        refine E_mask [true, false, true, true] rfl ?_
        exact lk_Checker_inferred_j149 hγ this Q k51 hk51 v2 v3 M h
set_option maxRecDepth 4096 in
theorem lk_Checker_inferred_L51 {γ : Gm} (hγ : Gk γ) (this : Nat) (Q : Int32 → Mem → Prop) : ∀ (n : Nat) (v2 : Int32) (v3 : Int32) (M : Mem), w_Checker_inferred_L51 this Q n v2 v3 M → E γ k_Checker_inferred 10 51 [some (vr (some (4, this))), none, some (vi v2), some (vi v3)] [] M (Qi Q) := by
  intro n
  induction n with
  | zero => intro v2 v3 M h; exact h.elim
  | succ n ih =>
    intro v2 v3 M h
    unfold w_Checker_inferred_L51 at h
    refine E_blk (lv' := [some (vr (some (4, this))), none, some (vi v2), some (vi v3)]) (st' := [vi (mI M 4 this 14)]) (M1 := M) (pc' := 55) (tb_Checker hγ) [.aload_n 0, .getfield 180] (by decide +kernel) rfl rfl trivial ?_
    refine E_if_eq (off := 132) (tgt := 187) (by decide +kernel) (by decide) (fun b14 => ?_) (fun b14 => ?_)
    · rw [if_pos b14] at h
      refine E_mask [true, false, false, false] rfl ?_
      exact lk_Checker_inferred_j187 hγ this Q  M h
    · rw [if_neg b14] at h
      refine E_blk (lv' := [some (vr (some (4, this))), none, some (vi v2), some (vi v3)]) (st' := [vi (mI M 4 this 8)]) (M1 := M) (pc' := 62) (tb_Checker hγ) [.aload_n 0, .getfield 57] (by decide +kernel) rfl rfl trivial ?_
      refine E_if_ne (off := 125) (tgt := 187) (by decide +kernel) (by decide) (fun b18 => ?_) (fun b18 => ?_)
      · rw [if_pos b18] at h
        obtain ⟨c19, h⟩ := h
        refine E_blk (lv' := [some (vr (some (4, this))), none, some (vi v2), some (vi v3)]) (st' := []) (M1 := (sI (sI M 4 this 14 (0 : Int32)) 4 this 7 (0 : Int32))) (pc' := 75) (tb_Checker hγ) [.aload_n 0, .iconst 0, .putfield 180, .aload_n 0, .iconst 0, .putfield 69] (by decide +kernel) rfl rfl ⟨c19, trivial⟩ ?_
        obtain ⟨n34, h⟩ := h
        refine E_mask [true, false, true, true] rfl ?_
        exact lk_Checker_inferred_L75 hγ this Q (w_Checker_inferred_L51 this Q n) ih n34 v2 v3 (sI (sI M 4 this 14 (0 : Int32)) 4 this 7 (0 : Int32)) h
      · rw [if_neg b18] at h
        refine E_mask [true, false, false, false] rfl ?_
        exact lk_Checker_inferred_j187 hγ this Q  M h
set_option maxRecDepth 4096 in
theorem lk_Checker_inferred {γ : Gm} (hγ : Gk γ) (this : Nat) (a1 : Nat) (a2 : Int32) (Q : Int32 → Mem → Prop) (M : Mem) (h : w_Checker_inferred this a1 a2 Q M) : E γ k_Checker_inferred 10 0 [some (vr (some (4, this))), some (vr (some (5, a1))), some (vi a2), none] [] M (Qi Q) := by
  unfold w_Checker_inferred at h
  refine E_blk (lv' := [some (vr (some (4, this))), some (vr (some (5, a1))), some (vi a2), none]) (st' := [vi a2, vr (some (5, a1)), vr (some (4, this))]) (M1 := M) (pc' := 3) (tb_Checker hγ) [.aload_n 0, .aload_n 1, .iload_n 2] (by decide +kernel) rfl rfl trivial ?_
  refine E_callV (κ' := k_Checker_ask) (As := [vr (some (5, a1)), vi a2]) (st := []) mv_Checker_ask (Or.inl (tbk_mem (j := 10) (k := 10) rfl)) rfl (by decide +kernel) (Nat.le_of_ble_eq_true rfl) (Nat.le_of_ble_eq_true rfl) rfl (by decide) (lk_Checker_ask hγ this a1 a2 _ M h) (fun _ _ => Qv_r) (fun v M1 hp => Qv_k (R := fun st => E γ k_Checker_inferred 10 6 [some (vr (some (4, this))), some (vr (some (5, a1))), some (vi a2), none] st M1 (Qi Q)) hp (fun h => ?_))
  obtain ⟨c2, h⟩ := h
  refine E_blk (lv' := [some (vr (some (4, this))), some (vr (some (5, a1))), some (vi a2), none]) (st' := [vr (some (4, this))]) (M1 := (sI M1 4 this 10 (1 : Int32))) (pc' := 12) (tb_Checker hγ) [.aload_n 0, .iconst 1, .putfield 177, .aload_n 0] (by decide +kernel) rfl rfl ⟨c2, trivial⟩ ?_
  refine E_callV (κ' := k_Checker_begin) (As := []) (st := []) mv_Checker_begin (Or.inl (tbk_mem (j := 7) (k := 118) rfl)) rfl (by decide +kernel) (Nat.le_of_ble_eq_true rfl) (Nat.le_of_ble_eq_true rfl) rfl (by decide) (lk_Checker_begin hγ this _ (sI M1 4 this 10 (1 : Int32)) h) (fun _ _ => Qv_r) (fun v M3 hp => Qv_k (R := fun st => E γ k_Checker_inferred 10 15 [some (vr (some (4, this))), some (vr (some (5, a1))), some (vi a2), none] st M3 (Qi Q)) hp (fun h => ?_))
  obtain ⟨c4, c5, h⟩ := h
  refine E_blk (lv' := [some (vr (some (4, this))), some (vr (some (5, a1))), some (vi a2), none]) (st' := []) (M1 := (sI (sI M3 510 this (0 : Int32).toNatClampNeg ((1 : Int32) &&& 1)) 33 this (0 : Int32).toNatClampNeg (0 : Int32))) (pc' := 29) (tb_Checker hγ) [.aload_n 0, .getfield 22, .iconst 0, .iconst 1, .bastore, .aload_n 0, .getfield 26, .iconst 0, .iconst 0, .iastore] (by decide +kernel) rfl rfl ⟨c4, c5, trivial⟩ ?_
  obtain ⟨M6, eM6, h⟩ := h
  rw [← eM6]
  refine E_blk (lv' := [some (vr (some (4, this))), some (vr (some (5, a1))), some (vi a2), none]) (st' := [vi (20 : Int32), vi (0 : Int32), vr (some (34, this)), vi (0 : Int32), vr (some (31, this))]) (M1 := M6) (pc' := 41) (tb_Checker hγ) [.aload_n 0, .getfield 15, .iconst 0, .aload_n 0, .getfield 29, .iconst 0, .bipush 20] (by decide +kernel) rfl rfl trivial ?_
  obtain ⟨c8, c9, c10, c11, c12, M7, eM7, h⟩ := h
  refine E_copy (pc := 41) (κ := k_Checker_inferred) (f := 31) (i := this) (g := 34) (j := this) (sp := (0 : Int32)) (dp := (0 : Int32)) (n := (20 : Int32)) (idx := 158) (st := []) c8 c9 c10 c11 c12 (by decide) (by decide) rfl (by decide) (tbk_mem (j := 7) (k := 173) rfl) (by decide +kernel) (Nat.le_of_ble_eq_true rfl) ?_
  rw [← eM7]
  obtain ⟨c13, h⟩ := h
  refine E_blk (lv' := [some (vr (some (4, this))), some (vr (some (5, a1))), some (vi a2), some (vi (0 : Int32))]) (st' := []) (M1 := (sI M7 4 this 14 (1 : Int32))) (pc' := 51) (tb_Checker hγ) [.aload_n 0, .iconst 1, .putfield 180, .iconst 0, .istore_n 3] (by decide +kernel) rfl rfl ⟨c13, trivial⟩ ?_
  obtain ⟨n35, h⟩ := h
  refine E_mask [true, false, true, true] rfl ?_
  exact lk_Checker_inferred_L51 hγ this Q n35 a2 (0 : Int32) (sI M7 4 this 14 (1 : Int32)) h
def w_Checker_withFrames (this : Nat) (a1 : Nat) (a2 : Int32) (Q : Int32 → Mem → Prop) (M : Mem) : Prop :=
  w_Checker_ask this a1 a2 (fun M1 => ((1 : Int32) = 0 ∨ (1 : Int32) = 1) ∧ w_Checker_all this (fun M3 => ((0 : Int32) = 0 ∨ (0 : Int32) = 1) ∧ w_Checker_tell this (fun M5 => if (mI M5 4 this 8) = 0 then (Q (0 : Int32) M5) else (Q (((1000 : Int32) * (mI M5 4 this 8)) + (mI M5 4 this 7)) M5)) (sI M3 4 this 9 (0 : Int32))) (sI M1 4 this 9 (1 : Int32))) M
set_option maxRecDepth 4096 in
theorem lk_Checker_withFrames {γ : Gm} (hγ : Gk γ) (this : Nat) (a1 : Nat) (a2 : Int32) (Q : Int32 → Mem → Prop) (M : Mem) (h : w_Checker_withFrames this a1 a2 Q M) : E γ k_Checker_withFrames 11 0 [some (vr (some (4, this))), some (vr (some (5, a1))), some (vi a2)] [] M (Qi Q) := by
  unfold w_Checker_withFrames at h
  refine E_blk (lv' := [some (vr (some (4, this))), some (vr (some (5, a1))), some (vi a2)]) (st' := [vi a2, vr (some (5, a1)), vr (some (4, this))]) (M1 := M) (pc' := 3) (tb_Checker hγ) [.aload_n 0, .aload_n 1, .iload_n 2] (by decide +kernel) rfl rfl trivial ?_
  refine E_callV (κ' := k_Checker_ask) (As := [vr (some (5, a1)), vi a2]) (st := []) mv_Checker_ask (Or.inl (tbk_mem (j := 10) (k := 10) rfl)) rfl (by decide +kernel) (Nat.le_of_ble_eq_true rfl) (Nat.le_of_ble_eq_true rfl) rfl (by decide) (lk_Checker_ask hγ this a1 a2 _ M h) (fun _ _ => Qv_r) (fun v M1 hp => Qv_k (R := fun st => E γ k_Checker_withFrames 11 6 [some (vr (some (4, this))), some (vr (some (5, a1))), some (vi a2)] st M1 (Qi Q)) hp (fun h => ?_))
  obtain ⟨c2, h⟩ := h
  refine E_blk (lv' := [some (vr (some (4, this))), some (vr (some (5, a1))), some (vi a2)]) (st' := [vr (some (4, this))]) (M1 := (sI M1 4 this 9 (1 : Int32))) (pc' := 12) (tb_Checker hγ) [.aload_n 0, .iconst 1, .putfield 155, .aload_n 0] (by decide +kernel) rfl rfl ⟨c2, trivial⟩ ?_
  refine E_callV (κ' := k_Checker_all) (As := []) (st := []) mv_Checker_all (Or.inl (tbk_mem (j := 7) (k := 114) rfl)) rfl (by decide +kernel) (Nat.le_of_ble_eq_true rfl) (Nat.le_of_ble_eq_true rfl) rfl (by decide) (lk_Checker_all hγ this _ (sI M1 4 this 9 (1 : Int32)) h) (fun _ _ => Qv_r) (fun v M3 hp => Qv_k (R := fun st => E γ k_Checker_withFrames 11 15 [some (vr (some (4, this))), some (vr (some (5, a1))), some (vi a2)] st M3 (Qi Q)) hp (fun h => ?_))
  obtain ⟨c4, h⟩ := h
  refine E_blk (lv' := [some (vr (some (4, this))), some (vr (some (5, a1))), some (vi a2)]) (st' := [vr (some (4, this))]) (M1 := (sI M3 4 this 9 (0 : Int32))) (pc' := 21) (tb_Checker hγ) [.aload_n 0, .iconst 0, .putfield 155, .aload_n 0] (by decide +kernel) rfl rfl ⟨c4, trivial⟩ ?_
  refine E_callV (κ' := k_Checker_tell) (As := []) (st := []) mv_Checker_tell (Or.inl (tbk_mem (j := 10) (k := 22) rfl)) rfl (by decide +kernel) (Nat.le_of_ble_eq_true rfl) (Nat.le_of_ble_eq_true rfl) rfl (by decide) (lk_Checker_tell hγ this _ (sI M3 4 this 9 (0 : Int32)) h) (fun _ _ => Qv_r) (fun v M5 hp => Qv_k (R := fun st => E γ k_Checker_withFrames 11 24 [some (vr (some (4, this))), some (vr (some (5, a1))), some (vi a2)] st M5 (Qi Q)) hp (fun h => ?_))
  refine E_blk (lv' := [some (vr (some (4, this))), some (vr (some (5, a1))), some (vi a2)]) (st' := [vi (mI M5 4 this 8)]) (M1 := M5) (pc' := 28) (tb_Checker hγ) [.aload_n 0, .getfield 57] (by decide +kernel) rfl rfl trivial ?_
  refine E_if_ne (off := 7) (tgt := 35) (by decide +kernel) (by decide) (fun b6 => ?_) (fun b6 => ?_)
  · rw [if_pos b6] at h
    refine E_blk (lv' := [some (vr (some (4, this))), some (vr (some (5, a1))), some (vi a2)]) (st' := [vi (0 : Int32)]) (M1 := M5) (pc' := 32) (tb_Checker hγ) [.iconst 0] (by decide +kernel) rfl rfl trivial ?_
    refine E_goto (off := 16) (tgt := 48) (by decide +kernel) (by decide) ?_
    exact E_iret rfl (by decide +kernel) h
  · rw [if_neg b6] at h
    refine E_blk (lv' := [some (vr (some (4, this))), some (vr (some (5, a1))), some (vi a2)]) (st' := [vi (((1000 : Int32) * (mI M5 4 this 8)) + (mI M5 4 this 7))]) (M1 := M5) (pc' := 48) (tb_Checker hγ) [.sipush 1000, .aload_n 0, .getfield 57, .imul, .aload_n 0, .getfield 69, .iadd] (by decide +kernel) rfl rfl trivial ?_
    exact E_iret rfl (by decide +kernel) h
def w_Works_kinds (this : Nat) (a1 : Int32) (a2 : Int32) (a3 : Int32) (a4 : Int32) (Q : Int32 → Mem → Prop) (M : Mem) : Prop :=
  w_Works_isClass this a1 a2 (fun r2 M1 => if r2 = 0 then (Q (-1 : Int32) M1) else (vp_in a1 (mL M1 702 0) ∧ ∃ i5, (mR M1 702 0 a1.toNatClampNeg) = some (5, i5) ∧ w_Works_isMethod this i5 a2 a3 (fun r7 M6 => if r7 = 0 then (Q (-1 : Int32) M6) else (vp_in a1 (mL M6 702 0) ∧ ∃ i10, (mR M6 702 0 a1.toNatClampNeg) = some (5, i10) ∧ vp_in a2 (mL M6 43 i10) ∧ vp_in ((mI M6 43 i10 a2.toNatClampNeg) + a3) (mL M6 63 i10) ∧ if (mI M6 63 i10 ((mI M6 43 i10 a2.toNatClampNeg) + a3).toNatClampNeg) = 0 then (Q (-1 : Int32) M6) else (if a4 = 0 then (w_Checker_withFrames 1 i10 ((mI M6 43 i10 a2.toNatClampNeg) + a3) (fun r16 M15 => Q r16 M15) M6) else (w_Checker_inferred 1 i10 ((mI M6 43 i10 a2.toNatClampNeg) + a3) (fun r18 M17 => Q r18 M17) M6)))) M1)) M
set_option maxRecDepth 4096 in
theorem lk_Works_kinds {γ : Gm} (hγ : Gk γ) (this : Nat) (a1 : Int32) (a2 : Int32) (a3 : Int32) (a4 : Int32) (Q : Int32 → Mem → Prop) (M : Mem) (h : w_Works_kinds this a1 a2 a3 a4 Q M) : E γ k_Works_kinds 12 0 [some (vr (some (10, this))), some (vi a1), some (vi a2), some (vi a3), some (vi a4), none, none] [] M (Qi Q) := by
  unfold w_Works_kinds at h
  refine E_blk (lv' := [some (vr (some (10, this))), some (vi a1), some (vi a2), some (vi a3), some (vi a4), none, none]) (st' := [vi a2, vi a1, vr (some (10, this))]) (M1 := M) (pc' := 3) (tb_Works hγ) [.aload_n 0, .iload_n 1, .iload_n 2] (by decide +kernel) rfl rfl trivial ?_
  refine E_callV (κ' := k_Works_isClass) (As := [vi a1, vi a2]) (st := []) mv_Works_isClass (Or.inl (tbk_mem (j := 7) (k := 49) rfl)) rfl (by decide +kernel) (Nat.le_of_ble_eq_true rfl) (Nat.le_of_ble_eq_true rfl) rfl (by decide) (lk_Works_isClass hγ this a1 a2 _ M h) (fun _ _ => Qi_r) (fun v M1 hp => Qi_k (R := fun st => E γ k_Works_kinds 12 6 [some (vr (some (10, this))), some (vi a1), some (vi a2), some (vi a3), some (vi a4), none, none] st M1 (Qi Q)) hp (fun r2 h => ?_))
  refine E_if_eq (off := 18) (tgt := 24) (by decide +kernel) (by decide) (fun b3 => ?_) (fun b3 => ?_)
  · rw [if_pos b3] at h
    refine E_blk (lv' := [some (vr (some (10, this))), some (vi a1), some (vi a2), some (vi a3), some (vi a4), none, none]) (st' := [vi (-1 : Int32)]) (M1 := M1) (pc' := 25) (tb_Works hγ) [.iconst (.negSucc 0)] (by decide +kernel) rfl rfl trivial ?_
    exact E_iret rfl (by decide +kernel) h
  · rw [if_neg b3] at h
    obtain ⟨c4, h⟩ := h
    refine E_blk (lv' := [some (vr (some (10, this))), some (vi a1), some (vi a2), some (vi a3), some (vi a4), none, none]) (st' := [vr (mR M1 702 0 a1.toNatClampNeg), vr (some (10, this))]) (M1 := M1) (pc' := 16) (tb_Works hγ) [.aload_n 0, .aload_n 0, .getfield 85, .iload_n 1, .aaload] (by decide +kernel) rfl rfl ⟨c4, trivial⟩ ?_
    obtain ⟨i5, ei5, h⟩ := h
    rw [ei5]
    refine E_blk (lv' := [some (vr (some (10, this))), some (vi a1), some (vi a2), some (vi a3), some (vi a4), none, none]) (st' := [vi a3, vi a2, vr (some (5, i5)), vr (some (10, this))]) (M1 := M1) (pc' := 18) (tb_Works hγ) [.iload_n 2, .iload_n 3] (by decide +kernel) rfl rfl trivial ?_
    refine E_callV (κ' := k_Works_isMethod) (As := [vr (some (5, i5)), vi a2, vi a3]) (st := []) mv_Works_isMethod (Or.inl (tbk_mem (j := 7) (k := 62) rfl)) rfl (by decide +kernel) (Nat.le_of_ble_eq_true rfl) (Nat.le_of_ble_eq_true rfl) rfl (by decide) (lk_Works_isMethod hγ this i5 a2 a3 _ M1 h) (fun _ _ => Qi_r) (fun v M6 hp => Qi_k (R := fun st => E γ k_Works_kinds 12 21 [some (vr (some (10, this))), some (vi a1), some (vi a2), some (vi a3), some (vi a4), none, none] st M6 (Qi Q)) hp (fun r7 h => ?_))
    refine E_if_ne (off := 5) (tgt := 26) (by decide +kernel) (by decide) (fun b8 => ?_) (fun b8 => ?_)
    · rw [if_pos b8] at h
      refine E_blk (lv' := [some (vr (some (10, this))), some (vi a1), some (vi a2), some (vi a3), some (vi a4), none, none]) (st' := [vi (-1 : Int32)]) (M1 := M6) (pc' := 25) (tb_Works hγ) [.iconst (.negSucc 0)] (by decide +kernel) rfl rfl trivial ?_
      exact E_iret rfl (by decide +kernel) h
    · rw [if_neg b8] at h
      obtain ⟨c9, h⟩ := h
      refine E_blk (lv' := [some (vr (some (10, this))), some (vi a1), some (vi a2), some (vi a3), some (vi a4), none, none]) (st' := [vr (mR M6 702 0 a1.toNatClampNeg)]) (M1 := M6) (pc' := 32) (tb_Works hγ) [.aload_n 0, .getfield 85, .iload_n 1, .aaload] (by decide +kernel) rfl rfl ⟨c9, trivial⟩ ?_
      obtain ⟨i10, ei10, h⟩ := h
      rw [ei10]
      obtain ⟨c11, c12, h⟩ := h
      refine E_blk (lv' := [some (vr (some (10, this))), some (vi a1), some (vi a2), some (vi a3), some (vi a4), some (vr (some (5, i10))), some (vi ((mI M6 43 i10 a2.toNatClampNeg) + a3))]) (st' := [vi (mI M6 63 i10 ((mI M6 43 i10 a2.toNatClampNeg) + a3).toNatClampNeg)]) (M1 := M6) (pc' := 53) (tb_Works hγ) [.astore 5, .aload 5, .getfield 291, .iload_n 2, .iaload, .iload_n 3, .iadd, .istore 6, .aload 5, .getfield 317, .iload 6, .iaload] (by decide +kernel) rfl rfl ⟨c11, c12, trivial⟩ ?_
      refine E_if_ne (off := 5) (tgt := 58) (by decide +kernel) (by decide) (fun b13 => ?_) (fun b13 => ?_)
      · rw [if_pos b13] at h
        refine E_blk (lv' := [some (vr (some (10, this))), some (vi a1), some (vi a2), some (vi a3), some (vi a4), some (vr (some (5, i10))), some (vi ((mI M6 43 i10 a2.toNatClampNeg) + a3))]) (st' := [vi (-1 : Int32)]) (M1 := M6) (pc' := 57) (tb_Works hγ) [.iconst (.negSucc 0)] (by decide +kernel) rfl rfl trivial ?_
        exact E_iret rfl (by decide +kernel) h
      · rw [if_neg b13] at h
        refine E_blk (lv' := [some (vr (some (10, this))), some (vi a1), some (vi a2), some (vi a3), some (vi a4), some (vr (some (5, i10))), some (vi ((mI M6 43 i10 a2.toNatClampNeg) + a3))]) (st' := [vi a4]) (M1 := M6) (pc' := 60) (tb_Works hγ) [.iload 4] (by decide +kernel) rfl rfl trivial ?_
        refine E_if_eq (off := 17) (tgt := 77) (by decide +kernel) (by decide) (fun b14 => ?_) (fun b14 => ?_)
        · rw [if_pos b14] at h
          refine E_blk (lv' := [some (vr (some (10, this))), some (vi a1), some (vi a2), some (vi a3), some (vi a4), some (vr (some (5, i10))), some (vi ((mI M6 43 i10 a2.toNatClampNeg) + a3))]) (st' := [vi ((mI M6 43 i10 a2.toNatClampNeg) + a3), vr (some (5, i10)), vr (some (4, 1))]) (M1 := M6) (pc' := 85) (tb_Works hγ) [.aload_n 0, .getfield 103, .aload 5, .iload 6] (by decide +kernel) rfl rfl trivial ?_
          refine E_callV (κ' := k_Checker_withFrames) (As := [vr (some (5, i10)), vi ((mI M6 43 i10 a2.toNatClampNeg) + a3)]) (st := []) mv_Checker_withFrames (Or.inl (tbk_mem (j := 10) (k := 30) rfl)) rfl (by decide +kernel) (Nat.le_of_ble_eq_true rfl) (Nat.le_of_ble_eq_true rfl) rfl (by decide) (lk_Checker_withFrames hγ 1 i10 ((mI M6 43 i10 a2.toNatClampNeg) + a3) _ M6 h) (fun _ _ => Qi_r) (fun v M15 hp => Qi_k (R := fun st => E γ k_Works_kinds 12 88 [some (vr (some (10, this))), some (vi a1), some (vi a2), some (vi a3), some (vi a4), some (vr (some (5, i10))), some (vi ((mI M6 43 i10 a2.toNatClampNeg) + a3))] st M15 (Qi Q)) hp (fun r16 h => ?_))
          exact E_iret rfl (by decide +kernel) h
        · rw [if_neg b14] at h
          refine E_blk (lv' := [some (vr (some (10, this))), some (vi a1), some (vi a2), some (vi a3), some (vi a4), some (vr (some (5, i10))), some (vi ((mI M6 43 i10 a2.toNatClampNeg) + a3))]) (st' := [vi ((mI M6 43 i10 a2.toNatClampNeg) + a3), vr (some (5, i10)), vr (some (4, 1))]) (M1 := M6) (pc' := 71) (tb_Works hγ) [.aload_n 0, .getfield 103, .aload 5, .iload 6] (by decide +kernel) rfl rfl trivial ?_
          refine E_callV (κ' := k_Checker_inferred) (As := [vr (some (5, i10)), vi ((mI M6 43 i10 a2.toNatClampNeg) + a3)]) (st := []) mv_Checker_inferred (Or.inl (tbk_mem (j := 10) (k := 6) rfl)) rfl (by decide +kernel) (Nat.le_of_ble_eq_true rfl) (Nat.le_of_ble_eq_true rfl) rfl (by decide) (lk_Checker_inferred hγ 1 i10 ((mI M6 43 i10 a2.toNatClampNeg) + a3) _ M6 h) (fun _ _ => Qi_r) (fun v M17 hp => Qi_k (R := fun st => E γ k_Works_kinds 12 74 [some (vr (some (10, this))), some (vi a1), some (vi a2), some (vi a3), some (vi a4), some (vr (some (5, i10))), some (vi ((mI M6 43 i10 a2.toNatClampNeg) + a3))] st M17 (Qi Q)) hp (fun r18 h => ?_))
          refine E_goto (off := 14) (tgt := 88) (by decide +kernel) (by decide) ?_
          exact E_iret rfl (by decide +kernel) h
def w_Checker_toldAt_j79 (this : Nat) (Q : Int32 → Mem → Prop) (v1 : Int32) (v2 : Int32) (M : Mem) : Prop :=
  vp_in (((40 : Int32) * v1) + v2) (mL M 35 this) ∧ Q (mI M 35 this (((40 : Int32) * v1) + v2).toNatClampNeg) M
def w_Checker_toldAt (this : Nat) (a1 : Int32) (a2 : Int32) (Q : Int32 → Mem → Prop) (M : Mem) : Prop :=
  w_Works_isIn a1 (0 : Int32) ((mI M 4 this 15) - (1 : Int32)) (fun r2 M1 => if r2 = 0 then (Q (-1 : Int32) M1) else (vp_in a1 (mL M1 510 this) ∧ if (mI M1 510 this a1.toNatClampNeg) = 0 then (Q (-1 : Int32) M1) else (if a2 = (-1 : Int32) then (vp_in a1 (mL M1 33 this) ∧ Q (mI M1 33 this a1.toNatClampNeg) M1) else (w_Works_isIn a2 (0 : Int32) (39 : Int32) (fun r9 M8 => if r9 = 0 then (Q (-1 : Int32) M8) else (if (20 : Int32) ≤ a2 then (vp_in a1 (mL M8 33 this) ∧ if (a2 - (20 : Int32)) < (mI M8 33 this a1.toNatClampNeg) then (w_Checker_toldAt_j79 this Q a1 a2 M8) else (Q (-1 : Int32) M8)) else (if a2 < (mI M8 4 this 16) then (w_Checker_toldAt_j79 this Q a1 a2 M8) else (Q (-1 : Int32) M8)))) M1)))) M
set_option maxRecDepth 4096 in
theorem lk_Checker_toldAt_j79 {γ : Gm} (hγ : Gk γ) (this : Nat) (Q : Int32 → Mem → Prop) (v1 : Int32) (v2 : Int32) (M : Mem) (h : w_Checker_toldAt_j79 this Q v1 v2 M) : E γ k_Checker_toldAt 1 79 [some (vr (some (4, this))), some (vi v1), some (vi v2)] [] M (Qi Q) := by
  unfold w_Checker_toldAt_j79 at h
  obtain ⟨c14, h⟩ := h
  refine E_blk (lv' := [some (vr (some (4, this))), some (vi v1), some (vi v2)]) (st' := [vi (mI M 35 this (((40 : Int32) * v1) + v2).toNatClampNeg)]) (M1 := M) (pc' := 90) (tb_Checker hγ) [.aload_n 0, .getfield 32, .bipush 40, .iload_n 1, .imul, .iload_n 2, .iadd, .iaload] (by decide +kernel) rfl rfl ⟨c14, trivial⟩ ?_
  exact E_iret rfl (by decide +kernel) h
set_option maxRecDepth 4096 in
theorem lk_Checker_toldAt {γ : Gm} (hγ : Gk γ) (this : Nat) (a1 : Int32) (a2 : Int32) (Q : Int32 → Mem → Prop) (M : Mem) (h : w_Checker_toldAt this a1 a2 Q M) : E γ k_Checker_toldAt 1 0 [some (vr (some (4, this))), some (vi a1), some (vi a2)] [] M (Qi Q) := by
  unfold w_Checker_toldAt at h
  refine E_blk (lv' := [some (vr (some (4, this))), some (vi a1), some (vi a2)]) (st' := [vi ((mI M 4 this 15) - (1 : Int32)), vi (0 : Int32), vi a1]) (M1 := M) (pc' := 8) (tb_Checker hγ) [.iload_n 1, .iconst 0, .aload_n 0, .getfield 167, .iconst 1, .isub] (by decide +kernel) rfl rfl trivial ?_
  refine E_callS (κ' := k_Works_isIn) (As := [vi a1, vi (0 : Int32), vi ((mI M 4 this 15) - (1 : Int32))]) (st := []) ms_Works_isIn (Or.inr ⟨"ClassWorks", (tbk_mem (j := 7) (k := 207) rfl)⟩) rfl (by decide +kernel) (Nat.le_of_ble_eq_true rfl) (Nat.le_of_ble_eq_true rfl) rfl (by decide) (lk_Works_isIn hγ a1 (0 : Int32) ((mI M 4 this 15) - (1 : Int32)) _ M h) (fun _ _ => Qi_r) (fun v M1 hp => Qi_k (R := fun st => E γ k_Checker_toldAt 1 11 [some (vr (some (4, this))), some (vi a1), some (vi a2)] st M1 (Qi Q)) hp (fun r2 h => ?_))
  refine E_if_eq (off := 12) (tgt := 23) (by decide +kernel) (by decide) (fun b3 => ?_) (fun b3 => ?_)
  · rw [if_pos b3] at h
    refine E_blk (lv' := [some (vr (some (4, this))), some (vi a1), some (vi a2)]) (st' := [vi (-1 : Int32)]) (M1 := M1) (pc' := 24) (tb_Checker hγ) [.iconst (.negSucc 0)] (by decide +kernel) rfl rfl trivial ?_
    exact E_iret rfl (by decide +kernel) h
  · rw [if_neg b3] at h
    obtain ⟨c4, h⟩ := h
    refine E_blk (lv' := [some (vr (some (4, this))), some (vi a1), some (vi a2)]) (st' := [vi (mI M1 510 this a1.toNatClampNeg)]) (M1 := M1) (pc' := 20) (tb_Checker hγ) [.aload_n 0, .getfield 22, .iload_n 1, .baload] (by decide +kernel) rfl rfl ⟨c4, trivial⟩ ?_
    refine E_if_ne (off := 5) (tgt := 25) (by decide +kernel) (by decide) (fun b5 => ?_) (fun b5 => ?_)
    · rw [if_pos b5] at h
      refine E_blk (lv' := [some (vr (some (4, this))), some (vi a1), some (vi a2)]) (st' := [vi (-1 : Int32)]) (M1 := M1) (pc' := 24) (tb_Checker hγ) [.iconst (.negSucc 0)] (by decide +kernel) rfl rfl trivial ?_
      exact E_iret rfl (by decide +kernel) h
    · rw [if_neg b5] at h
      refine E_blk (lv' := [some (vr (some (4, this))), some (vi a1), some (vi a2)]) (st' := [vi (-1 : Int32), vi a2]) (M1 := M1) (pc' := 27) (tb_Checker hγ) [.iload_n 2, .iconst (.negSucc 0)] (by decide +kernel) rfl rfl trivial ?_
      refine E_icmp_ne (off := 10) (tgt := 37) (by decide +kernel) (by decide) (fun b6 => ?_) (fun b6 => ?_)
      · rw [if_pos b6] at h
        obtain ⟨c7, h⟩ := h
        refine E_blk (lv' := [some (vr (some (4, this))), some (vi a1), some (vi a2)]) (st' := [vi (mI M1 33 this a1.toNatClampNeg)]) (M1 := M1) (pc' := 36) (tb_Checker hγ) [.aload_n 0, .getfield 26, .iload_n 1, .iaload] (by decide +kernel) rfl rfl ⟨c7, trivial⟩ ?_
        exact E_iret rfl (by decide +kernel) h
      · rw [if_neg b6] at h
        refine E_blk (lv' := [some (vr (some (4, this))), some (vi a1), some (vi a2)]) (st' := [vi (39 : Int32), vi (0 : Int32), vi a2]) (M1 := M1) (pc' := 41) (tb_Checker hγ) [.iload_n 2, .iconst 0, .bipush 39] (by decide +kernel) rfl rfl trivial ?_
        refine E_callS (κ' := k_Works_isIn) (As := [vi a2, vi (0 : Int32), vi (39 : Int32)]) (st := []) ms_Works_isIn (Or.inr ⟨"ClassWorks", (tbk_mem (j := 7) (k := 207) rfl)⟩) rfl (by decide +kernel) (Nat.le_of_ble_eq_true rfl) (Nat.le_of_ble_eq_true rfl) rfl (by decide) (lk_Works_isIn hγ a2 (0 : Int32) (39 : Int32) _ M1 h) (fun _ _ => Qi_r) (fun v M8 hp => Qi_k (R := fun st => E γ k_Checker_toldAt 1 44 [some (vr (some (4, this))), some (vi a1), some (vi a2)] st M8 (Qi Q)) hp (fun r9 h => ?_))
        refine E_if_eq (off := 33) (tgt := 77) (by decide +kernel) (by decide) (fun b10 => ?_) (fun b10 => ?_)
        · rw [if_pos b10] at h
          refine E_blk (lv' := [some (vr (some (4, this))), some (vi a1), some (vi a2)]) (st' := [vi (-1 : Int32)]) (M1 := M8) (pc' := 78) (tb_Checker hγ) [.iconst (.negSucc 0)] (by decide +kernel) rfl rfl trivial ?_
          exact E_iret rfl (by decide +kernel) h
        · rw [if_neg b10] at h
          refine E_blk (lv' := [some (vr (some (4, this))), some (vi a1), some (vi a2)]) (st' := [vi (20 : Int32), vi a2]) (M1 := M8) (pc' := 50) (tb_Checker hγ) [.iload_n 2, .bipush 20] (by decide +kernel) rfl rfl trivial ?_
          refine E_icmp_ge (off := 14) (tgt := 64) (by decide +kernel) (by decide) (fun b11 => ?_) (fun b11 => ?_)
          · rw [if_pos b11] at h
            obtain ⟨c12, h⟩ := h
            refine E_blk (lv' := [some (vr (some (4, this))), some (vi a1), some (vi a2)]) (st' := [vi (mI M8 33 this a1.toNatClampNeg), vi (a2 - (20 : Int32))]) (M1 := M8) (pc' := 74) (tb_Checker hγ) [.iload_n 2, .bipush 20, .isub, .aload_n 0, .getfield 26, .iload_n 1, .iaload] (by decide +kernel) rfl rfl ⟨c12, trivial⟩ ?_
            refine E_icmp_lt (off := 5) (tgt := 79) (by decide +kernel) (by decide) (fun b13 => ?_) (fun b13 => ?_)
            · rw [if_pos b13] at h
              refine E_mask [true, true, true] rfl ?_
              exact lk_Checker_toldAt_j79 hγ this Q a1 a2 M8 h
            · rw [if_neg b13] at h
              refine E_blk (lv' := [some (vr (some (4, this))), some (vi a1), some (vi a2)]) (st' := [vi (-1 : Int32)]) (M1 := M8) (pc' := 78) (tb_Checker hγ) [.iconst (.negSucc 0)] (by decide +kernel) rfl rfl trivial ?_
              exact E_iret rfl (by decide +kernel) h
          · rw [if_neg b11] at h
            refine E_blk (lv' := [some (vr (some (4, this))), some (vi a1), some (vi a2)]) (st' := [vi (mI M8 4 this 16), vi a2]) (M1 := M8) (pc' := 58) (tb_Checker hγ) [.iload_n 2, .aload_n 0, .getfield 186] (by decide +kernel) rfl rfl trivial ?_
            refine E_icmp_lt (off := 21) (tgt := 79) (by decide +kernel) (by decide) (fun b15 => ?_) (fun b15 => ?_)
            · rw [if_pos b15] at h
              refine E_mask [true, true, true] rfl ?_
              exact lk_Checker_toldAt_j79 hγ this Q a1 a2 M8 h
            · rw [if_neg b15] at h
              refine E_goto (off := 16) (tgt := 77) (by decide +kernel) (by decide) ?_
              refine E_blk (lv' := [some (vr (some (4, this))), some (vi a1), some (vi a2)]) (st' := [vi (-1 : Int32)]) (M1 := M8) (pc' := 78) (tb_Checker hγ) [.iconst (.negSucc 0)] (by decide +kernel) rfl rfl trivial ?_
              exact E_iret rfl (by decide +kernel) h
def w_Works_kind (this : Nat) (a1 : Int32) (a2 : Int32) (Q : Int32 → Mem → Prop) (M : Mem) : Prop :=
  w_Checker_toldAt 1 a1 a2 (fun r2 M1 => Q r2 M1) M
set_option maxRecDepth 4096 in
theorem lk_Works_kind {γ : Gm} (hγ : Gk γ) (this : Nat) (a1 : Int32) (a2 : Int32) (Q : Int32 → Mem → Prop) (M : Mem) (h : w_Works_kind this a1 a2 Q M) : E γ k_Works_kind 2 0 [some (vr (some (10, this))), some (vi a1), some (vi a2)] [] M (Qi Q) := by
  unfold w_Works_kind at h
  refine E_blk (lv' := [some (vr (some (10, this))), some (vi a1), some (vi a2)]) (st' := [vi a2, vi a1, vr (some (4, 1))]) (M1 := M) (pc' := 6) (tb_Works hγ) [.aload_n 0, .getfield 103, .iload_n 1, .iload_n 2] (by decide +kernel) rfl rfl trivial ?_
  refine E_callV (κ' := k_Checker_toldAt) (As := [vi a1, vi a2]) (st := []) mv_Checker_toldAt (Or.inl (tbk_mem (j := 10) (k := 38) rfl)) rfl (by decide +kernel) (Nat.le_of_ble_eq_true rfl) (Nat.le_of_ble_eq_true rfl) rfl (by decide) (lk_Checker_toldAt hγ 1 a1 a2 _ M h) (fun _ _ => Qi_r) (fun v M1 hp => Qi_k (R := fun st => E γ k_Works_kind 2 9 [some (vr (some (10, this))), some (vi a1), some (vi a2)] st M1 (Qi Q)) hp (fun r2 h => ?_))
  exact E_iret rfl (by decide +kernel) h
def w_Works_foretell_j156 (this : Nat) (Q : Int32 → Mem → Prop) (k45 : Int32 → Int32 → Nat → Int32 → Int32 → Mem → Prop) (k68 : Int32 → Int32 → Nat → Int32 → Int32 → Int32 → Mem → Prop) (v2 : Int32) (v4 : Int32) (v5 : Nat) (v6 : Int32) (v7 : Int32) (v8 : Int32) (M : Mem) : Prop :=
  k68 v2 v4 v5 v6 v7 (v8 + (1 : Int32)) M
def w_Works_foretell_L68 (this : Nat) (Q : Int32 → Mem → Prop) (k45 : Int32 → Int32 → Nat → Int32 → Int32 → Mem → Prop) : Nat → Int32 → Int32 → Nat → Int32 → Int32 → Int32 → Mem → Prop
  | 0, _, _, _, _, _, _, _ => False
  | n + 1, v2, v4, v5, v6, v7, v8, M => vp_in v7 (mL M 63 v5) ∧ if (mI M 63 v5 v7.toNatClampNeg) ≤ v8 then (k45 v2 v4 v5 v6 (v7 + (1 : Int32)) M) else (vp_in v7 (mL M 62 v5) ∧ w_Machine_finds v5 v7 ((mI M 62 v5 v7.toNatClampNeg) + v8) (fun r18 M17 => if r18 < 0 then (if v6 = 0 then (if v4 = 0 then (vp_in v2 (mL M17 43 v5) ∧ Q (v7 - (mI M17 43 v5 v2.toNatClampNeg)) M17) else (if v4 = (1 : Int32) then (Q v8 M17) else (¬ (100 : Int32) = 0 ∧ Q ((-r18) / (100 : Int32)) M17))) else (w_Works_foretell_j156 this Q k45 (w_Works_foretell_L68 this Q k45 n) v2 v4 v5 (v6 + (-1 : Int32)) v7 v8 M17)) else (w_Works_foretell_j156 this Q k45 (w_Works_foretell_L68 this Q k45 n) v2 v4 v5 v6 v7 v8 M17)) M)
def w_Works_foretell_L45 (this : Nat) (Q : Int32 → Mem → Prop) : Nat → Int32 → Int32 → Nat → Int32 → Int32 → Mem → Prop
  | 0, _, _, _, _, _, _ => False
  | n + 1, v2, v4, v5, v6, v7, M => vp_in v2 (mL M 43 v5) ∧ vp_in v2 (mL M 44 v5) ∧ if ((mI M 43 v5 v2.toNatClampNeg) + (mI M 44 v5 v2.toNatClampNeg)) ≤ v7 then (Q (-2 : Int32) M) else (∃ n25 : Nat, w_Works_foretell_L68 this Q (w_Works_foretell_L45 this Q n) n25 v2 v4 v5 v6 v7 (0 : Int32) M)
def w_Works_foretell (this : Nat) (a1 : Int32) (a2 : Int32) (a3 : Int32) (a4 : Int32) (Q : Int32 → Mem → Prop) (M : Mem) : Prop :=
  w_Works_isClass this a1 a2 (fun r2 M1 => if r2 = 0 then (Q (-1 : Int32) M1) else (if a3 < 0 then (Q (-1 : Int32) M1) else (w_Works_isIn a4 (0 : Int32) (2 : Int32) (fun r6 M5 => if r6 = 0 then (Q (-1 : Int32) M5) else (vp_in a1 (mL M5 702 0) ∧ ∃ i9, (mR M5 702 0 a1.toNatClampNeg) = some (5, i9) ∧ vp_in a2 (mL M5 43 i9) ∧ ∃ n26 : Nat, w_Works_foretell_L45 this Q n26 a2 a4 i9 a3 (mI M5 43 i9 a2.toNatClampNeg) M5)) M1))) M
set_option maxRecDepth 4096 in
theorem lk_Works_foretell_j156 {γ : Gm} (hγ : Gk γ) (this : Nat) (Q : Int32 → Mem → Prop) (k45 : Int32 → Int32 → Nat → Int32 → Int32 → Mem → Prop) (k68 : Int32 → Int32 → Nat → Int32 → Int32 → Int32 → Mem → Prop) (hk45 : ∀ (v2 : Int32) (v4 : Int32) (v5 : Nat) (v6 : Int32) (v7 : Int32) (M : Mem), k45 v2 v4 v5 v6 v7 M → E γ k_Works_foretell 136 45 [none, none, some (vi v2), none, some (vi v4), some (vr (some (5, v5))), some (vi v6), some (vi v7), none, none] [] M (Qi Q)) (hk68 : ∀ (v2 : Int32) (v4 : Int32) (v5 : Nat) (v6 : Int32) (v7 : Int32) (v8 : Int32) (M : Mem), k68 v2 v4 v5 v6 v7 v8 M → E γ k_Works_foretell 136 68 [none, none, some (vi v2), none, some (vi v4), some (vr (some (5, v5))), some (vi v6), some (vi v7), some (vi v8), none] [] M (Qi Q)) (v2 : Int32) (v4 : Int32) (v5 : Nat) (v6 : Int32) (v7 : Int32) (v8 : Int32) (M : Mem) (h : w_Works_foretell_j156 this Q k45 k68 v2 v4 v5 v6 v7 v8 M) : E γ k_Works_foretell 136 156 [none, none, some (vi v2), none, some (vi v4), some (vr (some (5, v5))), some (vi v6), some (vi v7), some (vi v8), none] [] M (Qi Q) := by
  unfold w_Works_foretell_j156 at h
  refine E_blk (lv' := [none, none, some (vi v2), none, some (vi v4), some (vr (some (5, v5))), some (vi v6), some (vi v7), some (vi (v8 + (1 : Int32))), none]) (st' := []) (M1 := M) (pc' := 159) (tb_Works hγ) [.iinc 8 1] (by decide +kernel) rfl rfl trivial ?_
  refine E_goto (off := -91) (tgt := 68) (by decide +kernel) (by decide) ?_
  refine E_mask [false, false, true, false, true, true, true, true, true, false] rfl ?_
  exact hk68 v2 v4 v5 v6 v7 (v8 + (1 : Int32)) M h
set_option maxRecDepth 4096 in
theorem lk_Works_foretell_L68 {γ : Gm} (hγ : Gk γ) (this : Nat) (Q : Int32 → Mem → Prop) (k45 : Int32 → Int32 → Nat → Int32 → Int32 → Mem → Prop) (hk45 : ∀ (v2 : Int32) (v4 : Int32) (v5 : Nat) (v6 : Int32) (v7 : Int32) (M : Mem), k45 v2 v4 v5 v6 v7 M → E γ k_Works_foretell 136 45 [none, none, some (vi v2), none, some (vi v4), some (vr (some (5, v5))), some (vi v6), some (vi v7), none, none] [] M (Qi Q)) : ∀ (n : Nat) (v2 : Int32) (v4 : Int32) (v5 : Nat) (v6 : Int32) (v7 : Int32) (v8 : Int32) (M : Mem), w_Works_foretell_L68 this Q k45 n v2 v4 v5 v6 v7 v8 M → E γ k_Works_foretell 136 68 [none, none, some (vi v2), none, some (vi v4), some (vr (some (5, v5))), some (vi v6), some (vi v7), some (vi v8), none] [] M (Qi Q) := by
  intro n
  induction n with
  | zero => intro v2 v4 v5 v6 v7 v8 M h; exact h.elim
  | succ n ih =>
    intro v2 v4 v5 v6 v7 v8 M h
    unfold w_Works_foretell_L68 at h
    obtain ⟨c14, h⟩ := h
    refine E_blk (lv' := [none, none, some (vi v2), none, some (vi v4), some (vr (some (5, v5))), some (vi v6), some (vi v7), some (vi v8), none]) (st' := [vi (mI M 63 v5 v7.toNatClampNeg), vi v8]) (M1 := M) (pc' := 78) (tb_Works hγ) [.iload 8, .aload 5, .getfield 317, .iload 7, .iaload] (by decide +kernel) rfl rfl ⟨c14, trivial⟩ ?_
    refine E_icmp_ge (off := 84) (tgt := 162) (by decide +kernel) (by decide) (fun b15 => ?_) (fun b15 => ?_)
    · rw [if_pos b15] at h
      refine E_blk (lv' := [none, none, some (vi v2), none, some (vi v4), some (vr (some (5, v5))), some (vi v6), some (vi (v7 + (1 : Int32))), some (vi v8), none]) (st' := []) (M1 := M) (pc' := 165) (tb_Works hγ) [.iinc 7 1] (by decide +kernel) rfl rfl trivial ?_
      refine E_goto (off := -120) (tgt := 45) (by decide +kernel) (by decide) ?_
      refine E_mask [false, false, true, false, true, true, true, true, false, false] rfl ?_
      exact hk45 v2 v4 v5 v6 (v7 + (1 : Int32)) M h
    · rw [if_neg b15] at h
      obtain ⟨c16, h⟩ := h
      refine E_blk (lv' := [none, none, some (vi v2), none, some (vi v4), some (vr (some (5, v5))), some (vi v6), some (vi v7), some (vi v8), none]) (st' := [vi ((mI M 62 v5 v7.toNatClampNeg) + v8), vi v7, vr (some (6, v5))]) (M1 := M) (pc' := 99) (tb_Works hγ) [.aload 5, .getfield 141, .iload 7, .aload 5, .getfield 442, .iload 7, .iaload, .iload 8, .iadd] (by decide +kernel) rfl rfl ⟨c16, trivial⟩ ?_
      refine E_callV (κ' := k_Machine_finds) (As := [vi v7, vi ((mI M 62 v5 v7.toNatClampNeg) + v8)]) (st := []) mv_Machine_finds (Or.inl (tbk_mem (j := 10) (k := 46) rfl)) rfl (by decide +kernel) (Nat.le_of_ble_eq_true rfl) (Nat.le_of_ble_eq_true rfl) rfl (by decide) (lk_Machine_finds hγ v5 v7 ((mI M 62 v5 v7.toNatClampNeg) + v8) _ M h) (fun _ _ => Qi_r) (fun v M17 hp => Qi_k (R := fun st => E γ k_Works_foretell 136 102 [none, none, some (vi v2), none, some (vi v4), some (vr (some (5, v5))), some (vi v6), some (vi v7), some (vi v8), none] st M17 (Qi Q)) hp (fun r18 h => ?_))
      refine E_blk (lv' := [none, none, some (vi v2), none, some (vi v4), some (vr (some (5, v5))), some (vi v6), some (vi v7), some (vi v8), some (vi r18)]) (st' := [vi r18]) (M1 := M17) (pc' := 106) (tb_Works hγ) [.istore 9, .iload 9] (by decide +kernel) rfl rfl trivial ?_
      refine E_if_lt (off := 6) (tgt := 112) (by decide +kernel) (by decide) (fun b19 => ?_) (fun b19 => ?_)
      · rw [if_pos b19] at h
        refine E_blk (lv' := [none, none, some (vi v2), none, some (vi v4), some (vr (some (5, v5))), some (vi v6), some (vi v7), some (vi v8), some (vi r18)]) (st' := [vi v6]) (M1 := M17) (pc' := 114) (tb_Works hγ) [.iload 6] (by decide +kernel) rfl rfl trivial ?_
        refine E_if_ne (off := 39) (tgt := 153) (by decide +kernel) (by decide) (fun b20 => ?_) (fun b20 => ?_)
        · rw [if_pos b20] at h
          refine E_blk (lv' := [none, none, some (vi v2), none, some (vi v4), some (vr (some (5, v5))), some (vi v6), some (vi v7), some (vi v8), some (vi r18)]) (st' := [vi v4]) (M1 := M17) (pc' := 119) (tb_Works hγ) [.iload 4] (by decide +kernel) rfl rfl trivial ?_
          refine E_if_ne (off := 16) (tgt := 135) (by decide +kernel) (by decide) (fun b21 => ?_) (fun b21 => ?_)
          · rw [if_pos b21] at h
            obtain ⟨c22, h⟩ := h
            refine E_blk (lv' := [none, none, some (vi v2), none, some (vi v4), some (vr (some (5, v5))), some (vi v6), some (vi v7), some (vi v8), some (vi r18)]) (st' := [vi (v7 - (mI M17 43 v5 v2.toNatClampNeg))]) (M1 := M17) (pc' := 132) (tb_Works hγ) [.iload 7, .aload 5, .getfield 291, .iload_n 2, .iaload, .isub] (by decide +kernel) rfl rfl ⟨c22, trivial⟩ ?_
            refine E_goto (off := 20) (tgt := 152) (by decide +kernel) (by decide) ?_
            exact E_iret rfl (by decide +kernel) h
          · rw [if_neg b21] at h
            refine E_blk (lv' := [none, none, some (vi v2), none, some (vi v4), some (vr (some (5, v5))), some (vi v6), some (vi v7), some (vi v8), some (vi r18)]) (st' := [vi (1 : Int32), vi v4]) (M1 := M17) (pc' := 138) (tb_Works hγ) [.iload 4, .iconst 1] (by decide +kernel) rfl rfl trivial ?_
            refine E_icmp_ne (off := 8) (tgt := 146) (by decide +kernel) (by decide) (fun b23 => ?_) (fun b23 => ?_)
            · rw [if_pos b23] at h
              refine E_blk (lv' := [none, none, some (vi v2), none, some (vi v4), some (vr (some (5, v5))), some (vi v6), some (vi v7), some (vi v8), some (vi r18)]) (st' := [vi v8]) (M1 := M17) (pc' := 143) (tb_Works hγ) [.iload 8] (by decide +kernel) rfl rfl trivial ?_
              refine E_goto (off := 9) (tgt := 152) (by decide +kernel) (by decide) ?_
              exact E_iret rfl (by decide +kernel) h
            · rw [if_neg b23] at h
              obtain ⟨c24, h⟩ := h
              refine E_blk (lv' := [none, none, some (vi v2), none, some (vi v4), some (vr (some (5, v5))), some (vi v6), some (vi v7), some (vi v8), some (vi r18)]) (st' := [vi ((-r18) / (100 : Int32))]) (M1 := M17) (pc' := 152) (tb_Works hγ) [.iload 9, .ineg, .bipush 100, .idiv] (by decide +kernel) rfl rfl ⟨c24, trivial⟩ ?_
              exact E_iret rfl (by decide +kernel) h
        · rw [if_neg b20] at h
          refine E_blk (lv' := [none, none, some (vi v2), none, some (vi v4), some (vr (some (5, v5))), some (vi (v6 + (-1 : Int32))), some (vi v7), some (vi v8), some (vi r18)]) (st' := []) (M1 := M17) (pc' := 156) (tb_Works hγ) [.iinc 6 (.negSucc 0)] (by decide +kernel) rfl rfl trivial ?_
          refine E_mask [false, false, true, false, true, true, true, true, true, false] rfl ?_
          exact lk_Works_foretell_j156 hγ this Q k45 (w_Works_foretell_L68 this Q k45 n) hk45 ih v2 v4 v5 (v6 + (-1 : Int32)) v7 v8 M17 h
      · rw [if_neg b19] at h
        refine E_goto (off := 47) (tgt := 156) (by decide +kernel) (by decide) ?_
        refine E_mask [false, false, true, false, true, true, true, true, true, false] rfl ?_
        exact lk_Works_foretell_j156 hγ this Q k45 (w_Works_foretell_L68 this Q k45 n) hk45 ih v2 v4 v5 v6 v7 v8 M17 h
set_option maxRecDepth 4096 in
theorem lk_Works_foretell_L45 {γ : Gm} (hγ : Gk γ) (this : Nat) (Q : Int32 → Mem → Prop) : ∀ (n : Nat) (v2 : Int32) (v4 : Int32) (v5 : Nat) (v6 : Int32) (v7 : Int32) (M : Mem), w_Works_foretell_L45 this Q n v2 v4 v5 v6 v7 M → E γ k_Works_foretell 136 45 [none, none, some (vi v2), none, some (vi v4), some (vr (some (5, v5))), some (vi v6), some (vi v7), none, none] [] M (Qi Q) := by
  intro n
  induction n with
  | zero => intro v2 v4 v5 v6 v7 M h; exact h.elim
  | succ n ih =>
    intro v2 v4 v5 v6 v7 M h
    unfold w_Works_foretell_L45 at h
    obtain ⟨c11, c12, h⟩ := h
    refine E_blk (lv' := [none, none, some (vi v2), none, some (vi v4), some (vr (some (5, v5))), some (vi v6), some (vi v7), none, none]) (st' := [vi ((mI M 43 v5 v2.toNatClampNeg) + (mI M 44 v5 v2.toNatClampNeg)), vi v7]) (M1 := M) (pc' := 62) (tb_Works hγ) [.iload 7, .aload 5, .getfield 291, .iload_n 2, .iaload, .aload 5, .getfield 261, .iload_n 2, .iaload, .iadd] (by decide +kernel) rfl rfl ⟨c11, c12, trivial⟩ ?_
    refine E_icmp_ge (off := 106) (tgt := 168) (by decide +kernel) (by decide) (fun b13 => ?_) (fun b13 => ?_)
    · rw [if_pos b13] at h
      refine E_blk (lv' := [none, none, some (vi v2), none, some (vi v4), some (vr (some (5, v5))), some (vi v6), some (vi v7), none, none]) (st' := [vi (-2 : Int32)]) (M1 := M) (pc' := 170) (tb_Works hγ) [.bipush (.negSucc 1)] (by decide +kernel) rfl rfl trivial ?_
      exact E_iret rfl (by decide +kernel) h
    · rw [if_neg b13] at h
      refine E_blk (lv' := [none, none, some (vi v2), none, some (vi v4), some (vr (some (5, v5))), some (vi v6), some (vi v7), some (vi (0 : Int32)), none]) (st' := []) (M1 := M) (pc' := 68) (tb_Works hγ) [.iconst 0, .istore 8] (by decide +kernel) rfl rfl trivial ?_
      obtain ⟨n25, h⟩ := h
      refine E_mask [false, false, true, false, true, true, true, true, true, false] rfl ?_
      exact lk_Works_foretell_L68 hγ this Q (w_Works_foretell_L45 this Q n) ih n25 v2 v4 v5 v6 v7 (0 : Int32) M h
set_option maxRecDepth 4096 in
theorem lk_Works_foretell {γ : Gm} (hγ : Gk γ) (this : Nat) (a1 : Int32) (a2 : Int32) (a3 : Int32) (a4 : Int32) (Q : Int32 → Mem → Prop) (M : Mem) (h : w_Works_foretell this a1 a2 a3 a4 Q M) : E γ k_Works_foretell 136 0 [some (vr (some (10, this))), some (vi a1), some (vi a2), some (vi a3), some (vi a4), none, none, none, none, none] [] M (Qi Q) := by
  unfold w_Works_foretell at h
  refine E_blk (lv' := [some (vr (some (10, this))), some (vi a1), some (vi a2), some (vi a3), some (vi a4), none, none, none, none, none]) (st' := [vi a2, vi a1, vr (some (10, this))]) (M1 := M) (pc' := 3) (tb_Works hγ) [.aload_n 0, .iload_n 1, .iload_n 2] (by decide +kernel) rfl rfl trivial ?_
  refine E_callV (κ' := k_Works_isClass) (As := [vi a1, vi a2]) (st := []) mv_Works_isClass (Or.inl (tbk_mem (j := 7) (k := 49) rfl)) rfl (by decide +kernel) (Nat.le_of_ble_eq_true rfl) (Nat.le_of_ble_eq_true rfl) rfl (by decide) (lk_Works_isClass hγ this a1 a2 _ M h) (fun _ _ => Qi_r) (fun v M1 hp => Qi_k (R := fun st => E γ k_Works_foretell 136 6 [some (vr (some (10, this))), some (vi a1), some (vi a2), some (vi a3), some (vi a4), none, none, none, none, none] st M1 (Qi Q)) hp (fun r2 h => ?_))
  refine E_if_eq (off := 17) (tgt := 23) (by decide +kernel) (by decide) (fun b3 => ?_) (fun b3 => ?_)
  · rw [if_pos b3] at h
    refine E_blk (lv' := [some (vr (some (10, this))), some (vi a1), some (vi a2), some (vi a3), some (vi a4), none, none, none, none, none]) (st' := [vi (-1 : Int32)]) (M1 := M1) (pc' := 24) (tb_Works hγ) [.iconst (.negSucc 0)] (by decide +kernel) rfl rfl trivial ?_
    exact E_iret rfl (by decide +kernel) h
  · rw [if_neg b3] at h
    refine E_blk (lv' := [some (vr (some (10, this))), some (vi a1), some (vi a2), some (vi a3), some (vi a4), none, none, none, none, none]) (st' := [vi a3]) (M1 := M1) (pc' := 10) (tb_Works hγ) [.iload_n 3] (by decide +kernel) rfl rfl trivial ?_
    refine E_if_lt (off := 13) (tgt := 23) (by decide +kernel) (by decide) (fun b4 => ?_) (fun b4 => ?_)
    · rw [if_pos b4] at h
      refine E_blk (lv' := [some (vr (some (10, this))), some (vi a1), some (vi a2), some (vi a3), some (vi a4), none, none, none, none, none]) (st' := [vi (-1 : Int32)]) (M1 := M1) (pc' := 24) (tb_Works hγ) [.iconst (.negSucc 0)] (by decide +kernel) rfl rfl trivial ?_
      exact E_iret rfl (by decide +kernel) h
    · rw [if_neg b4] at h
      refine E_blk (lv' := [some (vr (some (10, this))), some (vi a1), some (vi a2), some (vi a3), some (vi a4), none, none, none, none, none]) (st' := [vi (2 : Int32), vi (0 : Int32), vi a4]) (M1 := M1) (pc' := 17) (tb_Works hγ) [.iload 4, .iconst 0, .iconst 2] (by decide +kernel) rfl rfl trivial ?_
      refine E_callS (κ' := k_Works_isIn) (As := [vi a4, vi (0 : Int32), vi (2 : Int32)]) (st := []) ms_Works_isIn (Or.inl (tbk_mem (j := 5) (k := 237) rfl)) rfl (by decide +kernel) (Nat.le_of_ble_eq_true rfl) (Nat.le_of_ble_eq_true rfl) rfl (by decide) (lk_Works_isIn hγ a4 (0 : Int32) (2 : Int32) _ M1 h) (fun _ _ => Qi_r) (fun v M5 hp => Qi_k (R := fun st => E γ k_Works_foretell 136 20 [some (vr (some (10, this))), some (vi a1), some (vi a2), some (vi a3), some (vi a4), none, none, none, none, none] st M5 (Qi Q)) hp (fun r6 h => ?_))
      refine E_if_ne (off := 5) (tgt := 25) (by decide +kernel) (by decide) (fun b7 => ?_) (fun b7 => ?_)
      · rw [if_pos b7] at h
        refine E_blk (lv' := [some (vr (some (10, this))), some (vi a1), some (vi a2), some (vi a3), some (vi a4), none, none, none, none, none]) (st' := [vi (-1 : Int32)]) (M1 := M5) (pc' := 24) (tb_Works hγ) [.iconst (.negSucc 0)] (by decide +kernel) rfl rfl trivial ?_
        exact E_iret rfl (by decide +kernel) h
      · rw [if_neg b7] at h
        obtain ⟨c8, h⟩ := h
        refine E_blk (lv' := [some (vr (some (10, this))), some (vi a1), some (vi a2), some (vi a3), some (vi a4), none, none, none, none, none]) (st' := [vr (mR M5 702 0 a1.toNatClampNeg)]) (M1 := M5) (pc' := 31) (tb_Works hγ) [.aload_n 0, .getfield 85, .iload_n 1, .aaload] (by decide +kernel) rfl rfl ⟨c8, trivial⟩ ?_
        obtain ⟨i9, ei9, h⟩ := h
        rw [ei9]
        obtain ⟨c10, h⟩ := h
        refine E_blk (lv' := [some (vr (some (10, this))), some (vi a1), some (vi a2), some (vi a3), some (vi a4), some (vr (some (5, i9))), some (vi a3), some (vi (mI M5 43 i9 a2.toNatClampNeg)), none, none]) (st' := []) (M1 := M5) (pc' := 45) (tb_Works hγ) [.astore 5, .iload_n 3, .istore 6, .aload 5, .getfield 291, .iload_n 2, .iaload, .istore 7] (by decide +kernel) rfl rfl ⟨c10, trivial⟩ ?_
        obtain ⟨n26, h⟩ := h
        refine E_mask [false, false, true, false, true, true, true, true, false, false] rfl ?_
        exact lk_Works_foretell_L45 hγ this Q n26 a2 a4 i9 a3 (mI M5 43 i9 a2.toNatClampNeg) M5 h
def w_Machine_asks_j82 (this : Nat) (Q : Int32 → Mem → Prop)  (M : Mem) : Prop :=
  w_Machine_thrown this (18 : Int32) (58 : Int32) (fun r13 M12 => Q r13 M12) M
def w_Machine_asks (this : Nat) (a1 : Int32) (Q : Int32 → Mem → Prop) (M : Mem) : Prop :=
  w_Machine_findMethod this (3 : Int32) (50 : Int32) (-3 : Int32) (fun r2 M1 => if 0 ≤ r2 then (w_World_link this a1 (fun r5 M4 => if r5 = (1 : Int32) then (vp_in r2 (mL M4 57 this) ∧ if ((mI M4 57 this r2.toNatClampNeg) &&& (4 : Int32)) = 0 then (w_World_method this a1 (3 : Int32) (5 : Int32) (fun r10 M9 => if r10 < 0 then (w_Machine_asks_j82 this Q  M9) else (vp_in r10 (mL M9 57 this) ∧ if ((mI M9 57 this r10.toNatClampNeg) &&& (8 : Int32)) = 0 then (Q r10 M9) else (w_Machine_asks_j82 this Q  M9))) M4) else (Q r2 M4)) else (Q (-r5) M4)) M1) else (Q r2 M1)) M
set_option maxRecDepth 4096 in
theorem lk_Machine_asks_j82 {γ : Gm} (hγ : Gk γ) (this : Nat) (Q : Int32 → Mem → Prop)  (M : Mem) (h : w_Machine_asks_j82 this Q  M) : E γ k_Machine_asks 135 82 [some (vr (some (6, this))), none, none, none, none] [] M (Qi Q) := by
  unfold w_Machine_asks_j82 at h
  refine E_blk (lv' := [some (vr (some (6, this))), none, none, none, none]) (st' := [vi (58 : Int32), vi (18 : Int32), vr (some (6, this))]) (M1 := M) (pc' := 87) (tb_Machine hγ) [.aload_n 0, .bipush 18, .bipush 58] (by decide +kernel) rfl rfl trivial ?_
  refine E_callV (κ' := k_Machine_thrown) (As := [vi (18 : Int32), vi (58 : Int32)]) (st := []) mv_Machine_thrown (Or.inl (tbk_mem (j := 8) (k := 149) rfl)) rfl (by decide +kernel) (Nat.le_of_ble_eq_true rfl) (Nat.le_of_ble_eq_true rfl) rfl (by decide) (lk_Machine_thrown hγ this (18 : Int32) (58 : Int32) _ M h) (fun _ _ => Qi_r) (fun v M12 hp => Qi_k (R := fun st => E γ k_Machine_asks 135 90 [some (vr (some (6, this))), none, none, none, none] st M12 (Qi Q)) hp (fun r13 h => ?_))
  refine E_goto (off := 5) (tgt := 95) (by decide +kernel) (by decide) ?_
  exact E_iret rfl (by decide +kernel) h
set_option maxRecDepth 4096 in
theorem lk_Machine_asks {γ : Gm} (hγ : Gk γ) (this : Nat) (a1 : Int32) (Q : Int32 → Mem → Prop) (M : Mem) (h : w_Machine_asks this a1 Q M) : E γ k_Machine_asks 135 0 [some (vr (some (6, this))), some (vi a1), none, none, none] [] M (Qi Q) := by
  unfold w_Machine_asks at h
  refine E_blk (lv' := [some (vr (some (6, this))), some (vi a1), none, none, none]) (st' := [vi (-3 : Int32), vi (50 : Int32), vi (3 : Int32), vr (some (6, this))]) (M1 := M) (pc' := 6) (tb_Machine hγ) [.aload_n 0, .iconst 3, .bipush 50, .bipush (.negSucc 2)] (by decide +kernel) rfl rfl trivial ?_
  refine E_callV (κ' := k_Machine_findMethod) (As := [vi (3 : Int32), vi (50 : Int32), vi (-3 : Int32)]) (st := []) mv_Machine_findMethod (Or.inl (tbk_mem (j := 8) (k := 135) rfl)) rfl (by decide +kernel) (Nat.le_of_ble_eq_true rfl) (Nat.le_of_ble_eq_true rfl) rfl (by decide) (lk_Machine_findMethod hγ this (3 : Int32) (50 : Int32) (-3 : Int32) _ M h) (fun _ _ => Qi_r) (fun v M1 hp => Qi_k (R := fun st => E γ k_Machine_asks 135 9 [some (vr (some (6, this))), some (vi a1), none, none, none] st M1 (Qi Q)) hp (fun r2 h => ?_))
  refine E_blk (lv' := [some (vr (some (6, this))), some (vi a1), some (vi r2), none, none]) (st' := [vi r2]) (M1 := M1) (pc' := 11) (tb_Machine hγ) [.istore_n 2, .iload_n 2] (by decide +kernel) rfl rfl trivial ?_
  refine E_if_ge (off := 5) (tgt := 16) (by decide +kernel) (by decide) (fun b3 => ?_) (fun b3 => ?_)
  · rw [if_pos b3] at h
    refine E_blk (lv' := [some (vr (some (6, this))), some (vi a1), some (vi r2), none, none]) (st' := [vi a1, vr (some (5, this))]) (M1 := M1) (pc' := 21) (tb_Machine hγ) [.aload_n 0, .getfield 84, .iload_n 1] (by decide +kernel) rfl rfl trivial ?_
    refine E_callV (κ' := k_World_link) (As := [vi a1]) (st := []) mv_World_link (Or.inl (tbk_mem (j := 8) (k := 153) rfl)) rfl (by decide +kernel) (Nat.le_of_ble_eq_true rfl) (Nat.le_of_ble_eq_true rfl) rfl (by decide) (lk_World_link hγ this a1 _ M1 h) (fun _ _ => Qi_r) (fun v M4 hp => Qi_k (R := fun st => E γ k_Machine_asks 135 24 [some (vr (some (6, this))), some (vi a1), some (vi r2), none, none] st M4 (Qi Q)) hp (fun r5 h => ?_))
    refine E_blk (lv' := [some (vr (some (6, this))), some (vi a1), some (vi r2), some (vi r5), none]) (st' := [vi (1 : Int32), vi r5]) (M1 := M4) (pc' := 27) (tb_Machine hγ) [.istore_n 3, .iload_n 3, .iconst 1] (by decide +kernel) rfl rfl trivial ?_
    refine E_icmp_eq (off := 6) (tgt := 33) (by decide +kernel) (by decide) (fun b6 => ?_) (fun b6 => ?_)
    · rw [if_pos b6] at h
      obtain ⟨c7, h⟩ := h
      refine E_blk (lv' := [some (vr (some (6, this))), some (vi a1), some (vi r2), some (vi r5), none]) (st' := [vi ((mI M4 57 this r2.toNatClampNeg) &&& (4 : Int32))]) (M1 := M4) (pc' := 44) (tb_Machine hγ) [.aload_n 0, .getfield 84, .getfield 386, .iload_n 2, .iaload, .iconst 4, .iand] (by decide +kernel) rfl rfl ⟨c7, trivial⟩ ?_
      refine E_if_eq (off := 5) (tgt := 49) (by decide +kernel) (by decide) (fun b8 => ?_) (fun b8 => ?_)
      · rw [if_pos b8] at h
        refine E_blk (lv' := [some (vr (some (6, this))), some (vi a1), some (vi r2), some (vi r5), none]) (st' := [vi (5 : Int32), vi (3 : Int32), vi a1, vr (some (5, this))]) (M1 := M4) (pc' := 56) (tb_Machine hγ) [.aload_n 0, .getfield 84, .iload_n 1, .iconst 3, .iconst 5] (by decide +kernel) rfl rfl trivial ?_
        refine E_callV (κ' := k_World_method) (As := [vi a1, vi (3 : Int32), vi (5 : Int32)]) (st := []) mv_World_method (Or.inl (tbk_mem (j := 8) (k := 171) rfl)) rfl (by decide +kernel) (Nat.le_of_ble_eq_true rfl) (Nat.le_of_ble_eq_true rfl) rfl (by decide) (lk_World_method hγ this a1 (3 : Int32) (5 : Int32) _ M4 h) (fun _ _ => Qi_r) (fun v M9 hp => Qi_k (R := fun st => E γ k_Machine_asks 135 59 [some (vr (some (6, this))), some (vi a1), some (vi r2), some (vi r5), none] st M9 (Qi Q)) hp (fun r10 h => ?_))
        refine E_blk (lv' := [some (vr (some (6, this))), some (vi a1), some (vi r2), some (vi r5), some (vi r10)]) (st' := [vi r10]) (M1 := M9) (pc' := 63) (tb_Machine hγ) [.istore 4, .iload 4] (by decide +kernel) rfl rfl trivial ?_
        refine E_if_lt (off := 19) (tgt := 82) (by decide +kernel) (by decide) (fun b11 => ?_) (fun b11 => ?_)
        · rw [if_pos b11] at h
          refine E_mask [true, false, false, false, false] rfl ?_
          exact lk_Machine_asks_j82 hγ this Q  M9 h
        · rw [if_neg b11] at h
          obtain ⟨c14, h⟩ := h
          refine E_blk (lv' := [some (vr (some (6, this))), some (vi a1), some (vi r2), some (vi r5), some (vi r10)]) (st' := [vi ((mI M9 57 this r10.toNatClampNeg) &&& (8 : Int32))]) (M1 := M9) (pc' := 79) (tb_Machine hγ) [.aload_n 0, .getfield 84, .getfield 386, .iload 4, .iaload, .bipush 8, .iand] (by decide +kernel) rfl rfl ⟨c14, trivial⟩ ?_
          refine E_if_eq (off := 14) (tgt := 93) (by decide +kernel) (by decide) (fun b15 => ?_) (fun b15 => ?_)
          · rw [if_pos b15] at h
            refine E_blk (lv' := [some (vr (some (6, this))), some (vi a1), some (vi r2), some (vi r5), some (vi r10)]) (st' := [vi r10]) (M1 := M9) (pc' := 95) (tb_Machine hγ) [.iload 4] (by decide +kernel) rfl rfl trivial ?_
            exact E_iret rfl (by decide +kernel) h
          · rw [if_neg b15] at h
            refine E_mask [true, false, false, false, false] rfl ?_
            exact lk_Machine_asks_j82 hγ this Q  M9 h
      · rw [if_neg b8] at h
        refine E_blk (lv' := [some (vr (some (6, this))), some (vi a1), some (vi r2), some (vi r5), none]) (st' := [vi r2]) (M1 := M4) (pc' := 48) (tb_Machine hγ) [.iload_n 2] (by decide +kernel) rfl rfl trivial ?_
        exact E_iret rfl (by decide +kernel) h
    · rw [if_neg b6] at h
      refine E_blk (lv' := [some (vr (some (6, this))), some (vi a1), some (vi r2), some (vi r5), none]) (st' := [vi (-r5)]) (M1 := M4) (pc' := 32) (tb_Machine hγ) [.iload_n 3, .ineg] (by decide +kernel) rfl rfl trivial ?_
      exact E_iret rfl (by decide +kernel) h
  · rw [if_neg b3] at h
    refine E_blk (lv' := [some (vr (some (6, this))), some (vi a1), some (vi r2), none, none]) (st' := [vi r2]) (M1 := M1) (pc' := 15) (tb_Machine hγ) [.iload_n 2] (by decide +kernel) rfl rfl trivial ?_
    exact E_iret rfl (by decide +kernel) h
def w_Works_asked (this : Nat) (a1 : Int32) (a2 : Int32) (Q : Int32 → Mem → Prop) (M : Mem) : Prop :=
  w_Works_isClass this a1 a2 (fun r2 M1 => if r2 = 0 then (Q (-1 : Int32) M1) else (vp_in a1 (mL M1 702 0) ∧ ∃ i5, (mR M1 702 0 a1.toNatClampNeg) = some (5, i5) ∧ w_Works_isTaken this i5 (3 : Int32) (fun r7 M6 => if r7 = 0 then (Q (-11 : Int32) M6) else (w_Machine_asks i5 a2 (fun r10 M9 => if 0 ≤ r10 then (vp_in r10 (mL M9 55 i5) ∧ vp_in r10 (mL M9 55 i5) ∧ vp_in (mI M9 55 i5 r10.toNatClampNeg) (mL M9 43 i5) ∧ Q ((((100 : Int32) * (mI M9 55 i5 r10.toNatClampNeg)) + r10) - (mI M9 43 i5 (mI M9 55 i5 r10.toNatClampNeg).toNatClampNeg)) M9) else (¬ (100 : Int32) = 0 ∧ Q ((-100 : Int32) - ((-r10) / (100 : Int32))) M9)) M6)) M1)) M
set_option maxRecDepth 4096 in
theorem lk_Works_asked {γ : Gm} (hγ : Gk γ) (this : Nat) (a1 : Int32) (a2 : Int32) (Q : Int32 → Mem → Prop) (M : Mem) (h : w_Works_asked this a1 a2 Q M) : E γ k_Works_asked 136 0 [some (vr (some (10, this))), some (vi a1), some (vi a2), none, none] [] M (Qi Q) := by
  unfold w_Works_asked at h
  refine E_blk (lv' := [some (vr (some (10, this))), some (vi a1), some (vi a2), none, none]) (st' := [vi a2, vi a1, vr (some (10, this))]) (M1 := M) (pc' := 3) (tb_Works hγ) [.aload_n 0, .iload_n 1, .iload_n 2] (by decide +kernel) rfl rfl trivial ?_
  refine E_callV (κ' := k_Works_isClass) (As := [vi a1, vi a2]) (st := []) mv_Works_isClass (Or.inl (tbk_mem (j := 7) (k := 49) rfl)) rfl (by decide +kernel) (Nat.le_of_ble_eq_true rfl) (Nat.le_of_ble_eq_true rfl) rfl (by decide) (lk_Works_isClass hγ this a1 a2 _ M h) (fun _ _ => Qi_r) (fun v M1 hp => Qi_k (R := fun st => E γ k_Works_asked 136 6 [some (vr (some (10, this))), some (vi a1), some (vi a2), none, none] st M1 (Qi Q)) hp (fun r2 h => ?_))
  refine E_if_ne (off := 5) (tgt := 11) (by decide +kernel) (by decide) (fun b3 => ?_) (fun b3 => ?_)
  · rw [if_pos b3] at h
    refine E_blk (lv' := [some (vr (some (10, this))), some (vi a1), some (vi a2), none, none]) (st' := [vi (-1 : Int32)]) (M1 := M1) (pc' := 10) (tb_Works hγ) [.iconst (.negSucc 0)] (by decide +kernel) rfl rfl trivial ?_
    exact E_iret rfl (by decide +kernel) h
  · rw [if_neg b3] at h
    obtain ⟨c4, h⟩ := h
    refine E_blk (lv' := [some (vr (some (10, this))), some (vi a1), some (vi a2), none, none]) (st' := [vr (mR M1 702 0 a1.toNatClampNeg)]) (M1 := M1) (pc' := 17) (tb_Works hγ) [.aload_n 0, .getfield 85, .iload_n 1, .aaload] (by decide +kernel) rfl rfl ⟨c4, trivial⟩ ?_
    obtain ⟨i5, ei5, h⟩ := h
    rw [ei5]
    refine E_blk (lv' := [some (vr (some (10, this))), some (vi a1), some (vi a2), some (vr (some (5, i5))), none]) (st' := [vi (3 : Int32), vr (some (5, i5)), vr (some (10, this))]) (M1 := M1) (pc' := 21) (tb_Works hγ) [.astore_n 3, .aload_n 0, .aload_n 3, .iconst 3] (by decide +kernel) rfl rfl trivial ?_
    refine E_callV (κ' := k_Works_isTaken) (As := [vr (some (5, i5)), vi (3 : Int32)]) (st := []) mv_Works_isTaken (Or.inl (tbk_mem (j := 8) (k := 81) rfl)) rfl (by decide +kernel) (Nat.le_of_ble_eq_true rfl) (Nat.le_of_ble_eq_true rfl) rfl (by decide) (lk_Works_isTaken hγ this i5 (3 : Int32) _ M1 h) (fun _ _ => Qi_r) (fun v M6 hp => Qi_k (R := fun st => E γ k_Works_asked 136 24 [some (vr (some (10, this))), some (vi a1), some (vi a2), some (vr (some (5, i5))), none] st M6 (Qi Q)) hp (fun r7 h => ?_))
    refine E_if_ne (off := 6) (tgt := 30) (by decide +kernel) (by decide) (fun b8 => ?_) (fun b8 => ?_)
    · rw [if_pos b8] at h
      refine E_blk (lv' := [some (vr (some (10, this))), some (vi a1), some (vi a2), some (vr (some (5, i5))), none]) (st' := [vi (-11 : Int32)]) (M1 := M6) (pc' := 29) (tb_Works hγ) [.bipush (.negSucc 10)] (by decide +kernel) rfl rfl trivial ?_
      exact E_iret rfl (by decide +kernel) h
    · rw [if_neg b8] at h
      refine E_blk (lv' := [some (vr (some (10, this))), some (vi a1), some (vi a2), some (vr (some (5, i5))), none]) (st' := [vi a2, vr (some (6, i5))]) (M1 := M6) (pc' := 35) (tb_Works hγ) [.aload_n 3, .getfield 141, .iload_n 2] (by decide +kernel) rfl rfl trivial ?_
      refine E_callV (κ' := k_Machine_asks) (As := [vi a2]) (st := []) mv_Machine_asks (Or.inl (tbk_mem (j := 10) (k := 51) rfl)) rfl (by decide +kernel) (Nat.le_of_ble_eq_true rfl) (Nat.le_of_ble_eq_true rfl) rfl (by decide) (lk_Machine_asks hγ i5 a2 _ M6 h) (fun _ _ => Qi_r) (fun v M9 hp => Qi_k (R := fun st => E γ k_Works_asked 136 38 [some (vr (some (10, this))), some (vi a1), some (vi a2), some (vr (some (5, i5))), none] st M9 (Qi Q)) hp (fun r10 h => ?_))
      refine E_blk (lv' := [some (vr (some (10, this))), some (vi a1), some (vi a2), some (vr (some (5, i5))), some (vi r10)]) (st' := [vi r10]) (M1 := M9) (pc' := 42) (tb_Works hγ) [.istore 4, .iload 4] (by decide +kernel) rfl rfl trivial ?_
      refine E_if_ge (off := 15) (tgt := 57) (by decide +kernel) (by decide) (fun b11 => ?_) (fun b11 => ?_)
      · rw [if_pos b11] at h
        obtain ⟨c12, c13, c14, h⟩ := h
        refine E_blk (lv' := [some (vr (some (10, this))), some (vi a1), some (vi a2), some (vr (some (5, i5))), some (vi r10)]) (st' := [vi ((((100 : Int32) * (mI M9 55 i5 r10.toNatClampNeg)) + r10) - (mI M9 43 i5 (mI M9 55 i5 r10.toNatClampNeg).toNatClampNeg))]) (M1 := M9) (pc' := 83) (tb_Works hγ) [.bipush 100, .aload_n 3, .getfield 363, .iload 4, .iaload, .imul, .iload 4, .iadd, .aload_n 3, .getfield 291, .aload_n 3, .getfield 363, .iload 4, .iaload, .iaload, .isub] (by decide +kernel) rfl rfl ⟨c12, c13, c14, trivial⟩ ?_
        exact E_iret rfl (by decide +kernel) h
      · rw [if_neg b11] at h
        obtain ⟨c15, h⟩ := h
        refine E_blk (lv' := [some (vr (some (10, this))), some (vi a1), some (vi a2), some (vr (some (5, i5))), some (vi r10)]) (st' := [vi ((-100 : Int32) - ((-r10) / (100 : Int32)))]) (M1 := M9) (pc' := 54) (tb_Works hγ) [.bipush (.negSucc 99), .iload 4, .ineg, .bipush 100, .idiv, .isub] (by decide +kernel) rfl rfl ⟨c15, trivial⟩ ?_
        refine E_goto (off := 29) (tgt := 83) (by decide +kernel) (by decide) ?_
        exact E_iret rfl (by decide +kernel) h
def w_Works_trace (this : Nat) (a1 : Int32) (a2 : Int32) (a3 : Int32) (Q : Int32 → Mem → Prop) (M : Mem) : Prop :=
  w_Works_isWorld this a1 (fun r2 M1 => if r2 = 0 then (Q (-1 : Int32) M1) else (if a2 < 0 then (Q (-1 : Int32) M1) else (w_Works_isIn a3 (0 : Int32) (4 : Int32) (fun r6 M5 => if r6 = 0 then (Q (-1 : Int32) M5) else (vp_in a1 (mL M5 702 0) ∧ ∃ i9, (mR M5 702 0 a1.toNatClampNeg) = some (5, i9) ∧ if (mI M5 6 i9 29) ≤ a2 then (Q (-2 : Int32) M5) else (vp_in (((5 : Int32) * a2) + a3) (mL M5 87 i9) ∧ Q (mI M5 87 i9 (((5 : Int32) * a2) + a3).toNatClampNeg) M5))) M1))) M
set_option maxRecDepth 4096 in
theorem lk_Works_trace {γ : Gm} (hγ : Gk γ) (this : Nat) (a1 : Int32) (a2 : Int32) (a3 : Int32) (Q : Int32 → Mem → Prop) (M : Mem) (h : w_Works_trace this a1 a2 a3 Q M) : E γ k_Works_trace 2 0 [some (vr (some (10, this))), some (vi a1), some (vi a2), some (vi a3), none] [] M (Qi Q) := by
  unfold w_Works_trace at h
  refine E_blk (lv' := [some (vr (some (10, this))), some (vi a1), some (vi a2), some (vi a3), none]) (st' := [vi a1, vr (some (10, this))]) (M1 := M) (pc' := 2) (tb_Works hγ) [.aload_n 0, .iload_n 1] (by decide +kernel) rfl rfl trivial ?_
  refine E_callV (κ' := k_Works_isWorld) (As := [vi a1]) (st := []) mv_Works_isWorld (Or.inl (tbk_mem (j := 6) (k := 32) rfl)) rfl (by decide +kernel) (Nat.le_of_ble_eq_true rfl) (Nat.le_of_ble_eq_true rfl) rfl (by decide) (lk_Works_isWorld hγ this a1 _ M h) (fun _ _ => Qi_r) (fun v M1 hp => Qi_k (R := fun st => E γ k_Works_trace 2 5 [some (vr (some (10, this))), some (vi a1), some (vi a2), some (vi a3), none] st M1 (Qi Q)) hp (fun r2 h => ?_))
  refine E_if_eq (off := 16) (tgt := 21) (by decide +kernel) (by decide) (fun b3 => ?_) (fun b3 => ?_)
  · rw [if_pos b3] at h
    refine E_blk (lv' := [some (vr (some (10, this))), some (vi a1), some (vi a2), some (vi a3), none]) (st' := [vi (-1 : Int32)]) (M1 := M1) (pc' := 22) (tb_Works hγ) [.iconst (.negSucc 0)] (by decide +kernel) rfl rfl trivial ?_
    exact E_iret rfl (by decide +kernel) h
  · rw [if_neg b3] at h
    refine E_blk (lv' := [some (vr (some (10, this))), some (vi a1), some (vi a2), some (vi a3), none]) (st' := [vi a2]) (M1 := M1) (pc' := 9) (tb_Works hγ) [.iload_n 2] (by decide +kernel) rfl rfl trivial ?_
    refine E_if_lt (off := 12) (tgt := 21) (by decide +kernel) (by decide) (fun b4 => ?_) (fun b4 => ?_)
    · rw [if_pos b4] at h
      refine E_blk (lv' := [some (vr (some (10, this))), some (vi a1), some (vi a2), some (vi a3), none]) (st' := [vi (-1 : Int32)]) (M1 := M1) (pc' := 22) (tb_Works hγ) [.iconst (.negSucc 0)] (by decide +kernel) rfl rfl trivial ?_
      exact E_iret rfl (by decide +kernel) h
    · rw [if_neg b4] at h
      refine E_blk (lv' := [some (vr (some (10, this))), some (vi a1), some (vi a2), some (vi a3), none]) (st' := [vi (4 : Int32), vi (0 : Int32), vi a3]) (M1 := M1) (pc' := 15) (tb_Works hγ) [.iload_n 3, .iconst 0, .iconst 4] (by decide +kernel) rfl rfl trivial ?_
      refine E_callS (κ' := k_Works_isIn) (As := [vi a3, vi (0 : Int32), vi (4 : Int32)]) (st := []) ms_Works_isIn (Or.inl (tbk_mem (j := 5) (k := 237) rfl)) rfl (by decide +kernel) (Nat.le_of_ble_eq_true rfl) (Nat.le_of_ble_eq_true rfl) rfl (by decide) (lk_Works_isIn hγ a3 (0 : Int32) (4 : Int32) _ M1 h) (fun _ _ => Qi_r) (fun v M5 hp => Qi_k (R := fun st => E γ k_Works_trace 2 18 [some (vr (some (10, this))), some (vi a1), some (vi a2), some (vi a3), none] st M5 (Qi Q)) hp (fun r6 h => ?_))
      refine E_if_ne (off := 5) (tgt := 23) (by decide +kernel) (by decide) (fun b7 => ?_) (fun b7 => ?_)
      · rw [if_pos b7] at h
        refine E_blk (lv' := [some (vr (some (10, this))), some (vi a1), some (vi a2), some (vi a3), none]) (st' := [vi (-1 : Int32)]) (M1 := M5) (pc' := 22) (tb_Works hγ) [.iconst (.negSucc 0)] (by decide +kernel) rfl rfl trivial ?_
        exact E_iret rfl (by decide +kernel) h
      · rw [if_neg b7] at h
        obtain ⟨c8, h⟩ := h
        refine E_blk (lv' := [some (vr (some (10, this))), some (vi a1), some (vi a2), some (vi a3), none]) (st' := [vr (mR M5 702 0 a1.toNatClampNeg)]) (M1 := M5) (pc' := 29) (tb_Works hγ) [.aload_n 0, .getfield 85, .iload_n 1, .aaload] (by decide +kernel) rfl rfl ⟨c8, trivial⟩ ?_
        obtain ⟨i9, ei9, h⟩ := h
        rw [ei9]
        refine E_blk (lv' := [some (vr (some (10, this))), some (vi a1), some (vi a2), some (vi a3), some (vr (some (6, i9)))]) (st' := [vi (mI M5 6 i9 29), vi a2]) (M1 := M5) (pc' := 40) (tb_Works hγ) [.getfield 141, .astore 4, .iload_n 2, .aload 4, .getfield 465] (by decide +kernel) rfl rfl trivial ?_
        refine E_icmp_ge (off := 17) (tgt := 57) (by decide +kernel) (by decide) (fun b10 => ?_) (fun b10 => ?_)
        · rw [if_pos b10] at h
          refine E_blk (lv' := [some (vr (some (10, this))), some (vi a1), some (vi a2), some (vi a3), some (vr (some (6, i9)))]) (st' := [vi (-2 : Int32)]) (M1 := M5) (pc' := 59) (tb_Works hγ) [.bipush (.negSucc 1)] (by decide +kernel) rfl rfl trivial ?_
          exact E_iret rfl (by decide +kernel) h
        · rw [if_neg b10] at h
          obtain ⟨c11, h⟩ := h
          refine E_blk (lv' := [some (vr (some (10, this))), some (vi a1), some (vi a2), some (vi a3), some (vr (some (6, i9)))]) (st' := [vi (mI M5 87 i9 (((5 : Int32) * a2) + a3).toNatClampNeg)]) (M1 := M5) (pc' := 54) (tb_Works hγ) [.aload 4, .getfield 468, .iconst 5, .iload_n 2, .imul, .iload_n 3, .iadd, .iaload] (by decide +kernel) rfl rfl ⟨c11, trivial⟩ ?_
          refine E_goto (off := 5) (tgt := 59) (by decide +kernel) (by decide) ?_
          exact E_iret rfl (by decide +kernel) h
def w_Works_done (this : Nat) (a1 : Int32) (a2 : Int32) (Q : Int32 → Mem → Prop) (M : Mem) : Prop :=
  w_Works_isWorld this a1 (fun r2 M1 => if r2 = 0 then (Q (-1 : Int32) M1) else (w_Works_isIn a2 (0 : Int32) (61 : Int32) (fun r5 M4 => if r5 = 0 then (Q (-1 : Int32) M4) else (vp_in a1 (mL M4 702 0) ∧ ∃ i8, (mR M4 702 0 a1.toNatClampNeg) = some (5, i8) ∧ vp_in a2 (mL M4 88 i8) ∧ Q (mI M4 88 i8 a2.toNatClampNeg) M4)) M1)) M
set_option maxRecDepth 4096 in
theorem lk_Works_done {γ : Gm} (hγ : Gk γ) (this : Nat) (a1 : Int32) (a2 : Int32) (Q : Int32 → Mem → Prop) (M : Mem) (h : w_Works_done this a1 a2 Q M) : E γ k_Works_done 2 0 [some (vr (some (10, this))), some (vi a1), some (vi a2)] [] M (Qi Q) := by
  unfold w_Works_done at h
  refine E_blk (lv' := [some (vr (some (10, this))), some (vi a1), some (vi a2)]) (st' := [vi a1, vr (some (10, this))]) (M1 := M) (pc' := 2) (tb_Works hγ) [.aload_n 0, .iload_n 1] (by decide +kernel) rfl rfl trivial ?_
  refine E_callV (κ' := k_Works_isWorld) (As := [vi a1]) (st := []) mv_Works_isWorld (Or.inl (tbk_mem (j := 6) (k := 32) rfl)) rfl (by decide +kernel) (Nat.le_of_ble_eq_true rfl) (Nat.le_of_ble_eq_true rfl) rfl (by decide) (lk_Works_isWorld hγ this a1 _ M h) (fun _ _ => Qi_r) (fun v M1 hp => Qi_k (R := fun st => E γ k_Works_done 2 5 [some (vr (some (10, this))), some (vi a1), some (vi a2)] st M1 (Qi Q)) hp (fun r2 h => ?_))
  refine E_if_eq (off := 30) (tgt := 35) (by decide +kernel) (by decide) (fun b3 => ?_) (fun b3 => ?_)
  · rw [if_pos b3] at h
    refine E_blk (lv' := [some (vr (some (10, this))), some (vi a1), some (vi a2)]) (st' := [vi (-1 : Int32)]) (M1 := M1) (pc' := 36) (tb_Works hγ) [.iconst (.negSucc 0)] (by decide +kernel) rfl rfl trivial ?_
    exact E_iret rfl (by decide +kernel) h
  · rw [if_neg b3] at h
    refine E_blk (lv' := [some (vr (some (10, this))), some (vi a1), some (vi a2)]) (st' := [vi (61 : Int32), vi (0 : Int32), vi a2]) (M1 := M1) (pc' := 12) (tb_Works hγ) [.iload_n 2, .iconst 0, .bipush 61] (by decide +kernel) rfl rfl trivial ?_
    refine E_callS (κ' := k_Works_isIn) (As := [vi a2, vi (0 : Int32), vi (61 : Int32)]) (st := []) ms_Works_isIn (Or.inl (tbk_mem (j := 5) (k := 237) rfl)) rfl (by decide +kernel) (Nat.le_of_ble_eq_true rfl) (Nat.le_of_ble_eq_true rfl) rfl (by decide) (lk_Works_isIn hγ a2 (0 : Int32) (61 : Int32) _ M1 h) (fun _ _ => Qi_r) (fun v M4 hp => Qi_k (R := fun st => E γ k_Works_done 2 15 [some (vr (some (10, this))), some (vi a1), some (vi a2)] st M4 (Qi Q)) hp (fun r5 h => ?_))
    refine E_if_eq (off := 20) (tgt := 35) (by decide +kernel) (by decide) (fun b6 => ?_) (fun b6 => ?_)
    · rw [if_pos b6] at h
      refine E_blk (lv' := [some (vr (some (10, this))), some (vi a1), some (vi a2)]) (st' := [vi (-1 : Int32)]) (M1 := M4) (pc' := 36) (tb_Works hγ) [.iconst (.negSucc 0)] (by decide +kernel) rfl rfl trivial ?_
      exact E_iret rfl (by decide +kernel) h
    · rw [if_neg b6] at h
      obtain ⟨c7, h⟩ := h
      refine E_blk (lv' := [some (vr (some (10, this))), some (vi a1), some (vi a2)]) (st' := [vr (mR M4 702 0 a1.toNatClampNeg)]) (M1 := M4) (pc' := 24) (tb_Works hγ) [.aload_n 0, .getfield 85, .iload_n 1, .aaload] (by decide +kernel) rfl rfl ⟨c7, trivial⟩ ?_
      obtain ⟨i8, ei8, h⟩ := h
      rw [ei8]
      obtain ⟨c9, h⟩ := h
      refine E_blk (lv' := [some (vr (some (10, this))), some (vi a1), some (vi a2)]) (st' := [vi (mI M4 88 i8 a2.toNatClampNeg)]) (M1 := M4) (pc' := 32) (tb_Works hγ) [.getfield 141, .getfield 471, .iload_n 2, .iaload] (by decide +kernel) rfl rfl ⟨c9, trivial⟩ ?_
      refine E_goto (off := 4) (tgt := 36) (by decide +kernel) (by decide) ?_
      exact E_iret rfl (by decide +kernel) h
def w_Works_quantum (this : Nat) (a1 : Int32) (a2 : Int32) (Q : Int32 → Mem → Prop) (M : Mem) : Prop :=
  w_Works_isWorld this a1 (fun r2 M1 => if r2 = 0 then (Q (-1 : Int32) M1) else (w_Works_isIn a2 (1 : Int32) (200 : Int32) (fun r5 M4 => if r5 = 0 then (Q (-1 : Int32) M4) else (vp_in a1 (mL M4 702 0) ∧ ∃ i8, (mR M4 702 0 a1.toNatClampNeg) = some (5, i8) ∧ vp_in a1 (mL M4 702 0) ∧ ∃ i10, (mR M4 702 0 a1.toNatClampNeg) = some (5, i10) ∧ Q (mI M4 6 i8 5) (sI M4 6 i10 5 a2))) M1)) M
set_option maxRecDepth 4096 in
theorem lk_Works_quantum {γ : Gm} (hγ : Gk γ) (this : Nat) (a1 : Int32) (a2 : Int32) (Q : Int32 → Mem → Prop) (M : Mem) (h : w_Works_quantum this a1 a2 Q M) : E γ k_Works_quantum 2 0 [some (vr (some (10, this))), some (vi a1), some (vi a2), none] [] M (Qi Q) := by
  unfold w_Works_quantum at h
  refine E_blk (lv' := [some (vr (some (10, this))), some (vi a1), some (vi a2), none]) (st' := [vi a1, vr (some (10, this))]) (M1 := M) (pc' := 2) (tb_Works hγ) [.aload_n 0, .iload_n 1] (by decide +kernel) rfl rfl trivial ?_
  refine E_callV (κ' := k_Works_isWorld) (As := [vi a1]) (st := []) mv_Works_isWorld (Or.inl (tbk_mem (j := 6) (k := 32) rfl)) rfl (by decide +kernel) (Nat.le_of_ble_eq_true rfl) (Nat.le_of_ble_eq_true rfl) rfl (by decide) (lk_Works_isWorld hγ this a1 _ M h) (fun _ _ => Qi_r) (fun v M1 hp => Qi_k (R := fun st => E γ k_Works_quantum 2 5 [some (vr (some (10, this))), some (vi a1), some (vi a2), none] st M1 (Qi Q)) hp (fun r2 h => ?_))
  refine E_if_eq (off := 14) (tgt := 19) (by decide +kernel) (by decide) (fun b3 => ?_) (fun b3 => ?_)
  · rw [if_pos b3] at h
    refine E_blk (lv' := [some (vr (some (10, this))), some (vi a1), some (vi a2), none]) (st' := [vi (-1 : Int32)]) (M1 := M1) (pc' := 20) (tb_Works hγ) [.iconst (.negSucc 0)] (by decide +kernel) rfl rfl trivial ?_
    exact E_iret rfl (by decide +kernel) h
  · rw [if_neg b3] at h
    refine E_blk (lv' := [some (vr (some (10, this))), some (vi a1), some (vi a2), none]) (st' := [vi (200 : Int32), vi (1 : Int32), vi a2]) (M1 := M1) (pc' := 13) (tb_Works hγ) [.iload_n 2, .iconst 1, .sipush 200] (by decide +kernel) rfl rfl trivial ?_
    refine E_callS (κ' := k_Works_isIn) (As := [vi a2, vi (1 : Int32), vi (200 : Int32)]) (st := []) ms_Works_isIn (Or.inl (tbk_mem (j := 5) (k := 237) rfl)) rfl (by decide +kernel) (Nat.le_of_ble_eq_true rfl) (Nat.le_of_ble_eq_true rfl) rfl (by decide) (lk_Works_isIn hγ a2 (1 : Int32) (200 : Int32) _ M1 h) (fun _ _ => Qi_r) (fun v M4 hp => Qi_k (R := fun st => E γ k_Works_quantum 2 16 [some (vr (some (10, this))), some (vi a1), some (vi a2), none] st M4 (Qi Q)) hp (fun r5 h => ?_))
    refine E_if_ne (off := 5) (tgt := 21) (by decide +kernel) (by decide) (fun b6 => ?_) (fun b6 => ?_)
    · rw [if_pos b6] at h
      refine E_blk (lv' := [some (vr (some (10, this))), some (vi a1), some (vi a2), none]) (st' := [vi (-1 : Int32)]) (M1 := M4) (pc' := 20) (tb_Works hγ) [.iconst (.negSucc 0)] (by decide +kernel) rfl rfl trivial ?_
      exact E_iret rfl (by decide +kernel) h
    · rw [if_neg b6] at h
      obtain ⟨c7, h⟩ := h
      refine E_blk (lv' := [some (vr (some (10, this))), some (vi a1), some (vi a2), none]) (st' := [vr (mR M4 702 0 a1.toNatClampNeg)]) (M1 := M4) (pc' := 27) (tb_Works hγ) [.aload_n 0, .getfield 85, .iload_n 1, .aaload] (by decide +kernel) rfl rfl ⟨c7, trivial⟩ ?_
      obtain ⟨i8, ei8, h⟩ := h
      rw [ei8]
      obtain ⟨c9, h⟩ := h
      refine E_blk (lv' := [some (vr (some (10, this))), some (vi a1), some (vi a2), some (vi (mI M4 6 i8 5))]) (st' := [vr (mR M4 702 0 a1.toNatClampNeg)]) (M1 := M4) (pc' := 40) (tb_Works hγ) [.getfield 141, .getfield 474, .istore_n 3, .aload_n 0, .getfield 85, .iload_n 1, .aaload] (by decide +kernel) rfl rfl ⟨c9, trivial⟩ ?_
      obtain ⟨i10, ei10, h⟩ := h
      rw [ei10]
      refine E_blk (lv' := [some (vr (some (10, this))), some (vi a1), some (vi a2), some (vi (mI M4 6 i8 5))]) (st' := [vi (mI M4 6 i8 5)]) (M1 := (sI M4 6 i10 5 a2)) (pc' := 48) (tb_Works hγ) [.getfield 141, .iload_n 2, .putfield 474, .iload_n 3] (by decide +kernel) rfl rfl trivial ?_
      exact E_iret rfl (by decide +kernel) h
def w_Machine_halt_L138 (this : Nat) (Q : Int32 → Mem → Prop) : Nat → Int32 → Int32 → Mem → Prop
  | 0, _, _, _ => False
  | n + 1, v1, v2, M => if (mI M 6 this 21) ≤ v2 then (Q v1 M) else (∃ i5, (mR M 6 this 24) = some (301, i5) ∧ vp_in v2 (mL M 301 i5) ∧ (w_Machine_halt_L138 this Q n) v1 (v2 + (1 : Int32)) (sI M 301 i5 v2.toNatClampNeg (0 : Int32)))
def w_Machine_halt_L115 (this : Nat) (Q : Int32 → Mem → Prop) : Nat → Int32 → Int32 → Mem → Prop
  | 0, _, _, _ => False
  | n + 1, v1, v2, M => if (mI M 6 this 15) < v2 then (∃ n7 : Nat, w_Machine_halt_L138 this Q n7 v1 (0 : Int32) M) else (vp_in v2 (mL M 301 (6 * this + 0)) ∧ (w_Machine_halt_L115 this Q n) v1 (v2 + (1 : Int32)) (sI M 301 (6 * this + 0) v2.toNatClampNeg (0 : Int32)))
def w_Machine_halt_j83 (this : Nat) (Q : Int32 → Mem → Prop) (k13 : Int32 → Int32 → Int32 → Mem → Prop) (k45 : Int32 → Int32 → Int32 → Nat → Int32 → Mem → Prop) (v1 : Int32) (v3 : Int32) (v4 : Int32) (v5 : Nat) (v6 : Int32) (M : Mem) : Prop :=
  k45 v1 v3 v4 v5 (v6 + (1 : Int32)) M
def w_Machine_halt_L45 (this : Nat) (Q : Int32 → Mem → Prop) (k13 : Int32 → Int32 → Int32 → Mem → Prop) : Nat → Int32 → Int32 → Int32 → Nat → Int32 → Mem → Prop
  | 0, _, _, _, _, _, _ => False
  | n + 1, v1, v3, v4, v5, v6, M => if (mI M 7 v5 1) ≤ v6 then (w_Line_clear v5 (fun M14 => k13 v1 v3 (v4 + (1 : Int32)) M14) M) else (vp_in v6 (mL M 92 v5) ∧ if (mI M 92 v5 v6.toNatClampNeg) < 0 then (w_Machine_halt_j83 this Q k13 (w_Machine_halt_L45 this Q k13 n) v1 v3 v4 v5 v6 M) else (vp_in v6 (mL M 92 v5) ∧ vp_in (mI M 92 v5 v6.toNatClampNeg) (mL M 46 this) ∧ w_Machine_halt_j83 this Q k13 (w_Machine_halt_L45 this Q k13 n) v1 v3 v4 v5 v6 (sI M 46 this (mI M 92 v5 v6.toNatClampNeg).toNatClampNeg (3 : Int32))))
def w_Machine_halt_j40 (this : Nat) (Q : Int32 → Mem → Prop) (k13 : Int32 → Int32 → Int32 → Mem → Prop) (v3 : Int32) (v4 : Int32) (v5 : Nat) (s0 : Int32) (s1 : Int32) (M : Mem) : Prop :=
  ∃ n19 : Nat, w_Machine_halt_L45 this Q k13 n19 (s1 + s0) v3 v4 v5 (0 : Int32) M
def w_Machine_halt_L13 (this : Nat) (Q : Int32 → Mem → Prop) : Nat → Int32 → Int32 → Int32 → Mem → Prop
  | 0, _, _, _, _ => False
  | n + 1, v1, v3, v4, M => if v3 ≤ v4 then (∃ M2, M2 = (sI (sI M 6 this 3 (0 : Int32)) 6 this 4 (mI (sI M 6 this 3 (0 : Int32)) 6 this 5)) ∧ ∃ n9 : Nat, w_Machine_halt_L115 this Q n9 v1 (1 : Int32) M2) else (vp_in v4 (mL M 700 this) ∧ ∃ i11, (mR M 700 this v4.toNatClampNeg) = some (7, i11) ∧ if (mI M 7 i11 11) = (1 : Int32) then (w_Machine_halt_j40 this Q (w_Machine_halt_L13 this Q n) v3 v4 i11 (1 : Int32) v1 M) else (w_Machine_halt_j40 this Q (w_Machine_halt_L13 this Q n) v3 v4 i11 (0 : Int32) v1 M))
def w_Machine_halt (this : Nat) (Q : Int32 → Mem → Prop) (M : Mem) : Prop :=
  ∃ n20 : Nat, w_Machine_halt_L13 this Q n20 (0 : Int32) (Int32.ofNat (mL M 700 this)) (0 : Int32) M
set_option maxRecDepth 4096 in
theorem lk_Machine_halt_L138 {γ : Gm} (hγ : Gk γ) (this : Nat) (Q : Int32 → Mem → Prop) : ∀ (n : Nat) (v1 : Int32) (v2 : Int32) (M : Mem), w_Machine_halt_L138 this Q n v1 v2 M → E γ k_Machine_halt 1 138 [some (vr (some (6, this))), some (vi v1), some (vi v2), none, none, none, none] [] M (Qi Q) := by
  intro n
  induction n with
  | zero => intro v1 v2 M h; exact h.elim
  | succ n ih =>
    intro v1 v2 M h
    unfold w_Machine_halt_L138 at h
    refine E_blk (lv' := [some (vr (some (6, this))), some (vi v1), some (vi v2), none, none, none, none]) (st' := [vi (mI M 6 this 21), vi v2]) (M1 := M) (pc' := 143) (tb_Machine hγ) [.iload_n 2, .aload_n 0, .getfield 107] (by decide +kernel) rfl rfl trivial ?_
    refine E_icmp_ge (off := 16) (tgt := 159) (by decide +kernel) (by decide) (fun b4 => ?_) (fun b4 => ?_)
    · rw [if_pos b4] at h
      refine E_blk (lv' := [some (vr (some (6, this))), some (vi v1), some (vi v2), none, none, none, none]) (st' := [vi v1]) (M1 := M) (pc' := 160) (tb_Machine hγ) [.iload_n 1] (by decide +kernel) rfl rfl trivial ?_
      exact E_iret rfl (by decide +kernel) h
    · rw [if_neg b4] at h
      refine E_blk (lv' := [some (vr (some (6, this))), some (vi v1), some (vi v2), none, none, none, none]) (st' := [vr (mR M 6 this 24)]) (M1 := M) (pc' := 150) (tb_Machine hγ) [.aload_n 0, .getfield 66] (by decide +kernel) rfl rfl trivial ?_
      obtain ⟨i5, ei5, h⟩ := h
      rw [ei5]
      obtain ⟨c6, h⟩ := h
      refine E_blk (lv' := [some (vr (some (6, this))), some (vi v1), some (vi (v2 + (1 : Int32))), none, none, none, none]) (st' := []) (M1 := (sI M 301 i5 v2.toNatClampNeg (0 : Int32))) (pc' := 156) (tb_Machine hγ) [.iload_n 2, .iconst 0, .iastore, .iinc 2 1] (by decide +kernel) rfl rfl ⟨c6, trivial⟩ ?_
      refine E_goto (off := -18) (tgt := 138) (by decide +kernel) (by decide) ?_
      refine E_mask [true, true, true, false, false, false, false] rfl ?_
      exact ih v1 (v2 + (1 : Int32)) (sI M 301 i5 v2.toNatClampNeg (0 : Int32)) h
set_option maxRecDepth 4096 in
theorem lk_Machine_halt_L115 {γ : Gm} (hγ : Gk γ) (this : Nat) (Q : Int32 → Mem → Prop) : ∀ (n : Nat) (v1 : Int32) (v2 : Int32) (M : Mem), w_Machine_halt_L115 this Q n v1 v2 M → E γ k_Machine_halt 1 115 [some (vr (some (6, this))), some (vi v1), some (vi v2), none, none, none, none] [] M (Qi Q) := by
  intro n
  induction n with
  | zero => intro v1 v2 M h; exact h.elim
  | succ n ih =>
    intro v1 v2 M h
    unfold w_Machine_halt_L115 at h
    refine E_blk (lv' := [some (vr (some (6, this))), some (vi v1), some (vi v2), none, none, none, none]) (st' := [vi (mI M 6 this 15), vi v2]) (M1 := M) (pc' := 120) (tb_Machine hγ) [.iload_n 2, .aload_n 0, .getfield 116] (by decide +kernel) rfl rfl trivial ?_
    refine E_icmp_gt (off := 16) (tgt := 136) (by decide +kernel) (by decide) (fun b3 => ?_) (fun b3 => ?_)
    · rw [if_pos b3] at h
      refine E_blk (lv' := [some (vr (some (6, this))), some (vi v1), some (vi (0 : Int32)), none, none, none, none]) (st' := []) (M1 := M) (pc' := 138) (tb_Machine hγ) [.iconst 0, .istore_n 2] (by decide +kernel) rfl rfl trivial ?_
      obtain ⟨n7, h⟩ := h
      refine E_mask [true, true, true, false, false, false, false] rfl ?_
      exact lk_Machine_halt_L138 hγ this Q n7 v1 (0 : Int32) M h
    · rw [if_neg b3] at h
      obtain ⟨c8, h⟩ := h
      refine E_blk (lv' := [some (vr (some (6, this))), some (vi v1), some (vi (v2 + (1 : Int32))), none, none, none, none]) (st' := []) (M1 := (sI M 301 (6 * this + 0) v2.toNatClampNeg (0 : Int32))) (pc' := 133) (tb_Machine hγ) [.aload_n 0, .getfield 38, .iload_n 2, .iconst 0, .iastore, .iinc 2 1] (by decide +kernel) rfl rfl ⟨c8, trivial⟩ ?_
      refine E_goto (off := -18) (tgt := 115) (by decide +kernel) (by decide) ?_
      refine E_mask [true, true, true, false, false, false, false] rfl ?_
      exact ih v1 (v2 + (1 : Int32)) (sI M 301 (6 * this + 0) v2.toNatClampNeg (0 : Int32)) h
set_option maxRecDepth 4096 in
theorem lk_Machine_halt_j83 {γ : Gm} (hγ : Gk γ) (this : Nat) (Q : Int32 → Mem → Prop) (k13 : Int32 → Int32 → Int32 → Mem → Prop) (k45 : Int32 → Int32 → Int32 → Nat → Int32 → Mem → Prop) (hk13 : ∀ (v1 : Int32) (v3 : Int32) (v4 : Int32) (M : Mem), k13 v1 v3 v4 M → E γ k_Machine_halt 1 13 [some (vr (some (6, this))), some (vi v1), some (vr (some (700, this))), some (vi v3), some (vi v4), none, none] [] M (Qi Q)) (hk45 : ∀ (v1 : Int32) (v3 : Int32) (v4 : Int32) (v5 : Nat) (v6 : Int32) (M : Mem), k45 v1 v3 v4 v5 v6 M → E γ k_Machine_halt 1 45 [some (vr (some (6, this))), some (vi v1), some (vr (some (700, this))), some (vi v3), some (vi v4), some (vr (some (7, v5))), some (vi v6)] [] M (Qi Q)) (v1 : Int32) (v3 : Int32) (v4 : Int32) (v5 : Nat) (v6 : Int32) (M : Mem) (h : w_Machine_halt_j83 this Q k13 k45 v1 v3 v4 v5 v6 M) : E γ k_Machine_halt 1 83 [some (vr (some (6, this))), some (vi v1), some (vr (some (700, this))), some (vi v3), some (vi v4), some (vr (some (7, v5))), some (vi v6)] [] M (Qi Q) := by
  unfold w_Machine_halt_j83 at h
  refine E_blk (lv' := [some (vr (some (6, this))), some (vi v1), some (vr (some (700, this))), some (vi v3), some (vi v4), some (vr (some (7, v5))), some (vi (v6 + (1 : Int32)))]) (st' := []) (M1 := M) (pc' := 86) (tb_Machine hγ) [.iinc 6 1] (by decide +kernel) rfl rfl trivial ?_
  refine E_goto (off := -41) (tgt := 45) (by decide +kernel) (by decide) ?_
  refine E_mask [true, true, true, true, true, true, true] rfl ?_
  exact hk45 v1 v3 v4 v5 (v6 + (1 : Int32)) M h
set_option maxRecDepth 4096 in
theorem lk_Machine_halt_L45 {γ : Gm} (hγ : Gk γ) (this : Nat) (Q : Int32 → Mem → Prop) (k13 : Int32 → Int32 → Int32 → Mem → Prop) (hk13 : ∀ (v1 : Int32) (v3 : Int32) (v4 : Int32) (M : Mem), k13 v1 v3 v4 M → E γ k_Machine_halt 1 13 [some (vr (some (6, this))), some (vi v1), some (vr (some (700, this))), some (vi v3), some (vi v4), none, none] [] M (Qi Q)) : ∀ (n : Nat) (v1 : Int32) (v3 : Int32) (v4 : Int32) (v5 : Nat) (v6 : Int32) (M : Mem), w_Machine_halt_L45 this Q k13 n v1 v3 v4 v5 v6 M → E γ k_Machine_halt 1 45 [some (vr (some (6, this))), some (vi v1), some (vr (some (700, this))), some (vi v3), some (vi v4), some (vr (some (7, v5))), some (vi v6)] [] M (Qi Q) := by
  intro n
  induction n with
  | zero => intro v1 v3 v4 v5 v6 M h; exact h.elim
  | succ n ih =>
    intro v1 v3 v4 v5 v6 M h
    unfold w_Machine_halt_L45 at h
    refine E_blk (lv' := [some (vr (some (6, this))), some (vi v1), some (vr (some (700, this))), some (vi v3), some (vi v4), some (vr (some (7, v5))), some (vi v6)]) (st' := [vi (mI M 7 v5 1), vi v6]) (M1 := M) (pc' := 52) (tb_Machine hγ) [.iload 6, .aload 5, .getfield 152] (by decide +kernel) rfl rfl trivial ?_
    refine E_icmp_ge (off := 37) (tgt := 89) (by decide +kernel) (by decide) (fun b13 => ?_) (fun b13 => ?_)
    · rw [if_pos b13] at h
      refine E_blk (lv' := [some (vr (some (6, this))), some (vi v1), some (vr (some (700, this))), some (vi v3), some (vi v4), some (vr (some (7, v5))), some (vi v6)]) (st' := [vr (some (7, v5))]) (M1 := M) (pc' := 91) (tb_Machine hγ) [.aload 5] (by decide +kernel) rfl rfl trivial ?_
      refine E_callV (κ' := k_Line_clear) (As := []) (st := []) mv_Line_clear (Or.inl (tbk_mem (j := 6) (k := 20) rfl)) rfl (by decide +kernel) (Nat.le_of_ble_eq_true rfl) (Nat.le_of_ble_eq_true rfl) rfl (by decide) (lk_Line_clear hγ v5 _ M h) (fun _ _ => Qv_r) (fun v M14 hp => Qv_k (R := fun st => E γ k_Machine_halt 1 94 [some (vr (some (6, this))), some (vi v1), some (vr (some (700, this))), some (vi v3), some (vi v4), some (vr (some (7, v5))), some (vi v6)] st M14 (Qi Q)) hp (fun h => ?_))
      refine E_blk (lv' := [some (vr (some (6, this))), some (vi v1), some (vr (some (700, this))), some (vi v3), some (vi (v4 + (1 : Int32))), some (vr (some (7, v5))), some (vi v6)]) (st' := []) (M1 := M14) (pc' := 97) (tb_Machine hγ) [.iinc 4 1] (by decide +kernel) rfl rfl trivial ?_
      refine E_goto (off := -84) (tgt := 13) (by decide +kernel) (by decide) ?_
      refine E_mask [true, true, true, true, true, false, false] rfl ?_
      exact hk13 v1 v3 (v4 + (1 : Int32)) M14 h
    · rw [if_neg b13] at h
      obtain ⟨c15, h⟩ := h
      refine E_blk (lv' := [some (vr (some (6, this))), some (vi v1), some (vr (some (700, this))), some (vi v3), some (vi v4), some (vr (some (7, v5))), some (vi v6)]) (st' := [vi (mI M 92 v5 v6.toNatClampNeg)]) (M1 := M) (pc' := 63) (tb_Machine hγ) [.aload 5, .getfield 155, .iload 6, .iaload] (by decide +kernel) rfl rfl ⟨c15, trivial⟩ ?_
      refine E_if_lt (off := 20) (tgt := 83) (by decide +kernel) (by decide) (fun b16 => ?_) (fun b16 => ?_)
      · rw [if_pos b16] at h
        refine E_mask [true, true, true, true, true, true, true] rfl ?_
        exact lk_Machine_halt_j83 hγ this Q k13 (w_Machine_halt_L45 this Q k13 n) hk13 ih v1 v3 v4 v5 v6 M h
      · rw [if_neg b16] at h
        obtain ⟨c17, c18, h⟩ := h
        refine E_blk (lv' := [some (vr (some (6, this))), some (vi v1), some (vr (some (700, this))), some (vi v3), some (vi v4), some (vr (some (7, v5))), some (vi v6)]) (st' := []) (M1 := (sI M 46 this (mI M 92 v5 v6.toNatClampNeg).toNatClampNeg (3 : Int32))) (pc' := 83) (tb_Machine hγ) [.aload_n 0, .getfield 84, .getfield 158, .aload 5, .getfield 155, .iload 6, .iaload, .iconst 3, .iastore] (by decide +kernel) rfl rfl ⟨c17, c18, trivial⟩ ?_
        refine E_mask [true, true, true, true, true, true, true] rfl ?_
        exact lk_Machine_halt_j83 hγ this Q k13 (w_Machine_halt_L45 this Q k13 n) hk13 ih v1 v3 v4 v5 v6 (sI M 46 this (mI M 92 v5 v6.toNatClampNeg).toNatClampNeg (3 : Int32)) h
set_option maxRecDepth 4096 in
theorem lk_Machine_halt_j40 {γ : Gm} (hγ : Gk γ) (this : Nat) (Q : Int32 → Mem → Prop) (k13 : Int32 → Int32 → Int32 → Mem → Prop) (hk13 : ∀ (v1 : Int32) (v3 : Int32) (v4 : Int32) (M : Mem), k13 v1 v3 v4 M → E γ k_Machine_halt 1 13 [some (vr (some (6, this))), some (vi v1), some (vr (some (700, this))), some (vi v3), some (vi v4), none, none] [] M (Qi Q)) (v3 : Int32) (v4 : Int32) (v5 : Nat) (s0 : Int32) (s1 : Int32) (M : Mem) (h : w_Machine_halt_j40 this Q k13 v3 v4 v5 s0 s1 M) : E γ k_Machine_halt 1 40 [some (vr (some (6, this))), none, some (vr (some (700, this))), some (vi v3), some (vi v4), some (vr (some (7, v5))), none] [vi s0, vi s1] M (Qi Q) := by
  unfold w_Machine_halt_j40 at h
  refine E_blk (lv' := [some (vr (some (6, this))), some (vi (s1 + s0)), some (vr (some (700, this))), some (vi v3), some (vi v4), some (vr (some (7, v5))), some (vi (0 : Int32))]) (st' := []) (M1 := M) (pc' := 45) (tb_Machine hγ) [.iadd, .istore_n 1, .iconst 0, .istore 6] (by decide +kernel) rfl rfl trivial ?_
  obtain ⟨n19, h⟩ := h
  refine E_mask [true, true, true, true, true, true, true] rfl ?_
  exact lk_Machine_halt_L45 hγ this Q k13 hk13 n19 (s1 + s0) v3 v4 v5 (0 : Int32) M h
set_option maxRecDepth 4096 in
theorem lk_Machine_halt_L13 {γ : Gm} (hγ : Gk γ) (this : Nat) (Q : Int32 → Mem → Prop) : ∀ (n : Nat) (v1 : Int32) (v3 : Int32) (v4 : Int32) (M : Mem), w_Machine_halt_L13 this Q n v1 v3 v4 M → E γ k_Machine_halt 1 13 [some (vr (some (6, this))), some (vi v1), some (vr (some (700, this))), some (vi v3), some (vi v4), none, none] [] M (Qi Q) := by
  intro n
  induction n with
  | zero => intro v1 v3 v4 M h; exact h.elim
  | succ n ih =>
    intro v1 v3 v4 M h
    unfold w_Machine_halt_L13 at h
    refine E_blk (lv' := [some (vr (some (6, this))), some (vi v1), some (vr (some (700, this))), some (vi v3), some (vi v4), none, none]) (st' := [vi v3, vi v4]) (M1 := M) (pc' := 16) (tb_Machine hγ) [.iload 4, .iload_n 3] (by decide +kernel) rfl rfl trivial ?_
    refine E_icmp_ge (off := 84) (tgt := 100) (by decide +kernel) (by decide) (fun b1 => ?_) (fun b1 => ?_)
    · rw [if_pos b1] at h
      refine E_blk (lv' := [some (vr (some (6, this))), some (vi v1), some (vr (some (700, this))), some (vi v3), some (vi v4), none, none]) (st' := []) (M1 := (sI (sI M 6 this 3 (0 : Int32)) 6 this 4 (mI (sI M 6 this 3 (0 : Int32)) 6 this 5))) (pc' := 113) (tb_Machine hγ) [.aload_n 0, .iconst 0, .putfield 91, .aload_n 0, .aload_n 0, .getfield 95, .putfield 98] (by decide +kernel) rfl rfl trivial ?_
      obtain ⟨M2, eM2, h⟩ := h
      rw [← eM2]
      refine E_blk (lv' := [some (vr (some (6, this))), some (vi v1), some (vi (1 : Int32)), some (vi v3), some (vi v4), none, none]) (st' := []) (M1 := M2) (pc' := 115) (tb_Machine hγ) [.iconst 1, .istore_n 2] (by decide +kernel) rfl rfl trivial ?_
      obtain ⟨n9, h⟩ := h
      refine E_mask [true, true, true, false, false, false, false] rfl ?_
      exact lk_Machine_halt_L115 hγ this Q n9 v1 (1 : Int32) M2 h
    · rw [if_neg b1] at h
      obtain ⟨c10, h⟩ := h
      refine E_blk (lv' := [some (vr (some (6, this))), some (vi v1), some (vr (some (700, this))), some (vi v3), some (vi v4), none, none]) (st' := [vr (mR M 700 this v4.toNatClampNeg)]) (M1 := M) (pc' := 23) (tb_Machine hγ) [.aload_n 2, .iload 4, .aaload] (by decide +kernel) rfl rfl ⟨c10, trivial⟩ ?_
      obtain ⟨i11, ei11, h⟩ := h
      rw [ei11]
      refine E_blk (lv' := [some (vr (some (6, this))), some (vi v1), some (vr (some (700, this))), some (vi v3), some (vi v4), some (vr (some (7, i11))), none]) (st' := [vi (1 : Int32), vi (mI M 7 i11 11), vi v1]) (M1 := M) (pc' := 32) (tb_Machine hγ) [.astore 5, .iload_n 1, .aload 5, .getfield 149, .iconst 1] (by decide +kernel) rfl rfl trivial ?_
      refine E_icmp_ne (off := 7) (tgt := 39) (by decide +kernel) (by decide) (fun b12 => ?_) (fun b12 => ?_)
      · rw [if_pos b12] at h
        refine E_blk (lv' := [some (vr (some (6, this))), some (vi v1), some (vr (some (700, this))), some (vi v3), some (vi v4), some (vr (some (7, i11))), none]) (st' := [vi (1 : Int32), vi v1]) (M1 := M) (pc' := 36) (tb_Machine hγ) [.iconst 1] (by decide +kernel) rfl rfl trivial ?_
        refine E_goto (off := 4) (tgt := 40) (by decide +kernel) (by decide) ?_
        refine E_mask [true, false, true, true, true, true, false] rfl ?_
        exact lk_Machine_halt_j40 hγ this Q (w_Machine_halt_L13 this Q n) ih v3 v4 i11 (1 : Int32) v1 M h
      · rw [if_neg b12] at h
        refine E_blk (lv' := [some (vr (some (6, this))), some (vi v1), some (vr (some (700, this))), some (vi v3), some (vi v4), some (vr (some (7, i11))), none]) (st' := [vi (0 : Int32), vi v1]) (M1 := M) (pc' := 40) (tb_Machine hγ) [.iconst 0] (by decide +kernel) rfl rfl trivial ?_
        refine E_mask [true, false, true, true, true, true, false] rfl ?_
        exact lk_Machine_halt_j40 hγ this Q (w_Machine_halt_L13 this Q n) ih v3 v4 i11 (0 : Int32) v1 M h
set_option maxRecDepth 4096 in
theorem lk_Machine_halt {γ : Gm} (hγ : Gk γ) (this : Nat) (Q : Int32 → Mem → Prop) (M : Mem) (h : w_Machine_halt this Q M) : E γ k_Machine_halt 1 0 [some (vr (some (6, this))), none, none, none, none, none, none] [] M (Qi Q) := by
  unfold w_Machine_halt at h
  refine E_blk (lv' := [some (vr (some (6, this))), some (vi (0 : Int32)), some (vr (some (700, this))), some (vi (Int32.ofNat (mL M 700 this))), some (vi (0 : Int32)), none, none]) (st' := []) (M1 := M) (pc' := 13) (tb_Machine hγ) [.iconst 0, .istore_n 1, .aload_n 0, .getfield 20, .astore_n 2, .aload_n 2, .arraylength, .istore_n 3, .iconst 0, .istore 4] (by decide +kernel) rfl rfl trivial ?_
  obtain ⟨n20, h⟩ := h
  refine E_mask [true, true, true, true, true, false, false] rfl ?_
  exact lk_Machine_halt_L13 hγ this Q n20 (0 : Int32) (Int32.ofNat (mL M 700 this)) (0 : Int32) M h
def w_Works_halt (this : Nat) (a1 : Int32) (Q : Int32 → Mem → Prop) (M : Mem) : Prop :=
  w_Works_isWorld this a1 (fun r2 M1 => if r2 = 0 then (Q (-1 : Int32) M1) else (vp_in a1 (mL M1 702 0) ∧ ∃ i5, (mR M1 702 0 a1.toNatClampNeg) = some (5, i5) ∧ w_Machine_halt i5 (fun r7 M6 => Q r7 M6) M1)) M
set_option maxRecDepth 4096 in
theorem lk_Works_halt {γ : Gm} (hγ : Gk γ) (this : Nat) (a1 : Int32) (Q : Int32 → Mem → Prop) (M : Mem) (h : w_Works_halt this a1 Q M) : E γ k_Works_halt 2 0 [some (vr (some (10, this))), some (vi a1)] [] M (Qi Q) := by
  unfold w_Works_halt at h
  refine E_blk (lv' := [some (vr (some (10, this))), some (vi a1)]) (st' := [vi a1, vr (some (10, this))]) (M1 := M) (pc' := 2) (tb_Works hγ) [.aload_n 0, .iload_n 1] (by decide +kernel) rfl rfl trivial ?_
  refine E_callV (κ' := k_Works_isWorld) (As := [vi a1]) (st := []) mv_Works_isWorld (Or.inl (tbk_mem (j := 6) (k := 32) rfl)) rfl (by decide +kernel) (Nat.le_of_ble_eq_true rfl) (Nat.le_of_ble_eq_true rfl) rfl (by decide) (lk_Works_isWorld hγ this a1 _ M h) (fun _ _ => Qi_r) (fun v M1 hp => Qi_k (R := fun st => E γ k_Works_halt 2 5 [some (vr (some (10, this))), some (vi a1)] st M1 (Qi Q)) hp (fun r2 h => ?_))
  refine E_if_eq (off := 18) (tgt := 23) (by decide +kernel) (by decide) (fun b3 => ?_) (fun b3 => ?_)
  · rw [if_pos b3] at h
    refine E_blk (lv' := [some (vr (some (10, this))), some (vi a1)]) (st' := [vi (-1 : Int32)]) (M1 := M1) (pc' := 24) (tb_Works hγ) [.iconst (.negSucc 0)] (by decide +kernel) rfl rfl trivial ?_
    exact E_iret rfl (by decide +kernel) h
  · rw [if_neg b3] at h
    obtain ⟨c4, h⟩ := h
    refine E_blk (lv' := [some (vr (some (10, this))), some (vi a1)]) (st' := [vr (mR M1 702 0 a1.toNatClampNeg)]) (M1 := M1) (pc' := 14) (tb_Works hγ) [.aload_n 0, .getfield 85, .iload_n 1, .aaload] (by decide +kernel) rfl rfl ⟨c4, trivial⟩ ?_
    obtain ⟨i5, ei5, h⟩ := h
    rw [ei5]
    refine E_blk (lv' := [some (vr (some (10, this))), some (vi a1)]) (st' := [vr (some (6, i5))]) (M1 := M1) (pc' := 17) (tb_Works hγ) [.getfield 141] (by decide +kernel) rfl rfl trivial ?_
    refine E_callV (κ' := k_Machine_halt) (As := []) (st := []) mv_Machine_halt (Or.inl (tbk_mem (j := 10) (k := 71) rfl)) rfl (by decide +kernel) (Nat.le_of_ble_eq_true rfl) (Nat.le_of_ble_eq_true rfl) rfl (by decide) (lk_Machine_halt hγ i5 _ M1 h) (fun _ _ => Qi_r) (fun v M6 hp => Qi_k (R := fun st => E γ k_Works_halt 2 20 [some (vr (some (10, this))), some (vi a1)] st M6 (Qi Q)) hp (fun r7 h => ?_))
    refine E_goto (off := 4) (tgt := 24) (by decide +kernel) (by decide) ?_
    exact E_iret rfl (by decide +kernel) h
def w_Machine_reaches (this : Nat) (a1 : Int32) (Q : Mem → Prop) (M : Mem) : Prop :=
  w_Works_isIn a1 (1 : Int32) (800 : Int32) (fun r2 M1 => if r2 = 0 then (Q M1) else (vp_in a1 (mL M1 513 this) ∧ if (mI M1 513 this a1.toNatClampNeg) = 0 then (vp_in a1 (mL M1 513 this) ∧ vp_in (mI (sI M1 513 this a1.toNatClampNeg ((1 : Int32) &&& 1)) 6 this 18) (mL (sI M1 513 this a1.toNatClampNeg ((1 : Int32) &&& 1)) 82 this) ∧ ∃ M8, M8 = (sI (sI M1 513 this a1.toNatClampNeg ((1 : Int32) &&& 1)) 82 this (mI (sI M1 513 this a1.toNatClampNeg ((1 : Int32) &&& 1)) 6 this 18).toNatClampNeg a1) ∧ Q (sI M8 6 this 18 ((mI M8 6 this 18) + (1 : Int32)))) else (Q M1))) M
set_option maxRecDepth 4096 in
theorem lk_Machine_reaches {γ : Gm} (hγ : Gk γ) (this : Nat) (a1 : Int32) (Q : Mem → Prop) (M : Mem) (h : w_Machine_reaches this a1 Q M) : E γ k_Machine_reaches 1 0 [some (vr (some (6, this))), some (vi a1)] [] M (Qv Q) := by
  unfold w_Machine_reaches at h
  refine E_blk (lv' := [some (vr (some (6, this))), some (vi a1)]) (st' := [vi (800 : Int32), vi (1 : Int32), vi a1]) (M1 := M) (pc' := 5) (tb_Machine hγ) [.iload_n 1, .iconst 1, .sipush 800] (by decide +kernel) rfl rfl trivial ?_
  refine E_callS (κ' := k_Works_isIn) (As := [vi a1, vi (1 : Int32), vi (800 : Int32)]) (st := []) ms_Works_isIn (Or.inr ⟨"ClassWorks", (tbk_mem (j := 9) (k := 28) rfl)⟩) rfl (by decide +kernel) (Nat.le_of_ble_eq_true rfl) (Nat.le_of_ble_eq_true rfl) rfl (by decide) (lk_Works_isIn hγ a1 (1 : Int32) (800 : Int32) _ M h) (fun _ _ => Qi_r) (fun v M1 hp => Qi_k (R := fun st => E γ k_Machine_reaches 1 8 [some (vr (some (6, this))), some (vi a1)] st M1 (Qv Q)) hp (fun r2 h => ?_))
  refine E_if_eq (off := 12) (tgt := 20) (by decide +kernel) (by decide) (fun b3 => ?_) (fun b3 => ?_)
  · rw [if_pos b3] at h
    exact E_vret rfl (by decide +kernel) h
  · rw [if_neg b3] at h
    obtain ⟨c4, h⟩ := h
    refine E_blk (lv' := [some (vr (some (6, this))), some (vi a1)]) (st' := [vi (mI M1 513 this a1.toNatClampNeg)]) (M1 := M1) (pc' := 17) (tb_Machine hγ) [.aload_n 0, .getfield 48, .iload_n 1, .baload] (by decide +kernel) rfl rfl ⟨c4, trivial⟩ ?_
    refine E_if_eq (off := 4) (tgt := 21) (by decide +kernel) (by decide) (fun b5 => ?_) (fun b5 => ?_)
    · rw [if_pos b5] at h
      obtain ⟨c6, c7, h⟩ := h
      refine E_blk (lv' := [some (vr (some (6, this))), some (vi a1)]) (st' := []) (M1 := (sI (sI M1 513 this a1.toNatClampNeg ((1 : Int32) &&& 1)) 82 this (mI (sI M1 513 this a1.toNatClampNeg ((1 : Int32) &&& 1)) 6 this 18).toNatClampNeg a1)) (pc' := 38) (tb_Machine hγ) [.aload_n 0, .getfield 48, .iload_n 1, .iconst 1, .bastore, .aload_n 0, .getfield 51, .aload_n 0, .getfield 282, .iload_n 1, .iastore] (by decide +kernel) rfl rfl ⟨c6, c7, trivial⟩ ?_
      obtain ⟨M8, eM8, h⟩ := h
      rw [← eM8]
      refine E_blk (lv' := [some (vr (some (6, this))), some (vi a1)]) (st' := []) (M1 := (sI M8 6 this 18 ((mI M8 6 this 18) + (1 : Int32)))) (pc' := 48) (tb_Machine hγ) [.aload_n 0, .dup, .getfield 282, .iconst 1, .iadd, .putfield 282] (by decide +kernel) rfl rfl trivial ?_
      exact E_vret rfl (by decide +kernel) h
    · rw [if_neg b5] at h
      exact E_vret rfl (by decide +kernel) h
def w_Machine_sweep_j105 (this : Nat) (Q : Int32 → Mem → Prop) (k23 : Int32 → Int32 → Int32 → Mem → Prop) (v1 : Int32) (v2 : Int32) (v3 : Int32) (M : Mem) : Prop :=
  k23 v1 v2 (v3 + (1 : Int32)) M
def w_Machine_sweep_L23 (this : Nat) (Q : Int32 → Mem → Prop) : Nat → Int32 → Int32 → Int32 → Mem → Prop
  | 0, _, _, _, _ => False
  | n + 1, v1, v2, v3, M => if (mI M 6 this 15) < v3 then (∃ M8, M8 = (sI (sI (sI M 6 this 6 ((mI M 6 this 6) - v1)) 6 this 7 v2) 6 this 14 (1 : Int32)) ∧ Q v1 M8) else (vp_in v3 (mL M 512 this) ∧ if (mI M 512 this v3.toNatClampNeg) = 0 then (w_Machine_sweep_j105 this Q (w_Machine_sweep_L23 this Q n) v1 v2 v3 M) else (vp_in v3 (mL M 513 this) ∧ if (mI M 513 this v3.toNatClampNeg) = 0 then (vp_in v3 (mL M 512 this) ∧ w_Machine_sweep_j105 this Q (w_Machine_sweep_L23 this Q n) (v1 + (1 : Int32)) v2 v3 (sI M 512 this v3.toNatClampNeg ((0 : Int32) &&& 1))) else (vp_in v3 (mL M 80 this) ∧ vp_in v3 (mL M 81 this) ∧ ¬ (mI M 80 this v3.toNatClampNeg) < 0 ∧ ¬ v2 < 0 ∧ ¬ (mI M 81 this v3.toNatClampNeg) < 0 ∧ (mI M 80 this v3.toNatClampNeg).toNatClampNeg + (mI M 81 this v3.toNatClampNeg).toNatClampNeg ≤ mL M 83 this ∧ v2.toNatClampNeg + (mI M 81 this v3.toNatClampNeg).toNatClampNeg ≤ mL M 84 this ∧ ∃ M16, M16 = cpI M 83 this (mI M 80 this v3.toNatClampNeg).toNatClampNeg 84 this v2.toNatClampNeg (mI M 81 this v3.toNatClampNeg).toNatClampNeg ∧ vp_in v3 (mL M16 80 this) ∧ vp_in v3 (mL (sI M16 80 this v3.toNatClampNeg v2) 81 this) ∧ ∃ x24 : Int32, x24 = (v2 + (mI (sI M16 80 this v3.toNatClampNeg v2) 81 this v3.toNatClampNeg)) ∧ w_Machine_sweep_j105 this Q (w_Machine_sweep_L23 this Q n) v1 x24 v3 (sI M16 80 this v3.toNatClampNeg v2))))
def w_Machine_sweep (this : Nat) (Q : Int32 → Mem → Prop) (M : Mem) : Prop :=
  ¬ (0 : Int32) < 0 ∧ ¬ (0 : Int32) < 0 ∧ ¬ (mI M 6 this 7) < 0 ∧ (0 : Int32).toNatClampNeg + (mI M 6 this 7).toNatClampNeg ≤ mL M 84 this ∧ (0 : Int32).toNatClampNeg + (mI M 6 this 7).toNatClampNeg ≤ mL M 83 this ∧ ∃ M1, M1 = cpI M 84 this (0 : Int32).toNatClampNeg 83 this (0 : Int32).toNatClampNeg (mI M 6 this 7).toNatClampNeg ∧ ∃ n25 : Nat, w_Machine_sweep_L23 this Q n25 (0 : Int32) (0 : Int32) (1 : Int32) M1
set_option maxRecDepth 4096 in
theorem lk_Machine_sweep_j105 {γ : Gm} (hγ : Gk γ) (this : Nat) (Q : Int32 → Mem → Prop) (k23 : Int32 → Int32 → Int32 → Mem → Prop) (hk23 : ∀ (v1 : Int32) (v2 : Int32) (v3 : Int32) (M : Mem), k23 v1 v2 v3 M → E γ k_Machine_sweep 1 23 [some (vr (some (6, this))), some (vi v1), some (vi v2), some (vi v3)] [] M (Qi Q)) (v1 : Int32) (v2 : Int32) (v3 : Int32) (M : Mem) (h : w_Machine_sweep_j105 this Q k23 v1 v2 v3 M) : E γ k_Machine_sweep 1 105 [some (vr (some (6, this))), some (vi v1), some (vi v2), some (vi v3)] [] M (Qi Q) := by
  unfold w_Machine_sweep_j105 at h
  refine E_blk (lv' := [some (vr (some (6, this))), some (vi v1), some (vi v2), some (vi (v3 + (1 : Int32)))]) (st' := []) (M1 := M) (pc' := 108) (tb_Machine hγ) [.iinc 3 1] (by decide +kernel) rfl rfl trivial ?_
  refine E_goto (off := -85) (tgt := 23) (by decide +kernel) (by decide) ?_
  refine E_mask [true, true, true, true] rfl ?_
  exact hk23 v1 v2 (v3 + (1 : Int32)) M h
set_option maxRecDepth 4096 in
theorem lk_Machine_sweep_L23 {γ : Gm} (hγ : Gk γ) (this : Nat) (Q : Int32 → Mem → Prop) : ∀ (n : Nat) (v1 : Int32) (v2 : Int32) (v3 : Int32) (M : Mem), w_Machine_sweep_L23 this Q n v1 v2 v3 M → E γ k_Machine_sweep 1 23 [some (vr (some (6, this))), some (vi v1), some (vi v2), some (vi v3)] [] M (Qi Q) := by
  intro n
  induction n with
  | zero => intro v1 v2 v3 M h; exact h.elim
  | succ n ih =>
    intro v1 v2 v3 M h
    unfold w_Machine_sweep_L23 at h
    refine E_blk (lv' := [some (vr (some (6, this))), some (vi v1), some (vi v2), some (vi v3)]) (st' := [vi (mI M 6 this 15), vi v3]) (M1 := M) (pc' := 28) (tb_Machine hγ) [.iload_n 3, .aload_n 0, .getfield 116] (by decide +kernel) rfl rfl trivial ?_
    refine E_icmp_gt (off := 83) (tgt := 111) (by decide +kernel) (by decide) (fun b7 => ?_) (fun b7 => ?_)
    · rw [if_pos b7] at h
      refine E_blk (lv' := [some (vr (some (6, this))), some (vi v1), some (vi v2), some (vi v3)]) (st' := []) (M1 := (sI (sI (sI M 6 this 6 ((mI M 6 this 6) - v1)) 6 this 7 v2) 6 this 14 (1 : Int32))) (pc' := 131) (tb_Machine hγ) [.aload_n 0, .dup, .getfield 101, .iload_n 1, .isub, .putfield 101, .aload_n 0, .iload_n 2, .putfield 104, .aload_n 0, .iconst 1, .putfield 113] (by decide +kernel) rfl rfl trivial ?_
      obtain ⟨M8, eM8, h⟩ := h
      rw [← eM8]
      refine E_blk (lv' := [some (vr (some (6, this))), some (vi v1), some (vi v2), some (vi v3)]) (st' := [vi v1]) (M1 := M8) (pc' := 132) (tb_Machine hγ) [.iload_n 1] (by decide +kernel) rfl rfl trivial ?_
      exact E_iret rfl (by decide +kernel) h
    · rw [if_neg b7] at h
      obtain ⟨c9, h⟩ := h
      refine E_blk (lv' := [some (vr (some (6, this))), some (vi v1), some (vi v2), some (vi v3)]) (st' := [vi (mI M 512 this v3.toNatClampNeg)]) (M1 := M) (pc' := 37) (tb_Machine hγ) [.aload_n 0, .getfield 44, .iload_n 3, .baload] (by decide +kernel) rfl rfl ⟨c9, trivial⟩ ?_
      refine E_if_ne (off := 6) (tgt := 43) (by decide +kernel) (by decide) (fun b10 => ?_) (fun b10 => ?_)
      · rw [if_pos b10] at h
        refine E_goto (off := 65) (tgt := 105) (by decide +kernel) (by decide) ?_
        refine E_mask [true, true, true, true] rfl ?_
        exact lk_Machine_sweep_j105 hγ this Q (w_Machine_sweep_L23 this Q n) ih v1 v2 v3 M h
      · rw [if_neg b10] at h
        obtain ⟨c11, h⟩ := h
        refine E_blk (lv' := [some (vr (some (6, this))), some (vi v1), some (vi v2), some (vi v3)]) (st' := [vi (mI M 513 this v3.toNatClampNeg)]) (M1 := M) (pc' := 49) (tb_Machine hγ) [.aload_n 0, .getfield 48, .iload_n 3, .baload] (by decide +kernel) rfl rfl ⟨c11, trivial⟩ ?_
        refine E_if_ne (off := 16) (tgt := 65) (by decide +kernel) (by decide) (fun b12 => ?_) (fun b12 => ?_)
        · rw [if_pos b12] at h
          obtain ⟨c13, h⟩ := h
          refine E_blk (lv' := [some (vr (some (6, this))), some (vi (v1 + (1 : Int32))), some (vi v2), some (vi v3)]) (st' := []) (M1 := (sI M 512 this v3.toNatClampNeg ((0 : Int32) &&& 1))) (pc' := 62) (tb_Machine hγ) [.aload_n 0, .getfield 44, .iload_n 3, .iconst 0, .bastore, .iinc 1 1] (by decide +kernel) rfl rfl ⟨c13, trivial⟩ ?_
          refine E_goto (off := 43) (tgt := 105) (by decide +kernel) (by decide) ?_
          refine E_mask [true, true, true, true] rfl ?_
          exact lk_Machine_sweep_j105 hγ this Q (w_Machine_sweep_L23 this Q n) ih (v1 + (1 : Int32)) v2 v3 (sI M 512 this v3.toNatClampNeg ((0 : Int32) &&& 1)) h
        · rw [if_neg b12] at h
          obtain ⟨c14, c15, h⟩ := h
          refine E_blk (lv' := [some (vr (some (6, this))), some (vi v1), some (vi v2), some (vi v3)]) (st' := [vi (mI M 81 this v3.toNatClampNeg), vi v2, vr (some (84, this)), vi (mI M 80 this v3.toNatClampNeg), vr (some (83, this))]) (M1 := M) (pc' := 86) (tb_Machine hγ) [.aload_n 0, .getfield 54, .aload_n 0, .getfield 32, .iload_n 3, .iaload, .aload_n 0, .getfield 57, .iload_n 2, .aload_n 0, .getfield 35, .iload_n 3, .iaload] (by decide +kernel) rfl rfl ⟨c14, c15, trivial⟩ ?_
          obtain ⟨c17, c18, c19, c20, c21, M16, eM16, h⟩ := h
          refine E_copy (pc := 86) (κ := k_Machine_sweep) (f := 83) (i := this) (g := 84) (j := this) (sp := (mI M 80 this v3.toNatClampNeg)) (dp := v2) (n := (mI M 81 this v3.toNatClampNeg)) (idx := 305) (st := []) c17 c18 c19 c20 c21 (by decide) (by decide) rfl (by decide) (tbk_mem (j := 8) (k := 198) rfl) (by decide +kernel) (Nat.le_of_ble_eq_true rfl) ?_
          rw [← eM16]
          obtain ⟨c22, c23, h⟩ := h
          refine E_blk (lv' := [some (vr (some (6, this))), some (vi v1), some (vi (v2 + (mI (sI M16 80 this v3.toNatClampNeg v2) 81 this v3.toNatClampNeg))), some (vi v3)]) (st' := []) (M1 := (sI M16 80 this v3.toNatClampNeg v2)) (pc' := 105) (tb_Machine hγ) [.aload_n 0, .getfield 32, .iload_n 3, .iload_n 2, .iastore, .iload_n 2, .aload_n 0, .getfield 35, .iload_n 3, .iaload, .iadd, .istore_n 2] (by decide +kernel) rfl rfl ⟨c22, c23, trivial⟩ ?_
          obtain ⟨x24, ex24, h⟩ := h
          rw [← ex24]
          refine E_mask [true, true, true, true] rfl ?_
          exact lk_Machine_sweep_j105 hγ this Q (w_Machine_sweep_L23 this Q n) ih v1 x24 v3 (sI M16 80 this v3.toNatClampNeg v2) h
set_option maxRecDepth 4096 in
theorem lk_Machine_sweep {γ : Gm} (hγ : Gk γ) (this : Nat) (Q : Int32 → Mem → Prop) (M : Mem) (h : w_Machine_sweep this Q M) : E γ k_Machine_sweep 1 0 [some (vr (some (6, this))), none, none, none] [] M (Qi Q) := by
  unfold w_Machine_sweep at h
  refine E_blk (lv' := [some (vr (some (6, this))), some (vi (0 : Int32)), some (vi (0 : Int32)), none]) (st' := [vi (mI M 6 this 7), vi (0 : Int32), vr (some (83, this)), vi (0 : Int32), vr (some (84, this))]) (M1 := M) (pc' := 18) (tb_Machine hγ) [.iconst 0, .istore_n 1, .iconst 0, .istore_n 2, .aload_n 0, .getfield 57, .iconst 0, .aload_n 0, .getfield 54, .iconst 0, .aload_n 0, .getfield 104] (by decide +kernel) rfl rfl trivial ?_
  obtain ⟨c2, c3, c4, c5, c6, M1, eM1, h⟩ := h
  refine E_copy (pc := 18) (κ := k_Machine_sweep) (f := 84) (i := this) (g := 83) (j := this) (sp := (0 : Int32)) (dp := (0 : Int32)) (n := (mI M 6 this 7)) (idx := 305) (st := []) c2 c3 c4 c5 c6 (by decide) (by decide) rfl (by decide) (tbk_mem (j := 8) (k := 198) rfl) (by decide +kernel) (Nat.le_of_ble_eq_true rfl) ?_
  rw [← eM1]
  refine E_blk (lv' := [some (vr (some (6, this))), some (vi (0 : Int32)), some (vi (0 : Int32)), some (vi (1 : Int32))]) (st' := []) (M1 := M1) (pc' := 23) (tb_Machine hγ) [.iconst 1, .istore_n 3] (by decide +kernel) rfl rfl trivial ?_
  obtain ⟨n25, h⟩ := h
  refine E_mask [true, true, true, true] rfl ?_
  exact lk_Machine_sweep_L23 hγ this Q n25 (0 : Int32) (0 : Int32) (1 : Int32) M1 h
def w_Machine_collect_j315 (this : Nat) (Q : Int32 → Mem → Prop) (k230 : Mem → Prop) (k271 : Int32 → Int32 → Mem → Prop) (v1 : Int32) (v2 : Int32) (M : Mem) : Prop :=
  k271 v1 (v2 + (1 : Int32)) M
def w_Machine_collect_L271 (this : Nat) (Q : Int32 → Mem → Prop) (k230 : Mem → Prop) : Nat → Int32 → Int32 → Mem → Prop
  | 0, _, _, _ => False
  | n + 1, v1, v2, M => vp_in v1 (mL M 81 this) ∧ if (mI M 81 this v1.toNatClampNeg) ≤ v2 then (k230  M) else (vp_in v1 (mL M 79 this) ∧ w_World_fieldKind this (mI M 79 this v1.toNatClampNeg) v2 (fun r16 M15 => if r16 = 0 then (w_Machine_collect_j315 this Q k230 (w_Machine_collect_L271 this Q k230 n) v1 v2 M15) else (vp_in v1 (mL M15 80 this) ∧ vp_in ((mI M15 80 this v1.toNatClampNeg) + v2) (mL M15 84 this) ∧ w_Machine_reaches this (mI M15 84 this ((mI M15 80 this v1.toNatClampNeg) + v2).toNatClampNeg) (fun M20 => w_Machine_collect_j315 this Q k230 (w_Machine_collect_L271 this Q k230 n) v1 v2 M20) M15)) M)
def w_Machine_collect_L230 (this : Nat) (Q : Int32 → Mem → Prop) : Nat → Mem → Prop
  | 0, _ => False
  | n + 1, M => if (mI M 6 this 18) ≤ 0 then (w_Machine_sweep this (fun r7 M6 => Q r7 M6) M) else (vp_in (mI (sI M 6 this 18 ((mI M 6 this 18) - (1 : Int32))) 6 this 18) (mL (sI M 6 this 18 ((mI M 6 this 18) - (1 : Int32))) 82 this) ∧ ∃ x9 : Int32, x9 = (mI (sI M 6 this 18 ((mI M 6 this 18) - (1 : Int32))) 82 this (mI (sI M 6 this 18 ((mI M 6 this 18) - (1 : Int32))) 6 this 18).toNatClampNeg) ∧ vp_in x9 (mL (sI M 6 this 18 ((mI M 6 this 18) - (1 : Int32))) 79 this) ∧ if 0 ≤ (mI (sI M 6 this 18 ((mI M 6 this 18) - (1 : Int32))) 79 this x9.toNatClampNeg) then (∃ n21 : Nat, w_Machine_collect_L271 this Q (w_Machine_collect_L230 this Q n) n21 x9 (0 : Int32) (sI M 6 this 18 ((mI M 6 this 18) - (1 : Int32)))) else ((w_Machine_collect_L230 this Q n)  (sI M 6 this 18 ((mI M 6 this 18) - (1 : Int32)))))
def w_Machine_collect_j218 (this : Nat) (Q : Int32 → Mem → Prop) (k121 : Int32 → Int32 → Mem → Prop) (k134 : Int32 → Int32 → Nat → Int32 → Mem → Prop) (v2 : Int32) (v3 : Int32) (v4 : Nat) (v5 : Int32) (M : Mem) : Prop :=
  k134 v2 v3 v4 (v5 + (1 : Int32)) M
def w_Machine_collect_j212 (this : Nat) (Q : Int32 → Mem → Prop) (k121 : Int32 → Int32 → Mem → Prop) (k134 : Int32 → Int32 → Nat → Int32 → Mem → Prop) (k161 : Int32 → Int32 → Nat → Int32 → Int32 → Mem → Prop) (v2 : Int32) (v3 : Int32) (v4 : Nat) (v5 : Int32) (v6 : Int32) (M : Mem) : Prop :=
  k161 v2 v3 v4 v5 (v6 + (1 : Int32)) M
def w_Machine_collect_L161 (this : Nat) (Q : Int32 → Mem → Prop) (k121 : Int32 → Int32 → Mem → Prop) (k134 : Int32 → Int32 → Nat → Int32 → Mem → Prop) : Nat → Int32 → Int32 → Nat → Int32 → Int32 → Mem → Prop
  | 0, _, _, _, _, _, _ => False
  | n + 1, v2, v3, v4, v5, v6, M => vp_in v5 (mL M 91 v4) ∧ if ((20 : Int32) + (mI M 91 v4 v5.toNatClampNeg)) ≤ v6 then (w_Machine_collect_j218 this Q k121 k134 v2 v3 v4 v5 M) else (vp_in (((40 : Int32) * v5) + v6) (mL M 514 v4) ∧ if (mI M 514 v4 (((40 : Int32) * v5) + v6).toNatClampNeg) = 0 then (w_Machine_collect_j212 this Q k121 k134 (w_Machine_collect_L161 this Q k121 k134 n) v2 v3 v4 v5 v6 M) else (vp_in (((40 : Int32) * v5) + v6) (mL M 94 v4) ∧ w_Machine_reaches this (mI M 94 v4 (((40 : Int32) * v5) + v6).toNatClampNeg) (fun M33 => w_Machine_collect_j212 this Q k121 k134 (w_Machine_collect_L161 this Q k121 k134 n) v2 v3 v4 v5 v6 M33) M))
def w_Machine_collect_L134 (this : Nat) (Q : Int32 → Mem → Prop) (k121 : Int32 → Int32 → Mem → Prop) : Nat → Int32 → Int32 → Nat → Int32 → Mem → Prop
  | 0, _, _, _, _, _ => False
  | n + 1, v2, v3, v4, v5, M => if (mI M 7 v4 1) ≤ v5 then (k121 v2 (v3 + (1 : Int32)) M) else (vp_in v5 (mL M 92 v4) ∧ if (mI M 92 v4 v5.toNatClampNeg) < 0 then (∃ n34 : Nat, w_Machine_collect_L161 this Q k121 (w_Machine_collect_L134 this Q k121 n) n34 v2 v3 v4 v5 (0 : Int32) M) else (w_Machine_collect_j218 this Q k121 (w_Machine_collect_L134 this Q k121 n) v2 v3 v4 v5 M))
def w_Machine_collect_L121 (this : Nat) (Q : Int32 → Mem → Prop) : Nat → Int32 → Int32 → Mem → Prop
  | 0, _, _, _ => False
  | n + 1, v2, v3, M => if v2 ≤ v3 then (∃ n22 : Nat, w_Machine_collect_L230 this Q n22  M) else (vp_in v3 (mL M 700 this) ∧ ∃ i24, (mR M 700 this v3.toNatClampNeg) = some (7, i24) ∧ ∃ n35 : Nat, w_Machine_collect_L134 this Q (w_Machine_collect_L121 this Q n) n35 v2 v3 i24 (0 : Int32) M)
def w_Machine_collect_j99 (this : Nat) (Q : Int32 → Mem → Prop) (k16 : Int32 → Mem → Prop) (k37 : Int32 → Int32 → Mem → Prop) (v1 : Int32) (v2 : Int32) (M : Mem) : Prop :=
  k37 v1 (v2 + (1 : Int32)) M
def w_Machine_collect_L37 (this : Nat) (Q : Int32 → Mem → Prop) (k16 : Int32 → Mem → Prop) : Nat → Int32 → Int32 → Mem → Prop
  | 0, _, _, _ => False
  | n + 1, v1, v2, M => vp_in v1 (mL M 41 this) ∧ vp_in v1 (mL M 42 this) ∧ if ((mI M 41 this v1.toNatClampNeg) + (mI M 42 this v1.toNatClampNeg)) ≤ v2 then (k16 (v1 + (1 : Int32)) M) else (vp_in v2 (mL M 51 this) ∧ if ((mI M 51 this v2.toNatClampNeg) &&& (1 : Int32)) = 0 then (w_Machine_collect_j99 this Q k16 (w_Machine_collect_L37 this Q k16 n) v1 v2 M) else (vp_in v2 (mL M 50 this) ∧ if (mI M 50 this v2.toNatClampNeg) = 0 then (w_Machine_collect_j99 this Q k16 (w_Machine_collect_L37 this Q k16 n) v1 v2 M) else (vp_in v2 (mL M 54 this) ∧ w_Machine_reaches this (mI M 54 this v2.toNatClampNeg) (fun M46 => w_Machine_collect_j99 this Q k16 (w_Machine_collect_L37 this Q k16 n) v1 v2 M46) M)))
def w_Machine_collect_L16 (this : Nat) (Q : Int32 → Mem → Prop) : Nat → Int32 → Mem → Prop
  | 0, _, _ => False
  | n + 1, v1, M => if (mI M 5 this 2) ≤ v1 then (∃ n36 : Nat, w_Machine_collect_L121 this Q n36 (Int32.ofNat (mL M 700 this)) (0 : Int32) M) else (vp_in v1 (mL M 41 this) ∧ ∃ n47 : Nat, w_Machine_collect_L37 this Q (w_Machine_collect_L16 this Q n) n47 v1 (mI M 41 this v1.toNatClampNeg) M)
def w_Machine_collect (this : Nat) (Q : Int32 → Mem → Prop) (M : Mem) : Prop :=
  mL M 513 this < 2 ^ 31 ∧ ∃ M1, M1 = flI M 513 this (0 : Int32) ∧ ∃ n48 : Nat, w_Machine_collect_L16 this Q n48 (21 : Int32) (sI M1 6 this 18 (0 : Int32))
set_option maxRecDepth 4096 in
theorem lk_Machine_collect_j315 {γ : Gm} (hγ : Gk γ) (this : Nat) (Q : Int32 → Mem → Prop) (k230 : Mem → Prop) (k271 : Int32 → Int32 → Mem → Prop) (hk230 : ∀  (M : Mem), k230  M → E γ k_Machine_collect 3 230 [some (vr (some (6, this))), none, none, none, none, none, none] [] M (Qi Q)) (hk271 : ∀ (v1 : Int32) (v2 : Int32) (M : Mem), k271 v1 v2 M → E γ k_Machine_collect 3 271 [some (vr (some (6, this))), some (vi v1), some (vi v2), none, none, none, none] [] M (Qi Q)) (v1 : Int32) (v2 : Int32) (M : Mem) (h : w_Machine_collect_j315 this Q k230 k271 v1 v2 M) : E γ k_Machine_collect 3 315 [some (vr (some (6, this))), some (vi v1), some (vi v2), none, none, none, none] [] M (Qi Q) := by
  unfold w_Machine_collect_j315 at h
  refine E_blk (lv' := [some (vr (some (6, this))), some (vi v1), some (vi (v2 + (1 : Int32))), none, none, none, none]) (st' := []) (M1 := M) (pc' := 318) (tb_Machine hγ) [.iinc 2 1] (by decide +kernel) rfl rfl trivial ?_
  refine E_goto (off := -47) (tgt := 271) (by decide +kernel) (by decide) ?_
  refine E_mask [true, true, true, false, false, false, false] rfl ?_
  exact hk271 v1 (v2 + (1 : Int32)) M h
set_option maxRecDepth 4096 in
theorem lk_Machine_collect_L271 {γ : Gm} (hγ : Gk γ) (this : Nat) (Q : Int32 → Mem → Prop) (k230 : Mem → Prop) (hk230 : ∀  (M : Mem), k230  M → E γ k_Machine_collect 3 230 [some (vr (some (6, this))), none, none, none, none, none, none] [] M (Qi Q)) : ∀ (n : Nat) (v1 : Int32) (v2 : Int32) (M : Mem), w_Machine_collect_L271 this Q k230 n v1 v2 M → E γ k_Machine_collect 3 271 [some (vr (some (6, this))), some (vi v1), some (vi v2), none, none, none, none] [] M (Qi Q) := by
  intro n
  induction n with
  | zero => intro v1 v2 M h; exact h.elim
  | succ n ih =>
    intro v1 v2 M h
    unfold w_Machine_collect_L271 at h
    obtain ⟨c12, h⟩ := h
    refine E_blk (lv' := [some (vr (some (6, this))), some (vi v1), some (vi v2), none, none, none, none]) (st' := [vi (mI M 81 this v1.toNatClampNeg), vi v2]) (M1 := M) (pc' := 278) (tb_Machine hγ) [.iload_n 2, .aload_n 0, .getfield 35, .iload_n 1, .iaload] (by decide +kernel) rfl rfl ⟨c12, trivial⟩ ?_
    refine E_icmp_ge (off := 43) (tgt := 321) (by decide +kernel) (by decide) (fun b13 => ?_) (fun b13 => ?_)
    · rw [if_pos b13] at h
      refine E_goto (off := -91) (tgt := 230) (by decide +kernel) (by decide) ?_
      refine E_mask [true, false, false, false, false, false, false] rfl ?_
      exact hk230  M h
    · rw [if_neg b13] at h
      obtain ⟨c14, h⟩ := h
      refine E_blk (lv' := [some (vr (some (6, this))), some (vi v1), some (vi v2), none, none, none, none]) (st' := [vi v2, vi (mI M 79 this v1.toNatClampNeg), vr (some (5, this))]) (M1 := M) (pc' := 292) (tb_Machine hγ) [.aload_n 0, .getfield 84, .aload_n 0, .getfield 28, .iload_n 1, .iaload, .iload_n 2] (by decide +kernel) rfl rfl ⟨c14, trivial⟩ ?_
      refine E_callV (κ' := k_World_fieldKind) (As := [vi (mI M 79 this v1.toNatClampNeg), vi v2]) (st := []) mv_World_fieldKind (Or.inl (tbk_mem (j := 10) (k := 87) rfl)) rfl (by decide +kernel) (Nat.le_of_ble_eq_true rfl) (Nat.le_of_ble_eq_true rfl) rfl (by decide) (lk_World_fieldKind hγ this (mI M 79 this v1.toNatClampNeg) v2 _ M h) (fun _ _ => Qi_r) (fun v M15 hp => Qi_k (R := fun st => E γ k_Machine_collect 3 295 [some (vr (some (6, this))), some (vi v1), some (vi v2), none, none, none, none] st M15 (Qi Q)) hp (fun r16 h => ?_))
      refine E_if_eq (off := 20) (tgt := 315) (by decide +kernel) (by decide) (fun b17 => ?_) (fun b17 => ?_)
      · rw [if_pos b17] at h
        refine E_mask [true, true, true, false, false, false, false] rfl ?_
        exact lk_Machine_collect_j315 hγ this Q k230 (w_Machine_collect_L271 this Q k230 n) hk230 ih v1 v2 M15 h
      · rw [if_neg b17] at h
        obtain ⟨c18, c19, h⟩ := h
        refine E_blk (lv' := [some (vr (some (6, this))), some (vi v1), some (vi v2), none, none, none, none]) (st' := [vi (mI M15 84 this ((mI M15 80 this v1.toNatClampNeg) + v2).toNatClampNeg), vr (some (6, this))]) (M1 := M15) (pc' := 312) (tb_Machine hγ) [.aload_n 0, .aload_n 0, .getfield 57, .aload_n 0, .getfield 32, .iload_n 1, .iaload, .iload_n 2, .iadd, .iaload] (by decide +kernel) rfl rfl ⟨c18, c19, trivial⟩ ?_
        refine E_callV (κ' := k_Machine_reaches) (As := [vi (mI M15 84 this ((mI M15 80 this v1.toNatClampNeg) + v2).toNatClampNeg)]) (st := []) mv_Machine_reaches (Or.inl (tbk_mem (j := 10) (k := 83) rfl)) rfl (by decide +kernel) (Nat.le_of_ble_eq_true rfl) (Nat.le_of_ble_eq_true rfl) rfl (by decide) (lk_Machine_reaches hγ this (mI M15 84 this ((mI M15 80 this v1.toNatClampNeg) + v2).toNatClampNeg) _ M15 h) (fun _ _ => Qv_r) (fun v M20 hp => Qv_k (R := fun st => E γ k_Machine_collect 3 315 [some (vr (some (6, this))), some (vi v1), some (vi v2), none, none, none, none] st M20 (Qi Q)) hp (fun h => ?_))
        refine E_mask [true, true, true, false, false, false, false] rfl ?_
        exact lk_Machine_collect_j315 hγ this Q k230 (w_Machine_collect_L271 this Q k230 n) hk230 ih v1 v2 M20 h
set_option maxRecDepth 4096 in
theorem lk_Machine_collect_L230 {γ : Gm} (hγ : Gk γ) (this : Nat) (Q : Int32 → Mem → Prop) : ∀ (n : Nat)  (M : Mem), w_Machine_collect_L230 this Q n  M → E γ k_Machine_collect 3 230 [some (vr (some (6, this))), none, none, none, none, none, none] [] M (Qi Q) := by
  intro n
  induction n with
  | zero => intro  M h; exact h.elim
  | succ n ih =>
    intro  M h
    unfold w_Machine_collect_L230 at h
    refine E_blk (lv' := [some (vr (some (6, this))), none, none, none, none, none, none]) (st' := [vi (mI M 6 this 18)]) (M1 := M) (pc' := 234) (tb_Machine hγ) [.aload_n 0, .getfield 282] (by decide +kernel) rfl rfl trivial ?_
    refine E_if_le (off := 90) (tgt := 324) (by decide +kernel) (by decide) (fun b5 => ?_) (fun b5 => ?_)
    · rw [if_pos b5] at h
      refine E_blk (lv' := [some (vr (some (6, this))), none, none, none, none, none, none]) (st' := [vr (some (6, this))]) (M1 := M) (pc' := 325) (tb_Machine hγ) [.aload_n 0] (by decide +kernel) rfl rfl trivial ?_
      refine E_callV (κ' := k_Machine_sweep) (As := []) (st := []) mv_Machine_sweep (Or.inl (tbk_mem (j := 10) (k := 88) rfl)) rfl (by decide +kernel) (Nat.le_of_ble_eq_true rfl) (Nat.le_of_ble_eq_true rfl) rfl (by decide) (lk_Machine_sweep hγ this _ M h) (fun _ _ => Qi_r) (fun v M6 hp => Qi_k (R := fun st => E γ k_Machine_collect 3 328 [some (vr (some (6, this))), none, none, none, none, none, none] st M6 (Qi Q)) hp (fun r7 h => ?_))
      exact E_iret rfl (by decide +kernel) h
    · rw [if_neg b5] at h
      obtain ⟨c8, h⟩ := h
      refine E_blk (lv' := [some (vr (some (6, this))), some (vi (mI (sI M 6 this 18 ((mI M 6 this 18) - (1 : Int32))) 82 this (mI (sI M 6 this 18 ((mI M 6 this 18) - (1 : Int32))) 6 this 18).toNatClampNeg)), none, none, none, none, none]) (st' := []) (M1 := (sI M 6 this 18 ((mI M 6 this 18) - (1 : Int32)))) (pc' := 257) (tb_Machine hγ) [.aload_n 0, .dup, .getfield 282, .iconst 1, .isub, .putfield 282, .aload_n 0, .getfield 51, .aload_n 0, .getfield 282, .iaload, .istore_n 1] (by decide +kernel) rfl rfl ⟨c8, trivial⟩ ?_
      obtain ⟨x9, ex9, h⟩ := h
      rw [← ex9]
      obtain ⟨c10, h⟩ := h
      refine E_blk (lv' := [some (vr (some (6, this))), some (vi x9), none, none, none, none, none]) (st' := [vi (mI (sI M 6 this 18 ((mI M 6 this 18) - (1 : Int32))) 79 this x9.toNatClampNeg)]) (M1 := (sI M 6 this 18 ((mI M 6 this 18) - (1 : Int32)))) (pc' := 263) (tb_Machine hγ) [.aload_n 0, .getfield 28, .iload_n 1, .iaload] (by decide +kernel) rfl rfl ⟨c10, trivial⟩ ?_
      refine E_if_ge (off := 6) (tgt := 269) (by decide +kernel) (by decide) (fun b11 => ?_) (fun b11 => ?_)
      · rw [if_pos b11] at h
        refine E_blk (lv' := [some (vr (some (6, this))), some (vi x9), some (vi (0 : Int32)), none, none, none, none]) (st' := []) (M1 := (sI M 6 this 18 ((mI M 6 this 18) - (1 : Int32)))) (pc' := 271) (tb_Machine hγ) [.iconst 0, .istore_n 2] (by decide +kernel) rfl rfl trivial ?_
        obtain ⟨n21, h⟩ := h
        refine E_mask [true, true, true, false, false, false, false] rfl ?_
        exact lk_Machine_collect_L271 hγ this Q (w_Machine_collect_L230 this Q n) ih n21 x9 (0 : Int32) (sI M 6 this 18 ((mI M 6 this 18) - (1 : Int32))) h
      · rw [if_neg b11] at h
        refine E_goto (off := -36) (tgt := 230) (by decide +kernel) (by decide) ?_
        refine E_mask [true, false, false, false, false, false, false] rfl ?_
        exact ih  (sI M 6 this 18 ((mI M 6 this 18) - (1 : Int32))) h
set_option maxRecDepth 4096 in
theorem lk_Machine_collect_j218 {γ : Gm} (hγ : Gk γ) (this : Nat) (Q : Int32 → Mem → Prop) (k121 : Int32 → Int32 → Mem → Prop) (k134 : Int32 → Int32 → Nat → Int32 → Mem → Prop) (hk121 : ∀ (v2 : Int32) (v3 : Int32) (M : Mem), k121 v2 v3 M → E γ k_Machine_collect 3 121 [some (vr (some (6, this))), some (vr (some (700, this))), some (vi v2), some (vi v3), none, none, none] [] M (Qi Q)) (hk134 : ∀ (v2 : Int32) (v3 : Int32) (v4 : Nat) (v5 : Int32) (M : Mem), k134 v2 v3 v4 v5 M → E γ k_Machine_collect 3 134 [some (vr (some (6, this))), some (vr (some (700, this))), some (vi v2), some (vi v3), some (vr (some (7, v4))), some (vi v5), none] [] M (Qi Q)) (v2 : Int32) (v3 : Int32) (v4 : Nat) (v5 : Int32) (M : Mem) (h : w_Machine_collect_j218 this Q k121 k134 v2 v3 v4 v5 M) : E γ k_Machine_collect 3 218 [some (vr (some (6, this))), some (vr (some (700, this))), some (vi v2), some (vi v3), some (vr (some (7, v4))), some (vi v5), none] [] M (Qi Q) := by
  unfold w_Machine_collect_j218 at h
  refine E_blk (lv' := [some (vr (some (6, this))), some (vr (some (700, this))), some (vi v2), some (vi v3), some (vr (some (7, v4))), some (vi (v5 + (1 : Int32))), none]) (st' := []) (M1 := M) (pc' := 221) (tb_Machine hγ) [.iinc 5 1] (by decide +kernel) rfl rfl trivial ?_
  refine E_goto (off := -87) (tgt := 134) (by decide +kernel) (by decide) ?_
  refine E_mask [true, true, true, true, true, true, false] rfl ?_
  exact hk134 v2 v3 v4 (v5 + (1 : Int32)) M h
set_option maxRecDepth 4096 in
theorem lk_Machine_collect_j212 {γ : Gm} (hγ : Gk γ) (this : Nat) (Q : Int32 → Mem → Prop) (k121 : Int32 → Int32 → Mem → Prop) (k134 : Int32 → Int32 → Nat → Int32 → Mem → Prop) (k161 : Int32 → Int32 → Nat → Int32 → Int32 → Mem → Prop) (hk121 : ∀ (v2 : Int32) (v3 : Int32) (M : Mem), k121 v2 v3 M → E γ k_Machine_collect 3 121 [some (vr (some (6, this))), some (vr (some (700, this))), some (vi v2), some (vi v3), none, none, none] [] M (Qi Q)) (hk134 : ∀ (v2 : Int32) (v3 : Int32) (v4 : Nat) (v5 : Int32) (M : Mem), k134 v2 v3 v4 v5 M → E γ k_Machine_collect 3 134 [some (vr (some (6, this))), some (vr (some (700, this))), some (vi v2), some (vi v3), some (vr (some (7, v4))), some (vi v5), none] [] M (Qi Q)) (hk161 : ∀ (v2 : Int32) (v3 : Int32) (v4 : Nat) (v5 : Int32) (v6 : Int32) (M : Mem), k161 v2 v3 v4 v5 v6 M → E γ k_Machine_collect 3 161 [some (vr (some (6, this))), some (vr (some (700, this))), some (vi v2), some (vi v3), some (vr (some (7, v4))), some (vi v5), some (vi v6)] [] M (Qi Q)) (v2 : Int32) (v3 : Int32) (v4 : Nat) (v5 : Int32) (v6 : Int32) (M : Mem) (h : w_Machine_collect_j212 this Q k121 k134 k161 v2 v3 v4 v5 v6 M) : E γ k_Machine_collect 3 212 [some (vr (some (6, this))), some (vr (some (700, this))), some (vi v2), some (vi v3), some (vr (some (7, v4))), some (vi v5), some (vi v6)] [] M (Qi Q) := by
  unfold w_Machine_collect_j212 at h
  refine E_blk (lv' := [some (vr (some (6, this))), some (vr (some (700, this))), some (vi v2), some (vi v3), some (vr (some (7, v4))), some (vi v5), some (vi (v6 + (1 : Int32)))]) (st' := []) (M1 := M) (pc' := 215) (tb_Machine hγ) [.iinc 6 1] (by decide +kernel) rfl rfl trivial ?_
  refine E_goto (off := -54) (tgt := 161) (by decide +kernel) (by decide) ?_
  refine E_mask [true, true, true, true, true, true, true] rfl ?_
  exact hk161 v2 v3 v4 v5 (v6 + (1 : Int32)) M h
set_option maxRecDepth 4096 in
theorem lk_Machine_collect_L161 {γ : Gm} (hγ : Gk γ) (this : Nat) (Q : Int32 → Mem → Prop) (k121 : Int32 → Int32 → Mem → Prop) (k134 : Int32 → Int32 → Nat → Int32 → Mem → Prop) (hk121 : ∀ (v2 : Int32) (v3 : Int32) (M : Mem), k121 v2 v3 M → E γ k_Machine_collect 3 121 [some (vr (some (6, this))), some (vr (some (700, this))), some (vi v2), some (vi v3), none, none, none] [] M (Qi Q)) (hk134 : ∀ (v2 : Int32) (v3 : Int32) (v4 : Nat) (v5 : Int32) (M : Mem), k134 v2 v3 v4 v5 M → E γ k_Machine_collect 3 134 [some (vr (some (6, this))), some (vr (some (700, this))), some (vi v2), some (vi v3), some (vr (some (7, v4))), some (vi v5), none] [] M (Qi Q)) : ∀ (n : Nat) (v2 : Int32) (v3 : Int32) (v4 : Nat) (v5 : Int32) (v6 : Int32) (M : Mem), w_Machine_collect_L161 this Q k121 k134 n v2 v3 v4 v5 v6 M → E γ k_Machine_collect 3 161 [some (vr (some (6, this))), some (vr (some (700, this))), some (vi v2), some (vi v3), some (vr (some (7, v4))), some (vi v5), some (vi v6)] [] M (Qi Q) := by
  intro n
  induction n with
  | zero => intro v2 v3 v4 v5 v6 M h; exact h.elim
  | succ n ih =>
    intro v2 v3 v4 v5 v6 M h
    unfold w_Machine_collect_L161 at h
    obtain ⟨c28, h⟩ := h
    refine E_blk (lv' := [some (vr (some (6, this))), some (vr (some (700, this))), some (vi v2), some (vi v3), some (vr (some (7, v4))), some (vi v5), some (vi v6)]) (st' := [vi ((20 : Int32) + (mI M 91 v4 v5.toNatClampNeg)), vi v6]) (M1 := M) (pc' := 174) (tb_Machine hγ) [.iload 6, .bipush 20, .aload 4, .getfield 233, .iload 5, .iaload, .iadd] (by decide +kernel) rfl rfl ⟨c28, trivial⟩ ?_
    refine E_icmp_ge (off := 44) (tgt := 218) (by decide +kernel) (by decide) (fun b29 => ?_) (fun b29 => ?_)
    · rw [if_pos b29] at h
      refine E_mask [true, true, true, true, true, true, false] rfl ?_
      exact lk_Machine_collect_j218 hγ this Q k121 k134 hk121 hk134 v2 v3 v4 v5 M h
    · rw [if_neg b29] at h
      obtain ⟨c30, h⟩ := h
      refine E_blk (lv' := [some (vr (some (6, this))), some (vr (some (700, this))), some (vi v2), some (vi v3), some (vr (some (7, v4))), some (vi v5), some (vi v6)]) (st' := [vi (mI M 514 v4 (((40 : Int32) * v5) + v6).toNatClampNeg)]) (M1 := M) (pc' := 191) (tb_Machine hγ) [.aload 4, .getfield 221, .bipush 40, .iload 5, .imul, .iload 6, .iadd, .baload] (by decide +kernel) rfl rfl ⟨c30, trivial⟩ ?_
      refine E_if_eq (off := 21) (tgt := 212) (by decide +kernel) (by decide) (fun b31 => ?_) (fun b31 => ?_)
      · rw [if_pos b31] at h
        refine E_mask [true, true, true, true, true, true, true] rfl ?_
        exact lk_Machine_collect_j212 hγ this Q k121 k134 (w_Machine_collect_L161 this Q k121 k134 n) hk121 hk134 ih v2 v3 v4 v5 v6 M h
      · rw [if_neg b31] at h
        obtain ⟨c32, h⟩ := h
        refine E_blk (lv' := [some (vr (some (6, this))), some (vr (some (700, this))), some (vi v2), some (vi v3), some (vr (some (7, v4))), some (vi v5), some (vi v6)]) (st' := [vi (mI M 94 v4 (((40 : Int32) * v5) + v6).toNatClampNeg), vr (some (6, this))]) (M1 := M) (pc' := 209) (tb_Machine hγ) [.aload_n 0, .aload 4, .getfield 218, .bipush 40, .iload 5, .imul, .iload 6, .iadd, .iaload] (by decide +kernel) rfl rfl ⟨c32, trivial⟩ ?_
        refine E_callV (κ' := k_Machine_reaches) (As := [vi (mI M 94 v4 (((40 : Int32) * v5) + v6).toNatClampNeg)]) (st := []) mv_Machine_reaches (Or.inl (tbk_mem (j := 10) (k := 83) rfl)) rfl (by decide +kernel) (Nat.le_of_ble_eq_true rfl) (Nat.le_of_ble_eq_true rfl) rfl (by decide) (lk_Machine_reaches hγ this (mI M 94 v4 (((40 : Int32) * v5) + v6).toNatClampNeg) _ M h) (fun _ _ => Qv_r) (fun v M33 hp => Qv_k (R := fun st => E γ k_Machine_collect 3 212 [some (vr (some (6, this))), some (vr (some (700, this))), some (vi v2), some (vi v3), some (vr (some (7, v4))), some (vi v5), some (vi v6)] st M33 (Qi Q)) hp (fun h => ?_))
        refine E_mask [true, true, true, true, true, true, true] rfl ?_
        exact lk_Machine_collect_j212 hγ this Q k121 k134 (w_Machine_collect_L161 this Q k121 k134 n) hk121 hk134 ih v2 v3 v4 v5 v6 M33 h
set_option maxRecDepth 4096 in
theorem lk_Machine_collect_L134 {γ : Gm} (hγ : Gk γ) (this : Nat) (Q : Int32 → Mem → Prop) (k121 : Int32 → Int32 → Mem → Prop) (hk121 : ∀ (v2 : Int32) (v3 : Int32) (M : Mem), k121 v2 v3 M → E γ k_Machine_collect 3 121 [some (vr (some (6, this))), some (vr (some (700, this))), some (vi v2), some (vi v3), none, none, none] [] M (Qi Q)) : ∀ (n : Nat) (v2 : Int32) (v3 : Int32) (v4 : Nat) (v5 : Int32) (M : Mem), w_Machine_collect_L134 this Q k121 n v2 v3 v4 v5 M → E γ k_Machine_collect 3 134 [some (vr (some (6, this))), some (vr (some (700, this))), some (vi v2), some (vi v3), some (vr (some (7, v4))), some (vi v5), none] [] M (Qi Q) := by
  intro n
  induction n with
  | zero => intro v2 v3 v4 v5 M h; exact h.elim
  | succ n ih =>
    intro v2 v3 v4 v5 M h
    unfold w_Machine_collect_L134 at h
    refine E_blk (lv' := [some (vr (some (6, this))), some (vr (some (700, this))), some (vi v2), some (vi v3), some (vr (some (7, v4))), some (vi v5), none]) (st' := [vi (mI M 7 v4 1), vi v5]) (M1 := M) (pc' := 141) (tb_Machine hγ) [.iload 5, .aload 4, .getfield 152] (by decide +kernel) rfl rfl trivial ?_
    refine E_icmp_ge (off := 83) (tgt := 224) (by decide +kernel) (by decide) (fun b25 => ?_) (fun b25 => ?_)
    · rw [if_pos b25] at h
      refine E_blk (lv' := [some (vr (some (6, this))), some (vr (some (700, this))), some (vi v2), some (vi (v3 + (1 : Int32))), some (vr (some (7, v4))), some (vi v5), none]) (st' := []) (M1 := M) (pc' := 227) (tb_Machine hγ) [.iinc 3 1] (by decide +kernel) rfl rfl trivial ?_
      refine E_goto (off := -106) (tgt := 121) (by decide +kernel) (by decide) ?_
      refine E_mask [true, true, true, true, false, false, false] rfl ?_
      exact hk121 v2 (v3 + (1 : Int32)) M h
    · rw [if_neg b25] at h
      obtain ⟨c26, h⟩ := h
      refine E_blk (lv' := [some (vr (some (6, this))), some (vr (some (700, this))), some (vi v2), some (vi v3), some (vr (some (7, v4))), some (vi v5), none]) (st' := [vi (mI M 92 v4 v5.toNatClampNeg)]) (M1 := M) (pc' := 152) (tb_Machine hγ) [.aload 4, .getfield 155, .iload 5, .iaload] (by decide +kernel) rfl rfl ⟨c26, trivial⟩ ?_
      refine E_if_lt (off := 6) (tgt := 158) (by decide +kernel) (by decide) (fun b27 => ?_) (fun b27 => ?_)
      · rw [if_pos b27] at h
        refine E_blk (lv' := [some (vr (some (6, this))), some (vr (some (700, this))), some (vi v2), some (vi v3), some (vr (some (7, v4))), some (vi v5), some (vi (0 : Int32))]) (st' := []) (M1 := M) (pc' := 161) (tb_Machine hγ) [.iconst 0, .istore 6] (by decide +kernel) rfl rfl trivial ?_
        obtain ⟨n34, h⟩ := h
        refine E_mask [true, true, true, true, true, true, true] rfl ?_
        exact lk_Machine_collect_L161 hγ this Q k121 (w_Machine_collect_L134 this Q k121 n) hk121 ih n34 v2 v3 v4 v5 (0 : Int32) M h
      · rw [if_neg b27] at h
        refine E_goto (off := 63) (tgt := 218) (by decide +kernel) (by decide) ?_
        refine E_mask [true, true, true, true, true, true, false] rfl ?_
        exact lk_Machine_collect_j218 hγ this Q k121 (w_Machine_collect_L134 this Q k121 n) hk121 ih v2 v3 v4 v5 M h
set_option maxRecDepth 4096 in
theorem lk_Machine_collect_L121 {γ : Gm} (hγ : Gk γ) (this : Nat) (Q : Int32 → Mem → Prop) : ∀ (n : Nat) (v2 : Int32) (v3 : Int32) (M : Mem), w_Machine_collect_L121 this Q n v2 v3 M → E γ k_Machine_collect 3 121 [some (vr (some (6, this))), some (vr (some (700, this))), some (vi v2), some (vi v3), none, none, none] [] M (Qi Q) := by
  intro n
  induction n with
  | zero => intro v2 v3 M h; exact h.elim
  | succ n ih =>
    intro v2 v3 M h
    unfold w_Machine_collect_L121 at h
    refine E_blk (lv' := [some (vr (some (6, this))), some (vr (some (700, this))), some (vi v2), some (vi v3), none, none, none]) (st' := [vi v2, vi v3]) (M1 := M) (pc' := 123) (tb_Machine hγ) [.iload_n 3, .iload_n 2] (by decide +kernel) rfl rfl trivial ?_
    refine E_icmp_ge (off := 107) (tgt := 230) (by decide +kernel) (by decide) (fun b4 => ?_) (fun b4 => ?_)
    · rw [if_pos b4] at h
      obtain ⟨n22, h⟩ := h
      refine E_mask [true, false, false, false, false, false, false] rfl ?_
      exact lk_Machine_collect_L230 hγ this Q n22  M h
    · rw [if_neg b4] at h
      obtain ⟨c23, h⟩ := h
      refine E_blk (lv' := [some (vr (some (6, this))), some (vr (some (700, this))), some (vi v2), some (vi v3), none, none, none]) (st' := [vr (mR M 700 this v3.toNatClampNeg)]) (M1 := M) (pc' := 129) (tb_Machine hγ) [.aload_n 1, .iload_n 3, .aaload] (by decide +kernel) rfl rfl ⟨c23, trivial⟩ ?_
      obtain ⟨i24, ei24, h⟩ := h
      rw [ei24]
      refine E_blk (lv' := [some (vr (some (6, this))), some (vr (some (700, this))), some (vi v2), some (vi v3), some (vr (some (7, i24))), some (vi (0 : Int32)), none]) (st' := []) (M1 := M) (pc' := 134) (tb_Machine hγ) [.astore 4, .iconst 0, .istore 5] (by decide +kernel) rfl rfl trivial ?_
      obtain ⟨n35, h⟩ := h
      refine E_mask [true, true, true, true, true, true, false] rfl ?_
      exact lk_Machine_collect_L134 hγ this Q (w_Machine_collect_L121 this Q n) ih n35 v2 v3 i24 (0 : Int32) M h
set_option maxRecDepth 4096 in
theorem lk_Machine_collect_j99 {γ : Gm} (hγ : Gk γ) (this : Nat) (Q : Int32 → Mem → Prop) (k16 : Int32 → Mem → Prop) (k37 : Int32 → Int32 → Mem → Prop) (hk16 : ∀ (v1 : Int32) (M : Mem), k16 v1 M → E γ k_Machine_collect 3 16 [some (vr (some (6, this))), some (vi v1), none, none, none, none, none] [] M (Qi Q)) (hk37 : ∀ (v1 : Int32) (v2 : Int32) (M : Mem), k37 v1 v2 M → E γ k_Machine_collect 3 37 [some (vr (some (6, this))), some (vi v1), some (vi v2), none, none, none, none] [] M (Qi Q)) (v1 : Int32) (v2 : Int32) (M : Mem) (h : w_Machine_collect_j99 this Q k16 k37 v1 v2 M) : E γ k_Machine_collect 3 99 [some (vr (some (6, this))), some (vi v1), some (vi v2), none, none, none, none] [] M (Qi Q) := by
  unfold w_Machine_collect_j99 at h
  refine E_blk (lv' := [some (vr (some (6, this))), some (vi v1), some (vi (v2 + (1 : Int32))), none, none, none, none]) (st' := []) (M1 := M) (pc' := 102) (tb_Machine hγ) [.iinc 2 1] (by decide +kernel) rfl rfl trivial ?_
  refine E_goto (off := -65) (tgt := 37) (by decide +kernel) (by decide) ?_
  refine E_mask [true, true, true, false, false, false, false] rfl ?_
  exact hk37 v1 (v2 + (1 : Int32)) M h
set_option maxRecDepth 4096 in
theorem lk_Machine_collect_L37 {γ : Gm} (hγ : Gk γ) (this : Nat) (Q : Int32 → Mem → Prop) (k16 : Int32 → Mem → Prop) (hk16 : ∀ (v1 : Int32) (M : Mem), k16 v1 M → E γ k_Machine_collect 3 16 [some (vr (some (6, this))), some (vi v1), none, none, none, none, none] [] M (Qi Q)) : ∀ (n : Nat) (v1 : Int32) (v2 : Int32) (M : Mem), w_Machine_collect_L37 this Q k16 n v1 v2 M → E γ k_Machine_collect 3 37 [some (vr (some (6, this))), some (vi v1), some (vi v2), none, none, none, none] [] M (Qi Q) := by
  intro n
  induction n with
  | zero => intro v1 v2 M h; exact h.elim
  | succ n ih =>
    intro v1 v2 M h
    unfold w_Machine_collect_L37 at h
    obtain ⟨c38, c39, h⟩ := h
    refine E_blk (lv' := [some (vr (some (6, this))), some (vi v1), some (vi v2), none, none, none, none]) (st' := [vi ((mI M 41 this v1.toNatClampNeg) + (mI M 42 this v1.toNatClampNeg)), vi v2]) (M1 := M) (pc' := 57) (tb_Machine hγ) [.iload_n 2, .aload_n 0, .getfield 84, .getfield 252, .iload_n 1, .iaload, .aload_n 0, .getfield 84, .getfield 255, .iload_n 1, .iaload, .iadd] (by decide +kernel) rfl rfl ⟨c38, c39, trivial⟩ ?_
    refine E_icmp_ge (off := 48) (tgt := 105) (by decide +kernel) (by decide) (fun b40 => ?_) (fun b40 => ?_)
    · rw [if_pos b40] at h
      refine E_blk (lv' := [some (vr (some (6, this))), some (vi (v1 + (1 : Int32))), some (vi v2), none, none, none, none]) (st' := []) (M1 := M) (pc' := 108) (tb_Machine hγ) [.iinc 1 1] (by decide +kernel) rfl rfl trivial ?_
      refine E_goto (off := -92) (tgt := 16) (by decide +kernel) (by decide) ?_
      refine E_mask [true, true, false, false, false, false, false] rfl ?_
      exact hk16 (v1 + (1 : Int32)) M h
    · rw [if_neg b40] at h
      obtain ⟨c41, h⟩ := h
      refine E_blk (lv' := [some (vr (some (6, this))), some (vi v1), some (vi v2), none, none, none, none]) (st' := [vi ((mI M 51 this v2.toNatClampNeg) &&& (1 : Int32))]) (M1 := M) (pc' := 71) (tb_Machine hγ) [.aload_n 0, .getfield 84, .getfield 288, .iload_n 2, .iaload, .iconst 1, .iand] (by decide +kernel) rfl rfl ⟨c41, trivial⟩ ?_
      refine E_if_eq (off := 28) (tgt := 99) (by decide +kernel) (by decide) (fun b42 => ?_) (fun b42 => ?_)
      · rw [if_pos b42] at h
        refine E_mask [true, true, true, false, false, false, false] rfl ?_
        exact lk_Machine_collect_j99 hγ this Q k16 (w_Machine_collect_L37 this Q k16 n) hk16 ih v1 v2 M h
      · rw [if_neg b42] at h
        obtain ⟨c43, h⟩ := h
        refine E_blk (lv' := [some (vr (some (6, this))), some (vi v1), some (vi v2), none, none, none, none]) (st' := [vi (mI M 50 this v2.toNatClampNeg)]) (M1 := M) (pc' := 83) (tb_Machine hγ) [.aload_n 0, .getfield 84, .getfield 291, .iload_n 2, .iaload] (by decide +kernel) rfl rfl ⟨c43, trivial⟩ ?_
        refine E_if_eq (off := 16) (tgt := 99) (by decide +kernel) (by decide) (fun b44 => ?_) (fun b44 => ?_)
        · rw [if_pos b44] at h
          refine E_mask [true, true, true, false, false, false, false] rfl ?_
          exact lk_Machine_collect_j99 hγ this Q k16 (w_Machine_collect_L37 this Q k16 n) hk16 ih v1 v2 M h
        · rw [if_neg b44] at h
          obtain ⟨c45, h⟩ := h
          refine E_blk (lv' := [some (vr (some (6, this))), some (vi v1), some (vi v2), none, none, none, none]) (st' := [vi (mI M 54 this v2.toNatClampNeg), vr (some (6, this))]) (M1 := M) (pc' := 96) (tb_Machine hγ) [.aload_n 0, .aload_n 0, .getfield 84, .getfield 258, .iload_n 2, .iaload] (by decide +kernel) rfl rfl ⟨c45, trivial⟩ ?_
          refine E_callV (κ' := k_Machine_reaches) (As := [vi (mI M 54 this v2.toNatClampNeg)]) (st := []) mv_Machine_reaches (Or.inl (tbk_mem (j := 10) (k := 83) rfl)) rfl (by decide +kernel) (Nat.le_of_ble_eq_true rfl) (Nat.le_of_ble_eq_true rfl) rfl (by decide) (lk_Machine_reaches hγ this (mI M 54 this v2.toNatClampNeg) _ M h) (fun _ _ => Qv_r) (fun v M46 hp => Qv_k (R := fun st => E γ k_Machine_collect 3 99 [some (vr (some (6, this))), some (vi v1), some (vi v2), none, none, none, none] st M46 (Qi Q)) hp (fun h => ?_))
          refine E_mask [true, true, true, false, false, false, false] rfl ?_
          exact lk_Machine_collect_j99 hγ this Q k16 (w_Machine_collect_L37 this Q k16 n) hk16 ih v1 v2 M46 h
set_option maxRecDepth 4096 in
theorem lk_Machine_collect_L16 {γ : Gm} (hγ : Gk γ) (this : Nat) (Q : Int32 → Mem → Prop) : ∀ (n : Nat) (v1 : Int32) (M : Mem), w_Machine_collect_L16 this Q n v1 M → E γ k_Machine_collect 3 16 [some (vr (some (6, this))), some (vi v1), none, none, none, none, none] [] M (Qi Q) := by
  intro n
  induction n with
  | zero => intro v1 M h; exact h.elim
  | succ n ih =>
    intro v1 M h
    unfold w_Machine_collect_L16 at h
    refine E_blk (lv' := [some (vr (some (6, this))), some (vi v1), none, none, none, none, none]) (st' := [vi (mI M 5 this 2), vi v1]) (M1 := M) (pc' := 24) (tb_Machine hγ) [.iload_n 1, .aload_n 0, .getfield 84, .getfield 285] (by decide +kernel) rfl rfl trivial ?_
    refine E_icmp_ge (off := 87) (tgt := 111) (by decide +kernel) (by decide) (fun b3 => ?_) (fun b3 => ?_)
    · rw [if_pos b3] at h
      refine E_blk (lv' := [some (vr (some (6, this))), some (vr (some (700, this))), some (vi (Int32.ofNat (mL M 700 this))), some (vi (0 : Int32)), none, none, none]) (st' := []) (M1 := M) (pc' := 121) (tb_Machine hγ) [.aload_n 0, .getfield 20, .astore_n 1, .aload_n 1, .arraylength, .istore_n 2, .iconst 0, .istore_n 3] (by decide +kernel) rfl rfl trivial ?_
      obtain ⟨n36, h⟩ := h
      refine E_mask [true, true, true, true, false, false, false] rfl ?_
      exact lk_Machine_collect_L121 hγ this Q n36 (Int32.ofNat (mL M 700 this)) (0 : Int32) M h
    · rw [if_neg b3] at h
      obtain ⟨c37, h⟩ := h
      refine E_blk (lv' := [some (vr (some (6, this))), some (vi v1), some (vi (mI M 41 this v1.toNatClampNeg)), none, none, none, none]) (st' := []) (M1 := M) (pc' := 37) (tb_Machine hγ) [.aload_n 0, .getfield 84, .getfield 252, .iload_n 1, .iaload, .istore_n 2] (by decide +kernel) rfl rfl ⟨c37, trivial⟩ ?_
      obtain ⟨n47, h⟩ := h
      refine E_mask [true, true, true, false, false, false, false] rfl ?_
      exact lk_Machine_collect_L37 hγ this Q (w_Machine_collect_L16 this Q n) ih n47 v1 (mI M 41 this v1.toNatClampNeg) M h
set_option maxRecDepth 4096 in
theorem lk_Machine_collect {γ : Gm} (hγ : Gk γ) (this : Nat) (Q : Int32 → Mem → Prop) (M : Mem) (h : w_Machine_collect this Q M) : E γ k_Machine_collect 3 0 [some (vr (some (6, this))), none, none, none, none, none, none] [] M (Qi Q) := by
  unfold w_Machine_collect at h
  refine E_blk (lv' := [some (vr (some (6, this))), none, none, none, none, none, none]) (st' := [vi (0 : Int32), vr (some (513, this))]) (M1 := M) (pc' := 5) (tb_Machine hγ) [.aload_n 0, .getfield 48, .iconst 0] (by decide +kernel) rfl rfl trivial ?_
  obtain ⟨c2, M1, eM1, h⟩ := h
  refine E_fillZ (st := []) (by decide) (by decide) (by decide) c2 (tbk_mem (j := 6) (k := 24) rfl) (by decide +kernel) (Nat.le_of_ble_eq_true rfl) ?_
  rw [← eM1]
  refine E_blk (lv' := [some (vr (some (6, this))), some (vi (21 : Int32)), none, none, none, none, none]) (st' := []) (M1 := (sI M1 6 this 18 (0 : Int32))) (pc' := 16) (tb_Machine hγ) [.aload_n 0, .iconst 0, .putfield 282, .bipush 21, .istore_n 1] (by decide +kernel) rfl rfl trivial ?_
  obtain ⟨n48, h⟩ := h
  refine E_mask [true, true, false, false, false, false, false] rfl ?_
  exact lk_Machine_collect_L16 hγ this Q n48 (21 : Int32) (sI M1 6 this 18 (0 : Int32)) h
def w_Works_collect (this : Nat) (a1 : Int32) (Q : Int32 → Mem → Prop) (M : Mem) : Prop :=
  w_Works_isWorld this a1 (fun r2 M1 => if r2 = 0 then (Q (-1 : Int32) M1) else (vp_in a1 (mL M1 702 0) ∧ ∃ i5, (mR M1 702 0 a1.toNatClampNeg) = some (5, i5) ∧ w_Machine_collect i5 (fun r7 M6 => Q r7 M6) M1)) M
set_option maxRecDepth 4096 in
theorem lk_Works_collect {γ : Gm} (hγ : Gk γ) (this : Nat) (a1 : Int32) (Q : Int32 → Mem → Prop) (M : Mem) (h : w_Works_collect this a1 Q M) : E γ k_Works_collect 4 0 [some (vr (some (10, this))), some (vi a1)] [] M (Qi Q) := by
  unfold w_Works_collect at h
  refine E_blk (lv' := [some (vr (some (10, this))), some (vi a1)]) (st' := [vi a1, vr (some (10, this))]) (M1 := M) (pc' := 2) (tb_Works hγ) [.aload_n 0, .iload_n 1] (by decide +kernel) rfl rfl trivial ?_
  refine E_callV (κ' := k_Works_isWorld) (As := [vi a1]) (st := []) mv_Works_isWorld (Or.inl (tbk_mem (j := 6) (k := 32) rfl)) rfl (by decide +kernel) (Nat.le_of_ble_eq_true rfl) (Nat.le_of_ble_eq_true rfl) rfl (by decide) (lk_Works_isWorld hγ this a1 _ M h) (fun _ _ => Qi_r) (fun v M1 hp => Qi_k (R := fun st => E γ k_Works_collect 4 5 [some (vr (some (10, this))), some (vi a1)] st M1 (Qi Q)) hp (fun r2 h => ?_))
  refine E_if_eq (off := 18) (tgt := 23) (by decide +kernel) (by decide) (fun b3 => ?_) (fun b3 => ?_)
  · rw [if_pos b3] at h
    refine E_blk (lv' := [some (vr (some (10, this))), some (vi a1)]) (st' := [vi (-1 : Int32)]) (M1 := M1) (pc' := 24) (tb_Works hγ) [.iconst (.negSucc 0)] (by decide +kernel) rfl rfl trivial ?_
    exact E_iret rfl (by decide +kernel) h
  · rw [if_neg b3] at h
    obtain ⟨c4, h⟩ := h
    refine E_blk (lv' := [some (vr (some (10, this))), some (vi a1)]) (st' := [vr (mR M1 702 0 a1.toNatClampNeg)]) (M1 := M1) (pc' := 14) (tb_Works hγ) [.aload_n 0, .getfield 85, .iload_n 1, .aaload] (by decide +kernel) rfl rfl ⟨c4, trivial⟩ ?_
    obtain ⟨i5, ei5, h⟩ := h
    rw [ei5]
    refine E_blk (lv' := [some (vr (some (10, this))), some (vi a1)]) (st' := [vr (some (6, i5))]) (M1 := M1) (pc' := 17) (tb_Works hγ) [.getfield 141] (by decide +kernel) rfl rfl trivial ?_
    refine E_callV (κ' := k_Machine_collect) (As := []) (st := []) mv_Machine_collect (Or.inl (tbk_mem (j := 10) (k := 79) rfl)) rfl (by decide +kernel) (Nat.le_of_ble_eq_true rfl) (Nat.le_of_ble_eq_true rfl) rfl (by decide) (lk_Machine_collect hγ i5 _ M1 h) (fun _ _ => Qi_r) (fun v M6 hp => Qi_k (R := fun st => E γ k_Works_collect 4 20 [some (vr (some (10, this))), some (vi a1)] st M6 (Qi Q)) hp (fun r7 h => ?_))
    refine E_goto (off := 4) (tgt := 24) (by decide +kernel) (by decide) ?_
    exact E_iret rfl (by decide +kernel) h
def w_Works_hasField_j123 (this : Nat) (Q : Int32 → Mem → Prop) (k9 : Nat → Int32 → Nat → Int32 → Int32 → Mem → Prop) (v1 : Nat) (v2 : Int32) (v3 : Nat) (v4 : Int32) (v5 : Int32) (M : Mem) : Prop :=
  k9 v1 v2 v3 v4 (v5 + (1 : Int32)) M
def w_Works_hasField_j82 (this : Nat) (Q : Int32 → Mem → Prop) (k9 : Nat → Int32 → Nat → Int32 → Int32 → Mem → Prop) (v1 : Nat) (v2 : Int32) (v3 : Nat) (v4 : Int32) (v5 : Int32) (s0 : Int32) (M : Mem) : Prop :=
  if s0 = 0 then (w_Works_hasField_j123 this Q k9 v1 v2 v3 v4 v5 M) else (vp_in v2 (mL M 511 v1) ∧ vp_in v5 (mL M 511 v3) ∧ if (mI M 511 v1 v2.toNatClampNeg) = (mI M 511 v3 v5.toNatClampNeg) then (vp_in v2 (mL M 52 v1) ∧ vp_in v5 (mL M 52 v3) ∧ if (mI M 52 v1 v2.toNatClampNeg) = (mI M 52 v3 v5.toNatClampNeg) then (Q (1 : Int32) M) else (w_Works_hasField_j123 this Q k9 v1 v2 v3 v4 v5 M)) else (w_Works_hasField_j123 this Q k9 v1 v2 v3 v4 v5 M))
def w_Works_hasField_j81 (this : Nat) (Q : Int32 → Mem → Prop) (k9 : Nat → Int32 → Nat → Int32 → Int32 → Mem → Prop) (v1 : Nat) (v2 : Int32) (v3 : Nat) (v4 : Int32) (v5 : Int32) (M : Mem) : Prop :=
  w_Works_hasField_j82 this Q k9 v1 v2 v3 v4 v5 (0 : Int32) M
def w_Works_hasField_L9 (this : Nat) (Q : Int32 → Mem → Prop) : Nat → Nat → Int32 → Nat → Int32 → Int32 → Mem → Prop
  | 0, _, _, _, _, _, _ => False
  | n + 1, v1, v2, v3, v4, v5, M => vp_in v4 (mL M 41 v3) ∧ vp_in v4 (mL M 42 v3) ∧ if ((mI M 41 v3 v4.toNatClampNeg) + (mI M 42 v3 v4.toNatClampNeg)) ≤ v5 then (Q (0 : Int32) M) else (vp_in v2 (mL M 49 v1) ∧ vp_in v5 (mL M 49 v3) ∧ if (mI M 49 v1 v2.toNatClampNeg) = (mI M 49 v3 v5.toNatClampNeg) then (vp_in v2 (mL M 50 v1) ∧ vp_in v5 (mL M 50 v3) ∧ if (mI M 50 v1 v2.toNatClampNeg) = (mI M 50 v3 v5.toNatClampNeg) then (vp_in v2 (mL M 51 v1) ∧ vp_in v5 (mL M 51 v3) ∧ if (mI M 51 v1 v2.toNatClampNeg) = (mI M 51 v3 v5.toNatClampNeg) then (w_Works_hasField_j82 this Q (w_Works_hasField_L9 this Q n) v1 v2 v3 v4 v5 (1 : Int32) M) else (w_Works_hasField_j81 this Q (w_Works_hasField_L9 this Q n) v1 v2 v3 v4 v5 M)) else (w_Works_hasField_j81 this Q (w_Works_hasField_L9 this Q n) v1 v2 v3 v4 v5 M)) else (w_Works_hasField_j81 this Q (w_Works_hasField_L9 this Q n) v1 v2 v3 v4 v5 M))
def w_Works_hasField (this : Nat) (a1 : Nat) (a2 : Int32) (a3 : Nat) (a4 : Int32) (Q : Int32 → Mem → Prop) (M : Mem) : Prop :=
  vp_in a4 (mL M 41 a3) ∧ ∃ n21 : Nat, w_Works_hasField_L9 this Q n21 a1 a2 a3 a4 (mI M 41 a3 a4.toNatClampNeg) M
set_option maxRecDepth 4096 in
theorem lk_Works_hasField_j123 {γ : Gm} (hγ : Gk γ) (this : Nat) (Q : Int32 → Mem → Prop) (k9 : Nat → Int32 → Nat → Int32 → Int32 → Mem → Prop) (hk9 : ∀ (v1 : Nat) (v2 : Int32) (v3 : Nat) (v4 : Int32) (v5 : Int32) (M : Mem), k9 v1 v2 v3 v4 v5 M → E γ k_Works_hasField 0 9 [none, some (vr (some (5, v1))), some (vi v2), some (vr (some (5, v3))), some (vi v4), some (vi v5), none] [] M (Qi Q)) (v1 : Nat) (v2 : Int32) (v3 : Nat) (v4 : Int32) (v5 : Int32) (M : Mem) (h : w_Works_hasField_j123 this Q k9 v1 v2 v3 v4 v5 M) : E γ k_Works_hasField 0 123 [none, some (vr (some (5, v1))), some (vi v2), some (vr (some (5, v3))), some (vi v4), some (vi v5), none] [] M (Qi Q) := by
  unfold w_Works_hasField_j123 at h
  refine E_blk (lv' := [none, some (vr (some (5, v1))), some (vi v2), some (vr (some (5, v3))), some (vi v4), some (vi (v5 + (1 : Int32))), none]) (st' := []) (M1 := M) (pc' := 126) (tb_Works hγ) [.iinc 5 1] (by decide +kernel) rfl rfl trivial ?_
  refine E_goto (off := -117) (tgt := 9) (by decide +kernel) (by decide) ?_
  refine E_mask [false, true, true, true, true, true, false] rfl ?_
  exact hk9 v1 v2 v3 v4 (v5 + (1 : Int32)) M h
set_option maxRecDepth 4096 in
theorem lk_Works_hasField_j82 {γ : Gm} (hγ : Gk γ) (this : Nat) (Q : Int32 → Mem → Prop) (k9 : Nat → Int32 → Nat → Int32 → Int32 → Mem → Prop) (hk9 : ∀ (v1 : Nat) (v2 : Int32) (v3 : Nat) (v4 : Int32) (v5 : Int32) (M : Mem), k9 v1 v2 v3 v4 v5 M → E γ k_Works_hasField 0 9 [none, some (vr (some (5, v1))), some (vi v2), some (vr (some (5, v3))), some (vi v4), some (vi v5), none] [] M (Qi Q)) (v1 : Nat) (v2 : Int32) (v3 : Nat) (v4 : Int32) (v5 : Int32) (s0 : Int32) (M : Mem) (h : w_Works_hasField_j82 this Q k9 v1 v2 v3 v4 v5 s0 M) : E γ k_Works_hasField 0 82 [none, some (vr (some (5, v1))), some (vi v2), some (vr (some (5, v3))), some (vi v4), some (vi v5), none] [vi s0] M (Qi Q) := by
  unfold w_Works_hasField_j82 at h
  refine E_blk (lv' := [none, some (vr (some (5, v1))), some (vi v2), some (vr (some (5, v3))), some (vi v4), some (vi v5), some (vi s0)]) (st' := [vi s0]) (M1 := M) (pc' := 86) (tb_Works hγ) [.istore 6, .iload 6] (by decide +kernel) rfl rfl trivial ?_
  refine E_if_eq (off := 37) (tgt := 123) (by decide +kernel) (by decide) (fun b14 => ?_) (fun b14 => ?_)
  · rw [if_pos b14] at h
    refine E_mask [false, true, true, true, true, true, false] rfl ?_
    exact lk_Works_hasField_j123 hγ this Q k9 hk9 v1 v2 v3 v4 v5 M h
  · rw [if_neg b14] at h
    obtain ⟨c15, c16, h⟩ := h
    refine E_blk (lv' := [none, some (vr (some (5, v1))), some (vi v2), some (vr (some (5, v3))), some (vi v4), some (vi v5), some (vi s0)]) (st' := [vi (mI M 511 v3 v5.toNatClampNeg), vi (mI M 511 v1 v2.toNatClampNeg)]) (M1 := M) (pc' := 102) (tb_Works hγ) [.aload_n 1, .getfield 497, .iload_n 2, .baload, .aload_n 3, .getfield 497, .iload 5, .baload] (by decide +kernel) rfl rfl ⟨c15, c16, trivial⟩ ?_
    refine E_icmp_ne (off := 21) (tgt := 123) (by decide +kernel) (by decide) (fun b17 => ?_) (fun b17 => ?_)
    · rw [if_pos b17] at h
      obtain ⟨c18, c19, h⟩ := h
      refine E_blk (lv' := [none, some (vr (some (5, v1))), some (vi v2), some (vr (some (5, v3))), some (vi v4), some (vi v5), some (vi s0)]) (st' := [vi (mI M 52 v3 v5.toNatClampNeg), vi (mI M 52 v1 v2.toNatClampNeg)]) (M1 := M) (pc' := 118) (tb_Works hγ) [.aload_n 1, .getfield 500, .iload_n 2, .iaload, .aload_n 3, .getfield 500, .iload 5, .iaload] (by decide +kernel) rfl rfl ⟨c18, c19, trivial⟩ ?_
      refine E_icmp_ne (off := 5) (tgt := 123) (by decide +kernel) (by decide) (fun b20 => ?_) (fun b20 => ?_)
      · rw [if_pos b20] at h
        refine E_blk (lv' := [none, some (vr (some (5, v1))), some (vi v2), some (vr (some (5, v3))), some (vi v4), some (vi v5), some (vi s0)]) (st' := [vi (1 : Int32)]) (M1 := M) (pc' := 122) (tb_Works hγ) [.iconst 1] (by decide +kernel) rfl rfl trivial ?_
        exact E_zret rfl (Or.inr rfl) (by decide +kernel) h
      · rw [if_neg b20] at h
        refine E_mask [false, true, true, true, true, true, false] rfl ?_
        exact lk_Works_hasField_j123 hγ this Q k9 hk9 v1 v2 v3 v4 v5 M h
    · rw [if_neg b17] at h
      refine E_mask [false, true, true, true, true, true, false] rfl ?_
      exact lk_Works_hasField_j123 hγ this Q k9 hk9 v1 v2 v3 v4 v5 M h
set_option maxRecDepth 4096 in
theorem lk_Works_hasField_j81 {γ : Gm} (hγ : Gk γ) (this : Nat) (Q : Int32 → Mem → Prop) (k9 : Nat → Int32 → Nat → Int32 → Int32 → Mem → Prop) (hk9 : ∀ (v1 : Nat) (v2 : Int32) (v3 : Nat) (v4 : Int32) (v5 : Int32) (M : Mem), k9 v1 v2 v3 v4 v5 M → E γ k_Works_hasField 0 9 [none, some (vr (some (5, v1))), some (vi v2), some (vr (some (5, v3))), some (vi v4), some (vi v5), none] [] M (Qi Q)) (v1 : Nat) (v2 : Int32) (v3 : Nat) (v4 : Int32) (v5 : Int32) (M : Mem) (h : w_Works_hasField_j81 this Q k9 v1 v2 v3 v4 v5 M) : E γ k_Works_hasField 0 81 [none, some (vr (some (5, v1))), some (vi v2), some (vr (some (5, v3))), some (vi v4), some (vi v5), none] [] M (Qi Q) := by
  unfold w_Works_hasField_j81 at h
  refine E_blk (lv' := [none, some (vr (some (5, v1))), some (vi v2), some (vr (some (5, v3))), some (vi v4), some (vi v5), none]) (st' := [vi (0 : Int32)]) (M1 := M) (pc' := 82) (tb_Works hγ) [.iconst 0] (by decide +kernel) rfl rfl trivial ?_
  refine E_mask [false, true, true, true, true, true, false] rfl ?_
  exact lk_Works_hasField_j82 hγ this Q k9 hk9 v1 v2 v3 v4 v5 (0 : Int32) M h
set_option maxRecDepth 4096 in
theorem lk_Works_hasField_L9 {γ : Gm} (hγ : Gk γ) (this : Nat) (Q : Int32 → Mem → Prop) : ∀ (n : Nat) (v1 : Nat) (v2 : Int32) (v3 : Nat) (v4 : Int32) (v5 : Int32) (M : Mem), w_Works_hasField_L9 this Q n v1 v2 v3 v4 v5 M → E γ k_Works_hasField 0 9 [none, some (vr (some (5, v1))), some (vi v2), some (vr (some (5, v3))), some (vi v4), some (vi v5), none] [] M (Qi Q) := by
  intro n
  induction n with
  | zero => intro v1 v2 v3 v4 v5 M h; exact h.elim
  | succ n ih =>
    intro v1 v2 v3 v4 v5 M h
    unfold w_Works_hasField_L9 at h
    obtain ⟨c2, c3, h⟩ := h
    refine E_blk (lv' := [none, some (vr (some (5, v1))), some (vi v2), some (vr (some (5, v3))), some (vi v4), some (vi v5), none]) (st' := [vi ((mI M 41 v3 v4.toNatClampNeg) + (mI M 42 v3 v4.toNatClampNeg)), vi v5]) (M1 := M) (pc' := 26) (tb_Works hγ) [.iload 5, .aload_n 3, .getfield 285, .iload 4, .iaload, .aload_n 3, .getfield 258, .iload 4, .iaload, .iadd] (by decide +kernel) rfl rfl ⟨c2, c3, trivial⟩ ?_
    refine E_icmp_ge (off := 103) (tgt := 129) (by decide +kernel) (by decide) (fun b4 => ?_) (fun b4 => ?_)
    · rw [if_pos b4] at h
      refine E_blk (lv' := [none, some (vr (some (5, v1))), some (vi v2), some (vr (some (5, v3))), some (vi v4), some (vi v5), none]) (st' := [vi (0 : Int32)]) (M1 := M) (pc' := 130) (tb_Works hγ) [.iconst 0] (by decide +kernel) rfl rfl trivial ?_
      exact E_zret rfl (Or.inl rfl) (by decide +kernel) h
    · rw [if_neg b4] at h
      obtain ⟨c5, c6, h⟩ := h
      refine E_blk (lv' := [none, some (vr (some (5, v1))), some (vi v2), some (vr (some (5, v3))), some (vi v4), some (vi v5), none]) (st' := [vi (mI M 49 v3 v5.toNatClampNeg), vi (mI M 49 v1 v2.toNatClampNeg)]) (M1 := M) (pc' := 42) (tb_Works hγ) [.aload_n 1, .getfield 282, .iload_n 2, .iaload, .aload_n 3, .getfield 282, .iload 5, .iaload] (by decide +kernel) rfl rfl ⟨c5, c6, trivial⟩ ?_
      refine E_icmp_ne (off := 39) (tgt := 81) (by decide +kernel) (by decide) (fun b7 => ?_) (fun b7 => ?_)
      · rw [if_pos b7] at h
        obtain ⟨c8, c9, h⟩ := h
        refine E_blk (lv' := [none, some (vr (some (5, v1))), some (vi v2), some (vr (some (5, v3))), some (vi v4), some (vi v5), none]) (st' := [vi (mI M 50 v3 v5.toNatClampNeg), vi (mI M 50 v1 v2.toNatClampNeg)]) (M1 := M) (pc' := 58) (tb_Works hγ) [.aload_n 1, .getfield 299, .iload_n 2, .iaload, .aload_n 3, .getfield 299, .iload 5, .iaload] (by decide +kernel) rfl rfl ⟨c8, c9, trivial⟩ ?_
        refine E_icmp_ne (off := 23) (tgt := 81) (by decide +kernel) (by decide) (fun b10 => ?_) (fun b10 => ?_)
        · rw [if_pos b10] at h
          obtain ⟨c11, c12, h⟩ := h
          refine E_blk (lv' := [none, some (vr (some (5, v1))), some (vi v2), some (vr (some (5, v3))), some (vi v4), some (vi v5), none]) (st' := [vi (mI M 51 v3 v5.toNatClampNeg), vi (mI M 51 v1 v2.toNatClampNeg)]) (M1 := M) (pc' := 74) (tb_Works hγ) [.aload_n 1, .getfield 296, .iload_n 2, .iaload, .aload_n 3, .getfield 296, .iload 5, .iaload] (by decide +kernel) rfl rfl ⟨c11, c12, trivial⟩ ?_
          refine E_icmp_ne (off := 7) (tgt := 81) (by decide +kernel) (by decide) (fun b13 => ?_) (fun b13 => ?_)
          · rw [if_pos b13] at h
            refine E_blk (lv' := [none, some (vr (some (5, v1))), some (vi v2), some (vr (some (5, v3))), some (vi v4), some (vi v5), none]) (st' := [vi (1 : Int32)]) (M1 := M) (pc' := 78) (tb_Works hγ) [.iconst 1] (by decide +kernel) rfl rfl trivial ?_
            refine E_goto (off := 4) (tgt := 82) (by decide +kernel) (by decide) ?_
            refine E_mask [false, true, true, true, true, true, false] rfl ?_
            exact lk_Works_hasField_j82 hγ this Q (w_Works_hasField_L9 this Q n) ih v1 v2 v3 v4 v5 (1 : Int32) M h
          · rw [if_neg b13] at h
            refine E_mask [false, true, true, true, true, true, false] rfl ?_
            exact lk_Works_hasField_j81 hγ this Q (w_Works_hasField_L9 this Q n) ih v1 v2 v3 v4 v5 M h
        · rw [if_neg b10] at h
          refine E_mask [false, true, true, true, true, true, false] rfl ?_
          exact lk_Works_hasField_j81 hγ this Q (w_Works_hasField_L9 this Q n) ih v1 v2 v3 v4 v5 M h
      · rw [if_neg b7] at h
        refine E_mask [false, true, true, true, true, true, false] rfl ?_
        exact lk_Works_hasField_j81 hγ this Q (w_Works_hasField_L9 this Q n) ih v1 v2 v3 v4 v5 M h
set_option maxRecDepth 4096 in
theorem lk_Works_hasField {γ : Gm} (hγ : Gk γ) (this : Nat) (a1 : Nat) (a2 : Int32) (a3 : Nat) (a4 : Int32) (Q : Int32 → Mem → Prop) (M : Mem) (h : w_Works_hasField this a1 a2 a3 a4 Q M) : E γ k_Works_hasField 0 0 [some (vr (some (10, this))), some (vr (some (5, a1))), some (vi a2), some (vr (some (5, a3))), some (vi a4), none, none] [] M (Qi Q) := by
  unfold w_Works_hasField at h
  obtain ⟨c1, h⟩ := h
  refine E_blk (lv' := [some (vr (some (10, this))), some (vr (some (5, a1))), some (vi a2), some (vr (some (5, a3))), some (vi a4), some (vi (mI M 41 a3 a4.toNatClampNeg)), none]) (st' := []) (M1 := M) (pc' := 9) (tb_Works hγ) [.aload_n 3, .getfield 285, .iload 4, .iaload, .istore 5] (by decide +kernel) rfl rfl ⟨c1, trivial⟩ ?_
  obtain ⟨n21, h⟩ := h
  refine E_mask [false, true, true, true, true, true, false] rfl ?_
  exact lk_Works_hasField_L9 hγ this Q n21 a1 a2 a3 a4 (mI M 41 a3 a4.toNatClampNeg) M h
def w_Works_likeMethod_j87 (this : Nat) (Q : Int32 → Mem → Prop) (k9 : Nat → Int32 → Nat → Int32 → Int32 → Mem → Prop) (v1 : Nat) (v2 : Int32) (v3 : Nat) (v4 : Int32) (v5 : Int32) (M : Mem) : Prop :=
  k9 v1 v2 v3 v4 (v5 + (1 : Int32)) M
def w_Works_likeMethod_L9 (this : Nat) (Q : Int32 → Mem → Prop) : Nat → Nat → Int32 → Nat → Int32 → Int32 → Mem → Prop
  | 0, _, _, _, _, _, _ => False
  | n + 1, v1, v2, v3, v4, v5, M => vp_in v4 (mL M 43 v3) ∧ vp_in v4 (mL M 44 v3) ∧ if ((mI M 43 v3 v4.toNatClampNeg) + (mI M 44 v3 v4.toNatClampNeg)) ≤ v5 then (Q (-2 : Int32) M) else (vp_in v2 (mL M 56 v1) ∧ vp_in v5 (mL M 56 v3) ∧ if (mI M 56 v1 v2.toNatClampNeg) = (mI M 56 v3 v5.toNatClampNeg) then (vp_in v2 (mL M 59 v1) ∧ vp_in v5 (mL M 59 v3) ∧ if (mI M 59 v1 v2.toNatClampNeg) = (mI M 59 v3 v5.toNatClampNeg) then (vp_in v2 (mL M 58 v1) ∧ w_World_sameArguments v3 v5 (2 * v1 + 1) ((6 : Int32) * v2) (mI M 58 v1 v2.toNatClampNeg) (fun r13 M12 => if r13 = 0 then (w_Works_likeMethod_j87 this Q (w_Works_likeMethod_L9 this Q n) v1 v2 v3 v4 v5 M12) else (Q v5 M12)) M) else (w_Works_likeMethod_j87 this Q (w_Works_likeMethod_L9 this Q n) v1 v2 v3 v4 v5 M)) else (w_Works_likeMethod_j87 this Q (w_Works_likeMethod_L9 this Q n) v1 v2 v3 v4 v5 M))
def w_Works_likeMethod (this : Nat) (a1 : Nat) (a2 : Int32) (a3 : Nat) (a4 : Int32) (Q : Int32 → Mem → Prop) (M : Mem) : Prop :=
  vp_in a4 (mL M 43 a3) ∧ ∃ n15 : Nat, w_Works_likeMethod_L9 this Q n15 a1 a2 a3 a4 (mI M 43 a3 a4.toNatClampNeg) M
set_option maxRecDepth 4096 in
theorem lk_Works_likeMethod_j87 {γ : Gm} (hγ : Gk γ) (this : Nat) (Q : Int32 → Mem → Prop) (k9 : Nat → Int32 → Nat → Int32 → Int32 → Mem → Prop) (hk9 : ∀ (v1 : Nat) (v2 : Int32) (v3 : Nat) (v4 : Int32) (v5 : Int32) (M : Mem), k9 v1 v2 v3 v4 v5 M → E γ k_Works_likeMethod 1 9 [none, some (vr (some (5, v1))), some (vi v2), some (vr (some (5, v3))), some (vi v4), some (vi v5)] [] M (Qi Q)) (v1 : Nat) (v2 : Int32) (v3 : Nat) (v4 : Int32) (v5 : Int32) (M : Mem) (h : w_Works_likeMethod_j87 this Q k9 v1 v2 v3 v4 v5 M) : E γ k_Works_likeMethod 1 87 [none, some (vr (some (5, v1))), some (vi v2), some (vr (some (5, v3))), some (vi v4), some (vi v5)] [] M (Qi Q) := by
  unfold w_Works_likeMethod_j87 at h
  refine E_blk (lv' := [none, some (vr (some (5, v1))), some (vi v2), some (vr (some (5, v3))), some (vi v4), some (vi (v5 + (1 : Int32)))]) (st' := []) (M1 := M) (pc' := 90) (tb_Works hγ) [.iinc 5 1] (by decide +kernel) rfl rfl trivial ?_
  refine E_goto (off := -81) (tgt := 9) (by decide +kernel) (by decide) ?_
  refine E_mask [false, true, true, true, true, true] rfl ?_
  exact hk9 v1 v2 v3 v4 (v5 + (1 : Int32)) M h
set_option maxRecDepth 4096 in
theorem lk_Works_likeMethod_L9 {γ : Gm} (hγ : Gk γ) (this : Nat) (Q : Int32 → Mem → Prop) : ∀ (n : Nat) (v1 : Nat) (v2 : Int32) (v3 : Nat) (v4 : Int32) (v5 : Int32) (M : Mem), w_Works_likeMethod_L9 this Q n v1 v2 v3 v4 v5 M → E γ k_Works_likeMethod 1 9 [none, some (vr (some (5, v1))), some (vi v2), some (vr (some (5, v3))), some (vi v4), some (vi v5)] [] M (Qi Q) := by
  intro n
  induction n with
  | zero => intro v1 v2 v3 v4 v5 M h; exact h.elim
  | succ n ih =>
    intro v1 v2 v3 v4 v5 M h
    unfold w_Works_likeMethod_L9 at h
    obtain ⟨c2, c3, h⟩ := h
    refine E_blk (lv' := [none, some (vr (some (5, v1))), some (vi v2), some (vr (some (5, v3))), some (vi v4), some (vi v5)]) (st' := [vi ((mI M 43 v3 v4.toNatClampNeg) + (mI M 44 v3 v4.toNatClampNeg)), vi v5]) (M1 := M) (pc' := 26) (tb_Works hγ) [.iload 5, .aload_n 3, .getfield 291, .iload 4, .iaload, .aload_n 3, .getfield 261, .iload 4, .iaload, .iadd] (by decide +kernel) rfl rfl ⟨c2, c3, trivial⟩ ?_
    refine E_icmp_ge (off := 67) (tgt := 93) (by decide +kernel) (by decide) (fun b4 => ?_) (fun b4 => ?_)
    · rw [if_pos b4] at h
      refine E_blk (lv' := [none, some (vr (some (5, v1))), some (vi v2), some (vr (some (5, v3))), some (vi v4), some (vi v5)]) (st' := [vi (-2 : Int32)]) (M1 := M) (pc' := 95) (tb_Works hγ) [.bipush (.negSucc 1)] (by decide +kernel) rfl rfl trivial ?_
      exact E_iret rfl (by decide +kernel) h
    · rw [if_neg b4] at h
      obtain ⟨c5, c6, h⟩ := h
      refine E_blk (lv' := [none, some (vr (some (5, v1))), some (vi v2), some (vr (some (5, v3))), some (vi v4), some (vi v5)]) (st' := [vi (mI M 56 v3 v5.toNatClampNeg), vi (mI M 56 v1 v2.toNatClampNeg)]) (M1 := M) (pc' := 42) (tb_Works hγ) [.aload_n 1, .getfield 288, .iload_n 2, .iaload, .aload_n 3, .getfield 288, .iload 5, .iaload] (by decide +kernel) rfl rfl ⟨c5, c6, trivial⟩ ?_
      refine E_icmp_ne (off := 45) (tgt := 87) (by decide +kernel) (by decide) (fun b7 => ?_) (fun b7 => ?_)
      · rw [if_pos b7] at h
        obtain ⟨c8, c9, h⟩ := h
        refine E_blk (lv' := [none, some (vr (some (5, v1))), some (vi v2), some (vr (some (5, v3))), some (vi v4), some (vi v5)]) (st' := [vi (mI M 59 v3 v5.toNatClampNeg), vi (mI M 59 v1 v2.toNatClampNeg)]) (M1 := M) (pc' := 58) (tb_Works hγ) [.aload_n 1, .getfield 503, .iload_n 2, .iaload, .aload_n 3, .getfield 503, .iload 5, .iaload] (by decide +kernel) rfl rfl ⟨c8, c9, trivial⟩ ?_
        refine E_icmp_ne (off := 29) (tgt := 87) (by decide +kernel) (by decide) (fun b10 => ?_) (fun b10 => ?_)
        · rw [if_pos b10] at h
          obtain ⟨c11, h⟩ := h
          refine E_blk (lv' := [none, some (vr (some (5, v1))), some (vi v2), some (vr (some (5, v3))), some (vi v4), some (vi v5)]) (st' := [vi (mI M 58 v1 v2.toNatClampNeg), vi ((6 : Int32) * v2), vr (some (211, (2 * v1 + 1))), vi v5, vr (some (5, v3))]) (M1 := M) (pc' := 78) (tb_Works hγ) [.aload_n 3, .iload 5, .aload_n 1, .getfield 506, .bipush 6, .iload_n 2, .imul, .aload_n 1, .getfield 308, .iload_n 2, .iaload] (by decide +kernel) rfl rfl ⟨c11, trivial⟩ ?_
          refine E_callV (κ' := k_World_sameArguments) (As := [vi v5, vr (some (211, (2 * v1 + 1))), vi ((6 : Int32) * v2), vi (mI M 58 v1 v2.toNatClampNeg)]) (st := []) mv_World_sameArguments (Or.inr ⟨"ClassWorks", (tbk_mem (j := 10) (k := 104) rfl)⟩) rfl (by decide +kernel) (Nat.le_of_ble_eq_true rfl) (Nat.le_of_ble_eq_true rfl) rfl (by decide) (lk_World_sameArguments hγ v3 v5 (2 * v1 + 1) ((6 : Int32) * v2) (mI M 58 v1 v2.toNatClampNeg) _ M h) (fun _ _ => Qi_r) (fun v M12 hp => Qi_k (R := fun st => E γ k_Works_likeMethod 1 81 [none, some (vr (some (5, v1))), some (vi v2), some (vr (some (5, v3))), some (vi v4), some (vi v5)] st M12 (Qi Q)) hp (fun r13 h => ?_))
          refine E_if_eq (off := 6) (tgt := 87) (by decide +kernel) (by decide) (fun b14 => ?_) (fun b14 => ?_)
          · rw [if_pos b14] at h
            refine E_mask [false, true, true, true, true, true] rfl ?_
            exact lk_Works_likeMethod_j87 hγ this Q (w_Works_likeMethod_L9 this Q n) ih v1 v2 v3 v4 v5 M12 h
          · rw [if_neg b14] at h
            refine E_blk (lv' := [none, some (vr (some (5, v1))), some (vi v2), some (vr (some (5, v3))), some (vi v4), some (vi v5)]) (st' := [vi v5]) (M1 := M12) (pc' := 86) (tb_Works hγ) [.iload 5] (by decide +kernel) rfl rfl trivial ?_
            exact E_iret rfl (by decide +kernel) h
        · rw [if_neg b10] at h
          refine E_mask [false, true, true, true, true, true] rfl ?_
          exact lk_Works_likeMethod_j87 hγ this Q (w_Works_likeMethod_L9 this Q n) ih v1 v2 v3 v4 v5 M h
      · rw [if_neg b7] at h
        refine E_mask [false, true, true, true, true, true] rfl ?_
        exact lk_Works_likeMethod_j87 hγ this Q (w_Works_likeMethod_L9 this Q n) ih v1 v2 v3 v4 v5 M h
set_option maxRecDepth 4096 in
theorem lk_Works_likeMethod {γ : Gm} (hγ : Gk γ) (this : Nat) (a1 : Nat) (a2 : Int32) (a3 : Nat) (a4 : Int32) (Q : Int32 → Mem → Prop) (M : Mem) (h : w_Works_likeMethod this a1 a2 a3 a4 Q M) : E γ k_Works_likeMethod 1 0 [some (vr (some (10, this))), some (vr (some (5, a1))), some (vi a2), some (vr (some (5, a3))), some (vi a4), none] [] M (Qi Q) := by
  unfold w_Works_likeMethod at h
  obtain ⟨c1, h⟩ := h
  refine E_blk (lv' := [some (vr (some (10, this))), some (vr (some (5, a1))), some (vi a2), some (vr (some (5, a3))), some (vi a4), some (vi (mI M 43 a3 a4.toNatClampNeg))]) (st' := []) (M1 := M) (pc' := 9) (tb_Works hγ) [.aload_n 3, .getfield 291, .iload 4, .iaload, .istore 5] (by decide +kernel) rfl rfl ⟨c1, trivial⟩ ?_
  obtain ⟨n15, h⟩ := h
  refine E_mask [false, true, true, true, true, true] rfl ?_
  exact lk_Works_likeMethod_L9 hγ this Q n15 a1 a2 a3 a4 (mI M 43 a3 a4.toNatClampNeg) M h
def w_Works_isSameMember_j114 (this : Nat) (Q : Int32 → Mem → Prop) (k66 : Nat → Int32 → Nat → Int32 → Int32 → Int32 → Mem → Prop) (v1 : Nat) (v2 : Int32) (v3 : Nat) (v4 : Int32) (v6 : Int32) (s0 : Int32) (M : Mem) : Prop :=
  k66 v1 v2 v3 v4 s0 (v6 + (1 : Int32)) M
def w_Works_isSameMember_L66 (this : Nat) (Q : Int32 → Mem → Prop) : Nat → Nat → Int32 → Nat → Int32 → Int32 → Int32 → Mem → Prop
  | 0, _, _, _, _, _, _, _ => False
  | n + 1, v1, v2, v3, v4, v5, v6, M => w_World_refArguments v1 v2 (fun r22 M21 => if r22 ≤ v6 then ((v5 = 0 ∨ v5 = 1) ∧ Q v5 M21) else (if v5 = 0 then ((v5 = 0 ∨ v5 = 1) ∧ Q v5 M21) else (vp_in (((6 : Int32) * v2) + v6) (mL M21 211 (2 * v1 + 2)) ∧ vp_in (((6 : Int32) * v4) + v6) (mL M21 211 (2 * v3 + 2)) ∧ if (mI M21 211 (2 * v1 + 2) (((6 : Int32) * v2) + v6).toNatClampNeg) = (mI M21 211 (2 * v3 + 2) (((6 : Int32) * v4) + v6).toNatClampNeg) then (w_Works_isSameMember_j114 this Q (w_Works_isSameMember_L66 this Q n) v1 v2 v3 v4 v6 (1 : Int32) M21) else (w_Works_isSameMember_j114 this Q (w_Works_isSameMember_L66 this Q n) v1 v2 v3 v4 v6 (0 : Int32) M21)))) M
def w_Works_isSameMember_j61 (this : Nat) (Q : Int32 → Mem → Prop) (v1 : Nat) (v2 : Int32) (v3 : Nat) (v4 : Int32) (s0 : Int32) (M : Mem) : Prop :=
  ∃ n28 : Nat, w_Works_isSameMember_L66 this Q n28 v1 v2 v3 v4 s0 (0 : Int32) M
def w_Works_isSameMember_j60 (this : Nat) (Q : Int32 → Mem → Prop) (v1 : Nat) (v2 : Int32) (v3 : Nat) (v4 : Int32) (M : Mem) : Prop :=
  w_Works_isSameMember_j61 this Q v1 v2 v3 v4 (0 : Int32) M
def w_Works_isSameMember (this : Nat) (a1 : Nat) (a2 : Int32) (a3 : Nat) (a4 : Int32) (Q : Int32 → Mem → Prop) (M : Mem) : Prop :=
  w_World_refClass a1 a2 (fun r2 M1 => w_World_refClass a3 a4 (fun r4 M3 => if r2 = r4 then (w_World_refName a1 a2 (fun r7 M6 => w_World_refName a3 a4 (fun r9 M8 => if r7 = r9 then (w_World_refType a1 a2 (fun r12 M11 => w_World_refType a3 a4 (fun r14 M13 => if r12 = r14 then (w_World_refArguments a1 a2 (fun r17 M16 => w_World_refArguments a3 a4 (fun r19 M18 => if r17 = r19 then (w_Works_isSameMember_j61 this Q a1 a2 a3 a4 (1 : Int32) M18) else (w_Works_isSameMember_j60 this Q a1 a2 a3 a4 M18)) M16) M13) else (w_Works_isSameMember_j60 this Q a1 a2 a3 a4 M13)) M11) M8) else (w_Works_isSameMember_j60 this Q a1 a2 a3 a4 M8)) M6) M3) else (w_Works_isSameMember_j60 this Q a1 a2 a3 a4 M3)) M1) M
set_option maxRecDepth 4096 in
theorem lk_Works_isSameMember_j114 {γ : Gm} (hγ : Gk γ) (this : Nat) (Q : Int32 → Mem → Prop) (k66 : Nat → Int32 → Nat → Int32 → Int32 → Int32 → Mem → Prop) (hk66 : ∀ (v1 : Nat) (v2 : Int32) (v3 : Nat) (v4 : Int32) (v5 : Int32) (v6 : Int32) (M : Mem), k66 v1 v2 v3 v4 v5 v6 M → E γ k_Works_isSameMember 1 66 [none, some (vr (some (5, v1))), some (vi v2), some (vr (some (5, v3))), some (vi v4), some (vi v5), some (vi v6)] [] M (Qi Q)) (v1 : Nat) (v2 : Int32) (v3 : Nat) (v4 : Int32) (v6 : Int32) (s0 : Int32) (M : Mem) (h : w_Works_isSameMember_j114 this Q k66 v1 v2 v3 v4 v6 s0 M) : E γ k_Works_isSameMember 1 114 [none, some (vr (some (5, v1))), some (vi v2), some (vr (some (5, v3))), some (vi v4), none, some (vi v6)] [vi s0] M (Qi Q) := by
  unfold w_Works_isSameMember_j114 at h
  refine E_blk (lv' := [none, some (vr (some (5, v1))), some (vi v2), some (vr (some (5, v3))), some (vi v4), some (vi s0), some (vi (v6 + (1 : Int32)))]) (st' := []) (M1 := M) (pc' := 119) (tb_Works hγ) [.istore 5, .iinc 6 1] (by decide +kernel) rfl rfl trivial ?_
  refine E_goto (off := -53) (tgt := 66) (by decide +kernel) (by decide) ?_
  refine E_mask [false, true, true, true, true, true, true] rfl ?_
  exact hk66 v1 v2 v3 v4 s0 (v6 + (1 : Int32)) M h
set_option maxRecDepth 4096 in
theorem lk_Works_isSameMember_L66 {γ : Gm} (hγ : Gk γ) (this : Nat) (Q : Int32 → Mem → Prop) : ∀ (n : Nat) (v1 : Nat) (v2 : Int32) (v3 : Nat) (v4 : Int32) (v5 : Int32) (v6 : Int32) (M : Mem), w_Works_isSameMember_L66 this Q n v1 v2 v3 v4 v5 v6 M → E γ k_Works_isSameMember 1 66 [none, some (vr (some (5, v1))), some (vi v2), some (vr (some (5, v3))), some (vi v4), some (vi v5), some (vi v6)] [] M (Qi Q) := by
  intro n
  induction n with
  | zero => intro v1 v2 v3 v4 v5 v6 M h; exact h.elim
  | succ n ih =>
    intro v1 v2 v3 v4 v5 v6 M h
    unfold w_Works_isSameMember_L66 at h
    refine E_blk (lv' := [none, some (vr (some (5, v1))), some (vi v2), some (vr (some (5, v3))), some (vi v4), some (vi v5), some (vi v6)]) (st' := [vi v2, vr (some (5, v1)), vi v6]) (M1 := M) (pc' := 70) (tb_Works hγ) [.iload 6, .aload_n 1, .iload_n 2] (by decide +kernel) rfl rfl trivial ?_
    refine E_callV (κ' := k_World_refArguments) (As := [vi v2]) (st := [vi v6]) mv_World_refArguments (Or.inl (tbk_mem (j := 10) (k := 120) rfl)) rfl (by decide +kernel) (Nat.le_of_ble_eq_true rfl) (Nat.le_of_ble_eq_true rfl) rfl (by decide) (lk_World_refArguments hγ v1 v2 _ M h) (fun _ _ => Qi_r) (fun v M21 hp => Qi_k (R := fun st => E γ k_Works_isSameMember 1 73 [none, some (vr (some (5, v1))), some (vi v2), some (vr (some (5, v3))), some (vi v4), some (vi v5), some (vi v6)] st M21 (Qi Q)) hp (fun r22 h => ?_))
    refine E_icmp_ge (off := 49) (tgt := 122) (by decide +kernel) (by decide) (fun b23 => ?_) (fun b23 => ?_)
    · rw [if_pos b23] at h
      refine E_blk (lv' := [none, some (vr (some (5, v1))), some (vi v2), some (vr (some (5, v3))), some (vi v4), some (vi v5), some (vi v6)]) (st' := [vi v5]) (M1 := M21) (pc' := 124) (tb_Works hγ) [.iload 5] (by decide +kernel) rfl rfl trivial ?_
      exact E_zret rfl h.1 (by decide +kernel) h.2
    · rw [if_neg b23] at h
      refine E_blk (lv' := [none, some (vr (some (5, v1))), some (vi v2), some (vr (some (5, v3))), some (vi v4), some (vi v5), some (vi v6)]) (st' := [vi v5]) (M1 := M21) (pc' := 78) (tb_Works hγ) [.iload 5] (by decide +kernel) rfl rfl trivial ?_
      refine E_if_eq (off := 44) (tgt := 122) (by decide +kernel) (by decide) (fun b24 => ?_) (fun b24 => ?_)
      · rw [if_pos b24] at h
        refine E_blk (lv' := [none, some (vr (some (5, v1))), some (vi v2), some (vr (some (5, v3))), some (vi v4), some (vi v5), some (vi v6)]) (st' := [vi v5]) (M1 := M21) (pc' := 124) (tb_Works hγ) [.iload 5] (by decide +kernel) rfl rfl trivial ?_
        exact E_zret rfl h.1 (by decide +kernel) h.2
      · rw [if_neg b24] at h
        obtain ⟨c25, c26, h⟩ := h
        refine E_blk (lv' := [none, some (vr (some (5, v1))), some (vi v2), some (vr (some (5, v3))), some (vi v4), some (vi v5), some (vi v6)]) (st' := [vi (mI M21 211 (2 * v3 + 2) (((6 : Int32) * v4) + v6).toNatClampNeg), vi (mI M21 211 (2 * v1 + 2) (((6 : Int32) * v2) + v6).toNatClampNeg)]) (M1 := M21) (pc' := 106) (tb_Works hγ) [.aload_n 1, .getfield 567, .bipush 6, .iload_n 2, .imul, .iload 6, .iadd, .iaload, .aload_n 3, .getfield 567, .bipush 6, .iload 4, .imul, .iload 6, .iadd, .iaload] (by decide +kernel) rfl rfl ⟨c25, c26, trivial⟩ ?_
        refine E_icmp_ne (off := 7) (tgt := 113) (by decide +kernel) (by decide) (fun b27 => ?_) (fun b27 => ?_)
        · rw [if_pos b27] at h
          refine E_blk (lv' := [none, some (vr (some (5, v1))), some (vi v2), some (vr (some (5, v3))), some (vi v4), some (vi v5), some (vi v6)]) (st' := [vi (1 : Int32)]) (M1 := M21) (pc' := 110) (tb_Works hγ) [.iconst 1] (by decide +kernel) rfl rfl trivial ?_
          refine E_goto (off := 4) (tgt := 114) (by decide +kernel) (by decide) ?_
          refine E_mask [false, true, true, true, true, false, true] rfl ?_
          exact lk_Works_isSameMember_j114 hγ this Q (w_Works_isSameMember_L66 this Q n) ih v1 v2 v3 v4 v6 (1 : Int32) M21 h
        · rw [if_neg b27] at h
          refine E_blk (lv' := [none, some (vr (some (5, v1))), some (vi v2), some (vr (some (5, v3))), some (vi v4), some (vi v5), some (vi v6)]) (st' := [vi (0 : Int32)]) (M1 := M21) (pc' := 114) (tb_Works hγ) [.iconst 0] (by decide +kernel) rfl rfl trivial ?_
          refine E_mask [false, true, true, true, true, false, true] rfl ?_
          exact lk_Works_isSameMember_j114 hγ this Q (w_Works_isSameMember_L66 this Q n) ih v1 v2 v3 v4 v6 (0 : Int32) M21 h
set_option maxRecDepth 4096 in
theorem lk_Works_isSameMember_j61 {γ : Gm} (hγ : Gk γ) (this : Nat) (Q : Int32 → Mem → Prop) (v1 : Nat) (v2 : Int32) (v3 : Nat) (v4 : Int32) (s0 : Int32) (M : Mem) (h : w_Works_isSameMember_j61 this Q v1 v2 v3 v4 s0 M) : E γ k_Works_isSameMember 1 61 [none, some (vr (some (5, v1))), some (vi v2), some (vr (some (5, v3))), some (vi v4), none, none] [vi s0] M (Qi Q) := by
  unfold w_Works_isSameMember_j61 at h
  refine E_blk (lv' := [none, some (vr (some (5, v1))), some (vi v2), some (vr (some (5, v3))), some (vi v4), some (vi s0), some (vi (0 : Int32))]) (st' := []) (M1 := M) (pc' := 66) (tb_Works hγ) [.istore 5, .iconst 0, .istore 6] (by decide +kernel) rfl rfl trivial ?_
  obtain ⟨n28, h⟩ := h
  refine E_mask [false, true, true, true, true, true, true] rfl ?_
  exact lk_Works_isSameMember_L66 hγ this Q n28 v1 v2 v3 v4 s0 (0 : Int32) M h
set_option maxRecDepth 4096 in
theorem lk_Works_isSameMember_j60 {γ : Gm} (hγ : Gk γ) (this : Nat) (Q : Int32 → Mem → Prop) (v1 : Nat) (v2 : Int32) (v3 : Nat) (v4 : Int32) (M : Mem) (h : w_Works_isSameMember_j60 this Q v1 v2 v3 v4 M) : E γ k_Works_isSameMember 1 60 [none, some (vr (some (5, v1))), some (vi v2), some (vr (some (5, v3))), some (vi v4), none, none] [] M (Qi Q) := by
  unfold w_Works_isSameMember_j60 at h
  refine E_blk (lv' := [none, some (vr (some (5, v1))), some (vi v2), some (vr (some (5, v3))), some (vi v4), none, none]) (st' := [vi (0 : Int32)]) (M1 := M) (pc' := 61) (tb_Works hγ) [.iconst 0] (by decide +kernel) rfl rfl trivial ?_
  refine E_mask [false, true, true, true, true, false, false] rfl ?_
  exact lk_Works_isSameMember_j61 hγ this Q v1 v2 v3 v4 (0 : Int32) M h
set_option maxRecDepth 4096 in
theorem lk_Works_isSameMember {γ : Gm} (hγ : Gk γ) (this : Nat) (a1 : Nat) (a2 : Int32) (a3 : Nat) (a4 : Int32) (Q : Int32 → Mem → Prop) (M : Mem) (h : w_Works_isSameMember this a1 a2 a3 a4 Q M) : E γ k_Works_isSameMember 1 0 [some (vr (some (10, this))), some (vr (some (5, a1))), some (vi a2), some (vr (some (5, a3))), some (vi a4), none, none] [] M (Qi Q) := by
  unfold w_Works_isSameMember at h
  refine E_blk (lv' := [some (vr (some (10, this))), some (vr (some (5, a1))), some (vi a2), some (vr (some (5, a3))), some (vi a4), none, none]) (st' := [vi a2, vr (some (5, a1))]) (M1 := M) (pc' := 2) (tb_Works hγ) [.aload_n 1, .iload_n 2] (by decide +kernel) rfl rfl trivial ?_
  refine E_callV (κ' := k_World_refClass) (As := [vi a2]) (st := []) mv_World_refClass (Or.inl (tbk_mem (j := 10) (k := 117) rfl)) rfl (by decide +kernel) (Nat.le_of_ble_eq_true rfl) (Nat.le_of_ble_eq_true rfl) rfl (by decide) (lk_World_refClass hγ a1 a2 _ M h) (fun _ _ => Qi_r) (fun v M1 hp => Qi_k (R := fun st => E γ k_Works_isSameMember 1 5 [some (vr (some (10, this))), some (vr (some (5, a1))), some (vi a2), some (vr (some (5, a3))), some (vi a4), none, none] st M1 (Qi Q)) hp (fun r2 h => ?_))
  refine E_blk (lv' := [some (vr (some (10, this))), some (vr (some (5, a1))), some (vi a2), some (vr (some (5, a3))), some (vi a4), none, none]) (st' := [vi a4, vr (some (5, a3)), vi r2]) (M1 := M1) (pc' := 8) (tb_Works hγ) [.aload_n 3, .iload 4] (by decide +kernel) rfl rfl trivial ?_
  refine E_callV (κ' := k_World_refClass) (As := [vi a4]) (st := [vi r2]) mv_World_refClass (Or.inl (tbk_mem (j := 10) (k := 117) rfl)) rfl (by decide +kernel) (Nat.le_of_ble_eq_true rfl) (Nat.le_of_ble_eq_true rfl) rfl (by decide) (lk_World_refClass hγ a3 a4 _ M1 h) (fun _ _ => Qi_r) (fun v M3 hp => Qi_k (R := fun st => E γ k_Works_isSameMember 1 11 [some (vr (some (10, this))), some (vr (some (5, a1))), some (vi a2), some (vr (some (5, a3))), some (vi a4), none, none] st M3 (Qi Q)) hp (fun r4 h => ?_))
  refine E_icmp_ne (off := 49) (tgt := 60) (by decide +kernel) (by decide) (fun b5 => ?_) (fun b5 => ?_)
  · rw [if_pos b5] at h
    refine E_blk (lv' := [some (vr (some (10, this))), some (vr (some (5, a1))), some (vi a2), some (vr (some (5, a3))), some (vi a4), none, none]) (st' := [vi a2, vr (some (5, a1))]) (M1 := M3) (pc' := 16) (tb_Works hγ) [.aload_n 1, .iload_n 2] (by decide +kernel) rfl rfl trivial ?_
    refine E_callV (κ' := k_World_refName) (As := [vi a2]) (st := []) mv_World_refName (Or.inl (tbk_mem (j := 10) (k := 118) rfl)) rfl (by decide +kernel) (Nat.le_of_ble_eq_true rfl) (Nat.le_of_ble_eq_true rfl) rfl (by decide) (lk_World_refName hγ a1 a2 _ M3 h) (fun _ _ => Qi_r) (fun v M6 hp => Qi_k (R := fun st => E γ k_Works_isSameMember 1 19 [some (vr (some (10, this))), some (vr (some (5, a1))), some (vi a2), some (vr (some (5, a3))), some (vi a4), none, none] st M6 (Qi Q)) hp (fun r7 h => ?_))
    refine E_blk (lv' := [some (vr (some (10, this))), some (vr (some (5, a1))), some (vi a2), some (vr (some (5, a3))), some (vi a4), none, none]) (st' := [vi a4, vr (some (5, a3)), vi r7]) (M1 := M6) (pc' := 22) (tb_Works hγ) [.aload_n 3, .iload 4] (by decide +kernel) rfl rfl trivial ?_
    refine E_callV (κ' := k_World_refName) (As := [vi a4]) (st := [vi r7]) mv_World_refName (Or.inl (tbk_mem (j := 10) (k := 118) rfl)) rfl (by decide +kernel) (Nat.le_of_ble_eq_true rfl) (Nat.le_of_ble_eq_true rfl) rfl (by decide) (lk_World_refName hγ a3 a4 _ M6 h) (fun _ _ => Qi_r) (fun v M8 hp => Qi_k (R := fun st => E γ k_Works_isSameMember 1 25 [some (vr (some (10, this))), some (vr (some (5, a1))), some (vi a2), some (vr (some (5, a3))), some (vi a4), none, none] st M8 (Qi Q)) hp (fun r9 h => ?_))
    refine E_icmp_ne (off := 35) (tgt := 60) (by decide +kernel) (by decide) (fun b10 => ?_) (fun b10 => ?_)
    · rw [if_pos b10] at h
      refine E_blk (lv' := [some (vr (some (10, this))), some (vr (some (5, a1))), some (vi a2), some (vr (some (5, a3))), some (vi a4), none, none]) (st' := [vi a2, vr (some (5, a1))]) (M1 := M8) (pc' := 30) (tb_Works hγ) [.aload_n 1, .iload_n 2] (by decide +kernel) rfl rfl trivial ?_
      refine E_callV (κ' := k_World_refType) (As := [vi a2]) (st := []) mv_World_refType (Or.inl (tbk_mem (j := 10) (k := 119) rfl)) rfl (by decide +kernel) (Nat.le_of_ble_eq_true rfl) (Nat.le_of_ble_eq_true rfl) rfl (by decide) (lk_World_refType hγ a1 a2 _ M8 h) (fun _ _ => Qi_r) (fun v M11 hp => Qi_k (R := fun st => E γ k_Works_isSameMember 1 33 [some (vr (some (10, this))), some (vr (some (5, a1))), some (vi a2), some (vr (some (5, a3))), some (vi a4), none, none] st M11 (Qi Q)) hp (fun r12 h => ?_))
      refine E_blk (lv' := [some (vr (some (10, this))), some (vr (some (5, a1))), some (vi a2), some (vr (some (5, a3))), some (vi a4), none, none]) (st' := [vi a4, vr (some (5, a3)), vi r12]) (M1 := M11) (pc' := 36) (tb_Works hγ) [.aload_n 3, .iload 4] (by decide +kernel) rfl rfl trivial ?_
      refine E_callV (κ' := k_World_refType) (As := [vi a4]) (st := [vi r12]) mv_World_refType (Or.inl (tbk_mem (j := 10) (k := 119) rfl)) rfl (by decide +kernel) (Nat.le_of_ble_eq_true rfl) (Nat.le_of_ble_eq_true rfl) rfl (by decide) (lk_World_refType hγ a3 a4 _ M11 h) (fun _ _ => Qi_r) (fun v M13 hp => Qi_k (R := fun st => E γ k_Works_isSameMember 1 39 [some (vr (some (10, this))), some (vr (some (5, a1))), some (vi a2), some (vr (some (5, a3))), some (vi a4), none, none] st M13 (Qi Q)) hp (fun r14 h => ?_))
      refine E_icmp_ne (off := 21) (tgt := 60) (by decide +kernel) (by decide) (fun b15 => ?_) (fun b15 => ?_)
      · rw [if_pos b15] at h
        refine E_blk (lv' := [some (vr (some (10, this))), some (vr (some (5, a1))), some (vi a2), some (vr (some (5, a3))), some (vi a4), none, none]) (st' := [vi a2, vr (some (5, a1))]) (M1 := M13) (pc' := 44) (tb_Works hγ) [.aload_n 1, .iload_n 2] (by decide +kernel) rfl rfl trivial ?_
        refine E_callV (κ' := k_World_refArguments) (As := [vi a2]) (st := []) mv_World_refArguments (Or.inl (tbk_mem (j := 10) (k := 120) rfl)) rfl (by decide +kernel) (Nat.le_of_ble_eq_true rfl) (Nat.le_of_ble_eq_true rfl) rfl (by decide) (lk_World_refArguments hγ a1 a2 _ M13 h) (fun _ _ => Qi_r) (fun v M16 hp => Qi_k (R := fun st => E γ k_Works_isSameMember 1 47 [some (vr (some (10, this))), some (vr (some (5, a1))), some (vi a2), some (vr (some (5, a3))), some (vi a4), none, none] st M16 (Qi Q)) hp (fun r17 h => ?_))
        refine E_blk (lv' := [some (vr (some (10, this))), some (vr (some (5, a1))), some (vi a2), some (vr (some (5, a3))), some (vi a4), none, none]) (st' := [vi a4, vr (some (5, a3)), vi r17]) (M1 := M16) (pc' := 50) (tb_Works hγ) [.aload_n 3, .iload 4] (by decide +kernel) rfl rfl trivial ?_
        refine E_callV (κ' := k_World_refArguments) (As := [vi a4]) (st := [vi r17]) mv_World_refArguments (Or.inl (tbk_mem (j := 10) (k := 120) rfl)) rfl (by decide +kernel) (Nat.le_of_ble_eq_true rfl) (Nat.le_of_ble_eq_true rfl) rfl (by decide) (lk_World_refArguments hγ a3 a4 _ M16 h) (fun _ _ => Qi_r) (fun v M18 hp => Qi_k (R := fun st => E γ k_Works_isSameMember 1 53 [some (vr (some (10, this))), some (vr (some (5, a1))), some (vi a2), some (vr (some (5, a3))), some (vi a4), none, none] st M18 (Qi Q)) hp (fun r19 h => ?_))
        refine E_icmp_ne (off := 7) (tgt := 60) (by decide +kernel) (by decide) (fun b20 => ?_) (fun b20 => ?_)
        · rw [if_pos b20] at h
          refine E_blk (lv' := [some (vr (some (10, this))), some (vr (some (5, a1))), some (vi a2), some (vr (some (5, a3))), some (vi a4), none, none]) (st' := [vi (1 : Int32)]) (M1 := M18) (pc' := 57) (tb_Works hγ) [.iconst 1] (by decide +kernel) rfl rfl trivial ?_
          refine E_goto (off := 4) (tgt := 61) (by decide +kernel) (by decide) ?_
          refine E_mask [false, true, true, true, true, false, false] rfl ?_
          exact lk_Works_isSameMember_j61 hγ this Q a1 a2 a3 a4 (1 : Int32) M18 h
        · rw [if_neg b20] at h
          refine E_mask [false, true, true, true, true, false, false] rfl ?_
          exact lk_Works_isSameMember_j60 hγ this Q a1 a2 a3 a4 M18 h
      · rw [if_neg b15] at h
        refine E_mask [false, true, true, true, true, false, false] rfl ?_
        exact lk_Works_isSameMember_j60 hγ this Q a1 a2 a3 a4 M13 h
    · rw [if_neg b10] at h
      refine E_mask [false, true, true, true, true, false, false] rfl ?_
      exact lk_Works_isSameMember_j60 hγ this Q a1 a2 a3 a4 M8 h
  · rw [if_neg b5] at h
    refine E_mask [false, true, true, true, true, false, false] rfl ?_
    exact lk_Works_isSameMember_j60 hγ this Q a1 a2 a3 a4 M3 h
def w_Works_isAlike_L248 (this : Nat) (Q : Int32 → Mem → Prop) : Nat → Nat → Int32 → Nat → Int32 → Int32 → Int32 → Mem → Prop
  | 0, _, _, _, _, _, _, _ => False
  | n + 1, v1, v2, v3, v4, v5, v6, M => if v5 = (40 : Int32) then (vp_in v2 (mL M 69 v1) ∧ if (mI M 69 v1 v2.toNatClampNeg) ≤ v6 then (Q (1 : Int32) M) else (vp_in v2 (mL M 68 v1) ∧ vp_in ((mI M 68 v1 v2.toNatClampNeg) + v6) (mL M 74 v1) ∧ vp_in v4 (mL M 68 v3) ∧ vp_in ((mI M 68 v3 v4.toNatClampNeg) + v6) (mL M 74 v3) ∧ if (mI M 74 v1 ((mI M 68 v1 v2.toNatClampNeg) + v6).toNatClampNeg) = (mI M 74 v3 ((mI M 68 v3 v4.toNatClampNeg) + v6).toNatClampNeg) then ((w_Works_isAlike_L248 this Q n) v1 v2 v3 v4 v5 (v6 + (1 : Int32)) M) else (Q (0 : Int32) M))) else (Q (1 : Int32) M)
def w_Works_isAlike_j227 (this : Nat) (Q : Int32 → Mem → Prop) (v1 : Nat) (v2 : Int32) (v3 : Nat) (v4 : Int32) (v5 : Int32) (M : Mem) : Prop :=
  vp_in v2 (mL M 69 v1) ∧ vp_in v4 (mL M 69 v3) ∧ if (mI M 69 v1 v2.toNatClampNeg) = (mI M 69 v3 v4.toNatClampNeg) then (∃ n38 : Nat, w_Works_isAlike_L248 this Q n38 v1 v2 v3 v4 v5 (0 : Int32) M) else (Q (0 : Int32) M)
def w_Works_isAlike_j156 (this : Nat) (Q : Int32 → Mem → Prop) (v1 : Nat) (v2 : Int32) (v3 : Nat) (v4 : Int32) (v5 : Int32) (M : Mem) : Prop :=
  w_Works_isIn v5 (46 : Int32) (53 : Int32) (fun r18 M17 => if r18 = 0 then (vp_in v2 (mL M17 67 v1) ∧ vp_in v4 (mL M17 67 v3) ∧ if (mI M17 67 v1 v2.toNatClampNeg) = (mI M17 67 v3 v4.toNatClampNeg) then (if v5 = (7 : Int32) then (vp_in v2 (mL M17 68 v1) ∧ vp_in v4 (mL M17 68 v3) ∧ if (mI M17 68 v1 v2.toNatClampNeg) = (mI M17 68 v3 v4.toNatClampNeg) then (w_Works_isAlike_j227 this Q v1 v2 v3 v4 v5 M17) else (Q (0 : Int32) M17)) else (w_Works_isAlike_j227 this Q v1 v2 v3 v4 v5 M17)) else (Q (0 : Int32) M17)) else (vp_in v2 (mL M17 67 v1) ∧ vp_in v4 (mL M17 67 v3) ∧ w_Works_isSameMember this v1 (mI M17 67 v1 v2.toNatClampNeg) v3 (mI M17 67 v3 v4.toNatClampNeg) (fun r42 M41 => (r42 = 0 ∨ r42 = 1) ∧ Q r42 M41) M17)) M
def w_Works_isAlike_L89 (this : Nat) (Q : Int32 → Mem → Prop) : Nat → Nat → Int32 → Nat → Int32 → Int32 → Int32 → Mem → Prop
  | 0, _, _, _, _, _, _, _ => False
  | n + 1, v1, v2, v3, v4, v5, v6, M => vp_in v2 (mL M 70 v1) ∧ if (mI M 70 v1 v2.toNatClampNeg) < 0 then (w_Works_isAlike_j156 this Q v1 v2 v3 v4 v5 M) else (vp_in v2 (mL M 71 v1) ∧ vp_in v2 (mL M 72 v1) ∧ if ((mI M 71 v1 v2.toNatClampNeg) + (mI M 72 v1 v2.toNatClampNeg)) ≤ v6 then (w_Works_isAlike_j156 this Q v1 v2 v3 v4 v5 M) else (vp_in v2 (mL M 70 v1) ∧ vp_in ((mI M 70 v1 v2.toNatClampNeg) + v6) (mL M 73 v1) ∧ vp_in v4 (mL M 70 v3) ∧ vp_in ((mI M 70 v3 v4.toNatClampNeg) + v6) (mL M 73 v3) ∧ if (mI M 73 v1 ((mI M 70 v1 v2.toNatClampNeg) + v6).toNatClampNeg) = (mI M 73 v3 ((mI M 70 v3 v4.toNatClampNeg) + v6).toNatClampNeg) then ((w_Works_isAlike_L89 this Q n) v1 v2 v3 v4 v5 (v6 + (1 : Int32)) M) else (Q (0 : Int32) M)))
def w_Works_isAlike_j49 (this : Nat) (Q : Int32 → Mem → Prop) (v1 : Nat) (v2 : Int32) (v3 : Nat) (v4 : Int32) (v5 : Int32) (s0 : Int32) (s1 : Int32) (M : Mem) : Prop :=
  if s1 = s0 then (vp_in v2 (mL M 71 v1) ∧ vp_in v4 (mL M 71 v3) ∧ if (mI M 71 v1 v2.toNatClampNeg) = (mI M 71 v3 v4.toNatClampNeg) then (vp_in v2 (mL M 72 v1) ∧ vp_in v4 (mL M 72 v3) ∧ if (mI M 72 v1 v2.toNatClampNeg) = (mI M 72 v3 v4.toNatClampNeg) then (∃ n51 : Nat, w_Works_isAlike_L89 this Q n51 v1 v2 v3 v4 v5 (0 : Int32) M) else (Q (0 : Int32) M)) else (Q (0 : Int32) M)) else (Q (0 : Int32) M)
def w_Works_isAlike_j34 (this : Nat) (Q : Int32 → Mem → Prop) (v1 : Nat) (v2 : Int32) (v3 : Nat) (v4 : Int32) (v5 : Int32) (s0 : Int32) (M : Mem) : Prop :=
  vp_in v4 (mL M 70 v3) ∧ if 0 ≤ (mI M 70 v3 v4.toNatClampNeg) then (w_Works_isAlike_j49 this Q v1 v2 v3 v4 v5 (0 : Int32) s0 M) else (w_Works_isAlike_j49 this Q v1 v2 v3 v4 v5 (1 : Int32) s0 M)
def w_Works_isAlike (this : Nat) (a1 : Nat) (a2 : Int32) (a3 : Nat) (a4 : Int32) (Q : Int32 → Mem → Prop) (M : Mem) : Prop :=
  vp_in a2 (mL M 66 a1) ∧ vp_in a4 (mL M 66 a3) ∧ if (mI M 66 a1 a2.toNatClampNeg) = (mI M 66 a3 a4.toNatClampNeg) then (vp_in a2 (mL M 70 a1) ∧ if 0 ≤ (mI M 70 a1 a2.toNatClampNeg) then (w_Works_isAlike_j34 this Q a1 a2 a3 a4 (mI M 66 a1 a2.toNatClampNeg) (0 : Int32) M) else (w_Works_isAlike_j34 this Q a1 a2 a3 a4 (mI M 66 a1 a2.toNatClampNeg) (1 : Int32) M)) else (Q (0 : Int32) M)
set_option maxRecDepth 4096 in
theorem lk_Works_isAlike_L248 {γ : Gm} (hγ : Gk γ) (this : Nat) (Q : Int32 → Mem → Prop) : ∀ (n : Nat) (v1 : Nat) (v2 : Int32) (v3 : Nat) (v4 : Int32) (v5 : Int32) (v6 : Int32) (M : Mem), w_Works_isAlike_L248 this Q n v1 v2 v3 v4 v5 v6 M → E γ k_Works_isAlike 2 248 [none, some (vr (some (5, v1))), some (vi v2), some (vr (some (5, v3))), some (vi v4), some (vi v5), some (vi v6)] [] M (Qi Q) := by
  intro n
  induction n with
  | zero => intro v1 v2 v3 v4 v5 v6 M h; exact h.elim
  | succ n ih =>
    intro v1 v2 v3 v4 v5 v6 M h
    unfold w_Works_isAlike_L248 at h
    refine E_blk (lv' := [none, some (vr (some (5, v1))), some (vi v2), some (vr (some (5, v3))), some (vi v4), some (vi v5), some (vi v6)]) (st' := [vi (40 : Int32), vi v5]) (M1 := M) (pc' := 252) (tb_Works hγ) [.iload 5, .bipush 40] (by decide +kernel) rfl rfl trivial ?_
    refine E_icmp_ne (off := 54) (tgt := 306) (by decide +kernel) (by decide) (fun b30 => ?_) (fun b30 => ?_)
    · rw [if_pos b30] at h
      obtain ⟨c31, h⟩ := h
      refine E_blk (lv' := [none, some (vr (some (5, v1))), some (vi v2), some (vr (some (5, v3))), some (vi v4), some (vi v5), some (vi v6)]) (st' := [vi (mI M 69 v1 v2.toNatClampNeg), vi v6]) (M1 := M) (pc' := 263) (tb_Works hγ) [.iload 6, .aload_n 1, .getfield 549, .iload_n 2, .iaload] (by decide +kernel) rfl rfl ⟨c31, trivial⟩ ?_
      refine E_icmp_ge (off := 43) (tgt := 306) (by decide +kernel) (by decide) (fun b32 => ?_) (fun b32 => ?_)
      · rw [if_pos b32] at h
        refine E_blk (lv' := [none, some (vr (some (5, v1))), some (vi v2), some (vr (some (5, v3))), some (vi v4), some (vi v5), some (vi v6)]) (st' := [vi (1 : Int32)]) (M1 := M) (pc' := 307) (tb_Works hγ) [.iconst 1] (by decide +kernel) rfl rfl trivial ?_
        exact E_zret rfl (Or.inr rfl) (by decide +kernel) h
      · rw [if_neg b32] at h
        obtain ⟨c33, c34, c35, c36, h⟩ := h
        refine E_blk (lv' := [none, some (vr (some (5, v1))), some (vi v2), some (vr (some (5, v3))), some (vi v4), some (vi v5), some (vi v6)]) (st' := [vi (mI M 74 v3 ((mI M 68 v3 v4.toNatClampNeg) + v6).toNatClampNeg), vi (mI M 74 v1 ((mI M 68 v1 v2.toNatClampNeg) + v6).toNatClampNeg)]) (M1 := M) (pc' := 295) (tb_Works hγ) [.aload_n 1, .getfield 552, .aload_n 1, .getfield 546, .iload_n 2, .iaload, .iload 6, .iadd, .iaload, .aload_n 3, .getfield 552, .aload_n 3, .getfield 546, .iload 4, .iaload, .iload 6, .iadd, .iaload] (by decide +kernel) rfl rfl ⟨c33, c34, c35, c36, trivial⟩ ?_
        refine E_icmp_eq (off := 5) (tgt := 300) (by decide +kernel) (by decide) (fun b37 => ?_) (fun b37 => ?_)
        · rw [if_pos b37] at h
          refine E_blk (lv' := [none, some (vr (some (5, v1))), some (vi v2), some (vr (some (5, v3))), some (vi v4), some (vi v5), some (vi (v6 + (1 : Int32)))]) (st' := []) (M1 := M) (pc' := 303) (tb_Works hγ) [.iinc 6 1] (by decide +kernel) rfl rfl trivial ?_
          refine E_goto (off := -55) (tgt := 248) (by decide +kernel) (by decide) ?_
          refine E_mask [false, true, true, true, true, true, true] rfl ?_
          exact ih v1 v2 v3 v4 v5 (v6 + (1 : Int32)) M h
        · rw [if_neg b37] at h
          refine E_blk (lv' := [none, some (vr (some (5, v1))), some (vi v2), some (vr (some (5, v3))), some (vi v4), some (vi v5), some (vi v6)]) (st' := [vi (0 : Int32)]) (M1 := M) (pc' := 299) (tb_Works hγ) [.iconst 0] (by decide +kernel) rfl rfl trivial ?_
          exact E_zret rfl (Or.inl rfl) (by decide +kernel) h
    · rw [if_neg b30] at h
      refine E_blk (lv' := [none, some (vr (some (5, v1))), some (vi v2), some (vr (some (5, v3))), some (vi v4), some (vi v5), some (vi v6)]) (st' := [vi (1 : Int32)]) (M1 := M) (pc' := 307) (tb_Works hγ) [.iconst 1] (by decide +kernel) rfl rfl trivial ?_
      exact E_zret rfl (Or.inr rfl) (by decide +kernel) h
set_option maxRecDepth 4096 in
theorem lk_Works_isAlike_j227 {γ : Gm} (hγ : Gk γ) (this : Nat) (Q : Int32 → Mem → Prop) (v1 : Nat) (v2 : Int32) (v3 : Nat) (v4 : Int32) (v5 : Int32) (M : Mem) (h : w_Works_isAlike_j227 this Q v1 v2 v3 v4 v5 M) : E γ k_Works_isAlike 2 227 [none, some (vr (some (5, v1))), some (vi v2), some (vr (some (5, v3))), some (vi v4), some (vi v5), none] [] M (Qi Q) := by
  unfold w_Works_isAlike_j227 at h
  obtain ⟨c27, c28, h⟩ := h
  refine E_blk (lv' := [none, some (vr (some (5, v1))), some (vi v2), some (vr (some (5, v3))), some (vi v4), some (vi v5), none]) (st' := [vi (mI M 69 v3 v4.toNatClampNeg), vi (mI M 69 v1 v2.toNatClampNeg)]) (M1 := M) (pc' := 240) (tb_Works hγ) [.aload_n 1, .getfield 549, .iload_n 2, .iaload, .aload_n 3, .getfield 549, .iload 4, .iaload] (by decide +kernel) rfl rfl ⟨c27, c28, trivial⟩ ?_
  refine E_icmp_eq (off := 5) (tgt := 245) (by decide +kernel) (by decide) (fun b29 => ?_) (fun b29 => ?_)
  · rw [if_pos b29] at h
    refine E_blk (lv' := [none, some (vr (some (5, v1))), some (vi v2), some (vr (some (5, v3))), some (vi v4), some (vi v5), some (vi (0 : Int32))]) (st' := []) (M1 := M) (pc' := 248) (tb_Works hγ) [.iconst 0, .istore 6] (by decide +kernel) rfl rfl trivial ?_
    obtain ⟨n38, h⟩ := h
    refine E_mask [false, true, true, true, true, true, true] rfl ?_
    exact lk_Works_isAlike_L248 hγ this Q n38 v1 v2 v3 v4 v5 (0 : Int32) M h
  · rw [if_neg b29] at h
    refine E_blk (lv' := [none, some (vr (some (5, v1))), some (vi v2), some (vr (some (5, v3))), some (vi v4), some (vi v5), none]) (st' := [vi (0 : Int32)]) (M1 := M) (pc' := 244) (tb_Works hγ) [.iconst 0] (by decide +kernel) rfl rfl trivial ?_
    exact E_zret rfl (Or.inl rfl) (by decide +kernel) h
set_option maxRecDepth 4096 in
theorem lk_Works_isAlike_j156 {γ : Gm} (hγ : Gk γ) (this : Nat) (Q : Int32 → Mem → Prop) (v1 : Nat) (v2 : Int32) (v3 : Nat) (v4 : Int32) (v5 : Int32) (M : Mem) (h : w_Works_isAlike_j156 this Q v1 v2 v3 v4 v5 M) : E γ k_Works_isAlike 2 156 [some (vr (some (10, this))), some (vr (some (5, v1))), some (vi v2), some (vr (some (5, v3))), some (vi v4), some (vi v5), none] [] M (Qi Q) := by
  unfold w_Works_isAlike_j156 at h
  refine E_blk (lv' := [some (vr (some (10, this))), some (vr (some (5, v1))), some (vi v2), some (vr (some (5, v3))), some (vi v4), some (vi v5), none]) (st' := [vi (53 : Int32), vi (46 : Int32), vi v5]) (M1 := M) (pc' := 162) (tb_Works hγ) [.iload 5, .bipush 46, .bipush 53] (by decide +kernel) rfl rfl trivial ?_
  refine E_callS (κ' := k_Works_isIn) (As := [vi v5, vi (46 : Int32), vi (53 : Int32)]) (st := []) ms_Works_isIn (Or.inl (tbk_mem (j := 5) (k := 237) rfl)) rfl (by decide +kernel) (Nat.le_of_ble_eq_true rfl) (Nat.le_of_ble_eq_true rfl) rfl (by decide) (lk_Works_isIn hγ v5 (46 : Int32) (53 : Int32) _ M h) (fun _ _ => Qi_r) (fun v M17 hp => Qi_k (R := fun st => E γ k_Works_isAlike 2 165 [some (vr (some (10, this))), some (vr (some (5, v1))), some (vi v2), some (vr (some (5, v3))), some (vi v4), some (vi v5), none] st M17 (Qi Q)) hp (fun r18 h => ?_))
  refine E_if_eq (off := 23) (tgt := 188) (by decide +kernel) (by decide) (fun b19 => ?_) (fun b19 => ?_)
  · rw [if_pos b19] at h
    obtain ⟨c20, c21, h⟩ := h
    refine E_blk (lv' := [some (vr (some (10, this))), some (vr (some (5, v1))), some (vi v2), some (vr (some (5, v3))), some (vi v4), some (vi v5), none]) (st' := [vi (mI M17 67 v3 v4.toNatClampNeg), vi (mI M17 67 v1 v2.toNatClampNeg)]) (M1 := M17) (pc' := 201) (tb_Works hγ) [.aload_n 1, .getfield 540, .iload_n 2, .iaload, .aload_n 3, .getfield 540, .iload 4, .iaload] (by decide +kernel) rfl rfl ⟨c20, c21, trivial⟩ ?_
    refine E_icmp_ne (off := 42) (tgt := 243) (by decide +kernel) (by decide) (fun b22 => ?_) (fun b22 => ?_)
    · rw [if_pos b22] at h
      refine E_blk (lv' := [some (vr (some (10, this))), some (vr (some (5, v1))), some (vi v2), some (vr (some (5, v3))), some (vi v4), some (vi v5), none]) (st' := [vi (7 : Int32), vi v5]) (M1 := M17) (pc' := 208) (tb_Works hγ) [.iload 5, .bipush 7] (by decide +kernel) rfl rfl trivial ?_
      refine E_icmp_ne (off := 19) (tgt := 227) (by decide +kernel) (by decide) (fun b23 => ?_) (fun b23 => ?_)
      · rw [if_pos b23] at h
        obtain ⟨c24, c25, h⟩ := h
        refine E_blk (lv' := [some (vr (some (10, this))), some (vr (some (5, v1))), some (vi v2), some (vr (some (5, v3))), some (vi v4), some (vi v5), none]) (st' := [vi (mI M17 68 v3 v4.toNatClampNeg), vi (mI M17 68 v1 v2.toNatClampNeg)]) (M1 := M17) (pc' := 224) (tb_Works hγ) [.aload_n 1, .getfield 546, .iload_n 2, .iaload, .aload_n 3, .getfield 546, .iload 4, .iaload] (by decide +kernel) rfl rfl ⟨c24, c25, trivial⟩ ?_
        refine E_icmp_ne (off := 19) (tgt := 243) (by decide +kernel) (by decide) (fun b26 => ?_) (fun b26 => ?_)
        · rw [if_pos b26] at h
          refine E_mask [false, true, true, true, true, true, false] rfl ?_
          exact lk_Works_isAlike_j227 hγ this Q v1 v2 v3 v4 v5 M17 h
        · rw [if_neg b26] at h
          refine E_blk (lv' := [some (vr (some (10, this))), some (vr (some (5, v1))), some (vi v2), some (vr (some (5, v3))), some (vi v4), some (vi v5), none]) (st' := [vi (0 : Int32)]) (M1 := M17) (pc' := 244) (tb_Works hγ) [.iconst 0] (by decide +kernel) rfl rfl trivial ?_
          exact E_zret rfl (Or.inl rfl) (by decide +kernel) h
      · rw [if_neg b23] at h
        refine E_mask [false, true, true, true, true, true, false] rfl ?_
        exact lk_Works_isAlike_j227 hγ this Q v1 v2 v3 v4 v5 M17 h
    · rw [if_neg b22] at h
      refine E_blk (lv' := [some (vr (some (10, this))), some (vr (some (5, v1))), some (vi v2), some (vr (some (5, v3))), some (vi v4), some (vi v5), none]) (st' := [vi (0 : Int32)]) (M1 := M17) (pc' := 244) (tb_Works hγ) [.iconst 0] (by decide +kernel) rfl rfl trivial ?_
      exact E_zret rfl (Or.inl rfl) (by decide +kernel) h
  · rw [if_neg b19] at h
    obtain ⟨c39, c40, h⟩ := h
    refine E_blk (lv' := [some (vr (some (10, this))), some (vr (some (5, v1))), some (vi v2), some (vr (some (5, v3))), some (vi v4), some (vi v5), none]) (st' := [vi (mI M17 67 v3 v4.toNatClampNeg), vr (some (5, v3)), vi (mI M17 67 v1 v2.toNatClampNeg), vr (some (5, v1)), vr (some (10, this))]) (M1 := M17) (pc' := 184) (tb_Works hγ) [.aload_n 0, .aload_n 1, .aload_n 1, .getfield 540, .iload_n 2, .iaload, .aload_n 3, .aload_n 3, .getfield 540, .iload 4, .iaload] (by decide +kernel) rfl rfl ⟨c39, c40, trivial⟩ ?_
    refine E_callV (κ' := k_Works_isSameMember) (As := [vr (some (5, v1)), vi (mI M17 67 v1 v2.toNatClampNeg), vr (some (5, v3)), vi (mI M17 67 v3 v4.toNatClampNeg)]) (st := []) mv_Works_isSameMember (Or.inl (tbk_mem (j := 10) (k := 113) rfl)) rfl (by decide +kernel) (Nat.le_of_ble_eq_true rfl) (Nat.le_of_ble_eq_true rfl) rfl (by decide) (lk_Works_isSameMember hγ this v1 (mI M17 67 v1 v2.toNatClampNeg) v3 (mI M17 67 v3 v4.toNatClampNeg) _ M17 h) (fun _ _ => Qi_r) (fun v M41 hp => Qi_k (R := fun st => E γ k_Works_isAlike 2 187 [some (vr (some (10, this))), some (vr (some (5, v1))), some (vi v2), some (vr (some (5, v3))), some (vi v4), some (vi v5), none] st M41 (Qi Q)) hp (fun r42 h => ?_))
    exact E_zret rfl h.1 (by decide +kernel) h.2
set_option maxRecDepth 4096 in
theorem lk_Works_isAlike_L89 {γ : Gm} (hγ : Gk γ) (this : Nat) (Q : Int32 → Mem → Prop) : ∀ (n : Nat) (v1 : Nat) (v2 : Int32) (v3 : Nat) (v4 : Int32) (v5 : Int32) (v6 : Int32) (M : Mem), w_Works_isAlike_L89 this Q n v1 v2 v3 v4 v5 v6 M → E γ k_Works_isAlike 2 89 [some (vr (some (10, this))), some (vr (some (5, v1))), some (vi v2), some (vr (some (5, v3))), some (vi v4), some (vi v5), some (vi v6)] [] M (Qi Q) := by
  intro n
  induction n with
  | zero => intro v1 v2 v3 v4 v5 v6 M h; exact h.elim
  | succ n ih =>
    intro v1 v2 v3 v4 v5 v6 M h
    unfold w_Works_isAlike_L89 at h
    obtain ⟨c15, h⟩ := h
    refine E_blk (lv' := [some (vr (some (10, this))), some (vr (some (5, v1))), some (vi v2), some (vr (some (5, v3))), some (vi v4), some (vi v5), some (vi v6)]) (st' := [vi (mI M 70 v1 v2.toNatClampNeg)]) (M1 := M) (pc' := 95) (tb_Works hγ) [.aload_n 1, .getfield 528, .iload_n 2, .iaload] (by decide +kernel) rfl rfl ⟨c15, trivial⟩ ?_
    refine E_if_lt (off := 61) (tgt := 156) (by decide +kernel) (by decide) (fun b16 => ?_) (fun b16 => ?_)
    · rw [if_pos b16] at h
      refine E_mask [true, true, true, true, true, true, false] rfl ?_
      exact lk_Works_isAlike_j156 hγ this Q v1 v2 v3 v4 v5 M h
    · rw [if_neg b16] at h
      obtain ⟨c43, c44, h⟩ := h
      refine E_blk (lv' := [some (vr (some (10, this))), some (vr (some (5, v1))), some (vi v2), some (vr (some (5, v3))), some (vi v4), some (vi v5), some (vi v6)]) (st' := [vi ((mI M 71 v1 v2.toNatClampNeg) + (mI M 72 v1 v2.toNatClampNeg)), vi v6]) (M1 := M) (pc' := 113) (tb_Works hγ) [.iload 6, .aload_n 1, .getfield 531, .iload_n 2, .iaload, .aload_n 1, .getfield 534, .iload_n 2, .iaload, .iadd] (by decide +kernel) rfl rfl ⟨c43, c44, trivial⟩ ?_
      refine E_icmp_ge (off := 43) (tgt := 156) (by decide +kernel) (by decide) (fun b45 => ?_) (fun b45 => ?_)
      · rw [if_pos b45] at h
        refine E_mask [true, true, true, true, true, true, false] rfl ?_
        exact lk_Works_isAlike_j156 hγ this Q v1 v2 v3 v4 v5 M h
      · rw [if_neg b45] at h
        obtain ⟨c46, c47, c48, c49, h⟩ := h
        refine E_blk (lv' := [some (vr (some (10, this))), some (vr (some (5, v1))), some (vi v2), some (vr (some (5, v3))), some (vi v4), some (vi v5), some (vi v6)]) (st' := [vi (mI M 73 v3 ((mI M 70 v3 v4.toNatClampNeg) + v6).toNatClampNeg), vi (mI M 73 v1 ((mI M 70 v1 v2.toNatClampNeg) + v6).toNatClampNeg)]) (M1 := M) (pc' := 145) (tb_Works hγ) [.aload_n 1, .getfield 537, .aload_n 1, .getfield 528, .iload_n 2, .iaload, .iload 6, .iadd, .iaload, .aload_n 3, .getfield 537, .aload_n 3, .getfield 528, .iload 4, .iaload, .iload 6, .iadd, .iaload] (by decide +kernel) rfl rfl ⟨c46, c47, c48, c49, trivial⟩ ?_
        refine E_icmp_eq (off := 5) (tgt := 150) (by decide +kernel) (by decide) (fun b50 => ?_) (fun b50 => ?_)
        · rw [if_pos b50] at h
          refine E_blk (lv' := [some (vr (some (10, this))), some (vr (some (5, v1))), some (vi v2), some (vr (some (5, v3))), some (vi v4), some (vi v5), some (vi (v6 + (1 : Int32)))]) (st' := []) (M1 := M) (pc' := 153) (tb_Works hγ) [.iinc 6 1] (by decide +kernel) rfl rfl trivial ?_
          refine E_goto (off := -64) (tgt := 89) (by decide +kernel) (by decide) ?_
          refine E_mask [true, true, true, true, true, true, true] rfl ?_
          exact ih v1 v2 v3 v4 v5 (v6 + (1 : Int32)) M h
        · rw [if_neg b50] at h
          refine E_blk (lv' := [some (vr (some (10, this))), some (vr (some (5, v1))), some (vi v2), some (vr (some (5, v3))), some (vi v4), some (vi v5), some (vi v6)]) (st' := [vi (0 : Int32)]) (M1 := M) (pc' := 149) (tb_Works hγ) [.iconst 0] (by decide +kernel) rfl rfl trivial ?_
          exact E_zret rfl (Or.inl rfl) (by decide +kernel) h
set_option maxRecDepth 4096 in
theorem lk_Works_isAlike_j49 {γ : Gm} (hγ : Gk γ) (this : Nat) (Q : Int32 → Mem → Prop) (v1 : Nat) (v2 : Int32) (v3 : Nat) (v4 : Int32) (v5 : Int32) (s0 : Int32) (s1 : Int32) (M : Mem) (h : w_Works_isAlike_j49 this Q v1 v2 v3 v4 v5 s0 s1 M) : E γ k_Works_isAlike 2 49 [some (vr (some (10, this))), some (vr (some (5, v1))), some (vi v2), some (vr (some (5, v3))), some (vi v4), some (vi v5), none] [vi s0, vi s1] M (Qi Q) := by
  unfold w_Works_isAlike_j49 at h
  refine E_icmp_ne (off := 35) (tgt := 84) (by decide +kernel) (by decide) (fun b8 => ?_) (fun b8 => ?_)
  · rw [if_pos b8] at h
    obtain ⟨c9, c10, h⟩ := h
    refine E_blk (lv' := [some (vr (some (10, this))), some (vr (some (5, v1))), some (vi v2), some (vr (some (5, v3))), some (vi v4), some (vi v5), none]) (st' := [vi (mI M 71 v3 v4.toNatClampNeg), vi (mI M 71 v1 v2.toNatClampNeg)]) (M1 := M) (pc' := 65) (tb_Works hγ) [.aload_n 1, .getfield 531, .iload_n 2, .iaload, .aload_n 3, .getfield 531, .iload 4, .iaload] (by decide +kernel) rfl rfl ⟨c9, c10, trivial⟩ ?_
    refine E_icmp_ne (off := 19) (tgt := 84) (by decide +kernel) (by decide) (fun b11 => ?_) (fun b11 => ?_)
    · rw [if_pos b11] at h
      obtain ⟨c12, c13, h⟩ := h
      refine E_blk (lv' := [some (vr (some (10, this))), some (vr (some (5, v1))), some (vi v2), some (vr (some (5, v3))), some (vi v4), some (vi v5), none]) (st' := [vi (mI M 72 v3 v4.toNatClampNeg), vi (mI M 72 v1 v2.toNatClampNeg)]) (M1 := M) (pc' := 81) (tb_Works hγ) [.aload_n 1, .getfield 534, .iload_n 2, .iaload, .aload_n 3, .getfield 534, .iload 4, .iaload] (by decide +kernel) rfl rfl ⟨c12, c13, trivial⟩ ?_
      refine E_icmp_eq (off := 5) (tgt := 86) (by decide +kernel) (by decide) (fun b14 => ?_) (fun b14 => ?_)
      · rw [if_pos b14] at h
        refine E_blk (lv' := [some (vr (some (10, this))), some (vr (some (5, v1))), some (vi v2), some (vr (some (5, v3))), some (vi v4), some (vi v5), some (vi (0 : Int32))]) (st' := []) (M1 := M) (pc' := 89) (tb_Works hγ) [.iconst 0, .istore 6] (by decide +kernel) rfl rfl trivial ?_
        obtain ⟨n51, h⟩ := h
        refine E_mask [true, true, true, true, true, true, true] rfl ?_
        exact lk_Works_isAlike_L89 hγ this Q n51 v1 v2 v3 v4 v5 (0 : Int32) M h
      · rw [if_neg b14] at h
        refine E_blk (lv' := [some (vr (some (10, this))), some (vr (some (5, v1))), some (vi v2), some (vr (some (5, v3))), some (vi v4), some (vi v5), none]) (st' := [vi (0 : Int32)]) (M1 := M) (pc' := 85) (tb_Works hγ) [.iconst 0] (by decide +kernel) rfl rfl trivial ?_
        exact E_zret rfl (Or.inl rfl) (by decide +kernel) h
    · rw [if_neg b11] at h
      refine E_blk (lv' := [some (vr (some (10, this))), some (vr (some (5, v1))), some (vi v2), some (vr (some (5, v3))), some (vi v4), some (vi v5), none]) (st' := [vi (0 : Int32)]) (M1 := M) (pc' := 85) (tb_Works hγ) [.iconst 0] (by decide +kernel) rfl rfl trivial ?_
      exact E_zret rfl (Or.inl rfl) (by decide +kernel) h
  · rw [if_neg b8] at h
    refine E_blk (lv' := [some (vr (some (10, this))), some (vr (some (5, v1))), some (vi v2), some (vr (some (5, v3))), some (vi v4), some (vi v5), none]) (st' := [vi (0 : Int32)]) (M1 := M) (pc' := 85) (tb_Works hγ) [.iconst 0] (by decide +kernel) rfl rfl trivial ?_
    exact E_zret rfl (Or.inl rfl) (by decide +kernel) h
set_option maxRecDepth 4096 in
theorem lk_Works_isAlike_j34 {γ : Gm} (hγ : Gk γ) (this : Nat) (Q : Int32 → Mem → Prop) (v1 : Nat) (v2 : Int32) (v3 : Nat) (v4 : Int32) (v5 : Int32) (s0 : Int32) (M : Mem) (h : w_Works_isAlike_j34 this Q v1 v2 v3 v4 v5 s0 M) : E γ k_Works_isAlike 2 34 [some (vr (some (10, this))), some (vr (some (5, v1))), some (vi v2), some (vr (some (5, v3))), some (vi v4), some (vi v5), none] [vi s0] M (Qi Q) := by
  unfold w_Works_isAlike_j34 at h
  obtain ⟨c6, h⟩ := h
  refine E_blk (lv' := [some (vr (some (10, this))), some (vr (some (5, v1))), some (vi v2), some (vr (some (5, v3))), some (vi v4), some (vi v5), none]) (st' := [vi (mI M 70 v3 v4.toNatClampNeg), vi s0]) (M1 := M) (pc' := 41) (tb_Works hγ) [.aload_n 3, .getfield 528, .iload 4, .iaload] (by decide +kernel) rfl rfl ⟨c6, trivial⟩ ?_
  refine E_if_ge (off := 7) (tgt := 48) (by decide +kernel) (by decide) (fun b7 => ?_) (fun b7 => ?_)
  · rw [if_pos b7] at h
    refine E_blk (lv' := [some (vr (some (10, this))), some (vr (some (5, v1))), some (vi v2), some (vr (some (5, v3))), some (vi v4), some (vi v5), none]) (st' := [vi (0 : Int32), vi s0]) (M1 := M) (pc' := 49) (tb_Works hγ) [.iconst 0] (by decide +kernel) rfl rfl trivial ?_
    refine E_mask [true, true, true, true, true, true, false] rfl ?_
    exact lk_Works_isAlike_j49 hγ this Q v1 v2 v3 v4 v5 (0 : Int32) s0 M h
  · rw [if_neg b7] at h
    refine E_blk (lv' := [some (vr (some (10, this))), some (vr (some (5, v1))), some (vi v2), some (vr (some (5, v3))), some (vi v4), some (vi v5), none]) (st' := [vi (1 : Int32), vi s0]) (M1 := M) (pc' := 45) (tb_Works hγ) [.iconst 1] (by decide +kernel) rfl rfl trivial ?_
    refine E_goto (off := 4) (tgt := 49) (by decide +kernel) (by decide) ?_
    refine E_mask [true, true, true, true, true, true, false] rfl ?_
    exact lk_Works_isAlike_j49 hγ this Q v1 v2 v3 v4 v5 (1 : Int32) s0 M h
set_option maxRecDepth 4096 in
theorem lk_Works_isAlike {γ : Gm} (hγ : Gk γ) (this : Nat) (a1 : Nat) (a2 : Int32) (a3 : Nat) (a4 : Int32) (Q : Int32 → Mem → Prop) (M : Mem) (h : w_Works_isAlike this a1 a2 a3 a4 Q M) : E γ k_Works_isAlike 2 0 [some (vr (some (10, this))), some (vr (some (5, a1))), some (vi a2), some (vr (some (5, a3))), some (vi a4), none, none] [] M (Qi Q) := by
  unfold w_Works_isAlike at h
  obtain ⟨c1, c2, h⟩ := h
  refine E_blk (lv' := [some (vr (some (10, this))), some (vr (some (5, a1))), some (vi a2), some (vr (some (5, a3))), some (vi a4), some (vi (mI M 66 a1 a2.toNatClampNeg)), none]) (st' := [vi (mI M 66 a3 a4.toNatClampNeg), vi (mI M 66 a1 a2.toNatClampNeg)]) (M1 := M) (pc' := 17) (tb_Works hγ) [.aload_n 1, .getfield 525, .iload_n 2, .iaload, .istore 5, .iload 5, .aload_n 3, .getfield 525, .iload 4, .iaload] (by decide +kernel) rfl rfl ⟨c1, c2, trivial⟩ ?_
  refine E_icmp_ne (off := 67) (tgt := 84) (by decide +kernel) (by decide) (fun b3 => ?_) (fun b3 => ?_)
  · rw [if_pos b3] at h
    obtain ⟨c4, h⟩ := h
    refine E_blk (lv' := [some (vr (some (10, this))), some (vr (some (5, a1))), some (vi a2), some (vr (some (5, a3))), some (vi a4), some (vi (mI M 66 a1 a2.toNatClampNeg)), none]) (st' := [vi (mI M 70 a1 a2.toNatClampNeg)]) (M1 := M) (pc' := 26) (tb_Works hγ) [.aload_n 1, .getfield 528, .iload_n 2, .iaload] (by decide +kernel) rfl rfl ⟨c4, trivial⟩ ?_
    refine E_if_ge (off := 7) (tgt := 33) (by decide +kernel) (by decide) (fun b5 => ?_) (fun b5 => ?_)
    · rw [if_pos b5] at h
      refine E_blk (lv' := [some (vr (some (10, this))), some (vr (some (5, a1))), some (vi a2), some (vr (some (5, a3))), some (vi a4), some (vi (mI M 66 a1 a2.toNatClampNeg)), none]) (st' := [vi (0 : Int32)]) (M1 := M) (pc' := 34) (tb_Works hγ) [.iconst 0] (by decide +kernel) rfl rfl trivial ?_
      refine E_mask [true, true, true, true, true, true, false] rfl ?_
      exact lk_Works_isAlike_j34 hγ this Q a1 a2 a3 a4 (mI M 66 a1 a2.toNatClampNeg) (0 : Int32) M h
    · rw [if_neg b5] at h
      refine E_blk (lv' := [some (vr (some (10, this))), some (vr (some (5, a1))), some (vi a2), some (vr (some (5, a3))), some (vi a4), some (vi (mI M 66 a1 a2.toNatClampNeg)), none]) (st' := [vi (1 : Int32)]) (M1 := M) (pc' := 30) (tb_Works hγ) [.iconst 1] (by decide +kernel) rfl rfl trivial ?_
      refine E_goto (off := 4) (tgt := 34) (by decide +kernel) (by decide) ?_
      refine E_mask [true, true, true, true, true, true, false] rfl ?_
      exact lk_Works_isAlike_j34 hγ this Q a1 a2 a3 a4 (mI M 66 a1 a2.toNatClampNeg) (1 : Int32) M h
  · rw [if_neg b3] at h
    refine E_blk (lv' := [some (vr (some (10, this))), some (vr (some (5, a1))), some (vi a2), some (vr (some (5, a3))), some (vi a4), some (vi (mI M 66 a1 a2.toNatClampNeg)), none]) (st' := [vi (0 : Int32)]) (M1 := M) (pc' := 85) (tb_Works hγ) [.iconst 0] (by decide +kernel) rfl rfl trivial ?_
    exact E_zret rfl (Or.inl rfl) (by decide +kernel) h
def w_Works_isWrittenAlike_j201 (this : Nat) (Q : Int32 → Mem → Prop) (k142 : Nat → Int32 → Nat → Int32 → Int32 → Int32 → Mem → Prop) (v1 : Nat) (v2 : Int32) (v3 : Nat) (v4 : Int32) (v6 : Int32) (s0 : Int32) (M : Mem) : Prop :=
  k142 v1 v2 v3 v4 s0 (v6 + (1 : Int32)) M
def w_Works_isWrittenAlike_L142 (this : Nat) (Q : Int32 → Mem → Prop) : Nat → Nat → Int32 → Nat → Int32 → Int32 → Int32 → Mem → Prop
  | 0, _, _, _, _, _, _, _ => False
  | n + 1, v1, v2, v3, v4, v5, v6, M => vp_in v2 (mL M 65 v1) ∧ if ((4 : Int32) * (mI M 65 v1 v2.toNatClampNeg)) ≤ v6 then ((v5 = 0 ∨ v5 = 1) ∧ Q v5 M) else (if v5 = 0 then ((v5 = 0 ∨ v5 = 1) ∧ Q v5 M) else (vp_in v2 (mL M 64 v1) ∧ vp_in (((4 : Int32) * (mI M 64 v1 v2.toNatClampNeg)) + v6) (mL M 75 v1) ∧ vp_in v4 (mL M 64 v3) ∧ vp_in (((4 : Int32) * (mI M 64 v3 v4.toNatClampNeg)) + v6) (mL M 75 v3) ∧ if (mI M 75 v1 (((4 : Int32) * (mI M 64 v1 v2.toNatClampNeg)) + v6).toNatClampNeg) = (mI M 75 v3 (((4 : Int32) * (mI M 64 v3 v4.toNatClampNeg)) + v6).toNatClampNeg) then (w_Works_isWrittenAlike_j201 this Q (w_Works_isWrittenAlike_L142 this Q n) v1 v2 v3 v4 v6 (1 : Int32) M) else (w_Works_isWrittenAlike_j201 this Q (w_Works_isWrittenAlike_L142 this Q n) v1 v2 v3 v4 v6 (0 : Int32) M)))
def w_Works_isWrittenAlike_j139 (this : Nat) (Q : Int32 → Mem → Prop) (v1 : Nat) (v2 : Int32) (v3 : Nat) (v4 : Int32) (v5 : Int32) (M : Mem) : Prop :=
  ∃ n26 : Nat, w_Works_isWrittenAlike_L142 this Q n26 v1 v2 v3 v4 v5 (0 : Int32) M
def w_Works_isWrittenAlike_L90 (this : Nat) (Q : Int32 → Mem → Prop) : Nat → Nat → Int32 → Nat → Int32 → Int32 → Int32 → Mem → Prop
  | 0, _, _, _, _, _, _, _ => False
  | n + 1, v1, v2, v3, v4, v5, v6, M => vp_in v2 (mL M 63 v1) ∧ if (mI M 63 v1 v2.toNatClampNeg) ≤ v6 then (w_Works_isWrittenAlike_j139 this Q v1 v2 v3 v4 v5 M) else (if v5 = 0 then (w_Works_isWrittenAlike_j139 this Q v1 v2 v3 v4 v5 M) else (vp_in v2 (mL M 62 v1) ∧ vp_in v4 (mL M 62 v3) ∧ w_Works_isAlike this v1 ((mI M 62 v1 v2.toNatClampNeg) + v6) v3 ((mI M 62 v3 v4.toNatClampNeg) + v6) (fun r31 M30 => (w_Works_isWrittenAlike_L90 this Q n) v1 v2 v3 v4 r31 (v6 + (1 : Int32)) M30) M))
def w_Works_isWrittenAlike_j85 (this : Nat) (Q : Int32 → Mem → Prop) (v1 : Nat) (v2 : Int32) (v3 : Nat) (v4 : Int32) (s0 : Int32) (M : Mem) : Prop :=
  ∃ n32 : Nat, w_Works_isWrittenAlike_L90 this Q n32 v1 v2 v3 v4 s0 (0 : Int32) M
def w_Works_isWrittenAlike_j84 (this : Nat) (Q : Int32 → Mem → Prop) (v1 : Nat) (v2 : Int32) (v3 : Nat) (v4 : Int32) (M : Mem) : Prop :=
  w_Works_isWrittenAlike_j85 this Q v1 v2 v3 v4 (0 : Int32) M
def w_Works_isWrittenAlike (this : Nat) (a1 : Nat) (a2 : Int32) (a3 : Nat) (a4 : Int32) (Q : Int32 → Mem → Prop) (M : Mem) : Prop :=
  vp_in a2 (mL M 57 a1) ∧ vp_in a4 (mL M 57 a3) ∧ if (mI M 57 a1 a2.toNatClampNeg) = (mI M 57 a3 a4.toNatClampNeg) then (vp_in a2 (mL M 60 a1) ∧ vp_in a4 (mL M 60 a3) ∧ if (mI M 60 a1 a2.toNatClampNeg) = (mI M 60 a3 a4.toNatClampNeg) then (vp_in a2 (mL M 61 a1) ∧ vp_in a4 (mL M 61 a3) ∧ if (mI M 61 a1 a2.toNatClampNeg) = (mI M 61 a3 a4.toNatClampNeg) then (vp_in a2 (mL M 63 a1) ∧ vp_in a4 (mL M 63 a3) ∧ if (mI M 63 a1 a2.toNatClampNeg) = (mI M 63 a3 a4.toNatClampNeg) then (vp_in a2 (mL M 65 a1) ∧ vp_in a4 (mL M 65 a3) ∧ if (mI M 65 a1 a2.toNatClampNeg) = (mI M 65 a3 a4.toNatClampNeg) then (w_Works_isWrittenAlike_j85 this Q a1 a2 a3 a4 (1 : Int32) M) else (w_Works_isWrittenAlike_j84 this Q a1 a2 a3 a4 M)) else (w_Works_isWrittenAlike_j84 this Q a1 a2 a3 a4 M)) else (w_Works_isWrittenAlike_j84 this Q a1 a2 a3 a4 M)) else (w_Works_isWrittenAlike_j84 this Q a1 a2 a3 a4 M)) else (w_Works_isWrittenAlike_j84 this Q a1 a2 a3 a4 M)
set_option maxRecDepth 4096 in
theorem lk_Works_isWrittenAlike_j201 {γ : Gm} (hγ : Gk γ) (this : Nat) (Q : Int32 → Mem → Prop) (k142 : Nat → Int32 → Nat → Int32 → Int32 → Int32 → Mem → Prop) (hk142 : ∀ (v1 : Nat) (v2 : Int32) (v3 : Nat) (v4 : Int32) (v5 : Int32) (v6 : Int32) (M : Mem), k142 v1 v2 v3 v4 v5 v6 M → E γ k_Works_isWrittenAlike 3 142 [none, some (vr (some (5, v1))), some (vi v2), some (vr (some (5, v3))), some (vi v4), some (vi v5), some (vi v6)] [] M (Qi Q)) (v1 : Nat) (v2 : Int32) (v3 : Nat) (v4 : Int32) (v6 : Int32) (s0 : Int32) (M : Mem) (h : w_Works_isWrittenAlike_j201 this Q k142 v1 v2 v3 v4 v6 s0 M) : E γ k_Works_isWrittenAlike 3 201 [none, some (vr (some (5, v1))), some (vi v2), some (vr (some (5, v3))), some (vi v4), none, some (vi v6)] [vi s0] M (Qi Q) := by
  unfold w_Works_isWrittenAlike_j201 at h
  refine E_blk (lv' := [none, some (vr (some (5, v1))), some (vi v2), some (vr (some (5, v3))), some (vi v4), some (vi s0), some (vi (v6 + (1 : Int32)))]) (st' := []) (M1 := M) (pc' := 206) (tb_Works hγ) [.istore 5, .iinc 6 1] (by decide +kernel) rfl rfl trivial ?_
  refine E_goto (off := -64) (tgt := 142) (by decide +kernel) (by decide) ?_
  refine E_mask [false, true, true, true, true, true, true] rfl ?_
  exact hk142 v1 v2 v3 v4 s0 (v6 + (1 : Int32)) M h
set_option maxRecDepth 4096 in
theorem lk_Works_isWrittenAlike_L142 {γ : Gm} (hγ : Gk γ) (this : Nat) (Q : Int32 → Mem → Prop) : ∀ (n : Nat) (v1 : Nat) (v2 : Int32) (v3 : Nat) (v4 : Int32) (v5 : Int32) (v6 : Int32) (M : Mem), w_Works_isWrittenAlike_L142 this Q n v1 v2 v3 v4 v5 v6 M → E γ k_Works_isWrittenAlike 3 142 [none, some (vr (some (5, v1))), some (vi v2), some (vr (some (5, v3))), some (vi v4), some (vi v5), some (vi v6)] [] M (Qi Q) := by
  intro n
  induction n with
  | zero => intro v1 v2 v3 v4 v5 v6 M h; exact h.elim
  | succ n ih =>
    intro v1 v2 v3 v4 v5 v6 M h
    unfold w_Works_isWrittenAlike_L142 at h
    obtain ⟨c18, h⟩ := h
    refine E_blk (lv' := [none, some (vr (some (5, v1))), some (vi v2), some (vr (some (5, v3))), some (vi v4), some (vi v5), some (vi v6)]) (st' := [vi ((4 : Int32) * (mI M 65 v1 v2.toNatClampNeg)), vi v6]) (M1 := M) (pc' := 152) (tb_Works hγ) [.iload 6, .iconst 4, .aload_n 1, .getfield 513, .iload_n 2, .iaload, .imul] (by decide +kernel) rfl rfl ⟨c18, trivial⟩ ?_
    refine E_icmp_ge (off := 57) (tgt := 209) (by decide +kernel) (by decide) (fun b19 => ?_) (fun b19 => ?_)
    · rw [if_pos b19] at h
      refine E_blk (lv' := [none, some (vr (some (5, v1))), some (vi v2), some (vr (some (5, v3))), some (vi v4), some (vi v5), some (vi v6)]) (st' := [vi v5]) (M1 := M) (pc' := 211) (tb_Works hγ) [.iload 5] (by decide +kernel) rfl rfl trivial ?_
      exact E_zret rfl h.1 (by decide +kernel) h.2
    · rw [if_neg b19] at h
      refine E_blk (lv' := [none, some (vr (some (5, v1))), some (vi v2), some (vr (some (5, v3))), some (vi v4), some (vi v5), some (vi v6)]) (st' := [vi v5]) (M1 := M) (pc' := 157) (tb_Works hγ) [.iload 5] (by decide +kernel) rfl rfl trivial ?_
      refine E_if_eq (off := 52) (tgt := 209) (by decide +kernel) (by decide) (fun b20 => ?_) (fun b20 => ?_)
      · rw [if_pos b20] at h
        refine E_blk (lv' := [none, some (vr (some (5, v1))), some (vi v2), some (vr (some (5, v3))), some (vi v4), some (vi v5), some (vi v6)]) (st' := [vi v5]) (M1 := M) (pc' := 211) (tb_Works hγ) [.iload 5] (by decide +kernel) rfl rfl trivial ?_
        exact E_zret rfl h.1 (by decide +kernel) h.2
      · rw [if_neg b20] at h
        obtain ⟨c21, c22, c23, c24, h⟩ := h
        refine E_blk (lv' := [none, some (vr (some (5, v1))), some (vi v2), some (vr (some (5, v3))), some (vi v4), some (vi v5), some (vi v6)]) (st' := [vi (mI M 75 v3 (((4 : Int32) * (mI M 64 v3 v4.toNatClampNeg)) + v6).toNatClampNeg), vi (mI M 75 v1 (((4 : Int32) * (mI M 64 v1 v2.toNatClampNeg)) + v6).toNatClampNeg)]) (M1 := M) (pc' := 193) (tb_Works hγ) [.aload_n 1, .getfield 519, .iconst 4, .aload_n 1, .getfield 522, .iload_n 2, .iaload, .imul, .iload 6, .iadd, .iaload, .aload_n 3, .getfield 519, .iconst 4, .aload_n 3, .getfield 522, .iload 4, .iaload, .imul, .iload 6, .iadd, .iaload] (by decide +kernel) rfl rfl ⟨c21, c22, c23, c24, trivial⟩ ?_
        refine E_icmp_ne (off := 7) (tgt := 200) (by decide +kernel) (by decide) (fun b25 => ?_) (fun b25 => ?_)
        · rw [if_pos b25] at h
          refine E_blk (lv' := [none, some (vr (some (5, v1))), some (vi v2), some (vr (some (5, v3))), some (vi v4), some (vi v5), some (vi v6)]) (st' := [vi (1 : Int32)]) (M1 := M) (pc' := 197) (tb_Works hγ) [.iconst 1] (by decide +kernel) rfl rfl trivial ?_
          refine E_goto (off := 4) (tgt := 201) (by decide +kernel) (by decide) ?_
          refine E_mask [false, true, true, true, true, false, true] rfl ?_
          exact lk_Works_isWrittenAlike_j201 hγ this Q (w_Works_isWrittenAlike_L142 this Q n) ih v1 v2 v3 v4 v6 (1 : Int32) M h
        · rw [if_neg b25] at h
          refine E_blk (lv' := [none, some (vr (some (5, v1))), some (vi v2), some (vr (some (5, v3))), some (vi v4), some (vi v5), some (vi v6)]) (st' := [vi (0 : Int32)]) (M1 := M) (pc' := 201) (tb_Works hγ) [.iconst 0] (by decide +kernel) rfl rfl trivial ?_
          refine E_mask [false, true, true, true, true, false, true] rfl ?_
          exact lk_Works_isWrittenAlike_j201 hγ this Q (w_Works_isWrittenAlike_L142 this Q n) ih v1 v2 v3 v4 v6 (0 : Int32) M h
set_option maxRecDepth 4096 in
theorem lk_Works_isWrittenAlike_j139 {γ : Gm} (hγ : Gk γ) (this : Nat) (Q : Int32 → Mem → Prop) (v1 : Nat) (v2 : Int32) (v3 : Nat) (v4 : Int32) (v5 : Int32) (M : Mem) (h : w_Works_isWrittenAlike_j139 this Q v1 v2 v3 v4 v5 M) : E γ k_Works_isWrittenAlike 3 139 [none, some (vr (some (5, v1))), some (vi v2), some (vr (some (5, v3))), some (vi v4), some (vi v5), none] [] M (Qi Q) := by
  unfold w_Works_isWrittenAlike_j139 at h
  refine E_blk (lv' := [none, some (vr (some (5, v1))), some (vi v2), some (vr (some (5, v3))), some (vi v4), some (vi v5), some (vi (0 : Int32))]) (st' := []) (M1 := M) (pc' := 142) (tb_Works hγ) [.iconst 0, .istore 6] (by decide +kernel) rfl rfl trivial ?_
  obtain ⟨n26, h⟩ := h
  refine E_mask [false, true, true, true, true, true, true] rfl ?_
  exact lk_Works_isWrittenAlike_L142 hγ this Q n26 v1 v2 v3 v4 v5 (0 : Int32) M h
set_option maxRecDepth 4096 in
theorem lk_Works_isWrittenAlike_L90 {γ : Gm} (hγ : Gk γ) (this : Nat) (Q : Int32 → Mem → Prop) : ∀ (n : Nat) (v1 : Nat) (v2 : Int32) (v3 : Nat) (v4 : Int32) (v5 : Int32) (v6 : Int32) (M : Mem), w_Works_isWrittenAlike_L90 this Q n v1 v2 v3 v4 v5 v6 M → E γ k_Works_isWrittenAlike 3 90 [some (vr (some (10, this))), some (vr (some (5, v1))), some (vi v2), some (vr (some (5, v3))), some (vi v4), some (vi v5), some (vi v6)] [] M (Qi Q) := by
  intro n
  induction n with
  | zero => intro v1 v2 v3 v4 v5 v6 M h; exact h.elim
  | succ n ih =>
    intro v1 v2 v3 v4 v5 v6 M h
    unfold w_Works_isWrittenAlike_L90 at h
    obtain ⟨c16, h⟩ := h
    refine E_blk (lv' := [some (vr (some (10, this))), some (vr (some (5, v1))), some (vi v2), some (vr (some (5, v3))), some (vi v4), some (vi v5), some (vi v6)]) (st' := [vi (mI M 63 v1 v2.toNatClampNeg), vi v6]) (M1 := M) (pc' := 98) (tb_Works hγ) [.iload 6, .aload_n 1, .getfield 317, .iload_n 2, .iaload] (by decide +kernel) rfl rfl ⟨c16, trivial⟩ ?_
    refine E_icmp_ge (off := 41) (tgt := 139) (by decide +kernel) (by decide) (fun b17 => ?_) (fun b17 => ?_)
    · rw [if_pos b17] at h
      refine E_mask [false, true, true, true, true, true, false] rfl ?_
      exact lk_Works_isWrittenAlike_j139 hγ this Q v1 v2 v3 v4 v5 M h
    · rw [if_neg b17] at h
      refine E_blk (lv' := [some (vr (some (10, this))), some (vr (some (5, v1))), some (vi v2), some (vr (some (5, v3))), some (vi v4), some (vi v5), some (vi v6)]) (st' := [vi v5]) (M1 := M) (pc' := 103) (tb_Works hγ) [.iload 5] (by decide +kernel) rfl rfl trivial ?_
      refine E_if_eq (off := 36) (tgt := 139) (by decide +kernel) (by decide) (fun b27 => ?_) (fun b27 => ?_)
      · rw [if_pos b27] at h
        refine E_mask [false, true, true, true, true, true, false] rfl ?_
        exact lk_Works_isWrittenAlike_j139 hγ this Q v1 v2 v3 v4 v5 M h
      · rw [if_neg b27] at h
        obtain ⟨c28, c29, h⟩ := h
        refine E_blk (lv' := [some (vr (some (10, this))), some (vr (some (5, v1))), some (vi v2), some (vr (some (5, v3))), some (vi v4), some (vi v5), some (vi v6)]) (st' := [vi ((mI M 62 v3 v4.toNatClampNeg) + v6), vr (some (5, v3)), vi ((mI M 62 v1 v2.toNatClampNeg) + v6), vr (some (5, v1)), vr (some (10, this))]) (M1 := M) (pc' := 128) (tb_Works hγ) [.aload_n 0, .aload_n 1, .aload_n 1, .getfield 442, .iload_n 2, .iaload, .iload 6, .iadd, .aload_n 3, .aload_n 3, .getfield 442, .iload 4, .iaload, .iload 6, .iadd] (by decide +kernel) rfl rfl ⟨c28, c29, trivial⟩ ?_
        refine E_callV (κ' := k_Works_isAlike) (As := [vr (some (5, v1)), vi ((mI M 62 v1 v2.toNatClampNeg) + v6), vr (some (5, v3)), vi ((mI M 62 v3 v4.toNatClampNeg) + v6)]) (st := []) mv_Works_isAlike (Or.inl (tbk_mem (j := 10) (k := 109) rfl)) rfl (by decide +kernel) (Nat.le_of_ble_eq_true rfl) (Nat.le_of_ble_eq_true rfl) rfl (by decide) (lk_Works_isAlike hγ this v1 ((mI M 62 v1 v2.toNatClampNeg) + v6) v3 ((mI M 62 v3 v4.toNatClampNeg) + v6) _ M h) (fun _ _ => Qi_r) (fun v M30 hp => Qi_k (R := fun st => E γ k_Works_isWrittenAlike 3 131 [some (vr (some (10, this))), some (vr (some (5, v1))), some (vi v2), some (vr (some (5, v3))), some (vi v4), some (vi v5), some (vi v6)] st M30 (Qi Q)) hp (fun r31 h => ?_))
        refine E_blk (lv' := [some (vr (some (10, this))), some (vr (some (5, v1))), some (vi v2), some (vr (some (5, v3))), some (vi v4), some (vi r31), some (vi (v6 + (1 : Int32)))]) (st' := []) (M1 := M30) (pc' := 136) (tb_Works hγ) [.istore 5, .iinc 6 1] (by decide +kernel) rfl rfl trivial ?_
        refine E_goto (off := -46) (tgt := 90) (by decide +kernel) (by decide) ?_
        refine E_mask [true, true, true, true, true, true, true] rfl ?_
        exact ih v1 v2 v3 v4 r31 (v6 + (1 : Int32)) M30 h
set_option maxRecDepth 4096 in
theorem lk_Works_isWrittenAlike_j85 {γ : Gm} (hγ : Gk γ) (this : Nat) (Q : Int32 → Mem → Prop) (v1 : Nat) (v2 : Int32) (v3 : Nat) (v4 : Int32) (s0 : Int32) (M : Mem) (h : w_Works_isWrittenAlike_j85 this Q v1 v2 v3 v4 s0 M) : E γ k_Works_isWrittenAlike 3 85 [some (vr (some (10, this))), some (vr (some (5, v1))), some (vi v2), some (vr (some (5, v3))), some (vi v4), none, none] [vi s0] M (Qi Q) := by
  unfold w_Works_isWrittenAlike_j85 at h
  refine E_blk (lv' := [some (vr (some (10, this))), some (vr (some (5, v1))), some (vi v2), some (vr (some (5, v3))), some (vi v4), some (vi s0), some (vi (0 : Int32))]) (st' := []) (M1 := M) (pc' := 90) (tb_Works hγ) [.istore 5, .iconst 0, .istore 6] (by decide +kernel) rfl rfl trivial ?_
  obtain ⟨n32, h⟩ := h
  refine E_mask [true, true, true, true, true, true, true] rfl ?_
  exact lk_Works_isWrittenAlike_L90 hγ this Q n32 v1 v2 v3 v4 s0 (0 : Int32) M h
set_option maxRecDepth 4096 in
theorem lk_Works_isWrittenAlike_j84 {γ : Gm} (hγ : Gk γ) (this : Nat) (Q : Int32 → Mem → Prop) (v1 : Nat) (v2 : Int32) (v3 : Nat) (v4 : Int32) (M : Mem) (h : w_Works_isWrittenAlike_j84 this Q v1 v2 v3 v4 M) : E γ k_Works_isWrittenAlike 3 84 [some (vr (some (10, this))), some (vr (some (5, v1))), some (vi v2), some (vr (some (5, v3))), some (vi v4), none, none] [] M (Qi Q) := by
  unfold w_Works_isWrittenAlike_j84 at h
  refine E_blk (lv' := [some (vr (some (10, this))), some (vr (some (5, v1))), some (vi v2), some (vr (some (5, v3))), some (vi v4), none, none]) (st' := [vi (0 : Int32)]) (M1 := M) (pc' := 85) (tb_Works hγ) [.iconst 0] (by decide +kernel) rfl rfl trivial ?_
  refine E_mask [true, true, true, true, true, false, false] rfl ?_
  exact lk_Works_isWrittenAlike_j85 hγ this Q v1 v2 v3 v4 (0 : Int32) M h
set_option maxRecDepth 4096 in
theorem lk_Works_isWrittenAlike {γ : Gm} (hγ : Gk γ) (this : Nat) (a1 : Nat) (a2 : Int32) (a3 : Nat) (a4 : Int32) (Q : Int32 → Mem → Prop) (M : Mem) (h : w_Works_isWrittenAlike this a1 a2 a3 a4 Q M) : E γ k_Works_isWrittenAlike 3 0 [some (vr (some (10, this))), some (vr (some (5, a1))), some (vi a2), some (vr (some (5, a3))), some (vi a4), none, none] [] M (Qi Q) := by
  unfold w_Works_isWrittenAlike at h
  obtain ⟨c1, c2, h⟩ := h
  refine E_blk (lv' := [some (vr (some (10, this))), some (vr (some (5, a1))), some (vi a2), some (vr (some (5, a3))), some (vi a4), none, none]) (st' := [vi (mI M 57 a3 a4.toNatClampNeg), vi (mI M 57 a1 a2.toNatClampNeg)]) (M1 := M) (pc' := 13) (tb_Works hγ) [.aload_n 1, .getfield 305, .iload_n 2, .iaload, .aload_n 3, .getfield 305, .iload 4, .iaload] (by decide +kernel) rfl rfl ⟨c1, c2, trivial⟩ ?_
  refine E_icmp_ne (off := 71) (tgt := 84) (by decide +kernel) (by decide) (fun b3 => ?_) (fun b3 => ?_)
  · rw [if_pos b3] at h
    obtain ⟨c4, c5, h⟩ := h
    refine E_blk (lv' := [some (vr (some (10, this))), some (vr (some (5, a1))), some (vi a2), some (vr (some (5, a3))), some (vi a4), none, none]) (st' := [vi (mI M 60 a3 a4.toNatClampNeg), vi (mI M 60 a1 a2.toNatClampNeg)]) (M1 := M) (pc' := 29) (tb_Works hγ) [.aload_n 1, .getfield 311, .iload_n 2, .iaload, .aload_n 3, .getfield 311, .iload 4, .iaload] (by decide +kernel) rfl rfl ⟨c4, c5, trivial⟩ ?_
    refine E_icmp_ne (off := 55) (tgt := 84) (by decide +kernel) (by decide) (fun b6 => ?_) (fun b6 => ?_)
    · rw [if_pos b6] at h
      obtain ⟨c7, c8, h⟩ := h
      refine E_blk (lv' := [some (vr (some (10, this))), some (vr (some (5, a1))), some (vi a2), some (vr (some (5, a3))), some (vi a4), none, none]) (st' := [vi (mI M 61 a3 a4.toNatClampNeg), vi (mI M 61 a1 a2.toNatClampNeg)]) (M1 := M) (pc' := 45) (tb_Works hγ) [.aload_n 1, .getfield 314, .iload_n 2, .iaload, .aload_n 3, .getfield 314, .iload 4, .iaload] (by decide +kernel) rfl rfl ⟨c7, c8, trivial⟩ ?_
      refine E_icmp_ne (off := 39) (tgt := 84) (by decide +kernel) (by decide) (fun b9 => ?_) (fun b9 => ?_)
      · rw [if_pos b9] at h
        obtain ⟨c10, c11, h⟩ := h
        refine E_blk (lv' := [some (vr (some (10, this))), some (vr (some (5, a1))), some (vi a2), some (vr (some (5, a3))), some (vi a4), none, none]) (st' := [vi (mI M 63 a3 a4.toNatClampNeg), vi (mI M 63 a1 a2.toNatClampNeg)]) (M1 := M) (pc' := 61) (tb_Works hγ) [.aload_n 1, .getfield 317, .iload_n 2, .iaload, .aload_n 3, .getfield 317, .iload 4, .iaload] (by decide +kernel) rfl rfl ⟨c10, c11, trivial⟩ ?_
        refine E_icmp_ne (off := 23) (tgt := 84) (by decide +kernel) (by decide) (fun b12 => ?_) (fun b12 => ?_)
        · rw [if_pos b12] at h
          obtain ⟨c13, c14, h⟩ := h
          refine E_blk (lv' := [some (vr (some (10, this))), some (vr (some (5, a1))), some (vi a2), some (vr (some (5, a3))), some (vi a4), none, none]) (st' := [vi (mI M 65 a3 a4.toNatClampNeg), vi (mI M 65 a1 a2.toNatClampNeg)]) (M1 := M) (pc' := 77) (tb_Works hγ) [.aload_n 1, .getfield 513, .iload_n 2, .iaload, .aload_n 3, .getfield 513, .iload 4, .iaload] (by decide +kernel) rfl rfl ⟨c13, c14, trivial⟩ ?_
          refine E_icmp_ne (off := 7) (tgt := 84) (by decide +kernel) (by decide) (fun b15 => ?_) (fun b15 => ?_)
          · rw [if_pos b15] at h
            refine E_blk (lv' := [some (vr (some (10, this))), some (vr (some (5, a1))), some (vi a2), some (vr (some (5, a3))), some (vi a4), none, none]) (st' := [vi (1 : Int32)]) (M1 := M) (pc' := 81) (tb_Works hγ) [.iconst 1] (by decide +kernel) rfl rfl trivial ?_
            refine E_goto (off := 4) (tgt := 85) (by decide +kernel) (by decide) ?_
            refine E_mask [true, true, true, true, true, false, false] rfl ?_
            exact lk_Works_isWrittenAlike_j85 hγ this Q a1 a2 a3 a4 (1 : Int32) M h
          · rw [if_neg b15] at h
            refine E_mask [true, true, true, true, true, false, false] rfl ?_
            exact lk_Works_isWrittenAlike_j84 hγ this Q a1 a2 a3 a4 M h
        · rw [if_neg b12] at h
          refine E_mask [true, true, true, true, true, false, false] rfl ?_
          exact lk_Works_isWrittenAlike_j84 hγ this Q a1 a2 a3 a4 M h
      · rw [if_neg b9] at h
        refine E_mask [true, true, true, true, true, false, false] rfl ?_
        exact lk_Works_isWrittenAlike_j84 hγ this Q a1 a2 a3 a4 M h
    · rw [if_neg b6] at h
      refine E_mask [true, true, true, true, true, false, false] rfl ?_
      exact lk_Works_isWrittenAlike_j84 hγ this Q a1 a2 a3 a4 M h
  · rw [if_neg b3] at h
    refine E_mask [true, true, true, true, true, false, false] rfl ?_
    exact lk_Works_isWrittenAlike_j84 hγ this Q a1 a2 a3 a4 M h
