def k_Works_differ : Kp := (⟨"ClassWorks", "differ", "(IIIII)I"⟩, prog_1_method_50_code, 12, some (.int), [])
theorem mv_Works_differ : MV k_Works_differ 10 5 := ⟨⟨_, rfl, rfl⟩, by decide, (tbk_mem (j := 10) (k := 93) rfl), Or.inl (tbk_mem (j := 10) (k := 94) rfl), Or.inl ⟨rfl, (tbk_mem (j := 10) (k := 95) rfl)⟩, ⟨by decide, by decide⟩, by decide +kernel, by decide +kernel, by decide⟩
def k_Works_comes : Kp := (⟨"ClassWorks", "comes", "(LClassWorks$World;I)V"⟩, prog_1_method_57_code, 3, none, [])
theorem mv_Works_comes : MV k_Works_comes 10 2 := ⟨⟨_, rfl, rfl⟩, by decide, (tbk_mem (j := 10) (k := 128) rfl), Or.inr ⟨(tbk_mem (j := 10) (k := 127) rfl), 31, (tbk_mem (j := 1) (k := 30) rfl)⟩, Or.inl ⟨rfl, (tbk_mem (j := 10) (k := 129) rfl)⟩, ⟨by decide, by decide⟩, by decide +kernel, by decide +kernel, by decide⟩
def k_Works_isBuiltIn : Kp := (⟨"ClassWorks", "isBuiltIn", "(LClassWorks$World;I)Z"⟩, prog_1_method_58_code, 3, some (.boolean), [])
theorem mv_Works_isBuiltIn : MV k_Works_isBuiltIn 10 2 := ⟨⟨_, rfl, rfl⟩, by decide, (tbk_mem (j := 10) (k := 140) rfl), Or.inr ⟨(tbk_mem (j := 10) (k := 139) rfl), 31, (tbk_mem (j := 1) (k := 30) rfl)⟩, Or.inl ⟨rfl, (tbk_mem (j := 10) (k := 141) rfl)⟩, ⟨by decide, by decide⟩, by decide +kernel, by decide +kernel, by decide⟩
def k_Works_callsOf : Kp := (⟨"ClassWorks", "callsOf", "(LClassWorks$World;II)V"⟩, prog_1_method_60_code, 8, none, [])
theorem mv_Works_callsOf : MV k_Works_callsOf 10 3 := ⟨⟨_, rfl, rfl⟩, by decide, (tbk_mem (j := 10) (k := 136) rfl), Or.inr ⟨(tbk_mem (j := 10) (k := 135) rfl), 31, (tbk_mem (j := 1) (k := 30) rfl)⟩, Or.inl ⟨rfl, (tbk_mem (j := 10) (k := 137) rfl)⟩, ⟨by decide, by decide⟩, by decide +kernel, by decide +kernel, by decide⟩
def k_Works_startsOf : Kp := (⟨"ClassWorks", "startsOf", "(LClassWorks$World;I)V"⟩, prog_1_method_61_code, 5, none, [])
theorem mv_Works_startsOf : MV k_Works_startsOf 10 2 := ⟨⟨_, rfl, rfl⟩, by decide, (tbk_mem (j := 10) (k := 147) rfl), Or.inr ⟨(tbk_mem (j := 10) (k := 146) rfl), 31, (tbk_mem (j := 1) (k := 30) rfl)⟩, Or.inl ⟨rfl, (tbk_mem (j := 10) (k := 148) rfl)⟩, ⟨by decide, by decide⟩, by decide +kernel, by decide +kernel, by decide⟩
def k_Works_comesBy : Kp := (⟨"ClassWorks", "comesBy", "(LClassWorks$World;II)V"⟩, prog_1_method_59_code, 7, none, [])
theorem mv_Works_comesBy : MV k_Works_comesBy 10 3 := ⟨⟨_, rfl, rfl⟩, by decide, (tbk_mem (j := 10) (k := 132) rfl), Or.inr ⟨(tbk_mem (j := 10) (k := 131) rfl), 31, (tbk_mem (j := 1) (k := 30) rfl)⟩, Or.inl ⟨rfl, (tbk_mem (j := 10) (k := 133) rfl)⟩, ⟨by decide, by decide⟩, by decide +kernel, by decide +kernel, by decide⟩
def k_Works_reach : Kp := (⟨"ClassWorks", "reach", "(III)I"⟩, prog_1_method_56_code, 8, some (.int), [])
theorem mv_Works_reach : MV k_Works_reach 10 3 := ⟨⟨_, rfl, rfl⟩, by decide, (tbk_mem (j := 10) (k := 122) rfl), Or.inl (tbk_mem (j := 10) (k := 123) rfl), Or.inl ⟨rfl, (tbk_mem (j := 10) (k := 124) rfl)⟩, ⟨by decide, by decide⟩, by decide +kernel, by decide +kernel, by decide⟩
def k_Works_reached : Kp := (⟨"ClassWorks", "reached", "(I)I"⟩, prog_1_method_62_code, 2, some (.int), [])
theorem mv_Works_reached : MV k_Works_reached 10 1 := ⟨⟨_, rfl, rfl⟩, by decide, (tbk_mem (j := 10) (k := 153) rfl), Or.inl (tbk_mem (j := 10) (k := 154) rfl), Or.inl ⟨rfl, (tbk_mem (j := 10) (k := 155) rfl)⟩, ⟨by decide, by decide⟩, by decide +kernel, by decide +kernel, by decide⟩
def k_Works_breaksFound : Kp := (⟨"ClassWorks", "breaksFound", "(I)I"⟩, prog_1_method_63_code, 4, some (.int), [])
theorem mv_Works_breaksFound : MV k_Works_breaksFound 10 1 := ⟨⟨_, rfl, rfl⟩, by decide, (tbk_mem (j := 10) (k := 162) rfl), Or.inr ⟨(tbk_mem (j := 10) (k := 161) rfl), 31, (tbk_mem (j := 1) (k := 30) rfl)⟩, Or.inl ⟨rfl, (tbk_mem (j := 10) (k := 163) rfl)⟩, ⟨by decide, by decide⟩, by decide +kernel, by decide +kernel, by decide⟩
def k_Works_meetOne : Kp := (⟨"ClassWorks", "meetOne", "(I)V"⟩, prog_1_method_65_code, 6, none, [])
theorem mv_Works_meetOne : MV k_Works_meetOne 10 1 := ⟨⟨_, rfl, rfl⟩, by decide, (tbk_mem (j := 10) (k := 195) rfl), Or.inr ⟨(tbk_mem (j := 10) (k := 194) rfl), 31, (tbk_mem (j := 1) (k := 30) rfl)⟩, Or.inl ⟨rfl, (tbk_mem (j := 10) (k := 196) rfl)⟩, ⟨by decide, by decide⟩, by decide +kernel, by decide +kernel, by decide⟩
def k_Works_fewest : Kp := (⟨"ClassWorks", "fewest", "()I"⟩, prog_1_method_64_code, 6, some (.int), [])
theorem mv_Works_fewest : MV k_Works_fewest 10 0 := ⟨⟨_, rfl, rfl⟩, by decide, (tbk_mem (j := 10) (k := 157) rfl), Or.inl (tbk_mem (j := 10) (k := 158) rfl), Or.inl ⟨rfl, (tbk_mem (j := 10) (k := 159) rfl)⟩, ⟨by decide, by decide⟩, by decide +kernel, by decide +kernel, by decide⟩
def k_Works_lineFrom : Kp := (⟨"ClassWorks", "lineFrom", "([BI)I"⟩, prog_1_method_66_code, 5, some (.int), [])
theorem mv_Works_lineFrom : MV k_Works_lineFrom 10 2 := ⟨⟨_, rfl, rfl⟩, by decide, (tbk_mem (j := 10) (k := 220) rfl), Or.inr ⟨(tbk_mem (j := 10) (k := 219) rfl), 31, (tbk_mem (j := 1) (k := 30) rfl)⟩, Or.inl ⟨rfl, (tbk_mem (j := 10) (k := 221) rfl)⟩, ⟨by decide, by decide⟩, by decide +kernel, by decide +kernel, by decide⟩
def k_Works_lines : Kp := (⟨"ClassWorks", "lines", "(I)I"⟩, prog_1_method_67_code, 4, some (.int), [])
theorem mv_Works_lines : MV k_Works_lines 10 1 := ⟨⟨_, rfl, rfl⟩, by decide, (tbk_mem (j := 10) (k := 212) rfl), Or.inr ⟨(tbk_mem (j := 10) (k := 211) rfl), 31, (tbk_mem (j := 1) (k := 30) rfl)⟩, Or.inl ⟨rfl, (tbk_mem (j := 10) (k := 213) rfl)⟩, ⟨by decide, by decide⟩, by decide +kernel, by decide +kernel, by decide⟩
def k_Works_copyLine : Kp := (⟨"ClassWorks", "copyLine", "([BI)V"⟩, prog_1_method_68_code, 5, none, [])
theorem mv_Works_copyLine : MV k_Works_copyLine 10 2 := ⟨⟨_, rfl, rfl⟩, by decide, (tbk_mem (j := 10) (k := 224) rfl), Or.inr ⟨(tbk_mem (j := 10) (k := 223) rfl), 31, (tbk_mem (j := 1) (k := 30) rfl)⟩, Or.inl ⟨rfl, (tbk_mem (j := 10) (k := 225) rfl)⟩, ⟨by decide, by decide⟩, by decide +kernel, by decide +kernel, by decide⟩
def k_Works_lengthOf : Kp := (⟨"ClassWorks", "lengthOf", "([BI)I"⟩, prog_1_method_69_code, 3, some (.int), [])
theorem mv_Works_lengthOf : MV k_Works_lengthOf 10 2 := ⟨⟨_, rfl, rfl⟩, by decide, (tbk_mem (j := 10) (k := 216) rfl), Or.inr ⟨(tbk_mem (j := 10) (k := 215) rfl), 31, (tbk_mem (j := 1) (k := 30) rfl)⟩, Or.inl ⟨rfl, (tbk_mem (j := 10) (k := 217) rfl)⟩, ⟨by decide, by decide⟩, by decide +kernel, by decide +kernel, by decide⟩
def k_Works_forget : Kp := (⟨"ClassWorks", "forget", "(I)V"⟩, prog_1_method_73_code, 3, none, [])
theorem mv_Works_forget : MV k_Works_forget 10 1 := ⟨⟨_, rfl, rfl⟩, by decide, (tbk_mem (j := 10) (k := 228) rfl), Or.inr ⟨(tbk_mem (j := 10) (k := 227) rfl), 31, (tbk_mem (j := 1) (k := 30) rfl)⟩, Or.inl ⟨rfl, (tbk_mem (j := 10) (k := 229) rfl)⟩, ⟨by decide, by decide⟩, by decide +kernel, by decide +kernel, by decide⟩
def k_Works_change : Kp := (⟨"ClassWorks", "change", "(IIII)I"⟩, prog_1_method_70_code, 11, some (.int), [])
theorem mv_Works_change : MV k_Works_change 10 4 := ⟨⟨_, rfl, rfl⟩, by decide, (tbk_mem (j := 10) (k := 203) rfl), Or.inl (tbk_mem (j := 10) (k := 204) rfl), Or.inl ⟨rfl, (tbk_mem (j := 10) (k := 205) rfl)⟩, ⟨by decide, by decide⟩, by decide +kernel, by decide +kernel, by decide⟩
def k_Works_linesOf : Kp := (⟨"ClassWorks", "linesOf", "()I"⟩, prog_1_method_72_code, 3, some (.int), [])
theorem mv_Works_linesOf : MV k_Works_linesOf 10 0 := ⟨⟨_, rfl, rfl⟩, by decide, (tbk_mem (j := 10) (k := 236) rfl), Or.inr ⟨(tbk_mem (j := 10) (k := 235) rfl), 31, (tbk_mem (j := 1) (k := 30) rfl)⟩, Or.inl ⟨rfl, (tbk_mem (j := 10) (k := 237) rfl)⟩, ⟨by decide, by decide⟩, by decide +kernel, by decide +kernel, by decide⟩
def k_Works_trial : Kp := (⟨"ClassWorks", "trial", "()I"⟩, prog_1_method_71_code, 9, some (.int), [(70, 278, 281, 28)])
theorem mv_Works_trial : MV k_Works_trial 10 0 := ⟨⟨_, rfl, rfl⟩, by decide, (tbk_mem (j := 10) (k := 231) rfl), Or.inl (tbk_mem (j := 10) (k := 232) rfl), Or.inr (tbk_mem (j := 10) (k := 233) rfl), ⟨by decide, by decide⟩, by decide +kernel, by decide +kernel, by decide⟩
def k_Works_outcome : Kp := (⟨"ClassWorks", "outcome", "(III)I"⟩, prog_1_method_74_code, 4, some (.int), [])
theorem mv_Works_outcome : MV k_Works_outcome 10 3 := ⟨⟨_, rfl, rfl⟩, by decide, (tbk_mem (j := 11) (k := 1) rfl), Or.inl (tbk_mem (j := 11) (k := 2) rfl), Or.inl ⟨rfl, (tbk_mem (j := 11) (k := 3) rfl)⟩, ⟨by decide, by decide⟩, by decide +kernel, by decide +kernel, by decide⟩
def k_Works_meets : Kp := (⟨"ClassWorks", "meets", "(I)I"⟩, prog_1_method_75_code, 2, some (.int), [])
theorem mv_Works_meets : MV k_Works_meets 10 1 := ⟨⟨_, rfl, rfl⟩, by decide, (tbk_mem (j := 11) (k := 5) rfl), Or.inl (tbk_mem (j := 11) (k := 6) rfl), Or.inl ⟨rfl, (tbk_mem (j := 11) (k := 7) rfl)⟩, ⟨by decide, by decide⟩, by decide +kernel, by decide +kernel, by decide⟩
def k_Works_finds : Kp := (⟨"ClassWorks", "finds", "(II)I"⟩, prog_1_method_76_code, 3, some (.int), [])
theorem mv_Works_finds : MV k_Works_finds 10 2 := ⟨⟨_, rfl, rfl⟩, by decide, (tbk_mem (j := 11) (k := 9) rfl), Or.inl (tbk_mem (j := 11) (k := 10) rfl), Or.inl ⟨rfl, (tbk_mem (j := 11) (k := 11) rfl)⟩, ⟨by decide, by decide⟩, by decide +kernel, by decide +kernel, by decide⟩
def k_Works_hole : Kp := (⟨"ClassWorks", "hole", "(I)I"⟩, prog_1_method_77_code, 6, some (.int), [])
theorem mv_Works_hole : MV k_Works_hole 10 1 := ⟨⟨_, rfl, rfl⟩, by decide, (tbk_mem (j := 11) (k := 13) rfl), Or.inl (tbk_mem (j := 11) (k := 14) rfl), Or.inl ⟨rfl, (tbk_mem (j := 11) (k := 15) rfl)⟩, ⟨by decide, by decide⟩, by decide +kernel, by decide +kernel, by decide⟩
def k_Works_isNeedless : Kp := (⟨"ClassWorks", "isNeedless", "(I)Z"⟩, prog_1_method_79_code, 7, some (.boolean), [])
theorem mv_Works_isNeedless : MV k_Works_isNeedless 10 1 := ⟨⟨_, rfl, rfl⟩, by decide, (tbk_mem (j := 11) (k := 22) rfl), Or.inr ⟨(tbk_mem (j := 11) (k := 21) rfl), 31, (tbk_mem (j := 1) (k := 30) rfl)⟩, Or.inl ⟨rfl, (tbk_mem (j := 11) (k := 23) rfl)⟩, ⟨by decide, by decide⟩, by decide +kernel, by decide +kernel, by decide⟩
def k_Works_remove : Kp := (⟨"ClassWorks", "remove", "(I)V"⟩, prog_1_method_80_code, 5, none, [])
theorem mv_Works_remove : MV k_Works_remove 10 1 := ⟨⟨_, rfl, rfl⟩, by decide, (tbk_mem (j := 11) (k := 26) rfl), Or.inr ⟨(tbk_mem (j := 11) (k := 25) rfl), 31, (tbk_mem (j := 1) (k := 30) rfl)⟩, Or.inl ⟨rfl, (tbk_mem (j := 11) (k := 27) rfl)⟩, ⟨by decide, by decide⟩, by decide +kernel, by decide +kernel, by decide⟩
def k_Works_least : Kp := (⟨"ClassWorks", "least", "()I"⟩, prog_1_method_78_code, 2, some (.int), [])
theorem mv_Works_least : MV k_Works_least 10 0 := ⟨⟨_, rfl, rfl⟩, by decide, (tbk_mem (j := 11) (k := 17) rfl), Or.inl (tbk_mem (j := 11) (k := 18) rfl), Or.inl ⟨rfl, (tbk_mem (j := 11) (k := 19) rfl)⟩, ⟨by decide, by decide⟩, by decide +kernel, by decide +kernel, by decide⟩
def k_Works_shrink : Kp := (⟨"ClassWorks", "shrink", "(II)I"⟩, prog_1_method_81_code, 14, some (.int), [])
theorem mv_Works_shrink : MV k_Works_shrink 10 2 := ⟨⟨_, rfl, rfl⟩, by decide, (tbk_mem (j := 11) (k := 29) rfl), Or.inl (tbk_mem (j := 11) (k := 30) rfl), Or.inl ⟨rfl, (tbk_mem (j := 11) (k := 31) rfl)⟩, ⟨by decide, by decide⟩, by decide +kernel, by decide +kernel, by decide⟩
def k_Works_text : Kp := (⟨"ClassWorks", "text", "(II)I"⟩, prog_1_method_82_code, 3, some (.int), [])
theorem mv_Works_text : MV k_Works_text 10 2 := ⟨⟨_, rfl, rfl⟩, by decide, (tbk_mem (j := 11) (k := 33) rfl), Or.inl (tbk_mem (j := 11) (k := 34) rfl), Or.inl ⟨rfl, (tbk_mem (j := 11) (k := 35) rfl)⟩, ⟨by decide, by decide⟩, by decide +kernel, by decide +kernel, by decide⟩
def k_Works_count : Kp := (⟨"ClassWorks", "count", "(I)I"⟩, prog_1_method_83_code, 2, some (.int), [])
theorem mv_Works_count : MV k_Works_count 10 1 := ⟨⟨_, rfl, rfl⟩, by decide, (tbk_mem (j := 11) (k := 37) rfl), Or.inl (tbk_mem (j := 11) (k := 38) rfl), Or.inl ⟨rfl, (tbk_mem (j := 11) (k := 39) rfl)⟩, ⟨by decide, by decide⟩, by decide +kernel, by decide +kernel, by decide⟩
def k_Model_room : Kp := (⟨"ClassWorksModel", "room", "([II)[I"⟩, prog_13_method_1_code, 3, some (.array (.int)), [])
theorem ms_Model_room : MSt k_Model_room 2 := ⟨(tbk_mem (j := 11) (k := 67) rfl), (tbk_mem (j := 1) (k := 21) rfl), Or.inl ⟨rfl, (tbk_mem (j := 11) (k := 68) rfl)⟩, ⟨by decide, by decide⟩, by decide +kernel, by decide +kernel, by decide⟩
def k_Model_roomy : Kp := (⟨"ClassWorksModel", "roomy", "([BI)[B"⟩, prog_13_method_2_code, 3, some (.array (.byte)), [])
theorem ms_Model_roomy : MSt k_Model_roomy 2 := ⟨(tbk_mem (j := 11) (k := 62) rfl), (tbk_mem (j := 1) (k := 21) rfl), Or.inl ⟨rfl, (tbk_mem (j := 11) (k := 63) rfl)⟩, ⟨by decide, by decide⟩, by decide +kernel, by decide +kernel, by decide⟩
def k_Model_isName : Kp := (⟨"ClassWorksModel", "isName", "(I[BII)Z"⟩, prog_13_method_4_code, 7, some (.boolean), [])
theorem mv_Model_isName : MV k_Model_isName 11 4 := ⟨⟨_, rfl, rfl⟩, by decide, (tbk_mem (j := 11) (k := 59) rfl), Or.inr ⟨(tbk_mem (j := 11) (k := 58) rfl), 131, (tbk_mem (j := 11) (k := 41) rfl)⟩, Or.inl ⟨rfl, (tbk_mem (j := 11) (k := 60) rfl)⟩, ⟨by decide, by decide⟩, by decide +kernel, by decide +kernel, by decide⟩
def w_Works_differ_j174 (this : Nat) (Q : Int32 → Mem → Prop) (v8 : Int32) (M : Mem) : Prop :=
  if v8 = 0 then (Q (1 : Int32) M) else (Q (0 : Int32) M)
def w_Works_differ_j166 (this : Nat) (Q : Int32 → Mem → Prop) (k116 : Int32 → Int32 → Nat → Nat → Int32 → Int32 → Mem → Prop) (v2 : Int32) (v4 : Int32) (v6 : Nat) (v7 : Nat) (v9 : Int32) (s0 : Int32) (M : Mem) : Prop :=
  k116 v2 v4 v6 v7 s0 (v9 + (1 : Int32)) M
def w_Works_differ_L116 (this : Nat) (Q : Int32 → Mem → Prop) : Nat → Int32 → Int32 → Nat → Nat → Int32 → Int32 → Mem → Prop
  | 0, _, _, _, _, _, _, _ => False
  | n + 1, v2, v4, v6, v7, v8, v9, M => vp_in v2 (mL M 39 v6) ∧ if (mI M 39 v6 v2.toNatClampNeg) ≤ v9 then (w_Works_differ_j174 this Q v8 M) else (if v8 = 0 then (w_Works_differ_j174 this Q v8 M) else (vp_in (((4 : Int32) * v2) + v9) (mL M 38 v6) ∧ vp_in (((4 : Int32) * v4) + v9) (mL M 38 v7) ∧ if (mI M 38 v6 (((4 : Int32) * v2) + v9).toNatClampNeg) = (mI M 38 v7 (((4 : Int32) * v4) + v9).toNatClampNeg) then (w_Works_differ_j166 this Q (w_Works_differ_L116 this Q n) v2 v4 v6 v7 v9 (1 : Int32) M) else (w_Works_differ_j166 this Q (w_Works_differ_L116 this Q n) v2 v4 v6 v7 v9 (0 : Int32) M)))
def w_Works_differ_j111 (this : Nat) (Q : Int32 → Mem → Prop) (v2 : Int32) (v4 : Int32) (v6 : Nat) (v7 : Nat) (s0 : Int32) (M : Mem) : Prop :=
  ∃ n31 : Nat, w_Works_differ_L116 this Q n31 v2 v4 v6 v7 s0 (0 : Int32) M
def w_Works_differ_j110 (this : Nat) (Q : Int32 → Mem → Prop) (v2 : Int32) (v4 : Int32) (v6 : Nat) (v7 : Nat) (M : Mem) : Prop :=
  w_Works_differ_j111 this Q v2 v4 v6 v7 (0 : Int32) M
def w_Works_differ_j239 (this : Nat) (Q : Int32 → Mem → Prop) (k197 : Int32 → Int32 → Nat → Nat → Int32 → Int32 → Mem → Prop) (v2 : Int32) (v4 : Int32) (v6 : Nat) (v7 : Nat) (v9 : Int32) (s0 : Int32) (s1 : Int32) (M : Mem) : Prop :=
  k197 v2 v4 v6 v7 (s1 + s0) (v9 + (1 : Int32)) M
def w_Works_differ_L197 (this : Nat) (Q : Int32 → Mem → Prop) : Nat → Int32 → Int32 → Nat → Nat → Int32 → Int32 → Mem → Prop
  | 0, _, _, _, _, _, _, _ => False
  | n + 1, v2, v4, v6, v7, v8, v9, M => vp_in v2 (mL M 42 v6) ∧ if (mI M 42 v6 v2.toNatClampNeg) ≤ v9 then (Q v8 M) else (vp_in v2 (mL M 41 v6) ∧ w_Works_hasField this v6 ((mI M 41 v6 v2.toNatClampNeg) + v9) v7 v4 (fun r37 M36 => if r37 = 0 then (w_Works_differ_j239 this Q (w_Works_differ_L197 this Q n) v2 v4 v6 v7 v9 (1 : Int32) v8 M36) else (w_Works_differ_j239 this Q (w_Works_differ_L197 this Q n) v2 v4 v6 v7 v9 (0 : Int32) v8 M36)) M)
def w_Works_differ_j346 (this : Nat) (Q : Int32 → Mem → Prop) (k254 : Int32 → Int32 → Int32 → Nat → Nat → Int32 → Int32 → Mem → Prop) (v2 : Int32) (v4 : Int32) (v5 : Int32) (v6 : Nat) (v7 : Nat) (v8 : Int32) (v9 : Int32) (M : Mem) : Prop :=
  k254 v2 v4 v5 v6 v7 v8 (v9 + (1 : Int32)) M
def w_Works_differ_j310 (this : Nat) (Q : Int32 → Mem → Prop) (k254 : Int32 → Int32 → Int32 → Nat → Nat → Int32 → Int32 → Mem → Prop) (v2 : Int32) (v4 : Int32) (v5 : Int32) (v6 : Nat) (v7 : Nat) (v9 : Int32) (s0 : Int32) (s1 : Int32) (M : Mem) : Prop :=
  w_Works_differ_j346 this Q k254 v2 v4 v5 v6 v7 (s1 + s0) v9 M
def w_Works_differ_j343 (this : Nat) (Q : Int32 → Mem → Prop) (k254 : Int32 → Int32 → Int32 → Nat → Nat → Int32 → Int32 → Mem → Prop) (v2 : Int32) (v4 : Int32) (v5 : Int32) (v6 : Nat) (v7 : Nat) (v9 : Int32) (s0 : Int32) (s1 : Int32) (M : Mem) : Prop :=
  w_Works_differ_j346 this Q k254 v2 v4 v5 v6 v7 (s1 + s0) v9 M
def w_Works_differ_j342 (this : Nat) (Q : Int32 → Mem → Prop) (k254 : Int32 → Int32 → Int32 → Nat → Nat → Int32 → Int32 → Mem → Prop) (v2 : Int32) (v4 : Int32) (v5 : Int32) (v6 : Nat) (v7 : Nat) (v9 : Int32) (s0 : Int32) (M : Mem) : Prop :=
  w_Works_differ_j343 this Q k254 v2 v4 v5 v6 v7 v9 (0 : Int32) s0 M
def w_Works_differ_L254 (this : Nat) (Q : Int32 → Mem → Prop) : Nat → Int32 → Int32 → Int32 → Nat → Nat → Int32 → Int32 → Mem → Prop
  | 0, _, _, _, _, _, _, _, _ => False
  | n + 1, v2, v4, v5, v6, v7, v8, v9, M => vp_in v2 (mL M 44 v6) ∧ if (mI M 44 v6 v2.toNatClampNeg) ≤ v9 then (Q v8 M) else (vp_in v2 (mL M 43 v6) ∧ w_Works_likeMethod this v6 ((mI M 43 v6 v2.toNatClampNeg) + v9) v7 v4 (fun r44 M43 => if v5 = (2 : Int32) then (if 0 ≤ r44 then (w_Works_differ_j310 this Q (w_Works_differ_L254 this Q n) v2 v4 v5 v6 v7 v9 (0 : Int32) v8 M43) else (w_Works_differ_j310 this Q (w_Works_differ_L254 this Q n) v2 v4 v5 v6 v7 v9 (1 : Int32) v8 M43)) else (if r44 < 0 then (w_Works_differ_j342 this Q (w_Works_differ_L254 this Q n) v2 v4 v5 v6 v7 v9 v8 M43) else (w_Works_isWrittenAlike this v6 ((mI M 43 v6 v2.toNatClampNeg) + v9) v7 r44 (fun r49 M48 => if r49 = 0 then (w_Works_differ_j343 this Q (w_Works_differ_L254 this Q n) v2 v4 v5 v6 v7 v9 (1 : Int32) v8 M48) else (w_Works_differ_j342 this Q (w_Works_differ_L254 this Q n) v2 v4 v5 v6 v7 v9 v8 M48)) M43))) M)
def w_Works_differ (this : Nat) (a1 : Int32) (a2 : Int32) (a3 : Int32) (a4 : Int32) (a5 : Int32) (Q : Int32 → Mem → Prop) (M : Mem) : Prop :=
  w_Works_isClass this a1 a2 (fun r2 M1 => if r2 = 0 then (Q (-1 : Int32) M1) else (w_Works_isClass this a3 a4 (fun r5 M4 => if r5 = 0 then (Q (-1 : Int32) M4) else (w_Works_isIn a5 (0 : Int32) (3 : Int32) (fun r8 M7 => if r8 = 0 then (Q (-1 : Int32) M7) else (vp_in a1 (mL M7 702 0) ∧ ∃ i11, (mR M7 702 0 a1.toNatClampNeg) = some (5, i11) ∧ vp_in a3 (mL M7 702 0) ∧ ∃ i13, (mR M7 702 0 a3.toNatClampNeg) = some (5, i13) ∧ if a5 = 0 then (vp_in a2 (mL M7 40 i11) ∧ vp_in a4 (mL M7 40 i13) ∧ if (mI M7 40 i11 a2.toNatClampNeg) = (mI M7 40 i13 a4.toNatClampNeg) then (vp_in a2 (mL M7 37 i11) ∧ vp_in a4 (mL M7 37 i13) ∧ if (mI M7 37 i11 a2.toNatClampNeg) = (mI M7 37 i13 a4.toNatClampNeg) then (vp_in a2 (mL M7 39 i11) ∧ vp_in a4 (mL M7 39 i13) ∧ if (mI M7 39 i11 a2.toNatClampNeg) = (mI M7 39 i13 a4.toNatClampNeg) then (w_Works_differ_j111 this Q a2 a4 i11 i13 (1 : Int32) M7) else (w_Works_differ_j110 this Q a2 a4 i11 i13 M7)) else (w_Works_differ_j110 this Q a2 a4 i11 i13 M7)) else (w_Works_differ_j110 this Q a2 a4 i11 i13 M7)) else (if a5 = (1 : Int32) then (∃ n39 : Nat, w_Works_differ_L197 this Q n39 a2 a4 i11 i13 (0 : Int32) (0 : Int32) M7) else (∃ n51 : Nat, w_Works_differ_L254 this Q n51 a2 a4 a5 i11 i13 (0 : Int32) (0 : Int32) M7)))) M4)) M1)) M
set_option maxRecDepth 4096 in
theorem lk_Works_differ_j174 {γ : Gm} (hγ : Gk γ) (this : Nat) (Q : Int32 → Mem → Prop) (v8 : Int32) (M : Mem) (h : w_Works_differ_j174 this Q v8 M) : E γ k_Works_differ 4 174 [none, none, none, none, none, none, none, none, some (vi v8), none, none, none] [] M (Qi Q) := by
  unfold w_Works_differ_j174 at h
  refine E_blk (lv' := [none, none, none, none, none, none, none, none, some (vi v8), none, none, none]) (st' := [vi v8]) (M1 := M) (pc' := 176) (tb_Works hγ) [.iload 8] (by decide +kernel) rfl rfl trivial ?_
  refine E_if_eq (off := 7) (tgt := 183) (by decide +kernel) (by decide) (fun b26 => ?_) (fun b26 => ?_)
  · rw [if_pos b26] at h
    refine E_blk (lv' := [none, none, none, none, none, none, none, none, some (vi v8), none, none, none]) (st' := [vi (1 : Int32)]) (M1 := M) (pc' := 184) (tb_Works hγ) [.iconst 1] (by decide +kernel) rfl rfl trivial ?_
    exact E_iret rfl (by decide +kernel) h
  · rw [if_neg b26] at h
    refine E_blk (lv' := [none, none, none, none, none, none, none, none, some (vi v8), none, none, none]) (st' := [vi (0 : Int32)]) (M1 := M) (pc' := 180) (tb_Works hγ) [.iconst 0] (by decide +kernel) rfl rfl trivial ?_
    refine E_goto (off := 4) (tgt := 184) (by decide +kernel) (by decide) ?_
    exact E_iret rfl (by decide +kernel) h
set_option maxRecDepth 4096 in
theorem lk_Works_differ_j166 {γ : Gm} (hγ : Gk γ) (this : Nat) (Q : Int32 → Mem → Prop) (k116 : Int32 → Int32 → Nat → Nat → Int32 → Int32 → Mem → Prop) (hk116 : ∀ (v2 : Int32) (v4 : Int32) (v6 : Nat) (v7 : Nat) (v8 : Int32) (v9 : Int32) (M : Mem), k116 v2 v4 v6 v7 v8 v9 M → E γ k_Works_differ 4 116 [none, none, some (vi v2), none, some (vi v4), none, some (vr (some (5, v6))), some (vr (some (5, v7))), some (vi v8), some (vi v9), none, none] [] M (Qi Q)) (v2 : Int32) (v4 : Int32) (v6 : Nat) (v7 : Nat) (v9 : Int32) (s0 : Int32) (M : Mem) (h : w_Works_differ_j166 this Q k116 v2 v4 v6 v7 v9 s0 M) : E γ k_Works_differ 4 166 [none, none, some (vi v2), none, some (vi v4), none, some (vr (some (5, v6))), some (vr (some (5, v7))), none, some (vi v9), none, none] [vi s0] M (Qi Q) := by
  unfold w_Works_differ_j166 at h
  refine E_blk (lv' := [none, none, some (vi v2), none, some (vi v4), none, some (vr (some (5, v6))), some (vr (some (5, v7))), some (vi s0), some (vi (v9 + (1 : Int32))), none, none]) (st' := []) (M1 := M) (pc' := 171) (tb_Works hγ) [.istore 8, .iinc 9 1] (by decide +kernel) rfl rfl trivial ?_
  refine E_goto (off := -55) (tgt := 116) (by decide +kernel) (by decide) ?_
  refine E_mask [false, false, true, false, true, false, true, true, true, true, false, false] rfl ?_
  exact hk116 v2 v4 v6 v7 s0 (v9 + (1 : Int32)) M h
set_option maxRecDepth 4096 in
theorem lk_Works_differ_L116 {γ : Gm} (hγ : Gk γ) (this : Nat) (Q : Int32 → Mem → Prop) : ∀ (n : Nat) (v2 : Int32) (v4 : Int32) (v6 : Nat) (v7 : Nat) (v8 : Int32) (v9 : Int32) (M : Mem), w_Works_differ_L116 this Q n v2 v4 v6 v7 v8 v9 M → E γ k_Works_differ 4 116 [none, none, some (vi v2), none, some (vi v4), none, some (vr (some (5, v6))), some (vr (some (5, v7))), some (vi v8), some (vi v9), none, none] [] M (Qi Q) := by
  intro n
  induction n with
  | zero => intro v2 v4 v6 v7 v8 v9 M h; exact h.elim
  | succ n ih =>
    intro v2 v4 v6 v7 v8 v9 M h
    unfold w_Works_differ_L116 at h
    obtain ⟨c24, h⟩ := h
    refine E_blk (lv' := [none, none, some (vi v2), none, some (vi v4), none, some (vr (some (5, v6))), some (vr (some (5, v7))), some (vi v8), some (vi v9), none, none]) (st' := [vi (mI M 39 v6 v2.toNatClampNeg), vi v9]) (M1 := M) (pc' := 125) (tb_Works hγ) [.iload 9, .aload 6, .getfield 255, .iload_n 2, .iaload] (by decide +kernel) rfl rfl ⟨c24, trivial⟩ ?_
    refine E_icmp_ge (off := 49) (tgt := 174) (by decide +kernel) (by decide) (fun b25 => ?_) (fun b25 => ?_)
    · rw [if_pos b25] at h
      refine E_mask [false, false, false, false, false, false, false, false, true, false, false, false] rfl ?_
      exact lk_Works_differ_j174 hγ this Q v8 M h
    · rw [if_neg b25] at h
      refine E_blk (lv' := [none, none, some (vi v2), none, some (vi v4), none, some (vr (some (5, v6))), some (vr (some (5, v7))), some (vi v8), some (vi v9), none, none]) (st' := [vi v8]) (M1 := M) (pc' := 130) (tb_Works hγ) [.iload 8] (by decide +kernel) rfl rfl trivial ?_
      refine E_if_eq (off := 44) (tgt := 174) (by decide +kernel) (by decide) (fun b27 => ?_) (fun b27 => ?_)
      · rw [if_pos b27] at h
        refine E_mask [false, false, false, false, false, false, false, false, true, false, false, false] rfl ?_
        exact lk_Works_differ_j174 hγ this Q v8 M h
      · rw [if_neg b27] at h
        obtain ⟨c28, c29, h⟩ := h
        refine E_blk (lv' := [none, none, some (vi v2), none, some (vi v4), none, some (vr (some (5, v6))), some (vr (some (5, v7))), some (vi v8), some (vi v9), none, none]) (st' := [vi (mI M 38 v7 (((4 : Int32) * v4) + v9).toNatClampNeg), vi (mI M 38 v6 (((4 : Int32) * v2) + v9).toNatClampNeg)]) (M1 := M) (pc' := 158) (tb_Works hγ) [.aload 6, .getfield 483, .iconst 4, .iload_n 2, .imul, .iload 9, .iadd, .iaload, .aload 7, .getfield 483, .iconst 4, .iload 4, .imul, .iload 9, .iadd, .iaload] (by decide +kernel) rfl rfl ⟨c28, c29, trivial⟩ ?_
        refine E_icmp_ne (off := 7) (tgt := 165) (by decide +kernel) (by decide) (fun b30 => ?_) (fun b30 => ?_)
        · rw [if_pos b30] at h
          refine E_blk (lv' := [none, none, some (vi v2), none, some (vi v4), none, some (vr (some (5, v6))), some (vr (some (5, v7))), some (vi v8), some (vi v9), none, none]) (st' := [vi (1 : Int32)]) (M1 := M) (pc' := 162) (tb_Works hγ) [.iconst 1] (by decide +kernel) rfl rfl trivial ?_
          refine E_goto (off := 4) (tgt := 166) (by decide +kernel) (by decide) ?_
          refine E_mask [false, false, true, false, true, false, true, true, false, true, false, false] rfl ?_
          exact lk_Works_differ_j166 hγ this Q (w_Works_differ_L116 this Q n) ih v2 v4 v6 v7 v9 (1 : Int32) M h
        · rw [if_neg b30] at h
          refine E_blk (lv' := [none, none, some (vi v2), none, some (vi v4), none, some (vr (some (5, v6))), some (vr (some (5, v7))), some (vi v8), some (vi v9), none, none]) (st' := [vi (0 : Int32)]) (M1 := M) (pc' := 166) (tb_Works hγ) [.iconst 0] (by decide +kernel) rfl rfl trivial ?_
          refine E_mask [false, false, true, false, true, false, true, true, false, true, false, false] rfl ?_
          exact lk_Works_differ_j166 hγ this Q (w_Works_differ_L116 this Q n) ih v2 v4 v6 v7 v9 (0 : Int32) M h
set_option maxRecDepth 4096 in
theorem lk_Works_differ_j111 {γ : Gm} (hγ : Gk γ) (this : Nat) (Q : Int32 → Mem → Prop) (v2 : Int32) (v4 : Int32) (v6 : Nat) (v7 : Nat) (s0 : Int32) (M : Mem) (h : w_Works_differ_j111 this Q v2 v4 v6 v7 s0 M) : E γ k_Works_differ 4 111 [none, none, some (vi v2), none, some (vi v4), none, some (vr (some (5, v6))), some (vr (some (5, v7))), none, none, none, none] [vi s0] M (Qi Q) := by
  unfold w_Works_differ_j111 at h
  refine E_blk (lv' := [none, none, some (vi v2), none, some (vi v4), none, some (vr (some (5, v6))), some (vr (some (5, v7))), some (vi s0), some (vi (0 : Int32)), none, none]) (st' := []) (M1 := M) (pc' := 116) (tb_Works hγ) [.istore 8, .iconst 0, .istore 9] (by decide +kernel) rfl rfl trivial ?_
  obtain ⟨n31, h⟩ := h
  refine E_mask [false, false, true, false, true, false, true, true, true, true, false, false] rfl ?_
  exact lk_Works_differ_L116 hγ this Q n31 v2 v4 v6 v7 s0 (0 : Int32) M h
set_option maxRecDepth 4096 in
theorem lk_Works_differ_j110 {γ : Gm} (hγ : Gk γ) (this : Nat) (Q : Int32 → Mem → Prop) (v2 : Int32) (v4 : Int32) (v6 : Nat) (v7 : Nat) (M : Mem) (h : w_Works_differ_j110 this Q v2 v4 v6 v7 M) : E γ k_Works_differ 4 110 [none, none, some (vi v2), none, some (vi v4), none, some (vr (some (5, v6))), some (vr (some (5, v7))), none, none, none, none] [] M (Qi Q) := by
  unfold w_Works_differ_j110 at h
  refine E_blk (lv' := [none, none, some (vi v2), none, some (vi v4), none, some (vr (some (5, v6))), some (vr (some (5, v7))), none, none, none, none]) (st' := [vi (0 : Int32)]) (M1 := M) (pc' := 111) (tb_Works hγ) [.iconst 0] (by decide +kernel) rfl rfl trivial ?_
  refine E_mask [false, false, true, false, true, false, true, true, false, false, false, false] rfl ?_
  exact lk_Works_differ_j111 hγ this Q v2 v4 v6 v7 (0 : Int32) M h
set_option maxRecDepth 4096 in
theorem lk_Works_differ_j239 {γ : Gm} (hγ : Gk γ) (this : Nat) (Q : Int32 → Mem → Prop) (k197 : Int32 → Int32 → Nat → Nat → Int32 → Int32 → Mem → Prop) (hk197 : ∀ (v2 : Int32) (v4 : Int32) (v6 : Nat) (v7 : Nat) (v8 : Int32) (v9 : Int32) (M : Mem), k197 v2 v4 v6 v7 v8 v9 M → E γ k_Works_differ 4 197 [some (vr (some (10, this))), none, some (vi v2), none, some (vi v4), none, some (vr (some (5, v6))), some (vr (some (5, v7))), some (vi v8), some (vi v9), none, none] [] M (Qi Q)) (v2 : Int32) (v4 : Int32) (v6 : Nat) (v7 : Nat) (v9 : Int32) (s0 : Int32) (s1 : Int32) (M : Mem) (h : w_Works_differ_j239 this Q k197 v2 v4 v6 v7 v9 s0 s1 M) : E γ k_Works_differ 4 239 [some (vr (some (10, this))), none, some (vi v2), none, some (vi v4), none, some (vr (some (5, v6))), some (vr (some (5, v7))), none, some (vi v9), none, none] [vi s0, vi s1] M (Qi Q) := by
  unfold w_Works_differ_j239 at h
  refine E_blk (lv' := [some (vr (some (10, this))), none, some (vi v2), none, some (vi v4), none, some (vr (some (5, v6))), some (vr (some (5, v7))), some (vi (s1 + s0)), some (vi (v9 + (1 : Int32))), none, none]) (st' := []) (M1 := M) (pc' := 245) (tb_Works hγ) [.iadd, .istore 8, .iinc 9 1] (by decide +kernel) rfl rfl trivial ?_
  refine E_goto (off := -48) (tgt := 197) (by decide +kernel) (by decide) ?_
  refine E_mask [true, false, true, false, true, false, true, true, true, true, false, false] rfl ?_
  exact hk197 v2 v4 v6 v7 (s1 + s0) (v9 + (1 : Int32)) M h
set_option maxRecDepth 4096 in
theorem lk_Works_differ_L197 {γ : Gm} (hγ : Gk γ) (this : Nat) (Q : Int32 → Mem → Prop) : ∀ (n : Nat) (v2 : Int32) (v4 : Int32) (v6 : Nat) (v7 : Nat) (v8 : Int32) (v9 : Int32) (M : Mem), w_Works_differ_L197 this Q n v2 v4 v6 v7 v8 v9 M → E γ k_Works_differ 4 197 [some (vr (some (10, this))), none, some (vi v2), none, some (vi v4), none, some (vr (some (5, v6))), some (vr (some (5, v7))), some (vi v8), some (vi v9), none, none] [] M (Qi Q) := by
  intro n
  induction n with
  | zero => intro v2 v4 v6 v7 v8 v9 M h; exact h.elim
  | succ n ih =>
    intro v2 v4 v6 v7 v8 v9 M h
    unfold w_Works_differ_L197 at h
    obtain ⟨c33, h⟩ := h
    refine E_blk (lv' := [some (vr (some (10, this))), none, some (vi v2), none, some (vi v4), none, some (vr (some (5, v6))), some (vr (some (5, v7))), some (vi v8), some (vi v9), none, none]) (st' := [vi (mI M 42 v6 v2.toNatClampNeg), vi v9]) (M1 := M) (pc' := 206) (tb_Works hγ) [.iload 9, .aload 6, .getfield 258, .iload_n 2, .iaload] (by decide +kernel) rfl rfl ⟨c33, trivial⟩ ?_
    refine E_icmp_ge (off := 42) (tgt := 248) (by decide +kernel) (by decide) (fun b34 => ?_) (fun b34 => ?_)
    · rw [if_pos b34] at h
      refine E_blk (lv' := [some (vr (some (10, this))), none, some (vi v2), none, some (vi v4), none, some (vr (some (5, v6))), some (vr (some (5, v7))), some (vi v8), some (vi v9), none, none]) (st' := [vi v8]) (M1 := M) (pc' := 250) (tb_Works hγ) [.iload 8] (by decide +kernel) rfl rfl trivial ?_
      exact E_iret rfl (by decide +kernel) h
    · rw [if_neg b34] at h
      obtain ⟨c35, h⟩ := h
      refine E_blk (lv' := [some (vr (some (10, this))), none, some (vi v2), none, some (vi v4), none, some (vr (some (5, v6))), some (vr (some (5, v7))), some (vi v8), some (vi v9), none, none]) (st' := [vi v4, vr (some (5, v7)), vi ((mI M 41 v6 v2.toNatClampNeg) + v9), vr (some (5, v6)), vr (some (10, this)), vi v8]) (M1 := M) (pc' := 228) (tb_Works hγ) [.iload 8, .aload_n 0, .aload 6, .aload 6, .getfield 285, .iload_n 2, .iaload, .iload 9, .iadd, .aload 7, .iload 4] (by decide +kernel) rfl rfl ⟨c35, trivial⟩ ?_
      refine E_callV (κ' := k_Works_hasField) (As := [vr (some (5, v6)), vi ((mI M 41 v6 v2.toNatClampNeg) + v9), vr (some (5, v7)), vi v4]) (st := [vi v8]) mv_Works_hasField (Or.inl (tbk_mem (j := 10) (k := 96) rfl)) rfl (by decide +kernel) (Nat.le_of_ble_eq_true rfl) (Nat.le_of_ble_eq_true rfl) rfl (by decide) (lk_Works_hasField hγ this v6 ((mI M 41 v6 v2.toNatClampNeg) + v9) v7 v4 _ M h) (fun _ _ => Qi_r) (fun v M36 hp => Qi_k (R := fun st => E γ k_Works_differ 4 231 [some (vr (some (10, this))), none, some (vi v2), none, some (vi v4), none, some (vr (some (5, v6))), some (vr (some (5, v7))), some (vi v8), some (vi v9), none, none] st M36 (Qi Q)) hp (fun r37 h => ?_))
      refine E_if_eq (off := 7) (tgt := 238) (by decide +kernel) (by decide) (fun b38 => ?_) (fun b38 => ?_)
      · rw [if_pos b38] at h
        refine E_blk (lv' := [some (vr (some (10, this))), none, some (vi v2), none, some (vi v4), none, some (vr (some (5, v6))), some (vr (some (5, v7))), some (vi v8), some (vi v9), none, none]) (st' := [vi (1 : Int32), vi v8]) (M1 := M36) (pc' := 239) (tb_Works hγ) [.iconst 1] (by decide +kernel) rfl rfl trivial ?_
        refine E_mask [true, false, true, false, true, false, true, true, false, true, false, false] rfl ?_
        exact lk_Works_differ_j239 hγ this Q (w_Works_differ_L197 this Q n) ih v2 v4 v6 v7 v9 (1 : Int32) v8 M36 h
      · rw [if_neg b38] at h
        refine E_blk (lv' := [some (vr (some (10, this))), none, some (vi v2), none, some (vi v4), none, some (vr (some (5, v6))), some (vr (some (5, v7))), some (vi v8), some (vi v9), none, none]) (st' := [vi (0 : Int32), vi v8]) (M1 := M36) (pc' := 235) (tb_Works hγ) [.iconst 0] (by decide +kernel) rfl rfl trivial ?_
        refine E_goto (off := 4) (tgt := 239) (by decide +kernel) (by decide) ?_
        refine E_mask [true, false, true, false, true, false, true, true, false, true, false, false] rfl ?_
        exact lk_Works_differ_j239 hγ this Q (w_Works_differ_L197 this Q n) ih v2 v4 v6 v7 v9 (0 : Int32) v8 M36 h
set_option maxRecDepth 4096 in
theorem lk_Works_differ_j346 {γ : Gm} (hγ : Gk γ) (this : Nat) (Q : Int32 → Mem → Prop) (k254 : Int32 → Int32 → Int32 → Nat → Nat → Int32 → Int32 → Mem → Prop) (hk254 : ∀ (v2 : Int32) (v4 : Int32) (v5 : Int32) (v6 : Nat) (v7 : Nat) (v8 : Int32) (v9 : Int32) (M : Mem), k254 v2 v4 v5 v6 v7 v8 v9 M → E γ k_Works_differ 4 254 [some (vr (some (10, this))), none, some (vi v2), none, some (vi v4), some (vi v5), some (vr (some (5, v6))), some (vr (some (5, v7))), some (vi v8), some (vi v9), none, none] [] M (Qi Q)) (v2 : Int32) (v4 : Int32) (v5 : Int32) (v6 : Nat) (v7 : Nat) (v8 : Int32) (v9 : Int32) (M : Mem) (h : w_Works_differ_j346 this Q k254 v2 v4 v5 v6 v7 v8 v9 M) : E γ k_Works_differ 4 346 [some (vr (some (10, this))), none, some (vi v2), none, some (vi v4), some (vi v5), some (vr (some (5, v6))), some (vr (some (5, v7))), some (vi v8), some (vi v9), none, none] [] M (Qi Q) := by
  unfold w_Works_differ_j346 at h
  refine E_blk (lv' := [some (vr (some (10, this))), none, some (vi v2), none, some (vi v4), some (vi v5), some (vr (some (5, v6))), some (vr (some (5, v7))), some (vi v8), some (vi (v9 + (1 : Int32))), none, none]) (st' := []) (M1 := M) (pc' := 349) (tb_Works hγ) [.iinc 9 1] (by decide +kernel) rfl rfl trivial ?_
  refine E_goto (off := -95) (tgt := 254) (by decide +kernel) (by decide) ?_
  refine E_mask [true, false, true, false, true, true, true, true, true, true, false, false] rfl ?_
  exact hk254 v2 v4 v5 v6 v7 v8 (v9 + (1 : Int32)) M h
set_option maxRecDepth 4096 in
theorem lk_Works_differ_j310 {γ : Gm} (hγ : Gk γ) (this : Nat) (Q : Int32 → Mem → Prop) (k254 : Int32 → Int32 → Int32 → Nat → Nat → Int32 → Int32 → Mem → Prop) (hk254 : ∀ (v2 : Int32) (v4 : Int32) (v5 : Int32) (v6 : Nat) (v7 : Nat) (v8 : Int32) (v9 : Int32) (M : Mem), k254 v2 v4 v5 v6 v7 v8 v9 M → E γ k_Works_differ 4 254 [some (vr (some (10, this))), none, some (vi v2), none, some (vi v4), some (vi v5), some (vr (some (5, v6))), some (vr (some (5, v7))), some (vi v8), some (vi v9), none, none] [] M (Qi Q)) (v2 : Int32) (v4 : Int32) (v5 : Int32) (v6 : Nat) (v7 : Nat) (v9 : Int32) (s0 : Int32) (s1 : Int32) (M : Mem) (h : w_Works_differ_j310 this Q k254 v2 v4 v5 v6 v7 v9 s0 s1 M) : E γ k_Works_differ 4 310 [some (vr (some (10, this))), none, some (vi v2), none, some (vi v4), some (vi v5), some (vr (some (5, v6))), some (vr (some (5, v7))), none, some (vi v9), none, none] [vi s0, vi s1] M (Qi Q) := by
  unfold w_Works_differ_j310 at h
  refine E_blk (lv' := [some (vr (some (10, this))), none, some (vi v2), none, some (vi v4), some (vi v5), some (vr (some (5, v6))), some (vr (some (5, v7))), some (vi (s1 + s0)), some (vi v9), none, none]) (st' := []) (M1 := M) (pc' := 313) (tb_Works hγ) [.iadd, .istore 8] (by decide +kernel) rfl rfl trivial ?_
  refine E_goto (off := 33) (tgt := 346) (by decide +kernel) (by decide) ?_
  refine E_mask [true, false, true, false, true, true, true, true, true, true, false, false] rfl ?_
  exact lk_Works_differ_j346 hγ this Q k254 hk254 v2 v4 v5 v6 v7 (s1 + s0) v9 M h
set_option maxRecDepth 4096 in
theorem lk_Works_differ_j343 {γ : Gm} (hγ : Gk γ) (this : Nat) (Q : Int32 → Mem → Prop) (k254 : Int32 → Int32 → Int32 → Nat → Nat → Int32 → Int32 → Mem → Prop) (hk254 : ∀ (v2 : Int32) (v4 : Int32) (v5 : Int32) (v6 : Nat) (v7 : Nat) (v8 : Int32) (v9 : Int32) (M : Mem), k254 v2 v4 v5 v6 v7 v8 v9 M → E γ k_Works_differ 4 254 [some (vr (some (10, this))), none, some (vi v2), none, some (vi v4), some (vi v5), some (vr (some (5, v6))), some (vr (some (5, v7))), some (vi v8), some (vi v9), none, none] [] M (Qi Q)) (v2 : Int32) (v4 : Int32) (v5 : Int32) (v6 : Nat) (v7 : Nat) (v9 : Int32) (s0 : Int32) (s1 : Int32) (M : Mem) (h : w_Works_differ_j343 this Q k254 v2 v4 v5 v6 v7 v9 s0 s1 M) : E γ k_Works_differ 4 343 [some (vr (some (10, this))), none, some (vi v2), none, some (vi v4), some (vi v5), some (vr (some (5, v6))), some (vr (some (5, v7))), none, some (vi v9), none, none] [vi s0, vi s1] M (Qi Q) := by
  unfold w_Works_differ_j343 at h
  refine E_blk (lv' := [some (vr (some (10, this))), none, some (vi v2), none, some (vi v4), some (vi v5), some (vr (some (5, v6))), some (vr (some (5, v7))), some (vi (s1 + s0)), some (vi v9), none, none]) (st' := []) (M1 := M) (pc' := 346) (tb_Works hγ) [.iadd, .istore 8] (by decide +kernel) rfl rfl trivial ?_
  refine E_mask [true, false, true, false, true, true, true, true, true, true, false, false] rfl ?_
  exact lk_Works_differ_j346 hγ this Q k254 hk254 v2 v4 v5 v6 v7 (s1 + s0) v9 M h
set_option maxRecDepth 4096 in
theorem lk_Works_differ_j342 {γ : Gm} (hγ : Gk γ) (this : Nat) (Q : Int32 → Mem → Prop) (k254 : Int32 → Int32 → Int32 → Nat → Nat → Int32 → Int32 → Mem → Prop) (hk254 : ∀ (v2 : Int32) (v4 : Int32) (v5 : Int32) (v6 : Nat) (v7 : Nat) (v8 : Int32) (v9 : Int32) (M : Mem), k254 v2 v4 v5 v6 v7 v8 v9 M → E γ k_Works_differ 4 254 [some (vr (some (10, this))), none, some (vi v2), none, some (vi v4), some (vi v5), some (vr (some (5, v6))), some (vr (some (5, v7))), some (vi v8), some (vi v9), none, none] [] M (Qi Q)) (v2 : Int32) (v4 : Int32) (v5 : Int32) (v6 : Nat) (v7 : Nat) (v9 : Int32) (s0 : Int32) (M : Mem) (h : w_Works_differ_j342 this Q k254 v2 v4 v5 v6 v7 v9 s0 M) : E γ k_Works_differ 4 342 [some (vr (some (10, this))), none, some (vi v2), none, some (vi v4), some (vi v5), some (vr (some (5, v6))), some (vr (some (5, v7))), none, some (vi v9), none, none] [vi s0] M (Qi Q) := by
  unfold w_Works_differ_j342 at h
  refine E_blk (lv' := [some (vr (some (10, this))), none, some (vi v2), none, some (vi v4), some (vi v5), some (vr (some (5, v6))), some (vr (some (5, v7))), none, some (vi v9), none, none]) (st' := [vi (0 : Int32), vi s0]) (M1 := M) (pc' := 343) (tb_Works hγ) [.iconst 0] (by decide +kernel) rfl rfl trivial ?_
  refine E_mask [true, false, true, false, true, true, true, true, false, true, false, false] rfl ?_
  exact lk_Works_differ_j343 hγ this Q k254 hk254 v2 v4 v5 v6 v7 v9 (0 : Int32) s0 M h
set_option maxRecDepth 4096 in
theorem lk_Works_differ_L254 {γ : Gm} (hγ : Gk γ) (this : Nat) (Q : Int32 → Mem → Prop) : ∀ (n : Nat) (v2 : Int32) (v4 : Int32) (v5 : Int32) (v6 : Nat) (v7 : Nat) (v8 : Int32) (v9 : Int32) (M : Mem), w_Works_differ_L254 this Q n v2 v4 v5 v6 v7 v8 v9 M → E γ k_Works_differ 4 254 [some (vr (some (10, this))), none, some (vi v2), none, some (vi v4), some (vi v5), some (vr (some (5, v6))), some (vr (some (5, v7))), some (vi v8), some (vi v9), none, none] [] M (Qi Q) := by
  intro n
  induction n with
  | zero => intro v2 v4 v5 v6 v7 v8 v9 M h; exact h.elim
  | succ n ih =>
    intro v2 v4 v5 v6 v7 v8 v9 M h
    unfold w_Works_differ_L254 at h
    obtain ⟨c40, h⟩ := h
    refine E_blk (lv' := [some (vr (some (10, this))), none, some (vi v2), none, some (vi v4), some (vi v5), some (vr (some (5, v6))), some (vr (some (5, v7))), some (vi v8), some (vi v9), none, none]) (st' := [vi (mI M 44 v6 v2.toNatClampNeg), vi v9]) (M1 := M) (pc' := 263) (tb_Works hγ) [.iload 9, .aload 6, .getfield 261, .iload_n 2, .iaload] (by decide +kernel) rfl rfl ⟨c40, trivial⟩ ?_
    refine E_icmp_ge (off := 89) (tgt := 352) (by decide +kernel) (by decide) (fun b41 => ?_) (fun b41 => ?_)
    · rw [if_pos b41] at h
      refine E_blk (lv' := [some (vr (some (10, this))), none, some (vi v2), none, some (vi v4), some (vi v5), some (vr (some (5, v6))), some (vr (some (5, v7))), some (vi v8), some (vi v9), none, none]) (st' := [vi v8]) (M1 := M) (pc' := 354) (tb_Works hγ) [.iload 8] (by decide +kernel) rfl rfl trivial ?_
      exact E_iret rfl (by decide +kernel) h
    · rw [if_neg b41] at h
      obtain ⟨c42, h⟩ := h
      refine E_blk (lv' := [some (vr (some (10, this))), none, some (vi v2), none, some (vi v4), some (vi v5), some (vr (some (5, v6))), some (vr (some (5, v7))), some (vi v8), some (vi v9), some (vi ((mI M 43 v6 v2.toNatClampNeg) + v9)), none]) (st' := [vi v4, vr (some (5, v7)), vi ((mI M 43 v6 v2.toNatClampNeg) + v9), vr (some (5, v6)), vr (some (10, this))]) (M1 := M) (pc' := 287) (tb_Works hγ) [.aload 6, .getfield 291, .iload_n 2, .iaload, .iload 9, .iadd, .istore 10, .aload_n 0, .aload 6, .iload 10, .aload 7, .iload 4] (by decide +kernel) rfl rfl ⟨c42, trivial⟩ ?_
      refine E_callV (κ' := k_Works_likeMethod) (As := [vr (some (5, v6)), vi ((mI M 43 v6 v2.toNatClampNeg) + v9), vr (some (5, v7)), vi v4]) (st := []) mv_Works_likeMethod (Or.inl (tbk_mem (j := 10) (k := 100) rfl)) rfl (by decide +kernel) (Nat.le_of_ble_eq_true rfl) (Nat.le_of_ble_eq_true rfl) rfl (by decide) (lk_Works_likeMethod hγ this v6 ((mI M 43 v6 v2.toNatClampNeg) + v9) v7 v4 _ M h) (fun _ _ => Qi_r) (fun v M43 hp => Qi_k (R := fun st => E γ k_Works_differ 4 290 [some (vr (some (10, this))), none, some (vi v2), none, some (vi v4), some (vi v5), some (vr (some (5, v6))), some (vr (some (5, v7))), some (vi v8), some (vi v9), some (vi ((mI M 43 v6 v2.toNatClampNeg) + v9)), none] st M43 (Qi Q)) hp (fun r44 h => ?_))
      refine E_blk (lv' := [some (vr (some (10, this))), none, some (vi v2), none, some (vi v4), some (vi v5), some (vr (some (5, v6))), some (vr (some (5, v7))), some (vi v8), some (vi v9), some (vi ((mI M 43 v6 v2.toNatClampNeg) + v9)), some (vi r44)]) (st' := [vi (2 : Int32), vi v5]) (M1 := M43) (pc' := 295) (tb_Works hγ) [.istore 11, .iload 5, .iconst 2] (by decide +kernel) rfl rfl trivial ?_
      refine E_icmp_ne (off := 21) (tgt := 316) (by decide +kernel) (by decide) (fun b45 => ?_) (fun b45 => ?_)
      · rw [if_pos b45] at h
        refine E_blk (lv' := [some (vr (some (10, this))), none, some (vi v2), none, some (vi v4), some (vi v5), some (vr (some (5, v6))), some (vr (some (5, v7))), some (vi v8), some (vi v9), some (vi ((mI M 43 v6 v2.toNatClampNeg) + v9)), some (vi r44)]) (st' := [vi r44, vi v8]) (M1 := M43) (pc' := 302) (tb_Works hγ) [.iload 8, .iload 11] (by decide +kernel) rfl rfl trivial ?_
        refine E_if_ge (off := 7) (tgt := 309) (by decide +kernel) (by decide) (fun b46 => ?_) (fun b46 => ?_)
        · rw [if_pos b46] at h
          refine E_blk (lv' := [some (vr (some (10, this))), none, some (vi v2), none, some (vi v4), some (vi v5), some (vr (some (5, v6))), some (vr (some (5, v7))), some (vi v8), some (vi v9), some (vi ((mI M 43 v6 v2.toNatClampNeg) + v9)), some (vi r44)]) (st' := [vi (0 : Int32), vi v8]) (M1 := M43) (pc' := 310) (tb_Works hγ) [.iconst 0] (by decide +kernel) rfl rfl trivial ?_
          refine E_mask [true, false, true, false, true, true, true, true, false, true, false, false] rfl ?_
          exact lk_Works_differ_j310 hγ this Q (w_Works_differ_L254 this Q n) ih v2 v4 v5 v6 v7 v9 (0 : Int32) v8 M43 h
        · rw [if_neg b46] at h
          refine E_blk (lv' := [some (vr (some (10, this))), none, some (vi v2), none, some (vi v4), some (vi v5), some (vr (some (5, v6))), some (vr (some (5, v7))), some (vi v8), some (vi v9), some (vi ((mI M 43 v6 v2.toNatClampNeg) + v9)), some (vi r44)]) (st' := [vi (1 : Int32), vi v8]) (M1 := M43) (pc' := 306) (tb_Works hγ) [.iconst 1] (by decide +kernel) rfl rfl trivial ?_
          refine E_goto (off := 4) (tgt := 310) (by decide +kernel) (by decide) ?_
          refine E_mask [true, false, true, false, true, true, true, true, false, true, false, false] rfl ?_
          exact lk_Works_differ_j310 hγ this Q (w_Works_differ_L254 this Q n) ih v2 v4 v5 v6 v7 v9 (1 : Int32) v8 M43 h
      · rw [if_neg b45] at h
        refine E_blk (lv' := [some (vr (some (10, this))), none, some (vi v2), none, some (vi v4), some (vi v5), some (vr (some (5, v6))), some (vr (some (5, v7))), some (vi v8), some (vi v9), some (vi ((mI M 43 v6 v2.toNatClampNeg) + v9)), some (vi r44)]) (st' := [vi r44, vi v8]) (M1 := M43) (pc' := 320) (tb_Works hγ) [.iload 8, .iload 11] (by decide +kernel) rfl rfl trivial ?_
        refine E_if_lt (off := 22) (tgt := 342) (by decide +kernel) (by decide) (fun b47 => ?_) (fun b47 => ?_)
        · rw [if_pos b47] at h
          refine E_mask [true, false, true, false, true, true, true, true, false, true, false, false] rfl ?_
          exact lk_Works_differ_j342 hγ this Q (w_Works_differ_L254 this Q n) ih v2 v4 v5 v6 v7 v9 v8 M43 h
        · rw [if_neg b47] at h
          refine E_blk (lv' := [some (vr (some (10, this))), none, some (vi v2), none, some (vi v4), some (vi v5), some (vr (some (5, v6))), some (vr (some (5, v7))), some (vi v8), some (vi v9), some (vi ((mI M 43 v6 v2.toNatClampNeg) + v9)), some (vi r44)]) (st' := [vi r44, vr (some (5, v7)), vi ((mI M 43 v6 v2.toNatClampNeg) + v9), vr (some (5, v6)), vr (some (10, this)), vi v8]) (M1 := M43) (pc' := 332) (tb_Works hγ) [.aload_n 0, .aload 6, .iload 10, .aload 7, .iload 11] (by decide +kernel) rfl rfl trivial ?_
          refine E_callV (κ' := k_Works_isWrittenAlike) (As := [vr (some (5, v6)), vi ((mI M 43 v6 v2.toNatClampNeg) + v9), vr (some (5, v7)), vi r44]) (st := [vi v8]) mv_Works_isWrittenAlike (Or.inl (tbk_mem (j := 10) (k := 105) rfl)) rfl (by decide +kernel) (Nat.le_of_ble_eq_true rfl) (Nat.le_of_ble_eq_true rfl) rfl (by decide) (lk_Works_isWrittenAlike hγ this v6 ((mI M 43 v6 v2.toNatClampNeg) + v9) v7 r44 _ M43 h) (fun _ _ => Qi_r) (fun v M48 hp => Qi_k (R := fun st => E γ k_Works_differ 4 335 [some (vr (some (10, this))), none, some (vi v2), none, some (vi v4), some (vi v5), some (vr (some (5, v6))), some (vr (some (5, v7))), some (vi v8), some (vi v9), some (vi ((mI M 43 v6 v2.toNatClampNeg) + v9)), some (vi r44)] st M48 (Qi Q)) hp (fun r49 h => ?_))
          refine E_if_ne (off := 7) (tgt := 342) (by decide +kernel) (by decide) (fun b50 => ?_) (fun b50 => ?_)
          · rw [if_pos b50] at h
            refine E_blk (lv' := [some (vr (some (10, this))), none, some (vi v2), none, some (vi v4), some (vi v5), some (vr (some (5, v6))), some (vr (some (5, v7))), some (vi v8), some (vi v9), some (vi ((mI M 43 v6 v2.toNatClampNeg) + v9)), some (vi r44)]) (st' := [vi (1 : Int32), vi v8]) (M1 := M48) (pc' := 339) (tb_Works hγ) [.iconst 1] (by decide +kernel) rfl rfl trivial ?_
            refine E_goto (off := 4) (tgt := 343) (by decide +kernel) (by decide) ?_
            refine E_mask [true, false, true, false, true, true, true, true, false, true, false, false] rfl ?_
            exact lk_Works_differ_j343 hγ this Q (w_Works_differ_L254 this Q n) ih v2 v4 v5 v6 v7 v9 (1 : Int32) v8 M48 h
          · rw [if_neg b50] at h
            refine E_mask [true, false, true, false, true, true, true, true, false, true, false, false] rfl ?_
            exact lk_Works_differ_j342 hγ this Q (w_Works_differ_L254 this Q n) ih v2 v4 v5 v6 v7 v9 v8 M48 h
set_option maxRecDepth 4096 in
theorem lk_Works_differ {γ : Gm} (hγ : Gk γ) (this : Nat) (a1 : Int32) (a2 : Int32) (a3 : Int32) (a4 : Int32) (a5 : Int32) (Q : Int32 → Mem → Prop) (M : Mem) (h : w_Works_differ this a1 a2 a3 a4 a5 Q M) : E γ k_Works_differ 4 0 [some (vr (some (10, this))), some (vi a1), some (vi a2), some (vi a3), some (vi a4), some (vi a5), none, none, none, none, none, none] [] M (Qi Q) := by
  unfold w_Works_differ at h
  refine E_blk (lv' := [some (vr (some (10, this))), some (vi a1), some (vi a2), some (vi a3), some (vi a4), some (vi a5), none, none, none, none, none, none]) (st' := [vi a2, vi a1, vr (some (10, this))]) (M1 := M) (pc' := 3) (tb_Works hγ) [.aload_n 0, .iload_n 1, .iload_n 2] (by decide +kernel) rfl rfl trivial ?_
  refine E_callV (κ' := k_Works_isClass) (As := [vi a1, vi a2]) (st := []) mv_Works_isClass (Or.inl (tbk_mem (j := 7) (k := 49) rfl)) rfl (by decide +kernel) (Nat.le_of_ble_eq_true rfl) (Nat.le_of_ble_eq_true rfl) rfl (by decide) (lk_Works_isClass hγ this a1 a2 _ M h) (fun _ _ => Qi_r) (fun v M1 hp => Qi_k (R := fun st => E γ k_Works_differ 4 6 [some (vr (some (10, this))), some (vi a1), some (vi a2), some (vi a3), some (vi a4), some (vi a5), none, none, none, none, none, none] st M1 (Qi Q)) hp (fun r2 h => ?_))
  refine E_if_eq (off := 23) (tgt := 29) (by decide +kernel) (by decide) (fun b3 => ?_) (fun b3 => ?_)
  · rw [if_pos b3] at h
    refine E_blk (lv' := [some (vr (some (10, this))), some (vi a1), some (vi a2), some (vi a3), some (vi a4), some (vi a5), none, none, none, none, none, none]) (st' := [vi (-1 : Int32)]) (M1 := M1) (pc' := 30) (tb_Works hγ) [.iconst (.negSucc 0)] (by decide +kernel) rfl rfl trivial ?_
    exact E_iret rfl (by decide +kernel) h
  · rw [if_neg b3] at h
    refine E_blk (lv' := [some (vr (some (10, this))), some (vi a1), some (vi a2), some (vi a3), some (vi a4), some (vi a5), none, none, none, none, none, none]) (st' := [vi a4, vi a3, vr (some (10, this))]) (M1 := M1) (pc' := 13) (tb_Works hγ) [.aload_n 0, .iload_n 3, .iload 4] (by decide +kernel) rfl rfl trivial ?_
    refine E_callV (κ' := k_Works_isClass) (As := [vi a3, vi a4]) (st := []) mv_Works_isClass (Or.inl (tbk_mem (j := 7) (k := 49) rfl)) rfl (by decide +kernel) (Nat.le_of_ble_eq_true rfl) (Nat.le_of_ble_eq_true rfl) rfl (by decide) (lk_Works_isClass hγ this a3 a4 _ M1 h) (fun _ _ => Qi_r) (fun v M4 hp => Qi_k (R := fun st => E γ k_Works_differ 4 16 [some (vr (some (10, this))), some (vi a1), some (vi a2), some (vi a3), some (vi a4), some (vi a5), none, none, none, none, none, none] st M4 (Qi Q)) hp (fun r5 h => ?_))
    refine E_if_eq (off := 13) (tgt := 29) (by decide +kernel) (by decide) (fun b6 => ?_) (fun b6 => ?_)
    · rw [if_pos b6] at h
      refine E_blk (lv' := [some (vr (some (10, this))), some (vi a1), some (vi a2), some (vi a3), some (vi a4), some (vi a5), none, none, none, none, none, none]) (st' := [vi (-1 : Int32)]) (M1 := M4) (pc' := 30) (tb_Works hγ) [.iconst (.negSucc 0)] (by decide +kernel) rfl rfl trivial ?_
      exact E_iret rfl (by decide +kernel) h
    · rw [if_neg b6] at h
      refine E_blk (lv' := [some (vr (some (10, this))), some (vi a1), some (vi a2), some (vi a3), some (vi a4), some (vi a5), none, none, none, none, none, none]) (st' := [vi (3 : Int32), vi (0 : Int32), vi a5]) (M1 := M4) (pc' := 23) (tb_Works hγ) [.iload 5, .iconst 0, .iconst 3] (by decide +kernel) rfl rfl trivial ?_
      refine E_callS (κ' := k_Works_isIn) (As := [vi a5, vi (0 : Int32), vi (3 : Int32)]) (st := []) ms_Works_isIn (Or.inl (tbk_mem (j := 5) (k := 237) rfl)) rfl (by decide +kernel) (Nat.le_of_ble_eq_true rfl) (Nat.le_of_ble_eq_true rfl) rfl (by decide) (lk_Works_isIn hγ a5 (0 : Int32) (3 : Int32) _ M4 h) (fun _ _ => Qi_r) (fun v M7 hp => Qi_k (R := fun st => E γ k_Works_differ 4 26 [some (vr (some (10, this))), some (vi a1), some (vi a2), some (vi a3), some (vi a4), some (vi a5), none, none, none, none, none, none] st M7 (Qi Q)) hp (fun r8 h => ?_))
      refine E_if_ne (off := 5) (tgt := 31) (by decide +kernel) (by decide) (fun b9 => ?_) (fun b9 => ?_)
      · rw [if_pos b9] at h
        refine E_blk (lv' := [some (vr (some (10, this))), some (vi a1), some (vi a2), some (vi a3), some (vi a4), some (vi a5), none, none, none, none, none, none]) (st' := [vi (-1 : Int32)]) (M1 := M7) (pc' := 30) (tb_Works hγ) [.iconst (.negSucc 0)] (by decide +kernel) rfl rfl trivial ?_
        exact E_iret rfl (by decide +kernel) h
      · rw [if_neg b9] at h
        obtain ⟨c10, h⟩ := h
        refine E_blk (lv' := [some (vr (some (10, this))), some (vi a1), some (vi a2), some (vi a3), some (vi a4), some (vi a5), none, none, none, none, none, none]) (st' := [vr (mR M7 702 0 a1.toNatClampNeg)]) (M1 := M7) (pc' := 37) (tb_Works hγ) [.aload_n 0, .getfield 85, .iload_n 1, .aaload] (by decide +kernel) rfl rfl ⟨c10, trivial⟩ ?_
        obtain ⟨i11, ei11, h⟩ := h
        rw [ei11]
        obtain ⟨c12, h⟩ := h
        refine E_blk (lv' := [some (vr (some (10, this))), some (vi a1), some (vi a2), some (vi a3), some (vi a4), some (vi a5), some (vr (some (5, i11))), none, none, none, none, none]) (st' := [vr (mR M7 702 0 a3.toNatClampNeg)]) (M1 := M7) (pc' := 45) (tb_Works hγ) [.astore 6, .aload_n 0, .getfield 85, .iload_n 3, .aaload] (by decide +kernel) rfl rfl ⟨c12, trivial⟩ ?_
        obtain ⟨i13, ei13, h⟩ := h
        rw [ei13]
        refine E_blk (lv' := [some (vr (some (10, this))), some (vi a1), some (vi a2), some (vi a3), some (vi a4), some (vi a5), some (vr (some (5, i11))), some (vr (some (5, i13))), none, none, none, none]) (st' := [vi a5]) (M1 := M7) (pc' := 49) (tb_Works hγ) [.astore 7, .iload 5] (by decide +kernel) rfl rfl trivial ?_
        refine E_if_ne (off := 136) (tgt := 185) (by decide +kernel) (by decide) (fun b14 => ?_) (fun b14 => ?_)
        · rw [if_pos b14] at h
          obtain ⟨c15, c16, h⟩ := h
          refine E_blk (lv' := [some (vr (some (10, this))), some (vi a1), some (vi a2), some (vi a3), some (vi a4), some (vi a5), some (vr (some (5, i11))), some (vr (some (5, i13))), none, none, none, none]) (st' := [vi (mI M7 40 i13 a4.toNatClampNeg), vi (mI M7 40 i11 a2.toNatClampNeg)]) (M1 := M7) (pc' := 67) (tb_Works hγ) [.aload 6, .getfield 264, .iload_n 2, .iaload, .aload 7, .getfield 264, .iload 4, .iaload] (by decide +kernel) rfl rfl ⟨c15, c16, trivial⟩ ?_
          refine E_icmp_ne (off := 43) (tgt := 110) (by decide +kernel) (by decide) (fun b17 => ?_) (fun b17 => ?_)
          · rw [if_pos b17] at h
            obtain ⟨c18, c19, h⟩ := h
            refine E_blk (lv' := [some (vr (some (10, this))), some (vi a1), some (vi a2), some (vi a3), some (vi a4), some (vi a5), some (vr (some (5, i11))), some (vr (some (5, i13))), none, none, none, none]) (st' := [vi (mI M7 37 i13 a4.toNatClampNeg), vi (mI M7 37 i11 a2.toNatClampNeg)]) (M1 := M7) (pc' := 85) (tb_Works hγ) [.aload 6, .getfield 249, .iload_n 2, .iaload, .aload 7, .getfield 249, .iload 4, .iaload] (by decide +kernel) rfl rfl ⟨c18, c19, trivial⟩ ?_
            refine E_icmp_ne (off := 25) (tgt := 110) (by decide +kernel) (by decide) (fun b20 => ?_) (fun b20 => ?_)
            · rw [if_pos b20] at h
              obtain ⟨c21, c22, h⟩ := h
              refine E_blk (lv' := [some (vr (some (10, this))), some (vi a1), some (vi a2), some (vi a3), some (vi a4), some (vi a5), some (vr (some (5, i11))), some (vr (some (5, i13))), none, none, none, none]) (st' := [vi (mI M7 39 i13 a4.toNatClampNeg), vi (mI M7 39 i11 a2.toNatClampNeg)]) (M1 := M7) (pc' := 103) (tb_Works hγ) [.aload 6, .getfield 255, .iload_n 2, .iaload, .aload 7, .getfield 255, .iload 4, .iaload] (by decide +kernel) rfl rfl ⟨c21, c22, trivial⟩ ?_
              refine E_icmp_ne (off := 7) (tgt := 110) (by decide +kernel) (by decide) (fun b23 => ?_) (fun b23 => ?_)
              · rw [if_pos b23] at h
                refine E_blk (lv' := [some (vr (some (10, this))), some (vi a1), some (vi a2), some (vi a3), some (vi a4), some (vi a5), some (vr (some (5, i11))), some (vr (some (5, i13))), none, none, none, none]) (st' := [vi (1 : Int32)]) (M1 := M7) (pc' := 107) (tb_Works hγ) [.iconst 1] (by decide +kernel) rfl rfl trivial ?_
                refine E_goto (off := 4) (tgt := 111) (by decide +kernel) (by decide) ?_
                refine E_mask [false, false, true, false, true, false, true, true, false, false, false, false] rfl ?_
                exact lk_Works_differ_j111 hγ this Q a2 a4 i11 i13 (1 : Int32) M7 h
              · rw [if_neg b23] at h
                refine E_mask [false, false, true, false, true, false, true, true, false, false, false, false] rfl ?_
                exact lk_Works_differ_j110 hγ this Q a2 a4 i11 i13 M7 h
            · rw [if_neg b20] at h
              refine E_mask [false, false, true, false, true, false, true, true, false, false, false, false] rfl ?_
              exact lk_Works_differ_j110 hγ this Q a2 a4 i11 i13 M7 h
          · rw [if_neg b17] at h
            refine E_mask [false, false, true, false, true, false, true, true, false, false, false, false] rfl ?_
            exact lk_Works_differ_j110 hγ this Q a2 a4 i11 i13 M7 h
        · rw [if_neg b14] at h
          refine E_blk (lv' := [some (vr (some (10, this))), some (vi a1), some (vi a2), some (vi a3), some (vi a4), some (vi a5), some (vr (some (5, i11))), some (vr (some (5, i13))), some (vi (0 : Int32)), none, none, none]) (st' := [vi (1 : Int32), vi a5]) (M1 := M7) (pc' := 191) (tb_Works hγ) [.iconst 0, .istore 8, .iload 5, .iconst 1] (by decide +kernel) rfl rfl trivial ?_
          refine E_icmp_ne (off := 60) (tgt := 251) (by decide +kernel) (by decide) (fun b32 => ?_) (fun b32 => ?_)
          · rw [if_pos b32] at h
            refine E_blk (lv' := [some (vr (some (10, this))), some (vi a1), some (vi a2), some (vi a3), some (vi a4), some (vi a5), some (vr (some (5, i11))), some (vr (some (5, i13))), some (vi (0 : Int32)), some (vi (0 : Int32)), none, none]) (st' := []) (M1 := M7) (pc' := 197) (tb_Works hγ) [.iconst 0, .istore 9] (by decide +kernel) rfl rfl trivial ?_
            obtain ⟨n39, h⟩ := h
            refine E_mask [true, false, true, false, true, false, true, true, true, true, false, false] rfl ?_
            exact lk_Works_differ_L197 hγ this Q n39 a2 a4 i11 i13 (0 : Int32) (0 : Int32) M7 h
          · rw [if_neg b32] at h
            refine E_blk (lv' := [some (vr (some (10, this))), some (vi a1), some (vi a2), some (vi a3), some (vi a4), some (vi a5), some (vr (some (5, i11))), some (vr (some (5, i13))), some (vi (0 : Int32)), some (vi (0 : Int32)), none, none]) (st' := []) (M1 := M7) (pc' := 254) (tb_Works hγ) [.iconst 0, .istore 9] (by decide +kernel) rfl rfl trivial ?_
            obtain ⟨n51, h⟩ := h
            refine E_mask [true, false, true, false, true, true, true, true, true, true, false, false] rfl ?_
            exact lk_Works_differ_L254 hγ this Q n51 a2 a4 a5 i11 i13 (0 : Int32) (0 : Int32) M7 h
def w_Works_comes (this : Nat) (a1 : Nat) (a2 : Int32) (Q : Mem → Prop) (M : Mem) : Prop :=
  vp_in a2 (mL M 517 this) ∧ if (mI M 517 this a2.toNatClampNeg) = 0 then (vp_in a2 (mL M 517 this) ∧ vp_in a2 (mL (sI M 517 this a2.toNatClampNeg ((1 : Int32) &&& 1)) 55 a1) ∧ vp_in (mI (sI M 517 this a2.toNatClampNeg ((1 : Int32) &&& 1)) 10 this 27) (mL (sI M 517 this a2.toNatClampNeg ((1 : Int32) &&& 1)) 102 this) ∧ ∃ M6, M6 = (sI (sI M 517 this a2.toNatClampNeg ((1 : Int32) &&& 1)) 102 this (mI (sI M 517 this a2.toNatClampNeg ((1 : Int32) &&& 1)) 10 this 27).toNatClampNeg (mI (sI M 517 this a2.toNatClampNeg ((1 : Int32) &&& 1)) 55 a1 a2.toNatClampNeg)) ∧ vp_in a2 (mL M6 55 a1) ∧ vp_in (mI M6 55 a1 a2.toNatClampNeg) (mL M6 43 a1) ∧ vp_in (mI M6 10 this 27) (mL M6 101 this) ∧ ∃ M10, M10 = (sI M6 101 this (mI M6 10 this 27).toNatClampNeg (a2 - (mI M6 43 a1 (mI M6 55 a1 a2.toNatClampNeg).toNatClampNeg))) ∧ Q (sI M10 10 this 27 ((mI M10 10 this 27) + (1 : Int32)))) else (Q M)
set_option maxRecDepth 4096 in
theorem lk_Works_comes {γ : Gm} (hγ : Gk γ) (this : Nat) (a1 : Nat) (a2 : Int32) (Q : Mem → Prop) (M : Mem) (h : w_Works_comes this a1 a2 Q M) : E γ k_Works_comes 0 0 [some (vr (some (10, this))), some (vr (some (5, a1))), some (vi a2)] [] M (Qv Q) := by
  unfold w_Works_comes at h
  obtain ⟨c1, h⟩ := h
  refine E_blk (lv' := [some (vr (some (10, this))), some (vr (some (5, a1))), some (vi a2)]) (st' := [vi (mI M 517 this a2.toNatClampNeg)]) (M1 := M) (pc' := 6) (tb_Works hγ) [.aload_n 0, .getfield 112, .iload_n 2, .baload] (by decide +kernel) rfl rfl ⟨c1, trivial⟩ ?_
  refine E_if_eq (off := 4) (tgt := 10) (by decide +kernel) (by decide) (fun b2 => ?_) (fun b2 => ?_)
  · rw [if_pos b2] at h
    obtain ⟨c3, c4, c5, h⟩ := h
    refine E_blk (lv' := [some (vr (some (10, this))), some (vr (some (5, a1))), some (vi a2)]) (st' := []) (M1 := (sI (sI M 517 this a2.toNatClampNeg ((1 : Int32) &&& 1)) 102 this (mI (sI M 517 this a2.toNatClampNeg ((1 : Int32) &&& 1)) 10 this 27).toNatClampNeg (mI (sI M 517 this a2.toNatClampNeg ((1 : Int32) &&& 1)) 55 a1 a2.toNatClampNeg))) (pc' := 32) (tb_Works hγ) [.aload_n 0, .getfield 112, .iload_n 2, .iconst 1, .bastore, .aload_n 0, .getfield 109, .aload_n 0, .getfield 570, .aload_n 1, .getfield 363, .iload_n 2, .iaload, .iastore] (by decide +kernel) rfl rfl ⟨c3, c4, c5, trivial⟩ ?_
    obtain ⟨M6, eM6, h⟩ := h
    rw [← eM6]
    obtain ⟨c7, c8, c9, h⟩ := h
    refine E_blk (lv' := [some (vr (some (10, this))), some (vr (some (5, a1))), some (vi a2)]) (st' := []) (M1 := (sI M6 101 this (mI M6 10 this 27).toNatClampNeg (a2 - (mI M6 43 a1 (mI M6 55 a1 a2.toNatClampNeg).toNatClampNeg)))) (pc' := 54) (tb_Works hγ) [.aload_n 0, .getfield 106, .aload_n 0, .getfield 570, .iload_n 2, .aload_n 1, .getfield 291, .aload_n 1, .getfield 363, .iload_n 2, .iaload, .iaload, .isub, .iastore] (by decide +kernel) rfl rfl ⟨c7, c8, c9, trivial⟩ ?_
    obtain ⟨M10, eM10, h⟩ := h
    rw [← eM10]
    refine E_blk (lv' := [some (vr (some (10, this))), some (vr (some (5, a1))), some (vi a2)]) (st' := []) (M1 := (sI M10 10 this 27 ((mI M10 10 this 27) + (1 : Int32)))) (pc' := 64) (tb_Works hγ) [.aload_n 0, .dup, .getfield 570, .iconst 1, .iadd, .putfield 570] (by decide +kernel) rfl rfl trivial ?_
    exact E_vret rfl (by decide +kernel) h
  · rw [if_neg b2] at h
    exact E_vret rfl (by decide +kernel) h
def w_Works_isBuiltIn (this : Nat) (a1 : Nat) (a2 : Int32) (Q : Int32 → Mem → Prop) (M : Mem) : Prop :=
  vp_in a2 (mL M 55 a1) ∧ if (21 : Int32) ≤ (mI M 55 a1 a2.toNatClampNeg) then (Q (0 : Int32) M) else (Q (1 : Int32) M)
set_option maxRecDepth 4096 in
theorem lk_Works_isBuiltIn {γ : Gm} (hγ : Gk γ) (this : Nat) (a1 : Nat) (a2 : Int32) (Q : Int32 → Mem → Prop) (M : Mem) (h : w_Works_isBuiltIn this a1 a2 Q M) : E γ k_Works_isBuiltIn 0 0 [some (vr (some (10, this))), some (vr (some (5, a1))), some (vi a2)] [] M (Qi Q) := by
  unfold w_Works_isBuiltIn at h
  obtain ⟨c1, h⟩ := h
  refine E_blk (lv' := [some (vr (some (10, this))), some (vr (some (5, a1))), some (vi a2)]) (st' := [vi (21 : Int32), vi (mI M 55 a1 a2.toNatClampNeg)]) (M1 := M) (pc' := 8) (tb_Works hγ) [.aload_n 1, .getfield 363, .iload_n 2, .iaload, .bipush 21] (by decide +kernel) rfl rfl ⟨c1, trivial⟩ ?_
  refine E_icmp_ge (off := 7) (tgt := 15) (by decide +kernel) (by decide) (fun b2 => ?_) (fun b2 => ?_)
  · rw [if_pos b2] at h
    refine E_blk (lv' := [some (vr (some (10, this))), some (vr (some (5, a1))), some (vi a2)]) (st' := [vi (0 : Int32)]) (M1 := M) (pc' := 16) (tb_Works hγ) [.iconst 0] (by decide +kernel) rfl rfl trivial ?_
    exact E_zret rfl (Or.inl rfl) (by decide +kernel) h
  · rw [if_neg b2] at h
    refine E_blk (lv' := [some (vr (some (10, this))), some (vr (some (5, a1))), some (vi a2)]) (st' := [vi (1 : Int32)]) (M1 := M) (pc' := 12) (tb_Works hγ) [.iconst 1] (by decide +kernel) rfl rfl trivial ?_
    refine E_goto (off := 4) (tgt := 16) (by decide +kernel) (by decide) ?_
    exact E_zret rfl (Or.inr rfl) (by decide +kernel) h
def w_Works_callsOf_j33 (this : Nat) (Q : Mem → Prop) (v1 : Nat) (v3 : Int32) (M : Mem) : Prop :=
  w_Works_isBuiltIn this v1 v3 (fun r4 M3 => if r4 = 0 then (w_Works_comes this v1 v3 (fun M6 => Q M6) M3) else (Q M3)) M
def w_Works_callsOf_j165 (this : Nat) (Q : Mem → Prop) (k69 : Nat → Int32 → Int32 → Int32 → Mem → Prop) (v1 : Nat) (v2 : Int32) (v5 : Int32) (v6 : Int32) (M : Mem) : Prop :=
  k69 v1 v2 v5 (v6 + (1 : Int32)) M
def w_Works_callsOf_L69 (this : Nat) (Q : Mem → Prop) : Nat → Nat → Int32 → Int32 → Int32 → Mem → Prop
  | 0, _, _, _, _, _ => False
  | n + 1, v1, v2, v5, v6, M => if (mI M 5 v1 2) ≤ v6 then (Q M) else (vp_in v6 (mL M 40 v1) ∧ if ((mI M 40 v1 v6.toNatClampNeg) &&& (6 : Int32)) = 0 then (w_World_isBelow v1 v6 v5 (fun r19 M18 => if r19 = 0 then (w_Works_callsOf_j165 this Q (w_Works_callsOf_L69 this Q n) v1 v2 v5 v6 M18) else (w_World_link v1 v6 (fun r22 M21 => if r22 = (1 : Int32) then (vp_in v2 (mL M21 67 v1) ∧ w_World_method v1 v6 (mI M21 67 v1 v2.toNatClampNeg) (5 : Int32) (fun r26 M25 => if r26 < 0 then (w_Works_callsOf_j165 this Q (w_Works_callsOf_L69 this Q n) v1 v2 v5 v6 M25) else (vp_in r26 (mL M25 57 v1) ∧ if ((mI M25 57 v1 r26.toNatClampNeg) &&& (8 : Int32)) = 0 then (w_Works_isBuiltIn this v1 r26 (fun r31 M30 => if r31 = 0 then (w_Works_comes this v1 r26 (fun M33 => w_Works_callsOf_j165 this Q (w_Works_callsOf_L69 this Q n) v1 v2 v5 v6 M33) M30) else (w_Works_callsOf_j165 this Q (w_Works_callsOf_L69 this Q n) v1 v2 v5 v6 M30)) M25) else (w_Works_callsOf_j165 this Q (w_Works_callsOf_L69 this Q n) v1 v2 v5 v6 M25))) M21) else (w_Works_callsOf_j165 this Q (w_Works_callsOf_L69 this Q n) v1 v2 v5 v6 M21)) M18)) M) else (w_Works_callsOf_j165 this Q (w_Works_callsOf_L69 this Q n) v1 v2 v5 v6 M))
def w_Works_callsOf (this : Nat) (a1 : Nat) (a2 : Int32) (a3 : Int32) (Q : Mem → Prop) (M : Mem) : Prop :=
  vp_in a2 (mL M 66 a1) ∧ if (mI M 66 a1 a2.toNatClampNeg) = (52 : Int32) then (w_Works_callsOf_j33 this Q a1 a3 M) else (if (mI M 66 a1 a2.toNatClampNeg) = (51 : Int32) then (w_Works_callsOf_j33 this Q a1 a3 M) else (vp_in a3 (mL M 57 a1) ∧ if ((mI M 57 a1 a3.toNatClampNeg) &&& (4 : Int32)) = 0 then (vp_in a2 (mL M 67 a1) ∧ w_World_refClass a1 (mI M 67 a1 a2.toNatClampNeg) (fun r12 M11 => w_World_find a1 r12 (fun r14 M13 => ∃ n34 : Nat, w_Works_callsOf_L69 this Q n34 a1 a2 r14 (21 : Int32) M13) M11) M) else (w_Works_callsOf_j33 this Q a1 a3 M)))
set_option maxRecDepth 4096 in
theorem lk_Works_callsOf_j33 {γ : Gm} (hγ : Gk γ) (this : Nat) (Q : Mem → Prop) (v1 : Nat) (v3 : Int32) (M : Mem) (h : w_Works_callsOf_j33 this Q v1 v3 M) : E γ k_Works_callsOf 133 33 [some (vr (some (10, this))), some (vr (some (5, v1))), none, some (vi v3), none, none, none, none] [] M (Qv Q) := by
  unfold w_Works_callsOf_j33 at h
  refine E_blk (lv' := [some (vr (some (10, this))), some (vr (some (5, v1))), none, some (vi v3), none, none, none, none]) (st' := [vi v3, vr (some (5, v1)), vr (some (10, this))]) (M1 := M) (pc' := 36) (tb_Works hγ) [.aload_n 0, .aload_n 1, .iload_n 3] (by decide +kernel) rfl rfl trivial ?_
  refine E_callV (κ' := k_Works_isBuiltIn) (As := [vr (some (5, v1)), vi v3]) (st := []) mv_Works_isBuiltIn (Or.inl (tbk_mem (j := 10) (k := 138) rfl)) rfl (by decide +kernel) (Nat.le_of_ble_eq_true rfl) (Nat.le_of_ble_eq_true rfl) rfl (by decide) (lk_Works_isBuiltIn hγ this v1 v3 _ M h) (fun _ _ => Qi_r) (fun v M3 hp => Qi_k (R := fun st => E γ k_Works_callsOf 133 39 [some (vr (some (10, this))), some (vr (some (5, v1))), none, some (vi v3), none, none, none, none] st M3 (Qv Q)) hp (fun r4 h => ?_))
  refine E_if_ne (off := 9) (tgt := 48) (by decide +kernel) (by decide) (fun b5 => ?_) (fun b5 => ?_)
  · rw [if_pos b5] at h
    refine E_blk (lv' := [some (vr (some (10, this))), some (vr (some (5, v1))), none, some (vi v3), none, none, none, none]) (st' := [vi v3, vr (some (5, v1)), vr (some (10, this))]) (M1 := M3) (pc' := 45) (tb_Works hγ) [.aload_n 0, .aload_n 1, .iload_n 3] (by decide +kernel) rfl rfl trivial ?_
    refine E_callV (κ' := k_Works_comes) (As := [vr (some (5, v1)), vi v3]) (st := []) mv_Works_comes (Or.inl (tbk_mem (j := 10) (k := 126) rfl)) rfl (by decide +kernel) (Nat.le_of_ble_eq_true rfl) (Nat.le_of_ble_eq_true rfl) rfl (by decide) (lk_Works_comes hγ this v1 v3 _ M3 h) (fun _ _ => Qv_r) (fun v M6 hp => Qv_k (R := fun st => E γ k_Works_callsOf 133 48 [some (vr (some (10, this))), some (vr (some (5, v1))), none, some (vi v3), none, none, none, none] st M6 (Qv Q)) hp (fun h => ?_))
    exact E_vret rfl (by decide +kernel) h
  · rw [if_neg b5] at h
    exact E_vret rfl (by decide +kernel) h
set_option maxRecDepth 4096 in
theorem lk_Works_callsOf_j165 {γ : Gm} (hγ : Gk γ) (this : Nat) (Q : Mem → Prop) (k69 : Nat → Int32 → Int32 → Int32 → Mem → Prop) (hk69 : ∀ (v1 : Nat) (v2 : Int32) (v5 : Int32) (v6 : Int32) (M : Mem), k69 v1 v2 v5 v6 M → E γ k_Works_callsOf 133 69 [some (vr (some (10, this))), some (vr (some (5, v1))), some (vi v2), none, none, some (vi v5), some (vi v6), none] [] M (Qv Q)) (v1 : Nat) (v2 : Int32) (v5 : Int32) (v6 : Int32) (M : Mem) (h : w_Works_callsOf_j165 this Q k69 v1 v2 v5 v6 M) : E γ k_Works_callsOf 133 165 [some (vr (some (10, this))), some (vr (some (5, v1))), some (vi v2), none, none, some (vi v5), some (vi v6), none] [] M (Qv Q) := by
  unfold w_Works_callsOf_j165 at h
  refine E_blk (lv' := [some (vr (some (10, this))), some (vr (some (5, v1))), some (vi v2), none, none, some (vi v5), some (vi (v6 + (1 : Int32))), none]) (st' := []) (M1 := M) (pc' := 168) (tb_Works hγ) [.iinc 6 1] (by decide +kernel) rfl rfl trivial ?_
  refine E_goto (off := -99) (tgt := 69) (by decide +kernel) (by decide) ?_
  refine E_mask [true, true, true, false, false, true, true, false] rfl ?_
  exact hk69 v1 v2 v5 (v6 + (1 : Int32)) M h
set_option maxRecDepth 4096 in
theorem lk_Works_callsOf_L69 {γ : Gm} (hγ : Gk γ) (this : Nat) (Q : Mem → Prop) : ∀ (n : Nat) (v1 : Nat) (v2 : Int32) (v5 : Int32) (v6 : Int32) (M : Mem), w_Works_callsOf_L69 this Q n v1 v2 v5 v6 M → E γ k_Works_callsOf 133 69 [some (vr (some (10, this))), some (vr (some (5, v1))), some (vi v2), none, none, some (vi v5), some (vi v6), none] [] M (Qv Q) := by
  intro n
  induction n with
  | zero => intro v1 v2 v5 v6 M h; exact h.elim
  | succ n ih =>
    intro v1 v2 v5 v6 M h
    unfold w_Works_callsOf_L69 at h
    refine E_blk (lv' := [some (vr (some (10, this))), some (vr (some (5, v1))), some (vi v2), none, none, some (vi v5), some (vi v6), none]) (st' := [vi (mI M 5 v1 2), vi v6]) (M1 := M) (pc' := 75) (tb_Works hγ) [.iload 6, .aload_n 1, .getfield 242] (by decide +kernel) rfl rfl trivial ?_
    refine E_icmp_ge (off := 96) (tgt := 171) (by decide +kernel) (by decide) (fun b15 => ?_) (fun b15 => ?_)
    · rw [if_pos b15] at h
      exact E_vret rfl (by decide +kernel) h
    · rw [if_neg b15] at h
      obtain ⟨c16, h⟩ := h
      refine E_blk (lv' := [some (vr (some (10, this))), some (vr (some (5, v1))), some (vi v2), none, none, some (vi v5), some (vi v6), none]) (st' := [vi ((mI M 40 v1 v6.toNatClampNeg) &&& (6 : Int32))]) (M1 := M) (pc' := 88) (tb_Works hγ) [.aload_n 1, .getfield 264, .iload 6, .iaload, .bipush 6, .iand] (by decide +kernel) rfl rfl ⟨c16, trivial⟩ ?_
      refine E_if_ne (off := 77) (tgt := 165) (by decide +kernel) (by decide) (fun b17 => ?_) (fun b17 => ?_)
      · rw [if_pos b17] at h
        refine E_blk (lv' := [some (vr (some (10, this))), some (vr (some (5, v1))), some (vi v2), none, none, some (vi v5), some (vi v6), none]) (st' := [vi v5, vi v6, vr (some (5, v1))]) (M1 := M) (pc' := 96) (tb_Works hγ) [.aload_n 1, .iload 6, .iload 5] (by decide +kernel) rfl rfl trivial ?_
        refine E_callV (κ' := k_World_isBelow) (As := [vi v6, vi v5]) (st := []) mv_World_isBelow (Or.inl (tbk_mem (j := 10) (k := 142) rfl)) rfl (by decide +kernel) (Nat.le_of_ble_eq_true rfl) (Nat.le_of_ble_eq_true rfl) rfl (by decide) (lk_World_isBelow hγ v1 v6 v5 _ M h) (fun _ _ => Qi_r) (fun v M18 hp => Qi_k (R := fun st => E γ k_Works_callsOf 133 99 [some (vr (some (10, this))), some (vr (some (5, v1))), some (vi v2), none, none, some (vi v5), some (vi v6), none] st M18 (Qv Q)) hp (fun r19 h => ?_))
        refine E_if_eq (off := 66) (tgt := 165) (by decide +kernel) (by decide) (fun b20 => ?_) (fun b20 => ?_)
        · rw [if_pos b20] at h
          refine E_mask [true, true, true, false, false, true, true, false] rfl ?_
          exact lk_Works_callsOf_j165 hγ this Q (w_Works_callsOf_L69 this Q n) ih v1 v2 v5 v6 M18 h
        · rw [if_neg b20] at h
          refine E_blk (lv' := [some (vr (some (10, this))), some (vr (some (5, v1))), some (vi v2), none, none, some (vi v5), some (vi v6), none]) (st' := [vi v6, vr (some (5, v1))]) (M1 := M18) (pc' := 105) (tb_Works hγ) [.aload_n 1, .iload 6] (by decide +kernel) rfl rfl trivial ?_
          refine E_callV (κ' := k_World_link) (As := [vi v6]) (st := []) mv_World_link (Or.inl (tbk_mem (j := 7) (k := 76) rfl)) rfl (by decide +kernel) (Nat.le_of_ble_eq_true rfl) (Nat.le_of_ble_eq_true rfl) rfl (by decide) (lk_World_link hγ v1 v6 _ M18 h) (fun _ _ => Qi_r) (fun v M21 hp => Qi_k (R := fun st => E γ k_Works_callsOf 133 108 [some (vr (some (10, this))), some (vr (some (5, v1))), some (vi v2), none, none, some (vi v5), some (vi v6), none] st M21 (Qv Q)) hp (fun r22 h => ?_))
          refine E_blk (lv' := [some (vr (some (10, this))), some (vr (some (5, v1))), some (vi v2), none, none, some (vi v5), some (vi v6), none]) (st' := [vi (1 : Int32), vi r22]) (M1 := M21) (pc' := 109) (tb_Works hγ) [.iconst 1] (by decide +kernel) rfl rfl trivial ?_
          refine E_icmp_eq (off := 6) (tgt := 115) (by decide +kernel) (by decide) (fun b23 => ?_) (fun b23 => ?_)
          · rw [if_pos b23] at h
            obtain ⟨c24, h⟩ := h
            refine E_blk (lv' := [some (vr (some (10, this))), some (vr (some (5, v1))), some (vi v2), none, none, some (vi v5), some (vi v6), none]) (st' := [vi (5 : Int32), vi (mI M21 67 v1 v2.toNatClampNeg), vi v6, vr (some (5, v1))]) (M1 := M21) (pc' := 125) (tb_Works hγ) [.aload_n 1, .iload 6, .aload_n 1, .getfield 540, .iload_n 2, .iaload, .iconst 5] (by decide +kernel) rfl rfl ⟨c24, trivial⟩ ?_
            refine E_callV (κ' := k_World_method) (As := [vi v6, vi (mI M21 67 v1 v2.toNatClampNeg), vi (5 : Int32)]) (st := []) mv_World_method (Or.inl (tbk_mem (j := 10) (k := 143) rfl)) rfl (by decide +kernel) (Nat.le_of_ble_eq_true rfl) (Nat.le_of_ble_eq_true rfl) rfl (by decide) (lk_World_method hγ v1 v6 (mI M21 67 v1 v2.toNatClampNeg) (5 : Int32) _ M21 h) (fun _ _ => Qi_r) (fun v M25 hp => Qi_k (R := fun st => E γ k_Works_callsOf 133 128 [some (vr (some (10, this))), some (vr (some (5, v1))), some (vi v2), none, none, some (vi v5), some (vi v6), none] st M25 (Qv Q)) hp (fun r26 h => ?_))
            refine E_blk (lv' := [some (vr (some (10, this))), some (vr (some (5, v1))), some (vi v2), none, none, some (vi v5), some (vi v6), some (vi r26)]) (st' := [vi r26]) (M1 := M25) (pc' := 132) (tb_Works hγ) [.istore 7, .iload 7] (by decide +kernel) rfl rfl trivial ?_
            refine E_if_lt (off := 33) (tgt := 165) (by decide +kernel) (by decide) (fun b27 => ?_) (fun b27 => ?_)
            · rw [if_pos b27] at h
              refine E_mask [true, true, true, false, false, true, true, false] rfl ?_
              exact lk_Works_callsOf_j165 hγ this Q (w_Works_callsOf_L69 this Q n) ih v1 v2 v5 v6 M25 h
            · rw [if_neg b27] at h
              obtain ⟨c28, h⟩ := h
              refine E_blk (lv' := [some (vr (some (10, this))), some (vr (some (5, v1))), some (vi v2), none, none, some (vi v5), some (vi v6), some (vi r26)]) (st' := [vi ((mI M25 57 v1 r26.toNatClampNeg) &&& (8 : Int32))]) (M1 := M25) (pc' := 145) (tb_Works hγ) [.aload_n 1, .getfield 305, .iload 7, .iaload, .bipush 8, .iand] (by decide +kernel) rfl rfl ⟨c28, trivial⟩ ?_
              refine E_if_ne (off := 20) (tgt := 165) (by decide +kernel) (by decide) (fun b29 => ?_) (fun b29 => ?_)
              · rw [if_pos b29] at h
                refine E_blk (lv' := [some (vr (some (10, this))), some (vr (some (5, v1))), some (vi v2), none, none, some (vi v5), some (vi v6), some (vi r26)]) (st' := [vi r26, vr (some (5, v1)), vr (some (10, this))]) (M1 := M25) (pc' := 152) (tb_Works hγ) [.aload_n 0, .aload_n 1, .iload 7] (by decide +kernel) rfl rfl trivial ?_
                refine E_callV (κ' := k_Works_isBuiltIn) (As := [vr (some (5, v1)), vi r26]) (st := []) mv_Works_isBuiltIn (Or.inl (tbk_mem (j := 10) (k := 138) rfl)) rfl (by decide +kernel) (Nat.le_of_ble_eq_true rfl) (Nat.le_of_ble_eq_true rfl) rfl (by decide) (lk_Works_isBuiltIn hγ this v1 r26 _ M25 h) (fun _ _ => Qi_r) (fun v M30 hp => Qi_k (R := fun st => E γ k_Works_callsOf 133 155 [some (vr (some (10, this))), some (vr (some (5, v1))), some (vi v2), none, none, some (vi v5), some (vi v6), some (vi r26)] st M30 (Qv Q)) hp (fun r31 h => ?_))
                refine E_if_ne (off := 10) (tgt := 165) (by decide +kernel) (by decide) (fun b32 => ?_) (fun b32 => ?_)
                · rw [if_pos b32] at h
                  refine E_blk (lv' := [some (vr (some (10, this))), some (vr (some (5, v1))), some (vi v2), none, none, some (vi v5), some (vi v6), some (vi r26)]) (st' := [vi r26, vr (some (5, v1)), vr (some (10, this))]) (M1 := M30) (pc' := 162) (tb_Works hγ) [.aload_n 0, .aload_n 1, .iload 7] (by decide +kernel) rfl rfl trivial ?_
                  refine E_callV (κ' := k_Works_comes) (As := [vr (some (5, v1)), vi r26]) (st := []) mv_Works_comes (Or.inl (tbk_mem (j := 10) (k := 126) rfl)) rfl (by decide +kernel) (Nat.le_of_ble_eq_true rfl) (Nat.le_of_ble_eq_true rfl) rfl (by decide) (lk_Works_comes hγ this v1 r26 _ M30 h) (fun _ _ => Qv_r) (fun v M33 hp => Qv_k (R := fun st => E γ k_Works_callsOf 133 165 [some (vr (some (10, this))), some (vr (some (5, v1))), some (vi v2), none, none, some (vi v5), some (vi v6), some (vi r26)] st M33 (Qv Q)) hp (fun h => ?_))
                  refine E_mask [true, true, true, false, false, true, true, false] rfl ?_
                  exact lk_Works_callsOf_j165 hγ this Q (w_Works_callsOf_L69 this Q n) ih v1 v2 v5 v6 M33 h
                · rw [if_neg b32] at h
                  refine E_mask [true, true, true, false, false, true, true, false] rfl ?_
                  exact lk_Works_callsOf_j165 hγ this Q (w_Works_callsOf_L69 this Q n) ih v1 v2 v5 v6 M30 h
              · rw [if_neg b29] at h
                refine E_mask [true, true, true, false, false, true, true, false] rfl ?_
                exact lk_Works_callsOf_j165 hγ this Q (w_Works_callsOf_L69 this Q n) ih v1 v2 v5 v6 M25 h
          · rw [if_neg b23] at h
            refine E_goto (off := 53) (tgt := 165) (by decide +kernel) (by decide) ?_
            refine E_mask [true, true, true, false, false, true, true, false] rfl ?_
            exact lk_Works_callsOf_j165 hγ this Q (w_Works_callsOf_L69 this Q n) ih v1 v2 v5 v6 M21 h
      · rw [if_neg b17] at h
        refine E_mask [true, true, true, false, false, true, true, false] rfl ?_
        exact lk_Works_callsOf_j165 hγ this Q (w_Works_callsOf_L69 this Q n) ih v1 v2 v5 v6 M h
set_option maxRecDepth 4096 in
theorem lk_Works_callsOf {γ : Gm} (hγ : Gk γ) (this : Nat) (a1 : Nat) (a2 : Int32) (a3 : Int32) (Q : Mem → Prop) (M : Mem) (h : w_Works_callsOf this a1 a2 a3 Q M) : E γ k_Works_callsOf 133 0 [some (vr (some (10, this))), some (vr (some (5, a1))), some (vi a2), some (vi a3), none, none, none, none] [] M (Qv Q) := by
  unfold w_Works_callsOf at h
  obtain ⟨c1, h⟩ := h
  refine E_blk (lv' := [some (vr (some (10, this))), some (vr (some (5, a1))), some (vi a2), some (vi a3), some (vi (mI M 66 a1 a2.toNatClampNeg)), none, none, none]) (st' := [vi (52 : Int32), vi (mI M 66 a1 a2.toNatClampNeg)]) (M1 := M) (pc' := 12) (tb_Works hγ) [.aload_n 1, .getfield 525, .iload_n 2, .iaload, .istore 4, .iload 4, .bipush 52] (by decide +kernel) rfl rfl ⟨c1, trivial⟩ ?_
  refine E_icmp_eq (off := 21) (tgt := 33) (by decide +kernel) (by decide) (fun b2 => ?_) (fun b2 => ?_)
  · rw [if_pos b2] at h
    refine E_mask [true, true, false, true, false, false, false, false] rfl ?_
    exact lk_Works_callsOf_j33 hγ this Q a1 a3 M h
  · rw [if_neg b2] at h
    refine E_blk (lv' := [some (vr (some (10, this))), some (vr (some (5, a1))), some (vi a2), some (vi a3), some (vi (mI M 66 a1 a2.toNatClampNeg)), none, none, none]) (st' := [vi (51 : Int32), vi (mI M 66 a1 a2.toNatClampNeg)]) (M1 := M) (pc' := 19) (tb_Works hγ) [.iload 4, .bipush 51] (by decide +kernel) rfl rfl trivial ?_
    refine E_icmp_eq (off := 14) (tgt := 33) (by decide +kernel) (by decide) (fun b7 => ?_) (fun b7 => ?_)
    · rw [if_pos b7] at h
      refine E_mask [true, true, false, true, false, false, false, false] rfl ?_
      exact lk_Works_callsOf_j33 hγ this Q a1 a3 M h
    · rw [if_neg b7] at h
      obtain ⟨c8, h⟩ := h
      refine E_blk (lv' := [some (vr (some (10, this))), some (vr (some (5, a1))), some (vi a2), some (vi a3), some (vi (mI M 66 a1 a2.toNatClampNeg)), none, none, none]) (st' := [vi ((mI M 57 a1 a3.toNatClampNeg) &&& (4 : Int32))]) (M1 := M) (pc' := 30) (tb_Works hγ) [.aload_n 1, .getfield 305, .iload_n 3, .iaload, .iconst 4, .iand] (by decide +kernel) rfl rfl ⟨c8, trivial⟩ ?_
      refine E_if_eq (off := 19) (tgt := 49) (by decide +kernel) (by decide) (fun b9 => ?_) (fun b9 => ?_)
      · rw [if_pos b9] at h
        obtain ⟨c10, h⟩ := h
        refine E_blk (lv' := [some (vr (some (10, this))), some (vr (some (5, a1))), some (vi a2), some (vi a3), some (vi (mI M 66 a1 a2.toNatClampNeg)), none, none, none]) (st' := [vi (mI M 67 a1 a2.toNatClampNeg), vr (some (5, a1)), vr (some (5, a1))]) (M1 := M) (pc' := 57) (tb_Works hγ) [.aload_n 1, .aload_n 1, .aload_n 1, .getfield 540, .iload_n 2, .iaload] (by decide +kernel) rfl rfl ⟨c10, trivial⟩ ?_
        refine E_callV (κ' := k_World_refClass) (As := [vi (mI M 67 a1 a2.toNatClampNeg)]) (st := [vr (some (5, a1))]) mv_World_refClass (Or.inl (tbk_mem (j := 10) (k := 117) rfl)) rfl (by decide +kernel) (Nat.le_of_ble_eq_true rfl) (Nat.le_of_ble_eq_true rfl) rfl (by decide) (lk_World_refClass hγ a1 (mI M 67 a1 a2.toNatClampNeg) _ M h) (fun _ _ => Qi_r) (fun v M11 hp => Qi_k (R := fun st => E γ k_Works_callsOf 133 60 [some (vr (some (10, this))), some (vr (some (5, a1))), some (vi a2), some (vi a3), some (vi (mI M 66 a1 a2.toNatClampNeg)), none, none, none] st M11 (Qv Q)) hp (fun r12 h => ?_))
        refine E_callV (κ' := k_World_find) (As := [vi r12]) (st := []) mv_World_find (Or.inl (tbk_mem (j := 7) (k := 53) rfl)) rfl (by decide +kernel) (Nat.le_of_ble_eq_true rfl) (Nat.le_of_ble_eq_true rfl) rfl (by decide) (lk_World_find hγ a1 r12 _ M11 h) (fun _ _ => Qi_r) (fun v M13 hp => Qi_k (R := fun st => E γ k_Works_callsOf 133 63 [some (vr (some (10, this))), some (vr (some (5, a1))), some (vi a2), some (vi a3), some (vi (mI M 66 a1 a2.toNatClampNeg)), none, none, none] st M13 (Qv Q)) hp (fun r14 h => ?_))
        refine E_blk (lv' := [some (vr (some (10, this))), some (vr (some (5, a1))), some (vi a2), some (vi a3), some (vi (mI M 66 a1 a2.toNatClampNeg)), some (vi r14), some (vi (21 : Int32)), none]) (st' := []) (M1 := M13) (pc' := 69) (tb_Works hγ) [.istore 5, .bipush 21, .istore 6] (by decide +kernel) rfl rfl trivial ?_
        obtain ⟨n34, h⟩ := h
        refine E_mask [true, true, true, false, false, true, true, false] rfl ?_
        exact lk_Works_callsOf_L69 hγ this Q n34 a1 a2 r14 (21 : Int32) M13 h
      · rw [if_neg b9] at h
        refine E_mask [true, true, false, true, false, false, false, false] rfl ?_
        exact lk_Works_callsOf_j33 hγ this Q a1 a3 M h
def w_Works_startsOf_j58 (this : Nat) (Q : Mem → Prop) (k2 : Nat → Int32 → Mem → Prop) (v1 : Nat) (s0 : Int32) (M : Mem) : Prop :=
  k2 v1 s0 M
def w_Works_startsOf_j40 (this : Nat) (Q : Mem → Prop) (k2 : Nat → Int32 → Mem → Prop) (v1 : Nat) (v3 : Int32) (M : Mem) : Prop :=
  w_World_isFace v1 v3 (fun r8 M7 => if r8 = 0 then (w_World_up v1 v3 (fun r11 M10 => w_Works_startsOf_j58 this Q k2 v1 r11 M10) M7) else (w_Works_startsOf_j58 this Q k2 v1 (-2 : Int32) M7)) M
def w_Works_startsOf_L2 (this : Nat) (Q : Mem → Prop) : Nat → Nat → Int32 → Mem → Prop
  | 0, _, _, _ => False
  | n + 1, v1, v3, M => if v3 < (21 : Int32) then (Q M) else (vp_in v3 (mL M 46 v1) ∧ if (mI M 46 v1 v3.toNatClampNeg) = (2 : Int32) then (Q M) else (w_Machine_ownStart v1 v3 (fun r5 M4 => if r5 < 0 then (w_Works_startsOf_j40 this Q (w_Works_startsOf_L2 this Q n) v1 v3 M4) else (w_Works_comes this v1 r5 (fun M12 => w_Works_startsOf_j40 this Q (w_Works_startsOf_L2 this Q n) v1 v3 M12) M4)) M))
def w_Works_startsOf (this : Nat) (a1 : Nat) (a2 : Int32) (Q : Mem → Prop) (M : Mem) : Prop :=
  ∃ n13 : Nat, w_Works_startsOf_L2 this Q n13 a1 a2 M
set_option maxRecDepth 4096 in
theorem lk_Works_startsOf_j58 {γ : Gm} (hγ : Gk γ) (this : Nat) (Q : Mem → Prop) (k2 : Nat → Int32 → Mem → Prop) (hk2 : ∀ (v1 : Nat) (v3 : Int32) (M : Mem), k2 v1 v3 M → E γ k_Works_startsOf 2 2 [some (vr (some (10, this))), some (vr (some (5, v1))), none, some (vi v3), none] [] M (Qv Q)) (v1 : Nat) (s0 : Int32) (M : Mem) (h : w_Works_startsOf_j58 this Q k2 v1 s0 M) : E γ k_Works_startsOf 2 58 [some (vr (some (10, this))), some (vr (some (5, v1))), none, none, none] [vi s0] M (Qv Q) := by
  unfold w_Works_startsOf_j58 at h
  refine E_blk (lv' := [some (vr (some (10, this))), some (vr (some (5, v1))), none, some (vi s0), none]) (st' := []) (M1 := M) (pc' := 59) (tb_Works hγ) [.istore_n 3] (by decide +kernel) rfl rfl trivial ?_
  refine E_goto (off := -57) (tgt := 2) (by decide +kernel) (by decide) ?_
  refine E_mask [true, true, false, true, false] rfl ?_
  exact hk2 v1 s0 M h
set_option maxRecDepth 4096 in
theorem lk_Works_startsOf_j40 {γ : Gm} (hγ : Gk γ) (this : Nat) (Q : Mem → Prop) (k2 : Nat → Int32 → Mem → Prop) (hk2 : ∀ (v1 : Nat) (v3 : Int32) (M : Mem), k2 v1 v3 M → E γ k_Works_startsOf 2 2 [some (vr (some (10, this))), some (vr (some (5, v1))), none, some (vi v3), none] [] M (Qv Q)) (v1 : Nat) (v3 : Int32) (M : Mem) (h : w_Works_startsOf_j40 this Q k2 v1 v3 M) : E γ k_Works_startsOf 2 40 [some (vr (some (10, this))), some (vr (some (5, v1))), none, some (vi v3), none] [] M (Qv Q) := by
  unfold w_Works_startsOf_j40 at h
  refine E_blk (lv' := [some (vr (some (10, this))), some (vr (some (5, v1))), none, some (vi v3), none]) (st' := [vi v3, vr (some (5, v1))]) (M1 := M) (pc' := 42) (tb_Works hγ) [.aload_n 1, .iload_n 3] (by decide +kernel) rfl rfl trivial ?_
  refine E_callV (κ' := k_World_isFace) (As := [vi v3]) (st := []) mv_World_isFace (Or.inl (tbk_mem (j := 10) (k := 150) rfl)) rfl (by decide +kernel) (Nat.le_of_ble_eq_true rfl) (Nat.le_of_ble_eq_true rfl) rfl (by decide) (lk_World_isFace hγ v1 v3 _ M h) (fun _ _ => Qi_r) (fun v M7 hp => Qi_k (R := fun st => E γ k_Works_startsOf 2 45 [some (vr (some (10, this))), some (vr (some (5, v1))), none, some (vi v3), none] st M7 (Qv Q)) hp (fun r8 h => ?_))
  refine E_if_eq (off := 8) (tgt := 53) (by decide +kernel) (by decide) (fun b9 => ?_) (fun b9 => ?_)
  · rw [if_pos b9] at h
    refine E_blk (lv' := [some (vr (some (10, this))), some (vr (some (5, v1))), none, some (vi v3), none]) (st' := [vi v3, vr (some (5, v1))]) (M1 := M7) (pc' := 55) (tb_Works hγ) [.aload_n 1, .iload_n 3] (by decide +kernel) rfl rfl trivial ?_
    refine E_callV (κ' := k_World_up) (As := [vi v3]) (st := []) mv_World_up (Or.inl (tbk_mem (j := 10) (k := 151) rfl)) rfl (by decide +kernel) (Nat.le_of_ble_eq_true rfl) (Nat.le_of_ble_eq_true rfl) rfl (by decide) (lk_World_up hγ v1 v3 _ M7 h) (fun _ _ => Qi_r) (fun v M10 hp => Qi_k (R := fun st => E γ k_Works_startsOf 2 58 [some (vr (some (10, this))), some (vr (some (5, v1))), none, some (vi v3), none] st M10 (Qv Q)) hp (fun r11 h => ?_))
    refine E_mask [true, true, false, false, false] rfl ?_
    exact lk_Works_startsOf_j58 hγ this Q k2 hk2 v1 r11 M10 h
  · rw [if_neg b9] at h
    refine E_blk (lv' := [some (vr (some (10, this))), some (vr (some (5, v1))), none, some (vi v3), none]) (st' := [vi (-2 : Int32)]) (M1 := M7) (pc' := 50) (tb_Works hγ) [.bipush (.negSucc 1)] (by decide +kernel) rfl rfl trivial ?_
    refine E_goto (off := 8) (tgt := 58) (by decide +kernel) (by decide) ?_
    refine E_mask [true, true, false, false, false] rfl ?_
    exact lk_Works_startsOf_j58 hγ this Q k2 hk2 v1 (-2 : Int32) M7 h
set_option maxRecDepth 4096 in
theorem lk_Works_startsOf_L2 {γ : Gm} (hγ : Gk γ) (this : Nat) (Q : Mem → Prop) : ∀ (n : Nat) (v1 : Nat) (v3 : Int32) (M : Mem), w_Works_startsOf_L2 this Q n v1 v3 M → E γ k_Works_startsOf 2 2 [some (vr (some (10, this))), some (vr (some (5, v1))), none, some (vi v3), none] [] M (Qv Q) := by
  intro n
  induction n with
  | zero => intro v1 v3 M h; exact h.elim
  | succ n ih =>
    intro v1 v3 M h
    unfold w_Works_startsOf_L2 at h
    refine E_blk (lv' := [some (vr (some (10, this))), some (vr (some (5, v1))), none, some (vi v3), none]) (st' := [vi (21 : Int32), vi v3]) (M1 := M) (pc' := 5) (tb_Works hγ) [.iload_n 3, .bipush 21] (by decide +kernel) rfl rfl trivial ?_
    refine E_icmp_lt (off := 57) (tgt := 62) (by decide +kernel) (by decide) (fun b1 => ?_) (fun b1 => ?_)
    · rw [if_pos b1] at h
      exact E_vret rfl (by decide +kernel) h
    · rw [if_neg b1] at h
      obtain ⟨c2, h⟩ := h
      refine E_blk (lv' := [some (vr (some (10, this))), some (vr (some (5, v1))), none, some (vi v3), none]) (st' := [vi (2 : Int32), vi (mI M 46 v1 v3.toNatClampNeg)]) (M1 := M) (pc' := 15) (tb_Works hγ) [.aload_n 1, .getfield 267, .iload_n 3, .iaload, .iconst 2] (by decide +kernel) rfl rfl ⟨c2, trivial⟩ ?_
      refine E_icmp_eq (off := 47) (tgt := 62) (by decide +kernel) (by decide) (fun b3 => ?_) (fun b3 => ?_)
      · rw [if_pos b3] at h
        exact E_vret rfl (by decide +kernel) h
      · rw [if_neg b3] at h
        refine E_blk (lv' := [some (vr (some (10, this))), some (vr (some (5, v1))), none, some (vi v3), none]) (st' := [vi v3, vr (some (6, v1))]) (M1 := M) (pc' := 23) (tb_Works hγ) [.aload_n 1, .getfield 141, .iload_n 3] (by decide +kernel) rfl rfl trivial ?_
        refine E_callV (κ' := k_Machine_ownStart) (As := [vi v3]) (st := []) mv_Machine_ownStart (Or.inl (tbk_mem (j := 10) (k := 149) rfl)) rfl (by decide +kernel) (Nat.le_of_ble_eq_true rfl) (Nat.le_of_ble_eq_true rfl) rfl (by decide) (lk_Machine_ownStart hγ v1 v3 _ M h) (fun _ _ => Qi_r) (fun v M4 hp => Qi_k (R := fun st => E γ k_Works_startsOf 2 26 [some (vr (some (10, this))), some (vr (some (5, v1))), none, some (vi v3), none] st M4 (Qv Q)) hp (fun r5 h => ?_))
        refine E_blk (lv' := [some (vr (some (10, this))), some (vr (some (5, v1))), none, some (vi v3), some (vi r5)]) (st' := [vi r5]) (M1 := M4) (pc' := 30) (tb_Works hγ) [.istore 4, .iload 4] (by decide +kernel) rfl rfl trivial ?_
        refine E_if_lt (off := 10) (tgt := 40) (by decide +kernel) (by decide) (fun b6 => ?_) (fun b6 => ?_)
        · rw [if_pos b6] at h
          refine E_mask [true, true, false, true, false] rfl ?_
          exact lk_Works_startsOf_j40 hγ this Q (w_Works_startsOf_L2 this Q n) ih v1 v3 M4 h
        · rw [if_neg b6] at h
          refine E_blk (lv' := [some (vr (some (10, this))), some (vr (some (5, v1))), none, some (vi v3), some (vi r5)]) (st' := [vi r5, vr (some (5, v1)), vr (some (10, this))]) (M1 := M4) (pc' := 37) (tb_Works hγ) [.aload_n 0, .aload_n 1, .iload 4] (by decide +kernel) rfl rfl trivial ?_
          refine E_callV (κ' := k_Works_comes) (As := [vr (some (5, v1)), vi r5]) (st := []) mv_Works_comes (Or.inl (tbk_mem (j := 10) (k := 126) rfl)) rfl (by decide +kernel) (Nat.le_of_ble_eq_true rfl) (Nat.le_of_ble_eq_true rfl) rfl (by decide) (lk_Works_comes hγ this v1 r5 _ M4 h) (fun _ _ => Qv_r) (fun v M12 hp => Qv_k (R := fun st => E γ k_Works_startsOf 2 40 [some (vr (some (10, this))), some (vr (some (5, v1))), none, some (vi v3), some (vi r5)] st M12 (Qv Q)) hp (fun h => ?_))
          refine E_mask [true, true, false, true, false] rfl ?_
          exact lk_Works_startsOf_j40 hγ this Q (w_Works_startsOf_L2 this Q n) ih v1 v3 M12 h
set_option maxRecDepth 4096 in
theorem lk_Works_startsOf {γ : Gm} (hγ : Gk γ) (this : Nat) (a1 : Nat) (a2 : Int32) (Q : Mem → Prop) (M : Mem) (h : w_Works_startsOf this a1 a2 Q M) : E γ k_Works_startsOf 2 0 [some (vr (some (10, this))), some (vr (some (5, a1))), some (vi a2), none, none] [] M (Qv Q) := by
  unfold w_Works_startsOf at h
  refine E_blk (lv' := [some (vr (some (10, this))), some (vr (some (5, a1))), some (vi a2), some (vi a2), none]) (st' := []) (M1 := M) (pc' := 2) (tb_Works hγ) [.iload_n 2, .istore_n 3] (by decide +kernel) rfl rfl trivial ?_
  obtain ⟨n13, h⟩ := h
  refine E_mask [true, true, false, true, false] rfl ?_
  exact lk_Works_startsOf_L2 hγ this Q n13 a1 a2 M h
def w_Works_comesBy_j140 (this : Nat) (Q : Mem → Prop) (s0 : Int32) (s1 : Nat) (M : Mem) : Prop :=
  w_Works_startsOf this s1 s0 (fun M15 => Q M15) M
def w_Works_comesBy_j98 (this : Nat) (Q : Mem → Prop) (v1 : Nat) (v4 : Int32) (v5 : Int32) (v6 : Int32) (M : Mem) : Prop :=
  if v5 = 0 then (Q M) else (if v4 = (41 : Int32) then (w_Works_comesBy_j140 this Q v6 v1 M) else (if v4 = (52 : Int32) then (vp_in v6 (mL M 55 v1) ∧ w_Works_comesBy_j140 this Q (mI M 55 v1 v6.toNatClampNeg) v1 M) else (w_World_classOfField v1 v6 (fun r19 M18 => w_Works_comesBy_j140 this Q r19 v1 M18) M)))
def w_Works_comesBy_j61 (this : Nat) (Q : Mem → Prop) (v1 : Nat) (v2 : Int32) (v3 : Int32) (v4 : Int32) (v5 : Int32) (M : Mem) : Prop :=
  w_Machine_finds v1 v2 v3 (fun r8 M7 => if 0 ≤ r8 then (w_Works_isIn v4 (50 : Int32) (53 : Int32) (fun r11 M10 => if r11 = 0 then (w_Works_comesBy_j98 this Q v1 v4 v5 r8 M10) else (w_Works_callsOf this v1 v3 r8 (fun M20 => w_Works_comesBy_j98 this Q v1 v4 v5 r8 M20) M10)) M7) else (Q M7)) M
def w_Works_comesBy_j41 (this : Nat) (Q : Mem → Prop) (v1 : Nat) (v2 : Int32) (v3 : Int32) (v4 : Int32) (s0 : Int32) (M : Mem) : Prop :=
  if s0 = 0 then (w_Works_isIn v4 (50 : Int32) (53 : Int32) (fun r5 M4 => if r5 = 0 then (Q M4) else (w_Works_comesBy_j61 this Q v1 v2 v3 v4 s0 M4)) M) else (w_Works_comesBy_j61 this Q v1 v2 v3 v4 s0 M)
def w_Works_comesBy_j36 (this : Nat) (Q : Mem → Prop) (v1 : Nat) (v2 : Int32) (v3 : Int32) (v4 : Int32) (M : Mem) : Prop :=
  w_Works_comesBy_j41 this Q v1 v2 v3 v4 (1 : Int32) M
def w_Works_comesBy (this : Nat) (a1 : Nat) (a2 : Int32) (a3 : Int32) (Q : Mem → Prop) (M : Mem) : Prop :=
  vp_in a3 (mL M 66 a1) ∧ if (mI M 66 a1 a3.toNatClampNeg) = (41 : Int32) then (w_Works_comesBy_j36 this Q a1 a2 a3 (mI M 66 a1 a3.toNatClampNeg) M) else (if (mI M 66 a1 a3.toNatClampNeg) = (52 : Int32) then (w_Works_comesBy_j36 this Q a1 a2 a3 (mI M 66 a1 a3.toNatClampNeg) M) else (if (mI M 66 a1 a3.toNatClampNeg) = (48 : Int32) then (w_Works_comesBy_j36 this Q a1 a2 a3 (mI M 66 a1 a3.toNatClampNeg) M) else (if (mI M 66 a1 a3.toNatClampNeg) = (49 : Int32) then (w_Works_comesBy_j36 this Q a1 a2 a3 (mI M 66 a1 a3.toNatClampNeg) M) else (w_Works_comesBy_j41 this Q a1 a2 a3 (mI M 66 a1 a3.toNatClampNeg) (0 : Int32) M))))
set_option maxRecDepth 4096 in
theorem lk_Works_comesBy_j140 {γ : Gm} (hγ : Gk γ) (this : Nat) (Q : Mem → Prop) (s0 : Int32) (s1 : Nat) (M : Mem) (h : w_Works_comesBy_j140 this Q s0 s1 M) : E γ k_Works_comesBy 136 140 [none, none, none, none, none, none, none] [vi s0, vr (some (5, s1)), vr (some (10, this))] M (Qv Q) := by
  unfold w_Works_comesBy_j140 at h
  refine E_callV (κ' := k_Works_startsOf) (As := [vr (some (5, s1)), vi s0]) (st := []) mv_Works_startsOf (Or.inl (tbk_mem (j := 10) (k := 145) rfl)) rfl (by decide +kernel) (Nat.le_of_ble_eq_true rfl) (Nat.le_of_ble_eq_true rfl) rfl (by decide) (lk_Works_startsOf hγ this s1 s0 _ M h) (fun _ _ => Qv_r) (fun v M15 hp => Qv_k (R := fun st => E γ k_Works_comesBy 136 143 [none, none, none, none, none, none, none] st M15 (Qv Q)) hp (fun h => ?_))
  exact E_vret rfl (by decide +kernel) h
set_option maxRecDepth 4096 in
theorem lk_Works_comesBy_j98 {γ : Gm} (hγ : Gk γ) (this : Nat) (Q : Mem → Prop) (v1 : Nat) (v4 : Int32) (v5 : Int32) (v6 : Int32) (M : Mem) (h : w_Works_comesBy_j98 this Q v1 v4 v5 v6 M) : E γ k_Works_comesBy 136 98 [some (vr (some (10, this))), some (vr (some (5, v1))), none, none, some (vi v4), some (vi v5), some (vi v6)] [] M (Qv Q) := by
  unfold w_Works_comesBy_j98 at h
  refine E_blk (lv' := [some (vr (some (10, this))), some (vr (some (5, v1))), none, none, some (vi v4), some (vi v5), some (vi v6)]) (st' := [vi v5]) (M1 := M) (pc' := 100) (tb_Works hγ) [.iload 5] (by decide +kernel) rfl rfl trivial ?_
  refine E_if_eq (off := 43) (tgt := 143) (by decide +kernel) (by decide) (fun b13 => ?_) (fun b13 => ?_)
  · rw [if_pos b13] at h
    exact E_vret rfl (by decide +kernel) h
  · rw [if_neg b13] at h
    refine E_blk (lv' := [some (vr (some (10, this))), some (vr (some (5, v1))), none, none, some (vi v4), some (vi v5), some (vi v6)]) (st' := [vi (41 : Int32), vi v4, vr (some (5, v1)), vr (some (10, this))]) (M1 := M) (pc' := 109) (tb_Works hγ) [.aload_n 0, .aload_n 1, .iload 4, .bipush 41] (by decide +kernel) rfl rfl trivial ?_
    refine E_icmp_ne (off := 8) (tgt := 117) (by decide +kernel) (by decide) (fun b14 => ?_) (fun b14 => ?_)
    · rw [if_pos b14] at h
      refine E_blk (lv' := [some (vr (some (10, this))), some (vr (some (5, v1))), none, none, some (vi v4), some (vi v5), some (vi v6)]) (st' := [vi v6, vr (some (5, v1)), vr (some (10, this))]) (M1 := M) (pc' := 114) (tb_Works hγ) [.iload 6] (by decide +kernel) rfl rfl trivial ?_
      refine E_goto (off := 26) (tgt := 140) (by decide +kernel) (by decide) ?_
      refine E_mask [false, false, false, false, false, false, false] rfl ?_
      exact lk_Works_comesBy_j140 hγ this Q v6 v1 M h
    · rw [if_neg b14] at h
      refine E_blk (lv' := [some (vr (some (10, this))), some (vr (some (5, v1))), none, none, some (vi v4), some (vi v5), some (vi v6)]) (st' := [vi (52 : Int32), vi v4, vr (some (5, v1)), vr (some (10, this))]) (M1 := M) (pc' := 121) (tb_Works hγ) [.iload 4, .bipush 52] (by decide +kernel) rfl rfl trivial ?_
      refine E_icmp_ne (off := 13) (tgt := 134) (by decide +kernel) (by decide) (fun b16 => ?_) (fun b16 => ?_)
      · rw [if_pos b16] at h
        obtain ⟨c17, h⟩ := h
        refine E_blk (lv' := [some (vr (some (10, this))), some (vr (some (5, v1))), none, none, some (vi v4), some (vi v5), some (vi v6)]) (st' := [vi (mI M 55 v1 v6.toNatClampNeg), vr (some (5, v1)), vr (some (10, this))]) (M1 := M) (pc' := 131) (tb_Works hγ) [.aload_n 1, .getfield 363, .iload 6, .iaload] (by decide +kernel) rfl rfl ⟨c17, trivial⟩ ?_
        refine E_goto (off := 9) (tgt := 140) (by decide +kernel) (by decide) ?_
        refine E_mask [false, false, false, false, false, false, false] rfl ?_
        exact lk_Works_comesBy_j140 hγ this Q (mI M 55 v1 v6.toNatClampNeg) v1 M h
      · rw [if_neg b16] at h
        refine E_blk (lv' := [some (vr (some (10, this))), some (vr (some (5, v1))), none, none, some (vi v4), some (vi v5), some (vi v6)]) (st' := [vi v6, vr (some (5, v1)), vr (some (5, v1)), vr (some (10, this))]) (M1 := M) (pc' := 137) (tb_Works hγ) [.aload_n 1, .iload 6] (by decide +kernel) rfl rfl trivial ?_
        refine E_callV (κ' := k_World_classOfField) (As := [vi v6]) (st := [vr (some (5, v1)), vr (some (10, this))]) mv_World_classOfField (Or.inl (tbk_mem (j := 10) (k := 144) rfl)) rfl (by decide +kernel) (Nat.le_of_ble_eq_true rfl) (Nat.le_of_ble_eq_true rfl) rfl (by decide) (lk_World_classOfField hγ v1 v6 _ M h) (fun _ _ => Qi_r) (fun v M18 hp => Qi_k (R := fun st => E γ k_Works_comesBy 136 140 [some (vr (some (10, this))), some (vr (some (5, v1))), none, none, some (vi v4), some (vi v5), some (vi v6)] st M18 (Qv Q)) hp (fun r19 h => ?_))
        refine E_mask [false, false, false, false, false, false, false] rfl ?_
        exact lk_Works_comesBy_j140 hγ this Q r19 v1 M18 h
set_option maxRecDepth 4096 in
theorem lk_Works_comesBy_j61 {γ : Gm} (hγ : Gk γ) (this : Nat) (Q : Mem → Prop) (v1 : Nat) (v2 : Int32) (v3 : Int32) (v4 : Int32) (v5 : Int32) (M : Mem) (h : w_Works_comesBy_j61 this Q v1 v2 v3 v4 v5 M) : E γ k_Works_comesBy 136 61 [some (vr (some (10, this))), some (vr (some (5, v1))), some (vi v2), some (vi v3), some (vi v4), some (vi v5), none] [] M (Qv Q) := by
  unfold w_Works_comesBy_j61 at h
  refine E_blk (lv' := [some (vr (some (10, this))), some (vr (some (5, v1))), some (vi v2), some (vi v3), some (vi v4), some (vi v5), none]) (st' := [vi v3, vi v2, vr (some (6, v1))]) (M1 := M) (pc' := 67) (tb_Works hγ) [.aload_n 1, .getfield 141, .iload_n 2, .iload_n 3] (by decide +kernel) rfl rfl trivial ?_
  refine E_callV (κ' := k_Machine_finds) (As := [vi v2, vi v3]) (st := []) mv_Machine_finds (Or.inl (tbk_mem (j := 10) (k := 46) rfl)) rfl (by decide +kernel) (Nat.le_of_ble_eq_true rfl) (Nat.le_of_ble_eq_true rfl) rfl (by decide) (lk_Machine_finds hγ v1 v2 v3 _ M h) (fun _ _ => Qi_r) (fun v M7 hp => Qi_k (R := fun st => E γ k_Works_comesBy 136 70 [some (vr (some (10, this))), some (vr (some (5, v1))), some (vi v2), some (vi v3), some (vi v4), some (vi v5), none] st M7 (Qv Q)) hp (fun r8 h => ?_))
  refine E_blk (lv' := [some (vr (some (10, this))), some (vr (some (5, v1))), some (vi v2), some (vi v3), some (vi v4), some (vi v5), some (vi r8)]) (st' := [vi r8]) (M1 := M7) (pc' := 74) (tb_Works hγ) [.istore 6, .iload 6] (by decide +kernel) rfl rfl trivial ?_
  refine E_if_ge (off := 4) (tgt := 78) (by decide +kernel) (by decide) (fun b9 => ?_) (fun b9 => ?_)
  · rw [if_pos b9] at h
    refine E_blk (lv' := [some (vr (some (10, this))), some (vr (some (5, v1))), some (vi v2), some (vi v3), some (vi v4), some (vi v5), some (vi r8)]) (st' := [vi (53 : Int32), vi (50 : Int32), vi v4]) (M1 := M7) (pc' := 84) (tb_Works hγ) [.iload 4, .bipush 50, .bipush 53] (by decide +kernel) rfl rfl trivial ?_
    refine E_callS (κ' := k_Works_isIn) (As := [vi v4, vi (50 : Int32), vi (53 : Int32)]) (st := []) ms_Works_isIn (Or.inl (tbk_mem (j := 5) (k := 237) rfl)) rfl (by decide +kernel) (Nat.le_of_ble_eq_true rfl) (Nat.le_of_ble_eq_true rfl) rfl (by decide) (lk_Works_isIn hγ v4 (50 : Int32) (53 : Int32) _ M7 h) (fun _ _ => Qi_r) (fun v M10 hp => Qi_k (R := fun st => E γ k_Works_comesBy 136 87 [some (vr (some (10, this))), some (vr (some (5, v1))), some (vi v2), some (vi v3), some (vi v4), some (vi v5), some (vi r8)] st M10 (Qv Q)) hp (fun r11 h => ?_))
    refine E_if_eq (off := 11) (tgt := 98) (by decide +kernel) (by decide) (fun b12 => ?_) (fun b12 => ?_)
    · rw [if_pos b12] at h
      refine E_mask [true, true, false, false, true, true, true] rfl ?_
      exact lk_Works_comesBy_j98 hγ this Q v1 v4 v5 r8 M10 h
    · rw [if_neg b12] at h
      refine E_blk (lv' := [some (vr (some (10, this))), some (vr (some (5, v1))), some (vi v2), some (vi v3), some (vi v4), some (vi v5), some (vi r8)]) (st' := [vi r8, vi v3, vr (some (5, v1)), vr (some (10, this))]) (M1 := M10) (pc' := 95) (tb_Works hγ) [.aload_n 0, .aload_n 1, .iload_n 3, .iload 6] (by decide +kernel) rfl rfl trivial ?_
      refine E_callV (κ' := k_Works_callsOf) (As := [vr (some (5, v1)), vi v3, vi r8]) (st := []) mv_Works_callsOf (Or.inl (tbk_mem (j := 10) (k := 134) rfl)) rfl (by decide +kernel) (Nat.le_of_ble_eq_true rfl) (Nat.le_of_ble_eq_true rfl) rfl (by decide) (lk_Works_callsOf hγ this v1 v3 r8 _ M10 h) (fun _ _ => Qv_r) (fun v M20 hp => Qv_k (R := fun st => E γ k_Works_comesBy 136 98 [some (vr (some (10, this))), some (vr (some (5, v1))), some (vi v2), some (vi v3), some (vi v4), some (vi v5), some (vi r8)] st M20 (Qv Q)) hp (fun h => ?_))
      refine E_mask [true, true, false, false, true, true, true] rfl ?_
      exact lk_Works_comesBy_j98 hγ this Q v1 v4 v5 r8 M20 h
  · rw [if_neg b9] at h
    exact E_vret rfl (by decide +kernel) h
set_option maxRecDepth 4096 in
theorem lk_Works_comesBy_j41 {γ : Gm} (hγ : Gk γ) (this : Nat) (Q : Mem → Prop) (v1 : Nat) (v2 : Int32) (v3 : Int32) (v4 : Int32) (s0 : Int32) (M : Mem) (h : w_Works_comesBy_j41 this Q v1 v2 v3 v4 s0 M) : E γ k_Works_comesBy 136 41 [some (vr (some (10, this))), some (vr (some (5, v1))), some (vi v2), some (vi v3), some (vi v4), none, none] [vi s0] M (Qv Q) := by
  unfold w_Works_comesBy_j41 at h
  refine E_blk (lv' := [some (vr (some (10, this))), some (vr (some (5, v1))), some (vi v2), some (vi v3), some (vi v4), some (vi s0), none]) (st' := [vi s0]) (M1 := M) (pc' := 45) (tb_Works hγ) [.istore 5, .iload 5] (by decide +kernel) rfl rfl trivial ?_
  refine E_if_ne (off := 16) (tgt := 61) (by decide +kernel) (by decide) (fun b3 => ?_) (fun b3 => ?_)
  · rw [if_pos b3] at h
    refine E_blk (lv' := [some (vr (some (10, this))), some (vr (some (5, v1))), some (vi v2), some (vi v3), some (vi v4), some (vi s0), none]) (st' := [vi (53 : Int32), vi (50 : Int32), vi v4]) (M1 := M) (pc' := 54) (tb_Works hγ) [.iload 4, .bipush 50, .bipush 53] (by decide +kernel) rfl rfl trivial ?_
    refine E_callS (κ' := k_Works_isIn) (As := [vi v4, vi (50 : Int32), vi (53 : Int32)]) (st := []) ms_Works_isIn (Or.inl (tbk_mem (j := 5) (k := 237) rfl)) rfl (by decide +kernel) (Nat.le_of_ble_eq_true rfl) (Nat.le_of_ble_eq_true rfl) rfl (by decide) (lk_Works_isIn hγ v4 (50 : Int32) (53 : Int32) _ M h) (fun _ _ => Qi_r) (fun v M4 hp => Qi_k (R := fun st => E γ k_Works_comesBy 136 57 [some (vr (some (10, this))), some (vr (some (5, v1))), some (vi v2), some (vi v3), some (vi v4), some (vi s0), none] st M4 (Qv Q)) hp (fun r5 h => ?_))
    refine E_if_ne (off := 4) (tgt := 61) (by decide +kernel) (by decide) (fun b6 => ?_) (fun b6 => ?_)
    · rw [if_pos b6] at h
      exact E_vret rfl (by decide +kernel) h
    · rw [if_neg b6] at h
      refine E_mask [true, true, true, true, true, true, false] rfl ?_
      exact lk_Works_comesBy_j61 hγ this Q v1 v2 v3 v4 s0 M4 h
  · rw [if_neg b3] at h
    refine E_mask [true, true, true, true, true, true, false] rfl ?_
    exact lk_Works_comesBy_j61 hγ this Q v1 v2 v3 v4 s0 M h
set_option maxRecDepth 4096 in
theorem lk_Works_comesBy_j36 {γ : Gm} (hγ : Gk γ) (this : Nat) (Q : Mem → Prop) (v1 : Nat) (v2 : Int32) (v3 : Int32) (v4 : Int32) (M : Mem) (h : w_Works_comesBy_j36 this Q v1 v2 v3 v4 M) : E γ k_Works_comesBy 136 36 [some (vr (some (10, this))), some (vr (some (5, v1))), some (vi v2), some (vi v3), some (vi v4), none, none] [] M (Qv Q) := by
  unfold w_Works_comesBy_j36 at h
  refine E_blk (lv' := [some (vr (some (10, this))), some (vr (some (5, v1))), some (vi v2), some (vi v3), some (vi v4), none, none]) (st' := [vi (1 : Int32)]) (M1 := M) (pc' := 37) (tb_Works hγ) [.iconst 1] (by decide +kernel) rfl rfl trivial ?_
  refine E_goto (off := 4) (tgt := 41) (by decide +kernel) (by decide) ?_
  refine E_mask [true, true, true, true, true, false, false] rfl ?_
  exact lk_Works_comesBy_j41 hγ this Q v1 v2 v3 v4 (1 : Int32) M h
set_option maxRecDepth 4096 in
theorem lk_Works_comesBy {γ : Gm} (hγ : Gk γ) (this : Nat) (a1 : Nat) (a2 : Int32) (a3 : Int32) (Q : Mem → Prop) (M : Mem) (h : w_Works_comesBy this a1 a2 a3 Q M) : E γ k_Works_comesBy 136 0 [some (vr (some (10, this))), some (vr (some (5, a1))), some (vi a2), some (vi a3), none, none, none] [] M (Qv Q) := by
  unfold w_Works_comesBy at h
  obtain ⟨c1, h⟩ := h
  refine E_blk (lv' := [some (vr (some (10, this))), some (vr (some (5, a1))), some (vi a2), some (vi a3), some (vi (mI M 66 a1 a3.toNatClampNeg)), none, none]) (st' := [vi (41 : Int32), vi (mI M 66 a1 a3.toNatClampNeg)]) (M1 := M) (pc' := 12) (tb_Works hγ) [.aload_n 1, .getfield 525, .iload_n 3, .iaload, .istore 4, .iload 4, .bipush 41] (by decide +kernel) rfl rfl ⟨c1, trivial⟩ ?_
  refine E_icmp_eq (off := 24) (tgt := 36) (by decide +kernel) (by decide) (fun b2 => ?_) (fun b2 => ?_)
  · rw [if_pos b2] at h
    refine E_mask [true, true, true, true, true, false, false] rfl ?_
    exact lk_Works_comesBy_j36 hγ this Q a1 a2 a3 (mI M 66 a1 a3.toNatClampNeg) M h
  · rw [if_neg b2] at h
    refine E_blk (lv' := [some (vr (some (10, this))), some (vr (some (5, a1))), some (vi a2), some (vi a3), some (vi (mI M 66 a1 a3.toNatClampNeg)), none, none]) (st' := [vi (52 : Int32), vi (mI M 66 a1 a3.toNatClampNeg)]) (M1 := M) (pc' := 19) (tb_Works hγ) [.iload 4, .bipush 52] (by decide +kernel) rfl rfl trivial ?_
    refine E_icmp_eq (off := 17) (tgt := 36) (by decide +kernel) (by decide) (fun b21 => ?_) (fun b21 => ?_)
    · rw [if_pos b21] at h
      refine E_mask [true, true, true, true, true, false, false] rfl ?_
      exact lk_Works_comesBy_j36 hγ this Q a1 a2 a3 (mI M 66 a1 a3.toNatClampNeg) M h
    · rw [if_neg b21] at h
      refine E_blk (lv' := [some (vr (some (10, this))), some (vr (some (5, a1))), some (vi a2), some (vi a3), some (vi (mI M 66 a1 a3.toNatClampNeg)), none, none]) (st' := [vi (48 : Int32), vi (mI M 66 a1 a3.toNatClampNeg)]) (M1 := M) (pc' := 26) (tb_Works hγ) [.iload 4, .bipush 48] (by decide +kernel) rfl rfl trivial ?_
      refine E_icmp_eq (off := 10) (tgt := 36) (by decide +kernel) (by decide) (fun b22 => ?_) (fun b22 => ?_)
      · rw [if_pos b22] at h
        refine E_mask [true, true, true, true, true, false, false] rfl ?_
        exact lk_Works_comesBy_j36 hγ this Q a1 a2 a3 (mI M 66 a1 a3.toNatClampNeg) M h
      · rw [if_neg b22] at h
        refine E_blk (lv' := [some (vr (some (10, this))), some (vr (some (5, a1))), some (vi a2), some (vi a3), some (vi (mI M 66 a1 a3.toNatClampNeg)), none, none]) (st' := [vi (49 : Int32), vi (mI M 66 a1 a3.toNatClampNeg)]) (M1 := M) (pc' := 33) (tb_Works hγ) [.iload 4, .bipush 49] (by decide +kernel) rfl rfl trivial ?_
        refine E_icmp_ne (off := 7) (tgt := 40) (by decide +kernel) (by decide) (fun b23 => ?_) (fun b23 => ?_)
        · rw [if_pos b23] at h
          refine E_mask [true, true, true, true, true, false, false] rfl ?_
          exact lk_Works_comesBy_j36 hγ this Q a1 a2 a3 (mI M 66 a1 a3.toNatClampNeg) M h
        · rw [if_neg b23] at h
          refine E_blk (lv' := [some (vr (some (10, this))), some (vr (some (5, a1))), some (vi a2), some (vi a3), some (vi (mI M 66 a1 a3.toNatClampNeg)), none, none]) (st' := [vi (0 : Int32)]) (M1 := M) (pc' := 41) (tb_Works hγ) [.iconst 0] (by decide +kernel) rfl rfl trivial ?_
          refine E_mask [true, true, true, true, true, false, false] rfl ?_
          exact lk_Works_comesBy_j41 hγ this Q a1 a2 a3 (mI M 66 a1 a3.toNatClampNeg) (0 : Int32) M h
def w_Works_reach_L100 (this : Nat) (Q : Int32 → Mem → Prop) (k65 : Nat → Int32 → Mem → Prop) : Nat → Nat → Int32 → Int32 → Int32 → Mem → Prop
  | 0, _, _, _, _, _ => False
  | n + 1, v4, v5, v6, v7, M => vp_in v6 (mL M 63 v4) ∧ if (mI M 63 v4 v6.toNatClampNeg) ≤ v7 then (k65 v4 (v5 + (1 : Int32)) M) else (vp_in v6 (mL M 62 v4) ∧ w_Works_comesBy this v4 v6 ((mI M 62 v4 v6.toNatClampNeg) + v7) (fun M23 => (w_Works_reach_L100 this Q k65 n) v4 v5 v6 (v7 + (1 : Int32)) M23) M)
def w_Works_reach_L65 (this : Nat) (Q : Int32 → Mem → Prop) : Nat → Nat → Int32 → Mem → Prop
  | 0, _, _, _ => False
  | n + 1, v4, v5, M => if (mI M 10 this 27) ≤ v5 then (Q (mI M 10 this 27) M) else (vp_in v5 (mL M 102 this) ∧ vp_in (mI M 102 this v5.toNatClampNeg) (mL M 43 v4) ∧ vp_in v5 (mL M 101 this) ∧ ∃ x19 : Int32, x19 = ((mI M 43 v4 (mI M 102 this v5.toNatClampNeg).toNatClampNeg) + (mI M 101 this v5.toNatClampNeg)) ∧ ∃ n24 : Nat, w_Works_reach_L100 this Q (w_Works_reach_L65 this Q n) n24 v4 v5 x19 (0 : Int32) M)
def w_Works_reach (this : Nat) (a1 : Int32) (a2 : Int32) (a3 : Int32) (Q : Int32 → Mem → Prop) (M : Mem) : Prop :=
  w_Works_isClass this a1 a2 (fun r2 M1 => if r2 = 0 then (Q (-1 : Int32) M1) else (vp_in a1 (mL M1 702 0) ∧ ∃ i5, (mR M1 702 0 a1.toNatClampNeg) = some (5, i5) ∧ w_Works_isMethod this i5 a2 a3 (fun r7 M6 => if r7 = 0 then (Q (-1 : Int32) M6) else (vp_in a1 (mL M6 702 0) ∧ ∃ i10, (mR M6 702 0 a1.toNatClampNeg) = some (5, i10) ∧ mL (sI M6 10 this 27 (0 : Int32)) 517 this < 2 ^ 31 ∧ ∃ M11, M11 = flI (sI M6 10 this 27 (0 : Int32)) 517 this (0 : Int32) ∧ vp_in a2 (mL M11 43 i10) ∧ w_Works_comes this i10 ((mI M11 43 i10 a2.toNatClampNeg) + a3) (fun M14 => ∃ n25 : Nat, w_Works_reach_L65 this Q n25 i10 (0 : Int32) M14) M11)) M1)) M
set_option maxRecDepth 4096 in
theorem lk_Works_reach_L100 {γ : Gm} (hγ : Gk γ) (this : Nat) (Q : Int32 → Mem → Prop) (k65 : Nat → Int32 → Mem → Prop) (hk65 : ∀ (v4 : Nat) (v5 : Int32) (M : Mem), k65 v4 v5 M → E γ k_Works_reach 137 65 [some (vr (some (10, this))), none, none, none, some (vr (some (5, v4))), some (vi v5), none, none] [] M (Qi Q)) : ∀ (n : Nat) (v4 : Nat) (v5 : Int32) (v6 : Int32) (v7 : Int32) (M : Mem), w_Works_reach_L100 this Q k65 n v4 v5 v6 v7 M → E γ k_Works_reach 137 100 [some (vr (some (10, this))), none, none, none, some (vr (some (5, v4))), some (vi v5), some (vi v6), some (vi v7)] [] M (Qi Q) := by
  intro n
  induction n with
  | zero => intro v4 v5 v6 v7 M h; exact h.elim
  | succ n ih =>
    intro v4 v5 v6 v7 M h
    unfold w_Works_reach_L100 at h
    obtain ⟨c20, h⟩ := h
    refine E_blk (lv' := [some (vr (some (10, this))), none, none, none, some (vr (some (5, v4))), some (vi v5), some (vi v6), some (vi v7)]) (st' := [vi (mI M 63 v4 v6.toNatClampNeg), vi v7]) (M1 := M) (pc' := 110) (tb_Works hγ) [.iload 7, .aload 4, .getfield 317, .iload 6, .iaload] (by decide +kernel) rfl rfl ⟨c20, trivial⟩ ?_
    refine E_icmp_ge (off := 28) (tgt := 138) (by decide +kernel) (by decide) (fun b21 => ?_) (fun b21 => ?_)
    · rw [if_pos b21] at h
      refine E_blk (lv' := [some (vr (some (10, this))), none, none, none, some (vr (some (5, v4))), some (vi (v5 + (1 : Int32))), some (vi v6), some (vi v7)]) (st' := []) (M1 := M) (pc' := 141) (tb_Works hγ) [.iinc 5 1] (by decide +kernel) rfl rfl trivial ?_
      refine E_goto (off := -76) (tgt := 65) (by decide +kernel) (by decide) ?_
      refine E_mask [true, false, false, false, true, true, false, false] rfl ?_
      exact hk65 v4 (v5 + (1 : Int32)) M h
    · rw [if_neg b21] at h
      obtain ⟨c22, h⟩ := h
      refine E_blk (lv' := [some (vr (some (10, this))), none, none, none, some (vr (some (5, v4))), some (vi v5), some (vi v6), some (vi v7)]) (st' := [vi ((mI M 62 v4 v6.toNatClampNeg) + v7), vi v6, vr (some (5, v4)), vr (some (10, this))]) (M1 := M) (pc' := 129) (tb_Works hγ) [.aload_n 0, .aload 4, .iload 6, .aload 4, .getfield 442, .iload 6, .iaload, .iload 7, .iadd] (by decide +kernel) rfl rfl ⟨c22, trivial⟩ ?_
      refine E_callV (κ' := k_Works_comesBy) (As := [vr (some (5, v4)), vi v6, vi ((mI M 62 v4 v6.toNatClampNeg) + v7)]) (st := []) mv_Works_comesBy (Or.inl (tbk_mem (j := 10) (k := 130) rfl)) rfl (by decide +kernel) (Nat.le_of_ble_eq_true rfl) (Nat.le_of_ble_eq_true rfl) rfl (by decide) (lk_Works_comesBy hγ this v4 v6 ((mI M 62 v4 v6.toNatClampNeg) + v7) _ M h) (fun _ _ => Qv_r) (fun v M23 hp => Qv_k (R := fun st => E γ k_Works_reach 137 132 [some (vr (some (10, this))), none, none, none, some (vr (some (5, v4))), some (vi v5), some (vi v6), some (vi v7)] st M23 (Qi Q)) hp (fun h => ?_))
      refine E_blk (lv' := [some (vr (some (10, this))), none, none, none, some (vr (some (5, v4))), some (vi v5), some (vi v6), some (vi (v7 + (1 : Int32)))]) (st' := []) (M1 := M23) (pc' := 135) (tb_Works hγ) [.iinc 7 1] (by decide +kernel) rfl rfl trivial ?_
      refine E_goto (off := -35) (tgt := 100) (by decide +kernel) (by decide) ?_
      refine E_mask [true, false, false, false, true, true, true, true] rfl ?_
      exact ih v4 v5 v6 (v7 + (1 : Int32)) M23 h
set_option maxRecDepth 4096 in
theorem lk_Works_reach_L65 {γ : Gm} (hγ : Gk γ) (this : Nat) (Q : Int32 → Mem → Prop) : ∀ (n : Nat) (v4 : Nat) (v5 : Int32) (M : Mem), w_Works_reach_L65 this Q n v4 v5 M → E γ k_Works_reach 137 65 [some (vr (some (10, this))), none, none, none, some (vr (some (5, v4))), some (vi v5), none, none] [] M (Qi Q) := by
  intro n
  induction n with
  | zero => intro v4 v5 M h; exact h.elim
  | succ n ih =>
    intro v4 v5 M h
    unfold w_Works_reach_L65 at h
    refine E_blk (lv' := [some (vr (some (10, this))), none, none, none, some (vr (some (5, v4))), some (vi v5), none, none]) (st' := [vi (mI M 10 this 27), vi v5]) (M1 := M) (pc' := 71) (tb_Works hγ) [.iload 5, .aload_n 0, .getfield 570] (by decide +kernel) rfl rfl trivial ?_
    refine E_icmp_ge (off := 73) (tgt := 144) (by decide +kernel) (by decide) (fun b15 => ?_) (fun b15 => ?_)
    · rw [if_pos b15] at h
      refine E_blk (lv' := [some (vr (some (10, this))), none, none, none, some (vr (some (5, v4))), some (vi v5), none, none]) (st' := [vi (mI M 10 this 27)]) (M1 := M) (pc' := 148) (tb_Works hγ) [.aload_n 0, .getfield 570] (by decide +kernel) rfl rfl trivial ?_
      exact E_iret rfl (by decide +kernel) h
    · rw [if_neg b15] at h
      obtain ⟨c16, c17, c18, h⟩ := h
      refine E_blk (lv' := [some (vr (some (10, this))), none, none, none, some (vr (some (5, v4))), some (vi v5), some (vi ((mI M 43 v4 (mI M 102 this v5.toNatClampNeg).toNatClampNeg) + (mI M 101 this v5.toNatClampNeg))), none]) (st' := []) (M1 := M) (pc' := 97) (tb_Works hγ) [.aload 4, .getfield 291, .aload_n 0, .getfield 109, .iload 5, .iaload, .iaload, .aload_n 0, .getfield 106, .iload 5, .iaload, .iadd, .istore 6] (by decide +kernel) rfl rfl ⟨c16, c17, c18, trivial⟩ ?_
      obtain ⟨x19, ex19, h⟩ := h
      rw [← ex19]
      refine E_blk (lv' := [some (vr (some (10, this))), none, none, none, some (vr (some (5, v4))), some (vi v5), some (vi x19), some (vi (0 : Int32))]) (st' := []) (M1 := M) (pc' := 100) (tb_Works hγ) [.iconst 0, .istore 7] (by decide +kernel) rfl rfl trivial ?_
      obtain ⟨n24, h⟩ := h
      refine E_mask [true, false, false, false, true, true, true, true] rfl ?_
      exact lk_Works_reach_L100 hγ this Q (w_Works_reach_L65 this Q n) ih n24 v4 v5 x19 (0 : Int32) M h
set_option maxRecDepth 4096 in
theorem lk_Works_reach {γ : Gm} (hγ : Gk γ) (this : Nat) (a1 : Int32) (a2 : Int32) (a3 : Int32) (Q : Int32 → Mem → Prop) (M : Mem) (h : w_Works_reach this a1 a2 a3 Q M) : E γ k_Works_reach 137 0 [some (vr (some (10, this))), some (vi a1), some (vi a2), some (vi a3), none, none, none, none] [] M (Qi Q) := by
  unfold w_Works_reach at h
  refine E_blk (lv' := [some (vr (some (10, this))), some (vi a1), some (vi a2), some (vi a3), none, none, none, none]) (st' := [vi a2, vi a1, vr (some (10, this))]) (M1 := M) (pc' := 3) (tb_Works hγ) [.aload_n 0, .iload_n 1, .iload_n 2] (by decide +kernel) rfl rfl trivial ?_
  refine E_callV (κ' := k_Works_isClass) (As := [vi a1, vi a2]) (st := []) mv_Works_isClass (Or.inl (tbk_mem (j := 7) (k := 49) rfl)) rfl (by decide +kernel) (Nat.le_of_ble_eq_true rfl) (Nat.le_of_ble_eq_true rfl) rfl (by decide) (lk_Works_isClass hγ this a1 a2 _ M h) (fun _ _ => Qi_r) (fun v M1 hp => Qi_k (R := fun st => E γ k_Works_reach 137 6 [some (vr (some (10, this))), some (vi a1), some (vi a2), some (vi a3), none, none, none, none] st M1 (Qi Q)) hp (fun r2 h => ?_))
  refine E_if_eq (off := 18) (tgt := 24) (by decide +kernel) (by decide) (fun b3 => ?_) (fun b3 => ?_)
  · rw [if_pos b3] at h
    refine E_blk (lv' := [some (vr (some (10, this))), some (vi a1), some (vi a2), some (vi a3), none, none, none, none]) (st' := [vi (-1 : Int32)]) (M1 := M1) (pc' := 25) (tb_Works hγ) [.iconst (.negSucc 0)] (by decide +kernel) rfl rfl trivial ?_
    exact E_iret rfl (by decide +kernel) h
  · rw [if_neg b3] at h
    obtain ⟨c4, h⟩ := h
    refine E_blk (lv' := [some (vr (some (10, this))), some (vi a1), some (vi a2), some (vi a3), none, none, none, none]) (st' := [vr (mR M1 702 0 a1.toNatClampNeg), vr (some (10, this))]) (M1 := M1) (pc' := 16) (tb_Works hγ) [.aload_n 0, .aload_n 0, .getfield 85, .iload_n 1, .aaload] (by decide +kernel) rfl rfl ⟨c4, trivial⟩ ?_
    obtain ⟨i5, ei5, h⟩ := h
    rw [ei5]
    refine E_blk (lv' := [some (vr (some (10, this))), some (vi a1), some (vi a2), some (vi a3), none, none, none, none]) (st' := [vi a3, vi a2, vr (some (5, i5)), vr (some (10, this))]) (M1 := M1) (pc' := 18) (tb_Works hγ) [.iload_n 2, .iload_n 3] (by decide +kernel) rfl rfl trivial ?_
    refine E_callV (κ' := k_Works_isMethod) (As := [vr (some (5, i5)), vi a2, vi a3]) (st := []) mv_Works_isMethod (Or.inl (tbk_mem (j := 7) (k := 62) rfl)) rfl (by decide +kernel) (Nat.le_of_ble_eq_true rfl) (Nat.le_of_ble_eq_true rfl) rfl (by decide) (lk_Works_isMethod hγ this i5 a2 a3 _ M1 h) (fun _ _ => Qi_r) (fun v M6 hp => Qi_k (R := fun st => E γ k_Works_reach 137 21 [some (vr (some (10, this))), some (vi a1), some (vi a2), some (vi a3), none, none, none, none] st M6 (Qi Q)) hp (fun r7 h => ?_))
    refine E_if_ne (off := 5) (tgt := 26) (by decide +kernel) (by decide) (fun b8 => ?_) (fun b8 => ?_)
    · rw [if_pos b8] at h
      refine E_blk (lv' := [some (vr (some (10, this))), some (vi a1), some (vi a2), some (vi a3), none, none, none, none]) (st' := [vi (-1 : Int32)]) (M1 := M6) (pc' := 25) (tb_Works hγ) [.iconst (.negSucc 0)] (by decide +kernel) rfl rfl trivial ?_
      exact E_iret rfl (by decide +kernel) h
    · rw [if_neg b8] at h
      obtain ⟨c9, h⟩ := h
      refine E_blk (lv' := [some (vr (some (10, this))), some (vi a1), some (vi a2), some (vi a3), none, none, none, none]) (st' := [vr (mR M6 702 0 a1.toNatClampNeg)]) (M1 := M6) (pc' := 32) (tb_Works hγ) [.aload_n 0, .getfield 85, .iload_n 1, .aaload] (by decide +kernel) rfl rfl ⟨c9, trivial⟩ ?_
      obtain ⟨i10, ei10, h⟩ := h
      rw [ei10]
      refine E_blk (lv' := [some (vr (some (10, this))), some (vi a1), some (vi a2), some (vi a3), some (vr (some (5, i10))), none, none, none]) (st' := [vi (0 : Int32), vr (some (517, this))]) (M1 := (sI M6 10 this 27 (0 : Int32))) (pc' := 44) (tb_Works hγ) [.astore 4, .aload_n 0, .iconst 0, .putfield 570, .aload_n 0, .getfield 112, .iconst 0] (by decide +kernel) rfl rfl trivial ?_
      obtain ⟨c12, M11, eM11, h⟩ := h
      refine E_fillZ (st := []) (by decide) (by decide) (by decide) c12 (tbk_mem (j := 10) (k := 125) rfl) (by decide +kernel) (Nat.le_of_ble_eq_true rfl) ?_
      rw [← eM11]
      obtain ⟨c13, h⟩ := h
      refine E_blk (lv' := [some (vr (some (10, this))), some (vi a1), some (vi a2), some (vi a3), some (vr (some (5, i10))), none, none, none]) (st' := [vi ((mI M11 43 i10 a2.toNatClampNeg) + a3), vr (some (5, i10)), vr (some (10, this))]) (M1 := M11) (pc' := 59) (tb_Works hγ) [.aload_n 0, .aload 4, .aload 4, .getfield 291, .iload_n 2, .iaload, .iload_n 3, .iadd] (by decide +kernel) rfl rfl ⟨c13, trivial⟩ ?_
      refine E_callV (κ' := k_Works_comes) (As := [vr (some (5, i10)), vi ((mI M11 43 i10 a2.toNatClampNeg) + a3)]) (st := []) mv_Works_comes (Or.inl (tbk_mem (j := 10) (k := 126) rfl)) rfl (by decide +kernel) (Nat.le_of_ble_eq_true rfl) (Nat.le_of_ble_eq_true rfl) rfl (by decide) (lk_Works_comes hγ this i10 ((mI M11 43 i10 a2.toNatClampNeg) + a3) _ M11 h) (fun _ _ => Qv_r) (fun v M14 hp => Qv_k (R := fun st => E γ k_Works_reach 137 62 [some (vr (some (10, this))), some (vi a1), some (vi a2), some (vi a3), some (vr (some (5, i10))), none, none, none] st M14 (Qi Q)) hp (fun h => ?_))
      refine E_blk (lv' := [some (vr (some (10, this))), some (vi a1), some (vi a2), some (vi a3), some (vr (some (5, i10))), some (vi (0 : Int32)), none, none]) (st' := []) (M1 := M14) (pc' := 65) (tb_Works hγ) [.iconst 0, .istore 5] (by decide +kernel) rfl rfl trivial ?_
      obtain ⟨n25, h⟩ := h
      refine E_mask [true, false, false, false, true, true, false, false] rfl ?_
      exact lk_Works_reach_L65 hγ this Q n25 i10 (0 : Int32) M14 h
def w_Works_reached (this : Nat) (a1 : Int32) (Q : Int32 → Mem → Prop) (M : Mem) : Prop :=
  w_Works_isIn a1 (0 : Int32) ((mI M 10 this 27) - (1 : Int32)) (fun r2 M1 => if r2 = 0 then (Q (-2 : Int32) M1) else (vp_in a1 (mL M1 102 this) ∧ vp_in a1 (mL M1 101 this) ∧ Q (((100 : Int32) * (mI M1 102 this a1.toNatClampNeg)) + (mI M1 101 this a1.toNatClampNeg)) M1)) M
set_option maxRecDepth 4096 in
theorem lk_Works_reached {γ : Gm} (hγ : Gk γ) (this : Nat) (a1 : Int32) (Q : Int32 → Mem → Prop) (M : Mem) (h : w_Works_reached this a1 Q M) : E γ k_Works_reached 1 0 [some (vr (some (10, this))), some (vi a1)] [] M (Qi Q) := by
  unfold w_Works_reached at h
  refine E_blk (lv' := [some (vr (some (10, this))), some (vi a1)]) (st' := [vi ((mI M 10 this 27) - (1 : Int32)), vi (0 : Int32), vi a1]) (M1 := M) (pc' := 8) (tb_Works hγ) [.iload_n 1, .iconst 0, .aload_n 0, .getfield 570, .iconst 1, .isub] (by decide +kernel) rfl rfl trivial ?_
  refine E_callS (κ' := k_Works_isIn) (As := [vi a1, vi (0 : Int32), vi ((mI M 10 this 27) - (1 : Int32))]) (st := []) ms_Works_isIn (Or.inl (tbk_mem (j := 5) (k := 237) rfl)) rfl (by decide +kernel) (Nat.le_of_ble_eq_true rfl) (Nat.le_of_ble_eq_true rfl) rfl (by decide) (lk_Works_isIn hγ a1 (0 : Int32) ((mI M 10 this 27) - (1 : Int32)) _ M h) (fun _ _ => Qi_r) (fun v M1 hp => Qi_k (R := fun st => E γ k_Works_reached 1 11 [some (vr (some (10, this))), some (vi a1)] st M1 (Qi Q)) hp (fun r2 h => ?_))
  refine E_if_eq (off := 22) (tgt := 33) (by decide +kernel) (by decide) (fun b3 => ?_) (fun b3 => ?_)
  · rw [if_pos b3] at h
    refine E_blk (lv' := [some (vr (some (10, this))), some (vi a1)]) (st' := [vi (-2 : Int32)]) (M1 := M1) (pc' := 35) (tb_Works hγ) [.bipush (.negSucc 1)] (by decide +kernel) rfl rfl trivial ?_
    exact E_iret rfl (by decide +kernel) h
  · rw [if_neg b3] at h
    obtain ⟨c4, c5, h⟩ := h
    refine E_blk (lv' := [some (vr (some (10, this))), some (vi a1)]) (st' := [vi (((100 : Int32) * (mI M1 102 this a1.toNatClampNeg)) + (mI M1 101 this a1.toNatClampNeg))]) (M1 := M1) (pc' := 30) (tb_Works hγ) [.bipush 100, .aload_n 0, .getfield 109, .iload_n 1, .iaload, .imul, .aload_n 0, .getfield 106, .iload_n 1, .iaload, .iadd] (by decide +kernel) rfl rfl ⟨c4, c5, trivial⟩ ?_
    refine E_goto (off := 5) (tgt := 35) (by decide +kernel) (by decide) ?_
    exact E_iret rfl (by decide +kernel) h
def w_Works_breaksFound_j29 (this : Nat) (Q : Int32 → Mem → Prop) (X : Mem → Prop) (k4 : Int32 → Int32 → Int32 → Mem → Prop) (v1 : Int32) (v3 : Int32) (s0 : Int32) (s1 : Int32) (M : Mem) : Prop :=
  k4 v1 (s1 ||| s0) (v3 + (1 : Int32)) M
def w_Works_breaksFound_L4 (this : Nat) (Q : Int32 → Mem → Prop) (X : Mem → Prop) : Nat → Int32 → Int32 → Int32 → Mem → Prop
  | 0, _, _, _, _ => False
  | n + 1, v1, v2, v3, M => if (8 : Int32) ≤ v3 then (Q v2 M) else (w_Works_finds0 this v1 ((1 : Int32) <<< (v3 &&& 31)) (fun r3 M2 => if r3 = 0 then (w_Works_breaksFound_j29 this Q X (w_Works_breaksFound_L4 this Q X n) v1 v3 (0 : Int32) v2 M2) else (w_Works_breaksFound_j29 this Q X (w_Works_breaksFound_L4 this Q X n) v1 v3 ((1 : Int32) <<< (v3 &&& 31)) v2 M2)) X M)
def w_Works_breaksFound (this : Nat) (a1 : Int32) (Q : Int32 → Mem → Prop) (X : Mem → Prop) (M : Mem) : Prop :=
  ∃ n5 : Nat, w_Works_breaksFound_L4 this Q X n5 a1 (0 : Int32) (0 : Int32) M
set_option maxRecDepth 4096 in
theorem lk_Works_breaksFound_j29 {γ : Gm} (hγ : Gk γ) (this : Nat) (Q : Int32 → Mem → Prop) (X : Mem → Prop) (k4 : Int32 → Int32 → Int32 → Mem → Prop) (hk4 : ∀ (v1 : Int32) (v2 : Int32) (v3 : Int32) (M : Mem), k4 v1 v2 v3 M → E γ k_Works_breaksFound 141 4 [some (vr (some (10, this))), some (vi v1), some (vi v2), some (vi v3)] [] M (Qx (9, 0) (Qi Q) X)) (v1 : Int32) (v3 : Int32) (s0 : Int32) (s1 : Int32) (M : Mem) (h : w_Works_breaksFound_j29 this Q X k4 v1 v3 s0 s1 M) : E γ k_Works_breaksFound 141 29 [some (vr (some (10, this))), some (vi v1), none, some (vi v3)] [vi s0, vi s1] M (Qx (9, 0) (Qi Q) X) := by
  unfold w_Works_breaksFound_j29 at h
  refine E_blk (lv' := [some (vr (some (10, this))), some (vi v1), some (vi (s1 ||| s0)), some (vi (v3 + (1 : Int32)))]) (st' := []) (M1 := M) (pc' := 34) (tb_Works hγ) [.ior, .istore_n 2, .iinc 3 1] (by decide +kernel) rfl rfl trivial ?_
  refine E_goto (off := -30) (tgt := 4) (by decide +kernel) (by decide) ?_
  refine E_mask [true, true, true, true] rfl ?_
  exact hk4 v1 (s1 ||| s0) (v3 + (1 : Int32)) M h
set_option maxRecDepth 4096 in
theorem lk_Works_breaksFound_L4 {γ : Gm} (hγ : Gk γ) (this : Nat) (Q : Int32 → Mem → Prop) (X : Mem → Prop) : ∀ (n : Nat) (v1 : Int32) (v2 : Int32) (v3 : Int32) (M : Mem), w_Works_breaksFound_L4 this Q X n v1 v2 v3 M → E γ k_Works_breaksFound 141 4 [some (vr (some (10, this))), some (vi v1), some (vi v2), some (vi v3)] [] M (Qx (9, 0) (Qi Q) X) := by
  intro n
  induction n with
  | zero => intro v1 v2 v3 M h; exact h.elim
  | succ n ih =>
    intro v1 v2 v3 M h
    unfold w_Works_breaksFound_L4 at h
    refine E_blk (lv' := [some (vr (some (10, this))), some (vi v1), some (vi v2), some (vi v3)]) (st' := [vi (8 : Int32), vi v3]) (M1 := M) (pc' := 7) (tb_Works hγ) [.iload_n 3, .bipush 8] (by decide +kernel) rfl rfl trivial ?_
    refine E_icmp_ge (off := 30) (tgt := 37) (by decide +kernel) (by decide) (fun b1 => ?_) (fun b1 => ?_)
    · rw [if_pos b1] at h
      refine E_blk (lv' := [some (vr (some (10, this))), some (vi v1), some (vi v2), some (vi v3)]) (st' := [vi v2]) (M1 := M) (pc' := 38) (tb_Works hγ) [.iload_n 2] (by decide +kernel) rfl rfl trivial ?_
      exact (E_iret rfl (by decide +kernel) h).nx
    · rw [if_neg b1] at h
      refine E_blk (lv' := [some (vr (some (10, this))), some (vi v1), some (vi v2), some (vi v3)]) (st' := [vi ((1 : Int32) <<< (v3 &&& 31)), vi v1, vr (some (10, this)), vi v2]) (M1 := M) (pc' := 16) (tb_Works hγ) [.iload_n 2, .aload_n 0, .iload_n 1, .iconst 1, .iload_n 3, .ishl] (by decide +kernel) rfl rfl trivial ?_
      refine E_callX (κ' := k_Works_finds0) (As := [vi v1, vi ((1 : Int32) <<< (v3 &&& 31))]) (st := [vi v2]) mv_Works_finds0 (Or.inl (tbk_mem (j := 10) (k := 164) rfl)) rfl (by decide +kernel) (Nat.le_of_ble_eq_true rfl) (Nat.le_of_ble_eq_true rfl) rfl (by decide) rfl (lk_Works_finds0 hγ this v1 ((1 : Int32) <<< (v3 &&& 31)) _ _ M h) (fun _ _ => Qi_r) (fun _ h => h) (fun v M2 hp => Qi_k (R := fun st => E γ k_Works_breaksFound 141 19 [some (vr (some (10, this))), some (vi v1), some (vi v2), some (vi v3)] st M2 (Qx (9, 0) (Qi Q) X)) hp (fun r3 h => ?_))
      refine E_if_eq (off := 9) (tgt := 28) (by decide +kernel) (by decide) (fun b4 => ?_) (fun b4 => ?_)
      · rw [if_pos b4] at h
        refine E_blk (lv' := [some (vr (some (10, this))), some (vi v1), some (vi v2), some (vi v3)]) (st' := [vi (0 : Int32), vi v2]) (M1 := M2) (pc' := 29) (tb_Works hγ) [.iconst 0] (by decide +kernel) rfl rfl trivial ?_
        refine E_mask [true, true, false, true] rfl ?_
        exact lk_Works_breaksFound_j29 hγ this Q X (w_Works_breaksFound_L4 this Q X n) ih v1 v3 (0 : Int32) v2 M2 h
      · rw [if_neg b4] at h
        refine E_blk (lv' := [some (vr (some (10, this))), some (vi v1), some (vi v2), some (vi v3)]) (st' := [vi ((1 : Int32) <<< (v3 &&& 31)), vi v2]) (M1 := M2) (pc' := 25) (tb_Works hγ) [.iconst 1, .iload_n 3, .ishl] (by decide +kernel) rfl rfl trivial ?_
        refine E_goto (off := 4) (tgt := 29) (by decide +kernel) (by decide) ?_
        refine E_mask [true, true, false, true] rfl ?_
        exact lk_Works_breaksFound_j29 hγ this Q X (w_Works_breaksFound_L4 this Q X n) ih v1 v3 ((1 : Int32) <<< (v3 &&& 31)) v2 M2 h
set_option maxRecDepth 4096 in
theorem lk_Works_breaksFound {γ : Gm} (hγ : Gk γ) (this : Nat) (a1 : Int32) (Q : Int32 → Mem → Prop) (X : Mem → Prop) (M : Mem) (h : w_Works_breaksFound this a1 Q X M) : E γ k_Works_breaksFound 141 0 [some (vr (some (10, this))), some (vi a1), none, none] [] M (Qx (9, 0) (Qi Q) X) := by
  unfold w_Works_breaksFound at h
  refine E_blk (lv' := [some (vr (some (10, this))), some (vi a1), some (vi (0 : Int32)), some (vi (0 : Int32))]) (st' := []) (M1 := M) (pc' := 4) (tb_Works hγ) [.iconst 0, .istore_n 2, .iconst 0, .istore_n 3] (by decide +kernel) rfl rfl trivial ?_
  obtain ⟨n5, h⟩ := h
  refine E_mask [true, true, true, true] rfl ?_
  exact lk_Works_breaksFound_L4 hγ this Q X n5 a1 (0 : Int32) (0 : Int32) M h
def w_Works_meetOne_j92 (this : Nat) (Q : Mem → Prop) (X : Mem → Prop) (k14 : Int32 → Int32 → Int32 → Mem → Prop) (v1 : Int32) (v2 : Int32) (v3 : Int32) (M : Mem) : Prop :=
  k14 v1 v2 (v3 + (1 : Int32)) M
def w_Works_meetOne_L46 (this : Nat) (Q : Mem → Prop) (X : Mem → Prop) (k14 : Int32 → Int32 → Int32 → Mem → Prop) : Nat → Int32 → Int32 → Int32 → Int32 → Int32 → Mem → Prop
  | 0, _, _, _, _, _, _ => False
  | n + 1, v1, v2, v3, v4, v5, M => if (256 : Int32) ≤ v5 then (w_Works_meetOne_j92 this Q X k14 v1 v2 v3 M) else (vp_in (v5 ||| v4) (mL M 104 this) ∧ vp_in v5 (mL M 103 this) ∧ w_JMath_min (mI M 104 this (v5 ||| v4).toNatClampNeg) ((mI M 103 this v5.toNatClampNeg) + (1 : Int32)) (fun r20 M19 => vp_in (v5 ||| v4) (mL M19 104 this) ∧ (w_Works_meetOne_L46 this Q X k14 n) v1 v2 v3 v4 (v5 + (1 : Int32)) (sI M19 104 this (v5 ||| v4).toNatClampNeg r20)) M)
def w_Works_meetOne_L14 (this : Nat) (Q : Mem → Prop) (X : Mem → Prop) : Nat → Int32 → Int32 → Int32 → Mem → Prop
  | 0, _, _, _, _ => False
  | n + 1, v1, v2, v3, M => if (mI M 10 this 10) ≤ v3 then (if v2 = 0 then (Q M) else (¬ (0 : Int32) < 0 ∧ ¬ (0 : Int32) < 0 ∧ ¬ (256 : Int32) < 0 ∧ (0 : Int32).toNatClampNeg + (256 : Int32).toNatClampNeg ≤ mL M 104 this ∧ (0 : Int32).toNatClampNeg + (256 : Int32).toNatClampNeg ≤ mL M 103 this ∧ ∃ M5, M5 = cpI M 104 this (0 : Int32).toNatClampNeg 103 this (0 : Int32).toNatClampNeg (256 : Int32).toNatClampNeg ∧ Q M5)) else (w_Works_ruleMet this v3 (fun r12 M11 => if r12 = v1 then (w_Works_breaksFound this v3 (fun r15 M14 => ∃ n22 : Nat, w_Works_meetOne_L46 this Q X (w_Works_meetOne_L14 this Q X n) n22 v1 (1 : Int32) v3 r15 (0 : Int32) M14) X M11) else (w_Works_meetOne_j92 this Q X (w_Works_meetOne_L14 this Q X n) v1 v2 v3 M11)) X M)
def w_Works_meetOne (this : Nat) (a1 : Int32) (Q : Mem → Prop) (X : Mem → Prop) (M : Mem) : Prop :=
  mL M 104 this < 2 ^ 31 ∧ ∃ M1, M1 = flI M 104 this (1000 : Int32) ∧ ∃ n23 : Nat, w_Works_meetOne_L14 this Q X n23 a1 (0 : Int32) (0 : Int32) M1
set_option maxRecDepth 4096 in
theorem lk_Works_meetOne_j92 {γ : Gm} (hγ : Gk γ) (this : Nat) (Q : Mem → Prop) (X : Mem → Prop) (k14 : Int32 → Int32 → Int32 → Mem → Prop) (hk14 : ∀ (v1 : Int32) (v2 : Int32) (v3 : Int32) (M : Mem), k14 v1 v2 v3 M → E γ k_Works_meetOne 142 14 [some (vr (some (10, this))), some (vi v1), some (vi v2), some (vi v3), none, none] [] M (Qx (9, 0) (Qv Q) X)) (v1 : Int32) (v2 : Int32) (v3 : Int32) (M : Mem) (h : w_Works_meetOne_j92 this Q X k14 v1 v2 v3 M) : E γ k_Works_meetOne 142 92 [some (vr (some (10, this))), some (vi v1), some (vi v2), some (vi v3), none, none] [] M (Qx (9, 0) (Qv Q) X) := by
  unfold w_Works_meetOne_j92 at h
  refine E_blk (lv' := [some (vr (some (10, this))), some (vi v1), some (vi v2), some (vi (v3 + (1 : Int32))), none, none]) (st' := []) (M1 := M) (pc' := 95) (tb_Works hγ) [.iinc 3 1] (by decide +kernel) rfl rfl trivial ?_
  refine E_goto (off := -81) (tgt := 14) (by decide +kernel) (by decide) ?_
  refine E_mask [true, true, true, true, false, false] rfl ?_
  exact hk14 v1 v2 (v3 + (1 : Int32)) M h
set_option maxRecDepth 4096 in
theorem lk_Works_meetOne_L46 {γ : Gm} (hγ : Gk γ) (this : Nat) (Q : Mem → Prop) (X : Mem → Prop) (k14 : Int32 → Int32 → Int32 → Mem → Prop) (hk14 : ∀ (v1 : Int32) (v2 : Int32) (v3 : Int32) (M : Mem), k14 v1 v2 v3 M → E γ k_Works_meetOne 142 14 [some (vr (some (10, this))), some (vi v1), some (vi v2), some (vi v3), none, none] [] M (Qx (9, 0) (Qv Q) X)) : ∀ (n : Nat) (v1 : Int32) (v2 : Int32) (v3 : Int32) (v4 : Int32) (v5 : Int32) (M : Mem), w_Works_meetOne_L46 this Q X k14 n v1 v2 v3 v4 v5 M → E γ k_Works_meetOne 142 46 [some (vr (some (10, this))), some (vi v1), some (vi v2), some (vi v3), some (vi v4), some (vi v5)] [] M (Qx (9, 0) (Qv Q) X) := by
  intro n
  induction n with
  | zero => intro v1 v2 v3 v4 v5 M h; exact h.elim
  | succ n ih =>
    intro v1 v2 v3 v4 v5 M h
    unfold w_Works_meetOne_L46 at h
    refine E_blk (lv' := [some (vr (some (10, this))), some (vi v1), some (vi v2), some (vi v3), some (vi v4), some (vi v5)]) (st' := [vi (256 : Int32), vi v5]) (M1 := M) (pc' := 51) (tb_Works hγ) [.iload 5, .sipush 256] (by decide +kernel) rfl rfl trivial ?_
    refine E_icmp_ge (off := 41) (tgt := 92) (by decide +kernel) (by decide) (fun b16 => ?_) (fun b16 => ?_)
    · rw [if_pos b16] at h
      refine E_mask [true, true, true, true, false, false] rfl ?_
      exact lk_Works_meetOne_j92 hγ this Q X k14 hk14 v1 v2 v3 M h
    · rw [if_neg b16] at h
      obtain ⟨c17, c18, h⟩ := h
      refine E_blk (lv' := [some (vr (some (10, this))), some (vi v1), some (vi v2), some (vi v3), some (vi v4), some (vi v5)]) (st' := [vi ((mI M 103 this v5.toNatClampNeg) + (1 : Int32)), vi (mI M 104 this (v5 ||| v4).toNatClampNeg), vi (v5 ||| v4), vr (some (104, this))]) (M1 := M) (pc' := 82) (tb_Works hγ) [.aload_n 0, .getfield 118, .iload 5, .iload 4, .ior, .aload_n 0, .getfield 118, .iload 5, .iload 4, .ior, .iaload, .aload_n 0, .getfield 115, .iload 5, .iaload, .iconst 1, .iadd] (by decide +kernel) rfl rfl ⟨c17, c18, trivial⟩ ?_
      refine E_callS (κ' := k_JMath_min) (As := [vi (mI M 104 this (v5 ||| v4).toNatClampNeg), vi ((mI M 103 this v5.toNatClampNeg) + (1 : Int32))]) (st := [vi (v5 ||| v4), vr (some (104, this))]) ms_JMath_min (Or.inl (tbk_mem (j := 7) (k := 71) rfl)) rfl (by decide +kernel) (Nat.le_of_ble_eq_true rfl) (Nat.le_of_ble_eq_true rfl) rfl (by decide) (lk_JMath_min hγ (mI M 104 this (v5 ||| v4).toNatClampNeg) ((mI M 103 this v5.toNatClampNeg) + (1 : Int32)) _ M h) (fun _ _ => Qi_r) (fun v M19 hp => Qi_k (R := fun st => E γ k_Works_meetOne 142 85 [some (vr (some (10, this))), some (vi v1), some (vi v2), some (vi v3), some (vi v4), some (vi v5)] st M19 (Qx (9, 0) (Qv Q) X)) hp (fun r20 h => ?_))
      obtain ⟨c21, h⟩ := h
      refine E_blk (lv' := [some (vr (some (10, this))), some (vi v1), some (vi v2), some (vi v3), some (vi v4), some (vi (v5 + (1 : Int32)))]) (st' := []) (M1 := (sI M19 104 this (v5 ||| v4).toNatClampNeg r20)) (pc' := 89) (tb_Works hγ) [.iastore, .iinc 5 1] (by decide +kernel) rfl rfl ⟨c21, trivial⟩ ?_
      refine E_goto (off := -43) (tgt := 46) (by decide +kernel) (by decide) ?_
      refine E_mask [true, true, true, true, true, true] rfl ?_
      exact ih v1 v2 v3 v4 (v5 + (1 : Int32)) (sI M19 104 this (v5 ||| v4).toNatClampNeg r20) h
set_option maxRecDepth 4096 in
theorem lk_Works_meetOne_L14 {γ : Gm} (hγ : Gk γ) (this : Nat) (Q : Mem → Prop) (X : Mem → Prop) : ∀ (n : Nat) (v1 : Int32) (v2 : Int32) (v3 : Int32) (M : Mem), w_Works_meetOne_L14 this Q X n v1 v2 v3 M → E γ k_Works_meetOne 142 14 [some (vr (some (10, this))), some (vi v1), some (vi v2), some (vi v3), none, none] [] M (Qx (9, 0) (Qv Q) X) := by
  intro n
  induction n with
  | zero => intro v1 v2 v3 M h; exact h.elim
  | succ n ih =>
    intro v1 v2 v3 M h
    unfold w_Works_meetOne_L14 at h
    refine E_blk (lv' := [some (vr (some (10, this))), some (vi v1), some (vi v2), some (vi v3), none, none]) (st' := [vi (mI M 10 this 10), vi v3]) (M1 := M) (pc' := 19) (tb_Works hγ) [.iload_n 3, .aload_n 0, .getfield 230] (by decide +kernel) rfl rfl trivial ?_
    refine E_icmp_ge (off := 79) (tgt := 98) (by decide +kernel) (by decide) (fun b3 => ?_) (fun b3 => ?_)
    · rw [if_pos b3] at h
      refine E_blk (lv' := [some (vr (some (10, this))), some (vi v1), some (vi v2), some (vi v3), none, none]) (st' := [vi v2]) (M1 := M) (pc' := 99) (tb_Works hγ) [.iload_n 2] (by decide +kernel) rfl rfl trivial ?_
      refine E_if_eq (off := 19) (tgt := 118) (by decide +kernel) (by decide) (fun b4 => ?_) (fun b4 => ?_)
      · rw [if_pos b4] at h
        exact (E_vret rfl (by decide +kernel) h).nx
      · rw [if_neg b4] at h
        refine E_blk (lv' := [some (vr (some (10, this))), some (vi v1), some (vi v2), some (vi v3), none, none]) (st' := [vi (256 : Int32), vi (0 : Int32), vr (some (103, this)), vi (0 : Int32), vr (some (104, this))]) (M1 := M) (pc' := 115) (tb_Works hγ) [.aload_n 0, .getfield 118, .iconst 0, .aload_n 0, .getfield 115, .iconst 0, .sipush 256] (by decide +kernel) rfl rfl trivial ?_
        obtain ⟨c6, c7, c8, c9, c10, M5, eM5, h⟩ := h
        refine E_copy (pc := 115) (κ := k_Works_meetOne) (f := 104) (i := this) (g := 103) (j := this) (sp := (0 : Int32)) (dp := (0 : Int32)) (n := (256 : Int32)) (idx := 628) (st := []) c6 c7 c8 c9 c10 (by decide) (by decide) rfl (by decide) (tbk_mem (j := 10) (k := 201) rfl) (by decide +kernel) (Nat.le_of_ble_eq_true rfl) ?_
        rw [← eM5]
        exact (E_vret rfl (by decide +kernel) h).nx
    · rw [if_neg b3] at h
      refine E_blk (lv' := [some (vr (some (10, this))), some (vi v1), some (vi v2), some (vi v3), none, none]) (st' := [vi v3, vr (some (10, this))]) (M1 := M) (pc' := 24) (tb_Works hγ) [.aload_n 0, .iload_n 3] (by decide +kernel) rfl rfl trivial ?_
      refine E_callX (κ' := k_Works_ruleMet) (As := [vi v3]) (st := []) mv_Works_ruleMet (Or.inl (tbk_mem (j := 10) (k := 197) rfl)) rfl (by decide +kernel) (Nat.le_of_ble_eq_true rfl) (Nat.le_of_ble_eq_true rfl) rfl (by decide) rfl (lk_Works_ruleMet hγ this v3 _ _ M h) (fun _ _ => Qi_r) (fun _ h => h) (fun v M11 hp => Qi_k (R := fun st => E γ k_Works_meetOne 142 27 [some (vr (some (10, this))), some (vi v1), some (vi v2), some (vi v3), none, none] st M11 (Qx (9, 0) (Qv Q) X)) hp (fun r12 h => ?_))
      refine E_blk (lv' := [some (vr (some (10, this))), some (vi v1), some (vi v2), some (vi v3), none, none]) (st' := [vi v1, vi r12]) (M1 := M11) (pc' := 28) (tb_Works hγ) [.iload_n 1] (by decide +kernel) rfl rfl trivial ?_
      refine E_icmp_eq (off := 6) (tgt := 34) (by decide +kernel) (by decide) (fun b13 => ?_) (fun b13 => ?_)
      · rw [if_pos b13] at h
        refine E_blk (lv' := [some (vr (some (10, this))), some (vi v1), some (vi (1 : Int32)), some (vi v3), none, none]) (st' := [vi v3, vr (some (10, this))]) (M1 := M11) (pc' := 38) (tb_Works hγ) [.iconst 1, .istore_n 2, .aload_n 0, .iload_n 3] (by decide +kernel) rfl rfl trivial ?_
        refine E_callX (κ' := k_Works_breaksFound) (As := [vi v3]) (st := []) mv_Works_breaksFound (Or.inl (tbk_mem (j := 10) (k := 160) rfl)) rfl (by decide +kernel) (Nat.le_of_ble_eq_true rfl) (Nat.le_of_ble_eq_true rfl) rfl (by decide) rfl (lk_Works_breaksFound hγ this v3 _ _ M11 h) (fun _ _ => Qi_r) (fun _ h => h) (fun v M14 hp => Qi_k (R := fun st => E γ k_Works_meetOne 142 41 [some (vr (some (10, this))), some (vi v1), some (vi (1 : Int32)), some (vi v3), none, none] st M14 (Qx (9, 0) (Qv Q) X)) hp (fun r15 h => ?_))
        refine E_blk (lv' := [some (vr (some (10, this))), some (vi v1), some (vi (1 : Int32)), some (vi v3), some (vi r15), some (vi (0 : Int32))]) (st' := []) (M1 := M14) (pc' := 46) (tb_Works hγ) [.istore 4, .iconst 0, .istore 5] (by decide +kernel) rfl rfl trivial ?_
        obtain ⟨n22, h⟩ := h
        refine E_mask [true, true, true, true, true, true] rfl ?_
        exact lk_Works_meetOne_L46 hγ this Q X (w_Works_meetOne_L14 this Q X n) ih n22 v1 (1 : Int32) v3 r15 (0 : Int32) M14 h
      · rw [if_neg b13] at h
        refine E_goto (off := 61) (tgt := 92) (by decide +kernel) (by decide) ?_
        refine E_mask [true, true, true, true, false, false] rfl ?_
        exact lk_Works_meetOne_j92 hγ this Q X (w_Works_meetOne_L14 this Q X n) ih v1 v2 v3 M11 h
set_option maxRecDepth 4096 in
theorem lk_Works_meetOne {γ : Gm} (hγ : Gk γ) (this : Nat) (a1 : Int32) (Q : Mem → Prop) (X : Mem → Prop) (M : Mem) (h : w_Works_meetOne this a1 Q X M) : E γ k_Works_meetOne 142 0 [some (vr (some (10, this))), some (vi a1), none, none, none, none] [] M (Qx (9, 0) (Qv Q) X) := by
  unfold w_Works_meetOne at h
  refine E_blk (lv' := [some (vr (some (10, this))), some (vi a1), none, none, none, none]) (st' := [vi (1000 : Int32), vr (some (104, this))]) (M1 := M) (pc' := 7) (tb_Works hγ) [.aload_n 0, .getfield 118, .sipush 1000] (by decide +kernel) rfl rfl trivial ?_
  obtain ⟨c2, M1, eM1, h⟩ := h
  refine E_fillI (st := []) (by decide) (by decide) c2 (tbk_mem (j := 10) (k := 188) rfl) (by decide +kernel) (Nat.le_of_ble_eq_true rfl) ?_
  rw [← eM1]
  refine E_blk (lv' := [some (vr (some (10, this))), some (vi a1), some (vi (0 : Int32)), some (vi (0 : Int32)), none, none]) (st' := []) (M1 := M1) (pc' := 14) (tb_Works hγ) [.iconst 0, .istore_n 2, .iconst 0, .istore_n 3] (by decide +kernel) rfl rfl trivial ?_
  obtain ⟨n23, h⟩ := h
  refine E_mask [true, true, true, true, false, false] rfl ?_
  exact lk_Works_meetOne_L14 hγ this Q X n23 a1 (0 : Int32) (0 : Int32) M1 h
def w_Works_fewest_L98 (this : Nat) (Q : Int32 → Mem → Prop) (X : Mem → Prop) (k72 : Int32 → Int32 → Mem → Prop) (k80 : Int32 → Int32 → Int32 → Mem → Prop) : Nat → Int32 → Int32 → Int32 → Int32 → Int32 → Mem → Prop
  | 0, _, _, _, _, _, _ => False
  | n + 1, v1, v2, v3, v4, v5, M => if (256 : Int32) ≤ v5 then (k80 v1 v2 (v3 + (1 : Int32)) M) else (vp_in (v5 ||| v4) (mL M 103 this) ∧ vp_in v5 (mL M 103 this) ∧ w_JMath_min (mI M 103 this (v5 ||| v4).toNatClampNeg) ((mI M 103 this v5.toNatClampNeg) + (1 : Int32)) (fun r15 M14 => vp_in (v5 ||| v4) (mL M14 103 this) ∧ (w_Works_fewest_L98 this Q X k72 k80 n) v1 v2 v3 v4 (v5 + (1 : Int32)) (sI M14 103 this (v5 ||| v4).toNatClampNeg r15)) M)
def w_Works_fewest_L80 (this : Nat) (Q : Int32 → Mem → Prop) (X : Mem → Prop) (k72 : Int32 → Int32 → Mem → Prop) : Nat → Int32 → Int32 → Int32 → Mem → Prop
  | 0, _, _, _, _ => False
  | n + 1, v1, v2, v3, M => if (mI M 10 this 10) ≤ v3 then (k72 v1 (v2 + (1 : Int32)) M) else (w_Works_breaksFound this v3 (fun r10 M9 => ∃ n17 : Nat, w_Works_fewest_L98 this Q X k72 (w_Works_fewest_L80 this Q X k72 n) n17 v1 v2 v3 r10 (0 : Int32) M9) X M)
def w_Works_fewest_L72 (this : Nat) (Q : Int32 → Mem → Prop) (X : Mem → Prop) : Nat → Int32 → Int32 → Mem → Prop
  | 0, _, _, _ => False
  | n + 1, v1, v2, M => if (8 : Int32) ≤ v2 then (vp_in v1 (mL M 103 this) ∧ Q (mI M 103 this v1.toNatClampNeg) M) else (∃ n18 : Nat, w_Works_fewest_L80 this Q X (w_Works_fewest_L72 this Q X n) n18 v1 v2 (0 : Int32) M)
def w_Works_fewest_j64 (this : Nat) (Q : Int32 → Mem → Prop) (X : Mem → Prop) (k45 : Int32 → Int32 → Mem → Prop) (v1 : Int32) (v2 : Int32) (M : Mem) : Prop :=
  k45 v1 (v2 + (1 : Int32)) M
def w_Works_fewest_L45 (this : Nat) (Q : Int32 → Mem → Prop) (X : Mem → Prop) : Nat → Int32 → Int32 → Mem → Prop
  | 0, _, _, _ => False
  | n + 1, v1, v2, M => if (60 : Int32) ≤ v2 then (∃ n19 : Nat, w_Works_fewest_L72 this Q X n19 v1 (0 : Int32) M) else (w_Works_isRule this v2 (fun r21 M20 => if r21 = 0 then (w_Works_fewest_j64 this Q X (w_Works_fewest_L45 this Q X n) v1 v2 M20) else (w_Works_meetOne this v2 (fun M23 => w_Works_fewest_j64 this Q X (w_Works_fewest_L45 this Q X n) v1 v2 M23) X M20)) M)
def w_Works_fewest_L4 (this : Nat) (Q : Int32 → Mem → Prop) (X : Mem → Prop) : Nat → Int32 → Int32 → Mem → Prop
  | 0, _, _, _ => False
  | n + 1, v1, v2, M => if (mI M 10 this 10) ≤ v2 then (mL M 103 this < 2 ^ 31 ∧ ∃ M2, M2 = flI M 103 this (1000 : Int32) ∧ vp_in (0 : Int32) (mL M2 103 this) ∧ ∃ n24 : Nat, w_Works_fewest_L45 this Q X n24 v1 (1 : Int32) (sI M2 103 this (0 : Int32).toNatClampNeg (0 : Int32))) else (w_Works_breaksFound this v2 (fun r26 M25 => (w_Works_fewest_L4 this Q X n) (v1 ||| r26) (v2 + (1 : Int32)) M25) X M)
def w_Works_fewest (this : Nat) (Q : Int32 → Mem → Prop) (X : Mem → Prop) (M : Mem) : Prop :=
  ∃ n27 : Nat, w_Works_fewest_L4 this Q X n27 (0 : Int32) (0 : Int32) M
set_option maxRecDepth 4096 in
theorem lk_Works_fewest_L98 {γ : Gm} (hγ : Gk γ) (this : Nat) (Q : Int32 → Mem → Prop) (X : Mem → Prop) (k72 : Int32 → Int32 → Mem → Prop) (k80 : Int32 → Int32 → Int32 → Mem → Prop) (hk72 : ∀ (v1 : Int32) (v2 : Int32) (M : Mem), k72 v1 v2 M → E γ k_Works_fewest 143 72 [some (vr (some (10, this))), some (vi v1), some (vi v2), none, none, none] [] M (Qx (9, 0) (Qi Q) X)) (hk80 : ∀ (v1 : Int32) (v2 : Int32) (v3 : Int32) (M : Mem), k80 v1 v2 v3 M → E γ k_Works_fewest 143 80 [some (vr (some (10, this))), some (vi v1), some (vi v2), some (vi v3), none, none] [] M (Qx (9, 0) (Qi Q) X)) : ∀ (n : Nat) (v1 : Int32) (v2 : Int32) (v3 : Int32) (v4 : Int32) (v5 : Int32) (M : Mem), w_Works_fewest_L98 this Q X k72 k80 n v1 v2 v3 v4 v5 M → E γ k_Works_fewest 143 98 [some (vr (some (10, this))), some (vi v1), some (vi v2), some (vi v3), some (vi v4), some (vi v5)] [] M (Qx (9, 0) (Qi Q) X) := by
  intro n
  induction n with
  | zero => intro v1 v2 v3 v4 v5 M h; exact h.elim
  | succ n ih =>
    intro v1 v2 v3 v4 v5 M h
    unfold w_Works_fewest_L98 at h
    refine E_blk (lv' := [some (vr (some (10, this))), some (vi v1), some (vi v2), some (vi v3), some (vi v4), some (vi v5)]) (st' := [vi (256 : Int32), vi v5]) (M1 := M) (pc' := 103) (tb_Works hγ) [.iload 5, .sipush 256] (by decide +kernel) rfl rfl trivial ?_
    refine E_icmp_ge (off := 41) (tgt := 144) (by decide +kernel) (by decide) (fun b11 => ?_) (fun b11 => ?_)
    · rw [if_pos b11] at h
      refine E_blk (lv' := [some (vr (some (10, this))), some (vi v1), some (vi v2), some (vi (v3 + (1 : Int32))), some (vi v4), some (vi v5)]) (st' := []) (M1 := M) (pc' := 147) (tb_Works hγ) [.iinc 3 1] (by decide +kernel) rfl rfl trivial ?_
      refine E_goto (off := -67) (tgt := 80) (by decide +kernel) (by decide) ?_
      refine E_mask [true, true, true, true, false, false] rfl ?_
      exact hk80 v1 v2 (v3 + (1 : Int32)) M h
    · rw [if_neg b11] at h
      obtain ⟨c12, c13, h⟩ := h
      refine E_blk (lv' := [some (vr (some (10, this))), some (vi v1), some (vi v2), some (vi v3), some (vi v4), some (vi v5)]) (st' := [vi ((mI M 103 this v5.toNatClampNeg) + (1 : Int32)), vi (mI M 103 this (v5 ||| v4).toNatClampNeg), vi (v5 ||| v4), vr (some (103, this))]) (M1 := M) (pc' := 134) (tb_Works hγ) [.aload_n 0, .getfield 115, .iload 5, .iload 4, .ior, .aload_n 0, .getfield 115, .iload 5, .iload 4, .ior, .iaload, .aload_n 0, .getfield 115, .iload 5, .iaload, .iconst 1, .iadd] (by decide +kernel) rfl rfl ⟨c12, c13, trivial⟩ ?_
      refine E_callS (κ' := k_JMath_min) (As := [vi (mI M 103 this (v5 ||| v4).toNatClampNeg), vi ((mI M 103 this v5.toNatClampNeg) + (1 : Int32))]) (st := [vi (v5 ||| v4), vr (some (103, this))]) ms_JMath_min (Or.inl (tbk_mem (j := 7) (k := 71) rfl)) rfl (by decide +kernel) (Nat.le_of_ble_eq_true rfl) (Nat.le_of_ble_eq_true rfl) rfl (by decide) (lk_JMath_min hγ (mI M 103 this (v5 ||| v4).toNatClampNeg) ((mI M 103 this v5.toNatClampNeg) + (1 : Int32)) _ M h) (fun _ _ => Qi_r) (fun v M14 hp => Qi_k (R := fun st => E γ k_Works_fewest 143 137 [some (vr (some (10, this))), some (vi v1), some (vi v2), some (vi v3), some (vi v4), some (vi v5)] st M14 (Qx (9, 0) (Qi Q) X)) hp (fun r15 h => ?_))
      obtain ⟨c16, h⟩ := h
      refine E_blk (lv' := [some (vr (some (10, this))), some (vi v1), some (vi v2), some (vi v3), some (vi v4), some (vi (v5 + (1 : Int32)))]) (st' := []) (M1 := (sI M14 103 this (v5 ||| v4).toNatClampNeg r15)) (pc' := 141) (tb_Works hγ) [.iastore, .iinc 5 1] (by decide +kernel) rfl rfl ⟨c16, trivial⟩ ?_
      refine E_goto (off := -43) (tgt := 98) (by decide +kernel) (by decide) ?_
      refine E_mask [true, true, true, true, true, true] rfl ?_
      exact ih v1 v2 v3 v4 (v5 + (1 : Int32)) (sI M14 103 this (v5 ||| v4).toNatClampNeg r15) h
set_option maxRecDepth 4096 in
theorem lk_Works_fewest_L80 {γ : Gm} (hγ : Gk γ) (this : Nat) (Q : Int32 → Mem → Prop) (X : Mem → Prop) (k72 : Int32 → Int32 → Mem → Prop) (hk72 : ∀ (v1 : Int32) (v2 : Int32) (M : Mem), k72 v1 v2 M → E γ k_Works_fewest 143 72 [some (vr (some (10, this))), some (vi v1), some (vi v2), none, none, none] [] M (Qx (9, 0) (Qi Q) X)) : ∀ (n : Nat) (v1 : Int32) (v2 : Int32) (v3 : Int32) (M : Mem), w_Works_fewest_L80 this Q X k72 n v1 v2 v3 M → E γ k_Works_fewest 143 80 [some (vr (some (10, this))), some (vi v1), some (vi v2), some (vi v3), none, none] [] M (Qx (9, 0) (Qi Q) X) := by
  intro n
  induction n with
  | zero => intro v1 v2 v3 M h; exact h.elim
  | succ n ih =>
    intro v1 v2 v3 M h
    unfold w_Works_fewest_L80 at h
    refine E_blk (lv' := [some (vr (some (10, this))), some (vi v1), some (vi v2), some (vi v3), none, none]) (st' := [vi (mI M 10 this 10), vi v3]) (M1 := M) (pc' := 85) (tb_Works hγ) [.iload_n 3, .aload_n 0, .getfield 230] (by decide +kernel) rfl rfl trivial ?_
    refine E_icmp_ge (off := 65) (tgt := 150) (by decide +kernel) (by decide) (fun b8 => ?_) (fun b8 => ?_)
    · rw [if_pos b8] at h
      refine E_blk (lv' := [some (vr (some (10, this))), some (vi v1), some (vi (v2 + (1 : Int32))), some (vi v3), none, none]) (st' := []) (M1 := M) (pc' := 153) (tb_Works hγ) [.iinc 2 1] (by decide +kernel) rfl rfl trivial ?_
      refine E_goto (off := -81) (tgt := 72) (by decide +kernel) (by decide) ?_
      refine E_mask [true, true, true, false, false, false] rfl ?_
      exact hk72 v1 (v2 + (1 : Int32)) M h
    · rw [if_neg b8] at h
      refine E_blk (lv' := [some (vr (some (10, this))), some (vi v1), some (vi v2), some (vi v3), none, none]) (st' := [vi v3, vr (some (10, this))]) (M1 := M) (pc' := 90) (tb_Works hγ) [.aload_n 0, .iload_n 3] (by decide +kernel) rfl rfl trivial ?_
      refine E_callX (κ' := k_Works_breaksFound) (As := [vi v3]) (st := []) mv_Works_breaksFound (Or.inl (tbk_mem (j := 10) (k := 160) rfl)) rfl (by decide +kernel) (Nat.le_of_ble_eq_true rfl) (Nat.le_of_ble_eq_true rfl) rfl (by decide) rfl (lk_Works_breaksFound hγ this v3 _ _ M h) (fun _ _ => Qi_r) (fun _ h => h) (fun v M9 hp => Qi_k (R := fun st => E γ k_Works_fewest 143 93 [some (vr (some (10, this))), some (vi v1), some (vi v2), some (vi v3), none, none] st M9 (Qx (9, 0) (Qi Q) X)) hp (fun r10 h => ?_))
      refine E_blk (lv' := [some (vr (some (10, this))), some (vi v1), some (vi v2), some (vi v3), some (vi r10), some (vi (0 : Int32))]) (st' := []) (M1 := M9) (pc' := 98) (tb_Works hγ) [.istore 4, .iconst 0, .istore 5] (by decide +kernel) rfl rfl trivial ?_
      obtain ⟨n17, h⟩ := h
      refine E_mask [true, true, true, true, true, true] rfl ?_
      exact lk_Works_fewest_L98 hγ this Q X k72 (w_Works_fewest_L80 this Q X k72 n) hk72 ih n17 v1 v2 v3 r10 (0 : Int32) M9 h
set_option maxRecDepth 4096 in
theorem lk_Works_fewest_L72 {γ : Gm} (hγ : Gk γ) (this : Nat) (Q : Int32 → Mem → Prop) (X : Mem → Prop) : ∀ (n : Nat) (v1 : Int32) (v2 : Int32) (M : Mem), w_Works_fewest_L72 this Q X n v1 v2 M → E γ k_Works_fewest 143 72 [some (vr (some (10, this))), some (vi v1), some (vi v2), none, none, none] [] M (Qx (9, 0) (Qi Q) X) := by
  intro n
  induction n with
  | zero => intro v1 v2 M h; exact h.elim
  | succ n ih =>
    intro v1 v2 M h
    unfold w_Works_fewest_L72 at h
    refine E_blk (lv' := [some (vr (some (10, this))), some (vi v1), some (vi v2), none, none, none]) (st' := [vi (8 : Int32), vi v2]) (M1 := M) (pc' := 75) (tb_Works hγ) [.iload_n 2, .bipush 8] (by decide +kernel) rfl rfl trivial ?_
    refine E_icmp_ge (off := 81) (tgt := 156) (by decide +kernel) (by decide) (fun b6 => ?_) (fun b6 => ?_)
    · rw [if_pos b6] at h
      obtain ⟨c7, h⟩ := h
      refine E_blk (lv' := [some (vr (some (10, this))), some (vi v1), some (vi v2), none, none, none]) (st' := [vi (mI M 103 this v1.toNatClampNeg)]) (M1 := M) (pc' := 162) (tb_Works hγ) [.aload_n 0, .getfield 115, .iload_n 1, .iaload] (by decide +kernel) rfl rfl ⟨c7, trivial⟩ ?_
      exact (E_iret rfl (by decide +kernel) h).nx
    · rw [if_neg b6] at h
      refine E_blk (lv' := [some (vr (some (10, this))), some (vi v1), some (vi v2), some (vi (0 : Int32)), none, none]) (st' := []) (M1 := M) (pc' := 80) (tb_Works hγ) [.iconst 0, .istore_n 3] (by decide +kernel) rfl rfl trivial ?_
      obtain ⟨n18, h⟩ := h
      refine E_mask [true, true, true, true, false, false] rfl ?_
      exact lk_Works_fewest_L80 hγ this Q X (w_Works_fewest_L72 this Q X n) ih n18 v1 v2 (0 : Int32) M h
set_option maxRecDepth 4096 in
theorem lk_Works_fewest_j64 {γ : Gm} (hγ : Gk γ) (this : Nat) (Q : Int32 → Mem → Prop) (X : Mem → Prop) (k45 : Int32 → Int32 → Mem → Prop) (hk45 : ∀ (v1 : Int32) (v2 : Int32) (M : Mem), k45 v1 v2 M → E γ k_Works_fewest 143 45 [some (vr (some (10, this))), some (vi v1), some (vi v2), none, none, none] [] M (Qx (9, 0) (Qi Q) X)) (v1 : Int32) (v2 : Int32) (M : Mem) (h : w_Works_fewest_j64 this Q X k45 v1 v2 M) : E γ k_Works_fewest 143 64 [some (vr (some (10, this))), some (vi v1), some (vi v2), none, none, none] [] M (Qx (9, 0) (Qi Q) X) := by
  unfold w_Works_fewest_j64 at h
  refine E_blk (lv' := [some (vr (some (10, this))), some (vi v1), some (vi (v2 + (1 : Int32))), none, none, none]) (st' := []) (M1 := M) (pc' := 67) (tb_Works hγ) [.iinc 2 1] (by decide +kernel) rfl rfl trivial ?_
  refine E_goto (off := -22) (tgt := 45) (by decide +kernel) (by decide) ?_
  refine E_mask [true, true, true, false, false, false] rfl ?_
  exact hk45 v1 (v2 + (1 : Int32)) M h
set_option maxRecDepth 4096 in
theorem lk_Works_fewest_L45 {γ : Gm} (hγ : Gk γ) (this : Nat) (Q : Int32 → Mem → Prop) (X : Mem → Prop) : ∀ (n : Nat) (v1 : Int32) (v2 : Int32) (M : Mem), w_Works_fewest_L45 this Q X n v1 v2 M → E γ k_Works_fewest 143 45 [some (vr (some (10, this))), some (vi v1), some (vi v2), none, none, none] [] M (Qx (9, 0) (Qi Q) X) := by
  intro n
  induction n with
  | zero => intro v1 v2 M h; exact h.elim
  | succ n ih =>
    intro v1 v2 M h
    unfold w_Works_fewest_L45 at h
    refine E_blk (lv' := [some (vr (some (10, this))), some (vi v1), some (vi v2), none, none, none]) (st' := [vi (60 : Int32), vi v2]) (M1 := M) (pc' := 48) (tb_Works hγ) [.iload_n 2, .bipush 60] (by decide +kernel) rfl rfl trivial ?_
    refine E_icmp_ge (off := 22) (tgt := 70) (by decide +kernel) (by decide) (fun b5 => ?_) (fun b5 => ?_)
    · rw [if_pos b5] at h
      refine E_blk (lv' := [some (vr (some (10, this))), some (vi v1), some (vi (0 : Int32)), none, none, none]) (st' := []) (M1 := M) (pc' := 72) (tb_Works hγ) [.iconst 0, .istore_n 2] (by decide +kernel) rfl rfl trivial ?_
      obtain ⟨n19, h⟩ := h
      refine E_mask [true, true, true, false, false, false] rfl ?_
      exact lk_Works_fewest_L72 hγ this Q X n19 v1 (0 : Int32) M h
    · rw [if_neg b5] at h
      refine E_blk (lv' := [some (vr (some (10, this))), some (vi v1), some (vi v2), none, none, none]) (st' := [vi v2, vr (some (10, this))]) (M1 := M) (pc' := 53) (tb_Works hγ) [.aload_n 0, .iload_n 2] (by decide +kernel) rfl rfl trivial ?_
      refine E_callV (κ' := k_Works_isRule) (As := [vi v2]) (st := []) mv_Works_isRule (Or.inl (tbk_mem (j := 10) (k := 189) rfl)) rfl (by decide +kernel) (Nat.le_of_ble_eq_true rfl) (Nat.le_of_ble_eq_true rfl) rfl (by decide) (lk_Works_isRule hγ this v2 _ M h) (fun _ _ => Qi_r) (fun v M20 hp => Qi_k (R := fun st => E γ k_Works_fewest 143 56 [some (vr (some (10, this))), some (vi v1), some (vi v2), none, none, none] st M20 (Qx (9, 0) (Qi Q) X)) hp (fun r21 h => ?_))
      refine E_if_eq (off := 8) (tgt := 64) (by decide +kernel) (by decide) (fun b22 => ?_) (fun b22 => ?_)
      · rw [if_pos b22] at h
        refine E_mask [true, true, true, false, false, false] rfl ?_
        exact lk_Works_fewest_j64 hγ this Q X (w_Works_fewest_L45 this Q X n) ih v1 v2 M20 h
      · rw [if_neg b22] at h
        refine E_blk (lv' := [some (vr (some (10, this))), some (vi v1), some (vi v2), none, none, none]) (st' := [vi v2, vr (some (10, this))]) (M1 := M20) (pc' := 61) (tb_Works hγ) [.aload_n 0, .iload_n 2] (by decide +kernel) rfl rfl trivial ?_
        refine E_callX (κ' := k_Works_meetOne) (As := [vi v2]) (st := []) mv_Works_meetOne (Or.inl (tbk_mem (j := 10) (k := 193) rfl)) rfl (by decide +kernel) (Nat.le_of_ble_eq_true rfl) (Nat.le_of_ble_eq_true rfl) rfl (by decide) rfl (lk_Works_meetOne hγ this v2 _ _ M20 h) (fun _ _ => Qv_r) (fun _ h => h) (fun v M23 hp => Qv_k (R := fun st => E γ k_Works_fewest 143 64 [some (vr (some (10, this))), some (vi v1), some (vi v2), none, none, none] st M23 (Qx (9, 0) (Qi Q) X)) hp (fun h => ?_))
        refine E_mask [true, true, true, false, false, false] rfl ?_
        exact lk_Works_fewest_j64 hγ this Q X (w_Works_fewest_L45 this Q X n) ih v1 v2 M23 h
set_option maxRecDepth 4096 in
theorem lk_Works_fewest_L4 {γ : Gm} (hγ : Gk γ) (this : Nat) (Q : Int32 → Mem → Prop) (X : Mem → Prop) : ∀ (n : Nat) (v1 : Int32) (v2 : Int32) (M : Mem), w_Works_fewest_L4 this Q X n v1 v2 M → E γ k_Works_fewest 143 4 [some (vr (some (10, this))), some (vi v1), some (vi v2), none, none, none] [] M (Qx (9, 0) (Qi Q) X) := by
  intro n
  induction n with
  | zero => intro v1 v2 M h; exact h.elim
  | succ n ih =>
    intro v1 v2 M h
    unfold w_Works_fewest_L4 at h
    refine E_blk (lv' := [some (vr (some (10, this))), some (vi v1), some (vi v2), none, none, none]) (st' := [vi (mI M 10 this 10), vi v2]) (M1 := M) (pc' := 9) (tb_Works hγ) [.iload_n 2, .aload_n 0, .getfield 230] (by decide +kernel) rfl rfl trivial ?_
    refine E_icmp_ge (off := 17) (tgt := 26) (by decide +kernel) (by decide) (fun b1 => ?_) (fun b1 => ?_)
    · rw [if_pos b1] at h
      refine E_blk (lv' := [some (vr (some (10, this))), some (vi v1), some (vi v2), none, none, none]) (st' := [vi (1000 : Int32), vr (some (103, this))]) (M1 := M) (pc' := 33) (tb_Works hγ) [.aload_n 0, .getfield 115, .sipush 1000] (by decide +kernel) rfl rfl trivial ?_
      obtain ⟨c3, M2, eM2, h⟩ := h
      refine E_fillI (st := []) (by decide) (by decide) c3 (tbk_mem (j := 10) (k := 188) rfl) (by decide +kernel) (Nat.le_of_ble_eq_true rfl) ?_
      rw [← eM2]
      obtain ⟨c4, h⟩ := h
      refine E_blk (lv' := [some (vr (some (10, this))), some (vi v1), some (vi (1 : Int32)), none, none, none]) (st' := []) (M1 := (sI M2 103 this (0 : Int32).toNatClampNeg (0 : Int32))) (pc' := 45) (tb_Works hγ) [.aload_n 0, .getfield 115, .iconst 0, .iconst 0, .iastore, .iconst 1, .istore_n 2] (by decide +kernel) rfl rfl ⟨c4, trivial⟩ ?_
      obtain ⟨n24, h⟩ := h
      refine E_mask [true, true, true, false, false, false] rfl ?_
      exact lk_Works_fewest_L45 hγ this Q X n24 v1 (1 : Int32) (sI M2 103 this (0 : Int32).toNatClampNeg (0 : Int32)) h
    · rw [if_neg b1] at h
      refine E_blk (lv' := [some (vr (some (10, this))), some (vi v1), some (vi v2), none, none, none]) (st' := [vi v2, vr (some (10, this)), vi v1]) (M1 := M) (pc' := 15) (tb_Works hγ) [.iload_n 1, .aload_n 0, .iload_n 2] (by decide +kernel) rfl rfl trivial ?_
      refine E_callX (κ' := k_Works_breaksFound) (As := [vi v2]) (st := [vi v1]) mv_Works_breaksFound (Or.inl (tbk_mem (j := 10) (k := 160) rfl)) rfl (by decide +kernel) (Nat.le_of_ble_eq_true rfl) (Nat.le_of_ble_eq_true rfl) rfl (by decide) rfl (lk_Works_breaksFound hγ this v2 _ _ M h) (fun _ _ => Qi_r) (fun _ h => h) (fun v M25 hp => Qi_k (R := fun st => E γ k_Works_fewest 143 18 [some (vr (some (10, this))), some (vi v1), some (vi v2), none, none, none] st M25 (Qx (9, 0) (Qi Q) X)) hp (fun r26 h => ?_))
      refine E_blk (lv' := [some (vr (some (10, this))), some (vi (v1 ||| r26)), some (vi (v2 + (1 : Int32))), none, none, none]) (st' := []) (M1 := M25) (pc' := 23) (tb_Works hγ) [.ior, .istore_n 1, .iinc 2 1] (by decide +kernel) rfl rfl trivial ?_
      refine E_goto (off := -19) (tgt := 4) (by decide +kernel) (by decide) ?_
      refine E_mask [true, true, true, false, false, false] rfl ?_
      exact ih (v1 ||| r26) (v2 + (1 : Int32)) M25 h
set_option maxRecDepth 4096 in
theorem lk_Works_fewest {γ : Gm} (hγ : Gk γ) (this : Nat) (Q : Int32 → Mem → Prop) (X : Mem → Prop) (M : Mem) (h : w_Works_fewest this Q X M) : E γ k_Works_fewest 143 0 [some (vr (some (10, this))), none, none, none, none, none] [] M (Qx (9, 0) (Qi Q) X) := by
  unfold w_Works_fewest at h
  refine E_blk (lv' := [some (vr (some (10, this))), some (vi (0 : Int32)), some (vi (0 : Int32)), none, none, none]) (st' := []) (M1 := M) (pc' := 4) (tb_Works hγ) [.iconst 0, .istore_n 1, .iconst 0, .istore_n 2] (by decide +kernel) rfl rfl trivial ?_
  obtain ⟨n27, h⟩ := h
  refine E_mask [true, true, true, false, false, false] rfl ?_
  exact lk_Works_fewest_L4 hγ this Q X n27 (0 : Int32) (0 : Int32) M h
def w_Works_lineFrom_L11 (this : Nat) (Q : Int32 → Mem → Prop) (k5 : Nat → Int32 → Int32 → Int32 → Mem → Prop) : Nat → Nat → Int32 → Int32 → Int32 → Mem → Prop
  | 0, _, _, _, _, _ => False
  | n + 1, v1, v2, v3, v4, M => vp_in v3 (mL M 400 v1) ∧ if (mI M 400 v1 v3.toNatClampNeg) = (10 : Int32) then (k5 v1 v2 (v3 + (1 : Int32)) (v4 + (1 : Int32)) M) else ((w_Works_lineFrom_L11 this Q k5 n) v1 v2 (v3 + (1 : Int32)) v4 M)
def w_Works_lineFrom_L5 (this : Nat) (Q : Int32 → Mem → Prop) : Nat → Nat → Int32 → Int32 → Int32 → Mem → Prop
  | 0, _, _, _, _, _ => False
  | n + 1, v1, v2, v3, v4, M => if v2 ≤ v4 then (Q v3 M) else (∃ n4 : Nat, w_Works_lineFrom_L11 this Q (w_Works_lineFrom_L5 this Q n) n4 v1 v2 v3 v4 M)
def w_Works_lineFrom (this : Nat) (a1 : Nat) (a2 : Int32) (Q : Int32 → Mem → Prop) (M : Mem) : Prop :=
  ∃ n5 : Nat, w_Works_lineFrom_L5 this Q n5 a1 a2 (0 : Int32) (0 : Int32) M
set_option maxRecDepth 4096 in
theorem lk_Works_lineFrom_L11 {γ : Gm} (hγ : Gk γ) (this : Nat) (Q : Int32 → Mem → Prop) (k5 : Nat → Int32 → Int32 → Int32 → Mem → Prop) (hk5 : ∀ (v1 : Nat) (v2 : Int32) (v3 : Int32) (v4 : Int32) (M : Mem), k5 v1 v2 v3 v4 M → E γ k_Works_lineFrom 0 5 [none, some (vr (some (400, v1))), some (vi v2), some (vi v3), some (vi v4)] [] M (Qi Q)) : ∀ (n : Nat) (v1 : Nat) (v2 : Int32) (v3 : Int32) (v4 : Int32) (M : Mem), w_Works_lineFrom_L11 this Q k5 n v1 v2 v3 v4 M → E γ k_Works_lineFrom 0 11 [none, some (vr (some (400, v1))), some (vi v2), some (vi v3), some (vi v4)] [] M (Qi Q) := by
  intro n
  induction n with
  | zero => intro v1 v2 v3 v4 M h; exact h.elim
  | succ n ih =>
    intro v1 v2 v3 v4 M h
    unfold w_Works_lineFrom_L11 at h
    obtain ⟨c2, h⟩ := h
    refine E_blk (lv' := [none, some (vr (some (400, v1))), some (vi v2), some (vi v3), some (vi v4)]) (st' := [vi (10 : Int32), vi (mI M 400 v1 v3.toNatClampNeg)]) (M1 := M) (pc' := 16) (tb_Works hγ) [.aload_n 1, .iload_n 3, .baload, .bipush 10] (by decide +kernel) rfl rfl ⟨c2, trivial⟩ ?_
    refine E_icmp_eq (off := 9) (tgt := 25) (by decide +kernel) (by decide) (fun b3 => ?_) (fun b3 => ?_)
    · rw [if_pos b3] at h
      refine E_blk (lv' := [none, some (vr (some (400, v1))), some (vi v2), some (vi (v3 + (1 : Int32))), some (vi (v4 + (1 : Int32)))]) (st' := []) (M1 := M) (pc' := 31) (tb_Works hγ) [.iinc 3 1, .iinc 4 1] (by decide +kernel) rfl rfl trivial ?_
      refine E_goto (off := -26) (tgt := 5) (by decide +kernel) (by decide) ?_
      refine E_mask [false, true, true, true, true] rfl ?_
      exact hk5 v1 v2 (v3 + (1 : Int32)) (v4 + (1 : Int32)) M h
    · rw [if_neg b3] at h
      refine E_blk (lv' := [none, some (vr (some (400, v1))), some (vi v2), some (vi (v3 + (1 : Int32))), some (vi v4)]) (st' := []) (M1 := M) (pc' := 22) (tb_Works hγ) [.iinc 3 1] (by decide +kernel) rfl rfl trivial ?_
      refine E_goto (off := -11) (tgt := 11) (by decide +kernel) (by decide) ?_
      refine E_mask [false, true, true, true, true] rfl ?_
      exact ih v1 v2 (v3 + (1 : Int32)) v4 M h
set_option maxRecDepth 4096 in
theorem lk_Works_lineFrom_L5 {γ : Gm} (hγ : Gk γ) (this : Nat) (Q : Int32 → Mem → Prop) : ∀ (n : Nat) (v1 : Nat) (v2 : Int32) (v3 : Int32) (v4 : Int32) (M : Mem), w_Works_lineFrom_L5 this Q n v1 v2 v3 v4 M → E γ k_Works_lineFrom 0 5 [none, some (vr (some (400, v1))), some (vi v2), some (vi v3), some (vi v4)] [] M (Qi Q) := by
  intro n
  induction n with
  | zero => intro v1 v2 v3 v4 M h; exact h.elim
  | succ n ih =>
    intro v1 v2 v3 v4 M h
    unfold w_Works_lineFrom_L5 at h
    refine E_blk (lv' := [none, some (vr (some (400, v1))), some (vi v2), some (vi v3), some (vi v4)]) (st' := [vi v2, vi v4]) (M1 := M) (pc' := 8) (tb_Works hγ) [.iload 4, .iload_n 2] (by decide +kernel) rfl rfl trivial ?_
    refine E_icmp_ge (off := 26) (tgt := 34) (by decide +kernel) (by decide) (fun b1 => ?_) (fun b1 => ?_)
    · rw [if_pos b1] at h
      refine E_blk (lv' := [none, some (vr (some (400, v1))), some (vi v2), some (vi v3), some (vi v4)]) (st' := [vi v3]) (M1 := M) (pc' := 35) (tb_Works hγ) [.iload_n 3] (by decide +kernel) rfl rfl trivial ?_
      exact E_iret rfl (by decide +kernel) h
    · rw [if_neg b1] at h
      obtain ⟨n4, h⟩ := h
      refine E_mask [false, true, true, true, true] rfl ?_
      exact lk_Works_lineFrom_L11 hγ this Q (w_Works_lineFrom_L5 this Q n) ih n4 v1 v2 v3 v4 M h
set_option maxRecDepth 4096 in
theorem lk_Works_lineFrom {γ : Gm} (hγ : Gk γ) (this : Nat) (a1 : Nat) (a2 : Int32) (Q : Int32 → Mem → Prop) (M : Mem) (h : w_Works_lineFrom this a1 a2 Q M) : E γ k_Works_lineFrom 0 0 [some (vr (some (10, this))), some (vr (some (400, a1))), some (vi a2), none, none] [] M (Qi Q) := by
  unfold w_Works_lineFrom at h
  refine E_blk (lv' := [some (vr (some (10, this))), some (vr (some (400, a1))), some (vi a2), some (vi (0 : Int32)), some (vi (0 : Int32))]) (st' := []) (M1 := M) (pc' := 5) (tb_Works hγ) [.iconst 0, .istore_n 3, .iconst 0, .istore 4] (by decide +kernel) rfl rfl trivial ?_
  obtain ⟨n5, h⟩ := h
  refine E_mask [false, true, true, true, true] rfl ?_
  exact lk_Works_lineFrom_L5 hγ this Q n5 a1 a2 (0 : Int32) (0 : Int32) M h
def w_Works_lines_j33 (this : Nat) (Q : Int32 → Mem → Prop) (k4 : Int32 → Int32 → Int32 → Mem → Prop) (v1 : Int32) (v3 : Int32) (s0 : Int32) (s1 : Int32) (M : Mem) : Prop :=
  k4 v1 (s1 + s0) (v3 + (1 : Int32)) M
def w_Works_lines_L4 (this : Nat) (Q : Int32 → Mem → Prop) : Nat → Int32 → Int32 → Int32 → Mem → Prop
  | 0, _, _, _, _ => False
  | n + 1, v1, v2, v3, M => vp_in v1 (mL M 98 this) ∧ if (mI M 98 this v1.toNatClampNeg) ≤ v3 then (Q v2 M) else (vp_in v1 (mL M 701 0) ∧ ∃ i4, (mR M 701 0 v1.toNatClampNeg) = some (400, i4) ∧ vp_in v3 (mL M 400 i4) ∧ if (mI M 400 i4 v3.toNatClampNeg) = (10 : Int32) then (w_Works_lines_j33 this Q (w_Works_lines_L4 this Q n) v1 v3 (1 : Int32) v2 M) else (w_Works_lines_j33 this Q (w_Works_lines_L4 this Q n) v1 v3 (0 : Int32) v2 M))
def w_Works_lines (this : Nat) (a1 : Int32) (Q : Int32 → Mem → Prop) (M : Mem) : Prop :=
  ∃ n7 : Nat, w_Works_lines_L4 this Q n7 a1 (0 : Int32) (0 : Int32) M
set_option maxRecDepth 4096 in
theorem lk_Works_lines_j33 {γ : Gm} (hγ : Gk γ) (this : Nat) (Q : Int32 → Mem → Prop) (k4 : Int32 → Int32 → Int32 → Mem → Prop) (hk4 : ∀ (v1 : Int32) (v2 : Int32) (v3 : Int32) (M : Mem), k4 v1 v2 v3 M → E γ k_Works_lines 0 4 [some (vr (some (10, this))), some (vi v1), some (vi v2), some (vi v3)] [] M (Qi Q)) (v1 : Int32) (v3 : Int32) (s0 : Int32) (s1 : Int32) (M : Mem) (h : w_Works_lines_j33 this Q k4 v1 v3 s0 s1 M) : E γ k_Works_lines 0 33 [some (vr (some (10, this))), some (vi v1), none, some (vi v3)] [vi s0, vi s1] M (Qi Q) := by
  unfold w_Works_lines_j33 at h
  refine E_blk (lv' := [some (vr (some (10, this))), some (vi v1), some (vi (s1 + s0)), some (vi (v3 + (1 : Int32)))]) (st' := []) (M1 := M) (pc' := 38) (tb_Works hγ) [.iadd, .istore_n 2, .iinc 3 1] (by decide +kernel) rfl rfl trivial ?_
  refine E_goto (off := -34) (tgt := 4) (by decide +kernel) (by decide) ?_
  refine E_mask [true, true, true, true] rfl ?_
  exact hk4 v1 (s1 + s0) (v3 + (1 : Int32)) M h
set_option maxRecDepth 4096 in
theorem lk_Works_lines_L4 {γ : Gm} (hγ : Gk γ) (this : Nat) (Q : Int32 → Mem → Prop) : ∀ (n : Nat) (v1 : Int32) (v2 : Int32) (v3 : Int32) (M : Mem), w_Works_lines_L4 this Q n v1 v2 v3 M → E γ k_Works_lines 0 4 [some (vr (some (10, this))), some (vi v1), some (vi v2), some (vi v3)] [] M (Qi Q) := by
  intro n
  induction n with
  | zero => intro v1 v2 v3 M h; exact h.elim
  | succ n ih =>
    intro v1 v2 v3 M h
    unfold w_Works_lines_L4 at h
    obtain ⟨c1, h⟩ := h
    refine E_blk (lv' := [some (vr (some (10, this))), some (vi v1), some (vi v2), some (vi v3)]) (st' := [vi (mI M 98 this v1.toNatClampNeg), vi v3]) (M1 := M) (pc' := 11) (tb_Works hγ) [.iload_n 3, .aload_n 0, .getfield 70, .iload_n 1, .iaload] (by decide +kernel) rfl rfl ⟨c1, trivial⟩ ?_
    refine E_icmp_ge (off := 30) (tgt := 41) (by decide +kernel) (by decide) (fun b2 => ?_) (fun b2 => ?_)
    · rw [if_pos b2] at h
      refine E_blk (lv' := [some (vr (some (10, this))), some (vi v1), some (vi v2), some (vi v3)]) (st' := [vi v2]) (M1 := M) (pc' := 42) (tb_Works hγ) [.iload_n 2] (by decide +kernel) rfl rfl trivial ?_
      exact E_iret rfl (by decide +kernel) h
    · rw [if_neg b2] at h
      obtain ⟨c3, h⟩ := h
      refine E_blk (lv' := [some (vr (some (10, this))), some (vi v1), some (vi v2), some (vi v3)]) (st' := [vr (mR M 701 0 v1.toNatClampNeg), vi v2]) (M1 := M) (pc' := 21) (tb_Works hγ) [.iload_n 2, .aload_n 0, .getfield 67, .iload_n 1, .aaload] (by decide +kernel) rfl rfl ⟨c3, trivial⟩ ?_
      obtain ⟨i4, ei4, h⟩ := h
      rw [ei4]
      obtain ⟨c5, h⟩ := h
      refine E_blk (lv' := [some (vr (some (10, this))), some (vi v1), some (vi v2), some (vi v3)]) (st' := [vi (10 : Int32), vi (mI M 400 i4 v3.toNatClampNeg), vi v2]) (M1 := M) (pc' := 25) (tb_Works hγ) [.iload_n 3, .baload, .bipush 10] (by decide +kernel) rfl rfl ⟨c5, trivial⟩ ?_
      refine E_icmp_ne (off := 7) (tgt := 32) (by decide +kernel) (by decide) (fun b6 => ?_) (fun b6 => ?_)
      · rw [if_pos b6] at h
        refine E_blk (lv' := [some (vr (some (10, this))), some (vi v1), some (vi v2), some (vi v3)]) (st' := [vi (1 : Int32), vi v2]) (M1 := M) (pc' := 29) (tb_Works hγ) [.iconst 1] (by decide +kernel) rfl rfl trivial ?_
        refine E_goto (off := 4) (tgt := 33) (by decide +kernel) (by decide) ?_
        refine E_mask [true, true, false, true] rfl ?_
        exact lk_Works_lines_j33 hγ this Q (w_Works_lines_L4 this Q n) ih v1 v3 (1 : Int32) v2 M h
      · rw [if_neg b6] at h
        refine E_blk (lv' := [some (vr (some (10, this))), some (vi v1), some (vi v2), some (vi v3)]) (st' := [vi (0 : Int32), vi v2]) (M1 := M) (pc' := 33) (tb_Works hγ) [.iconst 0] (by decide +kernel) rfl rfl trivial ?_
        refine E_mask [true, true, false, true] rfl ?_
        exact lk_Works_lines_j33 hγ this Q (w_Works_lines_L4 this Q n) ih v1 v3 (0 : Int32) v2 M h
set_option maxRecDepth 4096 in
theorem lk_Works_lines {γ : Gm} (hγ : Gk γ) (this : Nat) (a1 : Int32) (Q : Int32 → Mem → Prop) (M : Mem) (h : w_Works_lines this a1 Q M) : E γ k_Works_lines 0 0 [some (vr (some (10, this))), some (vi a1), none, none] [] M (Qi Q) := by
  unfold w_Works_lines at h
  refine E_blk (lv' := [some (vr (some (10, this))), some (vi a1), some (vi (0 : Int32)), some (vi (0 : Int32))]) (st' := []) (M1 := M) (pc' := 4) (tb_Works hγ) [.iconst 0, .istore_n 2, .iconst 0, .istore_n 3] (by decide +kernel) rfl rfl trivial ?_
  obtain ⟨n7, h⟩ := h
  refine E_mask [true, true, true, true] rfl ?_
  exact lk_Works_lines_L4 hγ this Q n7 a1 (0 : Int32) (0 : Int32) M h
def w_Works_copyLine (this : Nat) (a1 : Nat) (a2 : Int32) (Q : Mem → Prop) (M : Mem) : Prop :=
  w_Works_lineFrom this a1 a2 (fun r2 M1 => w_Works_lineFrom this a1 (a2 + (1 : Int32)) (fun r4 M3 => ¬ r2 < 0 ∧ ¬ (mI M3 10 this 30) < 0 ∧ ¬ (r4 - r2) < 0 ∧ r2.toNatClampNeg + (r4 - r2).toNatClampNeg ≤ mL M3 400 a1 ∧ (mI M3 10 this 30).toNatClampNeg + (r4 - r2).toNatClampNeg ≤ mL M3 400 41 ∧ ∃ M5, M5 = cpI M3 400 a1 r2.toNatClampNeg 400 41 (mI M3 10 this 30).toNatClampNeg (r4 - r2).toNatClampNeg ∧ Q (sI M5 10 this 30 ((mI M5 10 this 30) + (r4 - r2)))) M1) M
set_option maxRecDepth 4096 in
theorem lk_Works_copyLine {γ : Gm} (hγ : Gk γ) (this : Nat) (a1 : Nat) (a2 : Int32) (Q : Mem → Prop) (M : Mem) (h : w_Works_copyLine this a1 a2 Q M) : E γ k_Works_copyLine 1 0 [some (vr (some (10, this))), some (vr (some (400, a1))), some (vi a2), none, none] [] M (Qv Q) := by
  unfold w_Works_copyLine at h
  refine E_blk (lv' := [some (vr (some (10, this))), some (vr (some (400, a1))), some (vi a2), none, none]) (st' := [vi a2, vr (some (400, a1)), vr (some (10, this))]) (M1 := M) (pc' := 3) (tb_Works hγ) [.aload_n 0, .aload_n 1, .iload_n 2] (by decide +kernel) rfl rfl trivial ?_
  refine E_callV (κ' := k_Works_lineFrom) (As := [vr (some (400, a1)), vi a2]) (st := []) mv_Works_lineFrom (Or.inl (tbk_mem (j := 10) (k := 218) rfl)) rfl (by decide +kernel) (Nat.le_of_ble_eq_true rfl) (Nat.le_of_ble_eq_true rfl) rfl (by decide) (lk_Works_lineFrom hγ this a1 a2 _ M h) (fun _ _ => Qi_r) (fun v M1 hp => Qi_k (R := fun st => E γ k_Works_copyLine 1 6 [some (vr (some (10, this))), some (vr (some (400, a1))), some (vi a2), none, none] st M1 (Qv Q)) hp (fun r2 h => ?_))
  refine E_blk (lv' := [some (vr (some (10, this))), some (vr (some (400, a1))), some (vi a2), some (vi r2), none]) (st' := [vi (a2 + (1 : Int32)), vr (some (400, a1)), vr (some (10, this))]) (M1 := M1) (pc' := 12) (tb_Works hγ) [.istore_n 3, .aload_n 0, .aload_n 1, .iload_n 2, .iconst 1, .iadd] (by decide +kernel) rfl rfl trivial ?_
  refine E_callV (κ' := k_Works_lineFrom) (As := [vr (some (400, a1)), vi (a2 + (1 : Int32))]) (st := []) mv_Works_lineFrom (Or.inl (tbk_mem (j := 10) (k := 218) rfl)) rfl (by decide +kernel) (Nat.le_of_ble_eq_true rfl) (Nat.le_of_ble_eq_true rfl) rfl (by decide) (lk_Works_lineFrom hγ this a1 (a2 + (1 : Int32)) _ M1 h) (fun _ _ => Qi_r) (fun v M3 hp => Qi_k (R := fun st => E γ k_Works_copyLine 1 15 [some (vr (some (10, this))), some (vr (some (400, a1))), some (vi a2), some (vi r2), none] st M3 (Qv Q)) hp (fun r4 h => ?_))
  refine E_blk (lv' := [some (vr (some (10, this))), some (vr (some (400, a1))), some (vi a2), some (vi r2), some (vi r4)]) (st' := [vi (r4 - r2), vi (mI M3 10 this 30), vr (some (400, 41)), vi r2, vr (some (400, a1))]) (M1 := M3) (pc' := 31) (tb_Works hγ) [.istore 4, .aload_n 1, .iload_n 3, .aload_n 0, .getfield 82, .aload_n 0, .getfield 638, .iload 4, .iload_n 3, .isub] (by decide +kernel) rfl rfl trivial ?_
  obtain ⟨c6, c7, c8, c9, c10, M5, eM5, h⟩ := h
  refine E_copy (pc := 31) (κ := k_Works_copyLine) (f := 400) (i := a1) (g := 400) (j := 41) (sp := r2) (dp := (mI M3 10 this 30)) (n := (r4 - r2)) (idx := 628) (st := []) c6 c7 c8 c9 c10 (by decide) (by decide) rfl (by decide) (tbk_mem (j := 10) (k := 201) rfl) (by decide +kernel) (Nat.le_of_ble_eq_true rfl) ?_
  rw [← eM5]
  refine E_blk (lv' := [some (vr (some (10, this))), some (vr (some (400, a1))), some (vi a2), some (vi r2), some (vi r4)]) (st' := []) (M1 := (sI M5 10 this 30 ((mI M5 10 this 30) + (r4 - r2)))) (pc' := 47) (tb_Works hγ) [.aload_n 0, .dup, .getfield 638, .iload 4, .iload_n 3, .isub, .iadd, .putfield 638] (by decide +kernel) rfl rfl trivial ?_
  exact E_vret rfl (by decide +kernel) h
def w_Works_lengthOf (this : Nat) (a1 : Nat) (a2 : Int32) (Q : Int32 → Mem → Prop) (M : Mem) : Prop :=
  w_Works_lineFrom this a1 (a2 + (1 : Int32)) (fun r2 M1 => w_Works_lineFrom this a1 a2 (fun r4 M3 => Q (r2 - r4) M3) M1) M
set_option maxRecDepth 4096 in
theorem lk_Works_lengthOf {γ : Gm} (hγ : Gk γ) (this : Nat) (a1 : Nat) (a2 : Int32) (Q : Int32 → Mem → Prop) (M : Mem) (h : w_Works_lengthOf this a1 a2 Q M) : E γ k_Works_lengthOf 1 0 [some (vr (some (10, this))), some (vr (some (400, a1))), some (vi a2)] [] M (Qi Q) := by
  unfold w_Works_lengthOf at h
  refine E_blk (lv' := [some (vr (some (10, this))), some (vr (some (400, a1))), some (vi a2)]) (st' := [vi (a2 + (1 : Int32)), vr (some (400, a1)), vr (some (10, this))]) (M1 := M) (pc' := 5) (tb_Works hγ) [.aload_n 0, .aload_n 1, .iload_n 2, .iconst 1, .iadd] (by decide +kernel) rfl rfl trivial ?_
  refine E_callV (κ' := k_Works_lineFrom) (As := [vr (some (400, a1)), vi (a2 + (1 : Int32))]) (st := []) mv_Works_lineFrom (Or.inl (tbk_mem (j := 10) (k := 218) rfl)) rfl (by decide +kernel) (Nat.le_of_ble_eq_true rfl) (Nat.le_of_ble_eq_true rfl) rfl (by decide) (lk_Works_lineFrom hγ this a1 (a2 + (1 : Int32)) _ M h) (fun _ _ => Qi_r) (fun v M1 hp => Qi_k (R := fun st => E γ k_Works_lengthOf 1 8 [some (vr (some (10, this))), some (vr (some (400, a1))), some (vi a2)] st M1 (Qi Q)) hp (fun r2 h => ?_))
  refine E_blk (lv' := [some (vr (some (10, this))), some (vr (some (400, a1))), some (vi a2)]) (st' := [vi a2, vr (some (400, a1)), vr (some (10, this)), vi r2]) (M1 := M1) (pc' := 11) (tb_Works hγ) [.aload_n 0, .aload_n 1, .iload_n 2] (by decide +kernel) rfl rfl trivial ?_
  refine E_callV (κ' := k_Works_lineFrom) (As := [vr (some (400, a1)), vi a2]) (st := [vi r2]) mv_Works_lineFrom (Or.inl (tbk_mem (j := 10) (k := 218) rfl)) rfl (by decide +kernel) (Nat.le_of_ble_eq_true rfl) (Nat.le_of_ble_eq_true rfl) rfl (by decide) (lk_Works_lineFrom hγ this a1 a2 _ M1 h) (fun _ _ => Qi_r) (fun v M3 hp => Qi_k (R := fun st => E γ k_Works_lengthOf 1 14 [some (vr (some (10, this))), some (vr (some (400, a1))), some (vi a2)] st M3 (Qi Q)) hp (fun r4 h => ?_))
  refine E_blk (lv' := [some (vr (some (10, this))), some (vr (some (400, a1))), some (vi a2)]) (st' := [vi (r2 - r4)]) (M1 := M3) (pc' := 15) (tb_Works hγ) [.isub] (by decide +kernel) rfl rfl trivial ?_
  exact E_iret rfl (by decide +kernel) h
def w_Works_forget_L2 (this : Nat) (Q : Mem → Prop) : Nat → Int32 → Int32 → Mem → Prop
  | 0, _, _, _ => False
  | n + 1, v1, v2, M => if (9 : Int32) ≤ v2 then (Q M) else (vp_in (((9 : Int32) * v1) + v2) (mL M 516 this) ∧ ∃ M3, M3 = (sI M 516 this (((9 : Int32) * v1) + v2).toNatClampNeg ((0 : Int32) &&& 1)) ∧ (w_Works_forget_L2 this Q n) v1 (v2 + (1 : Int32)) M3)
def w_Works_forget (this : Nat) (a1 : Int32) (Q : Mem → Prop) (M : Mem) : Prop :=
  ∃ n4 : Nat, w_Works_forget_L2 this Q n4 a1 (0 : Int32) M
set_option maxRecDepth 4096 in
theorem lk_Works_forget_L2 {γ : Gm} (hγ : Gk γ) (this : Nat) (Q : Mem → Prop) : ∀ (n : Nat) (v1 : Int32) (v2 : Int32) (M : Mem), w_Works_forget_L2 this Q n v1 v2 M → E γ k_Works_forget 0 2 [some (vr (some (10, this))), some (vi v1), some (vi v2)] [] M (Qv Q) := by
  intro n
  induction n with
  | zero => intro v1 v2 M h; exact h.elim
  | succ n ih =>
    intro v1 v2 M h
    unfold w_Works_forget_L2 at h
    refine E_blk (lv' := [some (vr (some (10, this))), some (vi v1), some (vi v2)]) (st' := [vi (9 : Int32), vi v2]) (M1 := M) (pc' := 5) (tb_Works hγ) [.iload_n 2, .bipush 9] (by decide +kernel) rfl rfl trivial ?_
    refine E_icmp_ge (off := 21) (tgt := 26) (by decide +kernel) (by decide) (fun b1 => ?_) (fun b1 => ?_)
    · rw [if_pos b1] at h
      exact E_vret rfl (by decide +kernel) h
    · rw [if_neg b1] at h
      obtain ⟨c2, h⟩ := h
      refine E_blk (lv' := [some (vr (some (10, this))), some (vi v1), some (vi v2)]) (st' := []) (M1 := (sI M 516 this (((9 : Int32) * v1) + v2).toNatClampNeg ((0 : Int32) &&& 1))) (pc' := 20) (tb_Works hγ) [.aload_n 0, .getfield 73, .bipush 9, .iload_n 1, .imul, .iload_n 2, .iadd, .iconst 0, .bastore] (by decide +kernel) rfl rfl ⟨c2, trivial⟩ ?_
      obtain ⟨M3, eM3, h⟩ := h
      rw [← eM3]
      refine E_blk (lv' := [some (vr (some (10, this))), some (vi v1), some (vi (v2 + (1 : Int32)))]) (st' := []) (M1 := M3) (pc' := 23) (tb_Works hγ) [.iinc 2 1] (by decide +kernel) rfl rfl trivial ?_
      refine E_goto (off := -21) (tgt := 2) (by decide +kernel) (by decide) ?_
      refine E_mask [true, true, true] rfl ?_
      exact ih v1 (v2 + (1 : Int32)) M3 h
set_option maxRecDepth 4096 in
theorem lk_Works_forget {γ : Gm} (hγ : Gk γ) (this : Nat) (a1 : Int32) (Q : Mem → Prop) (M : Mem) (h : w_Works_forget this a1 Q M) : E γ k_Works_forget 0 0 [some (vr (some (10, this))), some (vi a1), none] [] M (Qv Q) := by
  unfold w_Works_forget at h
  refine E_blk (lv' := [some (vr (some (10, this))), some (vi a1), some (vi (0 : Int32))]) (st' := []) (M1 := M) (pc' := 2) (tb_Works hγ) [.iconst 0, .istore_n 2] (by decide +kernel) rfl rfl trivial ?_
  obtain ⟨n4, h⟩ := h
  refine E_mask [true, true, true] rfl ?_
  exact lk_Works_forget_L2 hγ this Q n4 a1 (0 : Int32) M h
def w_Works_change_j276 (this : Nat) (Q : Int32 → Mem → Prop) (k182 : Int32 → Int32 → Int32 → Int32 → Nat → Int32 → Mem → Prop) (v2 : Int32) (v3 : Int32) (v4 : Int32) (v5 : Int32) (v7 : Nat) (v9 : Int32) (M : Mem) : Prop :=
  k182 v2 v3 v4 v5 v7 (v9 + (1 : Int32)) M
def w_Works_change_j247 (this : Nat) (Q : Int32 → Mem → Prop) (k182 : Int32 → Int32 → Int32 → Int32 → Nat → Int32 → Mem → Prop) (v2 : Int32) (v3 : Int32) (v4 : Int32) (v5 : Int32) (v7 : Nat) (v9 : Int32) (s0 : Int32) (M : Mem) : Prop :=
  w_Works_copyLine this v7 s0 (fun M39 => if v9 = v3 then (if v2 = (1 : Int32) then (w_Works_copyLine this v7 v9 (fun M42 => w_Works_change_j276 this Q k182 v2 v3 v4 v5 v7 v9 M42) M39) else (w_Works_change_j276 this Q k182 v2 v3 v4 v5 v7 v9 M39)) else (w_Works_change_j276 this Q k182 v2 v3 v4 v5 v7 v9 M39)) M
def w_Works_change_j224 (this : Nat) (Q : Int32 → Mem → Prop) (k182 : Int32 → Int32 → Int32 → Int32 → Nat → Int32 → Mem → Prop) (v2 : Int32) (v3 : Int32) (v4 : Int32) (v5 : Int32) (v7 : Nat) (v9 : Int32) (M : Mem) : Prop :=
  w_Works_change_j247 this Q k182 v2 v3 v4 v5 v7 v9 v4 M
def w_Works_change_j245 (this : Nat) (Q : Int32 → Mem → Prop) (k182 : Int32 → Int32 → Int32 → Int32 → Nat → Int32 → Mem → Prop) (v2 : Int32) (v3 : Int32) (v4 : Int32) (v5 : Int32) (v7 : Nat) (v9 : Int32) (M : Mem) : Prop :=
  w_Works_change_j247 this Q k182 v2 v3 v4 v5 v7 v9 v9 M
def w_Works_change_j229 (this : Nat) (Q : Int32 → Mem → Prop) (k182 : Int32 → Int32 → Int32 → Int32 → Nat → Int32 → Mem → Prop) (v2 : Int32) (v3 : Int32) (v4 : Int32) (v5 : Int32) (v7 : Nat) (v9 : Int32) (M : Mem) : Prop :=
  if v2 = (2 : Int32) then (if v9 = v4 then (w_Works_change_j247 this Q k182 v2 v3 v4 v5 v7 v9 v3 M) else (w_Works_change_j245 this Q k182 v2 v3 v4 v5 v7 v9 M)) else (w_Works_change_j245 this Q k182 v2 v3 v4 v5 v7 v9 M)
def w_Works_change_j213 (this : Nat) (Q : Int32 → Mem → Prop) (k182 : Int32 → Int32 → Int32 → Int32 → Nat → Int32 → Mem → Prop) (v2 : Int32) (v3 : Int32) (v4 : Int32) (v5 : Int32) (v7 : Nat) (v9 : Int32) (M : Mem) : Prop :=
  if v2 = (3 : Int32) then (if v9 = v3 then (w_Works_change_j224 this Q k182 v2 v3 v4 v5 v7 v9 M) else (w_Works_change_j229 this Q k182 v2 v3 v4 v5 v7 v9 M)) else (w_Works_change_j229 this Q k182 v2 v3 v4 v5 v7 v9 M)
def w_Works_change_j202 (this : Nat) (Q : Int32 → Mem → Prop) (k182 : Int32 → Int32 → Int32 → Int32 → Nat → Int32 → Mem → Prop) (v2 : Int32) (v3 : Int32) (v4 : Int32) (v5 : Int32) (v7 : Nat) (v9 : Int32) (M : Mem) : Prop :=
  if v2 = (2 : Int32) then (if v9 = v3 then (w_Works_change_j224 this Q k182 v2 v3 v4 v5 v7 v9 M) else (w_Works_change_j213 this Q k182 v2 v3 v4 v5 v7 v9 M)) else (w_Works_change_j213 this Q k182 v2 v3 v4 v5 v7 v9 M)
def w_Works_change_L182 (this : Nat) (Q : Int32 → Mem → Prop) : Nat → Int32 → Int32 → Int32 → Int32 → Nat → Int32 → Mem → Prop
  | 0, _, _, _, _, _, _, _ => False
  | n + 1, v2, v3, v4, v5, v7, v9, M => if v5 ≤ v9 then (vp_in (mI M 10 this 10) (mL M 701 0) ∧ ∃ i26, (mR M 701 0 (mI M 10 this 10).toNatClampNeg) = some (400, i26) ∧ ¬ (0 : Int32) < 0 ∧ ¬ (0 : Int32) < 0 ∧ ¬ (mI M 10 this 30) < 0 ∧ (0 : Int32).toNatClampNeg + (mI M 10 this 30).toNatClampNeg ≤ mL M 400 41 ∧ (0 : Int32).toNatClampNeg + (mI M 10 this 30).toNatClampNeg ≤ mL M 400 i26 ∧ ∃ M27, M27 = cpI M 400 41 (0 : Int32).toNatClampNeg 400 i26 (0 : Int32).toNatClampNeg (mI M 10 this 30).toNatClampNeg ∧ vp_in (mI M27 10 this 10) (mL M27 98 this) ∧ w_Works_forget this (mI (sI M27 98 this (mI M27 10 this 10).toNatClampNeg (mI M27 10 this 30)) 10 this 10) (fun M34 => Q ((mI (sI M34 10 this 10 ((mI M34 10 this 10) + (1 : Int32))) 10 this 10) - (1 : Int32)) (sI M34 10 this 10 ((mI M34 10 this 10) + (1 : Int32)))) (sI M27 98 this (mI M27 10 this 10).toNatClampNeg (mI M27 10 this 30))) else (if v9 = v3 then (if v2 = 0 then (w_Works_change_j276 this Q (w_Works_change_L182 this Q n) v2 v3 v4 v5 v7 v9 M) else (w_Works_change_j202 this Q (w_Works_change_L182 this Q n) v2 v3 v4 v5 v7 v9 M)) else (w_Works_change_j202 this Q (w_Works_change_L182 this Q n) v2 v3 v4 v5 v7 v9 M))
def w_Works_change_j174 (this : Nat) (Q : Int32 → Mem → Prop) (v2 : Int32) (v3 : Int32) (v4 : Int32) (v5 : Int32) (v7 : Nat) (M : Mem) : Prop :=
  ∃ n47 : Nat, w_Works_change_L182 this Q n47 v2 v3 v4 v5 v7 (0 : Int32) (sI M 10 this 30 (0 : Int32))
def w_Works_change_j133 (this : Nat) (Q : Int32 → Mem → Prop) (v1 : Int32) (v2 : Int32) (v3 : Int32) (v4 : Int32) (v5 : Int32) (v7 : Nat) (s0 : Int32) (M : Mem) : Prop :=
  if (mI M 10 this 10) = (40 : Int32) then (Q (-3 : Int32) M) else (vp_in v1 (mL M 98 this) ∧ if (1200 : Int32) < ((mI M 98 this v1.toNatClampNeg) + s0) then (Q (-3 : Int32) M) else (if v2 = (1 : Int32) then (if v5 = (60 : Int32) then (Q (-3 : Int32) M) else (w_Works_change_j174 this Q v2 v3 v4 v5 v7 M)) else (w_Works_change_j174 this Q v2 v3 v4 v5 v7 M)))
def w_Works_change_j70 (this : Nat) (Q : Int32 → Mem → Prop) (v1 : Int32) (v2 : Int32) (v3 : Int32) (v4 : Int32) (v5 : Int32) (M : Mem) : Prop :=
  vp_in v1 (mL M 701 0) ∧ ∃ i15, (mR M 701 0 v1.toNatClampNeg) = some (400, i15) ∧ if v2 = 0 then (w_Works_lengthOf this i15 v3 (fun r18 M17 => w_Works_change_j133 this Q v1 v2 v3 v4 v5 i15 (-r18) M17) M) else (if v2 = (1 : Int32) then (w_Works_lengthOf this i15 v3 (fun r50 M49 => w_Works_change_j133 this Q v1 v2 v3 v4 v5 i15 r50 M49) M) else (if v2 = (3 : Int32) then (w_Works_lengthOf this i15 v4 (fun r53 M52 => w_Works_lengthOf this i15 v3 (fun r55 M54 => w_Works_change_j133 this Q v1 v2 v3 v4 v5 i15 (r53 - r55) M54) M52) M) else (w_Works_change_j133 this Q v1 v2 v3 v4 v5 i15 (0 : Int32) M)))
def w_Works_change_j36 (this : Nat) (Q : Int32 → Mem → Prop) (v1 : Int32) (v2 : Int32) (v3 : Int32) (v4 : Int32) (v5 : Int32) (s0 : Int32) (M : Mem) : Prop :=
  w_Works_isIn v3 (0 : Int32) (v5 - (2 : Int32)) (fun r11 M10 => if r11 = 0 then (Q (-1 : Int32) M10) else (if s0 = 0 then (w_Works_change_j70 this Q v1 v2 v3 v4 v5 M10) else (w_Works_isIn v4 (0 : Int32) (v5 - (2 : Int32)) (fun r57 M56 => if r57 = 0 then (Q (-1 : Int32) M56) else (w_Works_change_j70 this Q v1 v2 v3 v4 v5 M56)) M10))) M
def w_Works_change (this : Nat) (a1 : Int32) (a2 : Int32) (a3 : Int32) (a4 : Int32) (Q : Int32 → Mem → Prop) (M : Mem) : Prop :=
  w_Works_isTrial this a1 (fun r2 M1 => if r2 = 0 then (Q (-1 : Int32) M1) else (w_Works_isIn a2 (0 : Int32) (3 : Int32) (fun r5 M4 => if r5 = 0 then (Q (-1 : Int32) M4) else (w_Works_lines this a1 (fun r8 M7 => if a2 ≤ (1 : Int32) then (w_Works_change_j36 this Q a1 a2 a3 a4 r8 (0 : Int32) M7) else (w_Works_change_j36 this Q a1 a2 a3 a4 r8 (1 : Int32) M7)) M4)) M1)) M
set_option maxRecDepth 4096 in
theorem lk_Works_change_j276 {γ : Gm} (hγ : Gk γ) (this : Nat) (Q : Int32 → Mem → Prop) (k182 : Int32 → Int32 → Int32 → Int32 → Nat → Int32 → Mem → Prop) (hk182 : ∀ (v2 : Int32) (v3 : Int32) (v4 : Int32) (v5 : Int32) (v7 : Nat) (v9 : Int32) (M : Mem), k182 v2 v3 v4 v5 v7 v9 M → E γ k_Works_change 2 182 [some (vr (some (10, this))), none, some (vi v2), some (vi v3), some (vi v4), some (vi v5), none, some (vr (some (400, v7))), none, some (vi v9), none] [] M (Qi Q)) (v2 : Int32) (v3 : Int32) (v4 : Int32) (v5 : Int32) (v7 : Nat) (v9 : Int32) (M : Mem) (h : w_Works_change_j276 this Q k182 v2 v3 v4 v5 v7 v9 M) : E γ k_Works_change 2 276 [some (vr (some (10, this))), none, some (vi v2), some (vi v3), some (vi v4), some (vi v5), none, some (vr (some (400, v7))), none, some (vi v9), none] [] M (Qi Q) := by
  unfold w_Works_change_j276 at h
  refine E_blk (lv' := [some (vr (some (10, this))), none, some (vi v2), some (vi v3), some (vi v4), some (vi v5), none, some (vr (some (400, v7))), none, some (vi (v9 + (1 : Int32))), none]) (st' := []) (M1 := M) (pc' := 279) (tb_Works hγ) [.iinc 9 1] (by decide +kernel) rfl rfl trivial ?_
  refine E_goto (off := -97) (tgt := 182) (by decide +kernel) (by decide) ?_
  refine E_mask [true, false, true, true, true, true, false, true, false, true, false] rfl ?_
  exact hk182 v2 v3 v4 v5 v7 (v9 + (1 : Int32)) M h
set_option maxRecDepth 4096 in
theorem lk_Works_change_j247 {γ : Gm} (hγ : Gk γ) (this : Nat) (Q : Int32 → Mem → Prop) (k182 : Int32 → Int32 → Int32 → Int32 → Nat → Int32 → Mem → Prop) (hk182 : ∀ (v2 : Int32) (v3 : Int32) (v4 : Int32) (v5 : Int32) (v7 : Nat) (v9 : Int32) (M : Mem), k182 v2 v3 v4 v5 v7 v9 M → E γ k_Works_change 2 182 [some (vr (some (10, this))), none, some (vi v2), some (vi v3), some (vi v4), some (vi v5), none, some (vr (some (400, v7))), none, some (vi v9), none] [] M (Qi Q)) (v2 : Int32) (v3 : Int32) (v4 : Int32) (v5 : Int32) (v7 : Nat) (v9 : Int32) (s0 : Int32) (M : Mem) (h : w_Works_change_j247 this Q k182 v2 v3 v4 v5 v7 v9 s0 M) : E γ k_Works_change 2 247 [some (vr (some (10, this))), none, some (vi v2), some (vi v3), some (vi v4), some (vi v5), none, some (vr (some (400, v7))), none, some (vi v9), none] [vi s0] M (Qi Q) := by
  unfold w_Works_change_j247 at h
  refine E_blk (lv' := [some (vr (some (10, this))), none, some (vi v2), some (vi v3), some (vi v4), some (vi v5), none, some (vr (some (400, v7))), none, some (vi v9), some (vi s0)]) (st' := [vi s0, vr (some (400, v7)), vr (some (10, this))]) (M1 := M) (pc' := 254) (tb_Works hγ) [.istore 10, .aload_n 0, .aload 7, .iload 10] (by decide +kernel) rfl rfl trivial ?_
  refine E_callV (κ' := k_Works_copyLine) (As := [vr (some (400, v7)), vi s0]) (st := []) mv_Works_copyLine (Or.inl (tbk_mem (j := 10) (k := 222) rfl)) rfl (by decide +kernel) (Nat.le_of_ble_eq_true rfl) (Nat.le_of_ble_eq_true rfl) rfl (by decide) (lk_Works_copyLine hγ this v7 s0 _ M h) (fun _ _ => Qv_r) (fun v M39 hp => Qv_k (R := fun st => E γ k_Works_change 2 257 [some (vr (some (10, this))), none, some (vi v2), some (vi v3), some (vi v4), some (vi v5), none, some (vr (some (400, v7))), none, some (vi v9), some (vi s0)] st M39 (Qi Q)) hp (fun h => ?_))
  refine E_blk (lv' := [some (vr (some (10, this))), none, some (vi v2), some (vi v3), some (vi v4), some (vi v5), none, some (vr (some (400, v7))), none, some (vi v9), some (vi s0)]) (st' := [vi v3, vi v9]) (M1 := M39) (pc' := 260) (tb_Works hγ) [.iload 9, .iload_n 3] (by decide +kernel) rfl rfl trivial ?_
  refine E_icmp_ne (off := 16) (tgt := 276) (by decide +kernel) (by decide) (fun b40 => ?_) (fun b40 => ?_)
  · rw [if_pos b40] at h
    refine E_blk (lv' := [some (vr (some (10, this))), none, some (vi v2), some (vi v3), some (vi v4), some (vi v5), none, some (vr (some (400, v7))), none, some (vi v9), some (vi s0)]) (st' := [vi (1 : Int32), vi v2]) (M1 := M39) (pc' := 265) (tb_Works hγ) [.iload_n 2, .iconst 1] (by decide +kernel) rfl rfl trivial ?_
    refine E_icmp_ne (off := 11) (tgt := 276) (by decide +kernel) (by decide) (fun b41 => ?_) (fun b41 => ?_)
    · rw [if_pos b41] at h
      refine E_blk (lv' := [some (vr (some (10, this))), none, some (vi v2), some (vi v3), some (vi v4), some (vi v5), none, some (vr (some (400, v7))), none, some (vi v9), some (vi s0)]) (st' := [vi v9, vr (some (400, v7)), vr (some (10, this))]) (M1 := M39) (pc' := 273) (tb_Works hγ) [.aload_n 0, .aload 7, .iload 9] (by decide +kernel) rfl rfl trivial ?_
      refine E_callV (κ' := k_Works_copyLine) (As := [vr (some (400, v7)), vi v9]) (st := []) mv_Works_copyLine (Or.inl (tbk_mem (j := 10) (k := 222) rfl)) rfl (by decide +kernel) (Nat.le_of_ble_eq_true rfl) (Nat.le_of_ble_eq_true rfl) rfl (by decide) (lk_Works_copyLine hγ this v7 v9 _ M39 h) (fun _ _ => Qv_r) (fun v M42 hp => Qv_k (R := fun st => E γ k_Works_change 2 276 [some (vr (some (10, this))), none, some (vi v2), some (vi v3), some (vi v4), some (vi v5), none, some (vr (some (400, v7))), none, some (vi v9), some (vi s0)] st M42 (Qi Q)) hp (fun h => ?_))
      refine E_mask [true, false, true, true, true, true, false, true, false, true, false] rfl ?_
      exact lk_Works_change_j276 hγ this Q k182 hk182 v2 v3 v4 v5 v7 v9 M42 h
    · rw [if_neg b41] at h
      refine E_mask [true, false, true, true, true, true, false, true, false, true, false] rfl ?_
      exact lk_Works_change_j276 hγ this Q k182 hk182 v2 v3 v4 v5 v7 v9 M39 h
  · rw [if_neg b40] at h
    refine E_mask [true, false, true, true, true, true, false, true, false, true, false] rfl ?_
    exact lk_Works_change_j276 hγ this Q k182 hk182 v2 v3 v4 v5 v7 v9 M39 h
set_option maxRecDepth 4096 in
theorem lk_Works_change_j224 {γ : Gm} (hγ : Gk γ) (this : Nat) (Q : Int32 → Mem → Prop) (k182 : Int32 → Int32 → Int32 → Int32 → Nat → Int32 → Mem → Prop) (hk182 : ∀ (v2 : Int32) (v3 : Int32) (v4 : Int32) (v5 : Int32) (v7 : Nat) (v9 : Int32) (M : Mem), k182 v2 v3 v4 v5 v7 v9 M → E γ k_Works_change 2 182 [some (vr (some (10, this))), none, some (vi v2), some (vi v3), some (vi v4), some (vi v5), none, some (vr (some (400, v7))), none, some (vi v9), none] [] M (Qi Q)) (v2 : Int32) (v3 : Int32) (v4 : Int32) (v5 : Int32) (v7 : Nat) (v9 : Int32) (M : Mem) (h : w_Works_change_j224 this Q k182 v2 v3 v4 v5 v7 v9 M) : E γ k_Works_change 2 224 [some (vr (some (10, this))), none, some (vi v2), some (vi v3), some (vi v4), some (vi v5), none, some (vr (some (400, v7))), none, some (vi v9), none] [] M (Qi Q) := by
  unfold w_Works_change_j224 at h
  refine E_blk (lv' := [some (vr (some (10, this))), none, some (vi v2), some (vi v3), some (vi v4), some (vi v5), none, some (vr (some (400, v7))), none, some (vi v9), none]) (st' := [vi v4]) (M1 := M) (pc' := 226) (tb_Works hγ) [.iload 4] (by decide +kernel) rfl rfl trivial ?_
  refine E_goto (off := 21) (tgt := 247) (by decide +kernel) (by decide) ?_
  refine E_mask [true, false, true, true, true, true, false, true, false, true, false] rfl ?_
  exact lk_Works_change_j247 hγ this Q k182 hk182 v2 v3 v4 v5 v7 v9 v4 M h
set_option maxRecDepth 4096 in
theorem lk_Works_change_j245 {γ : Gm} (hγ : Gk γ) (this : Nat) (Q : Int32 → Mem → Prop) (k182 : Int32 → Int32 → Int32 → Int32 → Nat → Int32 → Mem → Prop) (hk182 : ∀ (v2 : Int32) (v3 : Int32) (v4 : Int32) (v5 : Int32) (v7 : Nat) (v9 : Int32) (M : Mem), k182 v2 v3 v4 v5 v7 v9 M → E γ k_Works_change 2 182 [some (vr (some (10, this))), none, some (vi v2), some (vi v3), some (vi v4), some (vi v5), none, some (vr (some (400, v7))), none, some (vi v9), none] [] M (Qi Q)) (v2 : Int32) (v3 : Int32) (v4 : Int32) (v5 : Int32) (v7 : Nat) (v9 : Int32) (M : Mem) (h : w_Works_change_j245 this Q k182 v2 v3 v4 v5 v7 v9 M) : E γ k_Works_change 2 245 [some (vr (some (10, this))), none, some (vi v2), some (vi v3), some (vi v4), some (vi v5), none, some (vr (some (400, v7))), none, some (vi v9), none] [] M (Qi Q) := by
  unfold w_Works_change_j245 at h
  refine E_blk (lv' := [some (vr (some (10, this))), none, some (vi v2), some (vi v3), some (vi v4), some (vi v5), none, some (vr (some (400, v7))), none, some (vi v9), none]) (st' := [vi v9]) (M1 := M) (pc' := 247) (tb_Works hγ) [.iload 9] (by decide +kernel) rfl rfl trivial ?_
  refine E_mask [true, false, true, true, true, true, false, true, false, true, false] rfl ?_
  exact lk_Works_change_j247 hγ this Q k182 hk182 v2 v3 v4 v5 v7 v9 v9 M h
set_option maxRecDepth 4096 in
theorem lk_Works_change_j229 {γ : Gm} (hγ : Gk γ) (this : Nat) (Q : Int32 → Mem → Prop) (k182 : Int32 → Int32 → Int32 → Int32 → Nat → Int32 → Mem → Prop) (hk182 : ∀ (v2 : Int32) (v3 : Int32) (v4 : Int32) (v5 : Int32) (v7 : Nat) (v9 : Int32) (M : Mem), k182 v2 v3 v4 v5 v7 v9 M → E γ k_Works_change 2 182 [some (vr (some (10, this))), none, some (vi v2), some (vi v3), some (vi v4), some (vi v5), none, some (vr (some (400, v7))), none, some (vi v9), none] [] M (Qi Q)) (v2 : Int32) (v3 : Int32) (v4 : Int32) (v5 : Int32) (v7 : Nat) (v9 : Int32) (M : Mem) (h : w_Works_change_j229 this Q k182 v2 v3 v4 v5 v7 v9 M) : E γ k_Works_change 2 229 [some (vr (some (10, this))), none, some (vi v2), some (vi v3), some (vi v4), some (vi v5), none, some (vr (some (400, v7))), none, some (vi v9), none] [] M (Qi Q) := by
  unfold w_Works_change_j229 at h
  refine E_blk (lv' := [some (vr (some (10, this))), none, some (vi v2), some (vi v3), some (vi v4), some (vi v5), none, some (vr (some (400, v7))), none, some (vi v9), none]) (st' := [vi (2 : Int32), vi v2]) (M1 := M) (pc' := 231) (tb_Works hγ) [.iload_n 2, .iconst 2] (by decide +kernel) rfl rfl trivial ?_
  refine E_icmp_ne (off := 14) (tgt := 245) (by decide +kernel) (by decide) (fun b45 => ?_) (fun b45 => ?_)
  · rw [if_pos b45] at h
    refine E_blk (lv' := [some (vr (some (10, this))), none, some (vi v2), some (vi v3), some (vi v4), some (vi v5), none, some (vr (some (400, v7))), none, some (vi v9), none]) (st' := [vi v4, vi v9]) (M1 := M) (pc' := 238) (tb_Works hγ) [.iload 9, .iload 4] (by decide +kernel) rfl rfl trivial ?_
    refine E_icmp_ne (off := 7) (tgt := 245) (by decide +kernel) (by decide) (fun b46 => ?_) (fun b46 => ?_)
    · rw [if_pos b46] at h
      refine E_blk (lv' := [some (vr (some (10, this))), none, some (vi v2), some (vi v3), some (vi v4), some (vi v5), none, some (vr (some (400, v7))), none, some (vi v9), none]) (st' := [vi v3]) (M1 := M) (pc' := 242) (tb_Works hγ) [.iload_n 3] (by decide +kernel) rfl rfl trivial ?_
      refine E_goto (off := 5) (tgt := 247) (by decide +kernel) (by decide) ?_
      refine E_mask [true, false, true, true, true, true, false, true, false, true, false] rfl ?_
      exact lk_Works_change_j247 hγ this Q k182 hk182 v2 v3 v4 v5 v7 v9 v3 M h
    · rw [if_neg b46] at h
      refine E_mask [true, false, true, true, true, true, false, true, false, true, false] rfl ?_
      exact lk_Works_change_j245 hγ this Q k182 hk182 v2 v3 v4 v5 v7 v9 M h
  · rw [if_neg b45] at h
    refine E_mask [true, false, true, true, true, true, false, true, false, true, false] rfl ?_
    exact lk_Works_change_j245 hγ this Q k182 hk182 v2 v3 v4 v5 v7 v9 M h
set_option maxRecDepth 4096 in
theorem lk_Works_change_j213 {γ : Gm} (hγ : Gk γ) (this : Nat) (Q : Int32 → Mem → Prop) (k182 : Int32 → Int32 → Int32 → Int32 → Nat → Int32 → Mem → Prop) (hk182 : ∀ (v2 : Int32) (v3 : Int32) (v4 : Int32) (v5 : Int32) (v7 : Nat) (v9 : Int32) (M : Mem), k182 v2 v3 v4 v5 v7 v9 M → E γ k_Works_change 2 182 [some (vr (some (10, this))), none, some (vi v2), some (vi v3), some (vi v4), some (vi v5), none, some (vr (some (400, v7))), none, some (vi v9), none] [] M (Qi Q)) (v2 : Int32) (v3 : Int32) (v4 : Int32) (v5 : Int32) (v7 : Nat) (v9 : Int32) (M : Mem) (h : w_Works_change_j213 this Q k182 v2 v3 v4 v5 v7 v9 M) : E γ k_Works_change 2 213 [some (vr (some (10, this))), none, some (vi v2), some (vi v3), some (vi v4), some (vi v5), none, some (vr (some (400, v7))), none, some (vi v9), none] [] M (Qi Q) := by
  unfold w_Works_change_j213 at h
  refine E_blk (lv' := [some (vr (some (10, this))), none, some (vi v2), some (vi v3), some (vi v4), some (vi v5), none, some (vr (some (400, v7))), none, some (vi v9), none]) (st' := [vi (3 : Int32), vi v2]) (M1 := M) (pc' := 215) (tb_Works hγ) [.iload_n 2, .iconst 3] (by decide +kernel) rfl rfl trivial ?_
  refine E_icmp_ne (off := 14) (tgt := 229) (by decide +kernel) (by decide) (fun b43 => ?_) (fun b43 => ?_)
  · rw [if_pos b43] at h
    refine E_blk (lv' := [some (vr (some (10, this))), none, some (vi v2), some (vi v3), some (vi v4), some (vi v5), none, some (vr (some (400, v7))), none, some (vi v9), none]) (st' := [vi v3, vi v9]) (M1 := M) (pc' := 221) (tb_Works hγ) [.iload 9, .iload_n 3] (by decide +kernel) rfl rfl trivial ?_
    refine E_icmp_ne (off := 8) (tgt := 229) (by decide +kernel) (by decide) (fun b44 => ?_) (fun b44 => ?_)
    · rw [if_pos b44] at h
      refine E_mask [true, false, true, true, true, true, false, true, false, true, false] rfl ?_
      exact lk_Works_change_j224 hγ this Q k182 hk182 v2 v3 v4 v5 v7 v9 M h
    · rw [if_neg b44] at h
      refine E_mask [true, false, true, true, true, true, false, true, false, true, false] rfl ?_
      exact lk_Works_change_j229 hγ this Q k182 hk182 v2 v3 v4 v5 v7 v9 M h
  · rw [if_neg b43] at h
    refine E_mask [true, false, true, true, true, true, false, true, false, true, false] rfl ?_
    exact lk_Works_change_j229 hγ this Q k182 hk182 v2 v3 v4 v5 v7 v9 M h
set_option maxRecDepth 4096 in
theorem lk_Works_change_j202 {γ : Gm} (hγ : Gk γ) (this : Nat) (Q : Int32 → Mem → Prop) (k182 : Int32 → Int32 → Int32 → Int32 → Nat → Int32 → Mem → Prop) (hk182 : ∀ (v2 : Int32) (v3 : Int32) (v4 : Int32) (v5 : Int32) (v7 : Nat) (v9 : Int32) (M : Mem), k182 v2 v3 v4 v5 v7 v9 M → E γ k_Works_change 2 182 [some (vr (some (10, this))), none, some (vi v2), some (vi v3), some (vi v4), some (vi v5), none, some (vr (some (400, v7))), none, some (vi v9), none] [] M (Qi Q)) (v2 : Int32) (v3 : Int32) (v4 : Int32) (v5 : Int32) (v7 : Nat) (v9 : Int32) (M : Mem) (h : w_Works_change_j202 this Q k182 v2 v3 v4 v5 v7 v9 M) : E γ k_Works_change 2 202 [some (vr (some (10, this))), none, some (vi v2), some (vi v3), some (vi v4), some (vi v5), none, some (vr (some (400, v7))), none, some (vi v9), none] [] M (Qi Q) := by
  unfold w_Works_change_j202 at h
  refine E_blk (lv' := [some (vr (some (10, this))), none, some (vi v2), some (vi v3), some (vi v4), some (vi v5), none, some (vr (some (400, v7))), none, some (vi v9), none]) (st' := [vi (2 : Int32), vi v2]) (M1 := M) (pc' := 204) (tb_Works hγ) [.iload_n 2, .iconst 2] (by decide +kernel) rfl rfl trivial ?_
  refine E_icmp_ne (off := 9) (tgt := 213) (by decide +kernel) (by decide) (fun b37 => ?_) (fun b37 => ?_)
  · rw [if_pos b37] at h
    refine E_blk (lv' := [some (vr (some (10, this))), none, some (vi v2), some (vi v3), some (vi v4), some (vi v5), none, some (vr (some (400, v7))), none, some (vi v9), none]) (st' := [vi v3, vi v9]) (M1 := M) (pc' := 210) (tb_Works hγ) [.iload 9, .iload_n 3] (by decide +kernel) rfl rfl trivial ?_
    refine E_icmp_eq (off := 14) (tgt := 224) (by decide +kernel) (by decide) (fun b38 => ?_) (fun b38 => ?_)
    · rw [if_pos b38] at h
      refine E_mask [true, false, true, true, true, true, false, true, false, true, false] rfl ?_
      exact lk_Works_change_j224 hγ this Q k182 hk182 v2 v3 v4 v5 v7 v9 M h
    · rw [if_neg b38] at h
      refine E_mask [true, false, true, true, true, true, false, true, false, true, false] rfl ?_
      exact lk_Works_change_j213 hγ this Q k182 hk182 v2 v3 v4 v5 v7 v9 M h
  · rw [if_neg b37] at h
    refine E_mask [true, false, true, true, true, true, false, true, false, true, false] rfl ?_
    exact lk_Works_change_j213 hγ this Q k182 hk182 v2 v3 v4 v5 v7 v9 M h
set_option maxRecDepth 4096 in
theorem lk_Works_change_L182 {γ : Gm} (hγ : Gk γ) (this : Nat) (Q : Int32 → Mem → Prop) : ∀ (n : Nat) (v2 : Int32) (v3 : Int32) (v4 : Int32) (v5 : Int32) (v7 : Nat) (v9 : Int32) (M : Mem), w_Works_change_L182 this Q n v2 v3 v4 v5 v7 v9 M → E γ k_Works_change 2 182 [some (vr (some (10, this))), none, some (vi v2), some (vi v3), some (vi v4), some (vi v5), none, some (vr (some (400, v7))), none, some (vi v9), none] [] M (Qi Q) := by
  intro n
  induction n with
  | zero => intro v2 v3 v4 v5 v7 v9 M h; exact h.elim
  | succ n ih =>
    intro v2 v3 v4 v5 v7 v9 M h
    unfold w_Works_change_L182 at h
    refine E_blk (lv' := [some (vr (some (10, this))), none, some (vi v2), some (vi v3), some (vi v4), some (vi v5), none, some (vr (some (400, v7))), none, some (vi v9), none]) (st' := [vi v5, vi v9]) (M1 := M) (pc' := 186) (tb_Works hγ) [.iload 9, .iload 5] (by decide +kernel) rfl rfl trivial ?_
    refine E_icmp_ge (off := 96) (tgt := 282) (by decide +kernel) (by decide) (fun b24 => ?_) (fun b24 => ?_)
    · rw [if_pos b24] at h
      obtain ⟨c25, h⟩ := h
      refine E_blk (lv' := [some (vr (some (10, this))), none, some (vi v2), some (vi v3), some (vi v4), some (vi v5), none, some (vr (some (400, v7))), none, some (vi v9), none]) (st' := [vr (mR M 701 0 (mI M 10 this 10).toNatClampNeg), vi (0 : Int32), vr (some (400, 41))]) (M1 := M) (pc' := 296) (tb_Works hγ) [.aload_n 0, .getfield 82, .iconst 0, .aload_n 0, .getfield 67, .aload_n 0, .getfield 230, .aaload] (by decide +kernel) rfl rfl ⟨c25, trivial⟩ ?_
      obtain ⟨i26, ei26, h⟩ := h
      rw [ei26]
      refine E_blk (lv' := [some (vr (some (10, this))), none, some (vi v2), some (vi v3), some (vi v4), some (vi v5), none, some (vr (some (400, v7))), none, some (vi v9), none]) (st' := [vi (mI M 10 this 30), vi (0 : Int32), vr (some (400, i26)), vi (0 : Int32), vr (some (400, 41))]) (M1 := M) (pc' := 301) (tb_Works hγ) [.iconst 0, .aload_n 0, .getfield 638] (by decide +kernel) rfl rfl trivial ?_
      obtain ⟨c28, c29, c30, c31, c32, M27, eM27, h⟩ := h
      refine E_copy (pc := 301) (κ := k_Works_change) (f := 400) (i := 41) (g := 400) (j := i26) (sp := (0 : Int32)) (dp := (0 : Int32)) (n := (mI M 10 this 30)) (idx := 628) (st := []) c28 c29 c30 c31 c32 (by decide) (by decide) rfl (by decide) (tbk_mem (j := 10) (k := 201) rfl) (by decide +kernel) (Nat.le_of_ble_eq_true rfl) ?_
      rw [← eM27]
      obtain ⟨c33, h⟩ := h
      refine E_blk (lv' := [some (vr (some (10, this))), none, some (vi v2), some (vi v3), some (vi v4), some (vi v5), none, some (vr (some (400, v7))), none, some (vi v9), none]) (st' := [vi (mI (sI M27 98 this (mI M27 10 this 10).toNatClampNeg (mI M27 10 this 30)) 10 this 10), vr (some (10, this))]) (M1 := (sI M27 98 this (mI M27 10 this 10).toNatClampNeg (mI M27 10 this 30))) (pc' := 322) (tb_Works hγ) [.aload_n 0, .getfield 70, .aload_n 0, .getfield 230, .aload_n 0, .getfield 638, .iastore, .aload_n 0, .aload_n 0, .getfield 230] (by decide +kernel) rfl rfl ⟨c33, trivial⟩ ?_
      refine E_callV (κ' := k_Works_forget) (As := [vi (mI (sI M27 98 this (mI M27 10 this 10).toNatClampNeg (mI M27 10 this 30)) 10 this 10)]) (st := []) mv_Works_forget (Or.inl (tbk_mem (j := 10) (k := 226) rfl)) rfl (by decide +kernel) (Nat.le_of_ble_eq_true rfl) (Nat.le_of_ble_eq_true rfl) rfl (by decide) (lk_Works_forget hγ this (mI (sI M27 98 this (mI M27 10 this 10).toNatClampNeg (mI M27 10 this 30)) 10 this 10) _ (sI M27 98 this (mI M27 10 this 10).toNatClampNeg (mI M27 10 this 30)) h) (fun _ _ => Qv_r) (fun v M34 hp => Qv_k (R := fun st => E γ k_Works_change 2 325 [some (vr (some (10, this))), none, some (vi v2), some (vi v3), some (vi v4), some (vi v5), none, some (vr (some (400, v7))), none, some (vi v9), none] st M34 (Qi Q)) hp (fun h => ?_))
      refine E_blk (lv' := [some (vr (some (10, this))), none, some (vi v2), some (vi v3), some (vi v4), some (vi v5), none, some (vr (some (400, v7))), none, some (vi v9), none]) (st' := [vi ((mI (sI M34 10 this 10 ((mI M34 10 this 10) + (1 : Int32))) 10 this 10) - (1 : Int32))]) (M1 := (sI M34 10 this 10 ((mI M34 10 this 10) + (1 : Int32)))) (pc' := 341) (tb_Works hγ) [.aload_n 0, .dup, .getfield 230, .iconst 1, .iadd, .putfield 230, .aload_n 0, .getfield 230, .iconst 1, .isub] (by decide +kernel) rfl rfl trivial ?_
      exact E_iret rfl (by decide +kernel) h
    · rw [if_neg b24] at h
      refine E_blk (lv' := [some (vr (some (10, this))), none, some (vi v2), some (vi v3), some (vi v4), some (vi v5), none, some (vr (some (400, v7))), none, some (vi v9), none]) (st' := [vi v3, vi v9]) (M1 := M) (pc' := 192) (tb_Works hγ) [.iload 9, .iload_n 3] (by decide +kernel) rfl rfl trivial ?_
      refine E_icmp_ne (off := 10) (tgt := 202) (by decide +kernel) (by decide) (fun b35 => ?_) (fun b35 => ?_)
      · rw [if_pos b35] at h
        refine E_blk (lv' := [some (vr (some (10, this))), none, some (vi v2), some (vi v3), some (vi v4), some (vi v5), none, some (vr (some (400, v7))), none, some (vi v9), none]) (st' := [vi v2]) (M1 := M) (pc' := 196) (tb_Works hγ) [.iload_n 2] (by decide +kernel) rfl rfl trivial ?_
        refine E_if_ne (off := 6) (tgt := 202) (by decide +kernel) (by decide) (fun b36 => ?_) (fun b36 => ?_)
        · rw [if_pos b36] at h
          refine E_goto (off := 77) (tgt := 276) (by decide +kernel) (by decide) ?_
          refine E_mask [true, false, true, true, true, true, false, true, false, true, false] rfl ?_
          exact lk_Works_change_j276 hγ this Q (w_Works_change_L182 this Q n) ih v2 v3 v4 v5 v7 v9 M h
        · rw [if_neg b36] at h
          refine E_mask [true, false, true, true, true, true, false, true, false, true, false] rfl ?_
          exact lk_Works_change_j202 hγ this Q (w_Works_change_L182 this Q n) ih v2 v3 v4 v5 v7 v9 M h
      · rw [if_neg b35] at h
        refine E_mask [true, false, true, true, true, true, false, true, false, true, false] rfl ?_
        exact lk_Works_change_j202 hγ this Q (w_Works_change_L182 this Q n) ih v2 v3 v4 v5 v7 v9 M h
set_option maxRecDepth 4096 in
theorem lk_Works_change_j174 {γ : Gm} (hγ : Gk γ) (this : Nat) (Q : Int32 → Mem → Prop) (v2 : Int32) (v3 : Int32) (v4 : Int32) (v5 : Int32) (v7 : Nat) (M : Mem) (h : w_Works_change_j174 this Q v2 v3 v4 v5 v7 M) : E γ k_Works_change 2 174 [some (vr (some (10, this))), none, some (vi v2), some (vi v3), some (vi v4), some (vi v5), none, some (vr (some (400, v7))), none, none, none] [] M (Qi Q) := by
  unfold w_Works_change_j174 at h
  refine E_blk (lv' := [some (vr (some (10, this))), none, some (vi v2), some (vi v3), some (vi v4), some (vi v5), none, some (vr (some (400, v7))), none, some (vi (0 : Int32)), none]) (st' := []) (M1 := (sI M 10 this 30 (0 : Int32))) (pc' := 182) (tb_Works hγ) [.aload_n 0, .iconst 0, .putfield 638, .iconst 0, .istore 9] (by decide +kernel) rfl rfl trivial ?_
  obtain ⟨n47, h⟩ := h
  refine E_mask [true, false, true, true, true, true, false, true, false, true, false] rfl ?_
  exact lk_Works_change_L182 hγ this Q n47 v2 v3 v4 v5 v7 (0 : Int32) (sI M 10 this 30 (0 : Int32)) h
set_option maxRecDepth 4096 in
theorem lk_Works_change_j133 {γ : Gm} (hγ : Gk γ) (this : Nat) (Q : Int32 → Mem → Prop) (v1 : Int32) (v2 : Int32) (v3 : Int32) (v4 : Int32) (v5 : Int32) (v7 : Nat) (s0 : Int32) (M : Mem) (h : w_Works_change_j133 this Q v1 v2 v3 v4 v5 v7 s0 M) : E γ k_Works_change 2 133 [some (vr (some (10, this))), some (vi v1), some (vi v2), some (vi v3), some (vi v4), some (vi v5), none, some (vr (some (400, v7))), none, none, none] [vi s0] M (Qi Q) := by
  unfold w_Works_change_j133 at h
  refine E_blk (lv' := [some (vr (some (10, this))), some (vi v1), some (vi v2), some (vi v3), some (vi v4), some (vi v5), none, some (vr (some (400, v7))), some (vi s0), none, none]) (st' := [vi (40 : Int32), vi (mI M 10 this 10)]) (M1 := M) (pc' := 141) (tb_Works hγ) [.istore 8, .aload_n 0, .getfield 230, .bipush 40] (by decide +kernel) rfl rfl trivial ?_
  refine E_icmp_eq (off := 30) (tgt := 171) (by decide +kernel) (by decide) (fun b19 => ?_) (fun b19 => ?_)
  · rw [if_pos b19] at h
    refine E_blk (lv' := [some (vr (some (10, this))), some (vi v1), some (vi v2), some (vi v3), some (vi v4), some (vi v5), none, some (vr (some (400, v7))), some (vi s0), none, none]) (st' := [vi (-3 : Int32)]) (M1 := M) (pc' := 173) (tb_Works hγ) [.bipush (.negSucc 2)] (by decide +kernel) rfl rfl trivial ?_
    exact E_iret rfl (by decide +kernel) h
  · rw [if_neg b19] at h
    obtain ⟨c20, h⟩ := h
    refine E_blk (lv' := [some (vr (some (10, this))), some (vi v1), some (vi v2), some (vi v3), some (vi v4), some (vi v5), none, some (vr (some (400, v7))), some (vi s0), none, none]) (st' := [vi (1200 : Int32), vi ((mI M 98 this v1.toNatClampNeg) + s0)]) (M1 := M) (pc' := 156) (tb_Works hγ) [.aload_n 0, .getfield 70, .iload_n 1, .iaload, .iload 8, .iadd, .sipush 1200] (by decide +kernel) rfl rfl ⟨c20, trivial⟩ ?_
    refine E_icmp_gt (off := 15) (tgt := 171) (by decide +kernel) (by decide) (fun b21 => ?_) (fun b21 => ?_)
    · rw [if_pos b21] at h
      refine E_blk (lv' := [some (vr (some (10, this))), some (vi v1), some (vi v2), some (vi v3), some (vi v4), some (vi v5), none, some (vr (some (400, v7))), some (vi s0), none, none]) (st' := [vi (-3 : Int32)]) (M1 := M) (pc' := 173) (tb_Works hγ) [.bipush (.negSucc 2)] (by decide +kernel) rfl rfl trivial ?_
      exact E_iret rfl (by decide +kernel) h
    · rw [if_neg b21] at h
      refine E_blk (lv' := [some (vr (some (10, this))), some (vi v1), some (vi v2), some (vi v3), some (vi v4), some (vi v5), none, some (vr (some (400, v7))), some (vi s0), none, none]) (st' := [vi (1 : Int32), vi v2]) (M1 := M) (pc' := 161) (tb_Works hγ) [.iload_n 2, .iconst 1] (by decide +kernel) rfl rfl trivial ?_
      refine E_icmp_ne (off := 13) (tgt := 174) (by decide +kernel) (by decide) (fun b22 => ?_) (fun b22 => ?_)
      · rw [if_pos b22] at h
        refine E_blk (lv' := [some (vr (some (10, this))), some (vi v1), some (vi v2), some (vi v3), some (vi v4), some (vi v5), none, some (vr (some (400, v7))), some (vi s0), none, none]) (st' := [vi (60 : Int32), vi v5]) (M1 := M) (pc' := 168) (tb_Works hγ) [.iload 5, .bipush 60] (by decide +kernel) rfl rfl trivial ?_
        refine E_icmp_ne (off := 6) (tgt := 174) (by decide +kernel) (by decide) (fun b23 => ?_) (fun b23 => ?_)
        · rw [if_pos b23] at h
          refine E_blk (lv' := [some (vr (some (10, this))), some (vi v1), some (vi v2), some (vi v3), some (vi v4), some (vi v5), none, some (vr (some (400, v7))), some (vi s0), none, none]) (st' := [vi (-3 : Int32)]) (M1 := M) (pc' := 173) (tb_Works hγ) [.bipush (.negSucc 2)] (by decide +kernel) rfl rfl trivial ?_
          exact E_iret rfl (by decide +kernel) h
        · rw [if_neg b23] at h
          refine E_mask [true, false, true, true, true, true, false, true, false, false, false] rfl ?_
          exact lk_Works_change_j174 hγ this Q v2 v3 v4 v5 v7 M h
      · rw [if_neg b22] at h
        refine E_mask [true, false, true, true, true, true, false, true, false, false, false] rfl ?_
        exact lk_Works_change_j174 hγ this Q v2 v3 v4 v5 v7 M h
set_option maxRecDepth 4096 in
theorem lk_Works_change_j70 {γ : Gm} (hγ : Gk γ) (this : Nat) (Q : Int32 → Mem → Prop) (v1 : Int32) (v2 : Int32) (v3 : Int32) (v4 : Int32) (v5 : Int32) (M : Mem) (h : w_Works_change_j70 this Q v1 v2 v3 v4 v5 M) : E γ k_Works_change 2 70 [some (vr (some (10, this))), some (vi v1), some (vi v2), some (vi v3), some (vi v4), some (vi v5), none, none, none, none, none] [] M (Qi Q) := by
  unfold w_Works_change_j70 at h
  obtain ⟨c14, h⟩ := h
  refine E_blk (lv' := [some (vr (some (10, this))), some (vi v1), some (vi v2), some (vi v3), some (vi v4), some (vi v5), none, none, none, none, none]) (st' := [vr (mR M 701 0 v1.toNatClampNeg)]) (M1 := M) (pc' := 76) (tb_Works hγ) [.aload_n 0, .getfield 67, .iload_n 1, .aaload] (by decide +kernel) rfl rfl ⟨c14, trivial⟩ ?_
  obtain ⟨i15, ei15, h⟩ := h
  rw [ei15]
  refine E_blk (lv' := [some (vr (some (10, this))), some (vi v1), some (vi v2), some (vi v3), some (vi v4), some (vi v5), none, some (vr (some (400, i15))), none, none, none]) (st' := [vi v2]) (M1 := M) (pc' := 79) (tb_Works hγ) [.astore 7, .iload_n 2] (by decide +kernel) rfl rfl trivial ?_
  refine E_if_ne (off := 14) (tgt := 93) (by decide +kernel) (by decide) (fun b16 => ?_) (fun b16 => ?_)
  · rw [if_pos b16] at h
    refine E_blk (lv' := [some (vr (some (10, this))), some (vi v1), some (vi v2), some (vi v3), some (vi v4), some (vi v5), none, some (vr (some (400, i15))), none, none, none]) (st' := [vi v3, vr (some (400, i15)), vr (some (10, this))]) (M1 := M) (pc' := 86) (tb_Works hγ) [.aload_n 0, .aload 7, .iload_n 3] (by decide +kernel) rfl rfl trivial ?_
    refine E_callV (κ' := k_Works_lengthOf) (As := [vr (some (400, i15)), vi v3]) (st := []) mv_Works_lengthOf (Or.inl (tbk_mem (j := 10) (k := 214) rfl)) rfl (by decide +kernel) (Nat.le_of_ble_eq_true rfl) (Nat.le_of_ble_eq_true rfl) rfl (by decide) (lk_Works_lengthOf hγ this i15 v3 _ M h) (fun _ _ => Qi_r) (fun v M17 hp => Qi_k (R := fun st => E γ k_Works_change 2 89 [some (vr (some (10, this))), some (vi v1), some (vi v2), some (vi v3), some (vi v4), some (vi v5), none, some (vr (some (400, i15))), none, none, none] st M17 (Qi Q)) hp (fun r18 h => ?_))
    refine E_blk (lv' := [some (vr (some (10, this))), some (vi v1), some (vi v2), some (vi v3), some (vi v4), some (vi v5), none, some (vr (some (400, i15))), none, none, none]) (st' := [vi (-r18)]) (M1 := M17) (pc' := 90) (tb_Works hγ) [.ineg] (by decide +kernel) rfl rfl trivial ?_
    refine E_goto (off := 43) (tgt := 133) (by decide +kernel) (by decide) ?_
    refine E_mask [true, true, true, true, true, true, false, true, false, false, false] rfl ?_
    exact lk_Works_change_j133 hγ this Q v1 v2 v3 v4 v5 i15 (-r18) M17 h
  · rw [if_neg b16] at h
    refine E_blk (lv' := [some (vr (some (10, this))), some (vi v1), some (vi v2), some (vi v3), some (vi v4), some (vi v5), none, some (vr (some (400, i15))), none, none, none]) (st' := [vi (1 : Int32), vi v2]) (M1 := M) (pc' := 95) (tb_Works hγ) [.iload_n 2, .iconst 1] (by decide +kernel) rfl rfl trivial ?_
    refine E_icmp_ne (off := 13) (tgt := 108) (by decide +kernel) (by decide) (fun b48 => ?_) (fun b48 => ?_)
    · rw [if_pos b48] at h
      refine E_blk (lv' := [some (vr (some (10, this))), some (vi v1), some (vi v2), some (vi v3), some (vi v4), some (vi v5), none, some (vr (some (400, i15))), none, none, none]) (st' := [vi v3, vr (some (400, i15)), vr (some (10, this))]) (M1 := M) (pc' := 102) (tb_Works hγ) [.aload_n 0, .aload 7, .iload_n 3] (by decide +kernel) rfl rfl trivial ?_
      refine E_callV (κ' := k_Works_lengthOf) (As := [vr (some (400, i15)), vi v3]) (st := []) mv_Works_lengthOf (Or.inl (tbk_mem (j := 10) (k := 214) rfl)) rfl (by decide +kernel) (Nat.le_of_ble_eq_true rfl) (Nat.le_of_ble_eq_true rfl) rfl (by decide) (lk_Works_lengthOf hγ this i15 v3 _ M h) (fun _ _ => Qi_r) (fun v M49 hp => Qi_k (R := fun st => E γ k_Works_change 2 105 [some (vr (some (10, this))), some (vi v1), some (vi v2), some (vi v3), some (vi v4), some (vi v5), none, some (vr (some (400, i15))), none, none, none] st M49 (Qi Q)) hp (fun r50 h => ?_))
      refine E_goto (off := 28) (tgt := 133) (by decide +kernel) (by decide) ?_
      refine E_mask [true, true, true, true, true, true, false, true, false, false, false] rfl ?_
      exact lk_Works_change_j133 hγ this Q v1 v2 v3 v4 v5 i15 r50 M49 h
    · rw [if_neg b48] at h
      refine E_blk (lv' := [some (vr (some (10, this))), some (vi v1), some (vi v2), some (vi v3), some (vi v4), some (vi v5), none, some (vr (some (400, i15))), none, none, none]) (st' := [vi (3 : Int32), vi v2]) (M1 := M) (pc' := 110) (tb_Works hγ) [.iload_n 2, .iconst 3] (by decide +kernel) rfl rfl trivial ?_
      refine E_icmp_ne (off := 22) (tgt := 132) (by decide +kernel) (by decide) (fun b51 => ?_) (fun b51 => ?_)
      · rw [if_pos b51] at h
        refine E_blk (lv' := [some (vr (some (10, this))), some (vi v1), some (vi v2), some (vi v3), some (vi v4), some (vi v5), none, some (vr (some (400, i15))), none, none, none]) (st' := [vi v4, vr (some (400, i15)), vr (some (10, this))]) (M1 := M) (pc' := 118) (tb_Works hγ) [.aload_n 0, .aload 7, .iload 4] (by decide +kernel) rfl rfl trivial ?_
        refine E_callV (κ' := k_Works_lengthOf) (As := [vr (some (400, i15)), vi v4]) (st := []) mv_Works_lengthOf (Or.inl (tbk_mem (j := 10) (k := 214) rfl)) rfl (by decide +kernel) (Nat.le_of_ble_eq_true rfl) (Nat.le_of_ble_eq_true rfl) rfl (by decide) (lk_Works_lengthOf hγ this i15 v4 _ M h) (fun _ _ => Qi_r) (fun v M52 hp => Qi_k (R := fun st => E γ k_Works_change 2 121 [some (vr (some (10, this))), some (vi v1), some (vi v2), some (vi v3), some (vi v4), some (vi v5), none, some (vr (some (400, i15))), none, none, none] st M52 (Qi Q)) hp (fun r53 h => ?_))
        refine E_blk (lv' := [some (vr (some (10, this))), some (vi v1), some (vi v2), some (vi v3), some (vi v4), some (vi v5), none, some (vr (some (400, i15))), none, none, none]) (st' := [vi v3, vr (some (400, i15)), vr (some (10, this)), vi r53]) (M1 := M52) (pc' := 125) (tb_Works hγ) [.aload_n 0, .aload 7, .iload_n 3] (by decide +kernel) rfl rfl trivial ?_
        refine E_callV (κ' := k_Works_lengthOf) (As := [vr (some (400, i15)), vi v3]) (st := [vi r53]) mv_Works_lengthOf (Or.inl (tbk_mem (j := 10) (k := 214) rfl)) rfl (by decide +kernel) (Nat.le_of_ble_eq_true rfl) (Nat.le_of_ble_eq_true rfl) rfl (by decide) (lk_Works_lengthOf hγ this i15 v3 _ M52 h) (fun _ _ => Qi_r) (fun v M54 hp => Qi_k (R := fun st => E γ k_Works_change 2 128 [some (vr (some (10, this))), some (vi v1), some (vi v2), some (vi v3), some (vi v4), some (vi v5), none, some (vr (some (400, i15))), none, none, none] st M54 (Qi Q)) hp (fun r55 h => ?_))
        refine E_blk (lv' := [some (vr (some (10, this))), some (vi v1), some (vi v2), some (vi v3), some (vi v4), some (vi v5), none, some (vr (some (400, i15))), none, none, none]) (st' := [vi (r53 - r55)]) (M1 := M54) (pc' := 129) (tb_Works hγ) [.isub] (by decide +kernel) rfl rfl trivial ?_
        refine E_goto (off := 4) (tgt := 133) (by decide +kernel) (by decide) ?_
        refine E_mask [true, true, true, true, true, true, false, true, false, false, false] rfl ?_
        exact lk_Works_change_j133 hγ this Q v1 v2 v3 v4 v5 i15 (r53 - r55) M54 h
      · rw [if_neg b51] at h
        refine E_blk (lv' := [some (vr (some (10, this))), some (vi v1), some (vi v2), some (vi v3), some (vi v4), some (vi v5), none, some (vr (some (400, i15))), none, none, none]) (st' := [vi (0 : Int32)]) (M1 := M) (pc' := 133) (tb_Works hγ) [.iconst 0] (by decide +kernel) rfl rfl trivial ?_
        refine E_mask [true, true, true, true, true, true, false, true, false, false, false] rfl ?_
        exact lk_Works_change_j133 hγ this Q v1 v2 v3 v4 v5 i15 (0 : Int32) M h
set_option maxRecDepth 4096 in
theorem lk_Works_change_j36 {γ : Gm} (hγ : Gk γ) (this : Nat) (Q : Int32 → Mem → Prop) (v1 : Int32) (v2 : Int32) (v3 : Int32) (v4 : Int32) (v5 : Int32) (s0 : Int32) (M : Mem) (h : w_Works_change_j36 this Q v1 v2 v3 v4 v5 s0 M) : E γ k_Works_change 2 36 [some (vr (some (10, this))), some (vi v1), some (vi v2), some (vi v3), some (vi v4), some (vi v5), none, none, none, none, none] [vi s0] M (Qi Q) := by
  unfold w_Works_change_j36 at h
  refine E_blk (lv' := [some (vr (some (10, this))), some (vi v1), some (vi v2), some (vi v3), some (vi v4), some (vi v5), some (vi s0), none, none, none, none]) (st' := [vi (v5 - (2 : Int32)), vi (0 : Int32), vi v3]) (M1 := M) (pc' := 44) (tb_Works hγ) [.istore 6, .iload_n 3, .iconst 0, .iload 5, .iconst 2, .isub] (by decide +kernel) rfl rfl trivial ?_
  refine E_callS (κ' := k_Works_isIn) (As := [vi v3, vi (0 : Int32), vi (v5 - (2 : Int32))]) (st := []) ms_Works_isIn (Or.inl (tbk_mem (j := 5) (k := 237) rfl)) rfl (by decide +kernel) (Nat.le_of_ble_eq_true rfl) (Nat.le_of_ble_eq_true rfl) rfl (by decide) (lk_Works_isIn hγ v3 (0 : Int32) (v5 - (2 : Int32)) _ M h) (fun _ _ => Qi_r) (fun v M10 hp => Qi_k (R := fun st => E γ k_Works_change 2 47 [some (vr (some (10, this))), some (vi v1), some (vi v2), some (vi v3), some (vi v4), some (vi v5), some (vi s0), none, none, none, none] st M10 (Qi Q)) hp (fun r11 h => ?_))
  refine E_if_eq (off := 21) (tgt := 68) (by decide +kernel) (by decide) (fun b12 => ?_) (fun b12 => ?_)
  · rw [if_pos b12] at h
    refine E_blk (lv' := [some (vr (some (10, this))), some (vi v1), some (vi v2), some (vi v3), some (vi v4), some (vi v5), some (vi s0), none, none, none, none]) (st' := [vi (-1 : Int32)]) (M1 := M10) (pc' := 69) (tb_Works hγ) [.iconst (.negSucc 0)] (by decide +kernel) rfl rfl trivial ?_
    exact E_iret rfl (by decide +kernel) h
  · rw [if_neg b12] at h
    refine E_blk (lv' := [some (vr (some (10, this))), some (vi v1), some (vi v2), some (vi v3), some (vi v4), some (vi v5), some (vi s0), none, none, none, none]) (st' := [vi s0]) (M1 := M10) (pc' := 52) (tb_Works hγ) [.iload 6] (by decide +kernel) rfl rfl trivial ?_
    refine E_if_eq (off := 18) (tgt := 70) (by decide +kernel) (by decide) (fun b13 => ?_) (fun b13 => ?_)
    · rw [if_pos b13] at h
      refine E_mask [true, true, true, true, true, true, false, false, false, false, false] rfl ?_
      exact lk_Works_change_j70 hγ this Q v1 v2 v3 v4 v5 M10 h
    · rw [if_neg b13] at h
      refine E_blk (lv' := [some (vr (some (10, this))), some (vi v1), some (vi v2), some (vi v3), some (vi v4), some (vi v5), some (vi s0), none, none, none, none]) (st' := [vi (v5 - (2 : Int32)), vi (0 : Int32), vi v4]) (M1 := M10) (pc' := 62) (tb_Works hγ) [.iload 4, .iconst 0, .iload 5, .iconst 2, .isub] (by decide +kernel) rfl rfl trivial ?_
      refine E_callS (κ' := k_Works_isIn) (As := [vi v4, vi (0 : Int32), vi (v5 - (2 : Int32))]) (st := []) ms_Works_isIn (Or.inl (tbk_mem (j := 5) (k := 237) rfl)) rfl (by decide +kernel) (Nat.le_of_ble_eq_true rfl) (Nat.le_of_ble_eq_true rfl) rfl (by decide) (lk_Works_isIn hγ v4 (0 : Int32) (v5 - (2 : Int32)) _ M10 h) (fun _ _ => Qi_r) (fun v M56 hp => Qi_k (R := fun st => E γ k_Works_change 2 65 [some (vr (some (10, this))), some (vi v1), some (vi v2), some (vi v3), some (vi v4), some (vi v5), some (vi s0), none, none, none, none] st M56 (Qi Q)) hp (fun r57 h => ?_))
      refine E_if_ne (off := 5) (tgt := 70) (by decide +kernel) (by decide) (fun b58 => ?_) (fun b58 => ?_)
      · rw [if_pos b58] at h
        refine E_blk (lv' := [some (vr (some (10, this))), some (vi v1), some (vi v2), some (vi v3), some (vi v4), some (vi v5), some (vi s0), none, none, none, none]) (st' := [vi (-1 : Int32)]) (M1 := M56) (pc' := 69) (tb_Works hγ) [.iconst (.negSucc 0)] (by decide +kernel) rfl rfl trivial ?_
        exact E_iret rfl (by decide +kernel) h
      · rw [if_neg b58] at h
        refine E_mask [true, true, true, true, true, true, false, false, false, false, false] rfl ?_
        exact lk_Works_change_j70 hγ this Q v1 v2 v3 v4 v5 M56 h
set_option maxRecDepth 4096 in
theorem lk_Works_change {γ : Gm} (hγ : Gk γ) (this : Nat) (a1 : Int32) (a2 : Int32) (a3 : Int32) (a4 : Int32) (Q : Int32 → Mem → Prop) (M : Mem) (h : w_Works_change this a1 a2 a3 a4 Q M) : E γ k_Works_change 2 0 [some (vr (some (10, this))), some (vi a1), some (vi a2), some (vi a3), some (vi a4), none, none, none, none, none, none] [] M (Qi Q) := by
  unfold w_Works_change at h
  refine E_blk (lv' := [some (vr (some (10, this))), some (vi a1), some (vi a2), some (vi a3), some (vi a4), none, none, none, none, none, none]) (st' := [vi a1, vr (some (10, this))]) (M1 := M) (pc' := 2) (tb_Works hγ) [.aload_n 0, .iload_n 1] (by decide +kernel) rfl rfl trivial ?_
  refine E_callV (κ' := k_Works_isTrial) (As := [vi a1]) (st := []) mv_Works_isTrial (Or.inl (tbk_mem (j := 10) (k := 206) rfl)) rfl (by decide +kernel) (Nat.le_of_ble_eq_true rfl) (Nat.le_of_ble_eq_true rfl) rfl (by decide) (lk_Works_isTrial hγ this a1 _ M h) (fun _ _ => Qi_r) (fun v M1 hp => Qi_k (R := fun st => E γ k_Works_change 2 5 [some (vr (some (10, this))), some (vi a1), some (vi a2), some (vi a3), some (vi a4), none, none, none, none, none, none] st M1 (Qi Q)) hp (fun r2 h => ?_))
  refine E_if_eq (off := 12) (tgt := 17) (by decide +kernel) (by decide) (fun b3 => ?_) (fun b3 => ?_)
  · rw [if_pos b3] at h
    refine E_blk (lv' := [some (vr (some (10, this))), some (vi a1), some (vi a2), some (vi a3), some (vi a4), none, none, none, none, none, none]) (st' := [vi (-1 : Int32)]) (M1 := M1) (pc' := 18) (tb_Works hγ) [.iconst (.negSucc 0)] (by decide +kernel) rfl rfl trivial ?_
    exact E_iret rfl (by decide +kernel) h
  · rw [if_neg b3] at h
    refine E_blk (lv' := [some (vr (some (10, this))), some (vi a1), some (vi a2), some (vi a3), some (vi a4), none, none, none, none, none, none]) (st' := [vi (3 : Int32), vi (0 : Int32), vi a2]) (M1 := M1) (pc' := 11) (tb_Works hγ) [.iload_n 2, .iconst 0, .iconst 3] (by decide +kernel) rfl rfl trivial ?_
    refine E_callS (κ' := k_Works_isIn) (As := [vi a2, vi (0 : Int32), vi (3 : Int32)]) (st := []) ms_Works_isIn (Or.inl (tbk_mem (j := 5) (k := 237) rfl)) rfl (by decide +kernel) (Nat.le_of_ble_eq_true rfl) (Nat.le_of_ble_eq_true rfl) rfl (by decide) (lk_Works_isIn hγ a2 (0 : Int32) (3 : Int32) _ M1 h) (fun _ _ => Qi_r) (fun v M4 hp => Qi_k (R := fun st => E γ k_Works_change 2 14 [some (vr (some (10, this))), some (vi a1), some (vi a2), some (vi a3), some (vi a4), none, none, none, none, none, none] st M4 (Qi Q)) hp (fun r5 h => ?_))
    refine E_if_ne (off := 5) (tgt := 19) (by decide +kernel) (by decide) (fun b6 => ?_) (fun b6 => ?_)
    · rw [if_pos b6] at h
      refine E_blk (lv' := [some (vr (some (10, this))), some (vi a1), some (vi a2), some (vi a3), some (vi a4), none, none, none, none, none, none]) (st' := [vi (-1 : Int32)]) (M1 := M4) (pc' := 18) (tb_Works hγ) [.iconst (.negSucc 0)] (by decide +kernel) rfl rfl trivial ?_
      exact E_iret rfl (by decide +kernel) h
    · rw [if_neg b6] at h
      refine E_blk (lv' := [some (vr (some (10, this))), some (vi a1), some (vi a2), some (vi a3), some (vi a4), none, none, none, none, none, none]) (st' := [vi a1, vr (some (10, this))]) (M1 := M4) (pc' := 21) (tb_Works hγ) [.aload_n 0, .iload_n 1] (by decide +kernel) rfl rfl trivial ?_
      refine E_callV (κ' := k_Works_lines) (As := [vi a1]) (st := []) mv_Works_lines (Or.inl (tbk_mem (j := 10) (k := 210) rfl)) rfl (by decide +kernel) (Nat.le_of_ble_eq_true rfl) (Nat.le_of_ble_eq_true rfl) rfl (by decide) (lk_Works_lines hγ this a1 _ M4 h) (fun _ _ => Qi_r) (fun v M7 hp => Qi_k (R := fun st => E γ k_Works_change 2 24 [some (vr (some (10, this))), some (vi a1), some (vi a2), some (vi a3), some (vi a4), none, none, none, none, none, none] st M7 (Qi Q)) hp (fun r8 h => ?_))
      refine E_blk (lv' := [some (vr (some (10, this))), some (vi a1), some (vi a2), some (vi a3), some (vi a4), some (vi r8), none, none, none, none, none]) (st' := [vi (1 : Int32), vi a2]) (M1 := M7) (pc' := 28) (tb_Works hγ) [.istore 5, .iload_n 2, .iconst 1] (by decide +kernel) rfl rfl trivial ?_
      refine E_icmp_le (off := 7) (tgt := 35) (by decide +kernel) (by decide) (fun b9 => ?_) (fun b9 => ?_)
      · rw [if_pos b9] at h
        refine E_blk (lv' := [some (vr (some (10, this))), some (vi a1), some (vi a2), some (vi a3), some (vi a4), some (vi r8), none, none, none, none, none]) (st' := [vi (0 : Int32)]) (M1 := M7) (pc' := 36) (tb_Works hγ) [.iconst 0] (by decide +kernel) rfl rfl trivial ?_
        refine E_mask [true, true, true, true, true, true, false, false, false, false, false] rfl ?_
        exact lk_Works_change_j36 hγ this Q a1 a2 a3 a4 r8 (0 : Int32) M7 h
      · rw [if_neg b9] at h
        refine E_blk (lv' := [some (vr (some (10, this))), some (vi a1), some (vi a2), some (vi a3), some (vi a4), some (vi r8), none, none, none, none, none]) (st' := [vi (1 : Int32)]) (M1 := M7) (pc' := 32) (tb_Works hγ) [.iconst 1] (by decide +kernel) rfl rfl trivial ?_
        refine E_goto (off := 4) (tgt := 36) (by decide +kernel) (by decide) ?_
        refine E_mask [true, true, true, true, true, true, false, false, false, false, false] rfl ?_
        exact lk_Works_change_j36 hγ this Q a1 a2 a3 a4 r8 (1 : Int32) M7 h
def w_Works_linesOf_L43 (this : Nat) (Q : Int32 → Mem → Prop) : Nat → Int32 → Int32 → Mem → Prop
  | 0, _, _, _ => False
  | n + 1, v1, v2, M => if v2 = 0 then (Q v1 M) else (w_Reader_nextLine 0 (fun r5 M4 => (w_Works_linesOf_L43 this Q n) (v1 + (1 : Int32)) r5 M4) M)
def w_Works_linesOf_j42 (this : Nat) (Q : Int32 → Mem → Prop) (v1 : Int32) (s0 : Int32) (M : Mem) : Prop :=
  ∃ n6 : Nat, w_Works_linesOf_L43 this Q n6 v1 s0 M
def w_Works_linesOf_j41 (this : Nat) (Q : Int32 → Mem → Prop) (v1 : Int32) (M : Mem) : Prop :=
  w_Works_linesOf_j42 this Q v1 (0 : Int32) M
def w_Works_linesOf (this : Nat) (Q : Int32 → Mem → Prop) (M : Mem) : Prop :=
  w_Words_begin 0 0 (mI M 10 this 1) (fun M1 => if (mI M1 10 this 1) ≤ 0 then (w_Works_linesOf_j41 this Q (0 : Int32) M1) else (w_Reader_begin 0 (fun r8 M7 => if r8 = 0 then (w_Works_linesOf_j41 this Q (0 : Int32) M7) else (w_Works_linesOf_j42 this Q (0 : Int32) (1 : Int32) M7)) M1)) M
set_option maxRecDepth 4096 in
theorem lk_Works_linesOf_L43 {γ : Gm} (hγ : Gk γ) (this : Nat) (Q : Int32 → Mem → Prop) : ∀ (n : Nat) (v1 : Int32) (v2 : Int32) (M : Mem), w_Works_linesOf_L43 this Q n v1 v2 M → E γ k_Works_linesOf 6 43 [some (vr (some (10, this))), some (vi v1), some (vi v2)] [] M (Qi Q) := by
  intro n
  induction n with
  | zero => intro v1 v2 M h; exact h.elim
  | succ n ih =>
    intro v1 v2 M h
    unfold w_Works_linesOf_L43 at h
    refine E_blk (lv' := [some (vr (some (10, this))), some (vi v1), some (vi v2)]) (st' := [vi v2]) (M1 := M) (pc' := 44) (tb_Works hγ) [.iload_n 2] (by decide +kernel) rfl rfl trivial ?_
    refine E_if_eq (off := 17) (tgt := 61) (by decide +kernel) (by decide) (fun b3 => ?_) (fun b3 => ?_)
    · rw [if_pos b3] at h
      refine E_blk (lv' := [some (vr (some (10, this))), some (vi v1), some (vi v2)]) (st' := [vi v1]) (M1 := M) (pc' := 62) (tb_Works hγ) [.iload_n 1] (by decide +kernel) rfl rfl trivial ?_
      exact E_iret rfl (by decide +kernel) h
    · rw [if_neg b3] at h
      refine E_blk (lv' := [some (vr (some (10, this))), some (vi (v1 + (1 : Int32))), some (vi v2)]) (st' := [vr (some (3, 0))]) (M1 := M) (pc' := 54) (tb_Works hγ) [.iinc 1 1, .aload_n 0, .getfield 40] (by decide +kernel) rfl rfl trivial ?_
      refine E_callV (κ' := k_Reader_nextLine) (As := []) (st := []) mv_Reader_nextLine (Or.inr ⟨"ClassWorks", (tbk_mem (j := 8) (k := 96) rfl)⟩) rfl (by decide +kernel) (Nat.le_of_ble_eq_true rfl) (Nat.le_of_ble_eq_true rfl) rfl (by decide) (lk_Reader_nextLine hγ 0 _ M h) (fun _ _ => Qi_r) (fun v M4 hp => Qi_k (R := fun st => E γ k_Works_linesOf 6 57 [some (vr (some (10, this))), some (vi (v1 + (1 : Int32))), some (vi v2)] st M4 (Qi Q)) hp (fun r5 h => ?_))
      refine E_blk (lv' := [some (vr (some (10, this))), some (vi (v1 + (1 : Int32))), some (vi r5)]) (st' := []) (M1 := M4) (pc' := 58) (tb_Works hγ) [.istore_n 2] (by decide +kernel) rfl rfl trivial ?_
      refine E_goto (off := -15) (tgt := 43) (by decide +kernel) (by decide) ?_
      refine E_mask [true, true, true] rfl ?_
      exact ih (v1 + (1 : Int32)) r5 M4 h
set_option maxRecDepth 4096 in
theorem lk_Works_linesOf_j42 {γ : Gm} (hγ : Gk γ) (this : Nat) (Q : Int32 → Mem → Prop) (v1 : Int32) (s0 : Int32) (M : Mem) (h : w_Works_linesOf_j42 this Q v1 s0 M) : E γ k_Works_linesOf 6 42 [some (vr (some (10, this))), some (vi v1), none] [vi s0] M (Qi Q) := by
  unfold w_Works_linesOf_j42 at h
  refine E_blk (lv' := [some (vr (some (10, this))), some (vi v1), some (vi s0)]) (st' := []) (M1 := M) (pc' := 43) (tb_Works hγ) [.istore_n 2] (by decide +kernel) rfl rfl trivial ?_
  obtain ⟨n6, h⟩ := h
  refine E_mask [true, true, true] rfl ?_
  exact lk_Works_linesOf_L43 hγ this Q n6 v1 s0 M h
set_option maxRecDepth 4096 in
theorem lk_Works_linesOf_j41 {γ : Gm} (hγ : Gk γ) (this : Nat) (Q : Int32 → Mem → Prop) (v1 : Int32) (M : Mem) (h : w_Works_linesOf_j41 this Q v1 M) : E γ k_Works_linesOf 6 41 [some (vr (some (10, this))), some (vi v1), none] [] M (Qi Q) := by
  unfold w_Works_linesOf_j41 at h
  refine E_blk (lv' := [some (vr (some (10, this))), some (vi v1), none]) (st' := [vi (0 : Int32)]) (M1 := M) (pc' := 42) (tb_Works hγ) [.iconst 0] (by decide +kernel) rfl rfl trivial ?_
  refine E_mask [true, true, false] rfl ?_
  exact lk_Works_linesOf_j42 hγ this Q v1 (0 : Int32) M h
set_option maxRecDepth 4096 in
theorem lk_Works_linesOf {γ : Gm} (hγ : Gk γ) (this : Nat) (Q : Int32 → Mem → Prop) (M : Mem) (h : w_Works_linesOf this Q M) : E γ k_Works_linesOf 6 0 [some (vr (some (10, this))), none, none] [] M (Qi Q) := by
  unfold w_Works_linesOf at h
  refine E_blk (lv' := [some (vr (some (10, this))), some (vi (0 : Int32)), none]) (st' := [vi (mI M 10 this 1), vr (some (400, 0)), vr (some (2, 0))]) (M1 := M) (pc' := 17) (tb_Works hγ) [.iconst 0, .istore_n 1, .aload_n 0, .getfield 40, .getfield 161, .aload_n 0, .getfield 9, .aload_n 0, .getfield 121] (by decide +kernel) rfl rfl trivial ?_
  refine E_callV (κ' := k_Words_begin) (As := [vr (some (400, 0)), vi (mI M 10 this 1)]) (st := []) mv_Words_begin (Or.inl (tbk_mem (j := 8) (k := 85) rfl)) rfl (by decide +kernel) (Nat.le_of_ble_eq_true rfl) (Nat.le_of_ble_eq_true rfl) rfl (by decide) (lk_Words_begin hγ 0 0 (mI M 10 this 1) _ M h) (fun _ _ => Qv_r) (fun v M1 hp => Qv_k (R := fun st => E γ k_Works_linesOf 6 20 [some (vr (some (10, this))), some (vi (0 : Int32)), none] st M1 (Qi Q)) hp (fun h => ?_))
  refine E_blk (lv' := [some (vr (some (10, this))), some (vi (0 : Int32)), none]) (st' := [vi (mI M1 10 this 1)]) (M1 := M1) (pc' := 24) (tb_Works hγ) [.aload_n 0, .getfield 121] (by decide +kernel) rfl rfl trivial ?_
  refine E_if_le (off := 17) (tgt := 41) (by decide +kernel) (by decide) (fun b2 => ?_) (fun b2 => ?_)
  · rw [if_pos b2] at h
    refine E_mask [true, true, false] rfl ?_
    exact lk_Works_linesOf_j41 hγ this Q (0 : Int32) M1 h
  · rw [if_neg b2] at h
    refine E_blk (lv' := [some (vr (some (10, this))), some (vi (0 : Int32)), none]) (st' := [vr (some (3, 0))]) (M1 := M1) (pc' := 31) (tb_Works hγ) [.aload_n 0, .getfield 40] (by decide +kernel) rfl rfl trivial ?_
    refine E_callV (κ' := k_Reader_begin) (As := []) (st := []) mv_Reader_begin (Or.inr ⟨"ClassWorks", (tbk_mem (j := 8) (k := 86) rfl)⟩) rfl (by decide +kernel) (Nat.le_of_ble_eq_true rfl) (Nat.le_of_ble_eq_true rfl) rfl (by decide) (lk_Reader_begin hγ 0 _ M1 h) (fun _ _ => Qi_r) (fun v M7 hp => Qi_k (R := fun st => E γ k_Works_linesOf 6 34 [some (vr (some (10, this))), some (vi (0 : Int32)), none] st M7 (Qi Q)) hp (fun r8 h => ?_))
    refine E_if_eq (off := 7) (tgt := 41) (by decide +kernel) (by decide) (fun b9 => ?_) (fun b9 => ?_)
    · rw [if_pos b9] at h
      refine E_mask [true, true, false] rfl ?_
      exact lk_Works_linesOf_j41 hγ this Q (0 : Int32) M7 h
    · rw [if_neg b9] at h
      refine E_blk (lv' := [some (vr (some (10, this))), some (vi (0 : Int32)), none]) (st' := [vi (1 : Int32)]) (M1 := M7) (pc' := 38) (tb_Works hγ) [.iconst 1] (by decide +kernel) rfl rfl trivial ?_
      refine E_goto (off := 4) (tgt := 42) (by decide +kernel) (by decide) ?_
      refine E_mask [true, true, false] rfl ?_
      exact lk_Works_linesOf_j42 hγ this Q (0 : Int32) (1 : Int32) M7 h
def w_Works_trial_j281 (this : Nat) (Q : Int32 → Mem → Prop) (s0 : Nat) (M : Mem) : Prop :=
  Q (-11 : Int32) (sI M 10 this 21 (mI M 9 s0 6))
def w_Works_trial_L158 (this : Nat) (Q : Int32 → Mem → Prop) (k114 : Int32 → Int32 → Int32 → Nat → Int32 → Nat → Mem → Prop) : Nat → Int32 → Int32 → Int32 → Nat → Nat → Int32 → Mem → Prop
  | 0, _, _, _, _, _, _, _ => False
  | n + 1, v1, v2, v3, v4, v6, v8, M => w_Words_peek v4 v8 (fun r29 M28 => if r29 = (10 : Int32) then (vp_in v2 (mL M28 400 v6) ∧ w_Reader_nextLine 0 (fun r33 M32 => k114 v1 (v2 + (1 : Int32)) v3 v4 r33 v6 M32) (sI M28 400 v6 v2.toNatClampNeg ((10 : Int32).toInt8.toInt32))) else (vp_in v8 (mL M28 400 0) ∧ vp_in v2 (mL M28 400 v6) ∧ ∃ M36, M36 = (sI M28 400 v6 v2.toNatClampNeg ((mI M28 400 0 v8.toNatClampNeg).toInt8.toInt32)) ∧ (w_Works_trial_L158 this Q k114 n) v1 (v2 + (1 : Int32)) v3 v4 v6 (v8 + (1 : Int32)) M36)) M
def w_Works_trial_j151 (this : Nat) (Q : Int32 → Mem → Prop) (k114 : Int32 → Int32 → Int32 → Nat → Int32 → Nat → Mem → Prop) (v1 : Int32) (v2 : Int32) (v4 : Nat) (v6 : Nat) (v7 : Int32) (M : Mem) : Prop :=
  ∃ n37 : Nat, w_Works_trial_L158 this Q k114 n37 v1 v2 v7 v4 v6 v7 M
def w_Works_trial_L126 (this : Nat) (Q : Int32 → Mem → Prop) (k114 : Int32 → Int32 → Int32 → Nat → Int32 → Nat → Mem → Prop) : Nat → Int32 → Int32 → Nat → Nat → Int32 → Mem → Prop
  | 0, _, _, _, _, _, _ => False
  | n + 1, v1, v2, v4, v6, v7, M => if v7 ≤ 0 then (w_Works_trial_j151 this Q k114 v1 v2 v4 v6 v7 M) else (vp_in (v7 - (1 : Int32)) (mL M 400 0) ∧ if (mI M 400 0 (v7 - (1 : Int32)).toNatClampNeg) = (10 : Int32) then (w_Works_trial_j151 this Q k114 v1 v2 v4 v6 v7 M) else ((w_Works_trial_L126 this Q k114 n) v1 v2 v4 v6 (v7 + (-1 : Int32)) M))
def w_Works_trial_L114 (this : Nat) (Q : Int32 → Mem → Prop) : Nat → Int32 → Int32 → Int32 → Nat → Int32 → Nat → Mem → Prop
  | 0, _, _, _, _, _, _, _ => False
  | n + 1, v1, v2, v3, v4, v5, v6, M => if v5 = 0 then (w_Words_begin v4 0 v1 (fun M14 => w_Words_next v4 (fun M15 => w_Words_isWord v4 (78 : Int32) (fun r17 M16 => if r17 = 0 then (w_Works_refuse this (1 : Int32) (mI M16 2 v4 4) (fun i20 M19 => w_Works_trial_j281 this Q i20 M19) M16) else (w_Words_next v4 (fun M21 => w_World_begin 0 (0 : Int32) (fun M22 => w_Reader_call 0 0 (0 : Int32) (fun M23 => vp_in (mI M23 10 this 10) (mL M23 98 this) ∧ w_Works_forget this (mI (sI M23 98 this (mI M23 10 this 10).toNatClampNeg v2) 10 this 10) (fun M25 => Q ((mI (sI M25 10 this 10 ((mI M25 10 this 10) + (1 : Int32))) 10 this 10) - (1 : Int32)) (sI M25 10 this 10 ((mI M25 10 this 10) + (1 : Int32)))) (sI M23 98 this (mI M23 10 this 10).toNatClampNeg v2)) (fun M26 => w_Works_trial_j281 this Q 0 M26) M22) M21) M16)) M15) (sI M14 2 v4 2 v3)) M) else (∃ n40 : Nat, w_Works_trial_L126 this Q (w_Works_trial_L114 this Q n) n40 v1 v2 v4 v6 (mI M 2 v4 4) M)
def w_Works_trial_j89 (this : Nat) (Q : Int32 → Mem → Prop) (v1 : Int32) (v2 : Int32) (v3 : Int32) (v4 : Nat) (s0 : Int32) (M : Mem) : Prop :=
  if s0 = 0 then (w_Works_refuse this (1 : Int32) v1 (fun i10 M9 => w_Works_trial_j281 this Q i10 M9) M) else (vp_in (mI M 10 this 10) (mL M 701 0) ∧ ∃ i12, (mR M 701 0 (mI M 10 this 10).toNatClampNeg) = some (400, i12) ∧ ∃ n41 : Nat, w_Works_trial_L114 this Q n41 v1 v2 v3 v4 s0 i12 M)
def w_Works_trial_j88 (this : Nat) (Q : Int32 → Mem → Prop) (v1 : Int32) (v2 : Int32) (v3 : Int32) (v4 : Nat) (M : Mem) : Prop :=
  w_Works_trial_j89 this Q v1 v2 v3 v4 (0 : Int32) M
def w_Works_trial (this : Nat) (Q : Int32 → Mem → Prop) (M : Mem) : Prop :=
  if (mI M 10 this 10) = (40 : Int32) then (Q (-3 : Int32) M) else (if (1200 : Int32) < (mI M 10 this 1) then (Q (-3 : Int32) M) else (w_Works_linesOf this (fun r4 M3 => if r4 ≤ (60 : Int32) then (w_Words_begin 0 0 (mI M3 10 this 1) (fun M6 => if (mI M3 10 this 1) ≤ 0 then (w_Works_trial_j88 this Q (mI M3 10 this 1) (0 : Int32) (-1 : Int32) 0 M6) else (w_Reader_begin 0 (fun r43 M42 => if r43 = 0 then (w_Works_trial_j88 this Q (mI M3 10 this 1) (0 : Int32) (-1 : Int32) 0 M42) else (w_Works_trial_j89 this Q (mI M3 10 this 1) (0 : Int32) (-1 : Int32) 0 (1 : Int32) M42)) M6)) (sI (sI M3 10 this 1 (0 : Int32)) 10 this 21 (-2 : Int32))) else (Q (-3 : Int32) M3)) M))
set_option maxRecDepth 4096 in
theorem lk_Works_trial_j281 {γ : Gm} (hγ : Gk γ) (this : Nat) (Q : Int32 → Mem → Prop) (s0 : Nat) (M : Mem) (h : w_Works_trial_j281 this Q s0 M) : E γ k_Works_trial 8 281 [some (vr (some (10, this))), none, none, none, none, none, none, none, none] [vr (some (9, s0))] M (Qi Q) := by
  unfold w_Works_trial_j281 at h
  refine E_blk (lv' := [some (vr (some (10, this))), none, none, none, none, some (vr (some (9, s0))), none, none, none]) (st' := [vi (-11 : Int32)]) (M1 := (sI M 10 this 21 (mI M 9 s0 6))) (pc' := 294) (tb_Works hγ) [.astore 5, .aload_n 0, .aload 5, .getfield 135, .putfield 93, .bipush (.negSucc 10)] (by decide +kernel) rfl rfl trivial ?_
  exact E_iret rfl (by decide +kernel) h
set_option maxRecDepth 4096 in
theorem lk_Works_trial_L158 {γ : Gm} (hγ : Gk γ) (this : Nat) (Q : Int32 → Mem → Prop) (k114 : Int32 → Int32 → Int32 → Nat → Int32 → Nat → Mem → Prop) (hk114 : ∀ (v1 : Int32) (v2 : Int32) (v3 : Int32) (v4 : Nat) (v5 : Int32) (v6 : Nat) (M : Mem), k114 v1 v2 v3 v4 v5 v6 M → E γ k_Works_trial 8 114 [some (vr (some (10, this))), some (vi v1), some (vi v2), some (vi v3), some (vr (some (2, v4))), some (vi v5), some (vr (some (400, v6))), none, none] [] M (Qi Q)) : ∀ (n : Nat) (v1 : Int32) (v2 : Int32) (v3 : Int32) (v4 : Nat) (v6 : Nat) (v8 : Int32) (M : Mem), w_Works_trial_L158 this Q k114 n v1 v2 v3 v4 v6 v8 M → E γ k_Works_trial 8 158 [some (vr (some (10, this))), some (vi v1), some (vi v2), some (vi v3), some (vr (some (2, v4))), none, some (vr (some (400, v6))), none, some (vi v8)] [] M (Qi Q) := by
  intro n
  induction n with
  | zero => intro v1 v2 v3 v4 v6 v8 M h; exact h.elim
  | succ n ih =>
    intro v1 v2 v3 v4 v6 v8 M h
    unfold w_Works_trial_L158 at h
    refine E_blk (lv' := [some (vr (some (10, this))), some (vi v1), some (vi v2), some (vi v3), some (vr (some (2, v4))), none, some (vr (some (400, v6))), none, some (vi v8)]) (st' := [vi v8, vr (some (2, v4))]) (M1 := M) (pc' := 162) (tb_Works hγ) [.aload 4, .iload 8] (by decide +kernel) rfl rfl trivial ?_
    refine E_callV (κ' := k_Words_peek) (As := [vi v8]) (st := []) mv_Words_peek (Or.inr ⟨"ClassWorks", (tbk_mem (j := 10) (k := 238) rfl)⟩) rfl (by decide +kernel) (Nat.le_of_ble_eq_true rfl) (Nat.le_of_ble_eq_true rfl) rfl (by decide) (lk_Words_peek hγ v4 v8 _ M h) (fun _ _ => Qi_r) (fun v M28 hp => Qi_k (R := fun st => E γ k_Works_trial 8 165 [some (vr (some (10, this))), some (vi v1), some (vi v2), some (vi v3), some (vr (some (2, v4))), none, some (vr (some (400, v6))), none, some (vi v8)] st M28 (Qi Q)) hp (fun r29 h => ?_))
    refine E_blk (lv' := [some (vr (some (10, this))), some (vi v1), some (vi v2), some (vi v3), some (vr (some (2, v4))), none, some (vr (some (400, v6))), none, some (vi v8)]) (st' := [vi (10 : Int32), vi r29]) (M1 := M28) (pc' := 167) (tb_Works hγ) [.bipush 10] (by decide +kernel) rfl rfl trivial ?_
    refine E_icmp_eq (off := 23) (tgt := 190) (by decide +kernel) (by decide) (fun b30 => ?_) (fun b30 => ?_)
    · rw [if_pos b30] at h
      obtain ⟨c31, h⟩ := h
      refine E_blk (lv' := [some (vr (some (10, this))), some (vi v1), some (vi (v2 + (1 : Int32))), some (vi v3), some (vr (some (2, v4))), none, some (vr (some (400, v6))), none, some (vi v8)]) (st' := [vr (some (3, 0))]) (M1 := (sI M28 400 v6 v2.toNatClampNeg ((10 : Int32).toInt8.toInt32))) (pc' := 203) (tb_Works hγ) [.aload 6, .iload_n 2, .bipush 10, .bastore, .iinc 2 1, .aload_n 0, .getfield 40] (by decide +kernel) rfl rfl ⟨c31, trivial⟩ ?_
      refine E_callV (κ' := k_Reader_nextLine) (As := []) (st := []) mv_Reader_nextLine (Or.inr ⟨"ClassWorks", (tbk_mem (j := 8) (k := 96) rfl)⟩) rfl (by decide +kernel) (Nat.le_of_ble_eq_true rfl) (Nat.le_of_ble_eq_true rfl) rfl (by decide) (lk_Reader_nextLine hγ 0 _ (sI M28 400 v6 v2.toNatClampNeg ((10 : Int32).toInt8.toInt32)) h) (fun _ _ => Qi_r) (fun v M32 hp => Qi_k (R := fun st => E γ k_Works_trial 8 206 [some (vr (some (10, this))), some (vi v1), some (vi (v2 + (1 : Int32))), some (vi v3), some (vr (some (2, v4))), none, some (vr (some (400, v6))), none, some (vi v8)] st M32 (Qi Q)) hp (fun r33 h => ?_))
      refine E_blk (lv' := [some (vr (some (10, this))), some (vi v1), some (vi (v2 + (1 : Int32))), some (vi v3), some (vr (some (2, v4))), some (vi r33), some (vr (some (400, v6))), none, some (vi v8)]) (st' := []) (M1 := M32) (pc' := 208) (tb_Works hγ) [.istore 5] (by decide +kernel) rfl rfl trivial ?_
      refine E_goto (off := -94) (tgt := 114) (by decide +kernel) (by decide) ?_
      refine E_mask [true, true, true, true, true, true, true, false, false] rfl ?_
      exact hk114 v1 (v2 + (1 : Int32)) v3 v4 r33 v6 M32 h
    · rw [if_neg b30] at h
      obtain ⟨c34, c35, h⟩ := h
      refine E_blk (lv' := [some (vr (some (10, this))), some (vi v1), some (vi v2), some (vi v3), some (vr (some (2, v4))), none, some (vr (some (400, v6))), none, some (vi v8)]) (st' := []) (M1 := (sI M28 400 v6 v2.toNatClampNeg ((mI M28 400 0 v8.toNatClampNeg).toInt8.toInt32))) (pc' := 181) (tb_Works hγ) [.aload 6, .iload_n 2, .aload_n 0, .getfield 9, .iload 8, .baload, .bastore] (by decide +kernel) rfl rfl ⟨c34, c35, trivial⟩ ?_
      obtain ⟨M36, eM36, h⟩ := h
      rw [← eM36]
      refine E_blk (lv' := [some (vr (some (10, this))), some (vi v1), some (vi (v2 + (1 : Int32))), some (vi v3), some (vr (some (2, v4))), none, some (vr (some (400, v6))), none, some (vi (v8 + (1 : Int32)))]) (st' := []) (M1 := M36) (pc' := 187) (tb_Works hγ) [.iinc 2 1, .iinc 8 1] (by decide +kernel) rfl rfl trivial ?_
      refine E_goto (off := -29) (tgt := 158) (by decide +kernel) (by decide) ?_
      refine E_mask [true, true, true, true, true, false, true, false, true] rfl ?_
      exact ih v1 (v2 + (1 : Int32)) v3 v4 v6 (v8 + (1 : Int32)) M36 h
set_option maxRecDepth 4096 in
theorem lk_Works_trial_j151 {γ : Gm} (hγ : Gk γ) (this : Nat) (Q : Int32 → Mem → Prop) (k114 : Int32 → Int32 → Int32 → Nat → Int32 → Nat → Mem → Prop) (hk114 : ∀ (v1 : Int32) (v2 : Int32) (v3 : Int32) (v4 : Nat) (v5 : Int32) (v6 : Nat) (M : Mem), k114 v1 v2 v3 v4 v5 v6 M → E γ k_Works_trial 8 114 [some (vr (some (10, this))), some (vi v1), some (vi v2), some (vi v3), some (vr (some (2, v4))), some (vi v5), some (vr (some (400, v6))), none, none] [] M (Qi Q)) (v1 : Int32) (v2 : Int32) (v4 : Nat) (v6 : Nat) (v7 : Int32) (M : Mem) (h : w_Works_trial_j151 this Q k114 v1 v2 v4 v6 v7 M) : E γ k_Works_trial 8 151 [some (vr (some (10, this))), some (vi v1), some (vi v2), none, some (vr (some (2, v4))), none, some (vr (some (400, v6))), some (vi v7), none] [] M (Qi Q) := by
  unfold w_Works_trial_j151 at h
  refine E_blk (lv' := [some (vr (some (10, this))), some (vi v1), some (vi v2), some (vi v7), some (vr (some (2, v4))), none, some (vr (some (400, v6))), some (vi v7), some (vi v7)]) (st' := []) (M1 := M) (pc' := 158) (tb_Works hγ) [.iload 7, .istore_n 3, .iload 7, .istore 8] (by decide +kernel) rfl rfl trivial ?_
  obtain ⟨n37, h⟩ := h
  refine E_mask [true, true, true, true, true, false, true, false, true] rfl ?_
  exact lk_Works_trial_L158 hγ this Q k114 hk114 n37 v1 v2 v7 v4 v6 v7 M h
set_option maxRecDepth 4096 in
theorem lk_Works_trial_L126 {γ : Gm} (hγ : Gk γ) (this : Nat) (Q : Int32 → Mem → Prop) (k114 : Int32 → Int32 → Int32 → Nat → Int32 → Nat → Mem → Prop) (hk114 : ∀ (v1 : Int32) (v2 : Int32) (v3 : Int32) (v4 : Nat) (v5 : Int32) (v6 : Nat) (M : Mem), k114 v1 v2 v3 v4 v5 v6 M → E γ k_Works_trial 8 114 [some (vr (some (10, this))), some (vi v1), some (vi v2), some (vi v3), some (vr (some (2, v4))), some (vi v5), some (vr (some (400, v6))), none, none] [] M (Qi Q)) : ∀ (n : Nat) (v1 : Int32) (v2 : Int32) (v4 : Nat) (v6 : Nat) (v7 : Int32) (M : Mem), w_Works_trial_L126 this Q k114 n v1 v2 v4 v6 v7 M → E γ k_Works_trial 8 126 [some (vr (some (10, this))), some (vi v1), some (vi v2), none, some (vr (some (2, v4))), none, some (vr (some (400, v6))), some (vi v7), none] [] M (Qi Q) := by
  intro n
  induction n with
  | zero => intro v1 v2 v4 v6 v7 M h; exact h.elim
  | succ n ih =>
    intro v1 v2 v4 v6 v7 M h
    unfold w_Works_trial_L126 at h
    refine E_blk (lv' := [some (vr (some (10, this))), some (vi v1), some (vi v2), none, some (vr (some (2, v4))), none, some (vr (some (400, v6))), some (vi v7), none]) (st' := [vi v7]) (M1 := M) (pc' := 128) (tb_Works hγ) [.iload 7] (by decide +kernel) rfl rfl trivial ?_
    refine E_if_le (off := 23) (tgt := 151) (by decide +kernel) (by decide) (fun b27 => ?_) (fun b27 => ?_)
    · rw [if_pos b27] at h
      refine E_mask [true, true, true, false, true, false, true, true, false] rfl ?_
      exact lk_Works_trial_j151 hγ this Q k114 hk114 v1 v2 v4 v6 v7 M h
    · rw [if_neg b27] at h
      obtain ⟨c38, h⟩ := h
      refine E_blk (lv' := [some (vr (some (10, this))), some (vi v1), some (vi v2), none, some (vr (some (2, v4))), none, some (vr (some (400, v6))), some (vi v7), none]) (st' := [vi (10 : Int32), vi (mI M 400 0 (v7 - (1 : Int32)).toNatClampNeg)]) (M1 := M) (pc' := 142) (tb_Works hγ) [.aload_n 0, .getfield 9, .iload 7, .iconst 1, .isub, .baload, .bipush 10] (by decide +kernel) rfl rfl ⟨c38, trivial⟩ ?_
      refine E_icmp_eq (off := 9) (tgt := 151) (by decide +kernel) (by decide) (fun b39 => ?_) (fun b39 => ?_)
      · rw [if_pos b39] at h
        refine E_mask [true, true, true, false, true, false, true, true, false] rfl ?_
        exact lk_Works_trial_j151 hγ this Q k114 hk114 v1 v2 v4 v6 v7 M h
      · rw [if_neg b39] at h
        refine E_blk (lv' := [some (vr (some (10, this))), some (vi v1), some (vi v2), none, some (vr (some (2, v4))), none, some (vr (some (400, v6))), some (vi (v7 + (-1 : Int32))), none]) (st' := []) (M1 := M) (pc' := 148) (tb_Works hγ) [.iinc 7 (.negSucc 0)] (by decide +kernel) rfl rfl trivial ?_
        refine E_goto (off := -22) (tgt := 126) (by decide +kernel) (by decide) ?_
        refine E_mask [true, true, true, false, true, false, true, true, false] rfl ?_
        exact ih v1 v2 v4 v6 (v7 + (-1 : Int32)) M h
set_option maxRecDepth 4096 in
theorem lk_Works_trial_L114 {γ : Gm} (hγ : Gk γ) (this : Nat) (Q : Int32 → Mem → Prop) : ∀ (n : Nat) (v1 : Int32) (v2 : Int32) (v3 : Int32) (v4 : Nat) (v5 : Int32) (v6 : Nat) (M : Mem), w_Works_trial_L114 this Q n v1 v2 v3 v4 v5 v6 M → E γ k_Works_trial 8 114 [some (vr (some (10, this))), some (vi v1), some (vi v2), some (vi v3), some (vr (some (2, v4))), some (vi v5), some (vr (some (400, v6))), none, none] [] M (Qi Q) := by
  intro n
  induction n with
  | zero => intro v1 v2 v3 v4 v5 v6 M h; exact h.elim
  | succ n ih =>
    intro v1 v2 v3 v4 v5 v6 M h
    unfold w_Works_trial_L114 at h
    refine E_blk (lv' := [some (vr (some (10, this))), some (vi v1), some (vi v2), some (vi v3), some (vr (some (2, v4))), some (vi v5), some (vr (some (400, v6))), none, none]) (st' := [vi v5]) (M1 := M) (pc' := 116) (tb_Works hγ) [.iload 5] (by decide +kernel) rfl rfl trivial ?_
    refine E_if_eq (off := 95) (tgt := 211) (by decide +kernel) (by decide) (fun b13 => ?_) (fun b13 => ?_)
    · rw [if_pos b13] at h
      refine E_blk (lv' := [some (vr (some (10, this))), some (vi v1), some (vi v2), some (vi v3), some (vr (some (2, v4))), some (vi v5), some (vr (some (400, v6))), none, none]) (st' := [vi v1, vr (some (400, 0)), vr (some (2, v4))]) (M1 := M) (pc' := 218) (tb_Works hγ) [.aload 4, .aload_n 0, .getfield 9, .iload_n 1] (by decide +kernel) rfl rfl trivial ?_
      refine E_callV (κ' := k_Words_begin) (As := [vr (some (400, 0)), vi v1]) (st := []) mv_Words_begin (Or.inl (tbk_mem (j := 8) (k := 85) rfl)) rfl (by decide +kernel) (Nat.le_of_ble_eq_true rfl) (Nat.le_of_ble_eq_true rfl) rfl (by decide) (lk_Words_begin hγ v4 0 v1 _ M h) (fun _ _ => Qv_r) (fun v M14 hp => Qv_k (R := fun st => E γ k_Works_trial 8 221 [some (vr (some (10, this))), some (vi v1), some (vi v2), some (vi v3), some (vr (some (2, v4))), some (vi v5), some (vr (some (400, v6))), none, none] st M14 (Qi Q)) hp (fun h => ?_))
      refine E_blk (lv' := [some (vr (some (10, this))), some (vi v1), some (vi v2), some (vi v3), some (vr (some (2, v4))), some (vi v5), some (vr (some (400, v6))), none, none]) (st' := [vr (some (2, v4))]) (M1 := (sI M14 2 v4 2 v3)) (pc' := 229) (tb_Works hγ) [.aload 4, .iload_n 3, .putfield 170, .aload 4] (by decide +kernel) rfl rfl trivial ?_
      refine E_callV (κ' := k_Words_next) (As := []) (st := []) mv_Words_next (Or.inl (tbk_mem (j := 10) (k := 186) rfl)) rfl (by decide +kernel) (Nat.le_of_ble_eq_true rfl) (Nat.le_of_ble_eq_true rfl) rfl (by decide) (lk_Words_next hγ v4 _ (sI M14 2 v4 2 v3) h) (fun _ _ => Qv_r) (fun v M15 hp => Qv_k (R := fun st => E γ k_Works_trial 8 232 [some (vr (some (10, this))), some (vi v1), some (vi v2), some (vi v3), some (vr (some (2, v4))), some (vi v5), some (vr (some (400, v6))), none, none] st M15 (Qi Q)) hp (fun h => ?_))
      refine E_blk (lv' := [some (vr (some (10, this))), some (vi v1), some (vi v2), some (vi v3), some (vr (some (2, v4))), some (vi v5), some (vr (some (400, v6))), none, none]) (st' := [vi (78 : Int32), vr (some (2, v4))]) (M1 := M15) (pc' := 236) (tb_Works hγ) [.aload 4, .bipush 78] (by decide +kernel) rfl rfl trivial ?_
      refine E_callV (κ' := k_Words_isWord) (As := [vi (78 : Int32)]) (st := []) mv_Words_isWord (Or.inl (tbk_mem (j := 10) (k := 239) rfl)) rfl (by decide +kernel) (Nat.le_of_ble_eq_true rfl) (Nat.le_of_ble_eq_true rfl) rfl (by decide) (lk_Words_isWord hγ v4 (78 : Int32) _ M15 h) (fun _ _ => Qi_r) (fun v M16 hp => Qi_k (R := fun st => E γ k_Works_trial 8 239 [some (vr (some (10, this))), some (vi v1), some (vi v2), some (vi v3), some (vr (some (2, v4))), some (vi v5), some (vr (some (400, v6))), none, none] st M16 (Qi Q)) hp (fun r17 h => ?_))
      refine E_if_ne (off := 14) (tgt := 253) (by decide +kernel) (by decide) (fun b18 => ?_) (fun b18 => ?_)
      · rw [if_pos b18] at h
        refine E_blk (lv' := [some (vr (some (10, this))), some (vi v1), some (vi v2), some (vi v3), some (vr (some (2, v4))), some (vi v5), some (vr (some (400, v6))), none, none]) (st' := [vi (mI M16 2 v4 4), vi (1 : Int32), vr (some (10, this))]) (M1 := M16) (pc' := 249) (tb_Works hγ) [.aload_n 0, .iconst 1, .aload 4, .getfield 464] (by decide +kernel) rfl rfl trivial ?_
        refine E_callV (κ' := k_Works_refuse) (As := [vi (1 : Int32), vi (mI M16 2 v4 4)]) (st := []) mv_Works_refuse (Or.inl (tbk_mem (j := 8) (k := 87) rfl)) rfl (by decide +kernel) (Nat.le_of_ble_eq_true rfl) (Nat.le_of_ble_eq_true rfl) rfl (by decide) (lk_Works_refuse hγ this (1 : Int32) (mI M16 2 v4 4) _ M16 h) (fun _ _ => Qr_r) (fun v M19 hp => Qr_k (R := fun st => E γ k_Works_trial 8 252 [some (vr (some (10, this))), some (vi v1), some (vi v2), some (vi v3), some (vr (some (2, v4))), some (vi v5), some (vr (some (400, v6))), none, none] st M19 (Qi Q)) hp (fun i20 h => ?_))
        refine E_throwC (q := (9, i20)) (hp := 281) (ct := 28) (show (9 : Nat) ≠ 0 by decide) rfl (Or.inr ⟨by decide, (show (9 : Nat) < 20 by decide), _, rfl, (tbk_mem (j := 1) (k := 175) rfl)⟩) (by decide +kernel) ?_
        refine E_mask [true, false, false, false, false, false, false, false, false] rfl ?_
        exact lk_Works_trial_j281 hγ this Q i20 M19 h
      · rw [if_neg b18] at h
        refine E_blk (lv' := [some (vr (some (10, this))), some (vi v1), some (vi v2), some (vi v3), some (vr (some (2, v4))), some (vi v5), some (vr (some (400, v6))), none, none]) (st' := [vr (some (2, v4))]) (M1 := M16) (pc' := 255) (tb_Works hγ) [.aload 4] (by decide +kernel) rfl rfl trivial ?_
        refine E_callV (κ' := k_Words_next) (As := []) (st := []) mv_Words_next (Or.inl (tbk_mem (j := 10) (k := 186) rfl)) rfl (by decide +kernel) (Nat.le_of_ble_eq_true rfl) (Nat.le_of_ble_eq_true rfl) rfl (by decide) (lk_Words_next hγ v4 _ M16 h) (fun _ _ => Qv_r) (fun v M21 hp => Qv_k (R := fun st => E γ k_Works_trial 8 258 [some (vr (some (10, this))), some (vi v1), some (vi v2), some (vi v3), some (vr (some (2, v4))), some (vi v5), some (vr (some (400, v6))), none, none] st M21 (Qi Q)) hp (fun h => ?_))
        refine E_blk (lv' := [some (vr (some (10, this))), some (vi v1), some (vi v2), some (vi v3), some (vr (some (2, v4))), some (vi v5), some (vr (some (400, v6))), none, none]) (st' := [vi (0 : Int32), vr (some (5, 0))]) (M1 := M21) (pc' := 263) (tb_Works hγ) [.aload_n 0, .getfield 61, .iconst 0] (by decide +kernel) rfl rfl trivial ?_
        refine E_callV (κ' := k_World_begin) (As := [vi (0 : Int32)]) (st := []) mv_World_begin (Or.inl (tbk_mem (j := 6) (k := 4) rfl)) rfl (by decide +kernel) (Nat.le_of_ble_eq_true rfl) (Nat.le_of_ble_eq_true rfl) rfl (by decide) (lk_World_begin hγ 0 (0 : Int32) _ M21 h) (fun _ _ => Qv_r) (fun v M22 hp => Qv_k (R := fun st => E γ k_Works_trial 8 266 [some (vr (some (10, this))), some (vi v1), some (vi v2), some (vi v3), some (vr (some (2, v4))), some (vi v5), some (vr (some (400, v6))), none, none] st M22 (Qi Q)) hp (fun h => ?_))
        refine E_blk (lv' := [some (vr (some (10, this))), some (vi v1), some (vi v2), some (vi v3), some (vr (some (2, v4))), some (vi v5), some (vr (some (400, v6))), none, none]) (st' := [vi (0 : Int32), vr (some (5, 0)), vr (some (3, 0))]) (M1 := M22) (pc' := 275) (tb_Works hγ) [.aload_n 0, .getfield 40, .aload_n 0, .getfield 61, .iconst 0] (by decide +kernel) rfl rfl trivial ?_
        refine E_callC (q := (9, 0)) (hp := 281) (ct := 28) (κ' := k_Reader_call) (As := [vr (some (5, 0)), vi (0 : Int32)]) (st := []) mv_Reader_call (Or.inl (tbk_mem (j := 8) (k := 92) rfl)) rfl (by decide +kernel) (Nat.le_of_ble_eq_true rfl) (Nat.le_of_ble_eq_true rfl) rfl (by decide) rfl (Or.inr ⟨by decide, (show (9 : Nat) < 20 by decide), _, rfl, (tbk_mem (j := 1) (k := 175) rfl)⟩) (lk_Reader_call hγ 0 0 (0 : Int32) _ _ M22 h) (fun _ _ => Qv_r) (fun M26 h => ?_) (fun v M23 hp => Qv_k (R := fun st => E γ k_Works_trial 8 278 [some (vr (some (10, this))), some (vi v1), some (vi v2), some (vi v3), some (vr (some (2, v4))), some (vi v5), some (vr (some (400, v6))), none, none] st M23 (Qi Q)) hp (fun h => ?_))
        · refine E_mask [true, false, false, false, false, false, false, false, false] rfl ?_
          exact lk_Works_trial_j281 hγ this Q 0 M26 h
        · refine E_goto (off := 17) (tgt := 295) (by decide +kernel) (by decide) ?_
          obtain ⟨c24, h⟩ := h
          refine E_blk (lv' := [some (vr (some (10, this))), some (vi v1), some (vi v2), some (vi v3), some (vr (some (2, v4))), some (vi v5), some (vr (some (400, v6))), none, none]) (st' := [vi (mI (sI M23 98 this (mI M23 10 this 10).toNatClampNeg v2) 10 this 10), vr (some (10, this))]) (M1 := (sI M23 98 this (mI M23 10 this 10).toNatClampNeg v2)) (pc' := 310) (tb_Works hγ) [.aload_n 0, .getfield 70, .aload_n 0, .getfield 230, .iload_n 2, .iastore, .aload_n 0, .aload_n 0, .getfield 230] (by decide +kernel) rfl rfl ⟨c24, trivial⟩ ?_
          refine E_callV (κ' := k_Works_forget) (As := [vi (mI (sI M23 98 this (mI M23 10 this 10).toNatClampNeg v2) 10 this 10)]) (st := []) mv_Works_forget (Or.inl (tbk_mem (j := 10) (k := 226) rfl)) rfl (by decide +kernel) (Nat.le_of_ble_eq_true rfl) (Nat.le_of_ble_eq_true rfl) rfl (by decide) (lk_Works_forget hγ this (mI (sI M23 98 this (mI M23 10 this 10).toNatClampNeg v2) 10 this 10) _ (sI M23 98 this (mI M23 10 this 10).toNatClampNeg v2) h) (fun _ _ => Qv_r) (fun v M25 hp => Qv_k (R := fun st => E γ k_Works_trial 8 313 [some (vr (some (10, this))), some (vi v1), some (vi v2), some (vi v3), some (vr (some (2, v4))), some (vi v5), some (vr (some (400, v6))), none, none] st M25 (Qi Q)) hp (fun h => ?_))
          refine E_blk (lv' := [some (vr (some (10, this))), some (vi v1), some (vi v2), some (vi v3), some (vr (some (2, v4))), some (vi v5), some (vr (some (400, v6))), none, none]) (st' := [vi ((mI (sI M25 10 this 10 ((mI M25 10 this 10) + (1 : Int32))) 10 this 10) - (1 : Int32))]) (M1 := (sI M25 10 this 10 ((mI M25 10 this 10) + (1 : Int32)))) (pc' := 329) (tb_Works hγ) [.aload_n 0, .dup, .getfield 230, .iconst 1, .iadd, .putfield 230, .aload_n 0, .getfield 230, .iconst 1, .isub] (by decide +kernel) rfl rfl trivial ?_
          exact E_iret rfl (by decide +kernel) h
    · rw [if_neg b13] at h
      refine E_blk (lv' := [some (vr (some (10, this))), some (vi v1), some (vi v2), some (vi v3), some (vr (some (2, v4))), some (vi v5), some (vr (some (400, v6))), some (vi (mI M 2 v4 4)), none]) (st' := []) (M1 := M) (pc' := 126) (tb_Works hγ) [.aload 4, .getfield 464, .istore 7] (by decide +kernel) rfl rfl trivial ?_
      obtain ⟨n40, h⟩ := h
      refine E_mask [true, true, true, false, true, false, true, true, false] rfl ?_
      exact lk_Works_trial_L126 hγ this Q (w_Works_trial_L114 this Q n) ih n40 v1 v2 v4 v6 (mI M 2 v4 4) M h
set_option maxRecDepth 4096 in
theorem lk_Works_trial_j89 {γ : Gm} (hγ : Gk γ) (this : Nat) (Q : Int32 → Mem → Prop) (v1 : Int32) (v2 : Int32) (v3 : Int32) (v4 : Nat) (s0 : Int32) (M : Mem) (h : w_Works_trial_j89 this Q v1 v2 v3 v4 s0 M) : E γ k_Works_trial 8 89 [some (vr (some (10, this))), some (vi v1), some (vi v2), some (vi v3), some (vr (some (2, v4))), none, none, none, none] [vi s0] M (Qi Q) := by
  unfold w_Works_trial_j89 at h
  refine E_blk (lv' := [some (vr (some (10, this))), some (vi v1), some (vi v2), some (vi v3), some (vr (some (2, v4))), some (vi s0), none, none, none]) (st' := [vi s0]) (M1 := M) (pc' := 93) (tb_Works hγ) [.istore 5, .iload 5] (by decide +kernel) rfl rfl trivial ?_
  refine E_if_ne (off := 10) (tgt := 103) (by decide +kernel) (by decide) (fun b8 => ?_) (fun b8 => ?_)
  · rw [if_pos b8] at h
    refine E_blk (lv' := [some (vr (some (10, this))), some (vi v1), some (vi v2), some (vi v3), some (vr (some (2, v4))), some (vi s0), none, none, none]) (st' := [vi v1, vi (1 : Int32), vr (some (10, this))]) (M1 := M) (pc' := 99) (tb_Works hγ) [.aload_n 0, .iconst 1, .iload_n 1] (by decide +kernel) rfl rfl trivial ?_
    refine E_callV (κ' := k_Works_refuse) (As := [vi (1 : Int32), vi v1]) (st := []) mv_Works_refuse (Or.inl (tbk_mem (j := 8) (k := 87) rfl)) rfl (by decide +kernel) (Nat.le_of_ble_eq_true rfl) (Nat.le_of_ble_eq_true rfl) rfl (by decide) (lk_Works_refuse hγ this (1 : Int32) v1 _ M h) (fun _ _ => Qr_r) (fun v M9 hp => Qr_k (R := fun st => E γ k_Works_trial 8 102 [some (vr (some (10, this))), some (vi v1), some (vi v2), some (vi v3), some (vr (some (2, v4))), some (vi s0), none, none, none] st M9 (Qi Q)) hp (fun i10 h => ?_))
    refine E_throwC (q := (9, i10)) (hp := 281) (ct := 28) (show (9 : Nat) ≠ 0 by decide) rfl (Or.inr ⟨by decide, (show (9 : Nat) < 20 by decide), _, rfl, (tbk_mem (j := 1) (k := 175) rfl)⟩) (by decide +kernel) ?_
    refine E_mask [true, false, false, false, false, false, false, false, false] rfl ?_
    exact lk_Works_trial_j281 hγ this Q i10 M9 h
  · rw [if_neg b8] at h
    obtain ⟨c11, h⟩ := h
    refine E_blk (lv' := [some (vr (some (10, this))), some (vi v1), some (vi v2), some (vi v3), some (vr (some (2, v4))), some (vi s0), none, none, none]) (st' := [vr (mR M 701 0 (mI M 10 this 10).toNatClampNeg)]) (M1 := M) (pc' := 112) (tb_Works hγ) [.aload_n 0, .getfield 67, .aload_n 0, .getfield 230, .aaload] (by decide +kernel) rfl rfl ⟨c11, trivial⟩ ?_
    obtain ⟨i12, ei12, h⟩ := h
    rw [ei12]
    refine E_blk (lv' := [some (vr (some (10, this))), some (vi v1), some (vi v2), some (vi v3), some (vr (some (2, v4))), some (vi s0), some (vr (some (400, i12))), none, none]) (st' := []) (M1 := M) (pc' := 114) (tb_Works hγ) [.astore 6] (by decide +kernel) rfl rfl trivial ?_
    obtain ⟨n41, h⟩ := h
    refine E_mask [true, true, true, true, true, true, true, false, false] rfl ?_
    exact lk_Works_trial_L114 hγ this Q n41 v1 v2 v3 v4 s0 i12 M h
set_option maxRecDepth 4096 in
theorem lk_Works_trial_j88 {γ : Gm} (hγ : Gk γ) (this : Nat) (Q : Int32 → Mem → Prop) (v1 : Int32) (v2 : Int32) (v3 : Int32) (v4 : Nat) (M : Mem) (h : w_Works_trial_j88 this Q v1 v2 v3 v4 M) : E γ k_Works_trial 8 88 [some (vr (some (10, this))), some (vi v1), some (vi v2), some (vi v3), some (vr (some (2, v4))), none, none, none, none] [] M (Qi Q) := by
  unfold w_Works_trial_j88 at h
  refine E_blk (lv' := [some (vr (some (10, this))), some (vi v1), some (vi v2), some (vi v3), some (vr (some (2, v4))), none, none, none, none]) (st' := [vi (0 : Int32)]) (M1 := M) (pc' := 89) (tb_Works hγ) [.iconst 0] (by decide +kernel) rfl rfl trivial ?_
  refine E_mask [true, true, true, true, true, false, false, false, false] rfl ?_
  exact lk_Works_trial_j89 hγ this Q v1 v2 v3 v4 (0 : Int32) M h
set_option maxRecDepth 4096 in
theorem lk_Works_trial {γ : Gm} (hγ : Gk γ) (this : Nat) (Q : Int32 → Mem → Prop) (M : Mem) (h : w_Works_trial this Q M) : E γ k_Works_trial 8 0 [some (vr (some (10, this))), none, none, none, none, none, none, none, none] [] M (Qi Q) := by
  unfold w_Works_trial at h
  refine E_blk (lv' := [some (vr (some (10, this))), none, none, none, none, none, none, none, none]) (st' := [vi (40 : Int32), vi (mI M 10 this 10)]) (M1 := M) (pc' := 6) (tb_Works hγ) [.aload_n 0, .getfield 230, .bipush 40] (by decide +kernel) rfl rfl trivial ?_
  refine E_icmp_eq (off := 22) (tgt := 28) (by decide +kernel) (by decide) (fun b1 => ?_) (fun b1 => ?_)
  · rw [if_pos b1] at h
    refine E_blk (lv' := [some (vr (some (10, this))), none, none, none, none, none, none, none, none]) (st' := [vi (-3 : Int32)]) (M1 := M) (pc' := 30) (tb_Works hγ) [.bipush (.negSucc 2)] (by decide +kernel) rfl rfl trivial ?_
    exact E_iret rfl (by decide +kernel) h
  · rw [if_neg b1] at h
    refine E_blk (lv' := [some (vr (some (10, this))), none, none, none, none, none, none, none, none]) (st' := [vi (1200 : Int32), vi (mI M 10 this 1)]) (M1 := M) (pc' := 16) (tb_Works hγ) [.aload_n 0, .getfield 121, .sipush 1200] (by decide +kernel) rfl rfl trivial ?_
    refine E_icmp_gt (off := 12) (tgt := 28) (by decide +kernel) (by decide) (fun b2 => ?_) (fun b2 => ?_)
    · rw [if_pos b2] at h
      refine E_blk (lv' := [some (vr (some (10, this))), none, none, none, none, none, none, none, none]) (st' := [vi (-3 : Int32)]) (M1 := M) (pc' := 30) (tb_Works hγ) [.bipush (.negSucc 2)] (by decide +kernel) rfl rfl trivial ?_
      exact E_iret rfl (by decide +kernel) h
    · rw [if_neg b2] at h
      refine E_blk (lv' := [some (vr (some (10, this))), none, none, none, none, none, none, none, none]) (st' := [vr (some (10, this))]) (M1 := M) (pc' := 20) (tb_Works hγ) [.aload_n 0] (by decide +kernel) rfl rfl trivial ?_
      refine E_callV (κ' := k_Works_linesOf) (As := []) (st := []) mv_Works_linesOf (Or.inl (tbk_mem (j := 10) (k := 234) rfl)) rfl (by decide +kernel) (Nat.le_of_ble_eq_true rfl) (Nat.le_of_ble_eq_true rfl) rfl (by decide) (lk_Works_linesOf hγ this _ M h) (fun _ _ => Qi_r) (fun v M3 hp => Qi_k (R := fun st => E γ k_Works_trial 8 23 [some (vr (some (10, this))), none, none, none, none, none, none, none, none] st M3 (Qi Q)) hp (fun r4 h => ?_))
      refine E_blk (lv' := [some (vr (some (10, this))), none, none, none, none, none, none, none, none]) (st' := [vi (60 : Int32), vi r4]) (M1 := M3) (pc' := 25) (tb_Works hγ) [.bipush 60] (by decide +kernel) rfl rfl trivial ?_
      refine E_icmp_le (off := 6) (tgt := 31) (by decide +kernel) (by decide) (fun b5 => ?_) (fun b5 => ?_)
      · rw [if_pos b5] at h
        refine E_blk (lv' := [some (vr (some (10, this))), some (vi (mI M3 10 this 1)), some (vi (0 : Int32)), some (vi (-1 : Int32)), some (vr (some (2, 0))), none, none, none, none]) (st' := [vi (mI M3 10 this 1), vr (some (400, 0)), vr (some (2, 0))]) (M1 := (sI (sI M3 10 this 1 (0 : Int32)) 10 this 21 (-2 : Int32))) (pc' := 67) (tb_Works hγ) [.aload_n 0, .getfield 121, .istore_n 1, .aload_n 0, .iconst 0, .putfield 121, .aload_n 0, .bipush (.negSucc 1), .putfield 93, .iconst 0, .istore_n 2, .iconst (.negSucc 0), .istore_n 3, .aload_n 0, .getfield 40, .getfield 161, .astore 4, .aload 4, .aload_n 0, .getfield 9, .iload_n 1] (by decide +kernel) rfl rfl trivial ?_
        refine E_callV (κ' := k_Words_begin) (As := [vr (some (400, 0)), vi (mI M3 10 this 1)]) (st := []) mv_Words_begin (Or.inl (tbk_mem (j := 8) (k := 85) rfl)) rfl (by decide +kernel) (Nat.le_of_ble_eq_true rfl) (Nat.le_of_ble_eq_true rfl) rfl (by decide) (lk_Words_begin hγ 0 0 (mI M3 10 this 1) _ (sI (sI M3 10 this 1 (0 : Int32)) 10 this 21 (-2 : Int32)) h) (fun _ _ => Qv_r) (fun v M6 hp => Qv_k (R := fun st => E γ k_Works_trial 8 70 [some (vr (some (10, this))), some (vi (mI M3 10 this 1)), some (vi (0 : Int32)), some (vi (-1 : Int32)), some (vr (some (2, 0))), none, none, none, none] st M6 (Qi Q)) hp (fun h => ?_))
        refine E_blk (lv' := [some (vr (some (10, this))), some (vi (mI M3 10 this 1)), some (vi (0 : Int32)), some (vi (-1 : Int32)), some (vr (some (2, 0))), none, none, none, none]) (st' := [vi (mI M3 10 this 1)]) (M1 := M6) (pc' := 71) (tb_Works hγ) [.iload_n 1] (by decide +kernel) rfl rfl trivial ?_
        refine E_if_le (off := 17) (tgt := 88) (by decide +kernel) (by decide) (fun b7 => ?_) (fun b7 => ?_)
        · rw [if_pos b7] at h
          refine E_mask [true, true, true, true, true, false, false, false, false] rfl ?_
          exact lk_Works_trial_j88 hγ this Q (mI M3 10 this 1) (0 : Int32) (-1 : Int32) 0 M6 h
        · rw [if_neg b7] at h
          refine E_blk (lv' := [some (vr (some (10, this))), some (vi (mI M3 10 this 1)), some (vi (0 : Int32)), some (vi (-1 : Int32)), some (vr (some (2, 0))), none, none, none, none]) (st' := [vr (some (3, 0))]) (M1 := M6) (pc' := 78) (tb_Works hγ) [.aload_n 0, .getfield 40] (by decide +kernel) rfl rfl trivial ?_
          refine E_callV (κ' := k_Reader_begin) (As := []) (st := []) mv_Reader_begin (Or.inr ⟨"ClassWorks", (tbk_mem (j := 8) (k := 86) rfl)⟩) rfl (by decide +kernel) (Nat.le_of_ble_eq_true rfl) (Nat.le_of_ble_eq_true rfl) rfl (by decide) (lk_Reader_begin hγ 0 _ M6 h) (fun _ _ => Qi_r) (fun v M42 hp => Qi_k (R := fun st => E γ k_Works_trial 8 81 [some (vr (some (10, this))), some (vi (mI M3 10 this 1)), some (vi (0 : Int32)), some (vi (-1 : Int32)), some (vr (some (2, 0))), none, none, none, none] st M42 (Qi Q)) hp (fun r43 h => ?_))
          refine E_if_eq (off := 7) (tgt := 88) (by decide +kernel) (by decide) (fun b44 => ?_) (fun b44 => ?_)
          · rw [if_pos b44] at h
            refine E_mask [true, true, true, true, true, false, false, false, false] rfl ?_
            exact lk_Works_trial_j88 hγ this Q (mI M3 10 this 1) (0 : Int32) (-1 : Int32) 0 M42 h
          · rw [if_neg b44] at h
            refine E_blk (lv' := [some (vr (some (10, this))), some (vi (mI M3 10 this 1)), some (vi (0 : Int32)), some (vi (-1 : Int32)), some (vr (some (2, 0))), none, none, none, none]) (st' := [vi (1 : Int32)]) (M1 := M42) (pc' := 85) (tb_Works hγ) [.iconst 1] (by decide +kernel) rfl rfl trivial ?_
            refine E_goto (off := 4) (tgt := 89) (by decide +kernel) (by decide) ?_
            refine E_mask [true, true, true, true, true, false, false, false, false] rfl ?_
            exact lk_Works_trial_j89 hγ this Q (mI M3 10 this 1) (0 : Int32) (-1 : Int32) 0 (1 : Int32) M42 h
      · rw [if_neg b5] at h
        refine E_blk (lv' := [some (vr (some (10, this))), none, none, none, none, none, none, none, none]) (st' := [vi (-3 : Int32)]) (M1 := M3) (pc' := 30) (tb_Works hγ) [.bipush (.negSucc 2)] (by decide +kernel) rfl rfl trivial ?_
        exact E_iret rfl (by decide +kernel) h
def w_Works_outcome (this : Nat) (a1 : Int32) (a2 : Int32) (a3 : Int32) (Q : Int32 → Mem → Prop) (X : Mem → Prop) (M : Mem) : Prop :=
  w_Works_isTrial this a1 (fun r2 M1 => if r2 = 0 then (Q (-1 : Int32) M1) else (w_Works_isIn a2 (0 : Int32) (255 : Int32) (fun r5 M4 => if r5 = 0 then (Q (-1 : Int32) M4) else (w_Works_isIn a3 (0 : Int32) (1 : Int32) (fun r8 M7 => if r8 = 0 then (Q (-1 : Int32) M7) else (w_Works_work2 this a1 a2 (fun M10 => if a3 = 0 then (Q (mI M10 10 this 16) M10) else (Q (mI M10 10 this 17) M10)) X M7)) M4)) M1)) M
set_option maxRecDepth 4096 in
theorem lk_Works_outcome {γ : Gm} (hγ : Gk γ) (this : Nat) (a1 : Int32) (a2 : Int32) (a3 : Int32) (Q : Int32 → Mem → Prop) (X : Mem → Prop) (M : Mem) (h : w_Works_outcome this a1 a2 a3 Q X M) : E γ k_Works_outcome 140 0 [some (vr (some (10, this))), some (vi a1), some (vi a2), some (vi a3)] [] M (Qx (9, 0) (Qi Q) X) := by
  unfold w_Works_outcome at h
  refine E_blk (lv' := [some (vr (some (10, this))), some (vi a1), some (vi a2), some (vi a3)]) (st' := [vi a1, vr (some (10, this))]) (M1 := M) (pc' := 2) (tb_Works hγ) [.aload_n 0, .iload_n 1] (by decide +kernel) rfl rfl trivial ?_
  refine E_callV (κ' := k_Works_isTrial) (As := [vi a1]) (st := []) mv_Works_isTrial (Or.inl (tbk_mem (j := 10) (k := 206) rfl)) rfl (by decide +kernel) (Nat.le_of_ble_eq_true rfl) (Nat.le_of_ble_eq_true rfl) rfl (by decide) (lk_Works_isTrial hγ this a1 _ M h) (fun _ _ => Qi_r) (fun v M1 hp => Qi_k (R := fun st => E γ k_Works_outcome 140 5 [some (vr (some (10, this))), some (vi a1), some (vi a2), some (vi a3)] st M1 (Qx (9, 0) (Qi Q) X)) hp (fun r2 h => ?_))
  refine E_if_eq (off := 23) (tgt := 28) (by decide +kernel) (by decide) (fun b3 => ?_) (fun b3 => ?_)
  · rw [if_pos b3] at h
    refine E_blk (lv' := [some (vr (some (10, this))), some (vi a1), some (vi a2), some (vi a3)]) (st' := [vi (-1 : Int32)]) (M1 := M1) (pc' := 29) (tb_Works hγ) [.iconst (.negSucc 0)] (by decide +kernel) rfl rfl trivial ?_
    exact (E_iret rfl (by decide +kernel) h).nx
  · rw [if_neg b3] at h
    refine E_blk (lv' := [some (vr (some (10, this))), some (vi a1), some (vi a2), some (vi a3)]) (st' := [vi (255 : Int32), vi (0 : Int32), vi a2]) (M1 := M1) (pc' := 13) (tb_Works hγ) [.iload_n 2, .iconst 0, .sipush 255] (by decide +kernel) rfl rfl trivial ?_
    refine E_callS (κ' := k_Works_isIn) (As := [vi a2, vi (0 : Int32), vi (255 : Int32)]) (st := []) ms_Works_isIn (Or.inl (tbk_mem (j := 5) (k := 237) rfl)) rfl (by decide +kernel) (Nat.le_of_ble_eq_true rfl) (Nat.le_of_ble_eq_true rfl) rfl (by decide) (lk_Works_isIn hγ a2 (0 : Int32) (255 : Int32) _ M1 h) (fun _ _ => Qi_r) (fun v M4 hp => Qi_k (R := fun st => E γ k_Works_outcome 140 16 [some (vr (some (10, this))), some (vi a1), some (vi a2), some (vi a3)] st M4 (Qx (9, 0) (Qi Q) X)) hp (fun r5 h => ?_))
    refine E_if_eq (off := 12) (tgt := 28) (by decide +kernel) (by decide) (fun b6 => ?_) (fun b6 => ?_)
    · rw [if_pos b6] at h
      refine E_blk (lv' := [some (vr (some (10, this))), some (vi a1), some (vi a2), some (vi a3)]) (st' := [vi (-1 : Int32)]) (M1 := M4) (pc' := 29) (tb_Works hγ) [.iconst (.negSucc 0)] (by decide +kernel) rfl rfl trivial ?_
      exact (E_iret rfl (by decide +kernel) h).nx
    · rw [if_neg b6] at h
      refine E_blk (lv' := [some (vr (some (10, this))), some (vi a1), some (vi a2), some (vi a3)]) (st' := [vi (1 : Int32), vi (0 : Int32), vi a3]) (M1 := M4) (pc' := 22) (tb_Works hγ) [.iload_n 3, .iconst 0, .iconst 1] (by decide +kernel) rfl rfl trivial ?_
      refine E_callS (κ' := k_Works_isIn) (As := [vi a3, vi (0 : Int32), vi (1 : Int32)]) (st := []) ms_Works_isIn (Or.inl (tbk_mem (j := 5) (k := 237) rfl)) rfl (by decide +kernel) (Nat.le_of_ble_eq_true rfl) (Nat.le_of_ble_eq_true rfl) rfl (by decide) (lk_Works_isIn hγ a3 (0 : Int32) (1 : Int32) _ M4 h) (fun _ _ => Qi_r) (fun v M7 hp => Qi_k (R := fun st => E γ k_Works_outcome 140 25 [some (vr (some (10, this))), some (vi a1), some (vi a2), some (vi a3)] st M7 (Qx (9, 0) (Qi Q) X)) hp (fun r8 h => ?_))
      refine E_if_ne (off := 5) (tgt := 30) (by decide +kernel) (by decide) (fun b9 => ?_) (fun b9 => ?_)
      · rw [if_pos b9] at h
        refine E_blk (lv' := [some (vr (some (10, this))), some (vi a1), some (vi a2), some (vi a3)]) (st' := [vi (-1 : Int32)]) (M1 := M7) (pc' := 29) (tb_Works hγ) [.iconst (.negSucc 0)] (by decide +kernel) rfl rfl trivial ?_
        exact (E_iret rfl (by decide +kernel) h).nx
      · rw [if_neg b9] at h
        refine E_blk (lv' := [some (vr (some (10, this))), some (vi a1), some (vi a2), some (vi a3)]) (st' := [vi a2, vi a1, vr (some (10, this))]) (M1 := M7) (pc' := 33) (tb_Works hγ) [.aload_n 0, .iload_n 1, .iload_n 2] (by decide +kernel) rfl rfl trivial ?_
        refine E_callX (κ' := k_Works_work2) (As := [vi a1, vi a2]) (st := []) mv_Works_work2 (Or.inl (tbk_mem (j := 10) (k := 168) rfl)) rfl (by decide +kernel) (Nat.le_of_ble_eq_true rfl) (Nat.le_of_ble_eq_true rfl) rfl (by decide) rfl (lk_Works_work2 hγ this a1 a2 _ _ M7 h) (fun _ _ => Qv_r) (fun _ h => h) (fun v M10 hp => Qv_k (R := fun st => E γ k_Works_outcome 140 36 [some (vr (some (10, this))), some (vi a1), some (vi a2), some (vi a3)] st M10 (Qx (9, 0) (Qi Q) X)) hp (fun h => ?_))
        refine E_blk (lv' := [some (vr (some (10, this))), some (vi a1), some (vi a2), some (vi a3)]) (st' := [vi a3]) (M1 := M10) (pc' := 37) (tb_Works hγ) [.iload_n 3] (by decide +kernel) rfl rfl trivial ?_
        refine E_if_ne (off := 10) (tgt := 47) (by decide +kernel) (by decide) (fun b11 => ?_) (fun b11 => ?_)
        · rw [if_pos b11] at h
          refine E_blk (lv' := [some (vr (some (10, this))), some (vi a1), some (vi a2), some (vi a3)]) (st' := [vi (mI M10 10 this 16)]) (M1 := M10) (pc' := 44) (tb_Works hγ) [.aload_n 0, .getfield 155] (by decide +kernel) rfl rfl trivial ?_
          refine E_goto (off := 7) (tgt := 51) (by decide +kernel) (by decide) ?_
          exact (E_iret rfl (by decide +kernel) h).nx
        · rw [if_neg b11] at h
          refine E_blk (lv' := [some (vr (some (10, this))), some (vi a1), some (vi a2), some (vi a3)]) (st' := [vi (mI M10 10 this 17)]) (M1 := M10) (pc' := 51) (tb_Works hγ) [.aload_n 0, .getfield 158] (by decide +kernel) rfl rfl trivial ?_
          exact (E_iret rfl (by decide +kernel) h).nx
def w_Works_meets (this : Nat) (a1 : Int32) (Q : Int32 → Mem → Prop) (X : Mem → Prop) (M : Mem) : Prop :=
  w_Works_isTrial this a1 (fun r2 M1 => if r2 = 0 then (Q (-1 : Int32) M1) else (w_Works_ruleMet this a1 (fun r5 M4 => Q r5 M4) X M1)) M
set_option maxRecDepth 4096 in
theorem lk_Works_meets {γ : Gm} (hγ : Gk γ) (this : Nat) (a1 : Int32) (Q : Int32 → Mem → Prop) (X : Mem → Prop) (M : Mem) (h : w_Works_meets this a1 Q X M) : E γ k_Works_meets 141 0 [some (vr (some (10, this))), some (vi a1)] [] M (Qx (9, 0) (Qi Q) X) := by
  unfold w_Works_meets at h
  refine E_blk (lv' := [some (vr (some (10, this))), some (vi a1)]) (st' := [vi a1, vr (some (10, this))]) (M1 := M) (pc' := 2) (tb_Works hγ) [.aload_n 0, .iload_n 1] (by decide +kernel) rfl rfl trivial ?_
  refine E_callV (κ' := k_Works_isTrial) (As := [vi a1]) (st := []) mv_Works_isTrial (Or.inl (tbk_mem (j := 10) (k := 206) rfl)) rfl (by decide +kernel) (Nat.le_of_ble_eq_true rfl) (Nat.le_of_ble_eq_true rfl) rfl (by decide) (lk_Works_isTrial hγ this a1 _ M h) (fun _ _ => Qi_r) (fun v M1 hp => Qi_k (R := fun st => E γ k_Works_meets 141 5 [some (vr (some (10, this))), some (vi a1)] st M1 (Qx (9, 0) (Qi Q) X)) hp (fun r2 h => ?_))
  refine E_if_eq (off := 11) (tgt := 16) (by decide +kernel) (by decide) (fun b3 => ?_) (fun b3 => ?_)
  · rw [if_pos b3] at h
    refine E_blk (lv' := [some (vr (some (10, this))), some (vi a1)]) (st' := [vi (-1 : Int32)]) (M1 := M1) (pc' := 17) (tb_Works hγ) [.iconst (.negSucc 0)] (by decide +kernel) rfl rfl trivial ?_
    exact (E_iret rfl (by decide +kernel) h).nx
  · rw [if_neg b3] at h
    refine E_blk (lv' := [some (vr (some (10, this))), some (vi a1)]) (st' := [vi a1, vr (some (10, this))]) (M1 := M1) (pc' := 10) (tb_Works hγ) [.aload_n 0, .iload_n 1] (by decide +kernel) rfl rfl trivial ?_
    refine E_callX (κ' := k_Works_ruleMet) (As := [vi a1]) (st := []) mv_Works_ruleMet (Or.inl (tbk_mem (j := 10) (k := 197) rfl)) rfl (by decide +kernel) (Nat.le_of_ble_eq_true rfl) (Nat.le_of_ble_eq_true rfl) rfl (by decide) rfl (lk_Works_ruleMet hγ this a1 _ _ M1 h) (fun _ _ => Qi_r) (fun _ h => h) (fun v M4 hp => Qi_k (R := fun st => E γ k_Works_meets 141 13 [some (vr (some (10, this))), some (vi a1)] st M4 (Qx (9, 0) (Qi Q) X)) hp (fun r5 h => ?_))
    refine E_goto (off := 4) (tgt := 17) (by decide +kernel) (by decide) ?_
    exact (E_iret rfl (by decide +kernel) h).nx
def w_Works_finds (this : Nat) (a1 : Int32) (a2 : Int32) (Q : Int32 → Mem → Prop) (X : Mem → Prop) (M : Mem) : Prop :=
  w_Works_isTrial this a1 (fun r2 M1 => if r2 = 0 then (Q (-1 : Int32) M1) else (w_Works_isIn a2 (0 : Int32) (255 : Int32) (fun r5 M4 => if r5 = 0 then (Q (-1 : Int32) M4) else (w_Works_finds0 this a1 a2 (fun r8 M7 => if r8 = 0 then (Q (0 : Int32) M7) else (Q (1 : Int32) M7)) X M4)) M1)) M
set_option maxRecDepth 4096 in
theorem lk_Works_finds {γ : Gm} (hγ : Gk γ) (this : Nat) (a1 : Int32) (a2 : Int32) (Q : Int32 → Mem → Prop) (X : Mem → Prop) (M : Mem) (h : w_Works_finds this a1 a2 Q X M) : E γ k_Works_finds 141 0 [some (vr (some (10, this))), some (vi a1), some (vi a2)] [] M (Qx (9, 0) (Qi Q) X) := by
  unfold w_Works_finds at h
  refine E_blk (lv' := [some (vr (some (10, this))), some (vi a1), some (vi a2)]) (st' := [vi a1, vr (some (10, this))]) (M1 := M) (pc' := 2) (tb_Works hγ) [.aload_n 0, .iload_n 1] (by decide +kernel) rfl rfl trivial ?_
  refine E_callV (κ' := k_Works_isTrial) (As := [vi a1]) (st := []) mv_Works_isTrial (Or.inl (tbk_mem (j := 10) (k := 206) rfl)) rfl (by decide +kernel) (Nat.le_of_ble_eq_true rfl) (Nat.le_of_ble_eq_true rfl) rfl (by decide) (lk_Works_isTrial hγ this a1 _ M h) (fun _ _ => Qi_r) (fun v M1 hp => Qi_k (R := fun st => E γ k_Works_finds 141 5 [some (vr (some (10, this))), some (vi a1), some (vi a2)] st M1 (Qx (9, 0) (Qi Q) X)) hp (fun r2 h => ?_))
  refine E_if_eq (off := 14) (tgt := 19) (by decide +kernel) (by decide) (fun b3 => ?_) (fun b3 => ?_)
  · rw [if_pos b3] at h
    refine E_blk (lv' := [some (vr (some (10, this))), some (vi a1), some (vi a2)]) (st' := [vi (-1 : Int32)]) (M1 := M1) (pc' := 20) (tb_Works hγ) [.iconst (.negSucc 0)] (by decide +kernel) rfl rfl trivial ?_
    refine E_goto (off := 17) (tgt := 37) (by decide +kernel) (by decide) ?_
    exact (E_iret rfl (by decide +kernel) h).nx
  · rw [if_neg b3] at h
    refine E_blk (lv' := [some (vr (some (10, this))), some (vi a1), some (vi a2)]) (st' := [vi (255 : Int32), vi (0 : Int32), vi a2]) (M1 := M1) (pc' := 13) (tb_Works hγ) [.iload_n 2, .iconst 0, .sipush 255] (by decide +kernel) rfl rfl trivial ?_
    refine E_callS (κ' := k_Works_isIn) (As := [vi a2, vi (0 : Int32), vi (255 : Int32)]) (st := []) ms_Works_isIn (Or.inl (tbk_mem (j := 5) (k := 237) rfl)) rfl (by decide +kernel) (Nat.le_of_ble_eq_true rfl) (Nat.le_of_ble_eq_true rfl) rfl (by decide) (lk_Works_isIn hγ a2 (0 : Int32) (255 : Int32) _ M1 h) (fun _ _ => Qi_r) (fun v M4 hp => Qi_k (R := fun st => E γ k_Works_finds 141 16 [some (vr (some (10, this))), some (vi a1), some (vi a2)] st M4 (Qx (9, 0) (Qi Q) X)) hp (fun r5 h => ?_))
    refine E_if_ne (off := 7) (tgt := 23) (by decide +kernel) (by decide) (fun b6 => ?_) (fun b6 => ?_)
    · rw [if_pos b6] at h
      refine E_blk (lv' := [some (vr (some (10, this))), some (vi a1), some (vi a2)]) (st' := [vi (-1 : Int32)]) (M1 := M4) (pc' := 20) (tb_Works hγ) [.iconst (.negSucc 0)] (by decide +kernel) rfl rfl trivial ?_
      refine E_goto (off := 17) (tgt := 37) (by decide +kernel) (by decide) ?_
      exact (E_iret rfl (by decide +kernel) h).nx
    · rw [if_neg b6] at h
      refine E_blk (lv' := [some (vr (some (10, this))), some (vi a1), some (vi a2)]) (st' := [vi a2, vi a1, vr (some (10, this))]) (M1 := M4) (pc' := 26) (tb_Works hγ) [.aload_n 0, .iload_n 1, .iload_n 2] (by decide +kernel) rfl rfl trivial ?_
      refine E_callX (κ' := k_Works_finds0) (As := [vi a1, vi a2]) (st := []) mv_Works_finds0 (Or.inl (tbk_mem (j := 10) (k := 164) rfl)) rfl (by decide +kernel) (Nat.le_of_ble_eq_true rfl) (Nat.le_of_ble_eq_true rfl) rfl (by decide) rfl (lk_Works_finds0 hγ this a1 a2 _ _ M4 h) (fun _ _ => Qi_r) (fun _ h => h) (fun v M7 hp => Qi_k (R := fun st => E γ k_Works_finds 141 29 [some (vr (some (10, this))), some (vi a1), some (vi a2)] st M7 (Qx (9, 0) (Qi Q) X)) hp (fun r8 h => ?_))
      refine E_if_eq (off := 7) (tgt := 36) (by decide +kernel) (by decide) (fun b9 => ?_) (fun b9 => ?_)
      · rw [if_pos b9] at h
        refine E_blk (lv' := [some (vr (some (10, this))), some (vi a1), some (vi a2)]) (st' := [vi (0 : Int32)]) (M1 := M7) (pc' := 37) (tb_Works hγ) [.iconst 0] (by decide +kernel) rfl rfl trivial ?_
        exact (E_iret rfl (by decide +kernel) h).nx
      · rw [if_neg b9] at h
        refine E_blk (lv' := [some (vr (some (10, this))), some (vi a1), some (vi a2)]) (st' := [vi (1 : Int32)]) (M1 := M7) (pc' := 33) (tb_Works hγ) [.iconst 1] (by decide +kernel) rfl rfl trivial ?_
        refine E_goto (off := 4) (tgt := 37) (by decide +kernel) (by decide) ?_
        exact (E_iret rfl (by decide +kernel) h).nx
def w_Works_hole_j87 (this : Nat) (Q : Int32 → Mem → Prop) (X : Mem → Prop) (k10 : Int32 → Int32 → Mem → Prop) (v2 : Int32) (v3 : Int32) (M : Mem) : Prop :=
  k10 v2 (v3 + (1 : Int32)) M
def w_Works_hole_j70 (this : Nat) (Q : Int32 → Mem → Prop) (X : Mem → Prop) (k10 : Int32 → Int32 → Mem → Prop) (v2 : Int32) (v3 : Int32) (v4 : Int32) (M : Mem) : Prop :=
  if v4 = 0 then (if v2 = 0 then (Q v3 M) else (w_Works_hole_j87 this Q X k10 (v2 + (-1 : Int32)) v3 M)) else (w_Works_hole_j87 this Q X k10 v2 v3 M)
def w_Works_hole_j62 (this : Nat) (Q : Int32 → Mem → Prop) (X : Mem → Prop) (k10 : Int32 → Int32 → Mem → Prop) (k33 : Int32 → Int32 → Int32 → Int32 → Mem → Prop) (v2 : Int32) (v3 : Int32) (v5 : Int32) (s0 : Int32) (M : Mem) : Prop :=
  k33 v2 v3 s0 (v5 + (1 : Int32)) M
def w_Works_hole_L33 (this : Nat) (Q : Int32 → Mem → Prop) (X : Mem → Prop) (k10 : Int32 → Int32 → Mem → Prop) : Nat → Int32 → Int32 → Int32 → Int32 → Mem → Prop
  | 0, _, _, _, _, _ => False
  | n + 1, v2, v3, v4, v5, M => if (mI M 10 this 10) ≤ v5 then (w_Works_hole_j70 this Q X k10 v2 v3 v4 M) else (if v4 = 0 then (w_Works_ruleMet this v5 (fun r11 M10 => if r11 = v3 then (w_Works_hole_j62 this Q X k10 (w_Works_hole_L33 this Q X k10 n) v2 v3 v5 (1 : Int32) M10) else (w_Works_hole_j62 this Q X k10 (w_Works_hole_L33 this Q X k10 n) v2 v3 v5 (0 : Int32) M10)) X M) else (w_Works_hole_j70 this Q X k10 v2 v3 v4 M))
def w_Works_hole_L10 (this : Nat) (Q : Int32 → Mem → Prop) (X : Mem → Prop) : Nat → Int32 → Int32 → Mem → Prop
  | 0, _, _, _ => False
  | n + 1, v2, v3, M => if (60 : Int32) ≤ v3 then (Q (-2 : Int32) M) else (w_Works_isRule this v3 (fun r4 M3 => if r4 = 0 then (w_Works_hole_j87 this Q X (w_Works_hole_L10 this Q X n) v2 v3 M3) else (∃ n13 : Nat, w_Works_hole_L33 this Q X (w_Works_hole_L10 this Q X n) n13 v2 v3 (0 : Int32) (0 : Int32) M3)) M)
def w_Works_hole (this : Nat) (a1 : Int32) (Q : Int32 → Mem → Prop) (X : Mem → Prop) (M : Mem) : Prop :=
  if 0 ≤ a1 then (∃ n14 : Nat, w_Works_hole_L10 this Q X n14 a1 (1 : Int32) M) else (Q (-1 : Int32) M)
set_option maxRecDepth 4096 in
theorem lk_Works_hole_j87 {γ : Gm} (hγ : Gk γ) (this : Nat) (Q : Int32 → Mem → Prop) (X : Mem → Prop) (k10 : Int32 → Int32 → Mem → Prop) (hk10 : ∀ (v2 : Int32) (v3 : Int32) (M : Mem), k10 v2 v3 M → E γ k_Works_hole 141 10 [some (vr (some (10, this))), none, some (vi v2), some (vi v3), none, none] [] M (Qx (9, 0) (Qi Q) X)) (v2 : Int32) (v3 : Int32) (M : Mem) (h : w_Works_hole_j87 this Q X k10 v2 v3 M) : E γ k_Works_hole 141 87 [some (vr (some (10, this))), none, some (vi v2), some (vi v3), none, none] [] M (Qx (9, 0) (Qi Q) X) := by
  unfold w_Works_hole_j87 at h
  refine E_blk (lv' := [some (vr (some (10, this))), none, some (vi v2), some (vi (v3 + (1 : Int32))), none, none]) (st' := []) (M1 := M) (pc' := 90) (tb_Works hγ) [.iinc 3 1] (by decide +kernel) rfl rfl trivial ?_
  refine E_goto (off := -80) (tgt := 10) (by decide +kernel) (by decide) ?_
  refine E_mask [true, false, true, true, false, false] rfl ?_
  exact hk10 v2 (v3 + (1 : Int32)) M h
set_option maxRecDepth 4096 in
theorem lk_Works_hole_j70 {γ : Gm} (hγ : Gk γ) (this : Nat) (Q : Int32 → Mem → Prop) (X : Mem → Prop) (k10 : Int32 → Int32 → Mem → Prop) (hk10 : ∀ (v2 : Int32) (v3 : Int32) (M : Mem), k10 v2 v3 M → E γ k_Works_hole 141 10 [some (vr (some (10, this))), none, some (vi v2), some (vi v3), none, none] [] M (Qx (9, 0) (Qi Q) X)) (v2 : Int32) (v3 : Int32) (v4 : Int32) (M : Mem) (h : w_Works_hole_j70 this Q X k10 v2 v3 v4 M) : E γ k_Works_hole 141 70 [some (vr (some (10, this))), none, some (vi v2), some (vi v3), some (vi v4), none] [] M (Qx (9, 0) (Qi Q) X) := by
  unfold w_Works_hole_j70 at h
  refine E_blk (lv' := [some (vr (some (10, this))), none, some (vi v2), some (vi v3), some (vi v4), none]) (st' := [vi v4]) (M1 := M) (pc' := 72) (tb_Works hγ) [.iload 4] (by decide +kernel) rfl rfl trivial ?_
  refine E_if_eq (off := 6) (tgt := 78) (by decide +kernel) (by decide) (fun b7 => ?_) (fun b7 => ?_)
  · rw [if_pos b7] at h
    refine E_blk (lv' := [some (vr (some (10, this))), none, some (vi v2), some (vi v3), some (vi v4), none]) (st' := [vi v2]) (M1 := M) (pc' := 79) (tb_Works hγ) [.iload_n 2] (by decide +kernel) rfl rfl trivial ?_
    refine E_if_ne (off := 5) (tgt := 84) (by decide +kernel) (by decide) (fun b8 => ?_) (fun b8 => ?_)
    · rw [if_pos b8] at h
      refine E_blk (lv' := [some (vr (some (10, this))), none, some (vi v2), some (vi v3), some (vi v4), none]) (st' := [vi v3]) (M1 := M) (pc' := 83) (tb_Works hγ) [.iload_n 3] (by decide +kernel) rfl rfl trivial ?_
      exact (E_iret rfl (by decide +kernel) h).nx
    · rw [if_neg b8] at h
      refine E_blk (lv' := [some (vr (some (10, this))), none, some (vi (v2 + (-1 : Int32))), some (vi v3), some (vi v4), none]) (st' := []) (M1 := M) (pc' := 87) (tb_Works hγ) [.iinc 2 (.negSucc 0)] (by decide +kernel) rfl rfl trivial ?_
      refine E_mask [true, false, true, true, false, false] rfl ?_
      exact lk_Works_hole_j87 hγ this Q X k10 hk10 (v2 + (-1 : Int32)) v3 M h
  · rw [if_neg b7] at h
    refine E_goto (off := 12) (tgt := 87) (by decide +kernel) (by decide) ?_
    refine E_mask [true, false, true, true, false, false] rfl ?_
    exact lk_Works_hole_j87 hγ this Q X k10 hk10 v2 v3 M h
set_option maxRecDepth 4096 in
theorem lk_Works_hole_j62 {γ : Gm} (hγ : Gk γ) (this : Nat) (Q : Int32 → Mem → Prop) (X : Mem → Prop) (k10 : Int32 → Int32 → Mem → Prop) (k33 : Int32 → Int32 → Int32 → Int32 → Mem → Prop) (hk10 : ∀ (v2 : Int32) (v3 : Int32) (M : Mem), k10 v2 v3 M → E γ k_Works_hole 141 10 [some (vr (some (10, this))), none, some (vi v2), some (vi v3), none, none] [] M (Qx (9, 0) (Qi Q) X)) (hk33 : ∀ (v2 : Int32) (v3 : Int32) (v4 : Int32) (v5 : Int32) (M : Mem), k33 v2 v3 v4 v5 M → E γ k_Works_hole 141 33 [some (vr (some (10, this))), none, some (vi v2), some (vi v3), some (vi v4), some (vi v5)] [] M (Qx (9, 0) (Qi Q) X)) (v2 : Int32) (v3 : Int32) (v5 : Int32) (s0 : Int32) (M : Mem) (h : w_Works_hole_j62 this Q X k10 k33 v2 v3 v5 s0 M) : E γ k_Works_hole 141 62 [some (vr (some (10, this))), none, some (vi v2), some (vi v3), none, some (vi v5)] [vi s0] M (Qx (9, 0) (Qi Q) X) := by
  unfold w_Works_hole_j62 at h
  refine E_blk (lv' := [some (vr (some (10, this))), none, some (vi v2), some (vi v3), some (vi s0), some (vi (v5 + (1 : Int32)))]) (st' := []) (M1 := M) (pc' := 67) (tb_Works hγ) [.istore 4, .iinc 5 1] (by decide +kernel) rfl rfl trivial ?_
  refine E_goto (off := -34) (tgt := 33) (by decide +kernel) (by decide) ?_
  refine E_mask [true, false, true, true, true, true] rfl ?_
  exact hk33 v2 v3 s0 (v5 + (1 : Int32)) M h
set_option maxRecDepth 4096 in
theorem lk_Works_hole_L33 {γ : Gm} (hγ : Gk γ) (this : Nat) (Q : Int32 → Mem → Prop) (X : Mem → Prop) (k10 : Int32 → Int32 → Mem → Prop) (hk10 : ∀ (v2 : Int32) (v3 : Int32) (M : Mem), k10 v2 v3 M → E γ k_Works_hole 141 10 [some (vr (some (10, this))), none, some (vi v2), some (vi v3), none, none] [] M (Qx (9, 0) (Qi Q) X)) : ∀ (n : Nat) (v2 : Int32) (v3 : Int32) (v4 : Int32) (v5 : Int32) (M : Mem), w_Works_hole_L33 this Q X k10 n v2 v3 v4 v5 M → E γ k_Works_hole 141 33 [some (vr (some (10, this))), none, some (vi v2), some (vi v3), some (vi v4), some (vi v5)] [] M (Qx (9, 0) (Qi Q) X) := by
  intro n
  induction n with
  | zero => intro v2 v3 v4 v5 M h; exact h.elim
  | succ n ih =>
    intro v2 v3 v4 v5 M h
    unfold w_Works_hole_L33 at h
    refine E_blk (lv' := [some (vr (some (10, this))), none, some (vi v2), some (vi v3), some (vi v4), some (vi v5)]) (st' := [vi (mI M 10 this 10), vi v5]) (M1 := M) (pc' := 39) (tb_Works hγ) [.iload 5, .aload_n 0, .getfield 230] (by decide +kernel) rfl rfl trivial ?_
    refine E_icmp_ge (off := 31) (tgt := 70) (by decide +kernel) (by decide) (fun b6 => ?_) (fun b6 => ?_)
    · rw [if_pos b6] at h
      refine E_mask [true, false, true, true, true, false] rfl ?_
      exact lk_Works_hole_j70 hγ this Q X k10 hk10 v2 v3 v4 M h
    · rw [if_neg b6] at h
      refine E_blk (lv' := [some (vr (some (10, this))), none, some (vi v2), some (vi v3), some (vi v4), some (vi v5)]) (st' := [vi v4]) (M1 := M) (pc' := 44) (tb_Works hγ) [.iload 4] (by decide +kernel) rfl rfl trivial ?_
      refine E_if_ne (off := 26) (tgt := 70) (by decide +kernel) (by decide) (fun b9 => ?_) (fun b9 => ?_)
      · rw [if_pos b9] at h
        refine E_blk (lv' := [some (vr (some (10, this))), none, some (vi v2), some (vi v3), some (vi v4), some (vi v5)]) (st' := [vi v5, vr (some (10, this))]) (M1 := M) (pc' := 50) (tb_Works hγ) [.aload_n 0, .iload 5] (by decide +kernel) rfl rfl trivial ?_
        refine E_callX (κ' := k_Works_ruleMet) (As := [vi v5]) (st := []) mv_Works_ruleMet (Or.inl (tbk_mem (j := 10) (k := 197) rfl)) rfl (by decide +kernel) (Nat.le_of_ble_eq_true rfl) (Nat.le_of_ble_eq_true rfl) rfl (by decide) rfl (lk_Works_ruleMet hγ this v5 _ _ M h) (fun _ _ => Qi_r) (fun _ h => h) (fun v M10 hp => Qi_k (R := fun st => E γ k_Works_hole 141 53 [some (vr (some (10, this))), none, some (vi v2), some (vi v3), some (vi v4), some (vi v5)] st M10 (Qx (9, 0) (Qi Q) X)) hp (fun r11 h => ?_))
        refine E_blk (lv' := [some (vr (some (10, this))), none, some (vi v2), some (vi v3), some (vi v4), some (vi v5)]) (st' := [vi v3, vi r11]) (M1 := M10) (pc' := 54) (tb_Works hγ) [.iload_n 3] (by decide +kernel) rfl rfl trivial ?_
        refine E_icmp_ne (off := 7) (tgt := 61) (by decide +kernel) (by decide) (fun b12 => ?_) (fun b12 => ?_)
        · rw [if_pos b12] at h
          refine E_blk (lv' := [some (vr (some (10, this))), none, some (vi v2), some (vi v3), some (vi v4), some (vi v5)]) (st' := [vi (1 : Int32)]) (M1 := M10) (pc' := 58) (tb_Works hγ) [.iconst 1] (by decide +kernel) rfl rfl trivial ?_
          refine E_goto (off := 4) (tgt := 62) (by decide +kernel) (by decide) ?_
          refine E_mask [true, false, true, true, false, true] rfl ?_
          exact lk_Works_hole_j62 hγ this Q X k10 (w_Works_hole_L33 this Q X k10 n) hk10 ih v2 v3 v5 (1 : Int32) M10 h
        · rw [if_neg b12] at h
          refine E_blk (lv' := [some (vr (some (10, this))), none, some (vi v2), some (vi v3), some (vi v4), some (vi v5)]) (st' := [vi (0 : Int32)]) (M1 := M10) (pc' := 62) (tb_Works hγ) [.iconst 0] (by decide +kernel) rfl rfl trivial ?_
          refine E_mask [true, false, true, true, false, true] rfl ?_
          exact lk_Works_hole_j62 hγ this Q X k10 (w_Works_hole_L33 this Q X k10 n) hk10 ih v2 v3 v5 (0 : Int32) M10 h
      · rw [if_neg b9] at h
        refine E_mask [true, false, true, true, true, false] rfl ?_
        exact lk_Works_hole_j70 hγ this Q X k10 hk10 v2 v3 v4 M h
set_option maxRecDepth 4096 in
theorem lk_Works_hole_L10 {γ : Gm} (hγ : Gk γ) (this : Nat) (Q : Int32 → Mem → Prop) (X : Mem → Prop) : ∀ (n : Nat) (v2 : Int32) (v3 : Int32) (M : Mem), w_Works_hole_L10 this Q X n v2 v3 M → E γ k_Works_hole 141 10 [some (vr (some (10, this))), none, some (vi v2), some (vi v3), none, none] [] M (Qx (9, 0) (Qi Q) X) := by
  intro n
  induction n with
  | zero => intro v2 v3 M h; exact h.elim
  | succ n ih =>
    intro v2 v3 M h
    unfold w_Works_hole_L10 at h
    refine E_blk (lv' := [some (vr (some (10, this))), none, some (vi v2), some (vi v3), none, none]) (st' := [vi (60 : Int32), vi v3]) (M1 := M) (pc' := 13) (tb_Works hγ) [.iload_n 3, .bipush 60] (by decide +kernel) rfl rfl trivial ?_
    refine E_icmp_ge (off := 80) (tgt := 93) (by decide +kernel) (by decide) (fun b2 => ?_) (fun b2 => ?_)
    · rw [if_pos b2] at h
      refine E_blk (lv' := [some (vr (some (10, this))), none, some (vi v2), some (vi v3), none, none]) (st' := [vi (-2 : Int32)]) (M1 := M) (pc' := 95) (tb_Works hγ) [.bipush (.negSucc 1)] (by decide +kernel) rfl rfl trivial ?_
      exact (E_iret rfl (by decide +kernel) h).nx
    · rw [if_neg b2] at h
      refine E_blk (lv' := [some (vr (some (10, this))), none, some (vi v2), some (vi v3), none, none]) (st' := [vi v3, vr (some (10, this))]) (M1 := M) (pc' := 18) (tb_Works hγ) [.aload_n 0, .iload_n 3] (by decide +kernel) rfl rfl trivial ?_
      refine E_callV (κ' := k_Works_isRule) (As := [vi v3]) (st := []) mv_Works_isRule (Or.inl (tbk_mem (j := 10) (k := 189) rfl)) rfl (by decide +kernel) (Nat.le_of_ble_eq_true rfl) (Nat.le_of_ble_eq_true rfl) rfl (by decide) (lk_Works_isRule hγ this v3 _ M h) (fun _ _ => Qi_r) (fun v M3 hp => Qi_k (R := fun st => E γ k_Works_hole 141 21 [some (vr (some (10, this))), none, some (vi v2), some (vi v3), none, none] st M3 (Qx (9, 0) (Qi Q) X)) hp (fun r4 h => ?_))
      refine E_if_ne (off := 6) (tgt := 27) (by decide +kernel) (by decide) (fun b5 => ?_) (fun b5 => ?_)
      · rw [if_pos b5] at h
        refine E_goto (off := 63) (tgt := 87) (by decide +kernel) (by decide) ?_
        refine E_mask [true, false, true, true, false, false] rfl ?_
        exact lk_Works_hole_j87 hγ this Q X (w_Works_hole_L10 this Q X n) ih v2 v3 M3 h
      · rw [if_neg b5] at h
        refine E_blk (lv' := [some (vr (some (10, this))), none, some (vi v2), some (vi v3), some (vi (0 : Int32)), some (vi (0 : Int32))]) (st' := []) (M1 := M3) (pc' := 33) (tb_Works hγ) [.iconst 0, .istore 4, .iconst 0, .istore 5] (by decide +kernel) rfl rfl trivial ?_
        obtain ⟨n13, h⟩ := h
        refine E_mask [true, false, true, true, true, true] rfl ?_
        exact lk_Works_hole_L33 hγ this Q X (w_Works_hole_L10 this Q X n) ih n13 v2 v3 (0 : Int32) (0 : Int32) M3 h
set_option maxRecDepth 4096 in
theorem lk_Works_hole {γ : Gm} (hγ : Gk γ) (this : Nat) (a1 : Int32) (Q : Int32 → Mem → Prop) (X : Mem → Prop) (M : Mem) (h : w_Works_hole this a1 Q X M) : E γ k_Works_hole 141 0 [some (vr (some (10, this))), some (vi a1), none, none, none, none] [] M (Qx (9, 0) (Qi Q) X) := by
  unfold w_Works_hole at h
  refine E_blk (lv' := [some (vr (some (10, this))), some (vi a1), none, none, none, none]) (st' := [vi a1]) (M1 := M) (pc' := 1) (tb_Works hγ) [.iload_n 1] (by decide +kernel) rfl rfl trivial ?_
  refine E_if_ge (off := 5) (tgt := 6) (by decide +kernel) (by decide) (fun b1 => ?_) (fun b1 => ?_)
  · rw [if_pos b1] at h
    refine E_blk (lv' := [some (vr (some (10, this))), some (vi a1), some (vi a1), some (vi (1 : Int32)), none, none]) (st' := []) (M1 := M) (pc' := 10) (tb_Works hγ) [.iload_n 1, .istore_n 2, .iconst 1, .istore_n 3] (by decide +kernel) rfl rfl trivial ?_
    obtain ⟨n14, h⟩ := h
    refine E_mask [true, false, true, true, false, false] rfl ?_
    exact lk_Works_hole_L10 hγ this Q X n14 a1 (1 : Int32) M h
  · rw [if_neg b1] at h
    refine E_blk (lv' := [some (vr (some (10, this))), some (vi a1), none, none, none, none]) (st' := [vi (-1 : Int32)]) (M1 := M) (pc' := 5) (tb_Works hγ) [.iconst (.negSucc 0)] (by decide +kernel) rfl rfl trivial ?_
    exact (E_iret rfl (by decide +kernel) h).nx
def w_Works_isNeedless_j144 (this : Nat) (Q : Int32 → Mem → Prop) (X : Mem → Prop) (k63 : Int32 → Int32 → Int32 → Mem → Prop) (v1 : Int32) (v3 : Int32) (v4 : Int32) (M : Mem) : Prop :=
  k63 v1 v3 (v4 + (1 : Int32)) M
def w_Works_isNeedless_j141 (this : Nat) (Q : Int32 → Mem → Prop) (X : Mem → Prop) (k63 : Int32 → Int32 → Int32 → Mem → Prop) (v1 : Int32) (v4 : Int32) (v5 : Int32) (M : Mem) : Prop :=
  w_Works_isNeedless_j144 this Q X k63 v1 v5 v4 M
def w_Works_isNeedless_j133 (this : Nat) (Q : Int32 → Mem → Prop) (X : Mem → Prop) (k63 : Int32 → Int32 → Int32 → Mem → Prop) (k95 : Int32 → Int32 → Int32 → Int32 → Mem → Prop) (v1 : Int32) (v4 : Int32) (v6 : Int32) (s0 : Int32) (M : Mem) : Prop :=
  k95 v1 v4 s0 (v6 + (1 : Int32)) M
def w_Works_isNeedless_j132 (this : Nat) (Q : Int32 → Mem → Prop) (X : Mem → Prop) (k63 : Int32 → Int32 → Int32 → Mem → Prop) (k95 : Int32 → Int32 → Int32 → Int32 → Mem → Prop) (v1 : Int32) (v4 : Int32) (v6 : Int32) (M : Mem) : Prop :=
  w_Works_isNeedless_j133 this Q X k63 k95 v1 v4 v6 (0 : Int32) M
def w_Works_isNeedless_L95 (this : Nat) (Q : Int32 → Mem → Prop) (X : Mem → Prop) (k63 : Int32 → Int32 → Int32 → Mem → Prop) : Nat → Int32 → Int32 → Int32 → Int32 → Mem → Prop
  | 0, _, _, _, _, _ => False
  | n + 1, v1, v4, v5, v6, M => if (mI M 10 this 10) ≤ v6 then (w_Works_isNeedless_j141 this Q X k63 v1 v4 v5 M) else (if v5 = 0 then (if v6 = v1 then (w_Works_isNeedless_j132 this Q X k63 (w_Works_isNeedless_L95 this Q X k63 n) v1 v4 v6 M) else (w_Works_finds0 this v6 ((1 : Int32) <<< (v4 &&& 31)) (fun r14 M13 => if r14 = 0 then (w_Works_isNeedless_j132 this Q X k63 (w_Works_isNeedless_L95 this Q X k63 n) v1 v4 v6 M13) else (w_Works_isNeedless_j133 this Q X k63 (w_Works_isNeedless_L95 this Q X k63 n) v1 v4 v6 (1 : Int32) M13)) X M)) else (w_Works_isNeedless_j141 this Q X k63 v1 v4 v5 M))
def w_Works_isNeedless_L63 (this : Nat) (Q : Int32 → Mem → Prop) (X : Mem → Prop) : Nat → Int32 → Int32 → Int32 → Mem → Prop
  | 0, _, _, _, _ => False
  | n + 1, v1, v3, v4, M => if (8 : Int32) ≤ v4 then ((v3 = 0 ∨ v3 = 1) ∧ Q v3 M) else (if v3 = 0 then ((v3 = 0 ∨ v3 = 1) ∧ Q v3 M) else (w_Works_finds0 this v1 ((1 : Int32) <<< (v4 &&& 31)) (fun r8 M7 => if r8 = 0 then (w_Works_isNeedless_j144 this Q X (w_Works_isNeedless_L63 this Q X n) v1 v3 v4 M7) else (∃ n16 : Nat, w_Works_isNeedless_L95 this Q X (w_Works_isNeedless_L63 this Q X n) n16 v1 v4 (0 : Int32) (0 : Int32) M7)) X M))
def w_Works_isNeedless_j60 (this : Nat) (Q : Int32 → Mem → Prop) (X : Mem → Prop) (v1 : Int32) (v3 : Int32) (M : Mem) : Prop :=
  ∃ n17 : Nat, w_Works_isNeedless_L63 this Q X n17 v1 v3 (0 : Int32) M
def w_Works_isNeedless_j53 (this : Nat) (Q : Int32 → Mem → Prop) (X : Mem → Prop) (k19 : Int32 → Int32 → Int32 → Int32 → Mem → Prop) (v1 : Int32) (v2 : Int32) (v4 : Int32) (s0 : Int32) (M : Mem) : Prop :=
  k19 v1 v2 s0 (v4 + (1 : Int32)) M
def w_Works_isNeedless_j52 (this : Nat) (Q : Int32 → Mem → Prop) (X : Mem → Prop) (k19 : Int32 → Int32 → Int32 → Int32 → Mem → Prop) (v1 : Int32) (v2 : Int32) (v4 : Int32) (M : Mem) : Prop :=
  w_Works_isNeedless_j53 this Q X k19 v1 v2 v4 (0 : Int32) M
def w_Works_isNeedless_L19 (this : Nat) (Q : Int32 → Mem → Prop) (X : Mem → Prop) : Nat → Int32 → Int32 → Int32 → Int32 → Mem → Prop
  | 0, _, _, _, _, _ => False
  | n + 1, v1, v2, v3, v4, M => if (mI M 10 this 10) ≤ v4 then (w_Works_isNeedless_j60 this Q X v1 v3 M) else (if v3 = 0 then (if v4 = v1 then (w_Works_isNeedless_j52 this Q X (w_Works_isNeedless_L19 this Q X n) v1 v2 v4 M) else (w_Works_ruleMet this v4 (fun r21 M20 => if r21 = v2 then (w_Works_isNeedless_j53 this Q X (w_Works_isNeedless_L19 this Q X n) v1 v2 v4 (1 : Int32) M20) else (w_Works_isNeedless_j52 this Q X (w_Works_isNeedless_L19 this Q X n) v1 v2 v4 M20)) X M)) else (w_Works_isNeedless_j60 this Q X v1 v3 M))
def w_Works_isNeedless_j15 (this : Nat) (Q : Int32 → Mem → Prop) (X : Mem → Prop) (v1 : Int32) (v2 : Int32) (s0 : Int32) (M : Mem) : Prop :=
  ∃ n23 : Nat, w_Works_isNeedless_L19 this Q X n23 v1 v2 s0 (0 : Int32) M
def w_Works_isNeedless (this : Nat) (a1 : Int32) (Q : Int32 → Mem → Prop) (X : Mem → Prop) (M : Mem) : Prop :=
  w_Works_ruleMet this a1 (fun r2 M1 => if r2 = 0 then (w_Works_isNeedless_j15 this Q X a1 r2 (1 : Int32) M1) else (w_Works_isNeedless_j15 this Q X a1 r2 (0 : Int32) M1)) X M
set_option maxRecDepth 4096 in
theorem lk_Works_isNeedless_j144 {γ : Gm} (hγ : Gk γ) (this : Nat) (Q : Int32 → Mem → Prop) (X : Mem → Prop) (k63 : Int32 → Int32 → Int32 → Mem → Prop) (hk63 : ∀ (v1 : Int32) (v3 : Int32) (v4 : Int32) (M : Mem), k63 v1 v3 v4 M → E γ k_Works_isNeedless 141 63 [some (vr (some (10, this))), some (vi v1), none, some (vi v3), some (vi v4), none, none] [] M (Qx (9, 0) (Qi Q) X)) (v1 : Int32) (v3 : Int32) (v4 : Int32) (M : Mem) (h : w_Works_isNeedless_j144 this Q X k63 v1 v3 v4 M) : E γ k_Works_isNeedless 141 144 [some (vr (some (10, this))), some (vi v1), none, some (vi v3), some (vi v4), none, none] [] M (Qx (9, 0) (Qi Q) X) := by
  unfold w_Works_isNeedless_j144 at h
  refine E_blk (lv' := [some (vr (some (10, this))), some (vi v1), none, some (vi v3), some (vi (v4 + (1 : Int32))), none, none]) (st' := []) (M1 := M) (pc' := 147) (tb_Works hγ) [.iinc 4 1] (by decide +kernel) rfl rfl trivial ?_
  refine E_goto (off := -84) (tgt := 63) (by decide +kernel) (by decide) ?_
  refine E_mask [true, true, false, true, true, false, false] rfl ?_
  exact hk63 v1 v3 (v4 + (1 : Int32)) M h
set_option maxRecDepth 4096 in
theorem lk_Works_isNeedless_j141 {γ : Gm} (hγ : Gk γ) (this : Nat) (Q : Int32 → Mem → Prop) (X : Mem → Prop) (k63 : Int32 → Int32 → Int32 → Mem → Prop) (hk63 : ∀ (v1 : Int32) (v3 : Int32) (v4 : Int32) (M : Mem), k63 v1 v3 v4 M → E γ k_Works_isNeedless 141 63 [some (vr (some (10, this))), some (vi v1), none, some (vi v3), some (vi v4), none, none] [] M (Qx (9, 0) (Qi Q) X)) (v1 : Int32) (v4 : Int32) (v5 : Int32) (M : Mem) (h : w_Works_isNeedless_j141 this Q X k63 v1 v4 v5 M) : E γ k_Works_isNeedless 141 141 [some (vr (some (10, this))), some (vi v1), none, none, some (vi v4), some (vi v5), none] [] M (Qx (9, 0) (Qi Q) X) := by
  unfold w_Works_isNeedless_j141 at h
  refine E_blk (lv' := [some (vr (some (10, this))), some (vi v1), none, some (vi v5), some (vi v4), some (vi v5), none]) (st' := []) (M1 := M) (pc' := 144) (tb_Works hγ) [.iload 5, .istore_n 3] (by decide +kernel) rfl rfl trivial ?_
  refine E_mask [true, true, false, true, true, false, false] rfl ?_
  exact lk_Works_isNeedless_j144 hγ this Q X k63 hk63 v1 v5 v4 M h
set_option maxRecDepth 4096 in
theorem lk_Works_isNeedless_j133 {γ : Gm} (hγ : Gk γ) (this : Nat) (Q : Int32 → Mem → Prop) (X : Mem → Prop) (k63 : Int32 → Int32 → Int32 → Mem → Prop) (k95 : Int32 → Int32 → Int32 → Int32 → Mem → Prop) (hk63 : ∀ (v1 : Int32) (v3 : Int32) (v4 : Int32) (M : Mem), k63 v1 v3 v4 M → E γ k_Works_isNeedless 141 63 [some (vr (some (10, this))), some (vi v1), none, some (vi v3), some (vi v4), none, none] [] M (Qx (9, 0) (Qi Q) X)) (hk95 : ∀ (v1 : Int32) (v4 : Int32) (v5 : Int32) (v6 : Int32) (M : Mem), k95 v1 v4 v5 v6 M → E γ k_Works_isNeedless 141 95 [some (vr (some (10, this))), some (vi v1), none, none, some (vi v4), some (vi v5), some (vi v6)] [] M (Qx (9, 0) (Qi Q) X)) (v1 : Int32) (v4 : Int32) (v6 : Int32) (s0 : Int32) (M : Mem) (h : w_Works_isNeedless_j133 this Q X k63 k95 v1 v4 v6 s0 M) : E γ k_Works_isNeedless 141 133 [some (vr (some (10, this))), some (vi v1), none, none, some (vi v4), none, some (vi v6)] [vi s0] M (Qx (9, 0) (Qi Q) X) := by
  unfold w_Works_isNeedless_j133 at h
  refine E_blk (lv' := [some (vr (some (10, this))), some (vi v1), none, none, some (vi v4), some (vi s0), some (vi (v6 + (1 : Int32)))]) (st' := []) (M1 := M) (pc' := 138) (tb_Works hγ) [.istore 5, .iinc 6 1] (by decide +kernel) rfl rfl trivial ?_
  refine E_goto (off := -43) (tgt := 95) (by decide +kernel) (by decide) ?_
  refine E_mask [true, true, false, false, true, true, true] rfl ?_
  exact hk95 v1 v4 s0 (v6 + (1 : Int32)) M h
set_option maxRecDepth 4096 in
theorem lk_Works_isNeedless_j132 {γ : Gm} (hγ : Gk γ) (this : Nat) (Q : Int32 → Mem → Prop) (X : Mem → Prop) (k63 : Int32 → Int32 → Int32 → Mem → Prop) (k95 : Int32 → Int32 → Int32 → Int32 → Mem → Prop) (hk63 : ∀ (v1 : Int32) (v3 : Int32) (v4 : Int32) (M : Mem), k63 v1 v3 v4 M → E γ k_Works_isNeedless 141 63 [some (vr (some (10, this))), some (vi v1), none, some (vi v3), some (vi v4), none, none] [] M (Qx (9, 0) (Qi Q) X)) (hk95 : ∀ (v1 : Int32) (v4 : Int32) (v5 : Int32) (v6 : Int32) (M : Mem), k95 v1 v4 v5 v6 M → E γ k_Works_isNeedless 141 95 [some (vr (some (10, this))), some (vi v1), none, none, some (vi v4), some (vi v5), some (vi v6)] [] M (Qx (9, 0) (Qi Q) X)) (v1 : Int32) (v4 : Int32) (v6 : Int32) (M : Mem) (h : w_Works_isNeedless_j132 this Q X k63 k95 v1 v4 v6 M) : E γ k_Works_isNeedless 141 132 [some (vr (some (10, this))), some (vi v1), none, none, some (vi v4), none, some (vi v6)] [] M (Qx (9, 0) (Qi Q) X) := by
  unfold w_Works_isNeedless_j132 at h
  refine E_blk (lv' := [some (vr (some (10, this))), some (vi v1), none, none, some (vi v4), none, some (vi v6)]) (st' := [vi (0 : Int32)]) (M1 := M) (pc' := 133) (tb_Works hγ) [.iconst 0] (by decide +kernel) rfl rfl trivial ?_
  refine E_mask [true, true, false, false, true, false, true] rfl ?_
  exact lk_Works_isNeedless_j133 hγ this Q X k63 k95 hk63 hk95 v1 v4 v6 (0 : Int32) M h
set_option maxRecDepth 4096 in
theorem lk_Works_isNeedless_L95 {γ : Gm} (hγ : Gk γ) (this : Nat) (Q : Int32 → Mem → Prop) (X : Mem → Prop) (k63 : Int32 → Int32 → Int32 → Mem → Prop) (hk63 : ∀ (v1 : Int32) (v3 : Int32) (v4 : Int32) (M : Mem), k63 v1 v3 v4 M → E γ k_Works_isNeedless 141 63 [some (vr (some (10, this))), some (vi v1), none, some (vi v3), some (vi v4), none, none] [] M (Qx (9, 0) (Qi Q) X)) : ∀ (n : Nat) (v1 : Int32) (v4 : Int32) (v5 : Int32) (v6 : Int32) (M : Mem), w_Works_isNeedless_L95 this Q X k63 n v1 v4 v5 v6 M → E γ k_Works_isNeedless 141 95 [some (vr (some (10, this))), some (vi v1), none, none, some (vi v4), some (vi v5), some (vi v6)] [] M (Qx (9, 0) (Qi Q) X) := by
  intro n
  induction n with
  | zero => intro v1 v4 v5 v6 M h; exact h.elim
  | succ n ih =>
    intro v1 v4 v5 v6 M h
    unfold w_Works_isNeedless_L95 at h
    refine E_blk (lv' := [some (vr (some (10, this))), some (vi v1), none, none, some (vi v4), some (vi v5), some (vi v6)]) (st' := [vi (mI M 10 this 10), vi v6]) (M1 := M) (pc' := 101) (tb_Works hγ) [.iload 6, .aload_n 0, .getfield 230] (by decide +kernel) rfl rfl trivial ?_
    refine E_icmp_ge (off := 40) (tgt := 141) (by decide +kernel) (by decide) (fun b10 => ?_) (fun b10 => ?_)
    · rw [if_pos b10] at h
      refine E_mask [true, true, false, false, true, true, false] rfl ?_
      exact lk_Works_isNeedless_j141 hγ this Q X k63 hk63 v1 v4 v5 M h
    · rw [if_neg b10] at h
      refine E_blk (lv' := [some (vr (some (10, this))), some (vi v1), none, none, some (vi v4), some (vi v5), some (vi v6)]) (st' := [vi v5]) (M1 := M) (pc' := 106) (tb_Works hγ) [.iload 5] (by decide +kernel) rfl rfl trivial ?_
      refine E_if_ne (off := 35) (tgt := 141) (by decide +kernel) (by decide) (fun b11 => ?_) (fun b11 => ?_)
      · rw [if_pos b11] at h
        refine E_blk (lv' := [some (vr (some (10, this))), some (vi v1), none, none, some (vi v4), some (vi v5), some (vi v6)]) (st' := [vi v1, vi v6]) (M1 := M) (pc' := 112) (tb_Works hγ) [.iload 6, .iload_n 1] (by decide +kernel) rfl rfl trivial ?_
        refine E_icmp_eq (off := 20) (tgt := 132) (by decide +kernel) (by decide) (fun b12 => ?_) (fun b12 => ?_)
        · rw [if_pos b12] at h
          refine E_mask [true, true, false, false, true, false, true] rfl ?_
          exact lk_Works_isNeedless_j132 hγ this Q X k63 (w_Works_isNeedless_L95 this Q X k63 n) hk63 ih v1 v4 v6 M h
        · rw [if_neg b12] at h
          refine E_blk (lv' := [some (vr (some (10, this))), some (vi v1), none, none, some (vi v4), some (vi v5), some (vi v6)]) (st' := [vi ((1 : Int32) <<< (v4 &&& 31)), vi v6, vr (some (10, this))]) (M1 := M) (pc' := 122) (tb_Works hγ) [.aload_n 0, .iload 6, .iconst 1, .iload 4, .ishl] (by decide +kernel) rfl rfl trivial ?_
          refine E_callX (κ' := k_Works_finds0) (As := [vi v6, vi ((1 : Int32) <<< (v4 &&& 31))]) (st := []) mv_Works_finds0 (Or.inl (tbk_mem (j := 10) (k := 164) rfl)) rfl (by decide +kernel) (Nat.le_of_ble_eq_true rfl) (Nat.le_of_ble_eq_true rfl) rfl (by decide) rfl (lk_Works_finds0 hγ this v6 ((1 : Int32) <<< (v4 &&& 31)) _ _ M h) (fun _ _ => Qi_r) (fun _ h => h) (fun v M13 hp => Qi_k (R := fun st => E γ k_Works_isNeedless 141 125 [some (vr (some (10, this))), some (vi v1), none, none, some (vi v4), some (vi v5), some (vi v6)] st M13 (Qx (9, 0) (Qi Q) X)) hp (fun r14 h => ?_))
          refine E_if_eq (off := 7) (tgt := 132) (by decide +kernel) (by decide) (fun b15 => ?_) (fun b15 => ?_)
          · rw [if_pos b15] at h
            refine E_mask [true, true, false, false, true, false, true] rfl ?_
            exact lk_Works_isNeedless_j132 hγ this Q X k63 (w_Works_isNeedless_L95 this Q X k63 n) hk63 ih v1 v4 v6 M13 h
          · rw [if_neg b15] at h
            refine E_blk (lv' := [some (vr (some (10, this))), some (vi v1), none, none, some (vi v4), some (vi v5), some (vi v6)]) (st' := [vi (1 : Int32)]) (M1 := M13) (pc' := 129) (tb_Works hγ) [.iconst 1] (by decide +kernel) rfl rfl trivial ?_
            refine E_goto (off := 4) (tgt := 133) (by decide +kernel) (by decide) ?_
            refine E_mask [true, true, false, false, true, false, true] rfl ?_
            exact lk_Works_isNeedless_j133 hγ this Q X k63 (w_Works_isNeedless_L95 this Q X k63 n) hk63 ih v1 v4 v6 (1 : Int32) M13 h
      · rw [if_neg b11] at h
        refine E_mask [true, true, false, false, true, true, false] rfl ?_
        exact lk_Works_isNeedless_j141 hγ this Q X k63 hk63 v1 v4 v5 M h
set_option maxRecDepth 4096 in
theorem lk_Works_isNeedless_L63 {γ : Gm} (hγ : Gk γ) (this : Nat) (Q : Int32 → Mem → Prop) (X : Mem → Prop) : ∀ (n : Nat) (v1 : Int32) (v3 : Int32) (v4 : Int32) (M : Mem), w_Works_isNeedless_L63 this Q X n v1 v3 v4 M → E γ k_Works_isNeedless 141 63 [some (vr (some (10, this))), some (vi v1), none, some (vi v3), some (vi v4), none, none] [] M (Qx (9, 0) (Qi Q) X) := by
  intro n
  induction n with
  | zero => intro v1 v3 v4 M h; exact h.elim
  | succ n ih =>
    intro v1 v3 v4 M h
    unfold w_Works_isNeedless_L63 at h
    refine E_blk (lv' := [some (vr (some (10, this))), some (vi v1), none, some (vi v3), some (vi v4), none, none]) (st' := [vi (8 : Int32), vi v4]) (M1 := M) (pc' := 67) (tb_Works hγ) [.iload 4, .bipush 8] (by decide +kernel) rfl rfl trivial ?_
    refine E_icmp_ge (off := 83) (tgt := 150) (by decide +kernel) (by decide) (fun b5 => ?_) (fun b5 => ?_)
    · rw [if_pos b5] at h
      refine E_blk (lv' := [some (vr (some (10, this))), some (vi v1), none, some (vi v3), some (vi v4), none, none]) (st' := [vi v3]) (M1 := M) (pc' := 151) (tb_Works hγ) [.iload_n 3] (by decide +kernel) rfl rfl trivial ?_
      exact (E_zret rfl h.1 (by decide +kernel) h.2).nx
    · rw [if_neg b5] at h
      refine E_blk (lv' := [some (vr (some (10, this))), some (vi v1), none, some (vi v3), some (vi v4), none, none]) (st' := [vi v3]) (M1 := M) (pc' := 71) (tb_Works hγ) [.iload_n 3] (by decide +kernel) rfl rfl trivial ?_
      refine E_if_eq (off := 79) (tgt := 150) (by decide +kernel) (by decide) (fun b6 => ?_) (fun b6 => ?_)
      · rw [if_pos b6] at h
        refine E_blk (lv' := [some (vr (some (10, this))), some (vi v1), none, some (vi v3), some (vi v4), none, none]) (st' := [vi v3]) (M1 := M) (pc' := 151) (tb_Works hγ) [.iload_n 3] (by decide +kernel) rfl rfl trivial ?_
        exact (E_zret rfl h.1 (by decide +kernel) h.2).nx
      · rw [if_neg b6] at h
        refine E_blk (lv' := [some (vr (some (10, this))), some (vi v1), none, some (vi v3), some (vi v4), none, none]) (st' := [vi ((1 : Int32) <<< (v4 &&& 31)), vi v1, vr (some (10, this))]) (M1 := M) (pc' := 80) (tb_Works hγ) [.aload_n 0, .iload_n 1, .iconst 1, .iload 4, .ishl] (by decide +kernel) rfl rfl trivial ?_
        refine E_callX (κ' := k_Works_finds0) (As := [vi v1, vi ((1 : Int32) <<< (v4 &&& 31))]) (st := []) mv_Works_finds0 (Or.inl (tbk_mem (j := 10) (k := 164) rfl)) rfl (by decide +kernel) (Nat.le_of_ble_eq_true rfl) (Nat.le_of_ble_eq_true rfl) rfl (by decide) rfl (lk_Works_finds0 hγ this v1 ((1 : Int32) <<< (v4 &&& 31)) _ _ M h) (fun _ _ => Qi_r) (fun _ h => h) (fun v M7 hp => Qi_k (R := fun st => E γ k_Works_isNeedless 141 83 [some (vr (some (10, this))), some (vi v1), none, some (vi v3), some (vi v4), none, none] st M7 (Qx (9, 0) (Qi Q) X)) hp (fun r8 h => ?_))
        refine E_if_ne (off := 6) (tgt := 89) (by decide +kernel) (by decide) (fun b9 => ?_) (fun b9 => ?_)
        · rw [if_pos b9] at h
          refine E_goto (off := 58) (tgt := 144) (by decide +kernel) (by decide) ?_
          refine E_mask [true, true, false, true, true, false, false] rfl ?_
          exact lk_Works_isNeedless_j144 hγ this Q X (w_Works_isNeedless_L63 this Q X n) ih v1 v3 v4 M7 h
        · rw [if_neg b9] at h
          refine E_blk (lv' := [some (vr (some (10, this))), some (vi v1), none, some (vi v3), some (vi v4), some (vi (0 : Int32)), some (vi (0 : Int32))]) (st' := []) (M1 := M7) (pc' := 95) (tb_Works hγ) [.iconst 0, .istore 5, .iconst 0, .istore 6] (by decide +kernel) rfl rfl trivial ?_
          obtain ⟨n16, h⟩ := h
          refine E_mask [true, true, false, false, true, true, true] rfl ?_
          exact lk_Works_isNeedless_L95 hγ this Q X (w_Works_isNeedless_L63 this Q X n) ih n16 v1 v4 (0 : Int32) (0 : Int32) M7 h
set_option maxRecDepth 4096 in
theorem lk_Works_isNeedless_j60 {γ : Gm} (hγ : Gk γ) (this : Nat) (Q : Int32 → Mem → Prop) (X : Mem → Prop) (v1 : Int32) (v3 : Int32) (M : Mem) (h : w_Works_isNeedless_j60 this Q X v1 v3 M) : E γ k_Works_isNeedless 141 60 [some (vr (some (10, this))), some (vi v1), none, some (vi v3), none, none, none] [] M (Qx (9, 0) (Qi Q) X) := by
  unfold w_Works_isNeedless_j60 at h
  refine E_blk (lv' := [some (vr (some (10, this))), some (vi v1), none, some (vi v3), some (vi (0 : Int32)), none, none]) (st' := []) (M1 := M) (pc' := 63) (tb_Works hγ) [.iconst 0, .istore 4] (by decide +kernel) rfl rfl trivial ?_
  obtain ⟨n17, h⟩ := h
  refine E_mask [true, true, false, true, true, false, false] rfl ?_
  exact lk_Works_isNeedless_L63 hγ this Q X n17 v1 v3 (0 : Int32) M h
set_option maxRecDepth 4096 in
theorem lk_Works_isNeedless_j53 {γ : Gm} (hγ : Gk γ) (this : Nat) (Q : Int32 → Mem → Prop) (X : Mem → Prop) (k19 : Int32 → Int32 → Int32 → Int32 → Mem → Prop) (hk19 : ∀ (v1 : Int32) (v2 : Int32) (v3 : Int32) (v4 : Int32) (M : Mem), k19 v1 v2 v3 v4 M → E γ k_Works_isNeedless 141 19 [some (vr (some (10, this))), some (vi v1), some (vi v2), some (vi v3), some (vi v4), none, none] [] M (Qx (9, 0) (Qi Q) X)) (v1 : Int32) (v2 : Int32) (v4 : Int32) (s0 : Int32) (M : Mem) (h : w_Works_isNeedless_j53 this Q X k19 v1 v2 v4 s0 M) : E γ k_Works_isNeedless 141 53 [some (vr (some (10, this))), some (vi v1), some (vi v2), none, some (vi v4), none, none] [vi s0] M (Qx (9, 0) (Qi Q) X) := by
  unfold w_Works_isNeedless_j53 at h
  refine E_blk (lv' := [some (vr (some (10, this))), some (vi v1), some (vi v2), some (vi s0), some (vi (v4 + (1 : Int32))), none, none]) (st' := []) (M1 := M) (pc' := 57) (tb_Works hγ) [.istore_n 3, .iinc 4 1] (by decide +kernel) rfl rfl trivial ?_
  refine E_goto (off := -38) (tgt := 19) (by decide +kernel) (by decide) ?_
  refine E_mask [true, true, true, true, true, false, false] rfl ?_
  exact hk19 v1 v2 s0 (v4 + (1 : Int32)) M h
set_option maxRecDepth 4096 in
theorem lk_Works_isNeedless_j52 {γ : Gm} (hγ : Gk γ) (this : Nat) (Q : Int32 → Mem → Prop) (X : Mem → Prop) (k19 : Int32 → Int32 → Int32 → Int32 → Mem → Prop) (hk19 : ∀ (v1 : Int32) (v2 : Int32) (v3 : Int32) (v4 : Int32) (M : Mem), k19 v1 v2 v3 v4 M → E γ k_Works_isNeedless 141 19 [some (vr (some (10, this))), some (vi v1), some (vi v2), some (vi v3), some (vi v4), none, none] [] M (Qx (9, 0) (Qi Q) X)) (v1 : Int32) (v2 : Int32) (v4 : Int32) (M : Mem) (h : w_Works_isNeedless_j52 this Q X k19 v1 v2 v4 M) : E γ k_Works_isNeedless 141 52 [some (vr (some (10, this))), some (vi v1), some (vi v2), none, some (vi v4), none, none] [] M (Qx (9, 0) (Qi Q) X) := by
  unfold w_Works_isNeedless_j52 at h
  refine E_blk (lv' := [some (vr (some (10, this))), some (vi v1), some (vi v2), none, some (vi v4), none, none]) (st' := [vi (0 : Int32)]) (M1 := M) (pc' := 53) (tb_Works hγ) [.iconst 0] (by decide +kernel) rfl rfl trivial ?_
  refine E_mask [true, true, true, false, true, false, false] rfl ?_
  exact lk_Works_isNeedless_j53 hγ this Q X k19 hk19 v1 v2 v4 (0 : Int32) M h
set_option maxRecDepth 4096 in
theorem lk_Works_isNeedless_L19 {γ : Gm} (hγ : Gk γ) (this : Nat) (Q : Int32 → Mem → Prop) (X : Mem → Prop) : ∀ (n : Nat) (v1 : Int32) (v2 : Int32) (v3 : Int32) (v4 : Int32) (M : Mem), w_Works_isNeedless_L19 this Q X n v1 v2 v3 v4 M → E γ k_Works_isNeedless 141 19 [some (vr (some (10, this))), some (vi v1), some (vi v2), some (vi v3), some (vi v4), none, none] [] M (Qx (9, 0) (Qi Q) X) := by
  intro n
  induction n with
  | zero => intro v1 v2 v3 v4 M h; exact h.elim
  | succ n ih =>
    intro v1 v2 v3 v4 M h
    unfold w_Works_isNeedless_L19 at h
    refine E_blk (lv' := [some (vr (some (10, this))), some (vi v1), some (vi v2), some (vi v3), some (vi v4), none, none]) (st' := [vi (mI M 10 this 10), vi v4]) (M1 := M) (pc' := 25) (tb_Works hγ) [.iload 4, .aload_n 0, .getfield 230] (by decide +kernel) rfl rfl trivial ?_
    refine E_icmp_ge (off := 35) (tgt := 60) (by decide +kernel) (by decide) (fun b4 => ?_) (fun b4 => ?_)
    · rw [if_pos b4] at h
      refine E_mask [true, true, false, true, false, false, false] rfl ?_
      exact lk_Works_isNeedless_j60 hγ this Q X v1 v3 M h
    · rw [if_neg b4] at h
      refine E_blk (lv' := [some (vr (some (10, this))), some (vi v1), some (vi v2), some (vi v3), some (vi v4), none, none]) (st' := [vi v3]) (M1 := M) (pc' := 29) (tb_Works hγ) [.iload_n 3] (by decide +kernel) rfl rfl trivial ?_
      refine E_if_ne (off := 31) (tgt := 60) (by decide +kernel) (by decide) (fun b18 => ?_) (fun b18 => ?_)
      · rw [if_pos b18] at h
        refine E_blk (lv' := [some (vr (some (10, this))), some (vi v1), some (vi v2), some (vi v3), some (vi v4), none, none]) (st' := [vi v1, vi v4]) (M1 := M) (pc' := 35) (tb_Works hγ) [.iload 4, .iload_n 1] (by decide +kernel) rfl rfl trivial ?_
        refine E_icmp_eq (off := 17) (tgt := 52) (by decide +kernel) (by decide) (fun b19 => ?_) (fun b19 => ?_)
        · rw [if_pos b19] at h
          refine E_mask [true, true, true, false, true, false, false] rfl ?_
          exact lk_Works_isNeedless_j52 hγ this Q X (w_Works_isNeedless_L19 this Q X n) ih v1 v2 v4 M h
        · rw [if_neg b19] at h
          refine E_blk (lv' := [some (vr (some (10, this))), some (vi v1), some (vi v2), some (vi v3), some (vi v4), none, none]) (st' := [vi v4, vr (some (10, this))]) (M1 := M) (pc' := 41) (tb_Works hγ) [.aload_n 0, .iload 4] (by decide +kernel) rfl rfl trivial ?_
          refine E_callX (κ' := k_Works_ruleMet) (As := [vi v4]) (st := []) mv_Works_ruleMet (Or.inl (tbk_mem (j := 10) (k := 197) rfl)) rfl (by decide +kernel) (Nat.le_of_ble_eq_true rfl) (Nat.le_of_ble_eq_true rfl) rfl (by decide) rfl (lk_Works_ruleMet hγ this v4 _ _ M h) (fun _ _ => Qi_r) (fun _ h => h) (fun v M20 hp => Qi_k (R := fun st => E γ k_Works_isNeedless 141 44 [some (vr (some (10, this))), some (vi v1), some (vi v2), some (vi v3), some (vi v4), none, none] st M20 (Qx (9, 0) (Qi Q) X)) hp (fun r21 h => ?_))
          refine E_blk (lv' := [some (vr (some (10, this))), some (vi v1), some (vi v2), some (vi v3), some (vi v4), none, none]) (st' := [vi v2, vi r21]) (M1 := M20) (pc' := 45) (tb_Works hγ) [.iload_n 2] (by decide +kernel) rfl rfl trivial ?_
          refine E_icmp_ne (off := 7) (tgt := 52) (by decide +kernel) (by decide) (fun b22 => ?_) (fun b22 => ?_)
          · rw [if_pos b22] at h
            refine E_blk (lv' := [some (vr (some (10, this))), some (vi v1), some (vi v2), some (vi v3), some (vi v4), none, none]) (st' := [vi (1 : Int32)]) (M1 := M20) (pc' := 49) (tb_Works hγ) [.iconst 1] (by decide +kernel) rfl rfl trivial ?_
            refine E_goto (off := 4) (tgt := 53) (by decide +kernel) (by decide) ?_
            refine E_mask [true, true, true, false, true, false, false] rfl ?_
            exact lk_Works_isNeedless_j53 hγ this Q X (w_Works_isNeedless_L19 this Q X n) ih v1 v2 v4 (1 : Int32) M20 h
          · rw [if_neg b22] at h
            refine E_mask [true, true, true, false, true, false, false] rfl ?_
            exact lk_Works_isNeedless_j52 hγ this Q X (w_Works_isNeedless_L19 this Q X n) ih v1 v2 v4 M20 h
      · rw [if_neg b18] at h
        refine E_mask [true, true, false, true, false, false, false] rfl ?_
        exact lk_Works_isNeedless_j60 hγ this Q X v1 v3 M h
set_option maxRecDepth 4096 in
theorem lk_Works_isNeedless_j15 {γ : Gm} (hγ : Gk γ) (this : Nat) (Q : Int32 → Mem → Prop) (X : Mem → Prop) (v1 : Int32) (v2 : Int32) (s0 : Int32) (M : Mem) (h : w_Works_isNeedless_j15 this Q X v1 v2 s0 M) : E γ k_Works_isNeedless 141 15 [some (vr (some (10, this))), some (vi v1), some (vi v2), none, none, none, none] [vi s0] M (Qx (9, 0) (Qi Q) X) := by
  unfold w_Works_isNeedless_j15 at h
  refine E_blk (lv' := [some (vr (some (10, this))), some (vi v1), some (vi v2), some (vi s0), some (vi (0 : Int32)), none, none]) (st' := []) (M1 := M) (pc' := 19) (tb_Works hγ) [.istore_n 3, .iconst 0, .istore 4] (by decide +kernel) rfl rfl trivial ?_
  obtain ⟨n23, h⟩ := h
  refine E_mask [true, true, true, true, true, false, false] rfl ?_
  exact lk_Works_isNeedless_L19 hγ this Q X n23 v1 v2 s0 (0 : Int32) M h
set_option maxRecDepth 4096 in
theorem lk_Works_isNeedless {γ : Gm} (hγ : Gk γ) (this : Nat) (a1 : Int32) (Q : Int32 → Mem → Prop) (X : Mem → Prop) (M : Mem) (h : w_Works_isNeedless this a1 Q X M) : E γ k_Works_isNeedless 141 0 [some (vr (some (10, this))), some (vi a1), none, none, none, none, none] [] M (Qx (9, 0) (Qi Q) X) := by
  unfold w_Works_isNeedless at h
  refine E_blk (lv' := [some (vr (some (10, this))), some (vi a1), none, none, none, none, none]) (st' := [vi a1, vr (some (10, this))]) (M1 := M) (pc' := 2) (tb_Works hγ) [.aload_n 0, .iload_n 1] (by decide +kernel) rfl rfl trivial ?_
  refine E_callX (κ' := k_Works_ruleMet) (As := [vi a1]) (st := []) mv_Works_ruleMet (Or.inl (tbk_mem (j := 10) (k := 197) rfl)) rfl (by decide +kernel) (Nat.le_of_ble_eq_true rfl) (Nat.le_of_ble_eq_true rfl) rfl (by decide) rfl (lk_Works_ruleMet hγ this a1 _ _ M h) (fun _ _ => Qi_r) (fun _ h => h) (fun v M1 hp => Qi_k (R := fun st => E γ k_Works_isNeedless 141 5 [some (vr (some (10, this))), some (vi a1), none, none, none, none, none] st M1 (Qx (9, 0) (Qi Q) X)) hp (fun r2 h => ?_))
  refine E_blk (lv' := [some (vr (some (10, this))), some (vi a1), some (vi r2), none, none, none, none]) (st' := [vi r2]) (M1 := M1) (pc' := 7) (tb_Works hγ) [.istore_n 2, .iload_n 2] (by decide +kernel) rfl rfl trivial ?_
  refine E_if_ne (off := 7) (tgt := 14) (by decide +kernel) (by decide) (fun b3 => ?_) (fun b3 => ?_)
  · rw [if_pos b3] at h
    refine E_blk (lv' := [some (vr (some (10, this))), some (vi a1), some (vi r2), none, none, none, none]) (st' := [vi (1 : Int32)]) (M1 := M1) (pc' := 11) (tb_Works hγ) [.iconst 1] (by decide +kernel) rfl rfl trivial ?_
    refine E_goto (off := 4) (tgt := 15) (by decide +kernel) (by decide) ?_
    refine E_mask [true, true, true, false, false, false, false] rfl ?_
    exact lk_Works_isNeedless_j15 hγ this Q X a1 r2 (1 : Int32) M1 h
  · rw [if_neg b3] at h
    refine E_blk (lv' := [some (vr (some (10, this))), some (vi a1), some (vi r2), none, none, none, none]) (st' := [vi (0 : Int32)]) (M1 := M1) (pc' := 15) (tb_Works hγ) [.iconst 0] (by decide +kernel) rfl rfl trivial ?_
    refine E_mask [true, true, true, false, false, false, false] rfl ?_
    exact lk_Works_isNeedless_j15 hγ this Q X a1 r2 (0 : Int32) M1 h
def w_Works_remove_L58 (this : Nat) (Q : Mem → Prop) (k19 : Nat → Int32 → Mem → Prop) : Nat → Nat → Int32 → Int32 → Mem → Prop
  | 0, _, _, _, _ => False
  | n + 1, v2, v3, v4, M => if (9 : Int32) ≤ v4 then (k19 v2 (v3 + (1 : Int32)) M) else (vp_in ((((9 : Int32) * v3) + (9 : Int32)) + v4) (mL M 516 this) ∧ vp_in (((9 : Int32) * v3) + v4) (mL M 516 this) ∧ ∃ M16, M16 = (sI M 516 this (((9 : Int32) * v3) + v4).toNatClampNeg ((mI M 516 this ((((9 : Int32) * v3) + (9 : Int32)) + v4).toNatClampNeg) &&& 1)) ∧ vp_in ((((9 : Int32) * v3) + (9 : Int32)) + v4) (mL M16 99 this) ∧ vp_in (((9 : Int32) * v3) + v4) (mL M16 99 this) ∧ ∃ M19, M19 = (sI M16 99 this (((9 : Int32) * v3) + v4).toNatClampNeg (mI M16 99 this ((((9 : Int32) * v3) + (9 : Int32)) + v4).toNatClampNeg)) ∧ vp_in ((((9 : Int32) * v3) + (9 : Int32)) + v4) (mL M19 100 this) ∧ vp_in (((9 : Int32) * v3) + v4) (mL M19 100 this) ∧ ∃ M22, M22 = (sI M19 100 this (((9 : Int32) * v3) + v4).toNatClampNeg (mI M19 100 this ((((9 : Int32) * v3) + (9 : Int32)) + v4).toNatClampNeg)) ∧ (w_Works_remove_L58 this Q k19 n) v2 v3 (v4 + (1 : Int32)) M22)
def w_Works_remove_L19 (this : Nat) (Q : Mem → Prop) : Nat → Nat → Int32 → Mem → Prop
  | 0, _, _, _ => False
  | n + 1, v2, v3, M => if (mI M 10 this 10) ≤ v3 then (vp_in (mI M 10 this 10) (mL M 701 0) ∧ ∃ M5, M5 = sR M 701 0 (mI M 10 this 10).toNatClampNeg (some (400, v2)) ∧ Q M5) else (vp_in (v3 + (1 : Int32)) (mL M 701 0) ∧ ∃ i7, (mR M 701 0 (v3 + (1 : Int32)).toNatClampNeg) = some (400, i7) ∧ vp_in v3 (mL M 701 0) ∧ ∃ M9, M9 = sR M 701 0 v3.toNatClampNeg (some (400, i7)) ∧ vp_in (v3 + (1 : Int32)) (mL M9 98 this) ∧ vp_in v3 (mL M9 98 this) ∧ ∃ M12, M12 = (sI M9 98 this v3.toNatClampNeg (mI M9 98 this (v3 + (1 : Int32)).toNatClampNeg)) ∧ ∃ n23 : Nat, w_Works_remove_L58 this Q (w_Works_remove_L19 this Q n) n23 v2 v3 (0 : Int32) M12)
def w_Works_remove (this : Nat) (a1 : Int32) (Q : Mem → Prop) (M : Mem) : Prop :=
  vp_in a1 (mL M 701 0) ∧ ∃ i2, (mR M 701 0 a1.toNatClampNeg) = some (400, i2) ∧ ∃ n24 : Nat, w_Works_remove_L19 this Q n24 i2 a1 (sI M 10 this 10 ((mI M 10 this 10) - (1 : Int32)))
set_option maxRecDepth 4096 in
theorem lk_Works_remove_L58 {γ : Gm} (hγ : Gk γ) (this : Nat) (Q : Mem → Prop) (k19 : Nat → Int32 → Mem → Prop) (hk19 : ∀ (v2 : Nat) (v3 : Int32) (M : Mem), k19 v2 v3 M → E γ k_Works_remove 0 19 [some (vr (some (10, this))), none, some (vr (some (400, v2))), some (vi v3), none] [] M (Qv Q)) : ∀ (n : Nat) (v2 : Nat) (v3 : Int32) (v4 : Int32) (M : Mem), w_Works_remove_L58 this Q k19 n v2 v3 v4 M → E γ k_Works_remove 0 58 [some (vr (some (10, this))), none, some (vr (some (400, v2))), some (vi v3), some (vi v4)] [] M (Qv Q) := by
  intro n
  induction n with
  | zero => intro v2 v3 v4 M h; exact h.elim
  | succ n ih =>
    intro v2 v3 v4 M h
    unfold w_Works_remove_L58 at h
    refine E_blk (lv' := [some (vr (some (10, this))), none, some (vr (some (400, v2))), some (vi v3), some (vi v4)]) (st' := [vi (9 : Int32), vi v4]) (M1 := M) (pc' := 62) (tb_Works hγ) [.iload 4, .bipush 9] (by decide +kernel) rfl rfl trivial ?_
    refine E_icmp_ge (off := 90) (tgt := 152) (by decide +kernel) (by decide) (fun b13 => ?_) (fun b13 => ?_)
    · rw [if_pos b13] at h
      refine E_blk (lv' := [some (vr (some (10, this))), none, some (vr (some (400, v2))), some (vi (v3 + (1 : Int32))), some (vi v4)]) (st' := []) (M1 := M) (pc' := 155) (tb_Works hγ) [.iinc 3 1] (by decide +kernel) rfl rfl trivial ?_
      refine E_goto (off := -136) (tgt := 19) (by decide +kernel) (by decide) ?_
      refine E_mask [true, false, true, true, false] rfl ?_
      exact hk19 v2 (v3 + (1 : Int32)) M h
    · rw [if_neg b13] at h
      obtain ⟨c14, c15, h⟩ := h
      refine E_blk (lv' := [some (vr (some (10, this))), none, some (vr (some (400, v2))), some (vi v3), some (vi v4)]) (st' := []) (M1 := (sI M 516 this (((9 : Int32) * v3) + v4).toNatClampNeg ((mI M 516 this ((((9 : Int32) * v3) + (9 : Int32)) + v4).toNatClampNeg) &&& 1))) (pc' := 92) (tb_Works hγ) [.aload_n 0, .getfield 73, .bipush 9, .iload_n 3, .imul, .iload 4, .iadd, .aload_n 0, .getfield 73, .bipush 9, .iload_n 3, .imul, .bipush 9, .iadd, .iload 4, .iadd, .baload, .bastore] (by decide +kernel) rfl rfl ⟨c14, c15, trivial⟩ ?_
      obtain ⟨M16, eM16, h⟩ := h
      rw [← eM16]
      obtain ⟨c17, c18, h⟩ := h
      refine E_blk (lv' := [some (vr (some (10, this))), none, some (vr (some (400, v2))), some (vi v3), some (vi v4)]) (st' := []) (M1 := (sI M16 99 this (((9 : Int32) * v3) + v4).toNatClampNeg (mI M16 99 this ((((9 : Int32) * v3) + (9 : Int32)) + v4).toNatClampNeg))) (pc' := 119) (tb_Works hγ) [.aload_n 0, .getfield 76, .bipush 9, .iload_n 3, .imul, .iload 4, .iadd, .aload_n 0, .getfield 76, .bipush 9, .iload_n 3, .imul, .bipush 9, .iadd, .iload 4, .iadd, .iaload, .iastore] (by decide +kernel) rfl rfl ⟨c17, c18, trivial⟩ ?_
      obtain ⟨M19, eM19, h⟩ := h
      rw [← eM19]
      obtain ⟨c20, c21, h⟩ := h
      refine E_blk (lv' := [some (vr (some (10, this))), none, some (vr (some (400, v2))), some (vi v3), some (vi v4)]) (st' := []) (M1 := (sI M19 100 this (((9 : Int32) * v3) + v4).toNatClampNeg (mI M19 100 this ((((9 : Int32) * v3) + (9 : Int32)) + v4).toNatClampNeg))) (pc' := 146) (tb_Works hγ) [.aload_n 0, .getfield 79, .bipush 9, .iload_n 3, .imul, .iload 4, .iadd, .aload_n 0, .getfield 79, .bipush 9, .iload_n 3, .imul, .bipush 9, .iadd, .iload 4, .iadd, .iaload, .iastore] (by decide +kernel) rfl rfl ⟨c20, c21, trivial⟩ ?_
      obtain ⟨M22, eM22, h⟩ := h
      rw [← eM22]
      refine E_blk (lv' := [some (vr (some (10, this))), none, some (vr (some (400, v2))), some (vi v3), some (vi (v4 + (1 : Int32)))]) (st' := []) (M1 := M22) (pc' := 149) (tb_Works hγ) [.iinc 4 1] (by decide +kernel) rfl rfl trivial ?_
      refine E_goto (off := -91) (tgt := 58) (by decide +kernel) (by decide) ?_
      refine E_mask [true, false, true, true, true] rfl ?_
      exact ih v2 v3 (v4 + (1 : Int32)) M22 h
set_option maxRecDepth 4096 in
theorem lk_Works_remove_L19 {γ : Gm} (hγ : Gk γ) (this : Nat) (Q : Mem → Prop) : ∀ (n : Nat) (v2 : Nat) (v3 : Int32) (M : Mem), w_Works_remove_L19 this Q n v2 v3 M → E γ k_Works_remove 0 19 [some (vr (some (10, this))), none, some (vr (some (400, v2))), some (vi v3), none] [] M (Qv Q) := by
  intro n
  induction n with
  | zero => intro v2 v3 M h; exact h.elim
  | succ n ih =>
    intro v2 v3 M h
    unfold w_Works_remove_L19 at h
    refine E_blk (lv' := [some (vr (some (10, this))), none, some (vr (some (400, v2))), some (vi v3), none]) (st' := [vi (mI M 10 this 10), vi v3]) (M1 := M) (pc' := 24) (tb_Works hγ) [.iload_n 3, .aload_n 0, .getfield 230] (by decide +kernel) rfl rfl trivial ?_
    refine E_icmp_ge (off := 134) (tgt := 158) (by decide +kernel) (by decide) (fun b3 => ?_) (fun b3 => ?_)
    · rw [if_pos b3] at h
      refine E_blk (lv' := [some (vr (some (10, this))), none, some (vr (some (400, v2))), some (vi v3), none]) (st' := [vr (some (400, v2)), vi (mI M 10 this 10), vr (some (701, 0))]) (M1 := M) (pc' := 167) (tb_Works hγ) [.aload_n 0, .getfield 67, .aload_n 0, .getfield 230, .aload_n 2] (by decide +kernel) rfl rfl trivial ?_
      obtain ⟨c4, M5, eM5, h⟩ := h
      refine E_astR (g := 400) (k := v2) hγ.2.2.1.1 (FIN_lt hγ.1) (by decide) c4 (by decide +kernel) (by unfold okel; decide) ?_
      rw [← eM5]
      exact E_vret rfl (by decide +kernel) h
    · rw [if_neg b3] at h
      obtain ⟨c6, h⟩ := h
      refine E_blk (lv' := [some (vr (some (10, this))), none, some (vr (some (400, v2))), some (vi v3), none]) (st' := [vr (mR M 701 0 (v3 + (1 : Int32)).toNatClampNeg), vi v3, vr (some (701, 0))]) (M1 := M) (pc' := 40) (tb_Works hγ) [.aload_n 0, .getfield 67, .iload_n 3, .aload_n 0, .getfield 67, .iload_n 3, .iconst 1, .iadd, .aaload] (by decide +kernel) rfl rfl ⟨c6, trivial⟩ ?_
      obtain ⟨i7, ei7, h⟩ := h
      rw [ei7]
      obtain ⟨c8, M9, eM9, h⟩ := h
      refine E_astR (g := 400) (k := i7) hγ.2.2.1.1 (FIN_lt hγ.1) (by decide) c8 (by decide +kernel) (by unfold okel; decide) ?_
      rw [← eM9]
      obtain ⟨c10, c11, h⟩ := h
      refine E_blk (lv' := [some (vr (some (10, this))), none, some (vr (some (400, v2))), some (vi v3), none]) (st' := []) (M1 := (sI M9 98 this v3.toNatClampNeg (mI M9 98 this (v3 + (1 : Int32)).toNatClampNeg))) (pc' := 55) (tb_Works hγ) [.aload_n 0, .getfield 70, .iload_n 3, .aload_n 0, .getfield 70, .iload_n 3, .iconst 1, .iadd, .iaload, .iastore] (by decide +kernel) rfl rfl ⟨c10, c11, trivial⟩ ?_
      obtain ⟨M12, eM12, h⟩ := h
      rw [← eM12]
      refine E_blk (lv' := [some (vr (some (10, this))), none, some (vr (some (400, v2))), some (vi v3), some (vi (0 : Int32))]) (st' := []) (M1 := M12) (pc' := 58) (tb_Works hγ) [.iconst 0, .istore 4] (by decide +kernel) rfl rfl trivial ?_
      obtain ⟨n23, h⟩ := h
      refine E_mask [true, false, true, true, true] rfl ?_
      exact lk_Works_remove_L58 hγ this Q (w_Works_remove_L19 this Q n) ih n23 v2 v3 (0 : Int32) M12 h
set_option maxRecDepth 4096 in
theorem lk_Works_remove {γ : Gm} (hγ : Gk γ) (this : Nat) (a1 : Int32) (Q : Mem → Prop) (M : Mem) (h : w_Works_remove this a1 Q M) : E γ k_Works_remove 0 0 [some (vr (some (10, this))), some (vi a1), none, none, none] [] M (Qv Q) := by
  unfold w_Works_remove at h
  obtain ⟨c1, h⟩ := h
  refine E_blk (lv' := [some (vr (some (10, this))), some (vi a1), none, none, none]) (st' := [vr (mR M 701 0 a1.toNatClampNeg)]) (M1 := M) (pc' := 6) (tb_Works hγ) [.aload_n 0, .getfield 67, .iload_n 1, .aaload] (by decide +kernel) rfl rfl ⟨c1, trivial⟩ ?_
  obtain ⟨i2, ei2, h⟩ := h
  rw [ei2]
  refine E_blk (lv' := [some (vr (some (10, this))), some (vi a1), some (vr (some (400, i2))), some (vi a1), none]) (st' := []) (M1 := (sI M 10 this 10 ((mI M 10 this 10) - (1 : Int32)))) (pc' := 19) (tb_Works hγ) [.astore_n 2, .aload_n 0, .dup, .getfield 230, .iconst 1, .isub, .putfield 230, .iload_n 1, .istore_n 3] (by decide +kernel) rfl rfl trivial ?_
  obtain ⟨n24, h⟩ := h
  refine E_mask [true, false, true, true, false] rfl ?_
  exact lk_Works_remove_L19 hγ this Q n24 i2 a1 (sI M 10 this 10 ((mI M 10 this 10) - (1 : Int32))) h
def w_Works_least_j24 (this : Nat) (Q : Int32 → Mem → Prop) (X : Mem → Prop) (k7 : Int32 → Mem → Prop) (v1 : Int32) (M : Mem) : Prop :=
  k7 (v1 + (-1 : Int32)) M
def w_Works_least_L7 (this : Nat) (Q : Int32 → Mem → Prop) (X : Mem → Prop) : Nat → Int32 → Mem → Prop
  | 0, _, _ => False
  | n + 1, v1, M => if v1 < 0 then (Q (mI M 10 this 10) M) else (w_Works_isNeedless this v1 (fun r3 M2 => if r3 = 0 then (w_Works_least_j24 this Q X (w_Works_least_L7 this Q X n) v1 M2) else (w_Works_remove this v1 (fun M5 => w_Works_least_j24 this Q X (w_Works_least_L7 this Q X n) v1 M5) M2)) X M)
def w_Works_least (this : Nat) (Q : Int32 → Mem → Prop) (X : Mem → Prop) (M : Mem) : Prop :=
  ∃ n6 : Nat, w_Works_least_L7 this Q X n6 ((mI M 10 this 10) - (1 : Int32)) M
set_option maxRecDepth 4096 in
theorem lk_Works_least_j24 {γ : Gm} (hγ : Gk γ) (this : Nat) (Q : Int32 → Mem → Prop) (X : Mem → Prop) (k7 : Int32 → Mem → Prop) (hk7 : ∀ (v1 : Int32) (M : Mem), k7 v1 M → E γ k_Works_least 142 7 [some (vr (some (10, this))), some (vi v1)] [] M (Qx (9, 0) (Qi Q) X)) (v1 : Int32) (M : Mem) (h : w_Works_least_j24 this Q X k7 v1 M) : E γ k_Works_least 142 24 [some (vr (some (10, this))), some (vi v1)] [] M (Qx (9, 0) (Qi Q) X) := by
  unfold w_Works_least_j24 at h
  refine E_blk (lv' := [some (vr (some (10, this))), some (vi (v1 + (-1 : Int32)))]) (st' := []) (M1 := M) (pc' := 27) (tb_Works hγ) [.iinc 1 (.negSucc 0)] (by decide +kernel) rfl rfl trivial ?_
  refine E_goto (off := -20) (tgt := 7) (by decide +kernel) (by decide) ?_
  refine E_mask [true, true] rfl ?_
  exact hk7 (v1 + (-1 : Int32)) M h
set_option maxRecDepth 4096 in
theorem lk_Works_least_L7 {γ : Gm} (hγ : Gk γ) (this : Nat) (Q : Int32 → Mem → Prop) (X : Mem → Prop) : ∀ (n : Nat) (v1 : Int32) (M : Mem), w_Works_least_L7 this Q X n v1 M → E γ k_Works_least 142 7 [some (vr (some (10, this))), some (vi v1)] [] M (Qx (9, 0) (Qi Q) X) := by
  intro n
  induction n with
  | zero => intro v1 M h; exact h.elim
  | succ n ih =>
    intro v1 M h
    unfold w_Works_least_L7 at h
    refine E_blk (lv' := [some (vr (some (10, this))), some (vi v1)]) (st' := [vi v1]) (M1 := M) (pc' := 8) (tb_Works hγ) [.iload_n 1] (by decide +kernel) rfl rfl trivial ?_
    refine E_if_lt (off := 22) (tgt := 30) (by decide +kernel) (by decide) (fun b1 => ?_) (fun b1 => ?_)
    · rw [if_pos b1] at h
      refine E_blk (lv' := [some (vr (some (10, this))), some (vi v1)]) (st' := [vi (mI M 10 this 10)]) (M1 := M) (pc' := 34) (tb_Works hγ) [.aload_n 0, .getfield 230] (by decide +kernel) rfl rfl trivial ?_
      exact (E_iret rfl (by decide +kernel) h).nx
    · rw [if_neg b1] at h
      refine E_blk (lv' := [some (vr (some (10, this))), some (vi v1)]) (st' := [vi v1, vr (some (10, this))]) (M1 := M) (pc' := 13) (tb_Works hγ) [.aload_n 0, .iload_n 1] (by decide +kernel) rfl rfl trivial ?_
      refine E_callX (κ' := k_Works_isNeedless) (As := [vi v1]) (st := []) mv_Works_isNeedless (Or.inl (tbk_mem (j := 11) (k := 20) rfl)) rfl (by decide +kernel) (Nat.le_of_ble_eq_true rfl) (Nat.le_of_ble_eq_true rfl) rfl (by decide) rfl (lk_Works_isNeedless hγ this v1 _ _ M h) (fun _ _ => Qi_r) (fun _ h => h) (fun v M2 hp => Qi_k (R := fun st => E γ k_Works_least 142 16 [some (vr (some (10, this))), some (vi v1)] st M2 (Qx (9, 0) (Qi Q) X)) hp (fun r3 h => ?_))
      refine E_if_eq (off := 8) (tgt := 24) (by decide +kernel) (by decide) (fun b4 => ?_) (fun b4 => ?_)
      · rw [if_pos b4] at h
        refine E_mask [true, true] rfl ?_
        exact lk_Works_least_j24 hγ this Q X (w_Works_least_L7 this Q X n) ih v1 M2 h
      · rw [if_neg b4] at h
        refine E_blk (lv' := [some (vr (some (10, this))), some (vi v1)]) (st' := [vi v1, vr (some (10, this))]) (M1 := M2) (pc' := 21) (tb_Works hγ) [.aload_n 0, .iload_n 1] (by decide +kernel) rfl rfl trivial ?_
        refine E_callV (κ' := k_Works_remove) (As := [vi v1]) (st := []) mv_Works_remove (Or.inl (tbk_mem (j := 11) (k := 24) rfl)) rfl (by decide +kernel) (Nat.le_of_ble_eq_true rfl) (Nat.le_of_ble_eq_true rfl) rfl (by decide) (lk_Works_remove hγ this v1 _ M2 h) (fun _ _ => Qv_r) (fun v M5 hp => Qv_k (R := fun st => E γ k_Works_least 142 24 [some (vr (some (10, this))), some (vi v1)] st M5 (Qx (9, 0) (Qi Q) X)) hp (fun h => ?_))
        refine E_mask [true, true] rfl ?_
        exact lk_Works_least_j24 hγ this Q X (w_Works_least_L7 this Q X n) ih v1 M5 h
set_option maxRecDepth 4096 in
theorem lk_Works_least {γ : Gm} (hγ : Gk γ) (this : Nat) (Q : Int32 → Mem → Prop) (X : Mem → Prop) (M : Mem) (h : w_Works_least this Q X M) : E γ k_Works_least 142 0 [some (vr (some (10, this))), none] [] M (Qx (9, 0) (Qi Q) X) := by
  unfold w_Works_least at h
  refine E_blk (lv' := [some (vr (some (10, this))), some (vi ((mI M 10 this 10) - (1 : Int32)))]) (st' := []) (M1 := M) (pc' := 7) (tb_Works hγ) [.aload_n 0, .getfield 230, .iconst 1, .isub, .istore_n 1] (by decide +kernel) rfl rfl trivial ?_
  obtain ⟨n6, h⟩ := h
  refine E_mask [true, true] rfl ?_
  exact lk_Works_least_L7 hγ this Q X n6 ((mI M 10 this 10) - (1 : Int32)) M h
def w_Works_shrink_j283 (this : Nat) (Q : Int32 → Mem → Prop) (X : Mem → Prop) (k104 : Int32 → Int32 → Int32 → Int32 → Int32 → Int32 → Nat → Int32 → Int32 → Int32 → Mem → Prop) (v1 : Int32) (v2 : Int32) (v3 : Int32) (v4 : Int32) (v5 : Int32) (v6 : Int32) (v7 : Nat) (v8 : Int32) (v10 : Int32) (v11 : Int32) (M : Mem) : Prop :=
  k104 v1 v2 v3 v4 v5 v6 v7 v8 v11 v10 M
def w_Works_shrink_j255 (this : Nat) (Q : Int32 → Mem → Prop) (X : Mem → Prop) (k104 : Int32 → Int32 → Int32 → Int32 → Int32 → Int32 → Nat → Int32 → Int32 → Int32 → Mem → Prop) (v1 : Int32) (v2 : Int32) (v3 : Int32) (v4 : Int32) (v5 : Int32) (v6 : Int32) (v7 : Nat) (v8 : Int32) (v10 : Int32) (v11 : Int32) (v12 : Int32) (v13 : Int32) (M : Mem) : Prop :=
  if v13 = 0 then (w_Works_shrink_j283 this Q X k104 v1 v2 v3 v4 v5 v6 v7 v8 (v10 + (1 : Int32)) v11 M) else (¬ (0 : Int32) < 0 ∧ ¬ (0 : Int32) < 0 ∧ ¬ v12 < 0 ∧ (0 : Int32).toNatClampNeg + v12.toNatClampNeg ≤ mL M 400 41 ∧ (0 : Int32).toNatClampNeg + v12.toNatClampNeg ≤ mL M 400 v7 ∧ ∃ M34, M34 = cpI M 400 41 (0 : Int32).toNatClampNeg 400 v7 (0 : Int32).toNatClampNeg v12.toNatClampNeg ∧ w_Works_shrink_j283 this Q X k104 v1 v2 v3 v4 v5 v6 v7 v12 v10 v11 M34)
def w_Works_shrink_j253 (this : Nat) (Q : Int32 → Mem → Prop) (X : Mem → Prop) (k104 : Int32 → Int32 → Int32 → Int32 → Int32 → Int32 → Nat → Int32 → Int32 → Int32 → Mem → Prop) (v1 : Int32) (v2 : Int32) (v3 : Int32) (v4 : Int32) (v5 : Int32) (v6 : Int32) (v7 : Nat) (v8 : Int32) (v10 : Int32) (v11 : Int32) (v12 : Int32) (s0 : Int32) (M : Mem) : Prop :=
  w_Works_shrink_j255 this Q X k104 v1 v2 v3 v4 v5 v6 v7 v8 v10 v11 v12 s0 M
def w_Works_shrink_j252 (this : Nat) (Q : Int32 → Mem → Prop) (X : Mem → Prop) (k104 : Int32 → Int32 → Int32 → Int32 → Int32 → Int32 → Nat → Int32 → Int32 → Int32 → Mem → Prop) (v1 : Int32) (v2 : Int32) (v3 : Int32) (v4 : Int32) (v5 : Int32) (v6 : Int32) (v7 : Nat) (v8 : Int32) (v10 : Int32) (v11 : Int32) (v12 : Int32) (M : Mem) : Prop :=
  w_Works_shrink_j253 this Q X k104 v1 v2 v3 v4 v5 v6 v7 v8 v10 v11 v12 (0 : Int32) M
def w_Works_shrink_j212 (this : Nat) (Q : Int32 → Mem → Prop) (X : Mem → Prop) (k104 : Int32 → Int32 → Int32 → Int32 → Int32 → Int32 → Nat → Int32 → Int32 → Int32 → Mem → Prop) (v1 : Int32) (v2 : Int32) (v3 : Int32) (v4 : Int32) (v5 : Int32) (v6 : Int32) (v7 : Nat) (v8 : Int32) (v10 : Int32) (v11 : Int32) (v12 : Int32) (s0 : Int32) (M : Mem) : Prop :=
  if s0 = 0 then (w_Works_shrink_j255 this Q X k104 v1 v2 v3 v4 v5 v6 v7 v8 v10 v11 v12 s0 M) else (w_Works_work1 this 41 v12 v2 (fun M40 => if (mI M40 10 this 16) = v5 then (if (mI M40 10 this 17) = v6 then (w_Works_shrink_j253 this Q X k104 v1 v2 v3 v4 v5 v6 v7 v8 v10 v11 v12 (1 : Int32) M40) else (w_Works_shrink_j252 this Q X k104 v1 v2 v3 v4 v5 v6 v7 v8 v10 v11 v12 M40)) else (w_Works_shrink_j252 this Q X k104 v1 v2 v3 v4 v5 v6 v7 v8 v10 v11 v12 M40)) X M)
def w_Works_shrink_j211 (this : Nat) (Q : Int32 → Mem → Prop) (X : Mem → Prop) (k104 : Int32 → Int32 → Int32 → Int32 → Int32 → Int32 → Nat → Int32 → Int32 → Int32 → Mem → Prop) (v1 : Int32) (v2 : Int32) (v3 : Int32) (v4 : Int32) (v5 : Int32) (v6 : Int32) (v7 : Nat) (v8 : Int32) (v10 : Int32) (v11 : Int32) (v12 : Int32) (M : Mem) : Prop :=
  w_Works_shrink_j212 this Q X k104 v1 v2 v3 v4 v5 v6 v7 v8 v10 v11 v12 (0 : Int32) M
def w_Works_shrink_j138 (this : Nat) (Q : Int32 → Mem → Prop) (X : Mem → Prop) (k104 : Int32 → Int32 → Int32 → Int32 → Int32 → Int32 → Nat → Int32 → Int32 → Int32 → Mem → Prop) (v1 : Int32) (v2 : Int32) (v3 : Int32) (v4 : Int32) (v5 : Int32) (v6 : Int32) (v7 : Nat) (v8 : Int32) (v9 : Int32) (v10 : Int32) (v11 : Int32) (M : Mem) : Prop :=
  ¬ (0 : Int32) < 0 ∧ ¬ (0 : Int32) < 0 ∧ ¬ v11 < 0 ∧ (0 : Int32).toNatClampNeg + v11.toNatClampNeg ≤ mL M 400 v7 ∧ (0 : Int32).toNatClampNeg + v11.toNatClampNeg ≤ mL M 400 41 ∧ ∃ M17, M17 = cpI M 400 v7 (0 : Int32).toNatClampNeg 400 41 (0 : Int32).toNatClampNeg v11.toNatClampNeg ∧ ¬ v9 < 0 ∧ ¬ v11 < 0 ∧ ¬ (v8 - v9) < 0 ∧ v9.toNatClampNeg + (v8 - v9).toNatClampNeg ≤ mL M17 400 v7 ∧ v11.toNatClampNeg + (v8 - v9).toNatClampNeg ≤ mL M17 400 41 ∧ ∃ M23, M23 = cpI M17 400 v7 v9.toNatClampNeg 400 41 v11.toNatClampNeg (v8 - v9).toNatClampNeg ∧ w_Works_work1 this 41 (v8 - (v9 - v11)) (0 : Int32) (fun M29 => if (mI M29 10 this 16) = v3 then (if (mI M29 10 this 17) = v4 then (w_Works_shrink_j212 this Q X k104 v1 v2 v3 v4 v5 v6 v7 v8 v10 v11 (v8 - (v9 - v11)) (1 : Int32) M29) else (w_Works_shrink_j211 this Q X k104 v1 v2 v3 v4 v5 v6 v7 v8 v10 v11 (v8 - (v9 - v11)) M29)) else (w_Works_shrink_j211 this Q X k104 v1 v2 v3 v4 v5 v6 v7 v8 v10 v11 (v8 - (v9 - v11)) M29)) X M23
def w_Works_shrink_L115 (this : Nat) (Q : Int32 → Mem → Prop) (X : Mem → Prop) (k104 : Int32 → Int32 → Int32 → Int32 → Int32 → Int32 → Nat → Int32 → Int32 → Int32 → Mem → Prop) : Nat → Int32 → Int32 → Int32 → Int32 → Int32 → Int32 → Nat → Int32 → Int32 → Int32 → Int32 → Mem → Prop
  | 0, _, _, _, _, _, _, _, _, _, _, _, _ => False
  | n + 1, v1, v2, v3, v4, v5, v6, v7, v8, v9, v10, v11, M => if v11 ≤ 0 then (w_Works_shrink_j138 this Q X k104 v1 v2 v3 v4 v5 v6 v7 v8 v9 v10 v11 M) else (vp_in (v11 - (1 : Int32)) (mL M 400 v7) ∧ if (mI M 400 v7 (v11 - (1 : Int32)).toNatClampNeg) = (10 : Int32) then (w_Works_shrink_j138 this Q X k104 v1 v2 v3 v4 v5 v6 v7 v8 v9 v10 v11 M) else ((w_Works_shrink_L115 this Q X k104 n) v1 v2 v3 v4 v5 v6 v7 v8 v9 v10 (v11 + (-1 : Int32)) M))
def w_Works_shrink_L104 (this : Nat) (Q : Int32 → Mem → Prop) (X : Mem → Prop) : Nat → Int32 → Int32 → Int32 → Int32 → Int32 → Int32 → Nat → Int32 → Int32 → Int32 → Mem → Prop
  | 0, _, _, _, _, _, _, _, _, _, _, _ => False
  | n + 1, v1, v2, v3, v4, v5, v6, v7, v8, v9, v10, M => if v9 ≤ 0 then (vp_in v1 (mL M 98 this) ∧ w_Works_forget this v1 (fun M15 => Q v10 M15) (sI M 98 this v1.toNatClampNeg v8)) else (∃ n45 : Nat, w_Works_shrink_L115 this Q X (w_Works_shrink_L104 this Q X n) n45 v1 v2 v3 v4 v5 v6 v7 v8 v9 v10 (v9 - (1 : Int32)) M)
def w_Works_shrink_j101 (this : Nat) (Q : Int32 → Mem → Prop) (X : Mem → Prop) (v1 : Int32) (v2 : Int32) (v3 : Int32) (v4 : Int32) (v5 : Int32) (v6 : Int32) (v7 : Nat) (v8 : Int32) (v9 : Int32) (M : Mem) : Prop :=
  ∃ n46 : Nat, w_Works_shrink_L104 this Q X n46 v1 v2 v3 v4 v5 v6 v7 v8 v9 (1 : Int32) M
def w_Works_shrink_L78 (this : Nat) (Q : Int32 → Mem → Prop) (X : Mem → Prop) : Nat → Int32 → Int32 → Int32 → Int32 → Int32 → Int32 → Nat → Int32 → Int32 → Mem → Prop
  | 0, _, _, _, _, _, _, _, _, _, _ => False
  | n + 1, v1, v2, v3, v4, v5, v6, v7, v8, v9, M => if v9 ≤ 0 then (w_Works_shrink_j101 this Q X v1 v2 v3 v4 v5 v6 v7 v8 v9 M) else (vp_in (v9 - (1 : Int32)) (mL M 400 v7) ∧ if (mI M 400 v7 (v9 - (1 : Int32)).toNatClampNeg) = (10 : Int32) then (w_Works_shrink_j101 this Q X v1 v2 v3 v4 v5 v6 v7 v8 v9 M) else ((w_Works_shrink_L78 this Q X n) v1 v2 v3 v4 v5 v6 v7 v8 (v9 + (-1 : Int32)) M))
def w_Works_shrink (this : Nat) (a1 : Int32) (a2 : Int32) (Q : Int32 → Mem → Prop) (X : Mem → Prop) (M : Mem) : Prop :=
  w_Works_isTrial this a1 (fun r2 M1 => if r2 = 0 then (Q (-1 : Int32) M1) else (w_Works_isIn a2 (0 : Int32) (255 : Int32) (fun r5 M4 => if r5 = 0 then (Q (-1 : Int32) M4) else (w_Works_work2 this a1 (0 : Int32) (fun M7 => w_Works_work2 this a1 a2 (fun M8 => vp_in a1 (mL M8 701 0) ∧ ∃ i10, (mR M8 701 0 a1.toNatClampNeg) = some (400, i10) ∧ vp_in a1 (mL M8 98 this) ∧ ∃ n49 : Nat, w_Works_shrink_L78 this Q X n49 a1 a2 (mI M7 10 this 16) (mI M7 10 this 17) (mI M8 10 this 16) (mI M8 10 this 17) i10 (mI M8 98 this a1.toNatClampNeg) ((mI M8 98 this a1.toNatClampNeg) - (1 : Int32)) M8) X M7) X M4)) M1)) M
set_option maxRecDepth 4096 in
theorem lk_Works_shrink_j283 {γ : Gm} (hγ : Gk γ) (this : Nat) (Q : Int32 → Mem → Prop) (X : Mem → Prop) (k104 : Int32 → Int32 → Int32 → Int32 → Int32 → Int32 → Nat → Int32 → Int32 → Int32 → Mem → Prop) (hk104 : ∀ (v1 : Int32) (v2 : Int32) (v3 : Int32) (v4 : Int32) (v5 : Int32) (v6 : Int32) (v7 : Nat) (v8 : Int32) (v9 : Int32) (v10 : Int32) (M : Mem), k104 v1 v2 v3 v4 v5 v6 v7 v8 v9 v10 M → E γ k_Works_shrink 140 104 [some (vr (some (10, this))), some (vi v1), some (vi v2), some (vi v3), some (vi v4), some (vi v5), some (vi v6), some (vr (some (400, v7))), some (vi v8), some (vi v9), some (vi v10), none, none, none] [] M (Qx (9, 0) (Qi Q) X)) (v1 : Int32) (v2 : Int32) (v3 : Int32) (v4 : Int32) (v5 : Int32) (v6 : Int32) (v7 : Nat) (v8 : Int32) (v10 : Int32) (v11 : Int32) (M : Mem) (h : w_Works_shrink_j283 this Q X k104 v1 v2 v3 v4 v5 v6 v7 v8 v10 v11 M) : E γ k_Works_shrink 140 283 [some (vr (some (10, this))), some (vi v1), some (vi v2), some (vi v3), some (vi v4), some (vi v5), some (vi v6), some (vr (some (400, v7))), some (vi v8), none, some (vi v10), some (vi v11), none, none] [] M (Qx (9, 0) (Qi Q) X) := by
  unfold w_Works_shrink_j283 at h
  refine E_blk (lv' := [some (vr (some (10, this))), some (vi v1), some (vi v2), some (vi v3), some (vi v4), some (vi v5), some (vi v6), some (vr (some (400, v7))), some (vi v8), some (vi v11), some (vi v10), some (vi v11), none, none]) (st' := []) (M1 := M) (pc' := 287) (tb_Works hγ) [.iload 11, .istore 9] (by decide +kernel) rfl rfl trivial ?_
  refine E_goto (off := -183) (tgt := 104) (by decide +kernel) (by decide) ?_
  refine E_mask [true, true, true, true, true, true, true, true, true, true, true, false, false, false] rfl ?_
  exact hk104 v1 v2 v3 v4 v5 v6 v7 v8 v11 v10 M h
set_option maxRecDepth 4096 in
theorem lk_Works_shrink_j255 {γ : Gm} (hγ : Gk γ) (this : Nat) (Q : Int32 → Mem → Prop) (X : Mem → Prop) (k104 : Int32 → Int32 → Int32 → Int32 → Int32 → Int32 → Nat → Int32 → Int32 → Int32 → Mem → Prop) (hk104 : ∀ (v1 : Int32) (v2 : Int32) (v3 : Int32) (v4 : Int32) (v5 : Int32) (v6 : Int32) (v7 : Nat) (v8 : Int32) (v9 : Int32) (v10 : Int32) (M : Mem), k104 v1 v2 v3 v4 v5 v6 v7 v8 v9 v10 M → E γ k_Works_shrink 140 104 [some (vr (some (10, this))), some (vi v1), some (vi v2), some (vi v3), some (vi v4), some (vi v5), some (vi v6), some (vr (some (400, v7))), some (vi v8), some (vi v9), some (vi v10), none, none, none] [] M (Qx (9, 0) (Qi Q) X)) (v1 : Int32) (v2 : Int32) (v3 : Int32) (v4 : Int32) (v5 : Int32) (v6 : Int32) (v7 : Nat) (v8 : Int32) (v10 : Int32) (v11 : Int32) (v12 : Int32) (v13 : Int32) (M : Mem) (h : w_Works_shrink_j255 this Q X k104 v1 v2 v3 v4 v5 v6 v7 v8 v10 v11 v12 v13 M) : E γ k_Works_shrink 140 255 [some (vr (some (10, this))), some (vi v1), some (vi v2), some (vi v3), some (vi v4), some (vi v5), some (vi v6), some (vr (some (400, v7))), some (vi v8), none, some (vi v10), some (vi v11), some (vi v12), some (vi v13)] [] M (Qx (9, 0) (Qi Q) X) := by
  unfold w_Works_shrink_j255 at h
  refine E_blk (lv' := [some (vr (some (10, this))), some (vi v1), some (vi v2), some (vi v3), some (vi v4), some (vi v5), some (vi v6), some (vr (some (400, v7))), some (vi v8), none, some (vi v10), some (vi v11), some (vi v12), some (vi v13)]) (st' := [vi v13]) (M1 := M) (pc' := 257) (tb_Works hγ) [.iload 13] (by decide +kernel) rfl rfl trivial ?_
  refine E_if_eq (off := 23) (tgt := 280) (by decide +kernel) (by decide) (fun b33 => ?_) (fun b33 => ?_)
  · rw [if_pos b33] at h
    refine E_blk (lv' := [some (vr (some (10, this))), some (vi v1), some (vi v2), some (vi v3), some (vi v4), some (vi v5), some (vi v6), some (vr (some (400, v7))), some (vi v8), none, some (vi (v10 + (1 : Int32))), some (vi v11), some (vi v12), some (vi v13)]) (st' := []) (M1 := M) (pc' := 283) (tb_Works hγ) [.iinc 10 1] (by decide +kernel) rfl rfl trivial ?_
    refine E_mask [true, true, true, true, true, true, true, true, true, false, true, true, false, false] rfl ?_
    exact lk_Works_shrink_j283 hγ this Q X k104 hk104 v1 v2 v3 v4 v5 v6 v7 v8 (v10 + (1 : Int32)) v11 M h
  · rw [if_neg b33] at h
    refine E_blk (lv' := [some (vr (some (10, this))), some (vi v1), some (vi v2), some (vi v3), some (vi v4), some (vi v5), some (vi v6), some (vr (some (400, v7))), some (vi v8), none, some (vi v10), some (vi v11), some (vi v12), some (vi v13)]) (st' := [vi v12, vi (0 : Int32), vr (some (400, v7)), vi (0 : Int32), vr (some (400, 41))]) (M1 := M) (pc' := 270) (tb_Works hγ) [.aload_n 0, .getfield 82, .iconst 0, .aload 7, .iconst 0, .iload 12] (by decide +kernel) rfl rfl trivial ?_
    obtain ⟨c35, c36, c37, c38, c39, M34, eM34, h⟩ := h
    refine E_copy (pc := 270) (κ := k_Works_shrink) (f := 400) (i := 41) (g := 400) (j := v7) (sp := (0 : Int32)) (dp := (0 : Int32)) (n := v12) (idx := 628) (st := []) c35 c36 c37 c38 c39 (by decide) (by decide) rfl (by decide) (tbk_mem (j := 10) (k := 201) rfl) (by decide +kernel) (Nat.le_of_ble_eq_true rfl) ?_
    rw [← eM34]
    refine E_blk (lv' := [some (vr (some (10, this))), some (vi v1), some (vi v2), some (vi v3), some (vi v4), some (vi v5), some (vi v6), some (vr (some (400, v7))), some (vi v12), none, some (vi v10), some (vi v11), some (vi v12), some (vi v13)]) (st' := []) (M1 := M34) (pc' := 277) (tb_Works hγ) [.iload 12, .istore 8] (by decide +kernel) rfl rfl trivial ?_
    refine E_goto (off := 6) (tgt := 283) (by decide +kernel) (by decide) ?_
    refine E_mask [true, true, true, true, true, true, true, true, true, false, true, true, false, false] rfl ?_
    exact lk_Works_shrink_j283 hγ this Q X k104 hk104 v1 v2 v3 v4 v5 v6 v7 v12 v10 v11 M34 h
set_option maxRecDepth 4096 in
theorem lk_Works_shrink_j253 {γ : Gm} (hγ : Gk γ) (this : Nat) (Q : Int32 → Mem → Prop) (X : Mem → Prop) (k104 : Int32 → Int32 → Int32 → Int32 → Int32 → Int32 → Nat → Int32 → Int32 → Int32 → Mem → Prop) (hk104 : ∀ (v1 : Int32) (v2 : Int32) (v3 : Int32) (v4 : Int32) (v5 : Int32) (v6 : Int32) (v7 : Nat) (v8 : Int32) (v9 : Int32) (v10 : Int32) (M : Mem), k104 v1 v2 v3 v4 v5 v6 v7 v8 v9 v10 M → E γ k_Works_shrink 140 104 [some (vr (some (10, this))), some (vi v1), some (vi v2), some (vi v3), some (vi v4), some (vi v5), some (vi v6), some (vr (some (400, v7))), some (vi v8), some (vi v9), some (vi v10), none, none, none] [] M (Qx (9, 0) (Qi Q) X)) (v1 : Int32) (v2 : Int32) (v3 : Int32) (v4 : Int32) (v5 : Int32) (v6 : Int32) (v7 : Nat) (v8 : Int32) (v10 : Int32) (v11 : Int32) (v12 : Int32) (s0 : Int32) (M : Mem) (h : w_Works_shrink_j253 this Q X k104 v1 v2 v3 v4 v5 v6 v7 v8 v10 v11 v12 s0 M) : E γ k_Works_shrink 140 253 [some (vr (some (10, this))), some (vi v1), some (vi v2), some (vi v3), some (vi v4), some (vi v5), some (vi v6), some (vr (some (400, v7))), some (vi v8), none, some (vi v10), some (vi v11), some (vi v12), none] [vi s0] M (Qx (9, 0) (Qi Q) X) := by
  unfold w_Works_shrink_j253 at h
  refine E_blk (lv' := [some (vr (some (10, this))), some (vi v1), some (vi v2), some (vi v3), some (vi v4), some (vi v5), some (vi v6), some (vr (some (400, v7))), some (vi v8), none, some (vi v10), some (vi v11), some (vi v12), some (vi s0)]) (st' := []) (M1 := M) (pc' := 255) (tb_Works hγ) [.istore 13] (by decide +kernel) rfl rfl trivial ?_
  refine E_mask [true, true, true, true, true, true, true, true, true, false, true, true, true, true] rfl ?_
  exact lk_Works_shrink_j255 hγ this Q X k104 hk104 v1 v2 v3 v4 v5 v6 v7 v8 v10 v11 v12 s0 M h
set_option maxRecDepth 4096 in
theorem lk_Works_shrink_j252 {γ : Gm} (hγ : Gk γ) (this : Nat) (Q : Int32 → Mem → Prop) (X : Mem → Prop) (k104 : Int32 → Int32 → Int32 → Int32 → Int32 → Int32 → Nat → Int32 → Int32 → Int32 → Mem → Prop) (hk104 : ∀ (v1 : Int32) (v2 : Int32) (v3 : Int32) (v4 : Int32) (v5 : Int32) (v6 : Int32) (v7 : Nat) (v8 : Int32) (v9 : Int32) (v10 : Int32) (M : Mem), k104 v1 v2 v3 v4 v5 v6 v7 v8 v9 v10 M → E γ k_Works_shrink 140 104 [some (vr (some (10, this))), some (vi v1), some (vi v2), some (vi v3), some (vi v4), some (vi v5), some (vi v6), some (vr (some (400, v7))), some (vi v8), some (vi v9), some (vi v10), none, none, none] [] M (Qx (9, 0) (Qi Q) X)) (v1 : Int32) (v2 : Int32) (v3 : Int32) (v4 : Int32) (v5 : Int32) (v6 : Int32) (v7 : Nat) (v8 : Int32) (v10 : Int32) (v11 : Int32) (v12 : Int32) (M : Mem) (h : w_Works_shrink_j252 this Q X k104 v1 v2 v3 v4 v5 v6 v7 v8 v10 v11 v12 M) : E γ k_Works_shrink 140 252 [some (vr (some (10, this))), some (vi v1), some (vi v2), some (vi v3), some (vi v4), some (vi v5), some (vi v6), some (vr (some (400, v7))), some (vi v8), none, some (vi v10), some (vi v11), some (vi v12), none] [] M (Qx (9, 0) (Qi Q) X) := by
  unfold w_Works_shrink_j252 at h
  refine E_blk (lv' := [some (vr (some (10, this))), some (vi v1), some (vi v2), some (vi v3), some (vi v4), some (vi v5), some (vi v6), some (vr (some (400, v7))), some (vi v8), none, some (vi v10), some (vi v11), some (vi v12), none]) (st' := [vi (0 : Int32)]) (M1 := M) (pc' := 253) (tb_Works hγ) [.iconst 0] (by decide +kernel) rfl rfl trivial ?_
  refine E_mask [true, true, true, true, true, true, true, true, true, false, true, true, true, false] rfl ?_
  exact lk_Works_shrink_j253 hγ this Q X k104 hk104 v1 v2 v3 v4 v5 v6 v7 v8 v10 v11 v12 (0 : Int32) M h
set_option maxRecDepth 4096 in
theorem lk_Works_shrink_j212 {γ : Gm} (hγ : Gk γ) (this : Nat) (Q : Int32 → Mem → Prop) (X : Mem → Prop) (k104 : Int32 → Int32 → Int32 → Int32 → Int32 → Int32 → Nat → Int32 → Int32 → Int32 → Mem → Prop) (hk104 : ∀ (v1 : Int32) (v2 : Int32) (v3 : Int32) (v4 : Int32) (v5 : Int32) (v6 : Int32) (v7 : Nat) (v8 : Int32) (v9 : Int32) (v10 : Int32) (M : Mem), k104 v1 v2 v3 v4 v5 v6 v7 v8 v9 v10 M → E γ k_Works_shrink 140 104 [some (vr (some (10, this))), some (vi v1), some (vi v2), some (vi v3), some (vi v4), some (vi v5), some (vi v6), some (vr (some (400, v7))), some (vi v8), some (vi v9), some (vi v10), none, none, none] [] M (Qx (9, 0) (Qi Q) X)) (v1 : Int32) (v2 : Int32) (v3 : Int32) (v4 : Int32) (v5 : Int32) (v6 : Int32) (v7 : Nat) (v8 : Int32) (v10 : Int32) (v11 : Int32) (v12 : Int32) (s0 : Int32) (M : Mem) (h : w_Works_shrink_j212 this Q X k104 v1 v2 v3 v4 v5 v6 v7 v8 v10 v11 v12 s0 M) : E γ k_Works_shrink 140 212 [some (vr (some (10, this))), some (vi v1), some (vi v2), some (vi v3), some (vi v4), some (vi v5), some (vi v6), some (vr (some (400, v7))), some (vi v8), none, some (vi v10), some (vi v11), some (vi v12), none] [vi s0] M (Qx (9, 0) (Qi Q) X) := by
  unfold w_Works_shrink_j212 at h
  refine E_blk (lv' := [some (vr (some (10, this))), some (vi v1), some (vi v2), some (vi v3), some (vi v4), some (vi v5), some (vi v6), some (vr (some (400, v7))), some (vi v8), none, some (vi v10), some (vi v11), some (vi v12), some (vi s0)]) (st' := [vi s0]) (M1 := M) (pc' := 216) (tb_Works hγ) [.istore 13, .iload 13] (by decide +kernel) rfl rfl trivial ?_
  refine E_if_eq (off := 39) (tgt := 255) (by decide +kernel) (by decide) (fun b32 => ?_) (fun b32 => ?_)
  · rw [if_pos b32] at h
    refine E_mask [true, true, true, true, true, true, true, true, true, false, true, true, true, true] rfl ?_
    exact lk_Works_shrink_j255 hγ this Q X k104 hk104 v1 v2 v3 v4 v5 v6 v7 v8 v10 v11 v12 s0 M h
  · rw [if_neg b32] at h
    refine E_blk (lv' := [some (vr (some (10, this))), some (vi v1), some (vi v2), some (vi v3), some (vi v4), some (vi v5), some (vi v6), some (vr (some (400, v7))), some (vi v8), none, some (vi v10), some (vi v11), some (vi v12), some (vi s0)]) (st' := [vi v2, vi v12, vr (some (400, 41)), vr (some (10, this))]) (M1 := M) (pc' := 227) (tb_Works hγ) [.aload_n 0, .aload_n 0, .getfield 82, .iload 12, .iload_n 2] (by decide +kernel) rfl rfl trivial ?_
    refine E_callX (κ' := k_Works_work1) (As := [vr (some (400, 41)), vi v12, vi v2]) (st := []) mv_Works_work1 (Or.inl (tbk_mem (j := 10) (k := 182) rfl)) rfl (by decide +kernel) (Nat.le_of_ble_eq_true rfl) (Nat.le_of_ble_eq_true rfl) rfl (by decide) rfl (lk_Works_work1 hγ this 41 v12 v2 _ _ M h) (fun _ _ => Qv_r) (fun _ h => h) (fun v M40 hp => Qv_k (R := fun st => E γ k_Works_shrink 140 230 [some (vr (some (10, this))), some (vi v1), some (vi v2), some (vi v3), some (vi v4), some (vi v5), some (vi v6), some (vr (some (400, v7))), some (vi v8), none, some (vi v10), some (vi v11), some (vi v12), some (vi s0)] st M40 (Qx (9, 0) (Qi Q) X)) hp (fun h => ?_))
    refine E_blk (lv' := [some (vr (some (10, this))), some (vi v1), some (vi v2), some (vi v3), some (vi v4), some (vi v5), some (vi v6), some (vr (some (400, v7))), some (vi v8), none, some (vi v10), some (vi v11), some (vi v12), some (vi s0)]) (st' := [vi v5, vi (mI M40 10 this 16)]) (M1 := M40) (pc' := 236) (tb_Works hγ) [.aload_n 0, .getfield 155, .iload 5] (by decide +kernel) rfl rfl trivial ?_
    refine E_icmp_ne (off := 16) (tgt := 252) (by decide +kernel) (by decide) (fun b41 => ?_) (fun b41 => ?_)
    · rw [if_pos b41] at h
      refine E_blk (lv' := [some (vr (some (10, this))), some (vi v1), some (vi v2), some (vi v3), some (vi v4), some (vi v5), some (vi v6), some (vr (some (400, v7))), some (vi v8), none, some (vi v10), some (vi v11), some (vi v12), some (vi s0)]) (st' := [vi v6, vi (mI M40 10 this 17)]) (M1 := M40) (pc' := 245) (tb_Works hγ) [.aload_n 0, .getfield 158, .iload 6] (by decide +kernel) rfl rfl trivial ?_
      refine E_icmp_ne (off := 7) (tgt := 252) (by decide +kernel) (by decide) (fun b42 => ?_) (fun b42 => ?_)
      · rw [if_pos b42] at h
        refine E_blk (lv' := [some (vr (some (10, this))), some (vi v1), some (vi v2), some (vi v3), some (vi v4), some (vi v5), some (vi v6), some (vr (some (400, v7))), some (vi v8), none, some (vi v10), some (vi v11), some (vi v12), some (vi s0)]) (st' := [vi (1 : Int32)]) (M1 := M40) (pc' := 249) (tb_Works hγ) [.iconst 1] (by decide +kernel) rfl rfl trivial ?_
        refine E_goto (off := 4) (tgt := 253) (by decide +kernel) (by decide) ?_
        refine E_mask [true, true, true, true, true, true, true, true, true, false, true, true, true, false] rfl ?_
        exact lk_Works_shrink_j253 hγ this Q X k104 hk104 v1 v2 v3 v4 v5 v6 v7 v8 v10 v11 v12 (1 : Int32) M40 h
      · rw [if_neg b42] at h
        refine E_mask [true, true, true, true, true, true, true, true, true, false, true, true, true, false] rfl ?_
        exact lk_Works_shrink_j252 hγ this Q X k104 hk104 v1 v2 v3 v4 v5 v6 v7 v8 v10 v11 v12 M40 h
    · rw [if_neg b41] at h
      refine E_mask [true, true, true, true, true, true, true, true, true, false, true, true, true, false] rfl ?_
      exact lk_Works_shrink_j252 hγ this Q X k104 hk104 v1 v2 v3 v4 v5 v6 v7 v8 v10 v11 v12 M40 h
set_option maxRecDepth 4096 in
theorem lk_Works_shrink_j211 {γ : Gm} (hγ : Gk γ) (this : Nat) (Q : Int32 → Mem → Prop) (X : Mem → Prop) (k104 : Int32 → Int32 → Int32 → Int32 → Int32 → Int32 → Nat → Int32 → Int32 → Int32 → Mem → Prop) (hk104 : ∀ (v1 : Int32) (v2 : Int32) (v3 : Int32) (v4 : Int32) (v5 : Int32) (v6 : Int32) (v7 : Nat) (v8 : Int32) (v9 : Int32) (v10 : Int32) (M : Mem), k104 v1 v2 v3 v4 v5 v6 v7 v8 v9 v10 M → E γ k_Works_shrink 140 104 [some (vr (some (10, this))), some (vi v1), some (vi v2), some (vi v3), some (vi v4), some (vi v5), some (vi v6), some (vr (some (400, v7))), some (vi v8), some (vi v9), some (vi v10), none, none, none] [] M (Qx (9, 0) (Qi Q) X)) (v1 : Int32) (v2 : Int32) (v3 : Int32) (v4 : Int32) (v5 : Int32) (v6 : Int32) (v7 : Nat) (v8 : Int32) (v10 : Int32) (v11 : Int32) (v12 : Int32) (M : Mem) (h : w_Works_shrink_j211 this Q X k104 v1 v2 v3 v4 v5 v6 v7 v8 v10 v11 v12 M) : E γ k_Works_shrink 140 211 [some (vr (some (10, this))), some (vi v1), some (vi v2), some (vi v3), some (vi v4), some (vi v5), some (vi v6), some (vr (some (400, v7))), some (vi v8), none, some (vi v10), some (vi v11), some (vi v12), none] [] M (Qx (9, 0) (Qi Q) X) := by
  unfold w_Works_shrink_j211 at h
  refine E_blk (lv' := [some (vr (some (10, this))), some (vi v1), some (vi v2), some (vi v3), some (vi v4), some (vi v5), some (vi v6), some (vr (some (400, v7))), some (vi v8), none, some (vi v10), some (vi v11), some (vi v12), none]) (st' := [vi (0 : Int32)]) (M1 := M) (pc' := 212) (tb_Works hγ) [.iconst 0] (by decide +kernel) rfl rfl trivial ?_
  refine E_mask [true, true, true, true, true, true, true, true, true, false, true, true, true, false] rfl ?_
  exact lk_Works_shrink_j212 hγ this Q X k104 hk104 v1 v2 v3 v4 v5 v6 v7 v8 v10 v11 v12 (0 : Int32) M h
set_option maxRecDepth 4096 in
theorem lk_Works_shrink_j138 {γ : Gm} (hγ : Gk γ) (this : Nat) (Q : Int32 → Mem → Prop) (X : Mem → Prop) (k104 : Int32 → Int32 → Int32 → Int32 → Int32 → Int32 → Nat → Int32 → Int32 → Int32 → Mem → Prop) (hk104 : ∀ (v1 : Int32) (v2 : Int32) (v3 : Int32) (v4 : Int32) (v5 : Int32) (v6 : Int32) (v7 : Nat) (v8 : Int32) (v9 : Int32) (v10 : Int32) (M : Mem), k104 v1 v2 v3 v4 v5 v6 v7 v8 v9 v10 M → E γ k_Works_shrink 140 104 [some (vr (some (10, this))), some (vi v1), some (vi v2), some (vi v3), some (vi v4), some (vi v5), some (vi v6), some (vr (some (400, v7))), some (vi v8), some (vi v9), some (vi v10), none, none, none] [] M (Qx (9, 0) (Qi Q) X)) (v1 : Int32) (v2 : Int32) (v3 : Int32) (v4 : Int32) (v5 : Int32) (v6 : Int32) (v7 : Nat) (v8 : Int32) (v9 : Int32) (v10 : Int32) (v11 : Int32) (M : Mem) (h : w_Works_shrink_j138 this Q X k104 v1 v2 v3 v4 v5 v6 v7 v8 v9 v10 v11 M) : E γ k_Works_shrink 140 138 [some (vr (some (10, this))), some (vi v1), some (vi v2), some (vi v3), some (vi v4), some (vi v5), some (vi v6), some (vr (some (400, v7))), some (vi v8), some (vi v9), some (vi v10), some (vi v11), none, none] [] M (Qx (9, 0) (Qi Q) X) := by
  unfold w_Works_shrink_j138 at h
  refine E_blk (lv' := [some (vr (some (10, this))), some (vi v1), some (vi v2), some (vi v3), some (vi v4), some (vi v5), some (vi v6), some (vr (some (400, v7))), some (vi v8), some (vi v9), some (vi v10), some (vi v11), some (vi (v8 - (v9 - v11))), none]) (st' := [vi v11, vi (0 : Int32), vr (some (400, 41)), vi (0 : Int32), vr (some (400, v7))]) (M1 := M) (pc' := 158) (tb_Works hγ) [.iload 8, .iload 9, .iload 11, .isub, .isub, .istore 12, .aload 7, .iconst 0, .aload_n 0, .getfield 82, .iconst 0, .iload 11] (by decide +kernel) rfl rfl trivial ?_
  obtain ⟨c18, c19, c20, c21, c22, M17, eM17, h⟩ := h
  refine E_copy (pc := 158) (κ := k_Works_shrink) (f := 400) (i := v7) (g := 400) (j := 41) (sp := (0 : Int32)) (dp := (0 : Int32)) (n := v11) (idx := 628) (st := []) c18 c19 c20 c21 c22 (by decide) (by decide) rfl (by decide) (tbk_mem (j := 10) (k := 201) rfl) (by decide +kernel) (Nat.le_of_ble_eq_true rfl) ?_
  rw [← eM17]
  refine E_blk (lv' := [some (vr (some (10, this))), some (vi v1), some (vi v2), some (vi v3), some (vi v4), some (vi v5), some (vi v6), some (vr (some (400, v7))), some (vi v8), some (vi v9), some (vi v10), some (vi v11), some (vi (v8 - (v9 - v11))), none]) (st' := [vi (v8 - v9), vi v11, vr (some (400, 41)), vi v9, vr (some (400, v7))]) (M1 := M17) (pc' := 176) (tb_Works hγ) [.aload 7, .iload 9, .aload_n 0, .getfield 82, .iload 11, .iload 8, .iload 9, .isub] (by decide +kernel) rfl rfl trivial ?_
  obtain ⟨c24, c25, c26, c27, c28, M23, eM23, h⟩ := h
  refine E_copy (pc := 176) (κ := k_Works_shrink) (f := 400) (i := v7) (g := 400) (j := 41) (sp := v9) (dp := v11) (n := (v8 - v9)) (idx := 628) (st := []) c24 c25 c26 c27 c28 (by decide) (by decide) rfl (by decide) (tbk_mem (j := 10) (k := 201) rfl) (by decide +kernel) (Nat.le_of_ble_eq_true rfl) ?_
  rw [← eM23]
  refine E_blk (lv' := [some (vr (some (10, this))), some (vi v1), some (vi v2), some (vi v3), some (vi v4), some (vi v5), some (vi v6), some (vr (some (400, v7))), some (vi v8), some (vi v9), some (vi v10), some (vi v11), some (vi (v8 - (v9 - v11))), none]) (st' := [vi (0 : Int32), vi (v8 - (v9 - v11)), vr (some (400, 41)), vr (some (10, this))]) (M1 := M23) (pc' := 187) (tb_Works hγ) [.aload_n 0, .aload_n 0, .getfield 82, .iload 12, .iconst 0] (by decide +kernel) rfl rfl trivial ?_
  refine E_callX (κ' := k_Works_work1) (As := [vr (some (400, 41)), vi (v8 - (v9 - v11)), vi (0 : Int32)]) (st := []) mv_Works_work1 (Or.inl (tbk_mem (j := 10) (k := 182) rfl)) rfl (by decide +kernel) (Nat.le_of_ble_eq_true rfl) (Nat.le_of_ble_eq_true rfl) rfl (by decide) rfl (lk_Works_work1 hγ this 41 (v8 - (v9 - v11)) (0 : Int32) _ _ M23 h) (fun _ _ => Qv_r) (fun _ h => h) (fun v M29 hp => Qv_k (R := fun st => E γ k_Works_shrink 140 190 [some (vr (some (10, this))), some (vi v1), some (vi v2), some (vi v3), some (vi v4), some (vi v5), some (vi v6), some (vr (some (400, v7))), some (vi v8), some (vi v9), some (vi v10), some (vi v11), some (vi (v8 - (v9 - v11))), none] st M29 (Qx (9, 0) (Qi Q) X)) hp (fun h => ?_))
  refine E_blk (lv' := [some (vr (some (10, this))), some (vi v1), some (vi v2), some (vi v3), some (vi v4), some (vi v5), some (vi v6), some (vr (some (400, v7))), some (vi v8), some (vi v9), some (vi v10), some (vi v11), some (vi (v8 - (v9 - v11))), none]) (st' := [vi v3, vi (mI M29 10 this 16)]) (M1 := M29) (pc' := 195) (tb_Works hγ) [.aload_n 0, .getfield 155, .iload_n 3] (by decide +kernel) rfl rfl trivial ?_
  refine E_icmp_ne (off := 16) (tgt := 211) (by decide +kernel) (by decide) (fun b30 => ?_) (fun b30 => ?_)
  · rw [if_pos b30] at h
    refine E_blk (lv' := [some (vr (some (10, this))), some (vi v1), some (vi v2), some (vi v3), some (vi v4), some (vi v5), some (vi v6), some (vr (some (400, v7))), some (vi v8), some (vi v9), some (vi v10), some (vi v11), some (vi (v8 - (v9 - v11))), none]) (st' := [vi v4, vi (mI M29 10 this 17)]) (M1 := M29) (pc' := 204) (tb_Works hγ) [.aload_n 0, .getfield 158, .iload 4] (by decide +kernel) rfl rfl trivial ?_
    refine E_icmp_ne (off := 7) (tgt := 211) (by decide +kernel) (by decide) (fun b31 => ?_) (fun b31 => ?_)
    · rw [if_pos b31] at h
      refine E_blk (lv' := [some (vr (some (10, this))), some (vi v1), some (vi v2), some (vi v3), some (vi v4), some (vi v5), some (vi v6), some (vr (some (400, v7))), some (vi v8), some (vi v9), some (vi v10), some (vi v11), some (vi (v8 - (v9 - v11))), none]) (st' := [vi (1 : Int32)]) (M1 := M29) (pc' := 208) (tb_Works hγ) [.iconst 1] (by decide +kernel) rfl rfl trivial ?_
      refine E_goto (off := 4) (tgt := 212) (by decide +kernel) (by decide) ?_
      refine E_mask [true, true, true, true, true, true, true, true, true, false, true, true, true, false] rfl ?_
      exact lk_Works_shrink_j212 hγ this Q X k104 hk104 v1 v2 v3 v4 v5 v6 v7 v8 v10 v11 (v8 - (v9 - v11)) (1 : Int32) M29 h
    · rw [if_neg b31] at h
      refine E_mask [true, true, true, true, true, true, true, true, true, false, true, true, true, false] rfl ?_
      exact lk_Works_shrink_j211 hγ this Q X k104 hk104 v1 v2 v3 v4 v5 v6 v7 v8 v10 v11 (v8 - (v9 - v11)) M29 h
  · rw [if_neg b30] at h
    refine E_mask [true, true, true, true, true, true, true, true, true, false, true, true, true, false] rfl ?_
    exact lk_Works_shrink_j211 hγ this Q X k104 hk104 v1 v2 v3 v4 v5 v6 v7 v8 v10 v11 (v8 - (v9 - v11)) M29 h
set_option maxRecDepth 4096 in
theorem lk_Works_shrink_L115 {γ : Gm} (hγ : Gk γ) (this : Nat) (Q : Int32 → Mem → Prop) (X : Mem → Prop) (k104 : Int32 → Int32 → Int32 → Int32 → Int32 → Int32 → Nat → Int32 → Int32 → Int32 → Mem → Prop) (hk104 : ∀ (v1 : Int32) (v2 : Int32) (v3 : Int32) (v4 : Int32) (v5 : Int32) (v6 : Int32) (v7 : Nat) (v8 : Int32) (v9 : Int32) (v10 : Int32) (M : Mem), k104 v1 v2 v3 v4 v5 v6 v7 v8 v9 v10 M → E γ k_Works_shrink 140 104 [some (vr (some (10, this))), some (vi v1), some (vi v2), some (vi v3), some (vi v4), some (vi v5), some (vi v6), some (vr (some (400, v7))), some (vi v8), some (vi v9), some (vi v10), none, none, none] [] M (Qx (9, 0) (Qi Q) X)) : ∀ (n : Nat) (v1 : Int32) (v2 : Int32) (v3 : Int32) (v4 : Int32) (v5 : Int32) (v6 : Int32) (v7 : Nat) (v8 : Int32) (v9 : Int32) (v10 : Int32) (v11 : Int32) (M : Mem), w_Works_shrink_L115 this Q X k104 n v1 v2 v3 v4 v5 v6 v7 v8 v9 v10 v11 M → E γ k_Works_shrink 140 115 [some (vr (some (10, this))), some (vi v1), some (vi v2), some (vi v3), some (vi v4), some (vi v5), some (vi v6), some (vr (some (400, v7))), some (vi v8), some (vi v9), some (vi v10), some (vi v11), none, none] [] M (Qx (9, 0) (Qi Q) X) := by
  intro n
  induction n with
  | zero => intro v1 v2 v3 v4 v5 v6 v7 v8 v9 v10 v11 M h; exact h.elim
  | succ n ih =>
    intro v1 v2 v3 v4 v5 v6 v7 v8 v9 v10 v11 M h
    unfold w_Works_shrink_L115 at h
    refine E_blk (lv' := [some (vr (some (10, this))), some (vi v1), some (vi v2), some (vi v3), some (vi v4), some (vi v5), some (vi v6), some (vr (some (400, v7))), some (vi v8), some (vi v9), some (vi v10), some (vi v11), none, none]) (st' := [vi v11]) (M1 := M) (pc' := 117) (tb_Works hγ) [.iload 11] (by decide +kernel) rfl rfl trivial ?_
    refine E_if_le (off := 21) (tgt := 138) (by decide +kernel) (by decide) (fun b16 => ?_) (fun b16 => ?_)
    · rw [if_pos b16] at h
      refine E_mask [true, true, true, true, true, true, true, true, true, true, true, true, false, false] rfl ?_
      exact lk_Works_shrink_j138 hγ this Q X k104 hk104 v1 v2 v3 v4 v5 v6 v7 v8 v9 v10 v11 M h
    · rw [if_neg b16] at h
      obtain ⟨c43, h⟩ := h
      refine E_blk (lv' := [some (vr (some (10, this))), some (vi v1), some (vi v2), some (vi v3), some (vi v4), some (vi v5), some (vi v6), some (vr (some (400, v7))), some (vi v8), some (vi v9), some (vi v10), some (vi v11), none, none]) (st' := [vi (10 : Int32), vi (mI M 400 v7 (v11 - (1 : Int32)).toNatClampNeg)]) (M1 := M) (pc' := 129) (tb_Works hγ) [.aload 7, .iload 11, .iconst 1, .isub, .baload, .bipush 10] (by decide +kernel) rfl rfl ⟨c43, trivial⟩ ?_
      refine E_icmp_eq (off := 9) (tgt := 138) (by decide +kernel) (by decide) (fun b44 => ?_) (fun b44 => ?_)
      · rw [if_pos b44] at h
        refine E_mask [true, true, true, true, true, true, true, true, true, true, true, true, false, false] rfl ?_
        exact lk_Works_shrink_j138 hγ this Q X k104 hk104 v1 v2 v3 v4 v5 v6 v7 v8 v9 v10 v11 M h
      · rw [if_neg b44] at h
        refine E_blk (lv' := [some (vr (some (10, this))), some (vi v1), some (vi v2), some (vi v3), some (vi v4), some (vi v5), some (vi v6), some (vr (some (400, v7))), some (vi v8), some (vi v9), some (vi v10), some (vi (v11 + (-1 : Int32))), none, none]) (st' := []) (M1 := M) (pc' := 135) (tb_Works hγ) [.iinc 11 (.negSucc 0)] (by decide +kernel) rfl rfl trivial ?_
        refine E_goto (off := -20) (tgt := 115) (by decide +kernel) (by decide) ?_
        refine E_mask [true, true, true, true, true, true, true, true, true, true, true, true, false, false] rfl ?_
        exact ih v1 v2 v3 v4 v5 v6 v7 v8 v9 v10 (v11 + (-1 : Int32)) M h
set_option maxRecDepth 4096 in
theorem lk_Works_shrink_L104 {γ : Gm} (hγ : Gk γ) (this : Nat) (Q : Int32 → Mem → Prop) (X : Mem → Prop) : ∀ (n : Nat) (v1 : Int32) (v2 : Int32) (v3 : Int32) (v4 : Int32) (v5 : Int32) (v6 : Int32) (v7 : Nat) (v8 : Int32) (v9 : Int32) (v10 : Int32) (M : Mem), w_Works_shrink_L104 this Q X n v1 v2 v3 v4 v5 v6 v7 v8 v9 v10 M → E γ k_Works_shrink 140 104 [some (vr (some (10, this))), some (vi v1), some (vi v2), some (vi v3), some (vi v4), some (vi v5), some (vi v6), some (vr (some (400, v7))), some (vi v8), some (vi v9), some (vi v10), none, none, none] [] M (Qx (9, 0) (Qi Q) X) := by
  intro n
  induction n with
  | zero => intro v1 v2 v3 v4 v5 v6 v7 v8 v9 v10 M h; exact h.elim
  | succ n ih =>
    intro v1 v2 v3 v4 v5 v6 v7 v8 v9 v10 M h
    unfold w_Works_shrink_L104 at h
    refine E_blk (lv' := [some (vr (some (10, this))), some (vi v1), some (vi v2), some (vi v3), some (vi v4), some (vi v5), some (vi v6), some (vr (some (400, v7))), some (vi v8), some (vi v9), some (vi v10), none, none, none]) (st' := [vi v9]) (M1 := M) (pc' := 106) (tb_Works hγ) [.iload 9] (by decide +kernel) rfl rfl trivial ?_
    refine E_if_le (off := 184) (tgt := 290) (by decide +kernel) (by decide) (fun b13 => ?_) (fun b13 => ?_)
    · rw [if_pos b13] at h
      obtain ⟨c14, h⟩ := h
      refine E_blk (lv' := [some (vr (some (10, this))), some (vi v1), some (vi v2), some (vi v3), some (vi v4), some (vi v5), some (vi v6), some (vr (some (400, v7))), some (vi v8), some (vi v9), some (vi v10), none, none, none]) (st' := [vi v1, vr (some (10, this))]) (M1 := (sI M 98 this v1.toNatClampNeg v8)) (pc' := 300) (tb_Works hγ) [.aload_n 0, .getfield 70, .iload_n 1, .iload 8, .iastore, .aload_n 0, .iload_n 1] (by decide +kernel) rfl rfl ⟨c14, trivial⟩ ?_
      refine E_callV (κ' := k_Works_forget) (As := [vi v1]) (st := []) mv_Works_forget (Or.inl (tbk_mem (j := 10) (k := 226) rfl)) rfl (by decide +kernel) (Nat.le_of_ble_eq_true rfl) (Nat.le_of_ble_eq_true rfl) rfl (by decide) (lk_Works_forget hγ this v1 _ (sI M 98 this v1.toNatClampNeg v8) h) (fun _ _ => Qv_r) (fun v M15 hp => Qv_k (R := fun st => E γ k_Works_shrink 140 303 [some (vr (some (10, this))), some (vi v1), some (vi v2), some (vi v3), some (vi v4), some (vi v5), some (vi v6), some (vr (some (400, v7))), some (vi v8), some (vi v9), some (vi v10), none, none, none] st M15 (Qx (9, 0) (Qi Q) X)) hp (fun h => ?_))
      refine E_blk (lv' := [some (vr (some (10, this))), some (vi v1), some (vi v2), some (vi v3), some (vi v4), some (vi v5), some (vi v6), some (vr (some (400, v7))), some (vi v8), some (vi v9), some (vi v10), none, none, none]) (st' := [vi v10]) (M1 := M15) (pc' := 305) (tb_Works hγ) [.iload 10] (by decide +kernel) rfl rfl trivial ?_
      exact (E_iret rfl (by decide +kernel) h).nx
    · rw [if_neg b13] at h
      refine E_blk (lv' := [some (vr (some (10, this))), some (vi v1), some (vi v2), some (vi v3), some (vi v4), some (vi v5), some (vi v6), some (vr (some (400, v7))), some (vi v8), some (vi v9), some (vi v10), some (vi (v9 - (1 : Int32))), none, none]) (st' := []) (M1 := M) (pc' := 115) (tb_Works hγ) [.iload 9, .iconst 1, .isub, .istore 11] (by decide +kernel) rfl rfl trivial ?_
      obtain ⟨n45, h⟩ := h
      refine E_mask [true, true, true, true, true, true, true, true, true, true, true, true, false, false] rfl ?_
      exact lk_Works_shrink_L115 hγ this Q X (w_Works_shrink_L104 this Q X n) ih n45 v1 v2 v3 v4 v5 v6 v7 v8 v9 v10 (v9 - (1 : Int32)) M h
set_option maxRecDepth 4096 in
theorem lk_Works_shrink_j101 {γ : Gm} (hγ : Gk γ) (this : Nat) (Q : Int32 → Mem → Prop) (X : Mem → Prop) (v1 : Int32) (v2 : Int32) (v3 : Int32) (v4 : Int32) (v5 : Int32) (v6 : Int32) (v7 : Nat) (v8 : Int32) (v9 : Int32) (M : Mem) (h : w_Works_shrink_j101 this Q X v1 v2 v3 v4 v5 v6 v7 v8 v9 M) : E γ k_Works_shrink 140 101 [some (vr (some (10, this))), some (vi v1), some (vi v2), some (vi v3), some (vi v4), some (vi v5), some (vi v6), some (vr (some (400, v7))), some (vi v8), some (vi v9), none, none, none, none] [] M (Qx (9, 0) (Qi Q) X) := by
  unfold w_Works_shrink_j101 at h
  refine E_blk (lv' := [some (vr (some (10, this))), some (vi v1), some (vi v2), some (vi v3), some (vi v4), some (vi v5), some (vi v6), some (vr (some (400, v7))), some (vi v8), some (vi v9), some (vi (1 : Int32)), none, none, none]) (st' := []) (M1 := M) (pc' := 104) (tb_Works hγ) [.iconst 1, .istore 10] (by decide +kernel) rfl rfl trivial ?_
  obtain ⟨n46, h⟩ := h
  refine E_mask [true, true, true, true, true, true, true, true, true, true, true, false, false, false] rfl ?_
  exact lk_Works_shrink_L104 hγ this Q X n46 v1 v2 v3 v4 v5 v6 v7 v8 v9 (1 : Int32) M h
set_option maxRecDepth 4096 in
theorem lk_Works_shrink_L78 {γ : Gm} (hγ : Gk γ) (this : Nat) (Q : Int32 → Mem → Prop) (X : Mem → Prop) : ∀ (n : Nat) (v1 : Int32) (v2 : Int32) (v3 : Int32) (v4 : Int32) (v5 : Int32) (v6 : Int32) (v7 : Nat) (v8 : Int32) (v9 : Int32) (M : Mem), w_Works_shrink_L78 this Q X n v1 v2 v3 v4 v5 v6 v7 v8 v9 M → E γ k_Works_shrink 140 78 [some (vr (some (10, this))), some (vi v1), some (vi v2), some (vi v3), some (vi v4), some (vi v5), some (vi v6), some (vr (some (400, v7))), some (vi v8), some (vi v9), none, none, none, none] [] M (Qx (9, 0) (Qi Q) X) := by
  intro n
  induction n with
  | zero => intro v1 v2 v3 v4 v5 v6 v7 v8 v9 M h; exact h.elim
  | succ n ih =>
    intro v1 v2 v3 v4 v5 v6 v7 v8 v9 M h
    unfold w_Works_shrink_L78 at h
    refine E_blk (lv' := [some (vr (some (10, this))), some (vi v1), some (vi v2), some (vi v3), some (vi v4), some (vi v5), some (vi v6), some (vr (some (400, v7))), some (vi v8), some (vi v9), none, none, none, none]) (st' := [vi v9]) (M1 := M) (pc' := 80) (tb_Works hγ) [.iload 9] (by decide +kernel) rfl rfl trivial ?_
    refine E_if_le (off := 21) (tgt := 101) (by decide +kernel) (by decide) (fun b12 => ?_) (fun b12 => ?_)
    · rw [if_pos b12] at h
      refine E_mask [true, true, true, true, true, true, true, true, true, true, false, false, false, false] rfl ?_
      exact lk_Works_shrink_j101 hγ this Q X v1 v2 v3 v4 v5 v6 v7 v8 v9 M h
    · rw [if_neg b12] at h
      obtain ⟨c47, h⟩ := h
      refine E_blk (lv' := [some (vr (some (10, this))), some (vi v1), some (vi v2), some (vi v3), some (vi v4), some (vi v5), some (vi v6), some (vr (some (400, v7))), some (vi v8), some (vi v9), none, none, none, none]) (st' := [vi (10 : Int32), vi (mI M 400 v7 (v9 - (1 : Int32)).toNatClampNeg)]) (M1 := M) (pc' := 92) (tb_Works hγ) [.aload 7, .iload 9, .iconst 1, .isub, .baload, .bipush 10] (by decide +kernel) rfl rfl ⟨c47, trivial⟩ ?_
      refine E_icmp_eq (off := 9) (tgt := 101) (by decide +kernel) (by decide) (fun b48 => ?_) (fun b48 => ?_)
      · rw [if_pos b48] at h
        refine E_mask [true, true, true, true, true, true, true, true, true, true, false, false, false, false] rfl ?_
        exact lk_Works_shrink_j101 hγ this Q X v1 v2 v3 v4 v5 v6 v7 v8 v9 M h
      · rw [if_neg b48] at h
        refine E_blk (lv' := [some (vr (some (10, this))), some (vi v1), some (vi v2), some (vi v3), some (vi v4), some (vi v5), some (vi v6), some (vr (some (400, v7))), some (vi v8), some (vi (v9 + (-1 : Int32))), none, none, none, none]) (st' := []) (M1 := M) (pc' := 98) (tb_Works hγ) [.iinc 9 (.negSucc 0)] (by decide +kernel) rfl rfl trivial ?_
        refine E_goto (off := -20) (tgt := 78) (by decide +kernel) (by decide) ?_
        refine E_mask [true, true, true, true, true, true, true, true, true, true, false, false, false, false] rfl ?_
        exact ih v1 v2 v3 v4 v5 v6 v7 v8 (v9 + (-1 : Int32)) M h
set_option maxRecDepth 4096 in
theorem lk_Works_shrink {γ : Gm} (hγ : Gk γ) (this : Nat) (a1 : Int32) (a2 : Int32) (Q : Int32 → Mem → Prop) (X : Mem → Prop) (M : Mem) (h : w_Works_shrink this a1 a2 Q X M) : E γ k_Works_shrink 140 0 [some (vr (some (10, this))), some (vi a1), some (vi a2), none, none, none, none, none, none, none, none, none, none, none] [] M (Qx (9, 0) (Qi Q) X) := by
  unfold w_Works_shrink at h
  refine E_blk (lv' := [some (vr (some (10, this))), some (vi a1), some (vi a2), none, none, none, none, none, none, none, none, none, none, none]) (st' := [vi a1, vr (some (10, this))]) (M1 := M) (pc' := 2) (tb_Works hγ) [.aload_n 0, .iload_n 1] (by decide +kernel) rfl rfl trivial ?_
  refine E_callV (κ' := k_Works_isTrial) (As := [vi a1]) (st := []) mv_Works_isTrial (Or.inl (tbk_mem (j := 10) (k := 206) rfl)) rfl (by decide +kernel) (Nat.le_of_ble_eq_true rfl) (Nat.le_of_ble_eq_true rfl) rfl (by decide) (lk_Works_isTrial hγ this a1 _ M h) (fun _ _ => Qi_r) (fun v M1 hp => Qi_k (R := fun st => E γ k_Works_shrink 140 5 [some (vr (some (10, this))), some (vi a1), some (vi a2), none, none, none, none, none, none, none, none, none, none, none] st M1 (Qx (9, 0) (Qi Q) X)) hp (fun r2 h => ?_))
  refine E_if_eq (off := 14) (tgt := 19) (by decide +kernel) (by decide) (fun b3 => ?_) (fun b3 => ?_)
  · rw [if_pos b3] at h
    refine E_blk (lv' := [some (vr (some (10, this))), some (vi a1), some (vi a2), none, none, none, none, none, none, none, none, none, none, none]) (st' := [vi (-1 : Int32)]) (M1 := M1) (pc' := 20) (tb_Works hγ) [.iconst (.negSucc 0)] (by decide +kernel) rfl rfl trivial ?_
    exact (E_iret rfl (by decide +kernel) h).nx
  · rw [if_neg b3] at h
    refine E_blk (lv' := [some (vr (some (10, this))), some (vi a1), some (vi a2), none, none, none, none, none, none, none, none, none, none, none]) (st' := [vi (255 : Int32), vi (0 : Int32), vi a2]) (M1 := M1) (pc' := 13) (tb_Works hγ) [.iload_n 2, .iconst 0, .sipush 255] (by decide +kernel) rfl rfl trivial ?_
    refine E_callS (κ' := k_Works_isIn) (As := [vi a2, vi (0 : Int32), vi (255 : Int32)]) (st := []) ms_Works_isIn (Or.inl (tbk_mem (j := 5) (k := 237) rfl)) rfl (by decide +kernel) (Nat.le_of_ble_eq_true rfl) (Nat.le_of_ble_eq_true rfl) rfl (by decide) (lk_Works_isIn hγ a2 (0 : Int32) (255 : Int32) _ M1 h) (fun _ _ => Qi_r) (fun v M4 hp => Qi_k (R := fun st => E γ k_Works_shrink 140 16 [some (vr (some (10, this))), some (vi a1), some (vi a2), none, none, none, none, none, none, none, none, none, none, none] st M4 (Qx (9, 0) (Qi Q) X)) hp (fun r5 h => ?_))
    refine E_if_ne (off := 5) (tgt := 21) (by decide +kernel) (by decide) (fun b6 => ?_) (fun b6 => ?_)
    · rw [if_pos b6] at h
      refine E_blk (lv' := [some (vr (some (10, this))), some (vi a1), some (vi a2), none, none, none, none, none, none, none, none, none, none, none]) (st' := [vi (-1 : Int32)]) (M1 := M4) (pc' := 20) (tb_Works hγ) [.iconst (.negSucc 0)] (by decide +kernel) rfl rfl trivial ?_
      exact (E_iret rfl (by decide +kernel) h).nx
    · rw [if_neg b6] at h
      refine E_blk (lv' := [some (vr (some (10, this))), some (vi a1), some (vi a2), none, none, none, none, none, none, none, none, none, none, none]) (st' := [vi (0 : Int32), vi a1, vr (some (10, this))]) (M1 := M4) (pc' := 24) (tb_Works hγ) [.aload_n 0, .iload_n 1, .iconst 0] (by decide +kernel) rfl rfl trivial ?_
      refine E_callX (κ' := k_Works_work2) (As := [vi a1, vi (0 : Int32)]) (st := []) mv_Works_work2 (Or.inl (tbk_mem (j := 10) (k := 168) rfl)) rfl (by decide +kernel) (Nat.le_of_ble_eq_true rfl) (Nat.le_of_ble_eq_true rfl) rfl (by decide) rfl (lk_Works_work2 hγ this a1 (0 : Int32) _ _ M4 h) (fun _ _ => Qv_r) (fun _ h => h) (fun v M7 hp => Qv_k (R := fun st => E γ k_Works_shrink 140 27 [some (vr (some (10, this))), some (vi a1), some (vi a2), none, none, none, none, none, none, none, none, none, none, none] st M7 (Qx (9, 0) (Qi Q) X)) hp (fun h => ?_))
      refine E_blk (lv' := [some (vr (some (10, this))), some (vi a1), some (vi a2), some (vi (mI M7 10 this 16)), some (vi (mI M7 10 this 17)), none, none, none, none, none, none, none, none, none]) (st' := [vi a2, vi a1, vr (some (10, this))]) (M1 := M7) (pc' := 41) (tb_Works hγ) [.aload_n 0, .getfield 155, .istore_n 3, .aload_n 0, .getfield 158, .istore 4, .aload_n 0, .iload_n 1, .iload_n 2] (by decide +kernel) rfl rfl trivial ?_
      refine E_callX (κ' := k_Works_work2) (As := [vi a1, vi a2]) (st := []) mv_Works_work2 (Or.inl (tbk_mem (j := 10) (k := 168) rfl)) rfl (by decide +kernel) (Nat.le_of_ble_eq_true rfl) (Nat.le_of_ble_eq_true rfl) rfl (by decide) rfl (lk_Works_work2 hγ this a1 a2 _ _ M7 h) (fun _ _ => Qv_r) (fun _ h => h) (fun v M8 hp => Qv_k (R := fun st => E γ k_Works_shrink 140 44 [some (vr (some (10, this))), some (vi a1), some (vi a2), some (vi (mI M7 10 this 16)), some (vi (mI M7 10 this 17)), none, none, none, none, none, none, none, none, none] st M8 (Qx (9, 0) (Qi Q) X)) hp (fun h => ?_))
      obtain ⟨c9, h⟩ := h
      refine E_blk (lv' := [some (vr (some (10, this))), some (vi a1), some (vi a2), some (vi (mI M7 10 this 16)), some (vi (mI M7 10 this 17)), some (vi (mI M8 10 this 16)), some (vi (mI M8 10 this 17)), none, none, none, none, none, none, none]) (st' := [vr (mR M8 701 0 a1.toNatClampNeg)]) (M1 := M8) (pc' := 62) (tb_Works hγ) [.aload_n 0, .getfield 155, .istore 5, .aload_n 0, .getfield 158, .istore 6, .aload_n 0, .getfield 67, .iload_n 1, .aaload] (by decide +kernel) rfl rfl ⟨c9, trivial⟩ ?_
      obtain ⟨i10, ei10, h⟩ := h
      rw [ei10]
      obtain ⟨c11, h⟩ := h
      refine E_blk (lv' := [some (vr (some (10, this))), some (vi a1), some (vi a2), some (vi (mI M7 10 this 16)), some (vi (mI M7 10 this 17)), some (vi (mI M8 10 this 16)), some (vi (mI M8 10 this 17)), some (vr (some (400, i10))), some (vi (mI M8 98 this a1.toNatClampNeg)), some (vi ((mI M8 98 this a1.toNatClampNeg) - (1 : Int32))), none, none, none, none]) (st' := []) (M1 := M8) (pc' := 78) (tb_Works hγ) [.astore 7, .aload_n 0, .getfield 70, .iload_n 1, .iaload, .istore 8, .iload 8, .iconst 1, .isub, .istore 9] (by decide +kernel) rfl rfl ⟨c11, trivial⟩ ?_
      obtain ⟨n49, h⟩ := h
      refine E_mask [true, true, true, true, true, true, true, true, true, true, false, false, false, false] rfl ?_
      exact lk_Works_shrink_L78 hγ this Q X n49 a1 a2 (mI M7 10 this 16) (mI M7 10 this 17) (mI M8 10 this 16) (mI M8 10 this 17) i10 (mI M8 98 this a1.toNatClampNeg) ((mI M8 98 this a1.toNatClampNeg) - (1 : Int32)) M8 h
def w_Works_text (this : Nat) (a1 : Int32) (a2 : Int32) (Q : Int32 → Mem → Prop) (M : Mem) : Prop :=
  w_Works_isTrial this a1 (fun r2 M1 => if r2 = 0 then (Q (-1 : Int32) M1) else (vp_in a1 (mL M1 98 this) ∧ w_Works_isIn a2 (0 : Int32) ((mI M1 98 this a1.toNatClampNeg) - (1 : Int32)) (fun r6 M5 => if r6 = 0 then (Q (-1 : Int32) M5) else (vp_in a1 (mL M5 701 0) ∧ ∃ i9, (mR M5 701 0 a1.toNatClampNeg) = some (400, i9) ∧ vp_in a2 (mL M5 400 i9) ∧ Q ((mI M5 400 i9 a2.toNatClampNeg) &&& (255 : Int32)) M5)) M1)) M
set_option maxRecDepth 4096 in
theorem lk_Works_text {γ : Gm} (hγ : Gk γ) (this : Nat) (a1 : Int32) (a2 : Int32) (Q : Int32 → Mem → Prop) (M : Mem) (h : w_Works_text this a1 a2 Q M) : E γ k_Works_text 2 0 [some (vr (some (10, this))), some (vi a1), some (vi a2)] [] M (Qi Q) := by
  unfold w_Works_text at h
  refine E_blk (lv' := [some (vr (some (10, this))), some (vi a1), some (vi a2)]) (st' := [vi a1, vr (some (10, this))]) (M1 := M) (pc' := 2) (tb_Works hγ) [.aload_n 0, .iload_n 1] (by decide +kernel) rfl rfl trivial ?_
  refine E_callV (κ' := k_Works_isTrial) (As := [vi a1]) (st := []) mv_Works_isTrial (Or.inl (tbk_mem (j := 10) (k := 206) rfl)) rfl (by decide +kernel) (Nat.le_of_ble_eq_true rfl) (Nat.le_of_ble_eq_true rfl) rfl (by decide) (lk_Works_isTrial hγ this a1 _ M h) (fun _ _ => Qi_r) (fun v M1 hp => Qi_k (R := fun st => E γ k_Works_text 2 5 [some (vr (some (10, this))), some (vi a1), some (vi a2)] st M1 (Qi Q)) hp (fun r2 h => ?_))
  refine E_if_eq (off := 34) (tgt := 39) (by decide +kernel) (by decide) (fun b3 => ?_) (fun b3 => ?_)
  · rw [if_pos b3] at h
    refine E_blk (lv' := [some (vr (some (10, this))), some (vi a1), some (vi a2)]) (st' := [vi (-1 : Int32)]) (M1 := M1) (pc' := 40) (tb_Works hγ) [.iconst (.negSucc 0)] (by decide +kernel) rfl rfl trivial ?_
    exact E_iret rfl (by decide +kernel) h
  · rw [if_neg b3] at h
    obtain ⟨c4, h⟩ := h
    refine E_blk (lv' := [some (vr (some (10, this))), some (vi a1), some (vi a2)]) (st' := [vi ((mI M1 98 this a1.toNatClampNeg) - (1 : Int32)), vi (0 : Int32), vi a2]) (M1 := M1) (pc' := 18) (tb_Works hγ) [.iload_n 2, .iconst 0, .aload_n 0, .getfield 70, .iload_n 1, .iaload, .iconst 1, .isub] (by decide +kernel) rfl rfl ⟨c4, trivial⟩ ?_
    refine E_callS (κ' := k_Works_isIn) (As := [vi a2, vi (0 : Int32), vi ((mI M1 98 this a1.toNatClampNeg) - (1 : Int32))]) (st := []) ms_Works_isIn (Or.inl (tbk_mem (j := 5) (k := 237) rfl)) rfl (by decide +kernel) (Nat.le_of_ble_eq_true rfl) (Nat.le_of_ble_eq_true rfl) rfl (by decide) (lk_Works_isIn hγ a2 (0 : Int32) ((mI M1 98 this a1.toNatClampNeg) - (1 : Int32)) _ M1 h) (fun _ _ => Qi_r) (fun v M5 hp => Qi_k (R := fun st => E γ k_Works_text 2 21 [some (vr (some (10, this))), some (vi a1), some (vi a2)] st M5 (Qi Q)) hp (fun r6 h => ?_))
    refine E_if_eq (off := 18) (tgt := 39) (by decide +kernel) (by decide) (fun b7 => ?_) (fun b7 => ?_)
    · rw [if_pos b7] at h
      refine E_blk (lv' := [some (vr (some (10, this))), some (vi a1), some (vi a2)]) (st' := [vi (-1 : Int32)]) (M1 := M5) (pc' := 40) (tb_Works hγ) [.iconst (.negSucc 0)] (by decide +kernel) rfl rfl trivial ?_
      exact E_iret rfl (by decide +kernel) h
    · rw [if_neg b7] at h
      obtain ⟨c8, h⟩ := h
      refine E_blk (lv' := [some (vr (some (10, this))), some (vi a1), some (vi a2)]) (st' := [vr (mR M5 701 0 a1.toNatClampNeg)]) (M1 := M5) (pc' := 30) (tb_Works hγ) [.aload_n 0, .getfield 67, .iload_n 1, .aaload] (by decide +kernel) rfl rfl ⟨c8, trivial⟩ ?_
      obtain ⟨i9, ei9, h⟩ := h
      rw [ei9]
      obtain ⟨c10, h⟩ := h
      refine E_blk (lv' := [some (vr (some (10, this))), some (vi a1), some (vi a2)]) (st' := [vi ((mI M5 400 i9 a2.toNatClampNeg) &&& (255 : Int32))]) (M1 := M5) (pc' := 36) (tb_Works hγ) [.iload_n 2, .baload, .sipush 255, .iand] (by decide +kernel) rfl rfl ⟨c10, trivial⟩ ?_
      refine E_goto (off := 4) (tgt := 40) (by decide +kernel) (by decide) ?_
      exact E_iret rfl (by decide +kernel) h
def w_Works_count (this : Nat) (a1 : Int32) (Q : Int32 → Mem → Prop) (M : Mem) : Prop :=
  if a1 = 0 then (Q (mI M 10 this 10) M) else (if a1 = (1 : Int32) then (Q (mI M 10 this 8) M) else (if a1 = (2 : Int32) then (Q (mI M 10 this 1) M) else (Q (-1 : Int32) M)))
set_option maxRecDepth 4096 in
theorem lk_Works_count {γ : Gm} (hγ : Gk γ) (this : Nat) (a1 : Int32) (Q : Int32 → Mem → Prop) (M : Mem) (h : w_Works_count this a1 Q M) : E γ k_Works_count 0 0 [some (vr (some (10, this))), some (vi a1)] [] M (Qi Q) := by
  unfold w_Works_count at h
  refine E_blk (lv' := [some (vr (some (10, this))), some (vi a1)]) (st' := [vi a1]) (M1 := M) (pc' := 1) (tb_Works hγ) [.iload_n 1] (by decide +kernel) rfl rfl trivial ?_
  refine E_if_ne (off := 10) (tgt := 11) (by decide +kernel) (by decide) (fun b1 => ?_) (fun b1 => ?_)
  · rw [if_pos b1] at h
    refine E_blk (lv' := [some (vr (some (10, this))), some (vi a1)]) (st' := [vi (mI M 10 this 10)]) (M1 := M) (pc' := 8) (tb_Works hγ) [.aload_n 0, .getfield 230] (by decide +kernel) rfl rfl trivial ?_
    refine E_goto (off := 28) (tgt := 36) (by decide +kernel) (by decide) ?_
    exact E_iret rfl (by decide +kernel) h
  · rw [if_neg b1] at h
    refine E_blk (lv' := [some (vr (some (10, this))), some (vi a1)]) (st' := [vi (1 : Int32), vi a1]) (M1 := M) (pc' := 13) (tb_Works hγ) [.iload_n 1, .iconst 1] (by decide +kernel) rfl rfl trivial ?_
    refine E_icmp_ne (off := 10) (tgt := 23) (by decide +kernel) (by decide) (fun b2 => ?_) (fun b2 => ?_)
    · rw [if_pos b2] at h
      refine E_blk (lv' := [some (vr (some (10, this))), some (vi a1)]) (st' := [vi (mI M 10 this 8)]) (M1 := M) (pc' := 20) (tb_Works hγ) [.aload_n 0, .getfield 52] (by decide +kernel) rfl rfl trivial ?_
      refine E_goto (off := 16) (tgt := 36) (by decide +kernel) (by decide) ?_
      exact E_iret rfl (by decide +kernel) h
    · rw [if_neg b2] at h
      refine E_blk (lv' := [some (vr (some (10, this))), some (vi a1)]) (st' := [vi (2 : Int32), vi a1]) (M1 := M) (pc' := 25) (tb_Works hγ) [.iload_n 1, .iconst 2] (by decide +kernel) rfl rfl trivial ?_
      refine E_icmp_ne (off := 10) (tgt := 35) (by decide +kernel) (by decide) (fun b3 => ?_) (fun b3 => ?_)
      · rw [if_pos b3] at h
        refine E_blk (lv' := [some (vr (some (10, this))), some (vi a1)]) (st' := [vi (mI M 10 this 1)]) (M1 := M) (pc' := 32) (tb_Works hγ) [.aload_n 0, .getfield 121] (by decide +kernel) rfl rfl trivial ?_
        refine E_goto (off := 4) (tgt := 36) (by decide +kernel) (by decide) ?_
        exact E_iret rfl (by decide +kernel) h
      · rw [if_neg b3] at h
        refine E_blk (lv' := [some (vr (some (10, this))), some (vi a1)]) (st' := [vi (-1 : Int32)]) (M1 := M) (pc' := 36) (tb_Works hγ) [.iconst (.negSucc 0)] (by decide +kernel) rfl rfl trivial ?_
        exact E_iret rfl (by decide +kernel) h
def w_Model_room (a1 : Nat) (a2 : Int32) (Q : Nat → Mem → Prop) (M : Mem) : Prop :=
  if (Int32.ofNat (mL M 300 a1)) < a2 then (w_JMath_max a2 ((2 : Int32) * (Int32.ofNat (mL M 300 a1))) (fun r3 M2 => ¬ r3 < 0 ∧ r3.toNatClampNeg ≤ 60000000 ∧ ∃ i5, (300, i5) ∉ mN M2 ∧ ∃ M4, M4 = mk M2 300 i5 r3.toNatClampNeg ∧ ¬ (0 : Int32) < 0 ∧ ¬ (0 : Int32) < 0 ∧ ¬ (Int32.ofNat (mL M4 300 a1)) < 0 ∧ (0 : Int32).toNatClampNeg + (Int32.ofNat (mL M4 300 a1)).toNatClampNeg ≤ mL M4 300 a1 ∧ (0 : Int32).toNatClampNeg + (Int32.ofNat (mL M4 300 a1)).toNatClampNeg ≤ mL M4 300 i5 ∧ ∃ M9, M9 = cpI M4 300 a1 (0 : Int32).toNatClampNeg 300 i5 (0 : Int32).toNatClampNeg (Int32.ofNat (mL M4 300 a1)).toNatClampNeg ∧ Q i5 M9) M) else (Q a1 M)
set_option maxRecDepth 4096 in
theorem lk_Model_room {γ : Gm} (hγ : Gk γ) (a1 : Nat) (a2 : Int32) (Q : Nat → Mem → Prop) (M : Mem) (h : w_Model_room a1 a2 Q M) : E γ k_Model_room 1 0 [some (vr (some (300, a1))), some (vi a2), none] [] M (Qr 300 Q) := by
  unfold w_Model_room at h
  refine E_blk (lv' := [some (vr (some (300, a1))), some (vi a2), none]) (st' := [vi (Int32.ofNat (mL M 300 a1)), vi a2]) (M1 := M) (pc' := 3) (tb_Model hγ) [.iload_n 1, .aload_n 0, .arraylength] (by decide +kernel) rfl rfl trivial ?_
  refine E_icmp_gt (off := 5) (tgt := 8) (by decide +kernel) (by decide) (fun b1 => ?_) (fun b1 => ?_)
  · rw [if_pos b1] at h
    refine E_blk (lv' := [some (vr (some (300, a1))), some (vi a2), none]) (st' := [vi ((2 : Int32) * (Int32.ofNat (mL M 300 a1))), vi a2]) (M1 := M) (pc' := 13) (tb_Model hγ) [.iload_n 1, .iconst 2, .aload_n 0, .arraylength, .imul] (by decide +kernel) rfl rfl trivial ?_
    refine E_callS (κ' := k_JMath_max) (As := [vi a2, vi ((2 : Int32) * (Int32.ofNat (mL M 300 a1)))]) (st := []) ms_JMath_max (Or.inl (tbk_mem (j := 11) (k := 64) rfl)) rfl (by decide +kernel) (Nat.le_of_ble_eq_true rfl) (Nat.le_of_ble_eq_true rfl) rfl (by decide) (lk_JMath_max hγ a2 ((2 : Int32) * (Int32.ofNat (mL M 300 a1))) _ M h) (fun _ _ => Qi_r) (fun v M2 hp => Qi_k (R := fun st => E γ k_Model_room 1 16 [some (vr (some (300, a1))), some (vi a2), none] st M2 (Qr 300 Q)) hp (fun r3 h => ?_))
    obtain ⟨c6, c7, i5, c8, M4, eM4, h⟩ := h
    refine E_newa (f := 300) (i := i5) (by decide) (by decide) (FIN_lt hγ.1) c6 c7 c8 (by decide +kernel) ?_
    rw [← eM4]
    refine E_blk (lv' := [some (vr (some (300, a1))), some (vi a2), some (vr (some (300, i5)))]) (st' := [vi (Int32.ofNat (mL M4 300 a1)), vi (0 : Int32), vr (some (300, i5)), vi (0 : Int32), vr (some (300, a1))]) (M1 := M4) (pc' := 25) (tb_Model hγ) [.astore_n 2, .aload_n 0, .iconst 0, .aload_n 2, .iconst 0, .aload_n 0, .arraylength] (by decide +kernel) rfl rfl trivial ?_
    obtain ⟨c10, c11, c12, c13, c14, M9, eM9, h⟩ := h
    refine E_copy (pc := 25) (κ := k_Model_room) (f := 300) (i := a1) (g := 300) (j := i5) (sp := (0 : Int32)) (dp := (0 : Int32)) (n := (Int32.ofNat (mL M4 300 a1))) (idx := 11) (st := []) c10 c11 c12 c13 c14 (by decide) (by decide) rfl (by decide) (tbk_mem (j := 11) (k := 65) rfl) (by decide +kernel) (Nat.le_of_ble_eq_true rfl) ?_
    rw [← eM9]
    refine E_blk (lv' := [some (vr (some (300, a1))), some (vi a2), some (vr (some (300, i5)))]) (st' := [vr (some (300, i5))]) (M1 := M9) (pc' := 29) (tb_Model hγ) [.aload_n 2] (by decide +kernel) rfl rfl trivial ?_
    exact E_aret rfl rfl (by decide +kernel) h
  · rw [if_neg b1] at h
    refine E_blk (lv' := [some (vr (some (300, a1))), some (vi a2), none]) (st' := [vr (some (300, a1))]) (M1 := M) (pc' := 7) (tb_Model hγ) [.aload_n 0] (by decide +kernel) rfl rfl trivial ?_
    exact E_aret rfl rfl (by decide +kernel) h
set_option maxRecDepth 4096 in
theorem lk0_Model_room {γ : Gm} (hγ : G0 γ) (a1 : Nat) (a2 : Int32) (Q : Nat → Mem → Prop) (M : Mem) (h : w_Model_room a1 a2 Q M) : E γ k_Model_room 1 0 [some (vr (some (300, a1))), some (vi a2), none] [] M (Qr 300 Q) := by
  unfold w_Model_room at h
  refine E_blk (lv' := [some (vr (some (300, a1))), some (vi a2), none]) (st' := [vi (Int32.ofNat (mL M 300 a1)), vi a2]) (M1 := M) (pc' := 3) (tb0_Model hγ) [.iload_n 1, .aload_n 0, .arraylength] (by decide +kernel) rfl rfl trivial ?_
  refine E_icmp_gt (off := 5) (tgt := 8) (by decide +kernel) (by decide) (fun b1 => ?_) (fun b1 => ?_)
  · rw [if_pos b1] at h
    refine E_blk (lv' := [some (vr (some (300, a1))), some (vi a2), none]) (st' := [vi ((2 : Int32) * (Int32.ofNat (mL M 300 a1))), vi a2]) (M1 := M) (pc' := 13) (tb0_Model hγ) [.iload_n 1, .iconst 2, .aload_n 0, .arraylength, .imul] (by decide +kernel) rfl rfl trivial ?_
    refine E_callS (κ' := k_JMath_max) (As := [vi a2, vi ((2 : Int32) * (Int32.ofNat (mL M 300 a1)))]) (st := []) ms_JMath_max (Or.inl (tbk_mem (j := 11) (k := 64) rfl)) rfl (by decide +kernel) (Nat.le_of_ble_eq_true rfl) (Nat.le_of_ble_eq_true rfl) rfl (by decide) (lk0_JMath_max hγ a2 ((2 : Int32) * (Int32.ofNat (mL M 300 a1))) _ M h) (fun _ _ => Qi_r) (fun v M2 hp => Qi_k (R := fun st => E γ k_Model_room 1 16 [some (vr (some (300, a1))), some (vi a2), none] st M2 (Qr 300 Q)) hp (fun r3 h => ?_))
    obtain ⟨c6, c7, i5, c8, M4, eM4, h⟩ := h
    refine E_newa (f := 300) (i := i5) (by decide) (by decide) (FIN0_lt hγ.1) c6 c7 c8 (by decide +kernel) ?_
    rw [← eM4]
    refine E_blk (lv' := [some (vr (some (300, a1))), some (vi a2), some (vr (some (300, i5)))]) (st' := [vi (Int32.ofNat (mL M4 300 a1)), vi (0 : Int32), vr (some (300, i5)), vi (0 : Int32), vr (some (300, a1))]) (M1 := M4) (pc' := 25) (tb0_Model hγ) [.astore_n 2, .aload_n 0, .iconst 0, .aload_n 2, .iconst 0, .aload_n 0, .arraylength] (by decide +kernel) rfl rfl trivial ?_
    obtain ⟨c10, c11, c12, c13, c14, M9, eM9, h⟩ := h
    refine E_copy (pc := 25) (κ := k_Model_room) (f := 300) (i := a1) (g := 300) (j := i5) (sp := (0 : Int32)) (dp := (0 : Int32)) (n := (Int32.ofNat (mL M4 300 a1))) (idx := 11) (st := []) c10 c11 c12 c13 c14 (by decide) (by decide) rfl (by decide) (tbk_mem (j := 11) (k := 65) rfl) (by decide +kernel) (Nat.le_of_ble_eq_true rfl) ?_
    rw [← eM9]
    refine E_blk (lv' := [some (vr (some (300, a1))), some (vi a2), some (vr (some (300, i5)))]) (st' := [vr (some (300, i5))]) (M1 := M9) (pc' := 29) (tb0_Model hγ) [.aload_n 2] (by decide +kernel) rfl rfl trivial ?_
    exact E_aret rfl rfl (by decide +kernel) h
  · rw [if_neg b1] at h
    refine E_blk (lv' := [some (vr (some (300, a1))), some (vi a2), none]) (st' := [vr (some (300, a1))]) (M1 := M) (pc' := 7) (tb0_Model hγ) [.aload_n 0] (by decide +kernel) rfl rfl trivial ?_
    exact E_aret rfl rfl (by decide +kernel) h
set_option maxRecDepth 4096 in
theorem lk1_Model_room {γ : Gm} (hγ : G1 γ) (a1 : Nat) (a2 : Int32) (Q : Nat → Mem → Prop) (M : Mem) (h : w_Model_room a1 a2 Q M) : E γ k_Model_room 1 0 [some (vr (some (300, a1))), some (vi a2), none] [] M (Qr 300 Q) := by
  unfold w_Model_room at h
  refine E_blk (lv' := [some (vr (some (300, a1))), some (vi a2), none]) (st' := [vi (Int32.ofNat (mL M 300 a1)), vi a2]) (M1 := M) (pc' := 3) (tb1_Model hγ) [.iload_n 1, .aload_n 0, .arraylength] (by decide +kernel) rfl rfl trivial ?_
  refine E_icmp_gt (off := 5) (tgt := 8) (by decide +kernel) (by decide) (fun b1 => ?_) (fun b1 => ?_)
  · rw [if_pos b1] at h
    refine E_blk (lv' := [some (vr (some (300, a1))), some (vi a2), none]) (st' := [vi ((2 : Int32) * (Int32.ofNat (mL M 300 a1))), vi a2]) (M1 := M) (pc' := 13) (tb1_Model hγ) [.iload_n 1, .iconst 2, .aload_n 0, .arraylength, .imul] (by decide +kernel) rfl rfl trivial ?_
    refine E_callS (κ' := k_JMath_max) (As := [vi a2, vi ((2 : Int32) * (Int32.ofNat (mL M 300 a1)))]) (st := []) ms_JMath_max (Or.inl (tbk_mem (j := 11) (k := 64) rfl)) rfl (by decide +kernel) (Nat.le_of_ble_eq_true rfl) (Nat.le_of_ble_eq_true rfl) rfl (by decide) (lk1_JMath_max hγ a2 ((2 : Int32) * (Int32.ofNat (mL M 300 a1))) _ M h) (fun _ _ => Qi_r) (fun v M2 hp => Qi_k (R := fun st => E γ k_Model_room 1 16 [some (vr (some (300, a1))), some (vi a2), none] st M2 (Qr 300 Q)) hp (fun r3 h => ?_))
    obtain ⟨c6, c7, i5, c8, M4, eM4, h⟩ := h
    refine E_newa (f := 300) (i := i5) (by decide) (by decide) (FIN1_lt hγ.1) c6 c7 c8 (by decide +kernel) ?_
    rw [← eM4]
    refine E_blk (lv' := [some (vr (some (300, a1))), some (vi a2), some (vr (some (300, i5)))]) (st' := [vi (Int32.ofNat (mL M4 300 a1)), vi (0 : Int32), vr (some (300, i5)), vi (0 : Int32), vr (some (300, a1))]) (M1 := M4) (pc' := 25) (tb1_Model hγ) [.astore_n 2, .aload_n 0, .iconst 0, .aload_n 2, .iconst 0, .aload_n 0, .arraylength] (by decide +kernel) rfl rfl trivial ?_
    obtain ⟨c10, c11, c12, c13, c14, M9, eM9, h⟩ := h
    refine E_copy (pc := 25) (κ := k_Model_room) (f := 300) (i := a1) (g := 300) (j := i5) (sp := (0 : Int32)) (dp := (0 : Int32)) (n := (Int32.ofNat (mL M4 300 a1))) (idx := 11) (st := []) c10 c11 c12 c13 c14 (by decide) (by decide) rfl (by decide) (tbk_mem (j := 11) (k := 65) rfl) (by decide +kernel) (Nat.le_of_ble_eq_true rfl) ?_
    rw [← eM9]
    refine E_blk (lv' := [some (vr (some (300, a1))), some (vi a2), some (vr (some (300, i5)))]) (st' := [vr (some (300, i5))]) (M1 := M9) (pc' := 29) (tb1_Model hγ) [.aload_n 2] (by decide +kernel) rfl rfl trivial ?_
    exact E_aret rfl rfl (by decide +kernel) h
  · rw [if_neg b1] at h
    refine E_blk (lv' := [some (vr (some (300, a1))), some (vi a2), none]) (st' := [vr (some (300, a1))]) (M1 := M) (pc' := 7) (tb1_Model hγ) [.aload_n 0] (by decide +kernel) rfl rfl trivial ?_
    exact E_aret rfl rfl (by decide +kernel) h
def w_Model_roomy (a1 : Nat) (a2 : Int32) (Q : Nat → Mem → Prop) (M : Mem) : Prop :=
  if (Int32.ofNat (mL M 401 a1)) < a2 then (w_JMath_max a2 ((2 : Int32) * (Int32.ofNat (mL M 401 a1))) (fun r3 M2 => ¬ r3 < 0 ∧ r3.toNatClampNeg ≤ 60000000 ∧ ∃ i5, (401, i5) ∉ mN M2 ∧ ∃ M4, M4 = mk M2 401 i5 r3.toNatClampNeg ∧ ¬ (0 : Int32) < 0 ∧ ¬ (0 : Int32) < 0 ∧ ¬ (Int32.ofNat (mL M4 401 a1)) < 0 ∧ (0 : Int32).toNatClampNeg + (Int32.ofNat (mL M4 401 a1)).toNatClampNeg ≤ mL M4 401 a1 ∧ (0 : Int32).toNatClampNeg + (Int32.ofNat (mL M4 401 a1)).toNatClampNeg ≤ mL M4 401 i5 ∧ ∃ M9, M9 = cpI M4 401 a1 (0 : Int32).toNatClampNeg 401 i5 (0 : Int32).toNatClampNeg (Int32.ofNat (mL M4 401 a1)).toNatClampNeg ∧ Q i5 M9) M) else (Q a1 M)
set_option maxRecDepth 4096 in
theorem lk_Model_roomy {γ : Gm} (hγ : Gk γ) (a1 : Nat) (a2 : Int32) (Q : Nat → Mem → Prop) (M : Mem) (h : w_Model_roomy a1 a2 Q M) : E γ k_Model_roomy 1 0 [some (vr (some (401, a1))), some (vi a2), none] [] M (Qr 401 Q) := by
  unfold w_Model_roomy at h
  refine E_blk (lv' := [some (vr (some (401, a1))), some (vi a2), none]) (st' := [vi (Int32.ofNat (mL M 401 a1)), vi a2]) (M1 := M) (pc' := 3) (tb_Model hγ) [.iload_n 1, .aload_n 0, .arraylength] (by decide +kernel) rfl rfl trivial ?_
  refine E_icmp_gt (off := 5) (tgt := 8) (by decide +kernel) (by decide) (fun b1 => ?_) (fun b1 => ?_)
  · rw [if_pos b1] at h
    refine E_blk (lv' := [some (vr (some (401, a1))), some (vi a2), none]) (st' := [vi ((2 : Int32) * (Int32.ofNat (mL M 401 a1))), vi a2]) (M1 := M) (pc' := 13) (tb_Model hγ) [.iload_n 1, .iconst 2, .aload_n 0, .arraylength, .imul] (by decide +kernel) rfl rfl trivial ?_
    refine E_callS (κ' := k_JMath_max) (As := [vi a2, vi ((2 : Int32) * (Int32.ofNat (mL M 401 a1)))]) (st := []) ms_JMath_max (Or.inl (tbk_mem (j := 11) (k := 64) rfl)) rfl (by decide +kernel) (Nat.le_of_ble_eq_true rfl) (Nat.le_of_ble_eq_true rfl) rfl (by decide) (lk_JMath_max hγ a2 ((2 : Int32) * (Int32.ofNat (mL M 401 a1))) _ M h) (fun _ _ => Qi_r) (fun v M2 hp => Qi_k (R := fun st => E γ k_Model_roomy 1 16 [some (vr (some (401, a1))), some (vi a2), none] st M2 (Qr 401 Q)) hp (fun r3 h => ?_))
    obtain ⟨c6, c7, i5, c8, M4, eM4, h⟩ := h
    refine E_newa (f := 401) (i := i5) (by decide) (by decide) (FIN_lt hγ.1) c6 c7 c8 (by decide +kernel) ?_
    rw [← eM4]
    refine E_blk (lv' := [some (vr (some (401, a1))), some (vi a2), some (vr (some (401, i5)))]) (st' := [vi (Int32.ofNat (mL M4 401 a1)), vi (0 : Int32), vr (some (401, i5)), vi (0 : Int32), vr (some (401, a1))]) (M1 := M4) (pc' := 25) (tb_Model hγ) [.astore_n 2, .aload_n 0, .iconst 0, .aload_n 2, .iconst 0, .aload_n 0, .arraylength] (by decide +kernel) rfl rfl trivial ?_
    obtain ⟨c10, c11, c12, c13, c14, M9, eM9, h⟩ := h
    refine E_copy (pc := 25) (κ := k_Model_roomy) (f := 401) (i := a1) (g := 401) (j := i5) (sp := (0 : Int32)) (dp := (0 : Int32)) (n := (Int32.ofNat (mL M4 401 a1))) (idx := 11) (st := []) c10 c11 c12 c13 c14 (by decide) (by decide) rfl (by decide) (tbk_mem (j := 11) (k := 65) rfl) (by decide +kernel) (Nat.le_of_ble_eq_true rfl) ?_
    rw [← eM9]
    refine E_blk (lv' := [some (vr (some (401, a1))), some (vi a2), some (vr (some (401, i5)))]) (st' := [vr (some (401, i5))]) (M1 := M9) (pc' := 29) (tb_Model hγ) [.aload_n 2] (by decide +kernel) rfl rfl trivial ?_
    exact E_aret rfl rfl (by decide +kernel) h
  · rw [if_neg b1] at h
    refine E_blk (lv' := [some (vr (some (401, a1))), some (vi a2), none]) (st' := [vr (some (401, a1))]) (M1 := M) (pc' := 7) (tb_Model hγ) [.aload_n 0] (by decide +kernel) rfl rfl trivial ?_
    exact E_aret rfl rfl (by decide +kernel) h
set_option maxRecDepth 4096 in
theorem lk0_Model_roomy {γ : Gm} (hγ : G0 γ) (a1 : Nat) (a2 : Int32) (Q : Nat → Mem → Prop) (M : Mem) (h : w_Model_roomy a1 a2 Q M) : E γ k_Model_roomy 1 0 [some (vr (some (401, a1))), some (vi a2), none] [] M (Qr 401 Q) := by
  unfold w_Model_roomy at h
  refine E_blk (lv' := [some (vr (some (401, a1))), some (vi a2), none]) (st' := [vi (Int32.ofNat (mL M 401 a1)), vi a2]) (M1 := M) (pc' := 3) (tb0_Model hγ) [.iload_n 1, .aload_n 0, .arraylength] (by decide +kernel) rfl rfl trivial ?_
  refine E_icmp_gt (off := 5) (tgt := 8) (by decide +kernel) (by decide) (fun b1 => ?_) (fun b1 => ?_)
  · rw [if_pos b1] at h
    refine E_blk (lv' := [some (vr (some (401, a1))), some (vi a2), none]) (st' := [vi ((2 : Int32) * (Int32.ofNat (mL M 401 a1))), vi a2]) (M1 := M) (pc' := 13) (tb0_Model hγ) [.iload_n 1, .iconst 2, .aload_n 0, .arraylength, .imul] (by decide +kernel) rfl rfl trivial ?_
    refine E_callS (κ' := k_JMath_max) (As := [vi a2, vi ((2 : Int32) * (Int32.ofNat (mL M 401 a1)))]) (st := []) ms_JMath_max (Or.inl (tbk_mem (j := 11) (k := 64) rfl)) rfl (by decide +kernel) (Nat.le_of_ble_eq_true rfl) (Nat.le_of_ble_eq_true rfl) rfl (by decide) (lk0_JMath_max hγ a2 ((2 : Int32) * (Int32.ofNat (mL M 401 a1))) _ M h) (fun _ _ => Qi_r) (fun v M2 hp => Qi_k (R := fun st => E γ k_Model_roomy 1 16 [some (vr (some (401, a1))), some (vi a2), none] st M2 (Qr 401 Q)) hp (fun r3 h => ?_))
    obtain ⟨c6, c7, i5, c8, M4, eM4, h⟩ := h
    refine E_newa (f := 401) (i := i5) (by decide) (by decide) (FIN0_lt hγ.1) c6 c7 c8 (by decide +kernel) ?_
    rw [← eM4]
    refine E_blk (lv' := [some (vr (some (401, a1))), some (vi a2), some (vr (some (401, i5)))]) (st' := [vi (Int32.ofNat (mL M4 401 a1)), vi (0 : Int32), vr (some (401, i5)), vi (0 : Int32), vr (some (401, a1))]) (M1 := M4) (pc' := 25) (tb0_Model hγ) [.astore_n 2, .aload_n 0, .iconst 0, .aload_n 2, .iconst 0, .aload_n 0, .arraylength] (by decide +kernel) rfl rfl trivial ?_
    obtain ⟨c10, c11, c12, c13, c14, M9, eM9, h⟩ := h
    refine E_copy (pc := 25) (κ := k_Model_roomy) (f := 401) (i := a1) (g := 401) (j := i5) (sp := (0 : Int32)) (dp := (0 : Int32)) (n := (Int32.ofNat (mL M4 401 a1))) (idx := 11) (st := []) c10 c11 c12 c13 c14 (by decide) (by decide) rfl (by decide) (tbk_mem (j := 11) (k := 65) rfl) (by decide +kernel) (Nat.le_of_ble_eq_true rfl) ?_
    rw [← eM9]
    refine E_blk (lv' := [some (vr (some (401, a1))), some (vi a2), some (vr (some (401, i5)))]) (st' := [vr (some (401, i5))]) (M1 := M9) (pc' := 29) (tb0_Model hγ) [.aload_n 2] (by decide +kernel) rfl rfl trivial ?_
    exact E_aret rfl rfl (by decide +kernel) h
  · rw [if_neg b1] at h
    refine E_blk (lv' := [some (vr (some (401, a1))), some (vi a2), none]) (st' := [vr (some (401, a1))]) (M1 := M) (pc' := 7) (tb0_Model hγ) [.aload_n 0] (by decide +kernel) rfl rfl trivial ?_
    exact E_aret rfl rfl (by decide +kernel) h
def w_Model_isName_j59 (this : Nat) (Q : Int32 → Mem → Prop) (k21 : Int32 → Nat → Int32 → Int32 → Int32 → Int32 → Mem → Prop) (v1 : Int32) (v2 : Nat) (v3 : Int32) (v4 : Int32) (v6 : Int32) (s0 : Int32) (M : Mem) : Prop :=
  k21 v1 v2 v3 v4 s0 (v6 + (1 : Int32)) M
def w_Model_isName_L21 (this : Nat) (Q : Int32 → Mem → Prop) : Nat → Int32 → Nat → Int32 → Int32 → Int32 → Int32 → Mem → Prop
  | 0, _, _, _, _, _, _, _ => False
  | n + 1, v1, v2, v3, v4, v5, v6, M => if v4 ≤ v6 then ((v5 = 0 ∨ v5 = 1) ∧ Q v5 M) else (if v5 = 0 then ((v5 = 0 ∨ v5 = 1) ∧ Q v5 M) else (∃ i6, (mR M 11 this 0) = some (401, i6) ∧ vp_in (((12 : Int32) * v1) + v6) (mL M 401 i6) ∧ vp_in (v3 + v6) (mL M 402 v2) ∧ if (mI M 401 i6 (((12 : Int32) * v1) + v6).toNatClampNeg) = (mI M 402 v2 (v3 + v6).toNatClampNeg) then (w_Model_isName_j59 this Q (w_Model_isName_L21 this Q n) v1 v2 v3 v4 v6 (1 : Int32) M) else (w_Model_isName_j59 this Q (w_Model_isName_L21 this Q n) v1 v2 v3 v4 v6 (0 : Int32) M)))
def w_Model_isName_j16 (this : Nat) (Q : Int32 → Mem → Prop) (v1 : Int32) (v2 : Nat) (v3 : Int32) (v4 : Int32) (s0 : Int32) (M : Mem) : Prop :=
  ∃ n10 : Nat, w_Model_isName_L21 this Q n10 v1 v2 v3 v4 s0 (0 : Int32) M
def w_Model_isName (this : Nat) (a1 : Int32) (a2 : Nat) (a3 : Int32) (a4 : Int32) (Q : Int32 → Mem → Prop) (M : Mem) : Prop :=
  ∃ i1, (mR M 11 this 1) = some (401, i1) ∧ vp_in a1 (mL M 401 i1) ∧ if (mI M 401 i1 a1.toNatClampNeg) = a4 then (w_Model_isName_j16 this Q a1 a2 a3 a4 (1 : Int32) M) else (w_Model_isName_j16 this Q a1 a2 a3 a4 (0 : Int32) M)
set_option maxRecDepth 4096 in
theorem lk_Model_isName_j59 {γ : Gm} (hγ : Gk γ) (this : Nat) (Q : Int32 → Mem → Prop) (k21 : Int32 → Nat → Int32 → Int32 → Int32 → Int32 → Mem → Prop) (hk21 : ∀ (v1 : Int32) (v2 : Nat) (v3 : Int32) (v4 : Int32) (v5 : Int32) (v6 : Int32) (M : Mem), k21 v1 v2 v3 v4 v5 v6 M → E γ k_Model_isName 0 21 [some (vr (some (11, this))), some (vi v1), some (vr (some (402, v2))), some (vi v3), some (vi v4), some (vi v5), some (vi v6)] [] M (Qi Q)) (v1 : Int32) (v2 : Nat) (v3 : Int32) (v4 : Int32) (v6 : Int32) (s0 : Int32) (M : Mem) (h : w_Model_isName_j59 this Q k21 v1 v2 v3 v4 v6 s0 M) : E γ k_Model_isName 0 59 [some (vr (some (11, this))), some (vi v1), some (vr (some (402, v2))), some (vi v3), some (vi v4), none, some (vi v6)] [vi s0] M (Qi Q) := by
  unfold w_Model_isName_j59 at h
  refine E_blk (lv' := [some (vr (some (11, this))), some (vi v1), some (vr (some (402, v2))), some (vi v3), some (vi v4), some (vi s0), some (vi (v6 + (1 : Int32)))]) (st' := []) (M1 := M) (pc' := 64) (tb_Model hγ) [.istore 5, .iinc 6 1] (by decide +kernel) rfl rfl trivial ?_
  refine E_goto (off := -43) (tgt := 21) (by decide +kernel) (by decide) ?_
  refine E_mask [true, true, true, true, true, true, true] rfl ?_
  exact hk21 v1 v2 v3 v4 s0 (v6 + (1 : Int32)) M h
set_option maxRecDepth 4096 in
theorem lk_Model_isName_L21 {γ : Gm} (hγ : Gk γ) (this : Nat) (Q : Int32 → Mem → Prop) : ∀ (n : Nat) (v1 : Int32) (v2 : Nat) (v3 : Int32) (v4 : Int32) (v5 : Int32) (v6 : Int32) (M : Mem), w_Model_isName_L21 this Q n v1 v2 v3 v4 v5 v6 M → E γ k_Model_isName 0 21 [some (vr (some (11, this))), some (vi v1), some (vr (some (402, v2))), some (vi v3), some (vi v4), some (vi v5), some (vi v6)] [] M (Qi Q) := by
  intro n
  induction n with
  | zero => intro v1 v2 v3 v4 v5 v6 M h; exact h.elim
  | succ n ih =>
    intro v1 v2 v3 v4 v5 v6 M h
    unfold w_Model_isName_L21 at h
    refine E_blk (lv' := [some (vr (some (11, this))), some (vi v1), some (vr (some (402, v2))), some (vi v3), some (vi v4), some (vi v5), some (vi v6)]) (st' := [vi v4, vi v6]) (M1 := M) (pc' := 25) (tb_Model hγ) [.iload 6, .iload 4] (by decide +kernel) rfl rfl trivial ?_
    refine E_icmp_ge (off := 42) (tgt := 67) (by decide +kernel) (by decide) (fun b4 => ?_) (fun b4 => ?_)
    · rw [if_pos b4] at h
      refine E_blk (lv' := [some (vr (some (11, this))), some (vi v1), some (vr (some (402, v2))), some (vi v3), some (vi v4), some (vi v5), some (vi v6)]) (st' := [vi v5]) (M1 := M) (pc' := 69) (tb_Model hγ) [.iload 5] (by decide +kernel) rfl rfl trivial ?_
      exact E_zret rfl h.1 (by decide +kernel) h.2
    · rw [if_neg b4] at h
      refine E_blk (lv' := [some (vr (some (11, this))), some (vi v1), some (vr (some (402, v2))), some (vi v3), some (vi v4), some (vi v5), some (vi v6)]) (st' := [vi v5]) (M1 := M) (pc' := 30) (tb_Model hγ) [.iload 5] (by decide +kernel) rfl rfl trivial ?_
      refine E_if_eq (off := 37) (tgt := 67) (by decide +kernel) (by decide) (fun b5 => ?_) (fun b5 => ?_)
      · rw [if_pos b5] at h
        refine E_blk (lv' := [some (vr (some (11, this))), some (vi v1), some (vr (some (402, v2))), some (vi v3), some (vi v4), some (vi v5), some (vi v6)]) (st' := [vi v5]) (M1 := M) (pc' := 69) (tb_Model hγ) [.iload 5] (by decide +kernel) rfl rfl trivial ?_
        exact E_zret rfl h.1 (by decide +kernel) h.2
      · rw [if_neg b5] at h
        refine E_blk (lv' := [some (vr (some (11, this))), some (vi v1), some (vr (some (402, v2))), some (vi v3), some (vi v4), some (vi v5), some (vi v6)]) (st' := [vr (mR M 11 this 0)]) (M1 := M) (pc' := 37) (tb_Model hγ) [.aload_n 0, .getfield 28] (by decide +kernel) rfl rfl trivial ?_
        obtain ⟨i6, ei6, h⟩ := h
        rw [ei6]
        obtain ⟨c7, c8, h⟩ := h
        refine E_blk (lv' := [some (vr (some (11, this))), some (vi v1), some (vr (some (402, v2))), some (vi v3), some (vi v4), some (vi v5), some (vi v6)]) (st' := [vi (mI M 402 v2 (v3 + v6).toNatClampNeg), vi (mI M 401 i6 (((12 : Int32) * v1) + v6).toNatClampNeg)]) (M1 := M) (pc' := 51) (tb_Model hγ) [.bipush 12, .iload_n 1, .imul, .iload 6, .iadd, .baload, .aload_n 2, .iload_n 3, .iload 6, .iadd, .baload] (by decide +kernel) rfl rfl ⟨c7, c8, trivial⟩ ?_
        refine E_icmp_ne (off := 7) (tgt := 58) (by decide +kernel) (by decide) (fun b9 => ?_) (fun b9 => ?_)
        · rw [if_pos b9] at h
          refine E_blk (lv' := [some (vr (some (11, this))), some (vi v1), some (vr (some (402, v2))), some (vi v3), some (vi v4), some (vi v5), some (vi v6)]) (st' := [vi (1 : Int32)]) (M1 := M) (pc' := 55) (tb_Model hγ) [.iconst 1] (by decide +kernel) rfl rfl trivial ?_
          refine E_goto (off := 4) (tgt := 59) (by decide +kernel) (by decide) ?_
          refine E_mask [true, true, true, true, true, false, true] rfl ?_
          exact lk_Model_isName_j59 hγ this Q (w_Model_isName_L21 this Q n) ih v1 v2 v3 v4 v6 (1 : Int32) M h
        · rw [if_neg b9] at h
          refine E_blk (lv' := [some (vr (some (11, this))), some (vi v1), some (vr (some (402, v2))), some (vi v3), some (vi v4), some (vi v5), some (vi v6)]) (st' := [vi (0 : Int32)]) (M1 := M) (pc' := 59) (tb_Model hγ) [.iconst 0] (by decide +kernel) rfl rfl trivial ?_
          refine E_mask [true, true, true, true, true, false, true] rfl ?_
          exact lk_Model_isName_j59 hγ this Q (w_Model_isName_L21 this Q n) ih v1 v2 v3 v4 v6 (0 : Int32) M h
set_option maxRecDepth 4096 in
theorem lk_Model_isName_j16 {γ : Gm} (hγ : Gk γ) (this : Nat) (Q : Int32 → Mem → Prop) (v1 : Int32) (v2 : Nat) (v3 : Int32) (v4 : Int32) (s0 : Int32) (M : Mem) (h : w_Model_isName_j16 this Q v1 v2 v3 v4 s0 M) : E γ k_Model_isName 0 16 [some (vr (some (11, this))), some (vi v1), some (vr (some (402, v2))), some (vi v3), some (vi v4), none, none] [vi s0] M (Qi Q) := by
  unfold w_Model_isName_j16 at h
  refine E_blk (lv' := [some (vr (some (11, this))), some (vi v1), some (vr (some (402, v2))), some (vi v3), some (vi v4), some (vi s0), some (vi (0 : Int32))]) (st' := []) (M1 := M) (pc' := 21) (tb_Model hγ) [.istore 5, .iconst 0, .istore 6] (by decide +kernel) rfl rfl trivial ?_
  obtain ⟨n10, h⟩ := h
  refine E_mask [true, true, true, true, true, true, true] rfl ?_
  exact lk_Model_isName_L21 hγ this Q n10 v1 v2 v3 v4 s0 (0 : Int32) M h
set_option maxRecDepth 4096 in
theorem lk_Model_isName {γ : Gm} (hγ : Gk γ) (this : Nat) (a1 : Int32) (a2 : Nat) (a3 : Int32) (a4 : Int32) (Q : Int32 → Mem → Prop) (M : Mem) (h : w_Model_isName this a1 a2 a3 a4 Q M) : E γ k_Model_isName 0 0 [some (vr (some (11, this))), some (vi a1), some (vr (some (402, a2))), some (vi a3), some (vi a4), none, none] [] M (Qi Q) := by
  unfold w_Model_isName at h
  refine E_blk (lv' := [some (vr (some (11, this))), some (vi a1), some (vr (some (402, a2))), some (vi a3), some (vi a4), none, none]) (st' := [vr (mR M 11 this 1)]) (M1 := M) (pc' := 4) (tb_Model hγ) [.aload_n 0, .getfield 40] (by decide +kernel) rfl rfl trivial ?_
  obtain ⟨i1, ei1, h⟩ := h
  rw [ei1]
  obtain ⟨c2, h⟩ := h
  refine E_blk (lv' := [some (vr (some (11, this))), some (vi a1), some (vr (some (402, a2))), some (vi a3), some (vi a4), none, none]) (st' := [vi a4, vi (mI M 401 i1 a1.toNatClampNeg)]) (M1 := M) (pc' := 8) (tb_Model hγ) [.iload_n 1, .baload, .iload 4] (by decide +kernel) rfl rfl ⟨c2, trivial⟩ ?_
  refine E_icmp_ne (off := 7) (tgt := 15) (by decide +kernel) (by decide) (fun b3 => ?_) (fun b3 => ?_)
  · rw [if_pos b3] at h
    refine E_blk (lv' := [some (vr (some (11, this))), some (vi a1), some (vr (some (402, a2))), some (vi a3), some (vi a4), none, none]) (st' := [vi (1 : Int32)]) (M1 := M) (pc' := 12) (tb_Model hγ) [.iconst 1] (by decide +kernel) rfl rfl trivial ?_
    refine E_goto (off := 4) (tgt := 16) (by decide +kernel) (by decide) ?_
    refine E_mask [true, true, true, true, true, false, false] rfl ?_
    exact lk_Model_isName_j16 hγ this Q a1 a2 a3 a4 (1 : Int32) M h
  · rw [if_neg b3] at h
    refine E_blk (lv' := [some (vr (some (11, this))), some (vi a1), some (vr (some (402, a2))), some (vi a3), some (vi a4), none, none]) (st' := [vi (0 : Int32)]) (M1 := M) (pc' := 16) (tb_Model hγ) [.iconst 0] (by decide +kernel) rfl rfl trivial ?_
    refine E_mask [true, true, true, true, true, false, false] rfl ?_
    exact lk_Model_isName_j16 hγ this Q a1 a2 a3 a4 (0 : Int32) M h
set_option maxRecDepth 4096 in
theorem lk0_Model_isName_j59 {γ : Gm} (hγ : G0 γ) (this : Nat) (Q : Int32 → Mem → Prop) (k21 : Int32 → Nat → Int32 → Int32 → Int32 → Int32 → Mem → Prop) (hk21 : ∀ (v1 : Int32) (v2 : Nat) (v3 : Int32) (v4 : Int32) (v5 : Int32) (v6 : Int32) (M : Mem), k21 v1 v2 v3 v4 v5 v6 M → E γ k_Model_isName 0 21 [some (vr (some (11, this))), some (vi v1), some (vr (some (402, v2))), some (vi v3), some (vi v4), some (vi v5), some (vi v6)] [] M (Qi Q)) (v1 : Int32) (v2 : Nat) (v3 : Int32) (v4 : Int32) (v6 : Int32) (s0 : Int32) (M : Mem) (h : w_Model_isName_j59 this Q k21 v1 v2 v3 v4 v6 s0 M) : E γ k_Model_isName 0 59 [some (vr (some (11, this))), some (vi v1), some (vr (some (402, v2))), some (vi v3), some (vi v4), none, some (vi v6)] [vi s0] M (Qi Q) := by
  unfold w_Model_isName_j59 at h
  refine E_blk (lv' := [some (vr (some (11, this))), some (vi v1), some (vr (some (402, v2))), some (vi v3), some (vi v4), some (vi s0), some (vi (v6 + (1 : Int32)))]) (st' := []) (M1 := M) (pc' := 64) (tb0_Model hγ) [.istore 5, .iinc 6 1] (by decide +kernel) rfl rfl trivial ?_
  refine E_goto (off := -43) (tgt := 21) (by decide +kernel) (by decide) ?_
  refine E_mask [true, true, true, true, true, true, true] rfl ?_
  exact hk21 v1 v2 v3 v4 s0 (v6 + (1 : Int32)) M h
set_option maxRecDepth 4096 in
theorem lk0_Model_isName_L21 {γ : Gm} (hγ : G0 γ) (this : Nat) (Q : Int32 → Mem → Prop) : ∀ (n : Nat) (v1 : Int32) (v2 : Nat) (v3 : Int32) (v4 : Int32) (v5 : Int32) (v6 : Int32) (M : Mem), w_Model_isName_L21 this Q n v1 v2 v3 v4 v5 v6 M → E γ k_Model_isName 0 21 [some (vr (some (11, this))), some (vi v1), some (vr (some (402, v2))), some (vi v3), some (vi v4), some (vi v5), some (vi v6)] [] M (Qi Q) := by
  intro n
  induction n with
  | zero => intro v1 v2 v3 v4 v5 v6 M h; exact h.elim
  | succ n ih =>
    intro v1 v2 v3 v4 v5 v6 M h
    unfold w_Model_isName_L21 at h
    refine E_blk (lv' := [some (vr (some (11, this))), some (vi v1), some (vr (some (402, v2))), some (vi v3), some (vi v4), some (vi v5), some (vi v6)]) (st' := [vi v4, vi v6]) (M1 := M) (pc' := 25) (tb0_Model hγ) [.iload 6, .iload 4] (by decide +kernel) rfl rfl trivial ?_
    refine E_icmp_ge (off := 42) (tgt := 67) (by decide +kernel) (by decide) (fun b4 => ?_) (fun b4 => ?_)
    · rw [if_pos b4] at h
      refine E_blk (lv' := [some (vr (some (11, this))), some (vi v1), some (vr (some (402, v2))), some (vi v3), some (vi v4), some (vi v5), some (vi v6)]) (st' := [vi v5]) (M1 := M) (pc' := 69) (tb0_Model hγ) [.iload 5] (by decide +kernel) rfl rfl trivial ?_
      exact E_zret rfl h.1 (by decide +kernel) h.2
    · rw [if_neg b4] at h
      refine E_blk (lv' := [some (vr (some (11, this))), some (vi v1), some (vr (some (402, v2))), some (vi v3), some (vi v4), some (vi v5), some (vi v6)]) (st' := [vi v5]) (M1 := M) (pc' := 30) (tb0_Model hγ) [.iload 5] (by decide +kernel) rfl rfl trivial ?_
      refine E_if_eq (off := 37) (tgt := 67) (by decide +kernel) (by decide) (fun b5 => ?_) (fun b5 => ?_)
      · rw [if_pos b5] at h
        refine E_blk (lv' := [some (vr (some (11, this))), some (vi v1), some (vr (some (402, v2))), some (vi v3), some (vi v4), some (vi v5), some (vi v6)]) (st' := [vi v5]) (M1 := M) (pc' := 69) (tb0_Model hγ) [.iload 5] (by decide +kernel) rfl rfl trivial ?_
        exact E_zret rfl h.1 (by decide +kernel) h.2
      · rw [if_neg b5] at h
        refine E_blk (lv' := [some (vr (some (11, this))), some (vi v1), some (vr (some (402, v2))), some (vi v3), some (vi v4), some (vi v5), some (vi v6)]) (st' := [vr (mR M 11 this 0)]) (M1 := M) (pc' := 37) (tb0_Model hγ) [.aload_n 0, .getfield 28] (by decide +kernel) rfl rfl trivial ?_
        obtain ⟨i6, ei6, h⟩ := h
        rw [ei6]
        obtain ⟨c7, c8, h⟩ := h
        refine E_blk (lv' := [some (vr (some (11, this))), some (vi v1), some (vr (some (402, v2))), some (vi v3), some (vi v4), some (vi v5), some (vi v6)]) (st' := [vi (mI M 402 v2 (v3 + v6).toNatClampNeg), vi (mI M 401 i6 (((12 : Int32) * v1) + v6).toNatClampNeg)]) (M1 := M) (pc' := 51) (tb0_Model hγ) [.bipush 12, .iload_n 1, .imul, .iload 6, .iadd, .baload, .aload_n 2, .iload_n 3, .iload 6, .iadd, .baload] (by decide +kernel) rfl rfl ⟨c7, c8, trivial⟩ ?_
        refine E_icmp_ne (off := 7) (tgt := 58) (by decide +kernel) (by decide) (fun b9 => ?_) (fun b9 => ?_)
        · rw [if_pos b9] at h
          refine E_blk (lv' := [some (vr (some (11, this))), some (vi v1), some (vr (some (402, v2))), some (vi v3), some (vi v4), some (vi v5), some (vi v6)]) (st' := [vi (1 : Int32)]) (M1 := M) (pc' := 55) (tb0_Model hγ) [.iconst 1] (by decide +kernel) rfl rfl trivial ?_
          refine E_goto (off := 4) (tgt := 59) (by decide +kernel) (by decide) ?_
          refine E_mask [true, true, true, true, true, false, true] rfl ?_
          exact lk0_Model_isName_j59 hγ this Q (w_Model_isName_L21 this Q n) ih v1 v2 v3 v4 v6 (1 : Int32) M h
        · rw [if_neg b9] at h
          refine E_blk (lv' := [some (vr (some (11, this))), some (vi v1), some (vr (some (402, v2))), some (vi v3), some (vi v4), some (vi v5), some (vi v6)]) (st' := [vi (0 : Int32)]) (M1 := M) (pc' := 59) (tb0_Model hγ) [.iconst 0] (by decide +kernel) rfl rfl trivial ?_
          refine E_mask [true, true, true, true, true, false, true] rfl ?_
          exact lk0_Model_isName_j59 hγ this Q (w_Model_isName_L21 this Q n) ih v1 v2 v3 v4 v6 (0 : Int32) M h
set_option maxRecDepth 4096 in
theorem lk0_Model_isName_j16 {γ : Gm} (hγ : G0 γ) (this : Nat) (Q : Int32 → Mem → Prop) (v1 : Int32) (v2 : Nat) (v3 : Int32) (v4 : Int32) (s0 : Int32) (M : Mem) (h : w_Model_isName_j16 this Q v1 v2 v3 v4 s0 M) : E γ k_Model_isName 0 16 [some (vr (some (11, this))), some (vi v1), some (vr (some (402, v2))), some (vi v3), some (vi v4), none, none] [vi s0] M (Qi Q) := by
  unfold w_Model_isName_j16 at h
  refine E_blk (lv' := [some (vr (some (11, this))), some (vi v1), some (vr (some (402, v2))), some (vi v3), some (vi v4), some (vi s0), some (vi (0 : Int32))]) (st' := []) (M1 := M) (pc' := 21) (tb0_Model hγ) [.istore 5, .iconst 0, .istore 6] (by decide +kernel) rfl rfl trivial ?_
  obtain ⟨n10, h⟩ := h
  refine E_mask [true, true, true, true, true, true, true] rfl ?_
  exact lk0_Model_isName_L21 hγ this Q n10 v1 v2 v3 v4 s0 (0 : Int32) M h
set_option maxRecDepth 4096 in
theorem lk0_Model_isName {γ : Gm} (hγ : G0 γ) (this : Nat) (a1 : Int32) (a2 : Nat) (a3 : Int32) (a4 : Int32) (Q : Int32 → Mem → Prop) (M : Mem) (h : w_Model_isName this a1 a2 a3 a4 Q M) : E γ k_Model_isName 0 0 [some (vr (some (11, this))), some (vi a1), some (vr (some (402, a2))), some (vi a3), some (vi a4), none, none] [] M (Qi Q) := by
  unfold w_Model_isName at h
  refine E_blk (lv' := [some (vr (some (11, this))), some (vi a1), some (vr (some (402, a2))), some (vi a3), some (vi a4), none, none]) (st' := [vr (mR M 11 this 1)]) (M1 := M) (pc' := 4) (tb0_Model hγ) [.aload_n 0, .getfield 40] (by decide +kernel) rfl rfl trivial ?_
  obtain ⟨i1, ei1, h⟩ := h
  rw [ei1]
  obtain ⟨c2, h⟩ := h
  refine E_blk (lv' := [some (vr (some (11, this))), some (vi a1), some (vr (some (402, a2))), some (vi a3), some (vi a4), none, none]) (st' := [vi a4, vi (mI M 401 i1 a1.toNatClampNeg)]) (M1 := M) (pc' := 8) (tb0_Model hγ) [.iload_n 1, .baload, .iload 4] (by decide +kernel) rfl rfl ⟨c2, trivial⟩ ?_
  refine E_icmp_ne (off := 7) (tgt := 15) (by decide +kernel) (by decide) (fun b3 => ?_) (fun b3 => ?_)
  · rw [if_pos b3] at h
    refine E_blk (lv' := [some (vr (some (11, this))), some (vi a1), some (vr (some (402, a2))), some (vi a3), some (vi a4), none, none]) (st' := [vi (1 : Int32)]) (M1 := M) (pc' := 12) (tb0_Model hγ) [.iconst 1] (by decide +kernel) rfl rfl trivial ?_
    refine E_goto (off := 4) (tgt := 16) (by decide +kernel) (by decide) ?_
    refine E_mask [true, true, true, true, true, false, false] rfl ?_
    exact lk0_Model_isName_j16 hγ this Q a1 a2 a3 a4 (1 : Int32) M h
  · rw [if_neg b3] at h
    refine E_blk (lv' := [some (vr (some (11, this))), some (vi a1), some (vr (some (402, a2))), some (vi a3), some (vi a4), none, none]) (st' := [vi (0 : Int32)]) (M1 := M) (pc' := 16) (tb0_Model hγ) [.iconst 0] (by decide +kernel) rfl rfl trivial ?_
    refine E_mask [true, true, true, true, true, false, false] rfl ?_
    exact lk0_Model_isName_j16 hγ this Q a1 a2 a3 a4 (0 : Int32) M h
