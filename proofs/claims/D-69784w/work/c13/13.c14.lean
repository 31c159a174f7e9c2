def k_Model_inFaces : Kp := (⟨"ClassWorksModel", "inFaces", "(IIIZ)I"⟩, prog_13_method_85_code, 8, some (.int), [])
theorem mv_Model_inFaces : MV k_Model_inFaces 11 4 := ⟨⟨_, rfl, rfl⟩, by decide, (tbk_mem (j := 16) (k := 93) rfl), Or.inr ⟨(tbk_mem (j := 16) (k := 92) rfl), 131, (tbk_mem (j := 11) (k := 41) rfl)⟩, Or.inl ⟨rfl, (tbk_mem (j := 16) (k := 94) rfl)⟩, ⟨by decide, by decide⟩, by decide +kernel, by decide +kernel, by decide⟩
def k_Model_findMethod : Kp := (⟨"ClassWorksModel", "findMethod", "(IIIII)I"⟩, prog_13_method_84_code, 10, some (.int), [])
theorem mv_Model_findMethod : MV k_Model_findMethod 11 5 := ⟨⟨_, rfl, rfl⟩, by decide, (tbk_mem (j := 16) (k := 81) rfl), Or.inr ⟨(tbk_mem (j := 16) (k := 80) rfl), 131, (tbk_mem (j := 11) (k := 41) rfl)⟩, Or.inl ⟨rfl, (tbk_mem (j := 16) (k := 82) rfl)⟩, ⟨by decide, by decide⟩, by decide +kernel, by decide +kernel, by decide⟩
def k_Model_dispatch : Kp := (⟨"ClassWorksModel", "dispatch", "(III)I"⟩, prog_13_method_86_code, 7, some (.int), [])
theorem mv_Model_dispatch : MV k_Model_dispatch 11 3 := ⟨⟨_, rfl, rfl⟩, by decide, (tbk_mem (j := 16) (k := 197) rfl), Or.inr ⟨(tbk_mem (j := 16) (k := 196) rfl), 131, (tbk_mem (j := 11) (k := 41) rfl)⟩, Or.inl ⟨rfl, (tbk_mem (j := 16) (k := 198) rfl)⟩, ⟨by decide, by decide⟩, by decide +kernel, by decide +kernel, by decide⟩
def k_Model_classOfRef : Kp := (⟨"ClassWorksModel", "classOfRef", "(I)I"⟩, prog_13_method_87_code, 2, some (.int), [])
theorem mv_Model_classOfRef : MV k_Model_classOfRef 11 1 := ⟨⟨_, rfl, rfl⟩, by decide, (tbk_mem (j := 16) (k := 129) rfl), Or.inr ⟨(tbk_mem (j := 16) (k := 128) rfl), 131, (tbk_mem (j := 11) (k := 41) rfl)⟩, Or.inl ⟨rfl, (tbk_mem (j := 16) (k := 130) rfl)⟩, ⟨by decide, by decide⟩, by decide +kernel, by decide +kernel, by decide⟩
def k_Model_newFault : Kp := (⟨"ClassWorksModel", "newFault", "(II)I"⟩, prog_13_method_88_code, 4, some (.int), [])
theorem mv_Model_newFault : MV k_Model_newFault 11 2 := ⟨⟨_, rfl, rfl⟩, by decide, (tbk_mem (j := 16) (k := 117) rfl), Or.inr ⟨(tbk_mem (j := 16) (k := 116) rfl), 131, (tbk_mem (j := 11) (k := 41) rfl)⟩, Or.inl ⟨rfl, (tbk_mem (j := 16) (k := 118) rfl)⟩, ⟨by decide, by decide⟩, by decide +kernel, by decide +kernel, by decide⟩
def k_Model_newThing : Kp := (⟨"ClassWorksModel", "newThing", "(II)I"⟩, prog_13_method_89_code, 5, some (.int), [])
theorem mv_Model_newThing : MV k_Model_newThing 11 2 := ⟨⟨_, rfl, rfl⟩, by decide, (tbk_mem (j := 16) (k := 205) rfl), Or.inr ⟨(tbk_mem (j := 16) (k := 204) rfl), 131, (tbk_mem (j := 11) (k := 41) rfl)⟩, Or.inl ⟨rfl, (tbk_mem (j := 16) (k := 206) rfl)⟩, ⟨by decide, by decide⟩, by decide +kernel, by decide +kernel, by decide⟩
def k_Model_ownFields : Kp := (⟨"ClassWorksModel", "ownFields", "(II)I"⟩, prog_13_method_91_code, 5, some (.int), [])
theorem mv_Model_ownFields : MV k_Model_ownFields 11 2 := ⟨⟨_, rfl, rfl⟩, by decide, (tbk_mem (j := 16) (k := 189) rfl), Or.inr ⟨(tbk_mem (j := 16) (k := 188) rfl), 131, (tbk_mem (j := 11) (k := 41) rfl)⟩, Or.inl ⟨rfl, (tbk_mem (j := 16) (k := 190) rfl)⟩, ⟨by decide, by decide⟩, by decide +kernel, by decide +kernel, by decide⟩
def k_Model_fieldsOf : Kp := (⟨"ClassWorksModel", "fieldsOf", "(I)I"⟩, prog_13_method_90_code, 4, some (.int), [])
theorem mv_Model_fieldsOf : MV k_Model_fieldsOf 11 1 := ⟨⟨_, rfl, rfl⟩, by decide, (tbk_mem (j := 16) (k := 185) rfl), Or.inr ⟨(tbk_mem (j := 16) (k := 184) rfl), 131, (tbk_mem (j := 11) (k := 41) rfl)⟩, Or.inl ⟨rfl, (tbk_mem (j := 16) (k := 186) rfl)⟩, ⟨by decide, by decide⟩, by decide +kernel, by decide +kernel, by decide⟩
def k_Model_slotOf : Kp := (⟨"ClassWorksModel", "slotOf", "(I)I"⟩, prog_13_method_92_code, 4, some (.int), [])
theorem mv_Model_slotOf : MV k_Model_slotOf 11 1 := ⟨⟨_, rfl, rfl⟩, by decide, (tbk_mem (j := 16) (k := 181) rfl), Or.inr ⟨(tbk_mem (j := 16) (k := 180) rfl), 131, (tbk_mem (j := 11) (k := 41) rfl)⟩, Or.inl ⟨rfl, (tbk_mem (j := 16) (k := 182) rfl)⟩, ⟨by decide, by decide⟩, by decide +kernel, by decide +kernel, by decide⟩
def k_Model_note : Kp := (⟨"ClassWorksModel", "note", "(II)V"⟩, prog_13_method_93_code, 4, none, [])
theorem mv_Model_note : MV k_Model_note 11 2 := ⟨⟨_, rfl, rfl⟩, by decide, (tbk_mem (j := 16) (k := 109) rfl), Or.inr ⟨(tbk_mem (j := 16) (k := 108) rfl), 131, (tbk_mem (j := 11) (k := 41) rfl)⟩, Or.inl ⟨rfl, (tbk_mem (j := 16) (k := 110) rfl)⟩, ⟨by decide, by decide⟩, by decide +kernel, by decide +kernel, by decide⟩
def k_Model_newFrame : Kp := (⟨"ClassWorksModel", "newFrame", "(I)V"⟩, prog_13_method_94_code, 4, none, [])
theorem mv_Model_newFrame : MV k_Model_newFrame 11 1 := ⟨⟨_, rfl, rfl⟩, by decide, (tbk_mem (j := 16) (k := 141) rfl), Or.inr ⟨(tbk_mem (j := 16) (k := 140) rfl), 131, (tbk_mem (j := 11) (k := 41) rfl)⟩, Or.inl ⟨rfl, (tbk_mem (j := 16) (k := 142) rfl)⟩, ⟨by decide, by decide⟩, by decide +kernel, by decide +kernel, by decide⟩
def k_Model_push : Kp := (⟨"ClassWorksModel", "push", "(IIZ)V"⟩, prog_13_method_95_code, 5, none, [])
theorem mv_Model_push : MV k_Model_push 11 3 := ⟨⟨_, rfl, rfl⟩, by decide, (tbk_mem (j := 16) (k := 137) rfl), Or.inr ⟨(tbk_mem (j := 16) (k := 136) rfl), 131, (tbk_mem (j := 11) (k := 41) rfl)⟩, Or.inl ⟨rfl, (tbk_mem (j := 16) (k := 138) rfl)⟩, ⟨by decide, by decide⟩, by decide +kernel, by decide +kernel, by decide⟩
def k_Model_pop : Kp := (⟨"ClassWorksModel", "pop", "(I)I"⟩, prog_13_method_96_code, 2, some (.int), [])
theorem mv_Model_pop : MV k_Model_pop 11 1 := ⟨⟨_, rfl, rfl⟩, by decide, (tbk_mem (j := 16) (k := 177) rfl), Or.inr ⟨(tbk_mem (j := 16) (k := 176) rfl), 131, (tbk_mem (j := 11) (k := 41) rfl)⟩, Or.inl ⟨rfl, (tbk_mem (j := 16) (k := 178) rfl)⟩, ⟨by decide, by decide⟩, by decide +kernel, by decide +kernel, by decide⟩
def k_Model_topRefers : Kp := (⟨"ClassWorksModel", "topRefers", "(I)Z"⟩, prog_13_method_97_code, 2, some (.boolean), [])
theorem mv_Model_topRefers : MV k_Model_topRefers 11 1 := ⟨⟨_, rfl, rfl⟩, by decide, (tbk_mem (j := 16) (k := 233) rfl), Or.inr ⟨(tbk_mem (j := 16) (k := 232) rfl), 131, (tbk_mem (j := 11) (k := 41) rfl)⟩, Or.inl ⟨rfl, (tbk_mem (j := 16) (k := 234) rfl)⟩, ⟨by decide, by decide⟩, by decide +kernel, by decide +kernel, by decide⟩
def k_Model_handlerOf : Kp := (⟨"ClassWorksModel", "handlerOf", "(II)I"⟩, prog_13_method_99_code, 7, some (.int), [])
theorem mv_Model_handlerOf : MV k_Model_handlerOf 11 2 := ⟨⟨_, rfl, rfl⟩, by decide, (tbk_mem (j := 16) (k := 125) rfl), Or.inr ⟨(tbk_mem (j := 16) (k := 124) rfl), 131, (tbk_mem (j := 11) (k := 41) rfl)⟩, Or.inl ⟨rfl, (tbk_mem (j := 16) (k := 126) rfl)⟩, ⟨by decide, by decide⟩, by decide +kernel, by decide +kernel, by decide⟩
def k_Model_unwind : Kp := (⟨"ClassWorksModel", "unwind", "(I)V"⟩, prog_13_method_100_code, 6, none, [])
theorem mv_Model_unwind : MV k_Model_unwind 11 1 := ⟨⟨_, rfl, rfl⟩, by decide, (tbk_mem (j := 16) (k := 121) rfl), Or.inr ⟨(tbk_mem (j := 16) (k := 120) rfl), 131, (tbk_mem (j := 11) (k := 41) rfl)⟩, Or.inl ⟨rfl, (tbk_mem (j := 16) (k := 122) rfl)⟩, ⟨by decide, by decide⟩, by decide +kernel, by decide +kernel, by decide⟩
def k_Model_throwNew : Kp := (⟨"ClassWorksModel", "throwNew", "(II)V"⟩, prog_13_method_98_code, 3, none, [])
theorem mv_Model_throwNew : MV k_Model_throwNew 11 2 := ⟨⟨_, rfl, rfl⟩, by decide, (tbk_mem (j := 16) (k := 113) rfl), Or.inr ⟨(tbk_mem (j := 16) (k := 112) rfl), 131, (tbk_mem (j := 11) (k := 41) rfl)⟩, Or.inl ⟨rfl, (tbk_mem (j := 16) (k := 114) rfl)⟩, ⟨by decide, by decide⟩, by decide +kernel, by decide +kernel, by decide⟩
def k_Model_endStart : Kp := (⟨"ClassWorksModel", "endStart", "(I)V"⟩, prog_13_method_102_code, 3, none, [])
theorem mv_Model_endStart : MV k_Model_endStart 11 1 := ⟨⟨_, rfl, rfl⟩, by decide, (tbk_mem (j := 16) (k := 149) rfl), Or.inr ⟨(tbk_mem (j := 16) (k := 148) rfl), 131, (tbk_mem (j := 11) (k := 41) rfl)⟩, Or.inl ⟨rfl, (tbk_mem (j := 16) (k := 150) rfl)⟩, ⟨by decide, by decide⟩, by decide +kernel, by decide +kernel, by decide⟩
def k_Model_endFrame : Kp := (⟨"ClassWorksModel", "endFrame", "(IIZ)V"⟩, prog_13_method_101_code, 6, none, [])
theorem mv_Model_endFrame : MV k_Model_endFrame 11 3 := ⟨⟨_, rfl, rfl⟩, by decide, (tbk_mem (j := 17) (k := 1) rfl), Or.inr ⟨(tbk_mem (j := 17) (k := 0) rfl), 131, (tbk_mem (j := 11) (k := 41) rfl)⟩, Or.inl ⟨rfl, (tbk_mem (j := 17) (k := 2) rfl)⟩, ⟨by decide, by decide⟩, by decide +kernel, by decide +kernel, by decide⟩
def k_Model_startOf : Kp := (⟨"ClassWorksModel", "startOf", "(I)I"⟩, prog_13_method_103_code, 3, some (.int), [])
theorem mv_Model_startOf : MV k_Model_startOf 11 1 := ⟨⟨_, rfl, rfl⟩, by decide, (tbk_mem (j := 16) (k := 105) rfl), Or.inr ⟨(tbk_mem (j := 16) (k := 104) rfl), 131, (tbk_mem (j := 11) (k := 41) rfl)⟩, Or.inl ⟨rfl, (tbk_mem (j := 16) (k := 106) rfl)⟩, ⟨by decide, by decide⟩, by decide +kernel, by decide +kernel, by decide⟩
def k_Model_startOn : Kp := (⟨"ClassWorksModel", "startOn", "()I"⟩, prog_13_method_104_code, 4, some (.int), [])
theorem mv_Model_startOn : MV k_Model_startOn 11 0 := ⟨⟨_, rfl, rfl⟩, by decide, (tbk_mem (j := 16) (k := 145) rfl), Or.inr ⟨(tbk_mem (j := 16) (k := 144) rfl), 131, (tbk_mem (j := 11) (k := 41) rfl)⟩, Or.inl ⟨rfl, (tbk_mem (j := 16) (k := 146) rfl)⟩, ⟨by decide, by decide⟩, by decide +kernel, by decide +kernel, by decide⟩
def k_Model_tally : Kp := (⟨"ClassWorksModel", "tally", "(I)V"⟩, prog_13_method_106_code, 2, none, [])
theorem mv_Model_tally : MV k_Model_tally 11 1 := ⟨⟨_, rfl, rfl⟩, by decide, (tbk_mem (j := 16) (k := 173) rfl), Or.inr ⟨(tbk_mem (j := 16) (k := 172) rfl), 131, (tbk_mem (j := 11) (k := 41) rfl)⟩, Or.inl ⟨rfl, (tbk_mem (j := 16) (k := 174) rfl)⟩, ⟨by decide, by decide⟩, by decide +kernel, by decide +kernel, by decide⟩
def k_Model_throwsAt : Kp := (⟨"ClassWorksModel", "throwsAt", "(III)I"⟩, prog_13_method_107_code, 4, some (.int), [])
theorem mv_Model_throwsAt : MV k_Model_throwsAt 11 3 := ⟨⟨_, rfl, rfl⟩, by decide, (tbk_mem (j := 16) (k := 169) rfl), Or.inr ⟨(tbk_mem (j := 16) (k := 168) rfl), 131, (tbk_mem (j := 11) (k := 41) rfl)⟩, Or.inl ⟨rfl, (tbk_mem (j := 16) (k := 170) rfl)⟩, ⟨by decide, by decide⟩, by decide +kernel, by decide +kernel, by decide⟩
def k_Model_fieldStep : Kp := (⟨"ClassWorksModel", "fieldStep", "(IIII)I"⟩, prog_13_method_114_code, 10, some (.int), [])
theorem mv_Model_fieldStep : MV k_Model_fieldStep 11 4 := ⟨⟨_, rfl, rfl⟩, by decide, (tbk_mem (j := 16) (k := 157) rfl), Or.inr ⟨(tbk_mem (j := 16) (k := 156) rfl), 131, (tbk_mem (j := 11) (k := 41) rfl)⟩, Or.inl ⟨rfl, (tbk_mem (j := 16) (k := 158) rfl)⟩, ⟨by decide, by decide⟩, by decide +kernel, by decide +kernel, by decide⟩
def k_Model_callStep : Kp := (⟨"ClassWorksModel", "callStep", "(IIII)I"⟩, prog_13_method_120_code, 13, some (.int), [])
theorem mv_Model_callStep : MV k_Model_callStep 11 4 := ⟨⟨_, rfl, rfl⟩, by decide, (tbk_mem (j := 16) (k := 193) rfl), Or.inr ⟨(tbk_mem (j := 16) (k := 192) rfl), 131, (tbk_mem (j := 11) (k := 41) rfl)⟩, Or.inl ⟨rfl, (tbk_mem (j := 16) (k := 194) rfl)⟩, ⟨by decide, by decide⟩, by decide +kernel, by decide +kernel, by decide⟩
def k_Model_newStep : Kp := (⟨"ClassWorksModel", "newStep", "(II)I"⟩, prog_13_method_113_code, 6, some (.int), [])
theorem mv_Model_newStep : MV k_Model_newStep 11 2 := ⟨⟨_, rfl, rfl⟩, by decide, (tbk_mem (j := 16) (k := 201) rfl), Or.inr ⟨(tbk_mem (j := 16) (k := 200) rfl), 131, (tbk_mem (j := 11) (k := 41) rfl)⟩, Or.inl ⟨rfl, (tbk_mem (j := 16) (k := 202) rfl)⟩, ⟨by decide, by decide⟩, by decide +kernel, by decide +kernel, by decide⟩
def k_Model_classStep : Kp := (⟨"ClassWorksModel", "classStep", "(III)I"⟩, prog_13_method_115_code, 8, some (.int), [])
theorem mv_Model_classStep : MV k_Model_classStep 11 3 := ⟨⟨_, rfl, rfl⟩, by decide, (tbk_mem (j := 16) (k := 209) rfl), Or.inr ⟨(tbk_mem (j := 16) (k := 208) rfl), 131, (tbk_mem (j := 11) (k := 41) rfl)⟩, Or.inl ⟨rfl, (tbk_mem (j := 16) (k := 210) rfl)⟩, ⟨by decide, by decide⟩, by decide +kernel, by decide +kernel, by decide⟩
def k_Model_locksOf : Kp := (⟨"ClassWorksModel", "locksOf", "(I)I"⟩, prog_13_method_116_code, 2, some (.int), [])
theorem mv_Model_locksOf : MV k_Model_locksOf 11 1 := ⟨⟨_, rfl, rfl⟩, by decide, (tbk_mem (j := 16) (k := 69) rfl), Or.inr ⟨(tbk_mem (j := 16) (k := 68) rfl), 131, (tbk_mem (j := 11) (k := 41) rfl)⟩, Or.inl ⟨rfl, (tbk_mem (j := 16) (k := 70) rfl)⟩, ⟨by decide, by decide⟩, by decide +kernel, by decide +kernel, by decide⟩
def k_Model_ownerOf : Kp := (⟨"ClassWorksModel", "ownerOf", "(I)I"⟩, prog_13_method_117_code, 2, some (.int), [])
theorem mv_Model_ownerOf : MV k_Model_ownerOf 11 1 := ⟨⟨_, rfl, rfl⟩, by decide, (tbk_mem (j := 16) (k := 73) rfl), Or.inr ⟨(tbk_mem (j := 16) (k := 72) rfl), 131, (tbk_mem (j := 11) (k := 41) rfl)⟩, Or.inl ⟨rfl, (tbk_mem (j := 16) (k := 74) rfl)⟩, ⟨by decide, by decide⟩, by decide +kernel, by decide +kernel, by decide⟩
def k_Model_lock : Kp := (⟨"ClassWorksModel", "lock", "(II)V"⟩, prog_13_method_118_code, 3, none, [])
theorem mv_Model_lock : MV k_Model_lock 11 2 := ⟨⟨_, rfl, rfl⟩, by decide, (tbk_mem (j := 16) (k := 217) rfl), Or.inr ⟨(tbk_mem (j := 16) (k := 216) rfl), 131, (tbk_mem (j := 11) (k := 41) rfl)⟩, Or.inl ⟨rfl, (tbk_mem (j := 16) (k := 218) rfl)⟩, ⟨by decide, by decide⟩, by decide +kernel, by decide +kernel, by decide⟩
def k_Model_lockStep : Kp := (⟨"ClassWorksModel", "lockStep", "(II)I"⟩, prog_13_method_119_code, 5, some (.int), [])
theorem mv_Model_lockStep : MV k_Model_lockStep 11 2 := ⟨⟨_, rfl, rfl⟩, by decide, (tbk_mem (j := 16) (k := 213) rfl), Or.inr ⟨(tbk_mem (j := 16) (k := 212) rfl), 131, (tbk_mem (j := 11) (k := 41) rfl)⟩, Or.inl ⟨rfl, (tbk_mem (j := 16) (k := 214) rfl)⟩, ⟨by decide, by decide⟩, by decide +kernel, by decide +kernel, by decide⟩
def w_Model_inFaces_j97 (this : Nat) (Q : Int32 → Mem → Prop) (k12 : Int32 → Int32 → Int32 → Int32 → Int32 → Mem → Prop) (v2 : Int32) (v3 : Int32) (v4 : Int32) (v5 : Int32) (v6 : Int32) (M : Mem) : Prop :=
  k12 v2 v3 v4 v5 (v6 + (1 : Int32)) M
def w_Model_inFaces_j95 (this : Nat) (Q : Int32 → Mem → Prop) (k12 : Int32 → Int32 → Int32 → Int32 → Int32 → Mem → Prop) (v2 : Int32) (v3 : Int32) (v4 : Int32) (v6 : Int32) (s0 : Int32) (M : Mem) : Prop :=
  w_Model_inFaces_j97 this Q k12 v2 v3 v4 s0 v6 M
def w_Model_inFaces_j64 (this : Nat) (Q : Int32 → Mem → Prop) (k12 : Int32 → Int32 → Int32 → Int32 → Int32 → Mem → Prop) (v2 : Int32) (v3 : Int32) (v4 : Int32) (v5 : Int32) (v6 : Int32) (v7 : Int32) (M : Mem) : Prop :=
  ∃ i8, (mR M 11 this 45) = some (12, i8) ∧ vp_in v7 (mL M 146 i8) ∧ if ((mI M 146 i8 v7.toNatClampNeg) &&& (8 : Int32)) = 0 then (Q v7 M) else (if 0 ≤ v5 then (w_Model_inFaces_j95 this Q k12 v2 v3 v4 v6 v5 M) else (w_Model_inFaces_j95 this Q k12 v2 v3 v4 v6 v7 M))
def w_Model_inFaces_L12 (this : Nat) (Q : Int32 → Mem → Prop) : Nat → Int32 → Int32 → Int32 → Int32 → Int32 → Mem → Prop
  | 0, _, _, _, _, _, _ => False
  | n + 1, v2, v3, v4, v5, v6, M => if (mI M 11 this 68) ≤ v6 then (Q v5 M) else (vp_in v6 (mL M 110 this) ∧ w_Model_methodIn this (mI M 110 this v6.toNatClampNeg) v2 v3 (fun r5 M4 => if r5 < 0 then (w_Model_inFaces_j97 this Q (w_Model_inFaces_L12 this Q n) v2 v3 v4 v5 v6 M4) else (if v4 = 0 then (w_Model_inFaces_j64 this Q (w_Model_inFaces_L12 this Q n) v2 v3 v4 v5 v6 r5 M4) else (∃ i12, (mR M4 11 this 45) = some (12, i12) ∧ vp_in r5 (mL M4 146 i12) ∧ if ((mI M4 146 i12 r5.toNatClampNeg) &&& (5 : Int32)) = 0 then (w_Model_inFaces_j64 this Q (w_Model_inFaces_L12 this Q n) v2 v3 v4 v5 v6 r5 M4) else (w_Model_inFaces_j97 this Q (w_Model_inFaces_L12 this Q n) v2 v3 v4 v5 v6 M4)))) M)
def w_Model_inFaces (this : Nat) (a1 : Int32) (a2 : Int32) (a3 : Int32) (a4 : Int32) (Q : Int32 → Mem → Prop) (M : Mem) : Prop :=
  w_Model_listFaces this a1 (fun M1 => ∃ n15 : Nat, w_Model_inFaces_L12 this Q n15 a2 a3 a4 (-2 : Int32) (0 : Int32) M1) M
set_option maxRecDepth 4096 in
theorem lk_Model_inFaces_j97 {γ : Gm} (hγ : Gk γ) (this : Nat) (Q : Int32 → Mem → Prop) (k12 : Int32 → Int32 → Int32 → Int32 → Int32 → Mem → Prop) (hk12 : ∀ (v2 : Int32) (v3 : Int32) (v4 : Int32) (v5 : Int32) (v6 : Int32) (M : Mem), k12 v2 v3 v4 v5 v6 M → E γ k_Model_inFaces 63 12 [some (vr (some (11, this))), none, some (vi v2), some (vi v3), some (vi v4), some (vi v5), some (vi v6), none] [] M (Qi Q)) (v2 : Int32) (v3 : Int32) (v4 : Int32) (v5 : Int32) (v6 : Int32) (M : Mem) (h : w_Model_inFaces_j97 this Q k12 v2 v3 v4 v5 v6 M) : E γ k_Model_inFaces 63 97 [some (vr (some (11, this))), none, some (vi v2), some (vi v3), some (vi v4), some (vi v5), some (vi v6), none] [] M (Qi Q) := by
  unfold w_Model_inFaces_j97 at h
  refine E_blk (lv' := [some (vr (some (11, this))), none, some (vi v2), some (vi v3), some (vi v4), some (vi v5), some (vi (v6 + (1 : Int32))), none]) (st' := []) (M1 := M) (pc' := 100) (tb_Model hγ) [.iinc 6 1] (by decide +kernel) rfl rfl trivial ?_
  refine E_goto (off := -88) (tgt := 12) (by decide +kernel) (by decide) ?_
  refine E_mask [true, false, true, true, true, true, true, false] rfl ?_
  exact hk12 v2 v3 v4 v5 (v6 + (1 : Int32)) M h
set_option maxRecDepth 4096 in
theorem lk_Model_inFaces_j95 {γ : Gm} (hγ : Gk γ) (this : Nat) (Q : Int32 → Mem → Prop) (k12 : Int32 → Int32 → Int32 → Int32 → Int32 → Mem → Prop) (hk12 : ∀ (v2 : Int32) (v3 : Int32) (v4 : Int32) (v5 : Int32) (v6 : Int32) (M : Mem), k12 v2 v3 v4 v5 v6 M → E γ k_Model_inFaces 63 12 [some (vr (some (11, this))), none, some (vi v2), some (vi v3), some (vi v4), some (vi v5), some (vi v6), none] [] M (Qi Q)) (v2 : Int32) (v3 : Int32) (v4 : Int32) (v6 : Int32) (s0 : Int32) (M : Mem) (h : w_Model_inFaces_j95 this Q k12 v2 v3 v4 v6 s0 M) : E γ k_Model_inFaces 63 95 [some (vr (some (11, this))), none, some (vi v2), some (vi v3), some (vi v4), none, some (vi v6), none] [vi s0] M (Qi Q) := by
  unfold w_Model_inFaces_j95 at h
  refine E_blk (lv' := [some (vr (some (11, this))), none, some (vi v2), some (vi v3), some (vi v4), some (vi s0), some (vi v6), none]) (st' := []) (M1 := M) (pc' := 97) (tb_Model hγ) [.istore 5] (by decide +kernel) rfl rfl trivial ?_
  refine E_mask [true, false, true, true, true, true, true, false] rfl ?_
  exact lk_Model_inFaces_j97 hγ this Q k12 hk12 v2 v3 v4 s0 v6 M h
set_option maxRecDepth 4096 in
theorem lk_Model_inFaces_j64 {γ : Gm} (hγ : Gk γ) (this : Nat) (Q : Int32 → Mem → Prop) (k12 : Int32 → Int32 → Int32 → Int32 → Int32 → Mem → Prop) (hk12 : ∀ (v2 : Int32) (v3 : Int32) (v4 : Int32) (v5 : Int32) (v6 : Int32) (M : Mem), k12 v2 v3 v4 v5 v6 M → E γ k_Model_inFaces 63 12 [some (vr (some (11, this))), none, some (vi v2), some (vi v3), some (vi v4), some (vi v5), some (vi v6), none] [] M (Qi Q)) (v2 : Int32) (v3 : Int32) (v4 : Int32) (v5 : Int32) (v6 : Int32) (v7 : Int32) (M : Mem) (h : w_Model_inFaces_j64 this Q k12 v2 v3 v4 v5 v6 v7 M) : E γ k_Model_inFaces 63 64 [some (vr (some (11, this))), none, some (vi v2), some (vi v3), some (vi v4), some (vi v5), some (vi v6), some (vi v7)] [] M (Qi Q) := by
  unfold w_Model_inFaces_j64 at h
  refine E_blk (lv' := [some (vr (some (11, this))), none, some (vi v2), some (vi v3), some (vi v4), some (vi v5), some (vi v6), some (vi v7)]) (st' := [vr (mR M 11 this 45)]) (M1 := M) (pc' := 68) (tb_Model hγ) [.aload_n 0, .getfield 522] (by decide +kernel) rfl rfl trivial ?_
  obtain ⟨i8, ei8, h⟩ := h
  rw [ei8]
  obtain ⟨c9, h⟩ := h
  refine E_blk (lv' := [some (vr (some (11, this))), none, some (vi v2), some (vi v3), some (vi v4), some (vi v5), some (vi v6), some (vi v7)]) (st' := [vi ((mI M 146 i8 v7.toNatClampNeg) &&& (8 : Int32))]) (M1 := M) (pc' := 77) (tb_Model hγ) [.getfield 453, .iload 7, .iaload, .bipush 8, .iand] (by decide +kernel) rfl rfl ⟨c9, trivial⟩ ?_
  refine E_if_ne (off := 6) (tgt := 83) (by decide +kernel) (by decide) (fun b10 => ?_) (fun b10 => ?_)
  · rw [if_pos b10] at h
    refine E_blk (lv' := [some (vr (some (11, this))), none, some (vi v2), some (vi v3), some (vi v4), some (vi v5), some (vi v6), some (vi v7)]) (st' := [vi v7]) (M1 := M) (pc' := 82) (tb_Model hγ) [.iload 7] (by decide +kernel) rfl rfl trivial ?_
    exact E_iret rfl (by decide +kernel) h
  · rw [if_neg b10] at h
    refine E_blk (lv' := [some (vr (some (11, this))), none, some (vi v2), some (vi v3), some (vi v4), some (vi v5), some (vi v6), some (vi v7)]) (st' := [vi v5]) (M1 := M) (pc' := 85) (tb_Model hγ) [.iload 5] (by decide +kernel) rfl rfl trivial ?_
    refine E_if_ge (off := 8) (tgt := 93) (by decide +kernel) (by decide) (fun b11 => ?_) (fun b11 => ?_)
    · rw [if_pos b11] at h
      refine E_blk (lv' := [some (vr (some (11, this))), none, some (vi v2), some (vi v3), some (vi v4), some (vi v5), some (vi v6), some (vi v7)]) (st' := [vi v5]) (M1 := M) (pc' := 95) (tb_Model hγ) [.iload 5] (by decide +kernel) rfl rfl trivial ?_
      refine E_mask [true, false, true, true, true, false, true, false] rfl ?_
      exact lk_Model_inFaces_j95 hγ this Q k12 hk12 v2 v3 v4 v6 v5 M h
    · rw [if_neg b11] at h
      refine E_blk (lv' := [some (vr (some (11, this))), none, some (vi v2), some (vi v3), some (vi v4), some (vi v5), some (vi v6), some (vi v7)]) (st' := [vi v7]) (M1 := M) (pc' := 90) (tb_Model hγ) [.iload 7] (by decide +kernel) rfl rfl trivial ?_
      refine E_goto (off := 5) (tgt := 95) (by decide +kernel) (by decide) ?_
      refine E_mask [true, false, true, true, true, false, true, false] rfl ?_
      exact lk_Model_inFaces_j95 hγ this Q k12 hk12 v2 v3 v4 v6 v7 M h
set_option maxRecDepth 4096 in
theorem lk_Model_inFaces_L12 {γ : Gm} (hγ : Gk γ) (this : Nat) (Q : Int32 → Mem → Prop) : ∀ (n : Nat) (v2 : Int32) (v3 : Int32) (v4 : Int32) (v5 : Int32) (v6 : Int32) (M : Mem), w_Model_inFaces_L12 this Q n v2 v3 v4 v5 v6 M → E γ k_Model_inFaces 63 12 [some (vr (some (11, this))), none, some (vi v2), some (vi v3), some (vi v4), some (vi v5), some (vi v6), none] [] M (Qi Q) := by
  intro n
  induction n with
  | zero => intro v2 v3 v4 v5 v6 M h; exact h.elim
  | succ n ih =>
    intro v2 v3 v4 v5 v6 M h
    unfold w_Model_inFaces_L12 at h
    refine E_blk (lv' := [some (vr (some (11, this))), none, some (vi v2), some (vi v3), some (vi v4), some (vi v5), some (vi v6), none]) (st' := [vi (mI M 11 this 68), vi v6]) (M1 := M) (pc' := 18) (tb_Model hγ) [.iload 6, .aload_n 0, .getfield 736] (by decide +kernel) rfl rfl trivial ?_
    refine E_icmp_ge (off := 85) (tgt := 103) (by decide +kernel) (by decide) (fun b2 => ?_) (fun b2 => ?_)
    · rw [if_pos b2] at h
      refine E_blk (lv' := [some (vr (some (11, this))), none, some (vi v2), some (vi v3), some (vi v4), some (vi v5), some (vi v6), none]) (st' := [vi v5]) (M1 := M) (pc' := 105) (tb_Model hγ) [.iload 5] (by decide +kernel) rfl rfl trivial ?_
      exact E_iret rfl (by decide +kernel) h
    · rw [if_neg b2] at h
      obtain ⟨c3, h⟩ := h
      refine E_blk (lv' := [some (vr (some (11, this))), none, some (vi v2), some (vi v3), some (vi v4), some (vi v5), some (vi v6), none]) (st' := [vi v3, vi v2, vi (mI M 110 this v6.toNatClampNeg), vr (some (11, this))]) (M1 := M) (pc' := 31) (tb_Model hγ) [.aload_n 0, .aload_n 0, .getfield 302, .iload 6, .iaload, .iload_n 2, .iload_n 3] (by decide +kernel) rfl rfl ⟨c3, trivial⟩ ?_
      refine E_callV (κ' := k_Model_methodIn) (As := [vi (mI M 110 this v6.toNatClampNeg), vi v2, vi v3]) (st := []) mv_Model_methodIn (Or.inl (tbk_mem (j := 15) (k := 165) rfl)) rfl (by decide +kernel) (Nat.le_of_ble_eq_true rfl) (Nat.le_of_ble_eq_true rfl) rfl (by decide) (lk_Model_methodIn hγ this (mI M 110 this v6.toNatClampNeg) v2 v3 _ M h) (fun _ _ => Qi_r) (fun v M4 hp => Qi_k (R := fun st => E γ k_Model_inFaces 63 34 [some (vr (some (11, this))), none, some (vi v2), some (vi v3), some (vi v4), some (vi v5), some (vi v6), none] st M4 (Qi Q)) hp (fun r5 h => ?_))
      refine E_blk (lv' := [some (vr (some (11, this))), none, some (vi v2), some (vi v3), some (vi v4), some (vi v5), some (vi v6), some (vi r5)]) (st' := [vi r5]) (M1 := M4) (pc' := 38) (tb_Model hγ) [.istore 7, .iload 7] (by decide +kernel) rfl rfl trivial ?_
      refine E_if_lt (off := 59) (tgt := 97) (by decide +kernel) (by decide) (fun b6 => ?_) (fun b6 => ?_)
      · rw [if_pos b6] at h
        refine E_mask [true, false, true, true, true, true, true, false] rfl ?_
        exact lk_Model_inFaces_j97 hγ this Q (w_Model_inFaces_L12 this Q n) ih v2 v3 v4 v5 v6 M4 h
      · rw [if_neg b6] at h
        refine E_blk (lv' := [some (vr (some (11, this))), none, some (vi v2), some (vi v3), some (vi v4), some (vi v5), some (vi v6), some (vi r5)]) (st' := [vi v4]) (M1 := M4) (pc' := 43) (tb_Model hγ) [.iload 4] (by decide +kernel) rfl rfl trivial ?_
        refine E_if_eq (off := 21) (tgt := 64) (by decide +kernel) (by decide) (fun b7 => ?_) (fun b7 => ?_)
        · rw [if_pos b7] at h
          refine E_mask [true, false, true, true, true, true, true, true] rfl ?_
          exact lk_Model_inFaces_j64 hγ this Q (w_Model_inFaces_L12 this Q n) ih v2 v3 v4 v5 v6 r5 M4 h
        · rw [if_neg b7] at h
          refine E_blk (lv' := [some (vr (some (11, this))), none, some (vi v2), some (vi v3), some (vi v4), some (vi v5), some (vi v6), some (vi r5)]) (st' := [vr (mR M4 11 this 45)]) (M1 := M4) (pc' := 50) (tb_Model hγ) [.aload_n 0, .getfield 522] (by decide +kernel) rfl rfl trivial ?_
          obtain ⟨i12, ei12, h⟩ := h
          rw [ei12]
          obtain ⟨c13, h⟩ := h
          refine E_blk (lv' := [some (vr (some (11, this))), none, some (vi v2), some (vi v3), some (vi v4), some (vi v5), some (vi v6), some (vi r5)]) (st' := [vi ((mI M4 146 i12 r5.toNatClampNeg) &&& (5 : Int32))]) (M1 := M4) (pc' := 58) (tb_Model hγ) [.getfield 453, .iload 7, .iaload, .iconst 5, .iand] (by decide +kernel) rfl rfl ⟨c13, trivial⟩ ?_
          refine E_if_eq (off := 6) (tgt := 64) (by decide +kernel) (by decide) (fun b14 => ?_) (fun b14 => ?_)
          · rw [if_pos b14] at h
            refine E_mask [true, false, true, true, true, true, true, true] rfl ?_
            exact lk_Model_inFaces_j64 hγ this Q (w_Model_inFaces_L12 this Q n) ih v2 v3 v4 v5 v6 r5 M4 h
          · rw [if_neg b14] at h
            refine E_goto (off := 36) (tgt := 97) (by decide +kernel) (by decide) ?_
            refine E_mask [true, false, true, true, true, true, true, false] rfl ?_
            exact lk_Model_inFaces_j97 hγ this Q (w_Model_inFaces_L12 this Q n) ih v2 v3 v4 v5 v6 M4 h
set_option maxRecDepth 4096 in
theorem lk_Model_inFaces {γ : Gm} (hγ : Gk γ) (this : Nat) (a1 : Int32) (a2 : Int32) (a3 : Int32) (a4 : Int32) (Q : Int32 → Mem → Prop) (M : Mem) (h : w_Model_inFaces this a1 a2 a3 a4 Q M) : E γ k_Model_inFaces 63 0 [some (vr (some (11, this))), some (vi a1), some (vi a2), some (vi a3), some (vi a4), none, none, none] [] M (Qi Q) := by
  unfold w_Model_inFaces at h
  refine E_blk (lv' := [some (vr (some (11, this))), some (vi a1), some (vi a2), some (vi a3), some (vi a4), none, none, none]) (st' := [vi a1, vr (some (11, this))]) (M1 := M) (pc' := 2) (tb_Model hγ) [.aload_n 0, .iload_n 1] (by decide +kernel) rfl rfl trivial ?_
  refine E_callV (κ' := k_Model_listFaces) (As := [vi a1]) (st := []) mv_Model_listFaces (Or.inl (tbk_mem (j := 16) (k := 95) rfl)) rfl (by decide +kernel) (Nat.le_of_ble_eq_true rfl) (Nat.le_of_ble_eq_true rfl) rfl (by decide) (lk_Model_listFaces hγ this a1 _ M h) (fun _ _ => Qv_r) (fun v M1 hp => Qv_k (R := fun st => E γ k_Model_inFaces 63 5 [some (vr (some (11, this))), some (vi a1), some (vi a2), some (vi a3), some (vi a4), none, none, none] st M1 (Qi Q)) hp (fun h => ?_))
  refine E_blk (lv' := [some (vr (some (11, this))), some (vi a1), some (vi a2), some (vi a3), some (vi a4), some (vi (-2 : Int32)), some (vi (0 : Int32)), none]) (st' := []) (M1 := M1) (pc' := 12) (tb_Model hγ) [.bipush (.negSucc 1), .istore 5, .iconst 0, .istore 6] (by decide +kernel) rfl rfl trivial ?_
  obtain ⟨n15, h⟩ := h
  refine E_mask [true, false, true, true, true, true, true, false] rfl ?_
  exact lk_Model_inFaces_L12 hγ this Q n15 a2 a3 a4 (-2 : Int32) (0 : Int32) M1 h
def w_Model_findMethod_j58 (this : Nat) (Q : Int32 → Mem → Prop)  (M : Mem) : Prop :=
  w_Model_fails this (56 : Int32) (15 : Int32) (fun r12 M11 => Q r12 M11) M
def w_Model_findMethod_j282 (this : Nat) (Q : Int32 → Mem → Prop) (v8 : Int32) (v9 : Int32) (M : Mem) : Prop :=
  if (v9 &&& (8 : Int32)) = 0 then (Q v8 M) else (w_Model_fails this (58 : Int32) (18 : Int32) (fun r28 M27 => Q r28 M27) M)
def w_Model_findMethod_j251 (this : Nat) (Q : Int32 → Mem → Prop) (v1 : Int32) (v8 : Int32) (v9 : Int32) (s0 : Int32) (s1 : Int32) (M : Mem) : Prop :=
  if s1 = s0 then (if v1 = (52 : Int32) then (w_Model_findMethod_j282 this Q v8 v9 M) else (if v1 = (51 : Int32) then (w_Model_findMethod_j282 this Q v8 v9 M) else (if (v9 &&& (4 : Int32)) = 0 then (Q v8 M) else (w_Model_findMethod_j282 this Q v8 v9 M)))) else (w_Model_fails this (55 : Int32) (15 : Int32) (fun r32 M31 => Q r32 M31) M)
def w_Model_findMethod_j240 (this : Nat) (Q : Int32 → Mem → Prop) (v1 : Int32) (v8 : Int32) (v9 : Int32) (s0 : Int32) (M : Mem) : Prop :=
  if v1 = (52 : Int32) then (w_Model_findMethod_j251 this Q v1 v8 v9 (1 : Int32) s0 M) else (w_Model_findMethod_j251 this Q v1 v8 v9 (0 : Int32) s0 M)
def w_Model_findMethod_j228 (this : Nat) (Q : Int32 → Mem → Prop) (v1 : Int32) (v8 : Int32) (v9 : Int32) (M : Mem) : Prop :=
  if (v9 &&& (1 : Int32)) = 0 then (w_Model_findMethod_j240 this Q v1 v8 v9 (0 : Int32) M) else (w_Model_findMethod_j240 this Q v1 v8 v9 (1 : Int32) M)
def w_Model_findMethod_j161 (this : Nat) (Q : Int32 → Mem → Prop) (v1 : Int32) (v5 : Int32) (v8 : Int32) (M : Mem) : Prop :=
  if 0 ≤ v8 then (∃ i16, (mR M 11 this 45) = some (12, i16) ∧ vp_in v8 (mL M 146 i16) ∧ w_Model_isOff this (5 : Int32) (fun r19 M18 => if r19 = 0 then (if ((mI M 146 i16 v8.toNatClampNeg) &&& (4 : Int32)) = 0 then (w_Model_findMethod_j228 this Q v1 v8 (mI M 146 i16 v8.toNatClampNeg) M18) else (if v5 = (-3 : Int32) then (w_Model_findMethod_j228 this Q v1 v8 (mI M 146 i16 v8.toNatClampNeg) M18) else (¬ (12 : Int32) = 0 ∧ if (v8 / (12 : Int32)) = v5 then (w_Model_findMethod_j228 this Q v1 v8 (mI M 146 i16 v8.toNatClampNeg) M18) else (w_Model_fails this (53 : Int32) (14 : Int32) (fun r37 M36 => Q r37 M36) M18)))) else (w_Model_findMethod_j228 this Q v1 v8 (mI M 146 i16 v8.toNatClampNeg) M18)) M) else (w_Model_fails this (52 : Int32) (13 : Int32) (fun r39 M38 => Q r39 M38) M)
def w_Model_findMethod_j128 (this : Nat) (Q : Int32 → Mem → Prop) (v1 : Int32) (v3 : Int32) (v4 : Int32) (v5 : Int32) (v6 : Int32) (v8 : Int32) (M : Mem) : Prop :=
  if 0 ≤ v8 then (w_Model_findMethod_j161 this Q v1 v5 v8 M) else (if v3 = (mI M 11 this 6) then (w_Model_findMethod_j161 this Q v1 v5 v8 M) else (if v3 = (mI M 11 this 7) then (w_Model_findMethod_j161 this Q v1 v5 v8 M) else (w_Model_inFaces this v6 v3 v4 (0 : Int32) (fun r43 M42 => w_Model_findMethod_j161 this Q v1 v5 r43 M42) M)))
def w_Model_findMethod_j123 (this : Nat) (Q : Int32 → Mem → Prop) (k75 : Int32 → Int32 → Int32 → Int32 → Int32 → Int32 → Int32 → Mem → Prop) (v1 : Int32) (v3 : Int32) (v4 : Int32) (v5 : Int32) (v6 : Int32) (v8 : Int32) (s0 : Int32) (M : Mem) : Prop :=
  k75 v1 v3 v4 v5 v6 v8 s0 M
def w_Model_findMethod_L75 (this : Nat) (Q : Int32 → Mem → Prop) : Nat → Int32 → Int32 → Int32 → Int32 → Int32 → Int32 → Int32 → Mem → Prop
  | 0, _, _, _, _, _, _, _, _ => False
  | n + 1, v1, v3, v4, v5, v6, v8, v9, M => if v9 < 0 then (w_Model_findMethod_j128 this Q v1 v3 v4 v5 v6 v8 M) else (if 0 ≤ v8 then (w_Model_findMethod_j128 this Q v1 v3 v4 v5 v6 v8 M) else (if v3 = (mI M 11 this 7) then (w_Model_findMethod_j128 this Q v1 v3 v4 v5 v6 v8 M) else (w_Model_methodIn this v9 v3 v4 (fun r47 M46 => if v3 = (mI M46 11 this 6) then (w_Model_findMethod_j123 this Q (w_Model_findMethod_L75 this Q n) v1 v3 v4 v5 v6 r47 (-2 : Int32) M46) else (w_Model_parentOf this v9 (fun r50 M49 => w_Model_findMethod_j123 this Q (w_Model_findMethod_L75 this Q n) v1 v3 v4 v5 v6 r47 r50 M49) M46)) M)))
def w_Model_findMethod_j67 (this : Nat) (Q : Int32 → Mem → Prop) (v1 : Int32) (v3 : Int32) (v4 : Int32) (v5 : Int32) (v6 : Int32) (M : Mem) : Prop :=
  ∃ n51 : Nat, w_Model_findMethod_L75 this Q n51 v1 v3 v4 v5 v6 (-2 : Int32) v6 M
def w_Model_findMethod_j47 (this : Nat) (Q : Int32 → Mem → Prop) (v1 : Int32) (v3 : Int32) (v4 : Int32) (v5 : Int32) (v6 : Int32) (v7 : Int32) (M : Mem) : Prop :=
  if v1 = (53 : Int32) then (if v7 = 0 then (w_Model_findMethod_j58 this Q  M) else (w_Model_findMethod_j67 this Q v1 v3 v4 v5 v6 M)) else (w_Model_findMethod_j67 this Q v1 v3 v4 v5 v6 M)
def w_Model_findMethod_j34 (this : Nat) (Q : Int32 → Mem → Prop) (v1 : Int32) (v3 : Int32) (v4 : Int32) (v5 : Int32) (v6 : Int32) (s0 : Int32) (M : Mem) : Prop :=
  if v1 = (50 : Int32) then (if s0 = 0 then (w_Model_findMethod_j47 this Q v1 v3 v4 v5 v6 s0 M) else (w_Model_findMethod_j58 this Q  M)) else (w_Model_findMethod_j47 this Q v1 v3 v4 v5 v6 s0 M)
def w_Model_findMethod (this : Nat) (a1 : Int32) (a2 : Int32) (a3 : Int32) (a4 : Int32) (a5 : Int32) (Q : Int32 → Mem → Prop) (M : Mem) : Prop :=
  w_Model_findLinked this a2 (fun r2 M1 => if 0 ≤ r2 then (∃ i4, (mR M1 11 this 45) = some (12, i4) ∧ vp_in r2 (mL M1 132 i4) ∧ if ((mI M1 132 i4 r2.toNatClampNeg) &&& (4 : Int32)) = 0 then (w_Model_findMethod_j34 this Q a1 a3 a4 a5 r2 (0 : Int32) M1) else (w_Model_findMethod_j34 this Q a1 a3 a4 a5 r2 (1 : Int32) M1)) else (Q (-1 : Int32) M1)) M
set_option maxRecDepth 4096 in
theorem lk_Model_findMethod_j58 {γ : Gm} (hγ : Gk γ) (this : Nat) (Q : Int32 → Mem → Prop)  (M : Mem) (h : w_Model_findMethod_j58 this Q  M) : E γ k_Model_findMethod 130 58 [some (vr (some (11, this))), none, none, none, none, none, none, none, none, none] [] M (Qi Q) := by
  unfold w_Model_findMethod_j58 at h
  refine E_blk (lv' := [some (vr (some (11, this))), none, none, none, none, none, none, none, none, none]) (st' := [vi (15 : Int32), vi (56 : Int32), vr (some (11, this))]) (M1 := M) (pc' := 63) (tb_Model hγ) [.aload_n 0, .bipush 56, .bipush 15] (by decide +kernel) rfl rfl trivial ?_
  refine E_callV (κ' := k_Model_fails) (As := [vi (56 : Int32), vi (15 : Int32)]) (st := []) mv_Model_fails (Or.inl (tbk_mem (j := 16) (k := 87) rfl)) rfl (by decide +kernel) (Nat.le_of_ble_eq_true rfl) (Nat.le_of_ble_eq_true rfl) rfl (by decide) (lk_Model_fails hγ this (56 : Int32) (15 : Int32) _ M h) (fun _ _ => Qi_r) (fun v M11 hp => Qi_k (R := fun st => E γ k_Model_findMethod 130 66 [some (vr (some (11, this))), none, none, none, none, none, none, none, none, none] st M11 (Qi Q)) hp (fun r12 h => ?_))
  exact E_iret rfl (by decide +kernel) h
set_option maxRecDepth 4096 in
theorem lk_Model_findMethod_j282 {γ : Gm} (hγ : Gk γ) (this : Nat) (Q : Int32 → Mem → Prop) (v8 : Int32) (v9 : Int32) (M : Mem) (h : w_Model_findMethod_j282 this Q v8 v9 M) : E γ k_Model_findMethod 130 282 [some (vr (some (11, this))), none, none, none, none, none, none, none, some (vi v8), some (vi v9)] [] M (Qi Q) := by
  unfold w_Model_findMethod_j282 at h
  refine E_blk (lv' := [some (vr (some (11, this))), none, none, none, none, none, none, none, some (vi v8), some (vi v9)]) (st' := [vi (v9 &&& (8 : Int32))]) (M1 := M) (pc' := 287) (tb_Model hγ) [.iload 9, .bipush 8, .iand] (by decide +kernel) rfl rfl trivial ?_
  refine E_if_eq (off := 12) (tgt := 299) (by decide +kernel) (by decide) (fun b26 => ?_) (fun b26 => ?_)
  · rw [if_pos b26] at h
    refine E_blk (lv' := [some (vr (some (11, this))), none, none, none, none, none, none, none, some (vi v8), some (vi v9)]) (st' := [vi v8]) (M1 := M) (pc' := 301) (tb_Model hγ) [.iload 8] (by decide +kernel) rfl rfl trivial ?_
    exact E_iret rfl (by decide +kernel) h
  · rw [if_neg b26] at h
    refine E_blk (lv' := [some (vr (some (11, this))), none, none, none, none, none, none, none, some (vi v8), some (vi v9)]) (st' := [vi (18 : Int32), vi (58 : Int32), vr (some (11, this))]) (M1 := M) (pc' := 295) (tb_Model hγ) [.aload_n 0, .bipush 58, .bipush 18] (by decide +kernel) rfl rfl trivial ?_
    refine E_callV (κ' := k_Model_fails) (As := [vi (58 : Int32), vi (18 : Int32)]) (st := []) mv_Model_fails (Or.inl (tbk_mem (j := 16) (k := 87) rfl)) rfl (by decide +kernel) (Nat.le_of_ble_eq_true rfl) (Nat.le_of_ble_eq_true rfl) rfl (by decide) (lk_Model_fails hγ this (58 : Int32) (18 : Int32) _ M h) (fun _ _ => Qi_r) (fun v M27 hp => Qi_k (R := fun st => E γ k_Model_findMethod 130 298 [some (vr (some (11, this))), none, none, none, none, none, none, none, some (vi v8), some (vi v9)] st M27 (Qi Q)) hp (fun r28 h => ?_))
    exact E_iret rfl (by decide +kernel) h
set_option maxRecDepth 4096 in
theorem lk_Model_findMethod_j251 {γ : Gm} (hγ : Gk γ) (this : Nat) (Q : Int32 → Mem → Prop) (v1 : Int32) (v8 : Int32) (v9 : Int32) (s0 : Int32) (s1 : Int32) (M : Mem) (h : w_Model_findMethod_j251 this Q v1 v8 v9 s0 s1 M) : E γ k_Model_findMethod 130 251 [some (vr (some (11, this))), some (vi v1), none, none, none, none, none, none, some (vi v8), some (vi v9)] [vi s0, vi s1] M (Qi Q) := by
  unfold w_Model_findMethod_j251 at h
  refine E_icmp_eq (off := 12) (tgt := 263) (by decide +kernel) (by decide) (fun b24 => ?_) (fun b24 => ?_)
  · rw [if_pos b24] at h
    refine E_blk (lv' := [some (vr (some (11, this))), some (vi v1), none, none, none, none, none, none, some (vi v8), some (vi v9)]) (st' := [vi (52 : Int32), vi v1]) (M1 := M) (pc' := 266) (tb_Model hγ) [.iload_n 1, .bipush 52] (by decide +kernel) rfl rfl trivial ?_
    refine E_icmp_eq (off := 16) (tgt := 282) (by decide +kernel) (by decide) (fun b25 => ?_) (fun b25 => ?_)
    · rw [if_pos b25] at h
      refine E_mask [true, false, false, false, false, false, false, false, true, true] rfl ?_
      exact lk_Model_findMethod_j282 hγ this Q v8 v9 M h
    · rw [if_neg b25] at h
      refine E_blk (lv' := [some (vr (some (11, this))), some (vi v1), none, none, none, none, none, none, some (vi v8), some (vi v9)]) (st' := [vi (51 : Int32), vi v1]) (M1 := M) (pc' := 272) (tb_Model hγ) [.iload_n 1, .bipush 51] (by decide +kernel) rfl rfl trivial ?_
      refine E_icmp_eq (off := 10) (tgt := 282) (by decide +kernel) (by decide) (fun b29 => ?_) (fun b29 => ?_)
      · rw [if_pos b29] at h
        refine E_mask [true, false, false, false, false, false, false, false, true, true] rfl ?_
        exact lk_Model_findMethod_j282 hγ this Q v8 v9 M h
      · rw [if_neg b29] at h
        refine E_blk (lv' := [some (vr (some (11, this))), some (vi v1), none, none, none, none, none, none, some (vi v8), some (vi v9)]) (st' := [vi (v9 &&& (4 : Int32))]) (M1 := M) (pc' := 279) (tb_Model hγ) [.iload 9, .iconst 4, .iand] (by decide +kernel) rfl rfl trivial ?_
        refine E_if_eq (off := 20) (tgt := 299) (by decide +kernel) (by decide) (fun b30 => ?_) (fun b30 => ?_)
        · rw [if_pos b30] at h
          refine E_blk (lv' := [some (vr (some (11, this))), some (vi v1), none, none, none, none, none, none, some (vi v8), some (vi v9)]) (st' := [vi v8]) (M1 := M) (pc' := 301) (tb_Model hγ) [.iload 8] (by decide +kernel) rfl rfl trivial ?_
          exact E_iret rfl (by decide +kernel) h
        · rw [if_neg b30] at h
          refine E_mask [true, false, false, false, false, false, false, false, true, true] rfl ?_
          exact lk_Model_findMethod_j282 hγ this Q v8 v9 M h
  · rw [if_neg b24] at h
    refine E_blk (lv' := [some (vr (some (11, this))), some (vi v1), none, none, none, none, none, none, some (vi v8), some (vi v9)]) (st' := [vi (15 : Int32), vi (55 : Int32), vr (some (11, this))]) (M1 := M) (pc' := 259) (tb_Model hγ) [.aload_n 0, .bipush 55, .bipush 15] (by decide +kernel) rfl rfl trivial ?_
    refine E_callV (κ' := k_Model_fails) (As := [vi (55 : Int32), vi (15 : Int32)]) (st := []) mv_Model_fails (Or.inl (tbk_mem (j := 16) (k := 87) rfl)) rfl (by decide +kernel) (Nat.le_of_ble_eq_true rfl) (Nat.le_of_ble_eq_true rfl) rfl (by decide) (lk_Model_fails hγ this (55 : Int32) (15 : Int32) _ M h) (fun _ _ => Qi_r) (fun v M31 hp => Qi_k (R := fun st => E γ k_Model_findMethod 130 262 [some (vr (some (11, this))), some (vi v1), none, none, none, none, none, none, some (vi v8), some (vi v9)] st M31 (Qi Q)) hp (fun r32 h => ?_))
    exact E_iret rfl (by decide +kernel) h
set_option maxRecDepth 4096 in
theorem lk_Model_findMethod_j240 {γ : Gm} (hγ : Gk γ) (this : Nat) (Q : Int32 → Mem → Prop) (v1 : Int32) (v8 : Int32) (v9 : Int32) (s0 : Int32) (M : Mem) (h : w_Model_findMethod_j240 this Q v1 v8 v9 s0 M) : E γ k_Model_findMethod 130 240 [some (vr (some (11, this))), some (vi v1), none, none, none, none, none, none, some (vi v8), some (vi v9)] [vi s0] M (Qi Q) := by
  unfold w_Model_findMethod_j240 at h
  refine E_blk (lv' := [some (vr (some (11, this))), some (vi v1), none, none, none, none, none, none, some (vi v8), some (vi v9)]) (st' := [vi (52 : Int32), vi v1, vi s0]) (M1 := M) (pc' := 243) (tb_Model hγ) [.iload_n 1, .bipush 52] (by decide +kernel) rfl rfl trivial ?_
  refine E_icmp_ne (off := 7) (tgt := 250) (by decide +kernel) (by decide) (fun b23 => ?_) (fun b23 => ?_)
  · rw [if_pos b23] at h
    refine E_blk (lv' := [some (vr (some (11, this))), some (vi v1), none, none, none, none, none, none, some (vi v8), some (vi v9)]) (st' := [vi (1 : Int32), vi s0]) (M1 := M) (pc' := 247) (tb_Model hγ) [.iconst 1] (by decide +kernel) rfl rfl trivial ?_
    refine E_goto (off := 4) (tgt := 251) (by decide +kernel) (by decide) ?_
    refine E_mask [true, true, false, false, false, false, false, false, true, true] rfl ?_
    exact lk_Model_findMethod_j251 hγ this Q v1 v8 v9 (1 : Int32) s0 M h
  · rw [if_neg b23] at h
    refine E_blk (lv' := [some (vr (some (11, this))), some (vi v1), none, none, none, none, none, none, some (vi v8), some (vi v9)]) (st' := [vi (0 : Int32), vi s0]) (M1 := M) (pc' := 251) (tb_Model hγ) [.iconst 0] (by decide +kernel) rfl rfl trivial ?_
    refine E_mask [true, true, false, false, false, false, false, false, true, true] rfl ?_
    exact lk_Model_findMethod_j251 hγ this Q v1 v8 v9 (0 : Int32) s0 M h
set_option maxRecDepth 4096 in
theorem lk_Model_findMethod_j228 {γ : Gm} (hγ : Gk γ) (this : Nat) (Q : Int32 → Mem → Prop) (v1 : Int32) (v8 : Int32) (v9 : Int32) (M : Mem) (h : w_Model_findMethod_j228 this Q v1 v8 v9 M) : E γ k_Model_findMethod 130 228 [some (vr (some (11, this))), some (vi v1), none, none, none, none, none, none, some (vi v8), some (vi v9)] [] M (Qi Q) := by
  unfold w_Model_findMethod_j228 at h
  refine E_blk (lv' := [some (vr (some (11, this))), some (vi v1), none, none, none, none, none, none, some (vi v8), some (vi v9)]) (st' := [vi (v9 &&& (1 : Int32))]) (M1 := M) (pc' := 232) (tb_Model hγ) [.iload 9, .iconst 1, .iand] (by decide +kernel) rfl rfl trivial ?_
  refine E_if_eq (off := 7) (tgt := 239) (by decide +kernel) (by decide) (fun b22 => ?_) (fun b22 => ?_)
  · rw [if_pos b22] at h
    refine E_blk (lv' := [some (vr (some (11, this))), some (vi v1), none, none, none, none, none, none, some (vi v8), some (vi v9)]) (st' := [vi (0 : Int32)]) (M1 := M) (pc' := 240) (tb_Model hγ) [.iconst 0] (by decide +kernel) rfl rfl trivial ?_
    refine E_mask [true, true, false, false, false, false, false, false, true, true] rfl ?_
    exact lk_Model_findMethod_j240 hγ this Q v1 v8 v9 (0 : Int32) M h
  · rw [if_neg b22] at h
    refine E_blk (lv' := [some (vr (some (11, this))), some (vi v1), none, none, none, none, none, none, some (vi v8), some (vi v9)]) (st' := [vi (1 : Int32)]) (M1 := M) (pc' := 236) (tb_Model hγ) [.iconst 1] (by decide +kernel) rfl rfl trivial ?_
    refine E_goto (off := 4) (tgt := 240) (by decide +kernel) (by decide) ?_
    refine E_mask [true, true, false, false, false, false, false, false, true, true] rfl ?_
    exact lk_Model_findMethod_j240 hγ this Q v1 v8 v9 (1 : Int32) M h
set_option maxRecDepth 4096 in
theorem lk_Model_findMethod_j161 {γ : Gm} (hγ : Gk γ) (this : Nat) (Q : Int32 → Mem → Prop) (v1 : Int32) (v5 : Int32) (v8 : Int32) (M : Mem) (h : w_Model_findMethod_j161 this Q v1 v5 v8 M) : E γ k_Model_findMethod 130 161 [some (vr (some (11, this))), some (vi v1), none, none, none, some (vi v5), none, none, some (vi v8), none] [] M (Qi Q) := by
  unfold w_Model_findMethod_j161 at h
  refine E_blk (lv' := [some (vr (some (11, this))), some (vi v1), none, none, none, some (vi v5), none, none, some (vi v8), none]) (st' := [vi v8]) (M1 := M) (pc' := 163) (tb_Model hγ) [.iload 8] (by decide +kernel) rfl rfl trivial ?_
  refine E_if_ge (off := 12) (tgt := 175) (by decide +kernel) (by decide) (fun b15 => ?_) (fun b15 => ?_)
  · rw [if_pos b15] at h
    refine E_blk (lv' := [some (vr (some (11, this))), some (vi v1), none, none, none, some (vi v5), none, none, some (vi v8), none]) (st' := [vr (mR M 11 this 45)]) (M1 := M) (pc' := 179) (tb_Model hγ) [.aload_n 0, .getfield 522] (by decide +kernel) rfl rfl trivial ?_
    obtain ⟨i16, ei16, h⟩ := h
    rw [ei16]
    obtain ⟨c17, h⟩ := h
    refine E_blk (lv' := [some (vr (some (11, this))), some (vi v1), none, none, none, some (vi v5), none, none, some (vi v8), some (vi (mI M 146 i16 v8.toNatClampNeg))]) (st' := [vi (5 : Int32), vr (some (11, this))]) (M1 := M) (pc' := 189) (tb_Model hγ) [.getfield 453, .iload 8, .iaload, .istore 9, .aload_n 0, .iconst 5] (by decide +kernel) rfl rfl ⟨c17, trivial⟩ ?_
    refine E_callV (κ' := k_Model_isOff) (As := [vi (5 : Int32)]) (st := []) mv_Model_isOff (Or.inl (tbk_mem (j := 15) (k := 47) rfl)) rfl (by decide +kernel) (Nat.le_of_ble_eq_true rfl) (Nat.le_of_ble_eq_true rfl) rfl (by decide) (lk_Model_isOff hγ this (5 : Int32) _ M h) (fun _ _ => Qi_r) (fun v M18 hp => Qi_k (R := fun st => E γ k_Model_findMethod 130 192 [some (vr (some (11, this))), some (vi v1), none, none, none, some (vi v5), none, none, some (vi v8), some (vi (mI M 146 i16 v8.toNatClampNeg))] st M18 (Qi Q)) hp (fun r19 h => ?_))
    refine E_if_ne (off := 36) (tgt := 228) (by decide +kernel) (by decide) (fun b20 => ?_) (fun b20 => ?_)
    · rw [if_pos b20] at h
      refine E_blk (lv' := [some (vr (some (11, this))), some (vi v1), none, none, none, some (vi v5), none, none, some (vi v8), some (vi (mI M 146 i16 v8.toNatClampNeg))]) (st' := [vi ((mI M 146 i16 v8.toNatClampNeg) &&& (4 : Int32))]) (M1 := M18) (pc' := 199) (tb_Model hγ) [.iload 9, .iconst 4, .iand] (by decide +kernel) rfl rfl trivial ?_
      refine E_if_eq (off := 29) (tgt := 228) (by decide +kernel) (by decide) (fun b21 => ?_) (fun b21 => ?_)
      · rw [if_pos b21] at h
        refine E_mask [true, true, false, false, false, false, false, false, true, true] rfl ?_
        exact lk_Model_findMethod_j228 hγ this Q v1 v8 (mI M 146 i16 v8.toNatClampNeg) M18 h
      · rw [if_neg b21] at h
        refine E_blk (lv' := [some (vr (some (11, this))), some (vi v1), none, none, none, some (vi v5), none, none, some (vi v8), some (vi (mI M 146 i16 v8.toNatClampNeg))]) (st' := [vi (-3 : Int32), vi v5]) (M1 := M18) (pc' := 206) (tb_Model hγ) [.iload 5, .bipush (.negSucc 2)] (by decide +kernel) rfl rfl trivial ?_
        refine E_icmp_eq (off := 22) (tgt := 228) (by decide +kernel) (by decide) (fun b33 => ?_) (fun b33 => ?_)
        · rw [if_pos b33] at h
          refine E_mask [true, true, false, false, false, false, false, false, true, true] rfl ?_
          exact lk_Model_findMethod_j228 hγ this Q v1 v8 (mI M 146 i16 v8.toNatClampNeg) M18 h
        · rw [if_neg b33] at h
          obtain ⟨c34, h⟩ := h
          refine E_blk (lv' := [some (vr (some (11, this))), some (vi v1), none, none, none, some (vi v5), none, none, some (vi v8), some (vi (mI M 146 i16 v8.toNatClampNeg))]) (st' := [vi v5, vi (v8 / (12 : Int32))]) (M1 := M18) (pc' := 216) (tb_Model hγ) [.iload 8, .bipush 12, .idiv, .iload 5] (by decide +kernel) rfl rfl ⟨c34, trivial⟩ ?_
          refine E_icmp_eq (off := 12) (tgt := 228) (by decide +kernel) (by decide) (fun b35 => ?_) (fun b35 => ?_)
          · rw [if_pos b35] at h
            refine E_mask [true, true, false, false, false, false, false, false, true, true] rfl ?_
            exact lk_Model_findMethod_j228 hγ this Q v1 v8 (mI M 146 i16 v8.toNatClampNeg) M18 h
          · rw [if_neg b35] at h
            refine E_blk (lv' := [some (vr (some (11, this))), some (vi v1), none, none, none, some (vi v5), none, none, some (vi v8), some (vi (mI M 146 i16 v8.toNatClampNeg))]) (st' := [vi (14 : Int32), vi (53 : Int32), vr (some (11, this))]) (M1 := M18) (pc' := 224) (tb_Model hγ) [.aload_n 0, .bipush 53, .bipush 14] (by decide +kernel) rfl rfl trivial ?_
            refine E_callV (κ' := k_Model_fails) (As := [vi (53 : Int32), vi (14 : Int32)]) (st := []) mv_Model_fails (Or.inl (tbk_mem (j := 16) (k := 87) rfl)) rfl (by decide +kernel) (Nat.le_of_ble_eq_true rfl) (Nat.le_of_ble_eq_true rfl) rfl (by decide) (lk_Model_fails hγ this (53 : Int32) (14 : Int32) _ M18 h) (fun _ _ => Qi_r) (fun v M36 hp => Qi_k (R := fun st => E γ k_Model_findMethod 130 227 [some (vr (some (11, this))), some (vi v1), none, none, none, some (vi v5), none, none, some (vi v8), some (vi (mI M 146 i16 v8.toNatClampNeg))] st M36 (Qi Q)) hp (fun r37 h => ?_))
            exact E_iret rfl (by decide +kernel) h
    · rw [if_neg b20] at h
      refine E_mask [true, true, false, false, false, false, false, false, true, true] rfl ?_
      exact lk_Model_findMethod_j228 hγ this Q v1 v8 (mI M 146 i16 v8.toNatClampNeg) M18 h
  · rw [if_neg b15] at h
    refine E_blk (lv' := [some (vr (some (11, this))), some (vi v1), none, none, none, some (vi v5), none, none, some (vi v8), none]) (st' := [vi (13 : Int32), vi (52 : Int32), vr (some (11, this))]) (M1 := M) (pc' := 171) (tb_Model hγ) [.aload_n 0, .bipush 52, .bipush 13] (by decide +kernel) rfl rfl trivial ?_
    refine E_callV (κ' := k_Model_fails) (As := [vi (52 : Int32), vi (13 : Int32)]) (st := []) mv_Model_fails (Or.inl (tbk_mem (j := 16) (k := 87) rfl)) rfl (by decide +kernel) (Nat.le_of_ble_eq_true rfl) (Nat.le_of_ble_eq_true rfl) rfl (by decide) (lk_Model_fails hγ this (52 : Int32) (13 : Int32) _ M h) (fun _ _ => Qi_r) (fun v M38 hp => Qi_k (R := fun st => E γ k_Model_findMethod 130 174 [some (vr (some (11, this))), some (vi v1), none, none, none, some (vi v5), none, none, some (vi v8), none] st M38 (Qi Q)) hp (fun r39 h => ?_))
    exact E_iret rfl (by decide +kernel) h
set_option maxRecDepth 4096 in
theorem lk_Model_findMethod_j128 {γ : Gm} (hγ : Gk γ) (this : Nat) (Q : Int32 → Mem → Prop) (v1 : Int32) (v3 : Int32) (v4 : Int32) (v5 : Int32) (v6 : Int32) (v8 : Int32) (M : Mem) (h : w_Model_findMethod_j128 this Q v1 v3 v4 v5 v6 v8 M) : E γ k_Model_findMethod 130 128 [some (vr (some (11, this))), some (vi v1), none, some (vi v3), some (vi v4), some (vi v5), some (vi v6), none, some (vi v8), none] [] M (Qi Q) := by
  unfold w_Model_findMethod_j128 at h
  refine E_blk (lv' := [some (vr (some (11, this))), some (vi v1), none, some (vi v3), some (vi v4), some (vi v5), some (vi v6), none, some (vi v8), none]) (st' := [vi v8]) (M1 := M) (pc' := 130) (tb_Model hγ) [.iload 8] (by decide +kernel) rfl rfl trivial ?_
  refine E_if_ge (off := 31) (tgt := 161) (by decide +kernel) (by decide) (fun b14 => ?_) (fun b14 => ?_)
  · rw [if_pos b14] at h
    refine E_mask [true, true, false, false, false, true, false, false, true, false] rfl ?_
    exact lk_Model_findMethod_j161 hγ this Q v1 v5 v8 M h
  · rw [if_neg b14] at h
    refine E_blk (lv' := [some (vr (some (11, this))), some (vi v1), none, some (vi v3), some (vi v4), some (vi v5), some (vi v6), none, some (vi v8), none]) (st' := [vi (mI M 11 this 6), vi v3]) (M1 := M) (pc' := 138) (tb_Model hγ) [.iload_n 3, .aload_n 0, .getfield 121] (by decide +kernel) rfl rfl trivial ?_
    refine E_icmp_eq (off := 23) (tgt := 161) (by decide +kernel) (by decide) (fun b40 => ?_) (fun b40 => ?_)
    · rw [if_pos b40] at h
      refine E_mask [true, true, false, false, false, true, false, false, true, false] rfl ?_
      exact lk_Model_findMethod_j161 hγ this Q v1 v5 v8 M h
    · rw [if_neg b40] at h
      refine E_blk (lv' := [some (vr (some (11, this))), some (vi v1), none, some (vi v3), some (vi v4), some (vi v5), some (vi v6), none, some (vi v8), none]) (st' := [vi (mI M 11 this 7), vi v3]) (M1 := M) (pc' := 146) (tb_Model hγ) [.iload_n 3, .aload_n 0, .getfield 127] (by decide +kernel) rfl rfl trivial ?_
      refine E_icmp_eq (off := 15) (tgt := 161) (by decide +kernel) (by decide) (fun b41 => ?_) (fun b41 => ?_)
      · rw [if_pos b41] at h
        refine E_mask [true, true, false, false, false, true, false, false, true, false] rfl ?_
        exact lk_Model_findMethod_j161 hγ this Q v1 v5 v8 M h
      · rw [if_neg b41] at h
        refine E_blk (lv' := [some (vr (some (11, this))), some (vi v1), none, some (vi v3), some (vi v4), some (vi v5), some (vi v6), none, some (vi v8), none]) (st' := [vi (0 : Int32), vi v4, vi v3, vi v6, vr (some (11, this))]) (M1 := M) (pc' := 156) (tb_Model hγ) [.aload_n 0, .iload 6, .iload_n 3, .iload 4, .iconst 0] (by decide +kernel) rfl rfl trivial ?_
        refine E_callV (κ' := k_Model_inFaces) (As := [vi v6, vi v3, vi v4, vi (0 : Int32)]) (st := []) mv_Model_inFaces (Or.inl (tbk_mem (j := 16) (k := 91) rfl)) rfl (by decide +kernel) (Nat.le_of_ble_eq_true rfl) (Nat.le_of_ble_eq_true rfl) rfl (by decide) (lk_Model_inFaces hγ this v6 v3 v4 (0 : Int32) _ M h) (fun _ _ => Qi_r) (fun v M42 hp => Qi_k (R := fun st => E γ k_Model_findMethod 130 159 [some (vr (some (11, this))), some (vi v1), none, some (vi v3), some (vi v4), some (vi v5), some (vi v6), none, some (vi v8), none] st M42 (Qi Q)) hp (fun r43 h => ?_))
        refine E_blk (lv' := [some (vr (some (11, this))), some (vi v1), none, some (vi v3), some (vi v4), some (vi v5), some (vi v6), none, some (vi r43), none]) (st' := []) (M1 := M42) (pc' := 161) (tb_Model hγ) [.istore 8] (by decide +kernel) rfl rfl trivial ?_
        refine E_mask [true, true, false, false, false, true, false, false, true, false] rfl ?_
        exact lk_Model_findMethod_j161 hγ this Q v1 v5 r43 M42 h
set_option maxRecDepth 4096 in
theorem lk_Model_findMethod_j123 {γ : Gm} (hγ : Gk γ) (this : Nat) (Q : Int32 → Mem → Prop) (k75 : Int32 → Int32 → Int32 → Int32 → Int32 → Int32 → Int32 → Mem → Prop) (hk75 : ∀ (v1 : Int32) (v3 : Int32) (v4 : Int32) (v5 : Int32) (v6 : Int32) (v8 : Int32) (v9 : Int32) (M : Mem), k75 v1 v3 v4 v5 v6 v8 v9 M → E γ k_Model_findMethod 130 75 [some (vr (some (11, this))), some (vi v1), none, some (vi v3), some (vi v4), some (vi v5), some (vi v6), none, some (vi v8), some (vi v9)] [] M (Qi Q)) (v1 : Int32) (v3 : Int32) (v4 : Int32) (v5 : Int32) (v6 : Int32) (v8 : Int32) (s0 : Int32) (M : Mem) (h : w_Model_findMethod_j123 this Q k75 v1 v3 v4 v5 v6 v8 s0 M) : E γ k_Model_findMethod 130 123 [some (vr (some (11, this))), some (vi v1), none, some (vi v3), some (vi v4), some (vi v5), some (vi v6), none, some (vi v8), none] [vi s0] M (Qi Q) := by
  unfold w_Model_findMethod_j123 at h
  refine E_blk (lv' := [some (vr (some (11, this))), some (vi v1), none, some (vi v3), some (vi v4), some (vi v5), some (vi v6), none, some (vi v8), some (vi s0)]) (st' := []) (M1 := M) (pc' := 125) (tb_Model hγ) [.istore 9] (by decide +kernel) rfl rfl trivial ?_
  refine E_goto (off := -50) (tgt := 75) (by decide +kernel) (by decide) ?_
  refine E_mask [true, true, false, true, true, true, true, false, true, true] rfl ?_
  exact hk75 v1 v3 v4 v5 v6 v8 s0 M h
set_option maxRecDepth 4096 in
theorem lk_Model_findMethod_L75 {γ : Gm} (hγ : Gk γ) (this : Nat) (Q : Int32 → Mem → Prop) : ∀ (n : Nat) (v1 : Int32) (v3 : Int32) (v4 : Int32) (v5 : Int32) (v6 : Int32) (v8 : Int32) (v9 : Int32) (M : Mem), w_Model_findMethod_L75 this Q n v1 v3 v4 v5 v6 v8 v9 M → E γ k_Model_findMethod 130 75 [some (vr (some (11, this))), some (vi v1), none, some (vi v3), some (vi v4), some (vi v5), some (vi v6), none, some (vi v8), some (vi v9)] [] M (Qi Q) := by
  intro n
  induction n with
  | zero => intro v1 v3 v4 v5 v6 v8 v9 M h; exact h.elim
  | succ n ih =>
    intro v1 v3 v4 v5 v6 v8 v9 M h
    unfold w_Model_findMethod_L75 at h
    refine E_blk (lv' := [some (vr (some (11, this))), some (vi v1), none, some (vi v3), some (vi v4), some (vi v5), some (vi v6), none, some (vi v8), some (vi v9)]) (st' := [vi v9]) (M1 := M) (pc' := 77) (tb_Model hγ) [.iload 9] (by decide +kernel) rfl rfl trivial ?_
    refine E_if_lt (off := 51) (tgt := 128) (by decide +kernel) (by decide) (fun b13 => ?_) (fun b13 => ?_)
    · rw [if_pos b13] at h
      refine E_mask [true, true, false, true, true, true, true, false, true, false] rfl ?_
      exact lk_Model_findMethod_j128 hγ this Q v1 v3 v4 v5 v6 v8 M h
    · rw [if_neg b13] at h
      refine E_blk (lv' := [some (vr (some (11, this))), some (vi v1), none, some (vi v3), some (vi v4), some (vi v5), some (vi v6), none, some (vi v8), some (vi v9)]) (st' := [vi v8]) (M1 := M) (pc' := 82) (tb_Model hγ) [.iload 8] (by decide +kernel) rfl rfl trivial ?_
      refine E_if_ge (off := 46) (tgt := 128) (by decide +kernel) (by decide) (fun b44 => ?_) (fun b44 => ?_)
      · rw [if_pos b44] at h
        refine E_mask [true, true, false, true, true, true, true, false, true, false] rfl ?_
        exact lk_Model_findMethod_j128 hγ this Q v1 v3 v4 v5 v6 v8 M h
      · rw [if_neg b44] at h
        refine E_blk (lv' := [some (vr (some (11, this))), some (vi v1), none, some (vi v3), some (vi v4), some (vi v5), some (vi v6), none, some (vi v8), some (vi v9)]) (st' := [vi (mI M 11 this 7), vi v3]) (M1 := M) (pc' := 90) (tb_Model hγ) [.iload_n 3, .aload_n 0, .getfield 127] (by decide +kernel) rfl rfl trivial ?_
        refine E_icmp_eq (off := 38) (tgt := 128) (by decide +kernel) (by decide) (fun b45 => ?_) (fun b45 => ?_)
        · rw [if_pos b45] at h
          refine E_mask [true, true, false, true, true, true, true, false, true, false] rfl ?_
          exact lk_Model_findMethod_j128 hγ this Q v1 v3 v4 v5 v6 v8 M h
        · rw [if_neg b45] at h
          refine E_blk (lv' := [some (vr (some (11, this))), some (vi v1), none, some (vi v3), some (vi v4), some (vi v5), some (vi v6), none, some (vi v8), some (vi v9)]) (st' := [vi v4, vi v3, vi v9, vr (some (11, this))]) (M1 := M) (pc' := 99) (tb_Model hγ) [.aload_n 0, .iload 9, .iload_n 3, .iload 4] (by decide +kernel) rfl rfl trivial ?_
          refine E_callV (κ' := k_Model_methodIn) (As := [vi v9, vi v3, vi v4]) (st := []) mv_Model_methodIn (Or.inl (tbk_mem (j := 15) (k := 165) rfl)) rfl (by decide +kernel) (Nat.le_of_ble_eq_true rfl) (Nat.le_of_ble_eq_true rfl) rfl (by decide) (lk_Model_methodIn hγ this v9 v3 v4 _ M h) (fun _ _ => Qi_r) (fun v M46 hp => Qi_k (R := fun st => E γ k_Model_findMethod 130 102 [some (vr (some (11, this))), some (vi v1), none, some (vi v3), some (vi v4), some (vi v5), some (vi v6), none, some (vi v8), some (vi v9)] st M46 (Qi Q)) hp (fun r47 h => ?_))
          refine E_blk (lv' := [some (vr (some (11, this))), some (vi v1), none, some (vi v3), some (vi v4), some (vi v5), some (vi v6), none, some (vi r47), some (vi v9)]) (st' := [vi (mI M46 11 this 6), vi v3]) (M1 := M46) (pc' := 109) (tb_Model hγ) [.istore 8, .iload_n 3, .aload_n 0, .getfield 121] (by decide +kernel) rfl rfl trivial ?_
          refine E_icmp_ne (off := 8) (tgt := 117) (by decide +kernel) (by decide) (fun b48 => ?_) (fun b48 => ?_)
          · rw [if_pos b48] at h
            refine E_blk (lv' := [some (vr (some (11, this))), some (vi v1), none, some (vi v3), some (vi v4), some (vi v5), some (vi v6), none, some (vi r47), some (vi v9)]) (st' := [vi (-2 : Int32)]) (M1 := M46) (pc' := 114) (tb_Model hγ) [.bipush (.negSucc 1)] (by decide +kernel) rfl rfl trivial ?_
            refine E_goto (off := 9) (tgt := 123) (by decide +kernel) (by decide) ?_
            refine E_mask [true, true, false, true, true, true, true, false, true, false] rfl ?_
            exact lk_Model_findMethod_j123 hγ this Q (w_Model_findMethod_L75 this Q n) ih v1 v3 v4 v5 v6 r47 (-2 : Int32) M46 h
          · rw [if_neg b48] at h
            refine E_blk (lv' := [some (vr (some (11, this))), some (vi v1), none, some (vi v3), some (vi v4), some (vi v5), some (vi v6), none, some (vi r47), some (vi v9)]) (st' := [vi v9, vr (some (11, this))]) (M1 := M46) (pc' := 120) (tb_Model hγ) [.aload_n 0, .iload 9] (by decide +kernel) rfl rfl trivial ?_
            refine E_callV (κ' := k_Model_parentOf) (As := [vi v9]) (st := []) mv_Model_parentOf (Or.inl (tbk_mem (j := 15) (k := 157) rfl)) rfl (by decide +kernel) (Nat.le_of_ble_eq_true rfl) (Nat.le_of_ble_eq_true rfl) rfl (by decide) (lk_Model_parentOf hγ this v9 _ M46 h) (fun _ _ => Qi_r) (fun v M49 hp => Qi_k (R := fun st => E γ k_Model_findMethod 130 123 [some (vr (some (11, this))), some (vi v1), none, some (vi v3), some (vi v4), some (vi v5), some (vi v6), none, some (vi r47), some (vi v9)] st M49 (Qi Q)) hp (fun r50 h => ?_))
            refine E_mask [true, true, false, true, true, true, true, false, true, false] rfl ?_
            exact lk_Model_findMethod_j123 hγ this Q (w_Model_findMethod_L75 this Q n) ih v1 v3 v4 v5 v6 r47 r50 M49 h
set_option maxRecDepth 4096 in
theorem lk_Model_findMethod_j67 {γ : Gm} (hγ : Gk γ) (this : Nat) (Q : Int32 → Mem → Prop) (v1 : Int32) (v3 : Int32) (v4 : Int32) (v5 : Int32) (v6 : Int32) (M : Mem) (h : w_Model_findMethod_j67 this Q v1 v3 v4 v5 v6 M) : E γ k_Model_findMethod 130 67 [some (vr (some (11, this))), some (vi v1), none, some (vi v3), some (vi v4), some (vi v5), some (vi v6), none, none, none] [] M (Qi Q) := by
  unfold w_Model_findMethod_j67 at h
  refine E_blk (lv' := [some (vr (some (11, this))), some (vi v1), none, some (vi v3), some (vi v4), some (vi v5), some (vi v6), none, some (vi (-2 : Int32)), some (vi v6)]) (st' := []) (M1 := M) (pc' := 75) (tb_Model hγ) [.bipush (.negSucc 1), .istore 8, .iload 6, .istore 9] (by decide +kernel) rfl rfl trivial ?_
  obtain ⟨n51, h⟩ := h
  refine E_mask [true, true, false, true, true, true, true, false, true, true] rfl ?_
  exact lk_Model_findMethod_L75 hγ this Q n51 v1 v3 v4 v5 v6 (-2 : Int32) v6 M h
set_option maxRecDepth 4096 in
theorem lk_Model_findMethod_j47 {γ : Gm} (hγ : Gk γ) (this : Nat) (Q : Int32 → Mem → Prop) (v1 : Int32) (v3 : Int32) (v4 : Int32) (v5 : Int32) (v6 : Int32) (v7 : Int32) (M : Mem) (h : w_Model_findMethod_j47 this Q v1 v3 v4 v5 v6 v7 M) : E γ k_Model_findMethod 130 47 [some (vr (some (11, this))), some (vi v1), none, some (vi v3), some (vi v4), some (vi v5), some (vi v6), some (vi v7), none, none] [] M (Qi Q) := by
  unfold w_Model_findMethod_j47 at h
  refine E_blk (lv' := [some (vr (some (11, this))), some (vi v1), none, some (vi v3), some (vi v4), some (vi v5), some (vi v6), some (vi v7), none, none]) (st' := [vi (53 : Int32), vi v1]) (M1 := M) (pc' := 50) (tb_Model hγ) [.iload_n 1, .bipush 53] (by decide +kernel) rfl rfl trivial ?_
  refine E_icmp_ne (off := 17) (tgt := 67) (by decide +kernel) (by decide) (fun b9 => ?_) (fun b9 => ?_)
  · rw [if_pos b9] at h
    refine E_blk (lv' := [some (vr (some (11, this))), some (vi v1), none, some (vi v3), some (vi v4), some (vi v5), some (vi v6), some (vi v7), none, none]) (st' := [vi v7]) (M1 := M) (pc' := 55) (tb_Model hγ) [.iload 7] (by decide +kernel) rfl rfl trivial ?_
    refine E_if_ne (off := 12) (tgt := 67) (by decide +kernel) (by decide) (fun b10 => ?_) (fun b10 => ?_)
    · rw [if_pos b10] at h
      refine E_mask [true, false, false, false, false, false, false, false, false, false] rfl ?_
      exact lk_Model_findMethod_j58 hγ this Q  M h
    · rw [if_neg b10] at h
      refine E_mask [true, true, false, true, true, true, true, false, false, false] rfl ?_
      exact lk_Model_findMethod_j67 hγ this Q v1 v3 v4 v5 v6 M h
  · rw [if_neg b9] at h
    refine E_mask [true, true, false, true, true, true, true, false, false, false] rfl ?_
    exact lk_Model_findMethod_j67 hγ this Q v1 v3 v4 v5 v6 M h
set_option maxRecDepth 4096 in
theorem lk_Model_findMethod_j34 {γ : Gm} (hγ : Gk γ) (this : Nat) (Q : Int32 → Mem → Prop) (v1 : Int32) (v3 : Int32) (v4 : Int32) (v5 : Int32) (v6 : Int32) (s0 : Int32) (M : Mem) (h : w_Model_findMethod_j34 this Q v1 v3 v4 v5 v6 s0 M) : E γ k_Model_findMethod 130 34 [some (vr (some (11, this))), some (vi v1), none, some (vi v3), some (vi v4), some (vi v5), some (vi v6), none, none, none] [vi s0] M (Qi Q) := by
  unfold w_Model_findMethod_j34 at h
  refine E_blk (lv' := [some (vr (some (11, this))), some (vi v1), none, some (vi v3), some (vi v4), some (vi v5), some (vi v6), some (vi s0), none, none]) (st' := [vi (50 : Int32), vi v1]) (M1 := M) (pc' := 39) (tb_Model hγ) [.istore 7, .iload_n 1, .bipush 50] (by decide +kernel) rfl rfl trivial ?_
  refine E_icmp_ne (off := 8) (tgt := 47) (by decide +kernel) (by decide) (fun b7 => ?_) (fun b7 => ?_)
  · rw [if_pos b7] at h
    refine E_blk (lv' := [some (vr (some (11, this))), some (vi v1), none, some (vi v3), some (vi v4), some (vi v5), some (vi v6), some (vi s0), none, none]) (st' := [vi s0]) (M1 := M) (pc' := 44) (tb_Model hγ) [.iload 7] (by decide +kernel) rfl rfl trivial ?_
    refine E_if_ne (off := 14) (tgt := 58) (by decide +kernel) (by decide) (fun b8 => ?_) (fun b8 => ?_)
    · rw [if_pos b8] at h
      refine E_mask [true, true, false, true, true, true, true, true, false, false] rfl ?_
      exact lk_Model_findMethod_j47 hγ this Q v1 v3 v4 v5 v6 s0 M h
    · rw [if_neg b8] at h
      refine E_mask [true, false, false, false, false, false, false, false, false, false] rfl ?_
      exact lk_Model_findMethod_j58 hγ this Q  M h
  · rw [if_neg b7] at h
    refine E_mask [true, true, false, true, true, true, true, true, false, false] rfl ?_
    exact lk_Model_findMethod_j47 hγ this Q v1 v3 v4 v5 v6 s0 M h
set_option maxRecDepth 4096 in
theorem lk_Model_findMethod {γ : Gm} (hγ : Gk γ) (this : Nat) (a1 : Int32) (a2 : Int32) (a3 : Int32) (a4 : Int32) (a5 : Int32) (Q : Int32 → Mem → Prop) (M : Mem) (h : w_Model_findMethod this a1 a2 a3 a4 a5 Q M) : E γ k_Model_findMethod 130 0 [some (vr (some (11, this))), some (vi a1), some (vi a2), some (vi a3), some (vi a4), some (vi a5), none, none, none, none] [] M (Qi Q) := by
  unfold w_Model_findMethod at h
  refine E_blk (lv' := [some (vr (some (11, this))), some (vi a1), some (vi a2), some (vi a3), some (vi a4), some (vi a5), none, none, none, none]) (st' := [vi a2, vr (some (11, this))]) (M1 := M) (pc' := 2) (tb_Model hγ) [.aload_n 0, .iload_n 2] (by decide +kernel) rfl rfl trivial ?_
  refine E_callV (κ' := k_Model_findLinked) (As := [vi a2]) (st := []) mv_Model_findLinked (Or.inl (tbk_mem (j := 16) (k := 83) rfl)) rfl (by decide +kernel) (Nat.le_of_ble_eq_true rfl) (Nat.le_of_ble_eq_true rfl) rfl (by decide) (lk_Model_findLinked hγ this a2 _ M h) (fun _ _ => Qi_r) (fun v M1 hp => Qi_k (R := fun st => E γ k_Model_findMethod 130 5 [some (vr (some (11, this))), some (vi a1), some (vi a2), some (vi a3), some (vi a4), some (vi a5), none, none, none, none] st M1 (Qi Q)) hp (fun r2 h => ?_))
  refine E_blk (lv' := [some (vr (some (11, this))), some (vi a1), some (vi a2), some (vi a3), some (vi a4), some (vi a5), some (vi r2), none, none, none]) (st' := [vi r2]) (M1 := M1) (pc' := 9) (tb_Model hγ) [.istore 6, .iload 6] (by decide +kernel) rfl rfl trivial ?_
  refine E_if_ge (off := 5) (tgt := 14) (by decide +kernel) (by decide) (fun b3 => ?_) (fun b3 => ?_)
  · rw [if_pos b3] at h
    refine E_blk (lv' := [some (vr (some (11, this))), some (vi a1), some (vi a2), some (vi a3), some (vi a4), some (vi a5), some (vi r2), none, none, none]) (st' := [vr (mR M1 11 this 45)]) (M1 := M1) (pc' := 18) (tb_Model hγ) [.aload_n 0, .getfield 522] (by decide +kernel) rfl rfl trivial ?_
    obtain ⟨i4, ei4, h⟩ := h
    rw [ei4]
    obtain ⟨c5, h⟩ := h
    refine E_blk (lv' := [some (vr (some (11, this))), some (vi a1), some (vi a2), some (vi a3), some (vi a4), some (vi a5), some (vi r2), none, none, none]) (st' := [vi ((mI M1 132 i4 r2.toNatClampNeg) &&& (4 : Int32))]) (M1 := M1) (pc' := 26) (tb_Model hγ) [.getfield 429, .iload 6, .iaload, .iconst 4, .iand] (by decide +kernel) rfl rfl ⟨c5, trivial⟩ ?_
    refine E_if_eq (off := 7) (tgt := 33) (by decide +kernel) (by decide) (fun b6 => ?_) (fun b6 => ?_)
    · rw [if_pos b6] at h
      refine E_blk (lv' := [some (vr (some (11, this))), some (vi a1), some (vi a2), some (vi a3), some (vi a4), some (vi a5), some (vi r2), none, none, none]) (st' := [vi (0 : Int32)]) (M1 := M1) (pc' := 34) (tb_Model hγ) [.iconst 0] (by decide +kernel) rfl rfl trivial ?_
      refine E_mask [true, true, false, true, true, true, true, false, false, false] rfl ?_
      exact lk_Model_findMethod_j34 hγ this Q a1 a3 a4 a5 r2 (0 : Int32) M1 h
    · rw [if_neg b6] at h
      refine E_blk (lv' := [some (vr (some (11, this))), some (vi a1), some (vi a2), some (vi a3), some (vi a4), some (vi a5), some (vi r2), none, none, none]) (st' := [vi (1 : Int32)]) (M1 := M1) (pc' := 30) (tb_Model hγ) [.iconst 1] (by decide +kernel) rfl rfl trivial ?_
      refine E_goto (off := 4) (tgt := 34) (by decide +kernel) (by decide) ?_
      refine E_mask [true, true, false, true, true, true, true, false, false, false] rfl ?_
      exact lk_Model_findMethod_j34 hγ this Q a1 a3 a4 a5 r2 (1 : Int32) M1 h
  · rw [if_neg b3] at h
    refine E_blk (lv' := [some (vr (some (11, this))), some (vi a1), some (vi a2), some (vi a3), some (vi a4), some (vi a5), some (vi r2), none, none, none]) (st' := [vi (-1 : Int32)]) (M1 := M1) (pc' := 13) (tb_Model hγ) [.iconst (.negSucc 0)] (by decide +kernel) rfl rfl trivial ?_
    exact E_iret rfl (by decide +kernel) h
def w_Model_dispatch_j103 (this : Nat) (Q : Int32 → Mem → Prop)  (M : Mem) : Prop :=
  w_Model_fails this (58 : Int32) (18 : Int32) (fun r5 M4 => Q r5 M4) M
def w_Model_dispatch_j82 (this : Nat) (Q : Int32 → Mem → Prop) (v4 : Int32) (M : Mem) : Prop :=
  if v4 < 0 then (w_Model_dispatch_j103 this Q  M) else (∃ i6, (mR M 11 this 45) = some (12, i6) ∧ vp_in v4 (mL M 146 i6) ∧ if ((mI M 146 i6 v4.toNatClampNeg) &&& (8 : Int32)) = 0 then (Q v4 M) else (w_Model_dispatch_j103 this Q  M))
def w_Model_dispatch_j67 (this : Nat) (Q : Int32 → Mem → Prop) (v1 : Int32) (v2 : Int32) (v3 : Int32) (v4 : Int32) (M : Mem) : Prop :=
  if 0 ≤ v4 then (w_Model_dispatch_j82 this Q v4 M) else (w_Model_inFaces this v1 v2 v3 (1 : Int32) (fun r10 M9 => w_Model_dispatch_j82 this Q r10 M9) M)
def w_Model_dispatch_j54 (this : Nat) (Q : Int32 → Mem → Prop) (k7 : Int32 → Int32 → Int32 → Int32 → Int32 → Mem → Prop) (v1 : Int32) (v2 : Int32) (v3 : Int32) (v5 : Int32) (s0 : Int32) (M : Mem) : Prop :=
  w_Model_parentOf this v5 (fun r16 M15 => k7 v1 v2 v3 s0 r16 M15) M
def w_Model_dispatch_j52 (this : Nat) (Q : Int32 → Mem → Prop) (k7 : Int32 → Int32 → Int32 → Int32 → Int32 → Mem → Prop) (v1 : Int32) (v2 : Int32) (v3 : Int32) (v5 : Int32) (M : Mem) : Prop :=
  w_Model_dispatch_j54 this Q k7 v1 v2 v3 v5 (-2 : Int32) M
def w_Model_dispatch_L7 (this : Nat) (Q : Int32 → Mem → Prop) : Nat → Int32 → Int32 → Int32 → Int32 → Int32 → Mem → Prop
  | 0, _, _, _, _, _, _ => False
  | n + 1, v1, v2, v3, v4, v5, M => if v5 < 0 then (w_Model_dispatch_j67 this Q v1 v2 v3 v4 M) else (if 0 ≤ v4 then (w_Model_dispatch_j67 this Q v1 v2 v3 v4 M) else (w_Model_methodIn this v5 v2 v3 (fun r13 M12 => if r13 < 0 then (w_Model_dispatch_j52 this Q (w_Model_dispatch_L7 this Q n) v1 v2 v3 v5 M12) else (∃ i17, (mR M12 11 this 45) = some (12, i17) ∧ vp_in r13 (mL M12 146 i17) ∧ if ((mI M12 146 i17 r13.toNatClampNeg) &&& (5 : Int32)) = 0 then (w_Model_dispatch_j54 this Q (w_Model_dispatch_L7 this Q n) v1 v2 v3 v5 r13 M12) else (w_Model_dispatch_j52 this Q (w_Model_dispatch_L7 this Q n) v1 v2 v3 v5 M12))) M))
def w_Model_dispatch (this : Nat) (a1 : Int32) (a2 : Int32) (a3 : Int32) (Q : Int32 → Mem → Prop) (M : Mem) : Prop :=
  ∃ n20 : Nat, w_Model_dispatch_L7 this Q n20 a1 a2 a3 (-2 : Int32) a1 M
set_option maxRecDepth 4096 in
theorem lk_Model_dispatch_j103 {γ : Gm} (hγ : Gk γ) (this : Nat) (Q : Int32 → Mem → Prop)  (M : Mem) (h : w_Model_dispatch_j103 this Q  M) : E γ k_Model_dispatch 64 103 [some (vr (some (11, this))), none, none, none, none, none, none] [] M (Qi Q) := by
  unfold w_Model_dispatch_j103 at h
  refine E_blk (lv' := [some (vr (some (11, this))), none, none, none, none, none, none]) (st' := [vi (18 : Int32), vi (58 : Int32), vr (some (11, this))]) (M1 := M) (pc' := 108) (tb_Model hγ) [.aload_n 0, .bipush 58, .bipush 18] (by decide +kernel) rfl rfl trivial ?_
  refine E_callV (κ' := k_Model_fails) (As := [vi (58 : Int32), vi (18 : Int32)]) (st := []) mv_Model_fails (Or.inl (tbk_mem (j := 16) (k := 87) rfl)) rfl (by decide +kernel) (Nat.le_of_ble_eq_true rfl) (Nat.le_of_ble_eq_true rfl) rfl (by decide) (lk_Model_fails hγ this (58 : Int32) (18 : Int32) _ M h) (fun _ _ => Qi_r) (fun v M4 hp => Qi_k (R := fun st => E γ k_Model_dispatch 64 111 [some (vr (some (11, this))), none, none, none, none, none, none] st M4 (Qi Q)) hp (fun r5 h => ?_))
  refine E_goto (off := 5) (tgt := 116) (by decide +kernel) (by decide) ?_
  exact E_iret rfl (by decide +kernel) h
set_option maxRecDepth 4096 in
theorem lk_Model_dispatch_j82 {γ : Gm} (hγ : Gk γ) (this : Nat) (Q : Int32 → Mem → Prop) (v4 : Int32) (M : Mem) (h : w_Model_dispatch_j82 this Q v4 M) : E γ k_Model_dispatch 64 82 [some (vr (some (11, this))), none, none, none, some (vi v4), none, none] [] M (Qi Q) := by
  unfold w_Model_dispatch_j82 at h
  refine E_blk (lv' := [some (vr (some (11, this))), none, none, none, some (vi v4), none, none]) (st' := [vi v4]) (M1 := M) (pc' := 84) (tb_Model hγ) [.iload 4] (by decide +kernel) rfl rfl trivial ?_
  refine E_if_lt (off := 19) (tgt := 103) (by decide +kernel) (by decide) (fun b3 => ?_) (fun b3 => ?_)
  · rw [if_pos b3] at h
    refine E_mask [true, false, false, false, false, false, false] rfl ?_
    exact lk_Model_dispatch_j103 hγ this Q  M h
  · rw [if_neg b3] at h
    refine E_blk (lv' := [some (vr (some (11, this))), none, none, none, some (vi v4), none, none]) (st' := [vr (mR M 11 this 45)]) (M1 := M) (pc' := 91) (tb_Model hγ) [.aload_n 0, .getfield 522] (by decide +kernel) rfl rfl trivial ?_
    obtain ⟨i6, ei6, h⟩ := h
    rw [ei6]
    obtain ⟨c7, h⟩ := h
    refine E_blk (lv' := [some (vr (some (11, this))), none, none, none, some (vi v4), none, none]) (st' := [vi ((mI M 146 i6 v4.toNatClampNeg) &&& (8 : Int32))]) (M1 := M) (pc' := 100) (tb_Model hγ) [.getfield 453, .iload 4, .iaload, .bipush 8, .iand] (by decide +kernel) rfl rfl ⟨c7, trivial⟩ ?_
    refine E_if_eq (off := 14) (tgt := 114) (by decide +kernel) (by decide) (fun b8 => ?_) (fun b8 => ?_)
    · rw [if_pos b8] at h
      refine E_blk (lv' := [some (vr (some (11, this))), none, none, none, some (vi v4), none, none]) (st' := [vi v4]) (M1 := M) (pc' := 116) (tb_Model hγ) [.iload 4] (by decide +kernel) rfl rfl trivial ?_
      exact E_iret rfl (by decide +kernel) h
    · rw [if_neg b8] at h
      refine E_mask [true, false, false, false, false, false, false] rfl ?_
      exact lk_Model_dispatch_j103 hγ this Q  M h
set_option maxRecDepth 4096 in
theorem lk_Model_dispatch_j67 {γ : Gm} (hγ : Gk γ) (this : Nat) (Q : Int32 → Mem → Prop) (v1 : Int32) (v2 : Int32) (v3 : Int32) (v4 : Int32) (M : Mem) (h : w_Model_dispatch_j67 this Q v1 v2 v3 v4 M) : E γ k_Model_dispatch 64 67 [some (vr (some (11, this))), some (vi v1), some (vi v2), some (vi v3), some (vi v4), none, none] [] M (Qi Q) := by
  unfold w_Model_dispatch_j67 at h
  refine E_blk (lv' := [some (vr (some (11, this))), some (vi v1), some (vi v2), some (vi v3), some (vi v4), none, none]) (st' := [vi v4]) (M1 := M) (pc' := 69) (tb_Model hγ) [.iload 4] (by decide +kernel) rfl rfl trivial ?_
  refine E_if_ge (off := 13) (tgt := 82) (by decide +kernel) (by decide) (fun b2 => ?_) (fun b2 => ?_)
  · rw [if_pos b2] at h
    refine E_mask [true, false, false, false, true, false, false] rfl ?_
    exact lk_Model_dispatch_j82 hγ this Q v4 M h
  · rw [if_neg b2] at h
    refine E_blk (lv' := [some (vr (some (11, this))), some (vi v1), some (vi v2), some (vi v3), some (vi v4), none, none]) (st' := [vi (1 : Int32), vi v3, vi v2, vi v1, vr (some (11, this))]) (M1 := M) (pc' := 77) (tb_Model hγ) [.aload_n 0, .iload_n 1, .iload_n 2, .iload_n 3, .iconst 1] (by decide +kernel) rfl rfl trivial ?_
    refine E_callV (κ' := k_Model_inFaces) (As := [vi v1, vi v2, vi v3, vi (1 : Int32)]) (st := []) mv_Model_inFaces (Or.inl (tbk_mem (j := 16) (k := 91) rfl)) rfl (by decide +kernel) (Nat.le_of_ble_eq_true rfl) (Nat.le_of_ble_eq_true rfl) rfl (by decide) (lk_Model_inFaces hγ this v1 v2 v3 (1 : Int32) _ M h) (fun _ _ => Qi_r) (fun v M9 hp => Qi_k (R := fun st => E γ k_Model_dispatch 64 80 [some (vr (some (11, this))), some (vi v1), some (vi v2), some (vi v3), some (vi v4), none, none] st M9 (Qi Q)) hp (fun r10 h => ?_))
    refine E_blk (lv' := [some (vr (some (11, this))), some (vi v1), some (vi v2), some (vi v3), some (vi r10), none, none]) (st' := []) (M1 := M9) (pc' := 82) (tb_Model hγ) [.istore 4] (by decide +kernel) rfl rfl trivial ?_
    refine E_mask [true, false, false, false, true, false, false] rfl ?_
    exact lk_Model_dispatch_j82 hγ this Q r10 M9 h
set_option maxRecDepth 4096 in
theorem lk_Model_dispatch_j54 {γ : Gm} (hγ : Gk γ) (this : Nat) (Q : Int32 → Mem → Prop) (k7 : Int32 → Int32 → Int32 → Int32 → Int32 → Mem → Prop) (hk7 : ∀ (v1 : Int32) (v2 : Int32) (v3 : Int32) (v4 : Int32) (v5 : Int32) (M : Mem), k7 v1 v2 v3 v4 v5 M → E γ k_Model_dispatch 64 7 [some (vr (some (11, this))), some (vi v1), some (vi v2), some (vi v3), some (vi v4), some (vi v5), none] [] M (Qi Q)) (v1 : Int32) (v2 : Int32) (v3 : Int32) (v5 : Int32) (s0 : Int32) (M : Mem) (h : w_Model_dispatch_j54 this Q k7 v1 v2 v3 v5 s0 M) : E γ k_Model_dispatch 64 54 [some (vr (some (11, this))), some (vi v1), some (vi v2), some (vi v3), none, some (vi v5), none] [vi s0] M (Qi Q) := by
  unfold w_Model_dispatch_j54 at h
  refine E_blk (lv' := [some (vr (some (11, this))), some (vi v1), some (vi v2), some (vi v3), some (vi s0), some (vi v5), none]) (st' := [vi v5, vr (some (11, this))]) (M1 := M) (pc' := 59) (tb_Model hγ) [.istore 4, .aload_n 0, .iload 5] (by decide +kernel) rfl rfl trivial ?_
  refine E_callV (κ' := k_Model_parentOf) (As := [vi v5]) (st := []) mv_Model_parentOf (Or.inl (tbk_mem (j := 15) (k := 157) rfl)) rfl (by decide +kernel) (Nat.le_of_ble_eq_true rfl) (Nat.le_of_ble_eq_true rfl) rfl (by decide) (lk_Model_parentOf hγ this v5 _ M h) (fun _ _ => Qi_r) (fun v M15 hp => Qi_k (R := fun st => E γ k_Model_dispatch 64 62 [some (vr (some (11, this))), some (vi v1), some (vi v2), some (vi v3), some (vi s0), some (vi v5), none] st M15 (Qi Q)) hp (fun r16 h => ?_))
  refine E_blk (lv' := [some (vr (some (11, this))), some (vi v1), some (vi v2), some (vi v3), some (vi s0), some (vi r16), none]) (st' := []) (M1 := M15) (pc' := 64) (tb_Model hγ) [.istore 5] (by decide +kernel) rfl rfl trivial ?_
  refine E_goto (off := -57) (tgt := 7) (by decide +kernel) (by decide) ?_
  refine E_mask [true, true, true, true, true, true, false] rfl ?_
  exact hk7 v1 v2 v3 s0 r16 M15 h
set_option maxRecDepth 4096 in
theorem lk_Model_dispatch_j52 {γ : Gm} (hγ : Gk γ) (this : Nat) (Q : Int32 → Mem → Prop) (k7 : Int32 → Int32 → Int32 → Int32 → Int32 → Mem → Prop) (hk7 : ∀ (v1 : Int32) (v2 : Int32) (v3 : Int32) (v4 : Int32) (v5 : Int32) (M : Mem), k7 v1 v2 v3 v4 v5 M → E γ k_Model_dispatch 64 7 [some (vr (some (11, this))), some (vi v1), some (vi v2), some (vi v3), some (vi v4), some (vi v5), none] [] M (Qi Q)) (v1 : Int32) (v2 : Int32) (v3 : Int32) (v5 : Int32) (M : Mem) (h : w_Model_dispatch_j52 this Q k7 v1 v2 v3 v5 M) : E γ k_Model_dispatch 64 52 [some (vr (some (11, this))), some (vi v1), some (vi v2), some (vi v3), none, some (vi v5), none] [] M (Qi Q) := by
  unfold w_Model_dispatch_j52 at h
  refine E_blk (lv' := [some (vr (some (11, this))), some (vi v1), some (vi v2), some (vi v3), none, some (vi v5), none]) (st' := [vi (-2 : Int32)]) (M1 := M) (pc' := 54) (tb_Model hγ) [.bipush (.negSucc 1)] (by decide +kernel) rfl rfl trivial ?_
  refine E_mask [true, true, true, true, false, true, false] rfl ?_
  exact lk_Model_dispatch_j54 hγ this Q k7 hk7 v1 v2 v3 v5 (-2 : Int32) M h
set_option maxRecDepth 4096 in
theorem lk_Model_dispatch_L7 {γ : Gm} (hγ : Gk γ) (this : Nat) (Q : Int32 → Mem → Prop) : ∀ (n : Nat) (v1 : Int32) (v2 : Int32) (v3 : Int32) (v4 : Int32) (v5 : Int32) (M : Mem), w_Model_dispatch_L7 this Q n v1 v2 v3 v4 v5 M → E γ k_Model_dispatch 64 7 [some (vr (some (11, this))), some (vi v1), some (vi v2), some (vi v3), some (vi v4), some (vi v5), none] [] M (Qi Q) := by
  intro n
  induction n with
  | zero => intro v1 v2 v3 v4 v5 M h; exact h.elim
  | succ n ih =>
    intro v1 v2 v3 v4 v5 M h
    unfold w_Model_dispatch_L7 at h
    refine E_blk (lv' := [some (vr (some (11, this))), some (vi v1), some (vi v2), some (vi v3), some (vi v4), some (vi v5), none]) (st' := [vi v5]) (M1 := M) (pc' := 9) (tb_Model hγ) [.iload 5] (by decide +kernel) rfl rfl trivial ?_
    refine E_if_lt (off := 58) (tgt := 67) (by decide +kernel) (by decide) (fun b1 => ?_) (fun b1 => ?_)
    · rw [if_pos b1] at h
      refine E_mask [true, true, true, true, true, false, false] rfl ?_
      exact lk_Model_dispatch_j67 hγ this Q v1 v2 v3 v4 M h
    · rw [if_neg b1] at h
      refine E_blk (lv' := [some (vr (some (11, this))), some (vi v1), some (vi v2), some (vi v3), some (vi v4), some (vi v5), none]) (st' := [vi v4]) (M1 := M) (pc' := 14) (tb_Model hγ) [.iload 4] (by decide +kernel) rfl rfl trivial ?_
      refine E_if_ge (off := 53) (tgt := 67) (by decide +kernel) (by decide) (fun b11 => ?_) (fun b11 => ?_)
      · rw [if_pos b11] at h
        refine E_mask [true, true, true, true, true, false, false] rfl ?_
        exact lk_Model_dispatch_j67 hγ this Q v1 v2 v3 v4 M h
      · rw [if_neg b11] at h
        refine E_blk (lv' := [some (vr (some (11, this))), some (vi v1), some (vi v2), some (vi v3), some (vi v4), some (vi v5), none]) (st' := [vi v3, vi v2, vi v5, vr (some (11, this))]) (M1 := M) (pc' := 22) (tb_Model hγ) [.aload_n 0, .iload 5, .iload_n 2, .iload_n 3] (by decide +kernel) rfl rfl trivial ?_
        refine E_callV (κ' := k_Model_methodIn) (As := [vi v5, vi v2, vi v3]) (st := []) mv_Model_methodIn (Or.inl (tbk_mem (j := 15) (k := 165) rfl)) rfl (by decide +kernel) (Nat.le_of_ble_eq_true rfl) (Nat.le_of_ble_eq_true rfl) rfl (by decide) (lk_Model_methodIn hγ this v5 v2 v3 _ M h) (fun _ _ => Qi_r) (fun v M12 hp => Qi_k (R := fun st => E γ k_Model_dispatch 64 25 [some (vr (some (11, this))), some (vi v1), some (vi v2), some (vi v3), some (vi v4), some (vi v5), none] st M12 (Qi Q)) hp (fun r13 h => ?_))
        refine E_blk (lv' := [some (vr (some (11, this))), some (vi v1), some (vi v2), some (vi v3), some (vi v4), some (vi v5), some (vi r13)]) (st' := [vi r13]) (M1 := M12) (pc' := 29) (tb_Model hγ) [.istore 6, .iload 6] (by decide +kernel) rfl rfl trivial ?_
        refine E_if_lt (off := 23) (tgt := 52) (by decide +kernel) (by decide) (fun b14 => ?_) (fun b14 => ?_)
        · rw [if_pos b14] at h
          refine E_mask [true, true, true, true, false, true, false] rfl ?_
          exact lk_Model_dispatch_j52 hγ this Q (w_Model_dispatch_L7 this Q n) ih v1 v2 v3 v5 M12 h
        · rw [if_neg b14] at h
          refine E_blk (lv' := [some (vr (some (11, this))), some (vi v1), some (vi v2), some (vi v3), some (vi v4), some (vi v5), some (vi r13)]) (st' := [vr (mR M12 11 this 45)]) (M1 := M12) (pc' := 36) (tb_Model hγ) [.aload_n 0, .getfield 522] (by decide +kernel) rfl rfl trivial ?_
          obtain ⟨i17, ei17, h⟩ := h
          rw [ei17]
          obtain ⟨c18, h⟩ := h
          refine E_blk (lv' := [some (vr (some (11, this))), some (vi v1), some (vi v2), some (vi v3), some (vi v4), some (vi v5), some (vi r13)]) (st' := [vi ((mI M12 146 i17 r13.toNatClampNeg) &&& (5 : Int32))]) (M1 := M12) (pc' := 44) (tb_Model hγ) [.getfield 453, .iload 6, .iaload, .iconst 5, .iand] (by decide +kernel) rfl rfl ⟨c18, trivial⟩ ?_
          refine E_if_ne (off := 8) (tgt := 52) (by decide +kernel) (by decide) (fun b19 => ?_) (fun b19 => ?_)
          · rw [if_pos b19] at h
            refine E_blk (lv' := [some (vr (some (11, this))), some (vi v1), some (vi v2), some (vi v3), some (vi v4), some (vi v5), some (vi r13)]) (st' := [vi r13]) (M1 := M12) (pc' := 49) (tb_Model hγ) [.iload 6] (by decide +kernel) rfl rfl trivial ?_
            refine E_goto (off := 5) (tgt := 54) (by decide +kernel) (by decide) ?_
            refine E_mask [true, true, true, true, false, true, false] rfl ?_
            exact lk_Model_dispatch_j54 hγ this Q (w_Model_dispatch_L7 this Q n) ih v1 v2 v3 v5 r13 M12 h
          · rw [if_neg b19] at h
            refine E_mask [true, true, true, true, false, true, false] rfl ?_
            exact lk_Model_dispatch_j52 hγ this Q (w_Model_dispatch_L7 this Q n) ih v1 v2 v3 v5 M12 h
set_option maxRecDepth 4096 in
theorem lk_Model_dispatch {γ : Gm} (hγ : Gk γ) (this : Nat) (a1 : Int32) (a2 : Int32) (a3 : Int32) (Q : Int32 → Mem → Prop) (M : Mem) (h : w_Model_dispatch this a1 a2 a3 Q M) : E γ k_Model_dispatch 64 0 [some (vr (some (11, this))), some (vi a1), some (vi a2), some (vi a3), none, none, none] [] M (Qi Q) := by
  unfold w_Model_dispatch at h
  refine E_blk (lv' := [some (vr (some (11, this))), some (vi a1), some (vi a2), some (vi a3), some (vi (-2 : Int32)), some (vi a1), none]) (st' := []) (M1 := M) (pc' := 7) (tb_Model hγ) [.bipush (.negSucc 1), .istore 4, .iload_n 1, .istore 5] (by decide +kernel) rfl rfl trivial ?_
  obtain ⟨n20, h⟩ := h
  refine E_mask [true, true, true, true, true, true, false] rfl ?_
  exact lk_Model_dispatch_L7 hγ this Q n20 a1 a2 a3 (-2 : Int32) a1 M h
def w_Model_classOfRef (this : Nat) (a1 : Int32) (Q : Int32 → Mem → Prop) (M : Mem) : Prop :=
  if a1 < (1001 : Int32) then (∃ i2, (mR M 11 this 45) = some (12, i2) ∧ vp_in a1 (mL M 157 i2) ∧ if (mI M 157 i2 a1.toNatClampNeg) = (-1 : Int32) then (Q (0 : Int32) M) else (∃ i5, (mR M 11 this 45) = some (12, i5) ∧ vp_in a1 (mL M 157 i5) ∧ Q (mI M 157 i5 a1.toNatClampNeg) M)) else (∃ i7, (mR M 11 this 45) = some (12, i7) ∧ ∃ i8, (mR M 12 i7 53) = some (300, i8) ∧ vp_in (a1 - (1001 : Int32)) (mL M 300 i8) ∧ Q (mI M 300 i8 (a1 - (1001 : Int32)).toNatClampNeg) M)
set_option maxRecDepth 4096 in
theorem lk_Model_classOfRef {γ : Gm} (hγ : Gk γ) (this : Nat) (a1 : Int32) (Q : Int32 → Mem → Prop) (M : Mem) (h : w_Model_classOfRef this a1 Q M) : E γ k_Model_classOfRef 0 0 [some (vr (some (11, this))), some (vi a1)] [] M (Qi Q) := by
  unfold w_Model_classOfRef at h
  refine E_blk (lv' := [some (vr (some (11, this))), some (vi a1)]) (st' := [vi (1001 : Int32), vi a1]) (M1 := M) (pc' := 4) (tb_Model hγ) [.iload_n 1, .sipush 1001] (by decide +kernel) rfl rfl trivial ?_
  refine E_icmp_lt (off := 19) (tgt := 23) (by decide +kernel) (by decide) (fun b1 => ?_) (fun b1 => ?_)
  · rw [if_pos b1] at h
    refine E_blk (lv' := [some (vr (some (11, this))), some (vi a1)]) (st' := [vr (mR M 11 this 45)]) (M1 := M) (pc' := 27) (tb_Model hγ) [.aload_n 0, .getfield 522] (by decide +kernel) rfl rfl trivial ?_
    obtain ⟨i2, ei2, h⟩ := h
    rw [ei2]
    obtain ⟨c3, h⟩ := h
    refine E_blk (lv' := [some (vr (some (11, this))), some (vi a1)]) (st' := [vi (-1 : Int32), vi (mI M 157 i2 a1.toNatClampNeg)]) (M1 := M) (pc' := 33) (tb_Model hγ) [.getfield 872, .iload_n 1, .iaload, .iconst (.negSucc 0)] (by decide +kernel) rfl rfl ⟨c3, trivial⟩ ?_
    refine E_icmp_ne (off := 7) (tgt := 40) (by decide +kernel) (by decide) (fun b4 => ?_) (fun b4 => ?_)
    · rw [if_pos b4] at h
      refine E_blk (lv' := [some (vr (some (11, this))), some (vi a1)]) (st' := [vi (0 : Int32)]) (M1 := M) (pc' := 37) (tb_Model hγ) [.iconst 0] (by decide +kernel) rfl rfl trivial ?_
      refine E_goto (off := 12) (tgt := 49) (by decide +kernel) (by decide) ?_
      exact E_iret rfl (by decide +kernel) h
    · rw [if_neg b4] at h
      refine E_blk (lv' := [some (vr (some (11, this))), some (vi a1)]) (st' := [vr (mR M 11 this 45)]) (M1 := M) (pc' := 44) (tb_Model hγ) [.aload_n 0, .getfield 522] (by decide +kernel) rfl rfl trivial ?_
      obtain ⟨i5, ei5, h⟩ := h
      rw [ei5]
      obtain ⟨c6, h⟩ := h
      refine E_blk (lv' := [some (vr (some (11, this))), some (vi a1)]) (st' := [vi (mI M 157 i5 a1.toNatClampNeg)]) (M1 := M) (pc' := 49) (tb_Model hγ) [.getfield 872, .iload_n 1, .iaload] (by decide +kernel) rfl rfl ⟨c6, trivial⟩ ?_
      exact E_iret rfl (by decide +kernel) h
  · rw [if_neg b1] at h
    refine E_blk (lv' := [some (vr (some (11, this))), some (vi a1)]) (st' := [vr (mR M 11 this 45)]) (M1 := M) (pc' := 11) (tb_Model hγ) [.aload_n 0, .getfield 522] (by decide +kernel) rfl rfl trivial ?_
    obtain ⟨i7, ei7, h⟩ := h
    rw [ei7]
    refine E_blk (lv' := [some (vr (some (11, this))), some (vi a1)]) (st' := [vr (mR M 12 i7 53)]) (M1 := M) (pc' := 14) (tb_Model hγ) [.getfield 869] (by decide +kernel) rfl rfl trivial ?_
    obtain ⟨i8, ei8, h⟩ := h
    rw [ei8]
    obtain ⟨c9, h⟩ := h
    refine E_blk (lv' := [some (vr (some (11, this))), some (vi a1)]) (st' := [vi (mI M 300 i8 (a1 - (1001 : Int32)).toNatClampNeg)]) (M1 := M) (pc' := 20) (tb_Model hγ) [.iload_n 1, .sipush 1001, .isub, .iaload] (by decide +kernel) rfl rfl ⟨c9, trivial⟩ ?_
    refine E_goto (off := 29) (tgt := 49) (by decide +kernel) (by decide) ?_
    exact E_iret rfl (by decide +kernel) h
def w_Model_newFault (this : Nat) (a1 : Int32) (a2 : Int32) (Q : Int32 → Mem → Prop) (M : Mem) : Prop :=
  ∃ i1, (mR M 11 this 45) = some (12, i1) ∧ ∃ i2, (mR M 11 this 45) = some (12, i2) ∧ ∃ i3, (mR M 11 this 45) = some (12, i3) ∧ ∃ i4, (mR M 12 i3 53) = some (300, i4) ∧ w_Model_room i4 ((mI M 12 i1 56) + (1 : Int32)) (fun i6 M5 => ∃ i7, (mR (sR M5 12 i2 53 (some (300, i6))) 11 this 45) = some (12, i7) ∧ ∃ i8, (mR (sR M5 12 i2 53 (some (300, i6))) 11 this 45) = some (12, i8) ∧ ∃ i9, (mR (sR M5 12 i2 53 (some (300, i6))) 12 i8 54) = some (300, i9) ∧ w_Model_room i9 ((mI M 12 i1 56) + (1 : Int32)) (fun i11 M10 => ∃ i12, (mR (sR M10 12 i7 54 (some (300, i11))) 11 this 45) = some (12, i12) ∧ ∃ i13, (mR (sR M10 12 i7 54 (some (300, i11))) 11 this 45) = some (12, i13) ∧ ∃ i14, (mR (sR M10 12 i7 54 (some (300, i11))) 12 i13 55) = some (300, i14) ∧ w_Model_room i14 ((mI M 12 i1 56) + (1 : Int32)) (fun i16 M15 => ∃ i17, (mR (sR M15 12 i12 55 (some (300, i16))) 11 this 45) = some (12, i17) ∧ ∃ i18, (mR (sR M15 12 i12 55 (some (300, i16))) 12 i17 53) = some (300, i18) ∧ vp_in (mI M 12 i1 56) (mL (sR M15 12 i12 55 (some (300, i16))) 300 i18) ∧ ∃ M20, M20 = (sI (sR M15 12 i12 55 (some (300, i16))) 300 i18 (mI M 12 i1 56).toNatClampNeg a1) ∧ ∃ i21, (mR M20 11 this 45) = some (12, i21) ∧ ∃ i22, (mR M20 12 i21 54) = some (300, i22) ∧ vp_in (mI M 12 i1 56) (mL M20 300 i22) ∧ ∃ i24, (mR (sI M20 300 i22 (mI M 12 i1 56).toNatClampNeg a2) 11 this 45) = some (12, i24) ∧ ∃ i25, (mR (sI M20 300 i22 (mI M 12 i1 56).toNatClampNeg a2) 12 i24 55) = some (300, i25) ∧ vp_in (mI M 12 i1 56) (mL (sI M20 300 i22 (mI M 12 i1 56).toNatClampNeg a2) 300 i25) ∧ ∃ M27, M27 = (sI (sI M20 300 i22 (mI M 12 i1 56).toNatClampNeg a2) 300 i25 (mI M 12 i1 56).toNatClampNeg (0 : Int32)) ∧ ∃ i28, (mR M27 11 this 45) = some (12, i28) ∧ ∃ i29, (mR M27 11 this 45) = some (12, i29) ∧ ∃ i30, (mR M27 12 i29 58) = some (300, i30) ∧ w_Model_room i30 ((mI M 12 i1 56) + (1 : Int32)) (fun i32 M31 => ∃ i33, (mR (sR M31 12 i28 58 (some (300, i32))) 11 this 45) = some (12, i33) ∧ ∃ M34, M34 = (sI (sR M31 12 i28 58 (some (300, i32))) 12 i33 56 ((mI (sR M31 12 i28 58 (some (300, i32))) 12 i33 56) + (1 : Int32))) ∧ Q ((1001 : Int32) + (mI M 12 i1 56)) M34) M27) (sR M10 12 i7 54 (some (300, i11)))) (sR M5 12 i2 53 (some (300, i6)))) M
set_option maxRecDepth 4096 in
theorem lk_Model_newFault {γ : Gm} (hγ : Gk γ) (this : Nat) (a1 : Int32) (a2 : Int32) (Q : Int32 → Mem → Prop) (M : Mem) (h : w_Model_newFault this a1 a2 Q M) : E γ k_Model_newFault 2 0 [some (vr (some (11, this))), some (vi a1), some (vi a2), none] [] M (Qi Q) := by
  unfold w_Model_newFault at h
  refine E_blk (lv' := [some (vr (some (11, this))), some (vi a1), some (vi a2), none]) (st' := [vr (mR M 11 this 45)]) (M1 := M) (pc' := 4) (tb_Model hγ) [.aload_n 0, .getfield 522] (by decide +kernel) rfl rfl trivial ?_
  obtain ⟨i1, ei1, h⟩ := h
  rw [ei1]
  refine E_blk (lv' := [some (vr (some (11, this))), some (vi a1), some (vi a2), some (vi (mI M 12 i1 56))]) (st' := [vr (mR M 11 this 45)]) (M1 := M) (pc' := 12) (tb_Model hγ) [.getfield 516, .istore_n 3, .aload_n 0, .getfield 522] (by decide +kernel) rfl rfl trivial ?_
  obtain ⟨i2, ei2, h⟩ := h
  rw [ei2]
  refine E_blk (lv' := [some (vr (some (11, this))), some (vi a1), some (vi a2), some (vi (mI M 12 i1 56))]) (st' := [vr (mR M 11 this 45), vr (some (12, i2))]) (M1 := M) (pc' := 16) (tb_Model hγ) [.aload_n 0, .getfield 522] (by decide +kernel) rfl rfl trivial ?_
  obtain ⟨i3, ei3, h⟩ := h
  rw [ei3]
  refine E_blk (lv' := [some (vr (some (11, this))), some (vi a1), some (vi a2), some (vi (mI M 12 i1 56))]) (st' := [vr (mR M 12 i3 53), vr (some (12, i2))]) (M1 := M) (pc' := 19) (tb_Model hγ) [.getfield 869] (by decide +kernel) rfl rfl trivial ?_
  obtain ⟨i4, ei4, h⟩ := h
  rw [ei4]
  refine E_blk (lv' := [some (vr (some (11, this))), some (vi a1), some (vi a2), some (vi (mI M 12 i1 56))]) (st' := [vi ((mI M 12 i1 56) + (1 : Int32)), vr (some (300, i4)), vr (some (12, i2))]) (M1 := M) (pc' := 22) (tb_Model hγ) [.iload_n 3, .iconst 1, .iadd] (by decide +kernel) rfl rfl trivial ?_
  refine E_callS (κ' := k_Model_room) (As := [vr (some (300, i4)), vi ((mI M 12 i1 56) + (1 : Int32))]) (st := [vr (some (12, i2))]) ms_Model_room (Or.inl (tbk_mem (j := 11) (k := 66) rfl)) rfl (by decide +kernel) (Nat.le_of_ble_eq_true rfl) (Nat.le_of_ble_eq_true rfl) rfl (by decide) (lk_Model_room hγ i4 ((mI M 12 i1 56) + (1 : Int32)) _ M h) (fun _ _ => Qr_r) (fun v M5 hp => Qr_k (R := fun st => E γ k_Model_newFault 2 25 [some (vr (some (11, this))), some (vi a1), some (vi a2), some (vi (mI M 12 i1 56))] st M5 (Qi Q)) hp (fun i6 h => ?_))
  refine E_blk (lv' := [some (vr (some (11, this))), some (vi a1), some (vi a2), some (vi (mI M 12 i1 56))]) (st' := [vr (mR (sR M5 12 i2 53 (some (300, i6))) 11 this 45)]) (M1 := (sR M5 12 i2 53 (some (300, i6)))) (pc' := 32) (tb_Model hγ) [.putfield 869, .aload_n 0, .getfield 522] (by decide +kernel) rfl rfl trivial ?_
  obtain ⟨i7, ei7, h⟩ := h
  rw [ei7]
  refine E_blk (lv' := [some (vr (some (11, this))), some (vi a1), some (vi a2), some (vi (mI M 12 i1 56))]) (st' := [vr (mR (sR M5 12 i2 53 (some (300, i6))) 11 this 45), vr (some (12, i7))]) (M1 := (sR M5 12 i2 53 (some (300, i6)))) (pc' := 36) (tb_Model hγ) [.aload_n 0, .getfield 522] (by decide +kernel) rfl rfl trivial ?_
  obtain ⟨i8, ei8, h⟩ := h
  rw [ei8]
  refine E_blk (lv' := [some (vr (some (11, this))), some (vi a1), some (vi a2), some (vi (mI M 12 i1 56))]) (st' := [vr (mR (sR M5 12 i2 53 (some (300, i6))) 12 i8 54), vr (some (12, i7))]) (M1 := (sR M5 12 i2 53 (some (300, i6)))) (pc' := 39) (tb_Model hγ) [.getfield 875] (by decide +kernel) rfl rfl trivial ?_
  obtain ⟨i9, ei9, h⟩ := h
  rw [ei9]
  refine E_blk (lv' := [some (vr (some (11, this))), some (vi a1), some (vi a2), some (vi (mI M 12 i1 56))]) (st' := [vi ((mI M 12 i1 56) + (1 : Int32)), vr (some (300, i9)), vr (some (12, i7))]) (M1 := (sR M5 12 i2 53 (some (300, i6)))) (pc' := 42) (tb_Model hγ) [.iload_n 3, .iconst 1, .iadd] (by decide +kernel) rfl rfl trivial ?_
  refine E_callS (κ' := k_Model_room) (As := [vr (some (300, i9)), vi ((mI M 12 i1 56) + (1 : Int32))]) (st := [vr (some (12, i7))]) ms_Model_room (Or.inl (tbk_mem (j := 11) (k := 66) rfl)) rfl (by decide +kernel) (Nat.le_of_ble_eq_true rfl) (Nat.le_of_ble_eq_true rfl) rfl (by decide) (lk_Model_room hγ i9 ((mI M 12 i1 56) + (1 : Int32)) _ (sR M5 12 i2 53 (some (300, i6))) h) (fun _ _ => Qr_r) (fun v M10 hp => Qr_k (R := fun st => E γ k_Model_newFault 2 45 [some (vr (some (11, this))), some (vi a1), some (vi a2), some (vi (mI M 12 i1 56))] st M10 (Qi Q)) hp (fun i11 h => ?_))
  refine E_blk (lv' := [some (vr (some (11, this))), some (vi a1), some (vi a2), some (vi (mI M 12 i1 56))]) (st' := [vr (mR (sR M10 12 i7 54 (some (300, i11))) 11 this 45)]) (M1 := (sR M10 12 i7 54 (some (300, i11)))) (pc' := 52) (tb_Model hγ) [.putfield 875, .aload_n 0, .getfield 522] (by decide +kernel) rfl rfl trivial ?_
  obtain ⟨i12, ei12, h⟩ := h
  rw [ei12]
  refine E_blk (lv' := [some (vr (some (11, this))), some (vi a1), some (vi a2), some (vi (mI M 12 i1 56))]) (st' := [vr (mR (sR M10 12 i7 54 (some (300, i11))) 11 this 45), vr (some (12, i12))]) (M1 := (sR M10 12 i7 54 (some (300, i11)))) (pc' := 56) (tb_Model hγ) [.aload_n 0, .getfield 522] (by decide +kernel) rfl rfl trivial ?_
  obtain ⟨i13, ei13, h⟩ := h
  rw [ei13]
  refine E_blk (lv' := [some (vr (some (11, this))), some (vi a1), some (vi a2), some (vi (mI M 12 i1 56))]) (st' := [vr (mR (sR M10 12 i7 54 (some (300, i11))) 12 i13 55), vr (some (12, i12))]) (M1 := (sR M10 12 i7 54 (some (300, i11)))) (pc' := 59) (tb_Model hγ) [.getfield 878] (by decide +kernel) rfl rfl trivial ?_
  obtain ⟨i14, ei14, h⟩ := h
  rw [ei14]
  refine E_blk (lv' := [some (vr (some (11, this))), some (vi a1), some (vi a2), some (vi (mI M 12 i1 56))]) (st' := [vi ((mI M 12 i1 56) + (1 : Int32)), vr (some (300, i14)), vr (some (12, i12))]) (M1 := (sR M10 12 i7 54 (some (300, i11)))) (pc' := 62) (tb_Model hγ) [.iload_n 3, .iconst 1, .iadd] (by decide +kernel) rfl rfl trivial ?_
  refine E_callS (κ' := k_Model_room) (As := [vr (some (300, i14)), vi ((mI M 12 i1 56) + (1 : Int32))]) (st := [vr (some (12, i12))]) ms_Model_room (Or.inl (tbk_mem (j := 11) (k := 66) rfl)) rfl (by decide +kernel) (Nat.le_of_ble_eq_true rfl) (Nat.le_of_ble_eq_true rfl) rfl (by decide) (lk_Model_room hγ i14 ((mI M 12 i1 56) + (1 : Int32)) _ (sR M10 12 i7 54 (some (300, i11))) h) (fun _ _ => Qr_r) (fun v M15 hp => Qr_k (R := fun st => E γ k_Model_newFault 2 65 [some (vr (some (11, this))), some (vi a1), some (vi a2), some (vi (mI M 12 i1 56))] st M15 (Qi Q)) hp (fun i16 h => ?_))
  refine E_blk (lv' := [some (vr (some (11, this))), some (vi a1), some (vi a2), some (vi (mI M 12 i1 56))]) (st' := [vr (mR (sR M15 12 i12 55 (some (300, i16))) 11 this 45)]) (M1 := (sR M15 12 i12 55 (some (300, i16)))) (pc' := 72) (tb_Model hγ) [.putfield 878, .aload_n 0, .getfield 522] (by decide +kernel) rfl rfl trivial ?_
  obtain ⟨i17, ei17, h⟩ := h
  rw [ei17]
  refine E_blk (lv' := [some (vr (some (11, this))), some (vi a1), some (vi a2), some (vi (mI M 12 i1 56))]) (st' := [vr (mR (sR M15 12 i12 55 (some (300, i16))) 12 i17 53)]) (M1 := (sR M15 12 i12 55 (some (300, i16)))) (pc' := 75) (tb_Model hγ) [.getfield 869] (by decide +kernel) rfl rfl trivial ?_
  obtain ⟨i18, ei18, h⟩ := h
  rw [ei18]
  obtain ⟨c19, h⟩ := h
  refine E_blk (lv' := [some (vr (some (11, this))), some (vi a1), some (vi a2), some (vi (mI M 12 i1 56))]) (st' := []) (M1 := (sI (sR M15 12 i12 55 (some (300, i16))) 300 i18 (mI M 12 i1 56).toNatClampNeg a1)) (pc' := 78) (tb_Model hγ) [.iload_n 3, .iload_n 1, .iastore] (by decide +kernel) rfl rfl ⟨c19, trivial⟩ ?_
  obtain ⟨M20, eM20, h⟩ := h
  rw [← eM20]
  refine E_blk (lv' := [some (vr (some (11, this))), some (vi a1), some (vi a2), some (vi (mI M 12 i1 56))]) (st' := [vr (mR M20 11 this 45)]) (M1 := M20) (pc' := 82) (tb_Model hγ) [.aload_n 0, .getfield 522] (by decide +kernel) rfl rfl trivial ?_
  obtain ⟨i21, ei21, h⟩ := h
  rw [ei21]
  refine E_blk (lv' := [some (vr (some (11, this))), some (vi a1), some (vi a2), some (vi (mI M 12 i1 56))]) (st' := [vr (mR M20 12 i21 54)]) (M1 := M20) (pc' := 85) (tb_Model hγ) [.getfield 875] (by decide +kernel) rfl rfl trivial ?_
  obtain ⟨i22, ei22, h⟩ := h
  rw [ei22]
  obtain ⟨c23, h⟩ := h
  refine E_blk (lv' := [some (vr (some (11, this))), some (vi a1), some (vi a2), some (vi (mI M 12 i1 56))]) (st' := [vr (mR (sI M20 300 i22 (mI M 12 i1 56).toNatClampNeg a2) 11 this 45)]) (M1 := (sI M20 300 i22 (mI M 12 i1 56).toNatClampNeg a2)) (pc' := 92) (tb_Model hγ) [.iload_n 3, .iload_n 2, .iastore, .aload_n 0, .getfield 522] (by decide +kernel) rfl rfl ⟨c23, trivial⟩ ?_
  obtain ⟨i24, ei24, h⟩ := h
  rw [ei24]
  refine E_blk (lv' := [some (vr (some (11, this))), some (vi a1), some (vi a2), some (vi (mI M 12 i1 56))]) (st' := [vr (mR (sI M20 300 i22 (mI M 12 i1 56).toNatClampNeg a2) 12 i24 55)]) (M1 := (sI M20 300 i22 (mI M 12 i1 56).toNatClampNeg a2)) (pc' := 95) (tb_Model hγ) [.getfield 878] (by decide +kernel) rfl rfl trivial ?_
  obtain ⟨i25, ei25, h⟩ := h
  rw [ei25]
  obtain ⟨c26, h⟩ := h
  refine E_blk (lv' := [some (vr (some (11, this))), some (vi a1), some (vi a2), some (vi (mI M 12 i1 56))]) (st' := []) (M1 := (sI (sI M20 300 i22 (mI M 12 i1 56).toNatClampNeg a2) 300 i25 (mI M 12 i1 56).toNatClampNeg (0 : Int32))) (pc' := 98) (tb_Model hγ) [.iload_n 3, .iconst 0, .iastore] (by decide +kernel) rfl rfl ⟨c26, trivial⟩ ?_
  obtain ⟨M27, eM27, h⟩ := h
  rw [← eM27]
  refine E_blk (lv' := [some (vr (some (11, this))), some (vi a1), some (vi a2), some (vi (mI M 12 i1 56))]) (st' := [vr (mR M27 11 this 45)]) (M1 := M27) (pc' := 102) (tb_Model hγ) [.aload_n 0, .getfield 522] (by decide +kernel) rfl rfl trivial ?_
  obtain ⟨i28, ei28, h⟩ := h
  rw [ei28]
  refine E_blk (lv' := [some (vr (some (11, this))), some (vi a1), some (vi a2), some (vi (mI M 12 i1 56))]) (st' := [vr (mR M27 11 this 45), vr (some (12, i28))]) (M1 := M27) (pc' := 106) (tb_Model hγ) [.aload_n 0, .getfield 522] (by decide +kernel) rfl rfl trivial ?_
  obtain ⟨i29, ei29, h⟩ := h
  rw [ei29]
  refine E_blk (lv' := [some (vr (some (11, this))), some (vi a1), some (vi a2), some (vi (mI M 12 i1 56))]) (st' := [vr (mR M27 12 i29 58), vr (some (12, i28))]) (M1 := M27) (pc' := 109) (tb_Model hγ) [.getfield 881] (by decide +kernel) rfl rfl trivial ?_
  obtain ⟨i30, ei30, h⟩ := h
  rw [ei30]
  refine E_blk (lv' := [some (vr (some (11, this))), some (vi a1), some (vi a2), some (vi (mI M 12 i1 56))]) (st' := [vi ((mI M 12 i1 56) + (1 : Int32)), vr (some (300, i30)), vr (some (12, i28))]) (M1 := M27) (pc' := 112) (tb_Model hγ) [.iload_n 3, .iconst 1, .iadd] (by decide +kernel) rfl rfl trivial ?_
  refine E_callS (κ' := k_Model_room) (As := [vr (some (300, i30)), vi ((mI M 12 i1 56) + (1 : Int32))]) (st := [vr (some (12, i28))]) ms_Model_room (Or.inl (tbk_mem (j := 11) (k := 66) rfl)) rfl (by decide +kernel) (Nat.le_of_ble_eq_true rfl) (Nat.le_of_ble_eq_true rfl) rfl (by decide) (lk_Model_room hγ i30 ((mI M 12 i1 56) + (1 : Int32)) _ M27 h) (fun _ _ => Qr_r) (fun v M31 hp => Qr_k (R := fun st => E γ k_Model_newFault 2 115 [some (vr (some (11, this))), some (vi a1), some (vi a2), some (vi (mI M 12 i1 56))] st M31 (Qi Q)) hp (fun i32 h => ?_))
  refine E_blk (lv' := [some (vr (some (11, this))), some (vi a1), some (vi a2), some (vi (mI M 12 i1 56))]) (st' := [vr (mR (sR M31 12 i28 58 (some (300, i32))) 11 this 45)]) (M1 := (sR M31 12 i28 58 (some (300, i32)))) (pc' := 122) (tb_Model hγ) [.putfield 881, .aload_n 0, .getfield 522] (by decide +kernel) rfl rfl trivial ?_
  obtain ⟨i33, ei33, h⟩ := h
  rw [ei33]
  refine E_blk (lv' := [some (vr (some (11, this))), some (vi a1), some (vi a2), some (vi (mI M 12 i1 56))]) (st' := []) (M1 := (sI (sR M31 12 i28 58 (some (300, i32))) 12 i33 56 ((mI (sR M31 12 i28 58 (some (300, i32))) 12 i33 56) + (1 : Int32)))) (pc' := 131) (tb_Model hγ) [.dup, .getfield 516, .iconst 1, .iadd, .putfield 516] (by decide +kernel) rfl rfl trivial ?_
  obtain ⟨M34, eM34, h⟩ := h
  rw [← eM34]
  refine E_blk (lv' := [some (vr (some (11, this))), some (vi a1), some (vi a2), some (vi (mI M 12 i1 56))]) (st' := [vi ((1001 : Int32) + (mI M 12 i1 56))]) (M1 := M34) (pc' := 136) (tb_Model hγ) [.sipush 1001, .iload_n 3, .iadd] (by decide +kernel) rfl rfl trivial ?_
  exact E_iret rfl (by decide +kernel) h
def w_Model_newThing_L122 (this : Nat) (Q : Int32 → Mem → Prop) : Nat → Int32 → Int32 → Int32 → Mem → Prop
  | 0, _, _, _, _ => False
  | n + 1, v2, v3, v4, M => if v2 ≤ v4 then (∃ i23, (mR M 11 this 45) = some (12, i23) ∧ Q v3 (sI M 12 i23 52 ((mI M 12 i23 52) + v2))) else (∃ i24, (mR M 11 this 45) = some (12, i24) ∧ ∃ i25, (mR M 11 this 45) = some (12, i25) ∧ vp_in ((mI M 12 i25 52) + v4) (mL M 161 i24) ∧ (w_Model_newThing_L122 this Q n) v2 v3 (v4 + (1 : Int32)) (sI M 161 i24 ((mI M 12 i25 52) + v4).toNatClampNeg (0 : Int32)))
def w_Model_newThing_L45 (this : Nat) (Q : Int32 → Mem → Prop) : Nat → Int32 → Int32 → Int32 → Mem → Prop
  | 0, _, _, _, _ => False
  | n + 1, v1, v2, v3, M => ∃ i6, (mR M 11 this 45) = some (12, i6) ∧ vp_in v3 (mL M 524 i6) ∧ if (mI M 524 i6 v3.toNatClampNeg) = 0 then (∃ i9, (mR M 11 this 45) = some (12, i9) ∧ vp_in v3 (mL M 524 i9) ∧ ∃ i11, (mR (sI M 524 i9 v3.toNatClampNeg ((1 : Int32) &&& 1)) 11 this 45) = some (12, i11) ∧ vp_in v3 (mL (sI M 524 i9 v3.toNatClampNeg ((1 : Int32) &&& 1)) 157 i11) ∧ ∃ M13, M13 = (sI (sI M 524 i9 v3.toNatClampNeg ((1 : Int32) &&& 1)) 157 i11 v3.toNatClampNeg v1) ∧ ∃ i14, (mR M13 11 this 45) = some (12, i14) ∧ ∃ i15, (mR M13 11 this 45) = some (12, i15) ∧ vp_in v3 (mL M13 158 i14) ∧ ∃ i17, (mR (sI M13 158 i14 v3.toNatClampNeg (mI M13 12 i15 52)) 11 this 45) = some (12, i17) ∧ vp_in v3 (mL (sI M13 158 i14 v3.toNatClampNeg (mI M13 12 i15 52)) 159 i17) ∧ ∃ M19, M19 = (sI (sI M13 158 i14 v3.toNatClampNeg (mI M13 12 i15 52)) 159 i17 v3.toNatClampNeg v2) ∧ ∃ i20, (mR M19 11 this 45) = some (12, i20) ∧ vp_in v3 (mL M19 160 i20) ∧ ∃ n27 : Nat, w_Model_newThing_L122 this Q n27 v2 v3 (0 : Int32) (sI M19 160 i20 v3.toNatClampNeg (0 : Int32))) else ((w_Model_newThing_L45 this Q n) v1 v2 (v3 + (1 : Int32)) M)
def w_Model_newThing (this : Nat) (a1 : Int32) (a2 : Int32) (Q : Int32 → Mem → Prop) (M : Mem) : Prop :=
  ∃ i1, (mR M 11 this 45) = some (12, i1) ∧ if (mI M 12 i1 50) = (800 : Int32) then (Q (-1 : Int32) M) else (∃ i3, (mR M 11 this 45) = some (12, i3) ∧ if ((mI M 12 i3 52) + a2) ≤ (4000 : Int32) then (∃ i5, (mR M 11 this 45) = some (12, i5) ∧ ∃ n28 : Nat, w_Model_newThing_L45 this Q n28 a1 a2 (1 : Int32) (sI M 12 i5 50 ((mI M 12 i5 50) + (1 : Int32)))) else (Q (-1 : Int32) M))
set_option maxRecDepth 4096 in
theorem lk_Model_newThing_L122 {γ : Gm} (hγ : Gk γ) (this : Nat) (Q : Int32 → Mem → Prop) : ∀ (n : Nat) (v2 : Int32) (v3 : Int32) (v4 : Int32) (M : Mem), w_Model_newThing_L122 this Q n v2 v3 v4 M → E γ k_Model_newThing 0 122 [some (vr (some (11, this))), none, some (vi v2), some (vi v3), some (vi v4)] [] M (Qi Q) := by
  intro n
  induction n with
  | zero => intro v2 v3 v4 M h; exact h.elim
  | succ n ih =>
    intro v2 v3 v4 M h
    unfold w_Model_newThing_L122 at h
    refine E_blk (lv' := [some (vr (some (11, this))), none, some (vi v2), some (vi v3), some (vi v4)]) (st' := [vi v2, vi v4]) (M1 := M) (pc' := 125) (tb_Model hγ) [.iload 4, .iload_n 2] (by decide +kernel) rfl rfl trivial ?_
    refine E_icmp_ge (off := 28) (tgt := 153) (by decide +kernel) (by decide) (fun b22 => ?_) (fun b22 => ?_)
    · rw [if_pos b22] at h
      refine E_blk (lv' := [some (vr (some (11, this))), none, some (vi v2), some (vi v3), some (vi v4)]) (st' := [vr (mR M 11 this 45)]) (M1 := M) (pc' := 157) (tb_Model hγ) [.aload_n 0, .getfield 522] (by decide +kernel) rfl rfl trivial ?_
      obtain ⟨i23, ei23, h⟩ := h
      rw [ei23]
      refine E_blk (lv' := [some (vr (some (11, this))), none, some (vi v2), some (vi v3), some (vi v4)]) (st' := [vi v3]) (M1 := (sI M 12 i23 52 ((mI M 12 i23 52) + v2))) (pc' := 167) (tb_Model hγ) [.dup, .getfield 513, .iload_n 2, .iadd, .putfield 513, .iload_n 3] (by decide +kernel) rfl rfl trivial ?_
      exact E_iret rfl (by decide +kernel) h
    · rw [if_neg b22] at h
      refine E_blk (lv' := [some (vr (some (11, this))), none, some (vi v2), some (vi v3), some (vi v4)]) (st' := [vr (mR M 11 this 45)]) (M1 := M) (pc' := 132) (tb_Model hγ) [.aload_n 0, .getfield 522] (by decide +kernel) rfl rfl trivial ?_
      obtain ⟨i24, ei24, h⟩ := h
      rw [ei24]
      refine E_blk (lv' := [some (vr (some (11, this))), none, some (vi v2), some (vi v3), some (vi v4)]) (st' := [vr (mR M 11 this 45), vr (some (161, i24))]) (M1 := M) (pc' := 139) (tb_Model hγ) [.getfield 893, .aload_n 0, .getfield 522] (by decide +kernel) rfl rfl trivial ?_
      obtain ⟨i25, ei25, h⟩ := h
      rw [ei25]
      obtain ⟨c26, h⟩ := h
      refine E_blk (lv' := [some (vr (some (11, this))), none, some (vi v2), some (vi v3), some (vi (v4 + (1 : Int32)))]) (st' := []) (M1 := (sI M 161 i24 ((mI M 12 i25 52) + v4).toNatClampNeg (0 : Int32))) (pc' := 150) (tb_Model hγ) [.getfield 513, .iload 4, .iadd, .iconst 0, .iastore, .iinc 4 1] (by decide +kernel) rfl rfl ⟨c26, trivial⟩ ?_
      refine E_goto (off := -28) (tgt := 122) (by decide +kernel) (by decide) ?_
      refine E_mask [true, false, true, true, true] rfl ?_
      exact ih v2 v3 (v4 + (1 : Int32)) (sI M 161 i24 ((mI M 12 i25 52) + v4).toNatClampNeg (0 : Int32)) h
set_option maxRecDepth 4096 in
theorem lk_Model_newThing_L45 {γ : Gm} (hγ : Gk γ) (this : Nat) (Q : Int32 → Mem → Prop) : ∀ (n : Nat) (v1 : Int32) (v2 : Int32) (v3 : Int32) (M : Mem), w_Model_newThing_L45 this Q n v1 v2 v3 M → E γ k_Model_newThing 0 45 [some (vr (some (11, this))), some (vi v1), some (vi v2), some (vi v3), none] [] M (Qi Q) := by
  intro n
  induction n with
  | zero => intro v1 v2 v3 M h; exact h.elim
  | succ n ih =>
    intro v1 v2 v3 M h
    unfold w_Model_newThing_L45 at h
    refine E_blk (lv' := [some (vr (some (11, this))), some (vi v1), some (vi v2), some (vi v3), none]) (st' := [vr (mR M 11 this 45)]) (M1 := M) (pc' := 49) (tb_Model hγ) [.aload_n 0, .getfield 522] (by decide +kernel) rfl rfl trivial ?_
    obtain ⟨i6, ei6, h⟩ := h
    rw [ei6]
    obtain ⟨c7, h⟩ := h
    refine E_blk (lv' := [some (vr (some (11, this))), some (vi v1), some (vi v2), some (vi v3), none]) (st' := [vi (mI M 524 i6 v3.toNatClampNeg)]) (M1 := M) (pc' := 54) (tb_Model hγ) [.getfield 510, .iload_n 3, .baload] (by decide +kernel) rfl rfl ⟨c7, trivial⟩ ?_
    refine E_if_eq (off := 9) (tgt := 63) (by decide +kernel) (by decide) (fun b8 => ?_) (fun b8 => ?_)
    · rw [if_pos b8] at h
      refine E_blk (lv' := [some (vr (some (11, this))), some (vi v1), some (vi v2), some (vi v3), none]) (st' := [vr (mR M 11 this 45)]) (M1 := M) (pc' := 67) (tb_Model hγ) [.aload_n 0, .getfield 522] (by decide +kernel) rfl rfl trivial ?_
      obtain ⟨i9, ei9, h⟩ := h
      rw [ei9]
      obtain ⟨c10, h⟩ := h
      refine E_blk (lv' := [some (vr (some (11, this))), some (vi v1), some (vi v2), some (vi v3), none]) (st' := [vr (mR (sI M 524 i9 v3.toNatClampNeg ((1 : Int32) &&& 1)) 11 this 45)]) (M1 := (sI M 524 i9 v3.toNatClampNeg ((1 : Int32) &&& 1))) (pc' := 77) (tb_Model hγ) [.getfield 510, .iload_n 3, .iconst 1, .bastore, .aload_n 0, .getfield 522] (by decide +kernel) rfl rfl ⟨c10, trivial⟩ ?_
      obtain ⟨i11, ei11, h⟩ := h
      rw [ei11]
      obtain ⟨c12, h⟩ := h
      refine E_blk (lv' := [some (vr (some (11, this))), some (vi v1), some (vi v2), some (vi v3), none]) (st' := []) (M1 := (sI (sI M 524 i9 v3.toNatClampNeg ((1 : Int32) &&& 1)) 157 i11 v3.toNatClampNeg v1)) (pc' := 83) (tb_Model hγ) [.getfield 872, .iload_n 3, .iload_n 1, .iastore] (by decide +kernel) rfl rfl ⟨c12, trivial⟩ ?_
      obtain ⟨M13, eM13, h⟩ := h
      rw [← eM13]
      refine E_blk (lv' := [some (vr (some (11, this))), some (vi v1), some (vi v2), some (vi v3), none]) (st' := [vr (mR M13 11 this 45)]) (M1 := M13) (pc' := 87) (tb_Model hγ) [.aload_n 0, .getfield 522] (by decide +kernel) rfl rfl trivial ?_
      obtain ⟨i14, ei14, h⟩ := h
      rw [ei14]
      refine E_blk (lv' := [some (vr (some (11, this))), some (vi v1), some (vi v2), some (vi v3), none]) (st' := [vr (mR M13 11 this 45), vi v3, vr (some (158, i14))]) (M1 := M13) (pc' := 95) (tb_Model hγ) [.getfield 884, .iload_n 3, .aload_n 0, .getfield 522] (by decide +kernel) rfl rfl trivial ?_
      obtain ⟨i15, ei15, h⟩ := h
      rw [ei15]
      obtain ⟨c16, h⟩ := h
      refine E_blk (lv' := [some (vr (some (11, this))), some (vi v1), some (vi v2), some (vi v3), none]) (st' := [vr (mR (sI M13 158 i14 v3.toNatClampNeg (mI M13 12 i15 52)) 11 this 45)]) (M1 := (sI M13 158 i14 v3.toNatClampNeg (mI M13 12 i15 52))) (pc' := 103) (tb_Model hγ) [.getfield 513, .iastore, .aload_n 0, .getfield 522] (by decide +kernel) rfl rfl ⟨c16, trivial⟩ ?_
      obtain ⟨i17, ei17, h⟩ := h
      rw [ei17]
      obtain ⟨c18, h⟩ := h
      refine E_blk (lv' := [some (vr (some (11, this))), some (vi v1), some (vi v2), some (vi v3), none]) (st' := []) (M1 := (sI (sI M13 158 i14 v3.toNatClampNeg (mI M13 12 i15 52)) 159 i17 v3.toNatClampNeg v2)) (pc' := 109) (tb_Model hγ) [.getfield 887, .iload_n 3, .iload_n 2, .iastore] (by decide +kernel) rfl rfl ⟨c18, trivial⟩ ?_
      obtain ⟨M19, eM19, h⟩ := h
      rw [← eM19]
      refine E_blk (lv' := [some (vr (some (11, this))), some (vi v1), some (vi v2), some (vi v3), none]) (st' := [vr (mR M19 11 this 45)]) (M1 := M19) (pc' := 113) (tb_Model hγ) [.aload_n 0, .getfield 522] (by decide +kernel) rfl rfl trivial ?_
      obtain ⟨i20, ei20, h⟩ := h
      rw [ei20]
      obtain ⟨c21, h⟩ := h
      refine E_blk (lv' := [some (vr (some (11, this))), some (vi v1), some (vi v2), some (vi v3), some (vi (0 : Int32))]) (st' := []) (M1 := (sI M19 160 i20 v3.toNatClampNeg (0 : Int32))) (pc' := 122) (tb_Model hγ) [.getfield 890, .iload_n 3, .iconst 0, .iastore, .iconst 0, .istore 4] (by decide +kernel) rfl rfl ⟨c21, trivial⟩ ?_
      obtain ⟨n27, h⟩ := h
      refine E_mask [true, false, true, true, true] rfl ?_
      exact lk_Model_newThing_L122 hγ this Q n27 v2 v3 (0 : Int32) (sI M19 160 i20 v3.toNatClampNeg (0 : Int32)) h
    · rw [if_neg b8] at h
      refine E_blk (lv' := [some (vr (some (11, this))), some (vi v1), some (vi v2), some (vi (v3 + (1 : Int32))), none]) (st' := []) (M1 := M) (pc' := 60) (tb_Model hγ) [.iinc 3 1] (by decide +kernel) rfl rfl trivial ?_
      refine E_goto (off := -15) (tgt := 45) (by decide +kernel) (by decide) ?_
      refine E_mask [true, true, true, true, false] rfl ?_
      exact ih v1 v2 (v3 + (1 : Int32)) M h
set_option maxRecDepth 4096 in
theorem lk_Model_newThing {γ : Gm} (hγ : Gk γ) (this : Nat) (a1 : Int32) (a2 : Int32) (Q : Int32 → Mem → Prop) (M : Mem) (h : w_Model_newThing this a1 a2 Q M) : E γ k_Model_newThing 0 0 [some (vr (some (11, this))), some (vi a1), some (vi a2), none, none] [] M (Qi Q) := by
  unfold w_Model_newThing at h
  refine E_blk (lv' := [some (vr (some (11, this))), some (vi a1), some (vi a2), none, none]) (st' := [vr (mR M 11 this 45)]) (M1 := M) (pc' := 4) (tb_Model hγ) [.aload_n 0, .getfield 522] (by decide +kernel) rfl rfl trivial ?_
  obtain ⟨i1, ei1, h⟩ := h
  rw [ei1]
  refine E_blk (lv' := [some (vr (some (11, this))), some (vi a1), some (vi a2), none, none]) (st' := [vi (800 : Int32), vi (mI M 12 i1 50)]) (M1 := M) (pc' := 10) (tb_Model hγ) [.getfield 507, .sipush 800] (by decide +kernel) rfl rfl trivial ?_
  refine E_icmp_eq (off := 18) (tgt := 28) (by decide +kernel) (by decide) (fun b2 => ?_) (fun b2 => ?_)
  · rw [if_pos b2] at h
    refine E_blk (lv' := [some (vr (some (11, this))), some (vi a1), some (vi a2), none, none]) (st' := [vi (-1 : Int32)]) (M1 := M) (pc' := 29) (tb_Model hγ) [.iconst (.negSucc 0)] (by decide +kernel) rfl rfl trivial ?_
    exact E_iret rfl (by decide +kernel) h
  · rw [if_neg b2] at h
    refine E_blk (lv' := [some (vr (some (11, this))), some (vi a1), some (vi a2), none, none]) (st' := [vr (mR M 11 this 45)]) (M1 := M) (pc' := 17) (tb_Model hγ) [.aload_n 0, .getfield 522] (by decide +kernel) rfl rfl trivial ?_
    obtain ⟨i3, ei3, h⟩ := h
    rw [ei3]
    refine E_blk (lv' := [some (vr (some (11, this))), some (vi a1), some (vi a2), none, none]) (st' := [vi (4000 : Int32), vi ((mI M 12 i3 52) + a2)]) (M1 := M) (pc' := 25) (tb_Model hγ) [.getfield 513, .iload_n 2, .iadd, .sipush 4000] (by decide +kernel) rfl rfl trivial ?_
    refine E_icmp_le (off := 5) (tgt := 30) (by decide +kernel) (by decide) (fun b4 => ?_) (fun b4 => ?_)
    · rw [if_pos b4] at h
      refine E_blk (lv' := [some (vr (some (11, this))), some (vi a1), some (vi a2), none, none]) (st' := [vr (mR M 11 this 45)]) (M1 := M) (pc' := 34) (tb_Model hγ) [.aload_n 0, .getfield 522] (by decide +kernel) rfl rfl trivial ?_
      obtain ⟨i5, ei5, h⟩ := h
      rw [ei5]
      refine E_blk (lv' := [some (vr (some (11, this))), some (vi a1), some (vi a2), some (vi (1 : Int32)), none]) (st' := []) (M1 := (sI M 12 i5 50 ((mI M 12 i5 50) + (1 : Int32)))) (pc' := 45) (tb_Model hγ) [.dup, .getfield 507, .iconst 1, .iadd, .putfield 507, .iconst 1, .istore_n 3] (by decide +kernel) rfl rfl trivial ?_
      obtain ⟨n28, h⟩ := h
      refine E_mask [true, true, true, true, false] rfl ?_
      exact lk_Model_newThing_L45 hγ this Q n28 a1 a2 (1 : Int32) (sI M 12 i5 50 ((mI M 12 i5 50) + (1 : Int32))) h
    · rw [if_neg b4] at h
      refine E_blk (lv' := [some (vr (some (11, this))), some (vi a1), some (vi a2), none, none]) (st' := [vi (-1 : Int32)]) (M1 := M) (pc' := 29) (tb_Model hγ) [.iconst (.negSucc 0)] (by decide +kernel) rfl rfl trivial ?_
      exact E_iret rfl (by decide +kernel) h
def w_Model_ownFields_j37 (this : Nat) (Q : Int32 → Mem → Prop) (k5 : Int32 → Int32 → Int32 → Int32 → Mem → Prop) (v1 : Int32) (v2 : Int32) (v4 : Int32) (s0 : Int32) (s1 : Int32) (M : Mem) : Prop :=
  k5 v1 v2 (s1 + s0) (v4 + (1 : Int32)) M
def w_Model_ownFields_L5 (this : Nat) (Q : Int32 → Mem → Prop) : Nat → Int32 → Int32 → Int32 → Int32 → Mem → Prop
  | 0, _, _, _, _, _ => False
  | n + 1, v1, v2, v3, v4, M => if v2 ≤ v4 then (Q v3 M) else (∃ i2, (mR M 11 this 45) = some (12, i2) ∧ vp_in (((8 : Int32) * v1) + v4) (mL M 141 i2) ∧ if ((mI M 141 i2 (((8 : Int32) * v1) + v4).toNatClampNeg) &&& (1 : Int32)) = 0 then (w_Model_ownFields_j37 this Q (w_Model_ownFields_L5 this Q n) v1 v2 v4 (1 : Int32) v3 M) else (w_Model_ownFields_j37 this Q (w_Model_ownFields_L5 this Q n) v1 v2 v4 (0 : Int32) v3 M))
def w_Model_ownFields (this : Nat) (a1 : Int32) (a2 : Int32) (Q : Int32 → Mem → Prop) (M : Mem) : Prop :=
  ∃ n5 : Nat, w_Model_ownFields_L5 this Q n5 a1 a2 (0 : Int32) (0 : Int32) M
set_option maxRecDepth 4096 in
theorem lk_Model_ownFields_j37 {γ : Gm} (hγ : Gk γ) (this : Nat) (Q : Int32 → Mem → Prop) (k5 : Int32 → Int32 → Int32 → Int32 → Mem → Prop) (hk5 : ∀ (v1 : Int32) (v2 : Int32) (v3 : Int32) (v4 : Int32) (M : Mem), k5 v1 v2 v3 v4 M → E γ k_Model_ownFields 0 5 [some (vr (some (11, this))), some (vi v1), some (vi v2), some (vi v3), some (vi v4)] [] M (Qi Q)) (v1 : Int32) (v2 : Int32) (v4 : Int32) (s0 : Int32) (s1 : Int32) (M : Mem) (h : w_Model_ownFields_j37 this Q k5 v1 v2 v4 s0 s1 M) : E γ k_Model_ownFields 0 37 [some (vr (some (11, this))), some (vi v1), some (vi v2), none, some (vi v4)] [vi s0, vi s1] M (Qi Q) := by
  unfold w_Model_ownFields_j37 at h
  refine E_blk (lv' := [some (vr (some (11, this))), some (vi v1), some (vi v2), some (vi (s1 + s0)), some (vi (v4 + (1 : Int32)))]) (st' := []) (M1 := M) (pc' := 42) (tb_Model hγ) [.iadd, .istore_n 3, .iinc 4 1] (by decide +kernel) rfl rfl trivial ?_
  refine E_goto (off := -37) (tgt := 5) (by decide +kernel) (by decide) ?_
  refine E_mask [true, true, true, true, true] rfl ?_
  exact hk5 v1 v2 (s1 + s0) (v4 + (1 : Int32)) M h
set_option maxRecDepth 4096 in
theorem lk_Model_ownFields_L5 {γ : Gm} (hγ : Gk γ) (this : Nat) (Q : Int32 → Mem → Prop) : ∀ (n : Nat) (v1 : Int32) (v2 : Int32) (v3 : Int32) (v4 : Int32) (M : Mem), w_Model_ownFields_L5 this Q n v1 v2 v3 v4 M → E γ k_Model_ownFields 0 5 [some (vr (some (11, this))), some (vi v1), some (vi v2), some (vi v3), some (vi v4)] [] M (Qi Q) := by
  intro n
  induction n with
  | zero => intro v1 v2 v3 v4 M h; exact h.elim
  | succ n ih =>
    intro v1 v2 v3 v4 M h
    unfold w_Model_ownFields_L5 at h
    refine E_blk (lv' := [some (vr (some (11, this))), some (vi v1), some (vi v2), some (vi v3), some (vi v4)]) (st' := [vi v2, vi v4]) (M1 := M) (pc' := 8) (tb_Model hγ) [.iload 4, .iload_n 2] (by decide +kernel) rfl rfl trivial ?_
    refine E_icmp_ge (off := 37) (tgt := 45) (by decide +kernel) (by decide) (fun b1 => ?_) (fun b1 => ?_)
    · rw [if_pos b1] at h
      refine E_blk (lv' := [some (vr (some (11, this))), some (vi v1), some (vi v2), some (vi v3), some (vi v4)]) (st' := [vi v3]) (M1 := M) (pc' := 46) (tb_Model hγ) [.iload_n 3] (by decide +kernel) rfl rfl trivial ?_
      exact E_iret rfl (by decide +kernel) h
    · rw [if_neg b1] at h
      refine E_blk (lv' := [some (vr (some (11, this))), some (vi v1), some (vi v2), some (vi v3), some (vi v4)]) (st' := [vr (mR M 11 this 45), vi v3]) (M1 := M) (pc' := 16) (tb_Model hγ) [.iload_n 3, .aload_n 0, .getfield 522] (by decide +kernel) rfl rfl trivial ?_
      obtain ⟨i2, ei2, h⟩ := h
      rw [ei2]
      obtain ⟨c3, h⟩ := h
      refine E_blk (lv' := [some (vr (some (11, this))), some (vi v1), some (vi v2), some (vi v3), some (vi v4)]) (st' := [vi ((mI M 141 i2 (((8 : Int32) * v1) + v4).toNatClampNeg) &&& (1 : Int32)), vi v3]) (M1 := M) (pc' := 29) (tb_Model hγ) [.getfield 627, .bipush 8, .iload_n 1, .imul, .iload 4, .iadd, .iaload, .iconst 1, .iand] (by decide +kernel) rfl rfl ⟨c3, trivial⟩ ?_
      refine E_if_ne (off := 7) (tgt := 36) (by decide +kernel) (by decide) (fun b4 => ?_) (fun b4 => ?_)
      · rw [if_pos b4] at h
        refine E_blk (lv' := [some (vr (some (11, this))), some (vi v1), some (vi v2), some (vi v3), some (vi v4)]) (st' := [vi (1 : Int32), vi v3]) (M1 := M) (pc' := 33) (tb_Model hγ) [.iconst 1] (by decide +kernel) rfl rfl trivial ?_
        refine E_goto (off := 4) (tgt := 37) (by decide +kernel) (by decide) ?_
        refine E_mask [true, true, true, false, true] rfl ?_
        exact lk_Model_ownFields_j37 hγ this Q (w_Model_ownFields_L5 this Q n) ih v1 v2 v4 (1 : Int32) v3 M h
      · rw [if_neg b4] at h
        refine E_blk (lv' := [some (vr (some (11, this))), some (vi v1), some (vi v2), some (vi v3), some (vi v4)]) (st' := [vi (0 : Int32), vi v3]) (M1 := M) (pc' := 37) (tb_Model hγ) [.iconst 0] (by decide +kernel) rfl rfl trivial ?_
        refine E_mask [true, true, true, false, true] rfl ?_
        exact lk_Model_ownFields_j37 hγ this Q (w_Model_ownFields_L5 this Q n) ih v1 v2 v4 (0 : Int32) v3 M h
set_option maxRecDepth 4096 in
theorem lk_Model_ownFields {γ : Gm} (hγ : Gk γ) (this : Nat) (a1 : Int32) (a2 : Int32) (Q : Int32 → Mem → Prop) (M : Mem) (h : w_Model_ownFields this a1 a2 Q M) : E γ k_Model_ownFields 0 0 [some (vr (some (11, this))), some (vi a1), some (vi a2), none, none] [] M (Qi Q) := by
  unfold w_Model_ownFields at h
  refine E_blk (lv' := [some (vr (some (11, this))), some (vi a1), some (vi a2), some (vi (0 : Int32)), some (vi (0 : Int32))]) (st' := []) (M1 := M) (pc' := 5) (tb_Model hγ) [.iconst 0, .istore_n 3, .iconst 0, .istore 4] (by decide +kernel) rfl rfl trivial ?_
  obtain ⟨n5, h⟩ := h
  refine E_mask [true, true, true, true, true] rfl ?_
  exact lk_Model_ownFields_L5 hγ this Q n5 a1 a2 (0 : Int32) (0 : Int32) M h
def w_Model_fieldsOf_L4 (this : Nat) (Q : Int32 → Mem → Prop) : Nat → Int32 → Int32 → Mem → Prop
  | 0, _, _, _ => False
  | n + 1, v2, v3, M => if v3 < 0 then (Q v2 M) else (∃ i2, (mR M 11 this 45) = some (12, i2) ∧ vp_in v3 (mL M 135 i2) ∧ w_Model_ownFields this v3 (mI M 135 i2 v3.toNatClampNeg) (fun r5 M4 => w_Model_parentOf this v3 (fun r7 M6 => (w_Model_fieldsOf_L4 this Q n) (v2 + r5) r7 M6) M4) M)
def w_Model_fieldsOf (this : Nat) (a1 : Int32) (Q : Int32 → Mem → Prop) (M : Mem) : Prop :=
  ∃ n8 : Nat, w_Model_fieldsOf_L4 this Q n8 (0 : Int32) a1 M
set_option maxRecDepth 4096 in
theorem lk_Model_fieldsOf_L4 {γ : Gm} (hγ : Gk γ) (this : Nat) (Q : Int32 → Mem → Prop) : ∀ (n : Nat) (v2 : Int32) (v3 : Int32) (M : Mem), w_Model_fieldsOf_L4 this Q n v2 v3 M → E γ k_Model_fieldsOf 2 4 [some (vr (some (11, this))), none, some (vi v2), some (vi v3)] [] M (Qi Q) := by
  intro n
  induction n with
  | zero => intro v2 v3 M h; exact h.elim
  | succ n ih =>
    intro v2 v3 M h
    unfold w_Model_fieldsOf_L4 at h
    refine E_blk (lv' := [some (vr (some (11, this))), none, some (vi v2), some (vi v3)]) (st' := [vi v3]) (M1 := M) (pc' := 5) (tb_Model hγ) [.iload_n 3] (by decide +kernel) rfl rfl trivial ?_
    refine E_if_lt (off := 29) (tgt := 34) (by decide +kernel) (by decide) (fun b1 => ?_) (fun b1 => ?_)
    · rw [if_pos b1] at h
      refine E_blk (lv' := [some (vr (some (11, this))), none, some (vi v2), some (vi v3)]) (st' := [vi v2]) (M1 := M) (pc' := 35) (tb_Model hγ) [.iload_n 2] (by decide +kernel) rfl rfl trivial ?_
      exact E_iret rfl (by decide +kernel) h
    · rw [if_neg b1] at h
      refine E_blk (lv' := [some (vr (some (11, this))), none, some (vi v2), some (vi v3)]) (st' := [vr (mR M 11 this 45), vi v3, vr (some (11, this)), vi v2]) (M1 := M) (pc' := 15) (tb_Model hγ) [.iload_n 2, .aload_n 0, .iload_n 3, .aload_n 0, .getfield 522] (by decide +kernel) rfl rfl trivial ?_
      obtain ⟨i2, ei2, h⟩ := h
      rw [ei2]
      obtain ⟨c3, h⟩ := h
      refine E_blk (lv' := [some (vr (some (11, this))), none, some (vi v2), some (vi v3)]) (st' := [vi (mI M 135 i2 v3.toNatClampNeg), vi v3, vr (some (11, this)), vi v2]) (M1 := M) (pc' := 20) (tb_Model hγ) [.getfield 435, .iload_n 3, .iaload] (by decide +kernel) rfl rfl ⟨c3, trivial⟩ ?_
      refine E_callV (κ' := k_Model_ownFields) (As := [vi v3, vi (mI M 135 i2 v3.toNatClampNeg)]) (st := [vi v2]) mv_Model_ownFields (Or.inl (tbk_mem (j := 16) (k := 187) rfl)) rfl (by decide +kernel) (Nat.le_of_ble_eq_true rfl) (Nat.le_of_ble_eq_true rfl) rfl (by decide) (lk_Model_ownFields hγ this v3 (mI M 135 i2 v3.toNatClampNeg) _ M h) (fun _ _ => Qi_r) (fun v M4 hp => Qi_k (R := fun st => E γ k_Model_fieldsOf 2 23 [some (vr (some (11, this))), none, some (vi v2), some (vi v3)] st M4 (Qi Q)) hp (fun r5 h => ?_))
      refine E_blk (lv' := [some (vr (some (11, this))), none, some (vi (v2 + r5)), some (vi v3)]) (st' := [vi v3, vr (some (11, this))]) (M1 := M4) (pc' := 27) (tb_Model hγ) [.iadd, .istore_n 2, .aload_n 0, .iload_n 3] (by decide +kernel) rfl rfl trivial ?_
      refine E_callV (κ' := k_Model_parentOf) (As := [vi v3]) (st := []) mv_Model_parentOf (Or.inl (tbk_mem (j := 15) (k := 157) rfl)) rfl (by decide +kernel) (Nat.le_of_ble_eq_true rfl) (Nat.le_of_ble_eq_true rfl) rfl (by decide) (lk_Model_parentOf hγ this v3 _ M4 h) (fun _ _ => Qi_r) (fun v M6 hp => Qi_k (R := fun st => E γ k_Model_fieldsOf 2 30 [some (vr (some (11, this))), none, some (vi (v2 + r5)), some (vi v3)] st M6 (Qi Q)) hp (fun r7 h => ?_))
      refine E_blk (lv' := [some (vr (some (11, this))), none, some (vi (v2 + r5)), some (vi r7)]) (st' := []) (M1 := M6) (pc' := 31) (tb_Model hγ) [.istore_n 3] (by decide +kernel) rfl rfl trivial ?_
      refine E_goto (off := -27) (tgt := 4) (by decide +kernel) (by decide) ?_
      refine E_mask [true, false, true, true] rfl ?_
      exact ih (v2 + r5) r7 M6 h
set_option maxRecDepth 4096 in
theorem lk_Model_fieldsOf {γ : Gm} (hγ : Gk γ) (this : Nat) (a1 : Int32) (Q : Int32 → Mem → Prop) (M : Mem) (h : w_Model_fieldsOf this a1 Q M) : E γ k_Model_fieldsOf 2 0 [some (vr (some (11, this))), some (vi a1), none, none] [] M (Qi Q) := by
  unfold w_Model_fieldsOf at h
  refine E_blk (lv' := [some (vr (some (11, this))), some (vi a1), some (vi (0 : Int32)), some (vi a1)]) (st' := []) (M1 := M) (pc' := 4) (tb_Model hγ) [.iconst 0, .istore_n 2, .iload_n 1, .istore_n 3] (by decide +kernel) rfl rfl trivial ?_
  obtain ⟨n8, h⟩ := h
  refine E_mask [true, false, true, true] rfl ?_
  exact lk_Model_fieldsOf_L4 hγ this Q n8 (0 : Int32) a1 M h
def w_Model_slotOf_j24 (this : Nat) (Q : Int32 → Mem → Prop) (v1 : Int32) (v2 : Int32) (s0 : Int32) (M : Mem) : Prop :=
  ¬ (8 : Int32) = 0 ∧ w_Model_ownFields this v2 (v1 - v1 / (8 : Int32) * (8 : Int32)) (fun r7 M6 => Q (s0 + r7) M6) M
def w_Model_slotOf (this : Nat) (a1 : Int32) (Q : Int32 → Mem → Prop) (M : Mem) : Prop :=
  ¬ (8 : Int32) = 0 ∧ w_Model_parentOf this (a1 / (8 : Int32)) (fun r3 M2 => if r3 < 0 then (w_Model_slotOf_j24 this Q a1 (a1 / (8 : Int32)) (0 : Int32) M2) else (w_Model_fieldsOf this r3 (fun r9 M8 => w_Model_slotOf_j24 this Q a1 (a1 / (8 : Int32)) r9 M8) M2)) M
set_option maxRecDepth 4096 in
theorem lk_Model_slotOf_j24 {γ : Gm} (hγ : Gk γ) (this : Nat) (Q : Int32 → Mem → Prop) (v1 : Int32) (v2 : Int32) (s0 : Int32) (M : Mem) (h : w_Model_slotOf_j24 this Q v1 v2 s0 M) : E γ k_Model_slotOf 3 24 [some (vr (some (11, this))), some (vi v1), some (vi v2), none] [vi s0] M (Qi Q) := by
  unfold w_Model_slotOf_j24 at h
  obtain ⟨c5, h⟩ := h
  refine E_blk (lv' := [some (vr (some (11, this))), some (vi v1), some (vi v2), none]) (st' := [vi (v1 - v1 / (8 : Int32) * (8 : Int32)), vi v2, vr (some (11, this)), vi s0]) (M1 := M) (pc' := 30) (tb_Model hγ) [.aload_n 0, .iload_n 2, .iload_n 1, .bipush 8, .irem] (by decide +kernel) rfl rfl ⟨c5, trivial⟩ ?_
  refine E_callV (κ' := k_Model_ownFields) (As := [vi v2, vi (v1 - v1 / (8 : Int32) * (8 : Int32))]) (st := [vi s0]) mv_Model_ownFields (Or.inl (tbk_mem (j := 16) (k := 187) rfl)) rfl (by decide +kernel) (Nat.le_of_ble_eq_true rfl) (Nat.le_of_ble_eq_true rfl) rfl (by decide) (lk_Model_ownFields hγ this v2 (v1 - v1 / (8 : Int32) * (8 : Int32)) _ M h) (fun _ _ => Qi_r) (fun v M6 hp => Qi_k (R := fun st => E γ k_Model_slotOf 3 33 [some (vr (some (11, this))), some (vi v1), some (vi v2), none] st M6 (Qi Q)) hp (fun r7 h => ?_))
  refine E_blk (lv' := [some (vr (some (11, this))), some (vi v1), some (vi v2), none]) (st' := [vi (s0 + r7)]) (M1 := M6) (pc' := 34) (tb_Model hγ) [.iadd] (by decide +kernel) rfl rfl trivial ?_
  exact E_iret rfl (by decide +kernel) h
set_option maxRecDepth 4096 in
theorem lk_Model_slotOf {γ : Gm} (hγ : Gk γ) (this : Nat) (a1 : Int32) (Q : Int32 → Mem → Prop) (M : Mem) (h : w_Model_slotOf this a1 Q M) : E γ k_Model_slotOf 3 0 [some (vr (some (11, this))), some (vi a1), none, none] [] M (Qi Q) := by
  unfold w_Model_slotOf at h
  obtain ⟨c1, h⟩ := h
  refine E_blk (lv' := [some (vr (some (11, this))), some (vi a1), some (vi (a1 / (8 : Int32))), none]) (st' := [vi (a1 / (8 : Int32)), vr (some (11, this))]) (M1 := M) (pc' := 7) (tb_Model hγ) [.iload_n 1, .bipush 8, .idiv, .istore_n 2, .aload_n 0, .iload_n 2] (by decide +kernel) rfl rfl ⟨c1, trivial⟩ ?_
  refine E_callV (κ' := k_Model_parentOf) (As := [vi (a1 / (8 : Int32))]) (st := []) mv_Model_parentOf (Or.inl (tbk_mem (j := 15) (k := 157) rfl)) rfl (by decide +kernel) (Nat.le_of_ble_eq_true rfl) (Nat.le_of_ble_eq_true rfl) rfl (by decide) (lk_Model_parentOf hγ this (a1 / (8 : Int32)) _ M h) (fun _ _ => Qi_r) (fun v M2 hp => Qi_k (R := fun st => E γ k_Model_slotOf 3 10 [some (vr (some (11, this))), some (vi a1), some (vi (a1 / (8 : Int32))), none] st M2 (Qi Q)) hp (fun r3 h => ?_))
  refine E_blk (lv' := [some (vr (some (11, this))), some (vi a1), some (vi (a1 / (8 : Int32))), some (vi r3)]) (st' := [vi r3]) (M1 := M2) (pc' := 12) (tb_Model hγ) [.istore_n 3, .iload_n 3] (by decide +kernel) rfl rfl trivial ?_
  refine E_if_lt (off := 11) (tgt := 23) (by decide +kernel) (by decide) (fun b4 => ?_) (fun b4 => ?_)
  · rw [if_pos b4] at h
    refine E_blk (lv' := [some (vr (some (11, this))), some (vi a1), some (vi (a1 / (8 : Int32))), some (vi r3)]) (st' := [vi (0 : Int32)]) (M1 := M2) (pc' := 24) (tb_Model hγ) [.iconst 0] (by decide +kernel) rfl rfl trivial ?_
    refine E_mask [true, true, true, false] rfl ?_
    exact lk_Model_slotOf_j24 hγ this Q a1 (a1 / (8 : Int32)) (0 : Int32) M2 h
  · rw [if_neg b4] at h
    refine E_blk (lv' := [some (vr (some (11, this))), some (vi a1), some (vi (a1 / (8 : Int32))), some (vi r3)]) (st' := [vi r3, vr (some (11, this))]) (M1 := M2) (pc' := 17) (tb_Model hγ) [.aload_n 0, .iload_n 3] (by decide +kernel) rfl rfl trivial ?_
    refine E_callV (κ' := k_Model_fieldsOf) (As := [vi r3]) (st := []) mv_Model_fieldsOf (Or.inl (tbk_mem (j := 16) (k := 183) rfl)) rfl (by decide +kernel) (Nat.le_of_ble_eq_true rfl) (Nat.le_of_ble_eq_true rfl) rfl (by decide) (lk_Model_fieldsOf hγ this r3 _ M2 h) (fun _ _ => Qi_r) (fun v M8 hp => Qi_k (R := fun st => E γ k_Model_slotOf 3 20 [some (vr (some (11, this))), some (vi a1), some (vi (a1 / (8 : Int32))), some (vi r3)] st M8 (Qi Q)) hp (fun r9 h => ?_))
    refine E_goto (off := 4) (tgt := 24) (by decide +kernel) (by decide) ?_
    refine E_mask [true, true, true, false] rfl ?_
    exact lk_Model_slotOf_j24 hγ this Q a1 (a1 / (8 : Int32)) r9 M8 h
def w_Model_note (this : Nat) (a1 : Int32) (a2 : Int32) (Q : Mem → Prop) (M : Mem) : Prop :=
  ∃ i1, (mR M 11 this 45) = some (12, i1) ∧ if (400 : Int32) ≤ (mI M 12 i1 70) then (Q M) else (∃ i3, (mR M 11 this 45) = some (12, i3) ∧ vp_in (mI M 12 i1 70) (mL M 165 i3) ∧ ∃ i5, (mR (sI M 165 i3 (mI M 12 i1 70).toNatClampNeg a1) 11 this 45) = some (12, i5) ∧ vp_in (mI M 12 i1 70) (mL (sI M 165 i3 (mI M 12 i1 70).toNatClampNeg a1) 166 i5) ∧ ∃ M7, M7 = (sI (sI M 165 i3 (mI M 12 i1 70).toNatClampNeg a1) 166 i5 (mI M 12 i1 70).toNatClampNeg (mI (sI M 165 i3 (mI M 12 i1 70).toNatClampNeg a1) 11 this 47)) ∧ ∃ i8, (mR M7 11 this 45) = some (12, i8) ∧ vp_in (mI M 12 i1 70) (mL M7 167 i8) ∧ ∃ i10, (mR (sI M7 167 i8 (mI M 12 i1 70).toNatClampNeg a2) 11 this 45) = some (12, i10) ∧ ∃ i11, (mR (sI M7 167 i8 (mI M 12 i1 70).toNatClampNeg a2) 11 this 46) = some (13, i11) ∧ vp_in (mI M 12 i1 70) (mL (sI M7 167 i8 (mI M 12 i1 70).toNatClampNeg a2) 168 i10) ∧ ∃ M13, M13 = (sI (sI M7 167 i8 (mI M 12 i1 70).toNatClampNeg a2) 168 i10 (mI M 12 i1 70).toNatClampNeg (mI (sI M7 167 i8 (mI M 12 i1 70).toNatClampNeg a2) 13 i11 3)) ∧ ∃ i14, (mR M13 11 this 45) = some (12, i14) ∧ Q (sI M13 12 i14 70 ((mI M13 12 i14 70) + (1 : Int32))))
set_option maxRecDepth 4096 in
theorem lk_Model_note {γ : Gm} (hγ : Gk γ) (this : Nat) (a1 : Int32) (a2 : Int32) (Q : Mem → Prop) (M : Mem) (h : w_Model_note this a1 a2 Q M) : E γ k_Model_note 0 0 [some (vr (some (11, this))), some (vi a1), some (vi a2), none] [] M (Qv Q) := by
  unfold w_Model_note at h
  refine E_blk (lv' := [some (vr (some (11, this))), some (vi a1), some (vi a2), none]) (st' := [vr (mR M 11 this 45)]) (M1 := M) (pc' := 4) (tb_Model hγ) [.aload_n 0, .getfield 522] (by decide +kernel) rfl rfl trivial ?_
  obtain ⟨i1, ei1, h⟩ := h
  rw [ei1]
  refine E_blk (lv' := [some (vr (some (11, this))), some (vi a1), some (vi a2), some (vi (mI M 12 i1 70))]) (st' := [vi (400 : Int32), vi (mI M 12 i1 70)]) (M1 := M) (pc' := 12) (tb_Model hγ) [.getfield 501, .istore_n 3, .iload_n 3, .sipush 400] (by decide +kernel) rfl rfl trivial ?_
  refine E_icmp_ge (off := 65) (tgt := 77) (by decide +kernel) (by decide) (fun b2 => ?_) (fun b2 => ?_)
  · rw [if_pos b2] at h
    exact E_vret rfl (by decide +kernel) h
  · rw [if_neg b2] at h
    refine E_blk (lv' := [some (vr (some (11, this))), some (vi a1), some (vi a2), some (vi (mI M 12 i1 70))]) (st' := [vr (mR M 11 this 45)]) (M1 := M) (pc' := 19) (tb_Model hγ) [.aload_n 0, .getfield 522] (by decide +kernel) rfl rfl trivial ?_
    obtain ⟨i3, ei3, h⟩ := h
    rw [ei3]
    obtain ⟨c4, h⟩ := h
    refine E_blk (lv' := [some (vr (some (11, this))), some (vi a1), some (vi a2), some (vi (mI M 12 i1 70))]) (st' := [vr (mR (sI M 165 i3 (mI M 12 i1 70).toNatClampNeg a1) 11 this 45)]) (M1 := (sI M 165 i3 (mI M 12 i1 70).toNatClampNeg a1)) (pc' := 29) (tb_Model hγ) [.getfield 902, .iload_n 3, .iload_n 1, .iastore, .aload_n 0, .getfield 522] (by decide +kernel) rfl rfl ⟨c4, trivial⟩ ?_
    obtain ⟨i5, ei5, h⟩ := h
    rw [ei5]
    obtain ⟨c6, h⟩ := h
    refine E_blk (lv' := [some (vr (some (11, this))), some (vi a1), some (vi a2), some (vi (mI M 12 i1 70))]) (st' := []) (M1 := (sI (sI M 165 i3 (mI M 12 i1 70).toNatClampNeg a1) 166 i5 (mI M 12 i1 70).toNatClampNeg (mI (sI M 165 i3 (mI M 12 i1 70).toNatClampNeg a1) 11 this 47))) (pc' := 38) (tb_Model hγ) [.getfield 905, .iload_n 3, .aload_n 0, .getfield 908, .iastore] (by decide +kernel) rfl rfl ⟨c6, trivial⟩ ?_
    obtain ⟨M7, eM7, h⟩ := h
    rw [← eM7]
    refine E_blk (lv' := [some (vr (some (11, this))), some (vi a1), some (vi a2), some (vi (mI M 12 i1 70))]) (st' := [vr (mR M7 11 this 45)]) (M1 := M7) (pc' := 42) (tb_Model hγ) [.aload_n 0, .getfield 522] (by decide +kernel) rfl rfl trivial ?_
    obtain ⟨i8, ei8, h⟩ := h
    rw [ei8]
    obtain ⟨c9, h⟩ := h
    refine E_blk (lv' := [some (vr (some (11, this))), some (vi a1), some (vi a2), some (vi (mI M 12 i1 70))]) (st' := [vr (mR (sI M7 167 i8 (mI M 12 i1 70).toNatClampNeg a2) 11 this 45)]) (M1 := (sI M7 167 i8 (mI M 12 i1 70).toNatClampNeg a2)) (pc' := 52) (tb_Model hγ) [.getfield 911, .iload_n 3, .iload_n 2, .iastore, .aload_n 0, .getfield 522] (by decide +kernel) rfl rfl ⟨c9, trivial⟩ ?_
    obtain ⟨i10, ei10, h⟩ := h
    rw [ei10]
    refine E_blk (lv' := [some (vr (some (11, this))), some (vi a1), some (vi a2), some (vi (mI M 12 i1 70))]) (st' := [vr (mR (sI M7 167 i8 (mI M 12 i1 70).toNatClampNeg a2) 11 this 46), vi (mI M 12 i1 70), vr (some (168, i10))]) (M1 := (sI M7 167 i8 (mI M 12 i1 70).toNatClampNeg a2)) (pc' := 60) (tb_Model hγ) [.getfield 914, .iload_n 3, .aload_n 0, .getfield 917] (by decide +kernel) rfl rfl trivial ?_
    obtain ⟨i11, ei11, h⟩ := h
    rw [ei11]
    obtain ⟨c12, h⟩ := h
    refine E_blk (lv' := [some (vr (some (11, this))), some (vi a1), some (vi a2), some (vi (mI M 12 i1 70))]) (st' := []) (M1 := (sI (sI M7 167 i8 (mI M 12 i1 70).toNatClampNeg a2) 168 i10 (mI M 12 i1 70).toNatClampNeg (mI (sI M7 167 i8 (mI M 12 i1 70).toNatClampNeg a2) 13 i11 3))) (pc' := 64) (tb_Model hγ) [.getfield 921, .iastore] (by decide +kernel) rfl rfl ⟨c12, trivial⟩ ?_
    obtain ⟨M13, eM13, h⟩ := h
    rw [← eM13]
    refine E_blk (lv' := [some (vr (some (11, this))), some (vi a1), some (vi a2), some (vi (mI M 12 i1 70))]) (st' := [vr (mR M13 11 this 45)]) (M1 := M13) (pc' := 68) (tb_Model hγ) [.aload_n 0, .getfield 522] (by decide +kernel) rfl rfl trivial ?_
    obtain ⟨i14, ei14, h⟩ := h
    rw [ei14]
    refine E_blk (lv' := [some (vr (some (11, this))), some (vi a1), some (vi a2), some (vi (mI M 12 i1 70))]) (st' := []) (M1 := (sI M13 12 i14 70 ((mI M13 12 i14 70) + (1 : Int32)))) (pc' := 77) (tb_Model hγ) [.dup, .getfield 501, .iconst 1, .iadd, .putfield 501] (by decide +kernel) rfl rfl trivial ?_
    exact E_vret rfl (by decide +kernel) h
def w_Model_newFrame_L40 (this : Nat) (Q : Mem → Prop) : Nat → Int32 → Int32 → Int32 → Mem → Prop
  | 0, _, _, _, _ => False
  | n + 1, v1, v2, v3, M => if (20 : Int32) ≤ v3 then (∃ i10, (mR M 11 this 46) = some (13, i10) ∧ ∃ i11, (mR (sI M 13 i10 22 ((mI M 13 i10 22) + (1 : Int32))) 11 this 46) = some (13, i11) ∧ ∃ i12, (mR (sI M 13 i10 22 ((mI M 13 i10 22) + (1 : Int32))) 11 this 46) = some (13, i12) ∧ vp_in (mI (sI M 13 i10 22 ((mI M 13 i10 22) + (1 : Int32))) 13 i12 16) (mL (sI M 13 i10 22 ((mI M 13 i10 22) + (1 : Int32))) 171 i11) ∧ ∃ M14, M14 = (sI (sI M 13 i10 22 ((mI M 13 i10 22) + (1 : Int32))) 171 i11 (mI (sI M 13 i10 22 ((mI M 13 i10 22) + (1 : Int32))) 13 i12 16).toNatClampNeg v2) ∧ ∃ i15, (mR M14 11 this 46) = some (13, i15) ∧ ∃ i16, (mR M14 11 this 46) = some (13, i16) ∧ vp_in (mI M14 13 i16 16) (mL M14 172 i15) ∧ ∃ i18, (mR (sI M14 172 i15 (mI M14 13 i16 16).toNatClampNeg (0 : Int32)) 11 this 46) = some (13, i18) ∧ ∃ M19, M19 = (sI (sI M14 172 i15 (mI M14 13 i16 16).toNatClampNeg (0 : Int32)) 13 i18 16 ((mI (sI M14 172 i15 (mI M14 13 i16 16).toNatClampNeg (0 : Int32)) 13 i18 16) + (1 : Int32))) ∧ w_Model_note this (1 : Int32) v1 (fun M20 => Q M20) M19) else (∃ i21, (mR M 11 this 46) = some (13, i21) ∧ vp_in (((44 : Int32) * v2) + v3) (mL M 176 i21) ∧ ∃ i23, (mR (sI M 176 i21 (((44 : Int32) * v2) + v3).toNatClampNeg (0 : Int32)) 11 this 46) = some (13, i23) ∧ vp_in (((44 : Int32) * v2) + v3) (mL (sI M 176 i21 (((44 : Int32) * v2) + v3).toNatClampNeg (0 : Int32)) 525 i23) ∧ ∃ M25, M25 = (sI (sI M 176 i21 (((44 : Int32) * v2) + v3).toNatClampNeg (0 : Int32)) 525 i23 (((44 : Int32) * v2) + v3).toNatClampNeg ((0 : Int32) &&& 1)) ∧ (w_Model_newFrame_L40 this Q n) v1 v2 (v3 + (1 : Int32)) M25)
def w_Model_newFrame (this : Nat) (a1 : Int32) (Q : Mem → Prop) (M : Mem) : Prop :=
  ∃ i1, (mR M 11 this 46) = some (13, i1) ∧ ∃ i2, (mR M 11 this 46) = some (13, i2) ∧ vp_in (mI M 13 i1 22) (mL M 173 i2) ∧ ∃ i4, (mR (sI M 173 i2 (mI M 13 i1 22).toNatClampNeg a1) 11 this 46) = some (13, i4) ∧ vp_in (mI M 13 i1 22) (mL (sI M 173 i2 (mI M 13 i1 22).toNatClampNeg a1) 174 i4) ∧ ∃ M6, M6 = (sI (sI M 173 i2 (mI M 13 i1 22).toNatClampNeg a1) 174 i4 (mI M 13 i1 22).toNatClampNeg (0 : Int32)) ∧ ∃ i7, (mR M6 11 this 46) = some (13, i7) ∧ vp_in (mI M 13 i1 22) (mL M6 175 i7) ∧ ∃ n26 : Nat, w_Model_newFrame_L40 this Q n26 a1 (mI M 13 i1 22) (0 : Int32) (sI M6 175 i7 (mI M 13 i1 22).toNatClampNeg (0 : Int32))
set_option maxRecDepth 4096 in
theorem lk_Model_newFrame_L40 {γ : Gm} (hγ : Gk γ) (this : Nat) (Q : Mem → Prop) : ∀ (n : Nat) (v1 : Int32) (v2 : Int32) (v3 : Int32) (M : Mem), w_Model_newFrame_L40 this Q n v1 v2 v3 M → E γ k_Model_newFrame 1 40 [some (vr (some (11, this))), some (vi v1), some (vi v2), some (vi v3)] [] M (Qv Q) := by
  intro n
  induction n with
  | zero => intro v1 v2 v3 M h; exact h.elim
  | succ n ih =>
    intro v1 v2 v3 M h
    unfold w_Model_newFrame_L40 at h
    refine E_blk (lv' := [some (vr (some (11, this))), some (vi v1), some (vi v2), some (vi v3)]) (st' := [vi (20 : Int32), vi v3]) (M1 := M) (pc' := 43) (tb_Model hγ) [.iload_n 3, .bipush 20] (by decide +kernel) rfl rfl trivial ?_
    refine E_icmp_ge (off := 39) (tgt := 82) (by decide +kernel) (by decide) (fun b9 => ?_) (fun b9 => ?_)
    · rw [if_pos b9] at h
      refine E_blk (lv' := [some (vr (some (11, this))), some (vi v1), some (vi v2), some (vi v3)]) (st' := [vr (mR M 11 this 46)]) (M1 := M) (pc' := 86) (tb_Model hγ) [.aload_n 0, .getfield 917] (by decide +kernel) rfl rfl trivial ?_
      obtain ⟨i10, ei10, h⟩ := h
      rw [ei10]
      refine E_blk (lv' := [some (vr (some (11, this))), some (vi v1), some (vi v2), some (vi v3)]) (st' := [vr (mR (sI M 13 i10 22 ((mI M 13 i10 22) + (1 : Int32))) 11 this 46)]) (M1 := (sI M 13 i10 22 ((mI M 13 i10 22) + (1 : Int32)))) (pc' := 99) (tb_Model hγ) [.dup, .getfield 924, .iconst 1, .iadd, .putfield 924, .aload_n 0, .getfield 917] (by decide +kernel) rfl rfl trivial ?_
      obtain ⟨i11, ei11, h⟩ := h
      rw [ei11]
      refine E_blk (lv' := [some (vr (some (11, this))), some (vi v1), some (vi v2), some (vi v3)]) (st' := [vr (mR (sI M 13 i10 22 ((mI M 13 i10 22) + (1 : Int32))) 11 this 46), vr (some (171, i11))]) (M1 := (sI M 13 i10 22 ((mI M 13 i10 22) + (1 : Int32)))) (pc' := 106) (tb_Model hγ) [.getfield 942, .aload_n 0, .getfield 917] (by decide +kernel) rfl rfl trivial ?_
      obtain ⟨i12, ei12, h⟩ := h
      rw [ei12]
      obtain ⟨c13, h⟩ := h
      refine E_blk (lv' := [some (vr (some (11, this))), some (vi v1), some (vi v2), some (vi v3)]) (st' := []) (M1 := (sI (sI M 13 i10 22 ((mI M 13 i10 22) + (1 : Int32))) 171 i11 (mI (sI M 13 i10 22 ((mI M 13 i10 22) + (1 : Int32))) 13 i12 16).toNatClampNeg v2)) (pc' := 111) (tb_Model hγ) [.getfield 945, .iload_n 2, .iastore] (by decide +kernel) rfl rfl ⟨c13, trivial⟩ ?_
      obtain ⟨M14, eM14, h⟩ := h
      rw [← eM14]
      refine E_blk (lv' := [some (vr (some (11, this))), some (vi v1), some (vi v2), some (vi v3)]) (st' := [vr (mR M14 11 this 46)]) (M1 := M14) (pc' := 115) (tb_Model hγ) [.aload_n 0, .getfield 917] (by decide +kernel) rfl rfl trivial ?_
      obtain ⟨i15, ei15, h⟩ := h
      rw [ei15]
      refine E_blk (lv' := [some (vr (some (11, this))), some (vi v1), some (vi v2), some (vi v3)]) (st' := [vr (mR M14 11 this 46), vr (some (172, i15))]) (M1 := M14) (pc' := 122) (tb_Model hγ) [.getfield 948, .aload_n 0, .getfield 917] (by decide +kernel) rfl rfl trivial ?_
      obtain ⟨i16, ei16, h⟩ := h
      rw [ei16]
      obtain ⟨c17, h⟩ := h
      refine E_blk (lv' := [some (vr (some (11, this))), some (vi v1), some (vi v2), some (vi v3)]) (st' := [vr (mR (sI M14 172 i15 (mI M14 13 i16 16).toNatClampNeg (0 : Int32)) 11 this 46)]) (M1 := (sI M14 172 i15 (mI M14 13 i16 16).toNatClampNeg (0 : Int32))) (pc' := 131) (tb_Model hγ) [.getfield 945, .iconst 0, .iastore, .aload_n 0, .getfield 917] (by decide +kernel) rfl rfl ⟨c17, trivial⟩ ?_
      obtain ⟨i18, ei18, h⟩ := h
      rw [ei18]
      refine E_blk (lv' := [some (vr (some (11, this))), some (vi v1), some (vi v2), some (vi v3)]) (st' := []) (M1 := (sI (sI M14 172 i15 (mI M14 13 i16 16).toNatClampNeg (0 : Int32)) 13 i18 16 ((mI (sI M14 172 i15 (mI M14 13 i16 16).toNatClampNeg (0 : Int32)) 13 i18 16) + (1 : Int32)))) (pc' := 140) (tb_Model hγ) [.dup, .getfield 945, .iconst 1, .iadd, .putfield 945] (by decide +kernel) rfl rfl trivial ?_
      obtain ⟨M19, eM19, h⟩ := h
      rw [← eM19]
      refine E_blk (lv' := [some (vr (some (11, this))), some (vi v1), some (vi v2), some (vi v3)]) (st' := [vi v1, vi (1 : Int32), vr (some (11, this))]) (M1 := M19) (pc' := 143) (tb_Model hγ) [.aload_n 0, .iconst 1, .iload_n 1] (by decide +kernel) rfl rfl trivial ?_
      refine E_callV (κ' := k_Model_note) (As := [vi (1 : Int32), vi v1]) (st := []) mv_Model_note (Or.inl (tbk_mem (j := 16) (k := 107) rfl)) rfl (by decide +kernel) (Nat.le_of_ble_eq_true rfl) (Nat.le_of_ble_eq_true rfl) rfl (by decide) (lk_Model_note hγ this (1 : Int32) v1 _ M19 h) (fun _ _ => Qv_r) (fun v M20 hp => Qv_k (R := fun st => E γ k_Model_newFrame 1 146 [some (vr (some (11, this))), some (vi v1), some (vi v2), some (vi v3)] st M20 (Qv Q)) hp (fun h => ?_))
      exact E_vret rfl (by decide +kernel) h
    · rw [if_neg b9] at h
      refine E_blk (lv' := [some (vr (some (11, this))), some (vi v1), some (vi v2), some (vi v3)]) (st' := [vr (mR M 11 this 46)]) (M1 := M) (pc' := 50) (tb_Model hγ) [.aload_n 0, .getfield 917] (by decide +kernel) rfl rfl trivial ?_
      obtain ⟨i21, ei21, h⟩ := h
      rw [ei21]
      obtain ⟨c22, h⟩ := h
      refine E_blk (lv' := [some (vr (some (11, this))), some (vi v1), some (vi v2), some (vi v3)]) (st' := [vr (mR (sI M 176 i21 (((44 : Int32) * v2) + v3).toNatClampNeg (0 : Int32)) 11 this 46)]) (M1 := (sI M 176 i21 (((44 : Int32) * v2) + v3).toNatClampNeg (0 : Int32))) (pc' := 65) (tb_Model hγ) [.getfield 936, .bipush 44, .iload_n 2, .imul, .iload_n 3, .iadd, .iconst 0, .iastore, .aload_n 0, .getfield 917] (by decide +kernel) rfl rfl ⟨c22, trivial⟩ ?_
      obtain ⟨i23, ei23, h⟩ := h
      rw [ei23]
      obtain ⟨c24, h⟩ := h
      refine E_blk (lv' := [some (vr (some (11, this))), some (vi v1), some (vi v2), some (vi v3)]) (st' := []) (M1 := (sI (sI M 176 i21 (((44 : Int32) * v2) + v3).toNatClampNeg (0 : Int32)) 525 i23 (((44 : Int32) * v2) + v3).toNatClampNeg ((0 : Int32) &&& 1))) (pc' := 76) (tb_Model hγ) [.getfield 939, .bipush 44, .iload_n 2, .imul, .iload_n 3, .iadd, .iconst 0, .bastore] (by decide +kernel) rfl rfl ⟨c24, trivial⟩ ?_
      obtain ⟨M25, eM25, h⟩ := h
      rw [← eM25]
      refine E_blk (lv' := [some (vr (some (11, this))), some (vi v1), some (vi v2), some (vi (v3 + (1 : Int32)))]) (st' := []) (M1 := M25) (pc' := 79) (tb_Model hγ) [.iinc 3 1] (by decide +kernel) rfl rfl trivial ?_
      refine E_goto (off := -39) (tgt := 40) (by decide +kernel) (by decide) ?_
      refine E_mask [true, true, true, true] rfl ?_
      exact ih v1 v2 (v3 + (1 : Int32)) M25 h
set_option maxRecDepth 4096 in
theorem lk_Model_newFrame {γ : Gm} (hγ : Gk γ) (this : Nat) (a1 : Int32) (Q : Mem → Prop) (M : Mem) (h : w_Model_newFrame this a1 Q M) : E γ k_Model_newFrame 1 0 [some (vr (some (11, this))), some (vi a1), none, none] [] M (Qv Q) := by
  unfold w_Model_newFrame at h
  refine E_blk (lv' := [some (vr (some (11, this))), some (vi a1), none, none]) (st' := [vr (mR M 11 this 46)]) (M1 := M) (pc' := 4) (tb_Model hγ) [.aload_n 0, .getfield 917] (by decide +kernel) rfl rfl trivial ?_
  obtain ⟨i1, ei1, h⟩ := h
  rw [ei1]
  refine E_blk (lv' := [some (vr (some (11, this))), some (vi a1), some (vi (mI M 13 i1 22)), none]) (st' := [vr (mR M 11 this 46)]) (M1 := M) (pc' := 12) (tb_Model hγ) [.getfield 924, .istore_n 2, .aload_n 0, .getfield 917] (by decide +kernel) rfl rfl trivial ?_
  obtain ⟨i2, ei2, h⟩ := h
  rw [ei2]
  obtain ⟨c3, h⟩ := h
  refine E_blk (lv' := [some (vr (some (11, this))), some (vi a1), some (vi (mI M 13 i1 22)), none]) (st' := [vr (mR (sI M 173 i2 (mI M 13 i1 22).toNatClampNeg a1) 11 this 46)]) (M1 := (sI M 173 i2 (mI M 13 i1 22).toNatClampNeg a1)) (pc' := 22) (tb_Model hγ) [.getfield 927, .iload_n 2, .iload_n 1, .iastore, .aload_n 0, .getfield 917] (by decide +kernel) rfl rfl ⟨c3, trivial⟩ ?_
  obtain ⟨i4, ei4, h⟩ := h
  rw [ei4]
  obtain ⟨c5, h⟩ := h
  refine E_blk (lv' := [some (vr (some (11, this))), some (vi a1), some (vi (mI M 13 i1 22)), none]) (st' := []) (M1 := (sI (sI M 173 i2 (mI M 13 i1 22).toNatClampNeg a1) 174 i4 (mI M 13 i1 22).toNatClampNeg (0 : Int32))) (pc' := 28) (tb_Model hγ) [.getfield 930, .iload_n 2, .iconst 0, .iastore] (by decide +kernel) rfl rfl ⟨c5, trivial⟩ ?_
  obtain ⟨M6, eM6, h⟩ := h
  rw [← eM6]
  refine E_blk (lv' := [some (vr (some (11, this))), some (vi a1), some (vi (mI M 13 i1 22)), none]) (st' := [vr (mR M6 11 this 46)]) (M1 := M6) (pc' := 32) (tb_Model hγ) [.aload_n 0, .getfield 917] (by decide +kernel) rfl rfl trivial ?_
  obtain ⟨i7, ei7, h⟩ := h
  rw [ei7]
  obtain ⟨c8, h⟩ := h
  refine E_blk (lv' := [some (vr (some (11, this))), some (vi a1), some (vi (mI M 13 i1 22)), some (vi (0 : Int32))]) (st' := []) (M1 := (sI M6 175 i7 (mI M 13 i1 22).toNatClampNeg (0 : Int32))) (pc' := 40) (tb_Model hγ) [.getfield 933, .iload_n 2, .iconst 0, .iastore, .iconst 0, .istore_n 3] (by decide +kernel) rfl rfl ⟨c8, trivial⟩ ?_
  obtain ⟨n26, h⟩ := h
  refine E_mask [true, true, true, true] rfl ?_
  exact lk_Model_newFrame_L40 hγ this Q n26 a1 (mI M 13 i1 22) (0 : Int32) (sI M6 175 i7 (mI M 13 i1 22).toNatClampNeg (0 : Int32)) h
def w_Model_push (this : Nat) (a1 : Int32) (a2 : Int32) (a3 : Int32) (Q : Mem → Prop) (M : Mem) : Prop :=
  ∃ i1, (mR M 11 this 46) = some (13, i1) ∧ vp_in a1 (mL M 175 i1) ∧ ∃ x3 : Int32, x3 = ((((44 : Int32) * a1) + (20 : Int32)) + (mI M 175 i1 a1.toNatClampNeg)) ∧ ∃ i4, (mR M 11 this 46) = some (13, i4) ∧ vp_in x3 (mL M 176 i4) ∧ ∃ i6, (mR (sI M 176 i4 x3.toNatClampNeg a2) 11 this 46) = some (13, i6) ∧ vp_in x3 (mL (sI M 176 i4 x3.toNatClampNeg a2) 525 i6) ∧ ∃ M8, M8 = (sI (sI M 176 i4 x3.toNatClampNeg a2) 525 i6 x3.toNatClampNeg (a3 &&& 1)) ∧ ∃ i9, (mR M8 11 this 46) = some (13, i9) ∧ vp_in a1 (mL M8 175 i9) ∧ vp_in a1 (mL M8 175 i9) ∧ ∃ M12, M12 = (sI M8 175 i9 a1.toNatClampNeg ((mI M8 175 i9 a1.toNatClampNeg) + (1 : Int32))) ∧ Q M12
set_option maxRecDepth 4096 in
theorem lk_Model_push {γ : Gm} (hγ : Gk γ) (this : Nat) (a1 : Int32) (a2 : Int32) (a3 : Int32) (Q : Mem → Prop) (M : Mem) (h : w_Model_push this a1 a2 a3 Q M) : E γ k_Model_push 0 0 [some (vr (some (11, this))), some (vi a1), some (vi a2), some (vi a3), none] [] M (Qv Q) := by
  unfold w_Model_push at h
  refine E_blk (lv' := [some (vr (some (11, this))), some (vi a1), some (vi a2), some (vi a3), none]) (st' := [vr (mR M 11 this 46), vi (((44 : Int32) * a1) + (20 : Int32))]) (M1 := M) (pc' := 11) (tb_Model hγ) [.bipush 44, .iload_n 1, .imul, .bipush 20, .iadd, .aload_n 0, .getfield 917] (by decide +kernel) rfl rfl trivial ?_
  obtain ⟨i1, ei1, h⟩ := h
  rw [ei1]
  obtain ⟨c2, h⟩ := h
  refine E_blk (lv' := [some (vr (some (11, this))), some (vi a1), some (vi a2), some (vi a3), some (vi ((((44 : Int32) * a1) + (20 : Int32)) + (mI M 175 i1 a1.toNatClampNeg)))]) (st' := []) (M1 := M) (pc' := 19) (tb_Model hγ) [.getfield 933, .iload_n 1, .iaload, .iadd, .istore 4] (by decide +kernel) rfl rfl ⟨c2, trivial⟩ ?_
  obtain ⟨x3, ex3, h⟩ := h
  rw [← ex3]
  refine E_blk (lv' := [some (vr (some (11, this))), some (vi a1), some (vi a2), some (vi a3), some (vi x3)]) (st' := [vr (mR M 11 this 46)]) (M1 := M) (pc' := 23) (tb_Model hγ) [.aload_n 0, .getfield 917] (by decide +kernel) rfl rfl trivial ?_
  obtain ⟨i4, ei4, h⟩ := h
  rw [ei4]
  obtain ⟨c5, h⟩ := h
  refine E_blk (lv' := [some (vr (some (11, this))), some (vi a1), some (vi a2), some (vi a3), some (vi x3)]) (st' := [vr (mR (sI M 176 i4 x3.toNatClampNeg a2) 11 this 46)]) (M1 := (sI M 176 i4 x3.toNatClampNeg a2)) (pc' := 34) (tb_Model hγ) [.getfield 936, .iload 4, .iload_n 2, .iastore, .aload_n 0, .getfield 917] (by decide +kernel) rfl rfl ⟨c5, trivial⟩ ?_
  obtain ⟨i6, ei6, h⟩ := h
  rw [ei6]
  obtain ⟨c7, h⟩ := h
  refine E_blk (lv' := [some (vr (some (11, this))), some (vi a1), some (vi a2), some (vi a3), some (vi x3)]) (st' := []) (M1 := (sI (sI M 176 i4 x3.toNatClampNeg a2) 525 i6 x3.toNatClampNeg (a3 &&& 1))) (pc' := 41) (tb_Model hγ) [.getfield 939, .iload 4, .iload_n 3, .bastore] (by decide +kernel) rfl rfl ⟨c7, trivial⟩ ?_
  obtain ⟨M8, eM8, h⟩ := h
  rw [← eM8]
  refine E_blk (lv' := [some (vr (some (11, this))), some (vi a1), some (vi a2), some (vi a3), some (vi x3)]) (st' := [vr (mR M8 11 this 46)]) (M1 := M8) (pc' := 45) (tb_Model hγ) [.aload_n 0, .getfield 917] (by decide +kernel) rfl rfl trivial ?_
  obtain ⟨i9, ei9, h⟩ := h
  rw [ei9]
  obtain ⟨c10, c11, h⟩ := h
  refine E_blk (lv' := [some (vr (some (11, this))), some (vi a1), some (vi a2), some (vi a3), some (vi x3)]) (st' := []) (M1 := (sI M8 175 i9 a1.toNatClampNeg ((mI M8 175 i9 a1.toNatClampNeg) + (1 : Int32)))) (pc' := 54) (tb_Model hγ) [.getfield 933, .iload_n 1, .dup2, .iaload, .iconst 1, .iadd, .iastore] (by decide +kernel) rfl rfl ⟨c10, c11, trivial⟩ ?_
  obtain ⟨M12, eM12, h⟩ := h
  rw [← eM12]
  exact E_vret rfl (by decide +kernel) h
def w_Model_pop (this : Nat) (a1 : Int32) (Q : Int32 → Mem → Prop) (M : Mem) : Prop :=
  ∃ i1, (mR M 11 this 46) = some (13, i1) ∧ vp_in a1 (mL M 175 i1) ∧ vp_in a1 (mL M 175 i1) ∧ ∃ M4, M4 = (sI M 175 i1 a1.toNatClampNeg ((mI M 175 i1 a1.toNatClampNeg) - (1 : Int32))) ∧ ∃ i5, (mR M4 11 this 46) = some (13, i5) ∧ ∃ i6, (mR M4 11 this 46) = some (13, i6) ∧ vp_in a1 (mL M4 175 i6) ∧ vp_in ((((44 : Int32) * a1) + (20 : Int32)) + (mI M4 175 i6 a1.toNatClampNeg)) (mL M4 176 i5) ∧ Q (mI M4 176 i5 ((((44 : Int32) * a1) + (20 : Int32)) + (mI M4 175 i6 a1.toNatClampNeg)).toNatClampNeg) M4
set_option maxRecDepth 4096 in
theorem lk_Model_pop {γ : Gm} (hγ : Gk γ) (this : Nat) (a1 : Int32) (Q : Int32 → Mem → Prop) (M : Mem) (h : w_Model_pop this a1 Q M) : E γ k_Model_pop 0 0 [some (vr (some (11, this))), some (vi a1)] [] M (Qi Q) := by
  unfold w_Model_pop at h
  refine E_blk (lv' := [some (vr (some (11, this))), some (vi a1)]) (st' := [vr (mR M 11 this 46)]) (M1 := M) (pc' := 4) (tb_Model hγ) [.aload_n 0, .getfield 917] (by decide +kernel) rfl rfl trivial ?_
  obtain ⟨i1, ei1, h⟩ := h
  rw [ei1]
  obtain ⟨c2, c3, h⟩ := h
  refine E_blk (lv' := [some (vr (some (11, this))), some (vi a1)]) (st' := []) (M1 := (sI M 175 i1 a1.toNatClampNeg ((mI M 175 i1 a1.toNatClampNeg) - (1 : Int32)))) (pc' := 13) (tb_Model hγ) [.getfield 933, .iload_n 1, .dup2, .iaload, .iconst 1, .isub, .iastore] (by decide +kernel) rfl rfl ⟨c2, c3, trivial⟩ ?_
  obtain ⟨M4, eM4, h⟩ := h
  rw [← eM4]
  refine E_blk (lv' := [some (vr (some (11, this))), some (vi a1)]) (st' := [vr (mR M4 11 this 46)]) (M1 := M4) (pc' := 17) (tb_Model hγ) [.aload_n 0, .getfield 917] (by decide +kernel) rfl rfl trivial ?_
  obtain ⟨i5, ei5, h⟩ := h
  rw [ei5]
  refine E_blk (lv' := [some (vr (some (11, this))), some (vi a1)]) (st' := [vr (mR M4 11 this 46), vi (((44 : Int32) * a1) + (20 : Int32)), vr (some (176, i5))]) (M1 := M4) (pc' := 31) (tb_Model hγ) [.getfield 936, .bipush 44, .iload_n 1, .imul, .bipush 20, .iadd, .aload_n 0, .getfield 917] (by decide +kernel) rfl rfl trivial ?_
  obtain ⟨i6, ei6, h⟩ := h
  rw [ei6]
  obtain ⟨c7, c8, h⟩ := h
  refine E_blk (lv' := [some (vr (some (11, this))), some (vi a1)]) (st' := [vi (mI M4 176 i5 ((((44 : Int32) * a1) + (20 : Int32)) + (mI M4 175 i6 a1.toNatClampNeg)).toNatClampNeg)]) (M1 := M4) (pc' := 38) (tb_Model hγ) [.getfield 933, .iload_n 1, .iaload, .iadd, .iaload] (by decide +kernel) rfl rfl ⟨c7, c8, trivial⟩ ?_
  exact E_iret rfl (by decide +kernel) h
def w_Model_topRefers (this : Nat) (a1 : Int32) (Q : Int32 → Mem → Prop) (M : Mem) : Prop :=
  ∃ i1, (mR M 11 this 46) = some (13, i1) ∧ ∃ i2, (mR M 11 this 46) = some (13, i2) ∧ vp_in a1 (mL M 175 i2) ∧ vp_in (((((44 : Int32) * a1) + (20 : Int32)) + (mI M 175 i2 a1.toNatClampNeg)) - (1 : Int32)) (mL M 525 i1) ∧ ((mI M 525 i1 (((((44 : Int32) * a1) + (20 : Int32)) + (mI M 175 i2 a1.toNatClampNeg)) - (1 : Int32)).toNatClampNeg) = 0 ∨ (mI M 525 i1 (((((44 : Int32) * a1) + (20 : Int32)) + (mI M 175 i2 a1.toNatClampNeg)) - (1 : Int32)).toNatClampNeg) = 1) ∧ Q (mI M 525 i1 (((((44 : Int32) * a1) + (20 : Int32)) + (mI M 175 i2 a1.toNatClampNeg)) - (1 : Int32)).toNatClampNeg) M
set_option maxRecDepth 4096 in
theorem lk_Model_topRefers {γ : Gm} (hγ : Gk γ) (this : Nat) (a1 : Int32) (Q : Int32 → Mem → Prop) (M : Mem) (h : w_Model_topRefers this a1 Q M) : E γ k_Model_topRefers 0 0 [some (vr (some (11, this))), some (vi a1)] [] M (Qi Q) := by
  unfold w_Model_topRefers at h
  refine E_blk (lv' := [some (vr (some (11, this))), some (vi a1)]) (st' := [vr (mR M 11 this 46)]) (M1 := M) (pc' := 4) (tb_Model hγ) [.aload_n 0, .getfield 917] (by decide +kernel) rfl rfl trivial ?_
  obtain ⟨i1, ei1, h⟩ := h
  rw [ei1]
  refine E_blk (lv' := [some (vr (some (11, this))), some (vi a1)]) (st' := [vr (mR M 11 this 46), vi (((44 : Int32) * a1) + (20 : Int32)), vr (some (525, i1))]) (M1 := M) (pc' := 18) (tb_Model hγ) [.getfield 939, .bipush 44, .iload_n 1, .imul, .bipush 20, .iadd, .aload_n 0, .getfield 917] (by decide +kernel) rfl rfl trivial ?_
  obtain ⟨i2, ei2, h⟩ := h
  rw [ei2]
  obtain ⟨c3, c4, h⟩ := h
  refine E_blk (lv' := [some (vr (some (11, this))), some (vi a1)]) (st' := [vi (mI M 525 i1 (((((44 : Int32) * a1) + (20 : Int32)) + (mI M 175 i2 a1.toNatClampNeg)) - (1 : Int32)).toNatClampNeg)]) (M1 := M) (pc' := 27) (tb_Model hγ) [.getfield 933, .iload_n 1, .iaload, .iadd, .iconst 1, .isub, .baload] (by decide +kernel) rfl rfl ⟨c3, c4, trivial⟩ ?_
  exact E_zret rfl h.1 (by decide +kernel) h.2
def w_Model_handlerOf_j145 (this : Nat) (Q : Int32 → Mem → Prop) (k27 : Int32 → Int32 → Int32 → Int32 → Mem → Prop) (v2 : Int32) (v3 : Int32) (v4 : Int32) (v5 : Int32) (M : Mem) : Prop :=
  k27 v2 v3 v4 (v5 + (1 : Int32)) M
def w_Model_handlerOf_j108 (this : Nat) (Q : Int32 → Mem → Prop) (k27 : Int32 → Int32 → Int32 → Int32 → Mem → Prop) (v2 : Int32) (v3 : Int32) (v4 : Int32) (v5 : Int32) (s0 : Int32) (M : Mem) : Prop :=
  ∃ i21, (mR M 11 this 45) = some (12, i21) ∧ vp_in v5 (mL M 155 i21) ∧ if (mI M 155 i21 v5.toNatClampNeg) < 0 then (Q v5 M) else (if s0 < 0 then (w_Model_handlerOf_j145 this Q k27 v2 v3 v4 v5 M) else (w_Model_classOfRef this v2 (fun r26 M25 => w_Model_isBelow this r26 s0 (fun r28 M27 => if r28 = 0 then (w_Model_handlerOf_j145 this Q k27 v2 v3 v4 v5 M27) else (Q v5 M27)) M25) M))
def w_Model_handlerOf_L27 (this : Nat) (Q : Int32 → Mem → Prop) : Nat → Int32 → Int32 → Int32 → Int32 → Mem → Prop
  | 0, _, _, _, _, _ => False
  | n + 1, v2, v3, v4, v5, M => ∃ i5, (mR M 11 this 45) = some (12, i5) ∧ vp_in v3 (mL M 151 i5) ∧ if (((8 : Int32) * v3) + (mI M 151 i5 v3.toNatClampNeg)) ≤ v5 then (Q (-2 : Int32) M) else (∃ i8, (mR M 11 this 45) = some (12, i8) ∧ vp_in v5 (mL M 152 i8) ∧ if v4 < (mI M 152 i8 v5.toNatClampNeg) then (w_Model_handlerOf_j145 this Q (w_Model_handlerOf_L27 this Q n) v2 v3 v4 v5 M) else (∃ i11, (mR M 11 this 45) = some (12, i11) ∧ vp_in v5 (mL M 153 i11) ∧ if (mI M 153 i11 v5.toNatClampNeg) ≤ v4 then (w_Model_handlerOf_j145 this Q (w_Model_handlerOf_L27 this Q n) v2 v3 v4 v5 M) else (∃ i14, (mR M 11 this 45) = some (12, i14) ∧ vp_in v5 (mL M 155 i14) ∧ if 0 ≤ (mI M 155 i14 v5.toNatClampNeg) then (∃ i17, (mR M 11 this 45) = some (12, i17) ∧ vp_in v5 (mL M 155 i17) ∧ w_Model_classOf this (mI M 155 i17 v5.toNatClampNeg) (fun r20 M19 => w_Model_handlerOf_j108 this Q (w_Model_handlerOf_L27 this Q n) v2 v3 v4 v5 r20 M19) M) else (w_Model_handlerOf_j108 this Q (w_Model_handlerOf_L27 this Q n) v2 v3 v4 v5 (-2 : Int32) M))))
def w_Model_handlerOf (this : Nat) (a1 : Int32) (a2 : Int32) (Q : Int32 → Mem → Prop) (M : Mem) : Prop :=
  ∃ i1, (mR M 11 this 46) = some (13, i1) ∧ vp_in a1 (mL M 173 i1) ∧ ∃ i3, (mR M 11 this 46) = some (13, i3) ∧ vp_in a1 (mL M 174 i3) ∧ ∃ n30 : Nat, w_Model_handlerOf_L27 this Q n30 a2 (mI M 173 i1 a1.toNatClampNeg) (mI M 174 i3 a1.toNatClampNeg) ((8 : Int32) * (mI M 173 i1 a1.toNatClampNeg)) M
set_option maxRecDepth 4096 in
theorem lk_Model_handlerOf_j145 {γ : Gm} (hγ : Gk γ) (this : Nat) (Q : Int32 → Mem → Prop) (k27 : Int32 → Int32 → Int32 → Int32 → Mem → Prop) (hk27 : ∀ (v2 : Int32) (v3 : Int32) (v4 : Int32) (v5 : Int32) (M : Mem), k27 v2 v3 v4 v5 M → E γ k_Model_handlerOf 5 27 [some (vr (some (11, this))), none, some (vi v2), some (vi v3), some (vi v4), some (vi v5), none] [] M (Qi Q)) (v2 : Int32) (v3 : Int32) (v4 : Int32) (v5 : Int32) (M : Mem) (h : w_Model_handlerOf_j145 this Q k27 v2 v3 v4 v5 M) : E γ k_Model_handlerOf 5 145 [some (vr (some (11, this))), none, some (vi v2), some (vi v3), some (vi v4), some (vi v5), none] [] M (Qi Q) := by
  unfold w_Model_handlerOf_j145 at h
  refine E_blk (lv' := [some (vr (some (11, this))), none, some (vi v2), some (vi v3), some (vi v4), some (vi (v5 + (1 : Int32))), none]) (st' := []) (M1 := M) (pc' := 148) (tb_Model hγ) [.iinc 5 1] (by decide +kernel) rfl rfl trivial ?_
  refine E_goto (off := -121) (tgt := 27) (by decide +kernel) (by decide) ?_
  refine E_mask [true, false, true, true, true, true, false] rfl ?_
  exact hk27 v2 v3 v4 (v5 + (1 : Int32)) M h
set_option maxRecDepth 4096 in
theorem lk_Model_handlerOf_j108 {γ : Gm} (hγ : Gk γ) (this : Nat) (Q : Int32 → Mem → Prop) (k27 : Int32 → Int32 → Int32 → Int32 → Mem → Prop) (hk27 : ∀ (v2 : Int32) (v3 : Int32) (v4 : Int32) (v5 : Int32) (M : Mem), k27 v2 v3 v4 v5 M → E γ k_Model_handlerOf 5 27 [some (vr (some (11, this))), none, some (vi v2), some (vi v3), some (vi v4), some (vi v5), none] [] M (Qi Q)) (v2 : Int32) (v3 : Int32) (v4 : Int32) (v5 : Int32) (s0 : Int32) (M : Mem) (h : w_Model_handlerOf_j108 this Q k27 v2 v3 v4 v5 s0 M) : E γ k_Model_handlerOf 5 108 [some (vr (some (11, this))), none, some (vi v2), some (vi v3), some (vi v4), some (vi v5), none] [vi s0] M (Qi Q) := by
  unfold w_Model_handlerOf_j108 at h
  refine E_blk (lv' := [some (vr (some (11, this))), none, some (vi v2), some (vi v3), some (vi v4), some (vi v5), some (vi s0)]) (st' := [vr (mR M 11 this 45)]) (M1 := M) (pc' := 114) (tb_Model hγ) [.istore 6, .aload_n 0, .getfield 522] (by decide +kernel) rfl rfl trivial ?_
  obtain ⟨i21, ei21, h⟩ := h
  rw [ei21]
  obtain ⟨c22, h⟩ := h
  refine E_blk (lv' := [some (vr (some (11, this))), none, some (vi v2), some (vi v3), some (vi v4), some (vi v5), some (vi s0)]) (st' := [vi (mI M 155 i21 v5.toNatClampNeg)]) (M1 := M) (pc' := 120) (tb_Model hγ) [.getfield 722, .iload 5, .iaload] (by decide +kernel) rfl rfl ⟨c22, trivial⟩ ?_
  refine E_if_lt (off := 22) (tgt := 142) (by decide +kernel) (by decide) (fun b23 => ?_) (fun b23 => ?_)
  · rw [if_pos b23] at h
    refine E_blk (lv' := [some (vr (some (11, this))), none, some (vi v2), some (vi v3), some (vi v4), some (vi v5), some (vi s0)]) (st' := [vi v5]) (M1 := M) (pc' := 144) (tb_Model hγ) [.iload 5] (by decide +kernel) rfl rfl trivial ?_
    exact E_iret rfl (by decide +kernel) h
  · rw [if_neg b23] at h
    refine E_blk (lv' := [some (vr (some (11, this))), none, some (vi v2), some (vi v3), some (vi v4), some (vi v5), some (vi s0)]) (st' := [vi s0]) (M1 := M) (pc' := 125) (tb_Model hγ) [.iload 6] (by decide +kernel) rfl rfl trivial ?_
    refine E_if_lt (off := 20) (tgt := 145) (by decide +kernel) (by decide) (fun b24 => ?_) (fun b24 => ?_)
    · rw [if_pos b24] at h
      refine E_mask [true, false, true, true, true, true, false] rfl ?_
      exact lk_Model_handlerOf_j145 hγ this Q k27 hk27 v2 v3 v4 v5 M h
    · rw [if_neg b24] at h
      refine E_blk (lv' := [some (vr (some (11, this))), none, some (vi v2), some (vi v3), some (vi v4), some (vi v5), some (vi s0)]) (st' := [vi v2, vr (some (11, this)), vr (some (11, this))]) (M1 := M) (pc' := 131) (tb_Model hγ) [.aload_n 0, .aload_n 0, .iload_n 2] (by decide +kernel) rfl rfl trivial ?_
      refine E_callV (κ' := k_Model_classOfRef) (As := [vi v2]) (st := [vr (some (11, this))]) mv_Model_classOfRef (Or.inl (tbk_mem (j := 16) (k := 127) rfl)) rfl (by decide +kernel) (Nat.le_of_ble_eq_true rfl) (Nat.le_of_ble_eq_true rfl) rfl (by decide) (lk_Model_classOfRef hγ this v2 _ M h) (fun _ _ => Qi_r) (fun v M25 hp => Qi_k (R := fun st => E γ k_Model_handlerOf 5 134 [some (vr (some (11, this))), none, some (vi v2), some (vi v3), some (vi v4), some (vi v5), some (vi s0)] st M25 (Qi Q)) hp (fun r26 h => ?_))
      refine E_blk (lv' := [some (vr (some (11, this))), none, some (vi v2), some (vi v3), some (vi v4), some (vi v5), some (vi s0)]) (st' := [vi s0, vi r26, vr (some (11, this))]) (M1 := M25) (pc' := 136) (tb_Model hγ) [.iload 6] (by decide +kernel) rfl rfl trivial ?_
      refine E_callV (κ' := k_Model_isBelow) (As := [vi r26, vi s0]) (st := []) mv_Model_isBelow (Or.inl (tbk_mem (j := 16) (k := 131) rfl)) rfl (by decide +kernel) (Nat.le_of_ble_eq_true rfl) (Nat.le_of_ble_eq_true rfl) rfl (by decide) (lk_Model_isBelow hγ this r26 s0 _ M25 h) (fun _ _ => Qi_r) (fun v M27 hp => Qi_k (R := fun st => E γ k_Model_handlerOf 5 139 [some (vr (some (11, this))), none, some (vi v2), some (vi v3), some (vi v4), some (vi v5), some (vi s0)] st M27 (Qi Q)) hp (fun r28 h => ?_))
      refine E_if_eq (off := 6) (tgt := 145) (by decide +kernel) (by decide) (fun b29 => ?_) (fun b29 => ?_)
      · rw [if_pos b29] at h
        refine E_mask [true, false, true, true, true, true, false] rfl ?_
        exact lk_Model_handlerOf_j145 hγ this Q k27 hk27 v2 v3 v4 v5 M27 h
      · rw [if_neg b29] at h
        refine E_blk (lv' := [some (vr (some (11, this))), none, some (vi v2), some (vi v3), some (vi v4), some (vi v5), some (vi s0)]) (st' := [vi v5]) (M1 := M27) (pc' := 144) (tb_Model hγ) [.iload 5] (by decide +kernel) rfl rfl trivial ?_
        exact E_iret rfl (by decide +kernel) h
set_option maxRecDepth 4096 in
theorem lk_Model_handlerOf_L27 {γ : Gm} (hγ : Gk γ) (this : Nat) (Q : Int32 → Mem → Prop) : ∀ (n : Nat) (v2 : Int32) (v3 : Int32) (v4 : Int32) (v5 : Int32) (M : Mem), w_Model_handlerOf_L27 this Q n v2 v3 v4 v5 M → E γ k_Model_handlerOf 5 27 [some (vr (some (11, this))), none, some (vi v2), some (vi v3), some (vi v4), some (vi v5), none] [] M (Qi Q) := by
  intro n
  induction n with
  | zero => intro v2 v3 v4 v5 M h; exact h.elim
  | succ n ih =>
    intro v2 v3 v4 v5 M h
    unfold w_Model_handlerOf_L27 at h
    refine E_blk (lv' := [some (vr (some (11, this))), none, some (vi v2), some (vi v3), some (vi v4), some (vi v5), none]) (st' := [vr (mR M 11 this 45), vi ((8 : Int32) * v3), vi v5]) (M1 := M) (pc' := 37) (tb_Model hγ) [.iload 5, .bipush 8, .iload_n 3, .imul, .aload_n 0, .getfield 522] (by decide +kernel) rfl rfl trivial ?_
    obtain ⟨i5, ei5, h⟩ := h
    rw [ei5]
    obtain ⟨c6, h⟩ := h
    refine E_blk (lv' := [some (vr (some (11, this))), none, some (vi v2), some (vi v3), some (vi v4), some (vi v5), none]) (st' := [vi (((8 : Int32) * v3) + (mI M 151 i5 v3.toNatClampNeg)), vi v5]) (M1 := M) (pc' := 43) (tb_Model hγ) [.getfield 468, .iload_n 3, .iaload, .iadd] (by decide +kernel) rfl rfl ⟨c6, trivial⟩ ?_
    refine E_icmp_ge (off := 108) (tgt := 151) (by decide +kernel) (by decide) (fun b7 => ?_) (fun b7 => ?_)
    · rw [if_pos b7] at h
      refine E_blk (lv' := [some (vr (some (11, this))), none, some (vi v2), some (vi v3), some (vi v4), some (vi v5), none]) (st' := [vi (-2 : Int32)]) (M1 := M) (pc' := 153) (tb_Model hγ) [.bipush (.negSucc 1)] (by decide +kernel) rfl rfl trivial ?_
      exact E_iret rfl (by decide +kernel) h
    · rw [if_neg b7] at h
      refine E_blk (lv' := [some (vr (some (11, this))), none, some (vi v2), some (vi v3), some (vi v4), some (vi v5), none]) (st' := [vr (mR M 11 this 45), vi v4]) (M1 := M) (pc' := 52) (tb_Model hγ) [.iload 4, .aload_n 0, .getfield 522] (by decide +kernel) rfl rfl trivial ?_
      obtain ⟨i8, ei8, h⟩ := h
      rw [ei8]
      obtain ⟨c9, h⟩ := h
      refine E_blk (lv' := [some (vr (some (11, this))), none, some (vi v2), some (vi v3), some (vi v4), some (vi v5), none]) (st' := [vi (mI M 152 i8 v5.toNatClampNeg), vi v4]) (M1 := M) (pc' := 58) (tb_Model hγ) [.getfield 713, .iload 5, .iaload] (by decide +kernel) rfl rfl ⟨c9, trivial⟩ ?_
      refine E_icmp_lt (off := 87) (tgt := 145) (by decide +kernel) (by decide) (fun b10 => ?_) (fun b10 => ?_)
      · rw [if_pos b10] at h
        refine E_mask [true, false, true, true, true, true, false] rfl ?_
        exact lk_Model_handlerOf_j145 hγ this Q (w_Model_handlerOf_L27 this Q n) ih v2 v3 v4 v5 M h
      · rw [if_neg b10] at h
        refine E_blk (lv' := [some (vr (some (11, this))), none, some (vi v2), some (vi v3), some (vi v4), some (vi v5), none]) (st' := [vr (mR M 11 this 45), vi v4]) (M1 := M) (pc' := 67) (tb_Model hγ) [.iload 4, .aload_n 0, .getfield 522] (by decide +kernel) rfl rfl trivial ?_
        obtain ⟨i11, ei11, h⟩ := h
        rw [ei11]
        obtain ⟨c12, h⟩ := h
        refine E_blk (lv' := [some (vr (some (11, this))), none, some (vi v2), some (vi v3), some (vi v4), some (vi v5), none]) (st' := [vi (mI M 153 i11 v5.toNatClampNeg), vi v4]) (M1 := M) (pc' := 73) (tb_Model hγ) [.getfield 716, .iload 5, .iaload] (by decide +kernel) rfl rfl ⟨c12, trivial⟩ ?_
        refine E_icmp_ge (off := 72) (tgt := 145) (by decide +kernel) (by decide) (fun b13 => ?_) (fun b13 => ?_)
        · rw [if_pos b13] at h
          refine E_mask [true, false, true, true, true, true, false] rfl ?_
          exact lk_Model_handlerOf_j145 hγ this Q (w_Model_handlerOf_L27 this Q n) ih v2 v3 v4 v5 M h
        · rw [if_neg b13] at h
          refine E_blk (lv' := [some (vr (some (11, this))), none, some (vi v2), some (vi v3), some (vi v4), some (vi v5), none]) (st' := [vr (mR M 11 this 45)]) (M1 := M) (pc' := 80) (tb_Model hγ) [.aload_n 0, .getfield 522] (by decide +kernel) rfl rfl trivial ?_
          obtain ⟨i14, ei14, h⟩ := h
          rw [ei14]
          obtain ⟨c15, h⟩ := h
          refine E_blk (lv' := [some (vr (some (11, this))), none, some (vi v2), some (vi v3), some (vi v4), some (vi v5), none]) (st' := [vi (mI M 155 i14 v5.toNatClampNeg)]) (M1 := M) (pc' := 86) (tb_Model hγ) [.getfield 722, .iload 5, .iaload] (by decide +kernel) rfl rfl ⟨c15, trivial⟩ ?_
          refine E_if_ge (off := 8) (tgt := 94) (by decide +kernel) (by decide) (fun b16 => ?_) (fun b16 => ?_)
          · rw [if_pos b16] at h
            refine E_blk (lv' := [some (vr (some (11, this))), none, some (vi v2), some (vi v3), some (vi v4), some (vi v5), none]) (st' := [vr (mR M 11 this 45), vr (some (11, this))]) (M1 := M) (pc' := 99) (tb_Model hγ) [.aload_n 0, .aload_n 0, .getfield 522] (by decide +kernel) rfl rfl trivial ?_
            obtain ⟨i17, ei17, h⟩ := h
            rw [ei17]
            obtain ⟨c18, h⟩ := h
            refine E_blk (lv' := [some (vr (some (11, this))), none, some (vi v2), some (vi v3), some (vi v4), some (vi v5), none]) (st' := [vi (mI M 155 i17 v5.toNatClampNeg), vr (some (11, this))]) (M1 := M) (pc' := 105) (tb_Model hγ) [.getfield 722, .iload 5, .iaload] (by decide +kernel) rfl rfl ⟨c18, trivial⟩ ?_
            refine E_callV (κ' := k_Model_classOf) (As := [vi (mI M 155 i17 v5.toNatClampNeg)]) (st := []) mv_Model_classOf (Or.inl (tbk_mem (j := 15) (k := 39) rfl)) rfl (by decide +kernel) (Nat.le_of_ble_eq_true rfl) (Nat.le_of_ble_eq_true rfl) rfl (by decide) (lk_Model_classOf hγ this (mI M 155 i17 v5.toNatClampNeg) _ M h) (fun _ _ => Qi_r) (fun v M19 hp => Qi_k (R := fun st => E γ k_Model_handlerOf 5 108 [some (vr (some (11, this))), none, some (vi v2), some (vi v3), some (vi v4), some (vi v5), none] st M19 (Qi Q)) hp (fun r20 h => ?_))
            refine E_mask [true, false, true, true, true, true, false] rfl ?_
            exact lk_Model_handlerOf_j108 hγ this Q (w_Model_handlerOf_L27 this Q n) ih v2 v3 v4 v5 r20 M19 h
          · rw [if_neg b16] at h
            refine E_blk (lv' := [some (vr (some (11, this))), none, some (vi v2), some (vi v3), some (vi v4), some (vi v5), none]) (st' := [vi (-2 : Int32)]) (M1 := M) (pc' := 91) (tb_Model hγ) [.bipush (.negSucc 1)] (by decide +kernel) rfl rfl trivial ?_
            refine E_goto (off := 17) (tgt := 108) (by decide +kernel) (by decide) ?_
            refine E_mask [true, false, true, true, true, true, false] rfl ?_
            exact lk_Model_handlerOf_j108 hγ this Q (w_Model_handlerOf_L27 this Q n) ih v2 v3 v4 v5 (-2 : Int32) M h
set_option maxRecDepth 4096 in
theorem lk_Model_handlerOf {γ : Gm} (hγ : Gk γ) (this : Nat) (a1 : Int32) (a2 : Int32) (Q : Int32 → Mem → Prop) (M : Mem) (h : w_Model_handlerOf this a1 a2 Q M) : E γ k_Model_handlerOf 5 0 [some (vr (some (11, this))), some (vi a1), some (vi a2), none, none, none, none] [] M (Qi Q) := by
  unfold w_Model_handlerOf at h
  refine E_blk (lv' := [some (vr (some (11, this))), some (vi a1), some (vi a2), none, none, none, none]) (st' := [vr (mR M 11 this 46)]) (M1 := M) (pc' := 4) (tb_Model hγ) [.aload_n 0, .getfield 917] (by decide +kernel) rfl rfl trivial ?_
  obtain ⟨i1, ei1, h⟩ := h
  rw [ei1]
  obtain ⟨c2, h⟩ := h
  refine E_blk (lv' := [some (vr (some (11, this))), some (vi a1), some (vi a2), some (vi (mI M 173 i1 a1.toNatClampNeg)), none, none, none]) (st' := [vr (mR M 11 this 46)]) (M1 := M) (pc' := 14) (tb_Model hγ) [.getfield 927, .iload_n 1, .iaload, .istore_n 3, .aload_n 0, .getfield 917] (by decide +kernel) rfl rfl ⟨c2, trivial⟩ ?_
  obtain ⟨i3, ei3, h⟩ := h
  rw [ei3]
  obtain ⟨c4, h⟩ := h
  refine E_blk (lv' := [some (vr (some (11, this))), some (vi a1), some (vi a2), some (vi (mI M 173 i1 a1.toNatClampNeg)), some (vi (mI M 174 i3 a1.toNatClampNeg)), some (vi ((8 : Int32) * (mI M 173 i1 a1.toNatClampNeg))), none]) (st' := []) (M1 := M) (pc' := 27) (tb_Model hγ) [.getfield 930, .iload_n 1, .iaload, .istore 4, .bipush 8, .iload_n 3, .imul, .istore 5] (by decide +kernel) rfl rfl ⟨c4, trivial⟩ ?_
  obtain ⟨n30, h⟩ := h
  refine E_mask [true, false, true, true, true, true, false] rfl ?_
  exact lk_Model_handlerOf_L27 hγ this Q n30 a2 (mI M 173 i1 a1.toNatClampNeg) (mI M 174 i3 a1.toNatClampNeg) ((8 : Int32) * (mI M 173 i1 a1.toNatClampNeg)) M h
def w_Model_unwind_j275 (this : Nat) (Q : Mem → Prop) (s0 : Int32) (s1 : Nat) (M : Mem) : Prop :=
  Q (sI M 13 s1 13 s0)
def w_Model_unwind_j195 (this : Nat) (Q : Mem → Prop) (k2 : Int32 → Mem → Prop) (v2 : Int32) (M : Mem) : Prop :=
  ∃ i33, (mR M 11 this 46) = some (13, i33) ∧ k2 v2 (sI M 13 i33 16 ((mI M 13 i33 16) - (1 : Int32)))
def w_Model_unwind_L2 (this : Nat) (Q : Mem → Prop) : Nat → Int32 → Mem → Prop
  | 0, _, _ => False
  | n + 1, v2, M => ∃ i1, (mR M 11 this 46) = some (13, i1) ∧ if (mI M 13 i1 16) ≤ 0 then (∃ i3, (mR M 11 this 46) = some (13, i3) ∧ ∃ i4, (mR (sI M 13 i3 0 (2 : Int32)) 11 this 46) = some (13, i4) ∧ ∃ i5, (mR (sI (sI M 13 i3 0 (2 : Int32)) 13 i4 10 (0 : Int32)) 11 this 46) = some (13, i5) ∧ ∃ M6, M6 = (sI (sI (sI M 13 i3 0 (2 : Int32)) 13 i4 10 (0 : Int32)) 13 i5 11 (0 : Int32)) ∧ ∃ i7, (mR M6 11 this 46) = some (13, i7) ∧ w_Model_classOfRef this v2 (fun r9 M8 => ∃ i10, (mR (sI M8 13 i7 12 r9) 11 this 46) = some (13, i10) ∧ if v2 < (1001 : Int32) then (w_Model_unwind_j275 this Q (0 : Int32) i10 (sI M8 13 i7 12 r9)) else (∃ i12, (mR (sI M8 13 i7 12 r9) 11 this 45) = some (12, i12) ∧ ∃ i13, (mR (sI M8 13 i7 12 r9) 12 i12 54) = some (300, i13) ∧ vp_in (v2 - (1001 : Int32)) (mL (sI M8 13 i7 12 r9) 300 i13) ∧ w_Model_unwind_j275 this Q (mI (sI M8 13 i7 12 r9) 300 i13 (v2 - (1001 : Int32)).toNatClampNeg) i10 (sI M8 13 i7 12 r9))) M6) else (∃ i15, (mR M 11 this 46) = some (13, i15) ∧ ∃ i16, (mR M 11 this 46) = some (13, i16) ∧ vp_in ((mI M 13 i15 16) - (1 : Int32)) (mL M 171 i16) ∧ ∃ x18 : Int32, x18 = (mI M 171 i16 ((mI M 13 i15 16) - (1 : Int32)).toNatClampNeg) ∧ if x18 < 0 then (∃ i20, (mR M 11 this 45) = some (12, i20) ∧ vp_in ((-1 : Int32) - x18) (mL M 137 i20) ∧ w_Model_note this (6 : Int32) x18 (fun M22 => ∃ i23, (mR M22 11 this 46) = some (13, i23) ∧ vp_in ((mI M 13 i15 16) - (1 : Int32)) (mL M22 172 i23) ∧ if (mI M22 172 i23 ((mI M 13 i15 16) - (1 : Int32)).toNatClampNeg) = (2 : Int32) then (w_Model_classOfRef this v2 (fun r27 M26 => w_Model_isBelow this r27 (10 : Int32) (fun r29 M28 => if r29 = 0 then (w_Model_newFault this (20 : Int32) (0 : Int32) (fun r32 M31 => w_Model_unwind_j195 this Q (w_Model_unwind_L2 this Q n) r32 M31) M28) else (w_Model_unwind_j195 this Q (w_Model_unwind_L2 this Q n) v2 M28)) M26) M22) else (w_Model_unwind_j195 this Q (w_Model_unwind_L2 this Q n) v2 M22)) (sI M 137 i20 ((-1 : Int32) - x18).toNatClampNeg (3 : Int32))) else (w_Model_handlerOf this x18 v2 (fun r35 M34 => if r35 < 0 then (∃ i37, (mR M34 11 this 46) = some (13, i37) ∧ ∃ i38, (mR (sI M34 13 i37 22 ((mI M34 13 i37 22) - (1 : Int32))) 11 this 46) = some (13, i38) ∧ vp_in x18 (mL (sI M34 13 i37 22 ((mI M34 13 i37 22) - (1 : Int32))) 173 i38) ∧ w_Model_note this (3 : Int32) (mI (sI M34 13 i37 22 ((mI M34 13 i37 22) - (1 : Int32))) 173 i38 x18.toNatClampNeg) (fun M40 => w_Model_unwind_j195 this Q (w_Model_unwind_L2 this Q n) v2 M40) (sI M34 13 i37 22 ((mI M34 13 i37 22) - (1 : Int32)))) else (∃ i41, (mR M34 11 this 46) = some (13, i41) ∧ vp_in x18 (mL M34 175 i41) ∧ w_Model_push this x18 v2 (1 : Int32) (fun M43 => ∃ i44, (mR M43 11 this 46) = some (13, i44) ∧ ∃ i45, (mR M43 11 this 45) = some (12, i45) ∧ vp_in r35 (mL M43 154 i45) ∧ vp_in x18 (mL M43 174 i44) ∧ ∃ i48, (mR (sI M43 174 i44 x18.toNatClampNeg (mI M43 154 i45 r35.toNatClampNeg)) 11 this 46) = some (13, i48) ∧ vp_in x18 (mL (sI M43 174 i44 x18.toNatClampNeg (mI M43 154 i45 r35.toNatClampNeg)) 173 i48) ∧ w_Model_note this (7 : Int32) (mI (sI M43 174 i44 x18.toNatClampNeg (mI M43 154 i45 r35.toNatClampNeg)) 173 i48 x18.toNatClampNeg) (fun M50 => Q M50) (sI M43 174 i44 x18.toNatClampNeg (mI M43 154 i45 r35.toNatClampNeg))) (sI M34 175 i41 x18.toNatClampNeg (0 : Int32)))) M))
def w_Model_unwind (this : Nat) (a1 : Int32) (Q : Mem → Prop) (M : Mem) : Prop :=
  ∃ n51 : Nat, w_Model_unwind_L2 this Q n51 a1 M
set_option maxRecDepth 4096 in
theorem lk_Model_unwind_j275 {γ : Gm} (hγ : Gk γ) (this : Nat) (Q : Mem → Prop) (s0 : Int32) (s1 : Nat) (M : Mem) (h : w_Model_unwind_j275 this Q s0 s1 M) : E γ k_Model_unwind 6 275 [none, none, none, none, none, none] [vi s0, vr (some (13, s1))] M (Qv Q) := by
  unfold w_Model_unwind_j275 at h
  refine E_blk (lv' := [none, none, none, none, none, none]) (st' := []) (M1 := (sI M 13 s1 13 s0)) (pc' := 278) (tb_Model hγ) [.putfield 983] (by decide +kernel) rfl rfl trivial ?_
  exact E_vret rfl (by decide +kernel) h
set_option maxRecDepth 4096 in
theorem lk_Model_unwind_j195 {γ : Gm} (hγ : Gk γ) (this : Nat) (Q : Mem → Prop) (k2 : Int32 → Mem → Prop) (hk2 : ∀ (v2 : Int32) (M : Mem), k2 v2 M → E γ k_Model_unwind 6 2 [some (vr (some (11, this))), none, some (vi v2), none, none, none] [] M (Qv Q)) (v2 : Int32) (M : Mem) (h : w_Model_unwind_j195 this Q k2 v2 M) : E γ k_Model_unwind 6 195 [some (vr (some (11, this))), none, some (vi v2), none, none, none] [] M (Qv Q) := by
  unfold w_Model_unwind_j195 at h
  refine E_blk (lv' := [some (vr (some (11, this))), none, some (vi v2), none, none, none]) (st' := [vr (mR M 11 this 46)]) (M1 := M) (pc' := 199) (tb_Model hγ) [.aload_n 0, .getfield 917] (by decide +kernel) rfl rfl trivial ?_
  obtain ⟨i33, ei33, h⟩ := h
  rw [ei33]
  refine E_blk (lv' := [some (vr (some (11, this))), none, some (vi v2), none, none, none]) (st' := []) (M1 := (sI M 13 i33 16 ((mI M 13 i33 16) - (1 : Int32)))) (pc' := 208) (tb_Model hγ) [.dup, .getfield 945, .iconst 1, .isub, .putfield 945] (by decide +kernel) rfl rfl trivial ?_
  refine E_goto (off := -206) (tgt := 2) (by decide +kernel) (by decide) ?_
  refine E_mask [true, false, true, false, false, false] rfl ?_
  exact hk2 v2 (sI M 13 i33 16 ((mI M 13 i33 16) - (1 : Int32))) h
set_option maxRecDepth 4096 in
theorem lk_Model_unwind_L2 {γ : Gm} (hγ : Gk γ) (this : Nat) (Q : Mem → Prop) : ∀ (n : Nat) (v2 : Int32) (M : Mem), w_Model_unwind_L2 this Q n v2 M → E γ k_Model_unwind 6 2 [some (vr (some (11, this))), none, some (vi v2), none, none, none] [] M (Qv Q) := by
  intro n
  induction n with
  | zero => intro v2 M h; exact h.elim
  | succ n ih =>
    intro v2 M h
    unfold w_Model_unwind_L2 at h
    refine E_blk (lv' := [some (vr (some (11, this))), none, some (vi v2), none, none, none]) (st' := [vr (mR M 11 this 46)]) (M1 := M) (pc' := 6) (tb_Model hγ) [.aload_n 0, .getfield 917] (by decide +kernel) rfl rfl trivial ?_
    obtain ⟨i1, ei1, h⟩ := h
    rw [ei1]
    refine E_blk (lv' := [some (vr (some (11, this))), none, some (vi v2), none, none, none]) (st' := [vi (mI M 13 i1 16)]) (M1 := M) (pc' := 9) (tb_Model hγ) [.getfield 945] (by decide +kernel) rfl rfl trivial ?_
    refine E_if_le (off := 202) (tgt := 211) (by decide +kernel) (by decide) (fun b2 => ?_) (fun b2 => ?_)
    · rw [if_pos b2] at h
      refine E_blk (lv' := [some (vr (some (11, this))), none, some (vi v2), none, none, none]) (st' := [vr (mR M 11 this 46)]) (M1 := M) (pc' := 215) (tb_Model hγ) [.aload_n 0, .getfield 917] (by decide +kernel) rfl rfl trivial ?_
      obtain ⟨i3, ei3, h⟩ := h
      rw [ei3]
      refine E_blk (lv' := [some (vr (some (11, this))), none, some (vi v2), none, none, none]) (st' := [vr (mR (sI M 13 i3 0 (2 : Int32)) 11 this 46)]) (M1 := (sI M 13 i3 0 (2 : Int32))) (pc' := 223) (tb_Model hγ) [.iconst 2, .putfield 486, .aload_n 0, .getfield 917] (by decide +kernel) rfl rfl trivial ?_
      obtain ⟨i4, ei4, h⟩ := h
      rw [ei4]
      refine E_blk (lv' := [some (vr (some (11, this))), none, some (vi v2), none, none, none]) (st' := [vr (mR (sI (sI M 13 i3 0 (2 : Int32)) 13 i4 10 (0 : Int32)) 11 this 46)]) (M1 := (sI (sI M 13 i3 0 (2 : Int32)) 13 i4 10 (0 : Int32))) (pc' := 231) (tb_Model hγ) [.iconst 0, .putfield 974, .aload_n 0, .getfield 917] (by decide +kernel) rfl rfl trivial ?_
      obtain ⟨i5, ei5, h⟩ := h
      rw [ei5]
      refine E_blk (lv' := [some (vr (some (11, this))), none, some (vi v2), none, none, none]) (st' := []) (M1 := (sI (sI (sI M 13 i3 0 (2 : Int32)) 13 i4 10 (0 : Int32)) 13 i5 11 (0 : Int32))) (pc' := 235) (tb_Model hγ) [.iconst 0, .putfield 977] (by decide +kernel) rfl rfl trivial ?_
      obtain ⟨M6, eM6, h⟩ := h
      rw [← eM6]
      refine E_blk (lv' := [some (vr (some (11, this))), none, some (vi v2), none, none, none]) (st' := [vr (mR M6 11 this 46)]) (M1 := M6) (pc' := 239) (tb_Model hγ) [.aload_n 0, .getfield 917] (by decide +kernel) rfl rfl trivial ?_
      obtain ⟨i7, ei7, h⟩ := h
      rw [ei7]
      refine E_blk (lv' := [some (vr (some (11, this))), none, some (vi v2), none, none, none]) (st' := [vi v2, vr (some (11, this)), vr (some (13, i7))]) (M1 := M6) (pc' := 241) (tb_Model hγ) [.aload_n 0, .iload_n 2] (by decide +kernel) rfl rfl trivial ?_
      refine E_callV (κ' := k_Model_classOfRef) (As := [vi v2]) (st := [vr (some (13, i7))]) mv_Model_classOfRef (Or.inl (tbk_mem (j := 16) (k := 127) rfl)) rfl (by decide +kernel) (Nat.le_of_ble_eq_true rfl) (Nat.le_of_ble_eq_true rfl) rfl (by decide) (lk_Model_classOfRef hγ this v2 _ M6 h) (fun _ _ => Qi_r) (fun v M8 hp => Qi_k (R := fun st => E γ k_Model_unwind 6 244 [some (vr (some (11, this))), none, some (vi v2), none, none, none] st M8 (Qv Q)) hp (fun r9 h => ?_))
      refine E_blk (lv' := [some (vr (some (11, this))), none, some (vi v2), none, none, none]) (st' := [vr (mR (sI M8 13 i7 12 r9) 11 this 46)]) (M1 := (sI M8 13 i7 12 r9)) (pc' := 251) (tb_Model hγ) [.putfield 980, .aload_n 0, .getfield 917] (by decide +kernel) rfl rfl trivial ?_
      obtain ⟨i10, ei10, h⟩ := h
      rw [ei10]
      refine E_blk (lv' := [some (vr (some (11, this))), none, some (vi v2), none, none, none]) (st' := [vi (1001 : Int32), vi v2, vr (some (13, i10))]) (M1 := (sI M8 13 i7 12 r9)) (pc' := 255) (tb_Model hγ) [.iload_n 2, .sipush 1001] (by decide +kernel) rfl rfl trivial ?_
      refine E_icmp_lt (off := 19) (tgt := 274) (by decide +kernel) (by decide) (fun b11 => ?_) (fun b11 => ?_)
      · rw [if_pos b11] at h
        refine E_blk (lv' := [some (vr (some (11, this))), none, some (vi v2), none, none, none]) (st' := [vi (0 : Int32), vr (some (13, i10))]) (M1 := (sI M8 13 i7 12 r9)) (pc' := 275) (tb_Model hγ) [.iconst 0] (by decide +kernel) rfl rfl trivial ?_
        refine E_mask [false, false, false, false, false, false] rfl ?_
        exact lk_Model_unwind_j275 hγ this Q (0 : Int32) i10 (sI M8 13 i7 12 r9) h
      · rw [if_neg b11] at h
        refine E_blk (lv' := [some (vr (some (11, this))), none, some (vi v2), none, none, none]) (st' := [vr (mR (sI M8 13 i7 12 r9) 11 this 45), vr (some (13, i10))]) (M1 := (sI M8 13 i7 12 r9)) (pc' := 262) (tb_Model hγ) [.aload_n 0, .getfield 522] (by decide +kernel) rfl rfl trivial ?_
        obtain ⟨i12, ei12, h⟩ := h
        rw [ei12]
        refine E_blk (lv' := [some (vr (some (11, this))), none, some (vi v2), none, none, none]) (st' := [vr (mR (sI M8 13 i7 12 r9) 12 i12 54), vr (some (13, i10))]) (M1 := (sI M8 13 i7 12 r9)) (pc' := 265) (tb_Model hγ) [.getfield 875] (by decide +kernel) rfl rfl trivial ?_
        obtain ⟨i13, ei13, h⟩ := h
        rw [ei13]
        obtain ⟨c14, h⟩ := h
        refine E_blk (lv' := [some (vr (some (11, this))), none, some (vi v2), none, none, none]) (st' := [vi (mI (sI M8 13 i7 12 r9) 300 i13 (v2 - (1001 : Int32)).toNatClampNeg), vr (some (13, i10))]) (M1 := (sI M8 13 i7 12 r9)) (pc' := 271) (tb_Model hγ) [.iload_n 2, .sipush 1001, .isub, .iaload] (by decide +kernel) rfl rfl ⟨c14, trivial⟩ ?_
        refine E_goto (off := 4) (tgt := 275) (by decide +kernel) (by decide) ?_
        refine E_mask [false, false, false, false, false, false] rfl ?_
        exact lk_Model_unwind_j275 hγ this Q (mI (sI M8 13 i7 12 r9) 300 i13 (v2 - (1001 : Int32)).toNatClampNeg) i10 (sI M8 13 i7 12 r9) h
    · rw [if_neg b2] at h
      refine E_blk (lv' := [some (vr (some (11, this))), none, some (vi v2), none, none, none]) (st' := [vr (mR M 11 this 46)]) (M1 := M) (pc' := 16) (tb_Model hγ) [.aload_n 0, .getfield 917] (by decide +kernel) rfl rfl trivial ?_
      obtain ⟨i15, ei15, h⟩ := h
      rw [ei15]
      refine E_blk (lv' := [some (vr (some (11, this))), none, some (vi v2), some (vi ((mI M 13 i15 16) - (1 : Int32))), none, none]) (st' := [vr (mR M 11 this 46)]) (M1 := M) (pc' := 26) (tb_Model hγ) [.getfield 945, .iconst 1, .isub, .istore_n 3, .aload_n 0, .getfield 917] (by decide +kernel) rfl rfl trivial ?_
      obtain ⟨i16, ei16, h⟩ := h
      rw [ei16]
      obtain ⟨c17, h⟩ := h
      refine E_blk (lv' := [some (vr (some (11, this))), none, some (vi v2), some (vi ((mI M 13 i15 16) - (1 : Int32))), some (vi (mI M 171 i16 ((mI M 13 i15 16) - (1 : Int32)).toNatClampNeg)), none]) (st' := []) (M1 := M) (pc' := 33) (tb_Model hγ) [.getfield 942, .iload_n 3, .iaload, .istore 4] (by decide +kernel) rfl rfl ⟨c17, trivial⟩ ?_
      obtain ⟨x18, ex18, h⟩ := h
      rw [← ex18]
      refine E_blk (lv' := [some (vr (some (11, this))), none, some (vi v2), some (vi ((mI M 13 i15 16) - (1 : Int32))), some (vi x18), none]) (st' := [vi x18]) (M1 := M) (pc' := 35) (tb_Model hγ) [.iload 4] (by decide +kernel) rfl rfl trivial ?_
      refine E_if_lt (off := 104) (tgt := 139) (by decide +kernel) (by decide) (fun b19 => ?_) (fun b19 => ?_)
      · rw [if_pos b19] at h
        refine E_blk (lv' := [some (vr (some (11, this))), none, some (vi v2), some (vi ((mI M 13 i15 16) - (1 : Int32))), some (vi x18), none]) (st' := [vr (mR M 11 this 45)]) (M1 := M) (pc' := 143) (tb_Model hγ) [.aload_n 0, .getfield 522] (by decide +kernel) rfl rfl trivial ?_
        obtain ⟨i20, ei20, h⟩ := h
        rw [ei20]
        obtain ⟨c21, h⟩ := h
        refine E_blk (lv' := [some (vr (some (11, this))), none, some (vi v2), some (vi ((mI M 13 i15 16) - (1 : Int32))), some (vi x18), none]) (st' := [vi x18, vi (6 : Int32), vr (some (11, this))]) (M1 := (sI M 137 i20 ((-1 : Int32) - x18).toNatClampNeg (3 : Int32))) (pc' := 157) (tb_Model hγ) [.getfield 441, .iconst (.negSucc 0), .iload 4, .isub, .iconst 3, .iastore, .aload_n 0, .bipush 6, .iload 4] (by decide +kernel) rfl rfl ⟨c21, trivial⟩ ?_
        refine E_callV (κ' := k_Model_note) (As := [vi (6 : Int32), vi x18]) (st := []) mv_Model_note (Or.inl (tbk_mem (j := 16) (k := 107) rfl)) rfl (by decide +kernel) (Nat.le_of_ble_eq_true rfl) (Nat.le_of_ble_eq_true rfl) rfl (by decide) (lk_Model_note hγ this (6 : Int32) x18 _ (sI M 137 i20 ((-1 : Int32) - x18).toNatClampNeg (3 : Int32)) h) (fun _ _ => Qv_r) (fun v M22 hp => Qv_k (R := fun st => E γ k_Model_unwind 6 160 [some (vr (some (11, this))), none, some (vi v2), some (vi ((mI M 13 i15 16) - (1 : Int32))), some (vi x18), none] st M22 (Qv Q)) hp (fun h => ?_))
        refine E_blk (lv' := [some (vr (some (11, this))), none, some (vi v2), some (vi ((mI M 13 i15 16) - (1 : Int32))), some (vi x18), none]) (st' := [vr (mR M22 11 this 46)]) (M1 := M22) (pc' := 164) (tb_Model hγ) [.aload_n 0, .getfield 917] (by decide +kernel) rfl rfl trivial ?_
        obtain ⟨i23, ei23, h⟩ := h
        rw [ei23]
        obtain ⟨c24, h⟩ := h
        refine E_blk (lv' := [some (vr (some (11, this))), none, some (vi v2), some (vi ((mI M 13 i15 16) - (1 : Int32))), some (vi x18), none]) (st' := [vi (2 : Int32), vi (mI M22 172 i23 ((mI M 13 i15 16) - (1 : Int32)).toNatClampNeg)]) (M1 := M22) (pc' := 170) (tb_Model hγ) [.getfield 948, .iload_n 3, .iaload, .iconst 2] (by decide +kernel) rfl rfl ⟨c24, trivial⟩ ?_
        refine E_icmp_ne (off := 25) (tgt := 195) (by decide +kernel) (by decide) (fun b25 => ?_) (fun b25 => ?_)
        · rw [if_pos b25] at h
          refine E_blk (lv' := [some (vr (some (11, this))), none, some (vi v2), some (vi ((mI M 13 i15 16) - (1 : Int32))), some (vi x18), none]) (st' := [vi v2, vr (some (11, this)), vr (some (11, this))]) (M1 := M22) (pc' := 176) (tb_Model hγ) [.aload_n 0, .aload_n 0, .iload_n 2] (by decide +kernel) rfl rfl trivial ?_
          refine E_callV (κ' := k_Model_classOfRef) (As := [vi v2]) (st := [vr (some (11, this))]) mv_Model_classOfRef (Or.inl (tbk_mem (j := 16) (k := 127) rfl)) rfl (by decide +kernel) (Nat.le_of_ble_eq_true rfl) (Nat.le_of_ble_eq_true rfl) rfl (by decide) (lk_Model_classOfRef hγ this v2 _ M22 h) (fun _ _ => Qi_r) (fun v M26 hp => Qi_k (R := fun st => E γ k_Model_unwind 6 179 [some (vr (some (11, this))), none, some (vi v2), some (vi ((mI M 13 i15 16) - (1 : Int32))), some (vi x18), none] st M26 (Qv Q)) hp (fun r27 h => ?_))
          refine E_blk (lv' := [some (vr (some (11, this))), none, some (vi v2), some (vi ((mI M 13 i15 16) - (1 : Int32))), some (vi x18), none]) (st' := [vi (10 : Int32), vi r27, vr (some (11, this))]) (M1 := M26) (pc' := 181) (tb_Model hγ) [.bipush 10] (by decide +kernel) rfl rfl trivial ?_
          refine E_callV (κ' := k_Model_isBelow) (As := [vi r27, vi (10 : Int32)]) (st := []) mv_Model_isBelow (Or.inl (tbk_mem (j := 16) (k := 131) rfl)) rfl (by decide +kernel) (Nat.le_of_ble_eq_true rfl) (Nat.le_of_ble_eq_true rfl) rfl (by decide) (lk_Model_isBelow hγ this r27 (10 : Int32) _ M26 h) (fun _ _ => Qi_r) (fun v M28 hp => Qi_k (R := fun st => E γ k_Model_unwind 6 184 [some (vr (some (11, this))), none, some (vi v2), some (vi ((mI M 13 i15 16) - (1 : Int32))), some (vi x18), none] st M28 (Qv Q)) hp (fun r29 h => ?_))
          refine E_if_ne (off := 11) (tgt := 195) (by decide +kernel) (by decide) (fun b30 => ?_) (fun b30 => ?_)
          · rw [if_pos b30] at h
            refine E_blk (lv' := [some (vr (some (11, this))), none, some (vi v2), some (vi ((mI M 13 i15 16) - (1 : Int32))), some (vi x18), none]) (st' := [vi (0 : Int32), vi (20 : Int32), vr (some (11, this))]) (M1 := M28) (pc' := 191) (tb_Model hγ) [.aload_n 0, .bipush 20, .iconst 0] (by decide +kernel) rfl rfl trivial ?_
            refine E_callV (κ' := k_Model_newFault) (As := [vi (20 : Int32), vi (0 : Int32)]) (st := []) mv_Model_newFault (Or.inl (tbk_mem (j := 16) (k := 115) rfl)) rfl (by decide +kernel) (Nat.le_of_ble_eq_true rfl) (Nat.le_of_ble_eq_true rfl) rfl (by decide) (lk_Model_newFault hγ this (20 : Int32) (0 : Int32) _ M28 h) (fun _ _ => Qi_r) (fun v M31 hp => Qi_k (R := fun st => E γ k_Model_unwind 6 194 [some (vr (some (11, this))), none, some (vi v2), some (vi ((mI M 13 i15 16) - (1 : Int32))), some (vi x18), none] st M31 (Qv Q)) hp (fun r32 h => ?_))
            refine E_blk (lv' := [some (vr (some (11, this))), none, some (vi r32), some (vi ((mI M 13 i15 16) - (1 : Int32))), some (vi x18), none]) (st' := []) (M1 := M31) (pc' := 195) (tb_Model hγ) [.istore_n 2] (by decide +kernel) rfl rfl trivial ?_
            refine E_mask [true, false, true, false, false, false] rfl ?_
            exact lk_Model_unwind_j195 hγ this Q (w_Model_unwind_L2 this Q n) ih r32 M31 h
          · rw [if_neg b30] at h
            refine E_mask [true, false, true, false, false, false] rfl ?_
            exact lk_Model_unwind_j195 hγ this Q (w_Model_unwind_L2 this Q n) ih v2 M28 h
        · rw [if_neg b25] at h
          refine E_mask [true, false, true, false, false, false] rfl ?_
          exact lk_Model_unwind_j195 hγ this Q (w_Model_unwind_L2 this Q n) ih v2 M22 h
      · rw [if_neg b19] at h
        refine E_blk (lv' := [some (vr (some (11, this))), none, some (vi v2), some (vi ((mI M 13 i15 16) - (1 : Int32))), some (vi x18), none]) (st' := [vi v2, vi x18, vr (some (11, this))]) (M1 := M) (pc' := 42) (tb_Model hγ) [.aload_n 0, .iload 4, .iload_n 2] (by decide +kernel) rfl rfl trivial ?_
        refine E_callV (κ' := k_Model_handlerOf) (As := [vi x18, vi v2]) (st := []) mv_Model_handlerOf (Or.inl (tbk_mem (j := 16) (k := 123) rfl)) rfl (by decide +kernel) (Nat.le_of_ble_eq_true rfl) (Nat.le_of_ble_eq_true rfl) rfl (by decide) (lk_Model_handlerOf hγ this x18 v2 _ M h) (fun _ _ => Qi_r) (fun v M34 hp => Qi_k (R := fun st => E γ k_Model_unwind 6 45 [some (vr (some (11, this))), none, some (vi v2), some (vi ((mI M 13 i15 16) - (1 : Int32))), some (vi x18), none] st M34 (Qv Q)) hp (fun r35 h => ?_))
        refine E_blk (lv' := [some (vr (some (11, this))), none, some (vi v2), some (vi ((mI M 13 i15 16) - (1 : Int32))), some (vi x18), some (vi r35)]) (st' := [vi r35]) (M1 := M34) (pc' := 49) (tb_Model hγ) [.istore 5, .iload 5] (by decide +kernel) rfl rfl trivial ?_
        refine E_if_lt (off := 59) (tgt := 108) (by decide +kernel) (by decide) (fun b36 => ?_) (fun b36 => ?_)
        · rw [if_pos b36] at h
          refine E_blk (lv' := [some (vr (some (11, this))), none, some (vi v2), some (vi ((mI M 13 i15 16) - (1 : Int32))), some (vi x18), some (vi r35)]) (st' := [vr (mR M34 11 this 46)]) (M1 := M34) (pc' := 112) (tb_Model hγ) [.aload_n 0, .getfield 917] (by decide +kernel) rfl rfl trivial ?_
          obtain ⟨i37, ei37, h⟩ := h
          rw [ei37]
          refine E_blk (lv' := [some (vr (some (11, this))), none, some (vi v2), some (vi ((mI M 13 i15 16) - (1 : Int32))), some (vi x18), some (vi r35)]) (st' := [vr (mR (sI M34 13 i37 22 ((mI M34 13 i37 22) - (1 : Int32))) 11 this 46), vi (3 : Int32), vr (some (11, this))]) (M1 := (sI M34 13 i37 22 ((mI M34 13 i37 22) - (1 : Int32)))) (pc' := 127) (tb_Model hγ) [.dup, .getfield 924, .iconst 1, .isub, .putfield 924, .aload_n 0, .iconst 3, .aload_n 0, .getfield 917] (by decide +kernel) rfl rfl trivial ?_
          obtain ⟨i38, ei38, h⟩ := h
          rw [ei38]
          obtain ⟨c39, h⟩ := h
          refine E_blk (lv' := [some (vr (some (11, this))), none, some (vi v2), some (vi ((mI M 13 i15 16) - (1 : Int32))), some (vi x18), some (vi r35)]) (st' := [vi (mI (sI M34 13 i37 22 ((mI M34 13 i37 22) - (1 : Int32))) 173 i38 x18.toNatClampNeg), vi (3 : Int32), vr (some (11, this))]) (M1 := (sI M34 13 i37 22 ((mI M34 13 i37 22) - (1 : Int32)))) (pc' := 133) (tb_Model hγ) [.getfield 927, .iload 4, .iaload] (by decide +kernel) rfl rfl ⟨c39, trivial⟩ ?_
          refine E_callV (κ' := k_Model_note) (As := [vi (3 : Int32), vi (mI (sI M34 13 i37 22 ((mI M34 13 i37 22) - (1 : Int32))) 173 i38 x18.toNatClampNeg)]) (st := []) mv_Model_note (Or.inl (tbk_mem (j := 16) (k := 107) rfl)) rfl (by decide +kernel) (Nat.le_of_ble_eq_true rfl) (Nat.le_of_ble_eq_true rfl) rfl (by decide) (lk_Model_note hγ this (3 : Int32) (mI (sI M34 13 i37 22 ((mI M34 13 i37 22) - (1 : Int32))) 173 i38 x18.toNatClampNeg) _ (sI M34 13 i37 22 ((mI M34 13 i37 22) - (1 : Int32))) h) (fun _ _ => Qv_r) (fun v M40 hp => Qv_k (R := fun st => E γ k_Model_unwind 6 136 [some (vr (some (11, this))), none, some (vi v2), some (vi ((mI M 13 i15 16) - (1 : Int32))), some (vi x18), some (vi r35)] st M40 (Qv Q)) hp (fun h => ?_))
          refine E_goto (off := 59) (tgt := 195) (by decide +kernel) (by decide) ?_
          refine E_mask [true, false, true, false, false, false] rfl ?_
          exact lk_Model_unwind_j195 hγ this Q (w_Model_unwind_L2 this Q n) ih v2 M40 h
        · rw [if_neg b36] at h
          refine E_blk (lv' := [some (vr (some (11, this))), none, some (vi v2), some (vi ((mI M 13 i15 16) - (1 : Int32))), some (vi x18), some (vi r35)]) (st' := [vr (mR M34 11 this 46)]) (M1 := M34) (pc' := 56) (tb_Model hγ) [.aload_n 0, .getfield 917] (by decide +kernel) rfl rfl trivial ?_
          obtain ⟨i41, ei41, h⟩ := h
          rw [ei41]
          obtain ⟨c42, h⟩ := h
          refine E_blk (lv' := [some (vr (some (11, this))), none, some (vi v2), some (vi ((mI M 13 i15 16) - (1 : Int32))), some (vi x18), some (vi r35)]) (st' := [vi (1 : Int32), vi v2, vi x18, vr (some (11, this))]) (M1 := (sI M34 175 i41 x18.toNatClampNeg (0 : Int32))) (pc' := 68) (tb_Model hγ) [.getfield 933, .iload 4, .iconst 0, .iastore, .aload_n 0, .iload 4, .iload_n 2, .iconst 1] (by decide +kernel) rfl rfl ⟨c42, trivial⟩ ?_
          refine E_callV (κ' := k_Model_push) (As := [vi x18, vi v2, vi (1 : Int32)]) (st := []) mv_Model_push (Or.inl (tbk_mem (j := 16) (k := 135) rfl)) rfl (by decide +kernel) (Nat.le_of_ble_eq_true rfl) (Nat.le_of_ble_eq_true rfl) rfl (by decide) (lk_Model_push hγ this x18 v2 (1 : Int32) _ (sI M34 175 i41 x18.toNatClampNeg (0 : Int32)) h) (fun _ _ => Qv_r) (fun v M43 hp => Qv_k (R := fun st => E γ k_Model_unwind 6 71 [some (vr (some (11, this))), none, some (vi v2), some (vi ((mI M 13 i15 16) - (1 : Int32))), some (vi x18), some (vi r35)] st M43 (Qv Q)) hp (fun h => ?_))
          refine E_blk (lv' := [some (vr (some (11, this))), none, some (vi v2), some (vi ((mI M 13 i15 16) - (1 : Int32))), some (vi x18), some (vi r35)]) (st' := [vr (mR M43 11 this 46)]) (M1 := M43) (pc' := 75) (tb_Model hγ) [.aload_n 0, .getfield 917] (by decide +kernel) rfl rfl trivial ?_
          obtain ⟨i44, ei44, h⟩ := h
          rw [ei44]
          refine E_blk (lv' := [some (vr (some (11, this))), none, some (vi v2), some (vi ((mI M 13 i15 16) - (1 : Int32))), some (vi x18), some (vi r35)]) (st' := [vr (mR M43 11 this 45), vi x18, vr (some (174, i44))]) (M1 := M43) (pc' := 84) (tb_Model hγ) [.getfield 930, .iload 4, .aload_n 0, .getfield 522] (by decide +kernel) rfl rfl trivial ?_
          obtain ⟨i45, ei45, h⟩ := h
          rw [ei45]
          obtain ⟨c46, c47, h⟩ := h
          refine E_blk (lv' := [some (vr (some (11, this))), none, some (vi v2), some (vi ((mI M 13 i15 16) - (1 : Int32))), some (vi x18), some (vi r35)]) (st' := [vr (mR (sI M43 174 i44 x18.toNatClampNeg (mI M43 154 i45 r35.toNatClampNeg)) 11 this 46), vi (7 : Int32), vr (some (11, this))]) (M1 := (sI M43 174 i44 x18.toNatClampNeg (mI M43 154 i45 r35.toNatClampNeg))) (pc' := 98) (tb_Model hγ) [.getfield 719, .iload 5, .iaload, .iastore, .aload_n 0, .bipush 7, .aload_n 0, .getfield 917] (by decide +kernel) rfl rfl ⟨c46, c47, trivial⟩ ?_
          obtain ⟨i48, ei48, h⟩ := h
          rw [ei48]
          obtain ⟨c49, h⟩ := h
          refine E_blk (lv' := [some (vr (some (11, this))), none, some (vi v2), some (vi ((mI M 13 i15 16) - (1 : Int32))), some (vi x18), some (vi r35)]) (st' := [vi (mI (sI M43 174 i44 x18.toNatClampNeg (mI M43 154 i45 r35.toNatClampNeg)) 173 i48 x18.toNatClampNeg), vi (7 : Int32), vr (some (11, this))]) (M1 := (sI M43 174 i44 x18.toNatClampNeg (mI M43 154 i45 r35.toNatClampNeg))) (pc' := 104) (tb_Model hγ) [.getfield 927, .iload 4, .iaload] (by decide +kernel) rfl rfl ⟨c49, trivial⟩ ?_
          refine E_callV (κ' := k_Model_note) (As := [vi (7 : Int32), vi (mI (sI M43 174 i44 x18.toNatClampNeg (mI M43 154 i45 r35.toNatClampNeg)) 173 i48 x18.toNatClampNeg)]) (st := []) mv_Model_note (Or.inl (tbk_mem (j := 16) (k := 107) rfl)) rfl (by decide +kernel) (Nat.le_of_ble_eq_true rfl) (Nat.le_of_ble_eq_true rfl) rfl (by decide) (lk_Model_note hγ this (7 : Int32) (mI (sI M43 174 i44 x18.toNatClampNeg (mI M43 154 i45 r35.toNatClampNeg)) 173 i48 x18.toNatClampNeg) _ (sI M43 174 i44 x18.toNatClampNeg (mI M43 154 i45 r35.toNatClampNeg)) h) (fun _ _ => Qv_r) (fun v M50 hp => Qv_k (R := fun st => E γ k_Model_unwind 6 107 [some (vr (some (11, this))), none, some (vi v2), some (vi ((mI M 13 i15 16) - (1 : Int32))), some (vi x18), some (vi r35)] st M50 (Qv Q)) hp (fun h => ?_))
          exact E_vret rfl (by decide +kernel) h
set_option maxRecDepth 4096 in
theorem lk_Model_unwind {γ : Gm} (hγ : Gk γ) (this : Nat) (a1 : Int32) (Q : Mem → Prop) (M : Mem) (h : w_Model_unwind this a1 Q M) : E γ k_Model_unwind 6 0 [some (vr (some (11, this))), some (vi a1), none, none, none, none] [] M (Qv Q) := by
  unfold w_Model_unwind at h
  refine E_blk (lv' := [some (vr (some (11, this))), some (vi a1), some (vi a1), none, none, none]) (st' := []) (M1 := M) (pc' := 2) (tb_Model hγ) [.iload_n 1, .istore_n 2] (by decide +kernel) rfl rfl trivial ?_
  obtain ⟨n51, h⟩ := h
  refine E_mask [true, false, true, false, false, false] rfl ?_
  exact lk_Model_unwind_L2 hγ this Q n51 a1 M h
def w_Model_throwNew (this : Nat) (a1 : Int32) (a2 : Int32) (Q : Mem → Prop) (M : Mem) : Prop :=
  w_Model_newFault this a2 a1 (fun r2 M1 => w_Model_unwind this r2 (fun M3 => Q M3) M1) M
set_option maxRecDepth 4096 in
theorem lk_Model_throwNew {γ : Gm} (hγ : Gk γ) (this : Nat) (a1 : Int32) (a2 : Int32) (Q : Mem → Prop) (M : Mem) (h : w_Model_throwNew this a1 a2 Q M) : E γ k_Model_throwNew 7 0 [some (vr (some (11, this))), some (vi a1), some (vi a2)] [] M (Qv Q) := by
  unfold w_Model_throwNew at h
  refine E_blk (lv' := [some (vr (some (11, this))), some (vi a1), some (vi a2)]) (st' := [vi a1, vi a2, vr (some (11, this)), vr (some (11, this))]) (M1 := M) (pc' := 4) (tb_Model hγ) [.aload_n 0, .aload_n 0, .iload_n 2, .iload_n 1] (by decide +kernel) rfl rfl trivial ?_
  refine E_callV (κ' := k_Model_newFault) (As := [vi a2, vi a1]) (st := [vr (some (11, this))]) mv_Model_newFault (Or.inl (tbk_mem (j := 16) (k := 115) rfl)) rfl (by decide +kernel) (Nat.le_of_ble_eq_true rfl) (Nat.le_of_ble_eq_true rfl) rfl (by decide) (lk_Model_newFault hγ this a2 a1 _ M h) (fun _ _ => Qi_r) (fun v M1 hp => Qi_k (R := fun st => E γ k_Model_throwNew 7 7 [some (vr (some (11, this))), some (vi a1), some (vi a2)] st M1 (Qv Q)) hp (fun r2 h => ?_))
  refine E_callV (κ' := k_Model_unwind) (As := [vi r2]) (st := []) mv_Model_unwind (Or.inl (tbk_mem (j := 16) (k := 119) rfl)) rfl (by decide +kernel) (Nat.le_of_ble_eq_true rfl) (Nat.le_of_ble_eq_true rfl) rfl (by decide) (lk_Model_unwind hγ this r2 _ M1 h) (fun _ _ => Qv_r) (fun v M3 hp => Qv_k (R := fun st => E γ k_Model_throwNew 7 10 [some (vr (some (11, this))), some (vi a1), some (vi a2)] st M3 (Qv Q)) hp (fun h => ?_))
  exact E_vret rfl (by decide +kernel) h
def w_Model_endStart (this : Nat) (a1 : Int32) (Q : Mem → Prop) (M : Mem) : Prop :=
  ∃ i1, (mR M 11 this 46) = some (13, i1) ∧ vp_in a1 (mL M 171 i1) ∧ ∃ i3, (mR M 11 this 45) = some (12, i3) ∧ vp_in ((-1 : Int32) - (mI M 171 i1 a1.toNatClampNeg)) (mL M 137 i3) ∧ ∃ M5, M5 = (sI M 137 i3 ((-1 : Int32) - (mI M 171 i1 a1.toNatClampNeg)).toNatClampNeg (2 : Int32)) ∧ ∃ i6, (mR M5 11 this 46) = some (13, i6) ∧ w_Model_note this (5 : Int32) (mI M 171 i1 a1.toNatClampNeg) (fun M7 => Q M7) (sI M5 13 i6 16 ((mI M5 13 i6 16) - (1 : Int32)))
set_option maxRecDepth 4096 in
theorem lk_Model_endStart {γ : Gm} (hγ : Gk γ) (this : Nat) (a1 : Int32) (Q : Mem → Prop) (M : Mem) (h : w_Model_endStart this a1 Q M) : E γ k_Model_endStart 1 0 [some (vr (some (11, this))), some (vi a1), none] [] M (Qv Q) := by
  unfold w_Model_endStart at h
  refine E_blk (lv' := [some (vr (some (11, this))), some (vi a1), none]) (st' := [vr (mR M 11 this 46)]) (M1 := M) (pc' := 4) (tb_Model hγ) [.aload_n 0, .getfield 917] (by decide +kernel) rfl rfl trivial ?_
  obtain ⟨i1, ei1, h⟩ := h
  rw [ei1]
  obtain ⟨c2, h⟩ := h
  refine E_blk (lv' := [some (vr (some (11, this))), some (vi a1), some (vi (mI M 171 i1 a1.toNatClampNeg))]) (st' := [vr (mR M 11 this 45)]) (M1 := M) (pc' := 14) (tb_Model hγ) [.getfield 942, .iload_n 1, .iaload, .istore_n 2, .aload_n 0, .getfield 522] (by decide +kernel) rfl rfl ⟨c2, trivial⟩ ?_
  obtain ⟨i3, ei3, h⟩ := h
  rw [ei3]
  obtain ⟨c4, h⟩ := h
  refine E_blk (lv' := [some (vr (some (11, this))), some (vi a1), some (vi (mI M 171 i1 a1.toNatClampNeg))]) (st' := []) (M1 := (sI M 137 i3 ((-1 : Int32) - (mI M 171 i1 a1.toNatClampNeg)).toNatClampNeg (2 : Int32))) (pc' := 22) (tb_Model hγ) [.getfield 441, .iconst (.negSucc 0), .iload_n 2, .isub, .iconst 2, .iastore] (by decide +kernel) rfl rfl ⟨c4, trivial⟩ ?_
  obtain ⟨M5, eM5, h⟩ := h
  rw [← eM5]
  refine E_blk (lv' := [some (vr (some (11, this))), some (vi a1), some (vi (mI M 171 i1 a1.toNatClampNeg))]) (st' := [vr (mR M5 11 this 46)]) (M1 := M5) (pc' := 26) (tb_Model hγ) [.aload_n 0, .getfield 917] (by decide +kernel) rfl rfl trivial ?_
  obtain ⟨i6, ei6, h⟩ := h
  rw [ei6]
  refine E_blk (lv' := [some (vr (some (11, this))), some (vi a1), some (vi (mI M 171 i1 a1.toNatClampNeg))]) (st' := [vi (mI M 171 i1 a1.toNatClampNeg), vi (5 : Int32), vr (some (11, this))]) (M1 := (sI M5 13 i6 16 ((mI M5 13 i6 16) - (1 : Int32)))) (pc' := 38) (tb_Model hγ) [.dup, .getfield 945, .iconst 1, .isub, .putfield 945, .aload_n 0, .iconst 5, .iload_n 2] (by decide +kernel) rfl rfl trivial ?_
  refine E_callV (κ' := k_Model_note) (As := [vi (5 : Int32), vi (mI M 171 i1 a1.toNatClampNeg)]) (st := []) mv_Model_note (Or.inl (tbk_mem (j := 16) (k := 107) rfl)) rfl (by decide +kernel) (Nat.le_of_ble_eq_true rfl) (Nat.le_of_ble_eq_true rfl) rfl (by decide) (lk_Model_note hγ this (5 : Int32) (mI M 171 i1 a1.toNatClampNeg) _ (sI M5 13 i6 16 ((mI M5 13 i6 16) - (1 : Int32))) h) (fun _ _ => Qv_r) (fun v M7 hp => Qv_k (R := fun st => E γ k_Model_endStart 1 41 [some (vr (some (11, this))), some (vi a1), some (vi (mI M 171 i1 a1.toNatClampNeg))] st M7 (Qv Q)) hp (fun h => ?_))
  exact E_vret rfl (by decide +kernel) h
def w_Model_endFrame_j215 (this : Nat) (Q : Mem → Prop) (v5 : Int32) (M : Mem) : Prop :=
  ∃ i16, (mR M 11 this 46) = some (13, i16) ∧ vp_in v5 (mL M 174 i16) ∧ vp_in v5 (mL M 174 i16) ∧ ∃ M19, M19 = (sI M 174 i16 v5.toNatClampNeg ((mI M 174 i16 v5.toNatClampNeg) + (1 : Int32))) ∧ Q M19
def w_Model_endFrame_j174 (this : Nat) (Q : Mem → Prop) (s0 : Int32) (s1 : Nat) (M : Mem) : Prop :=
  ∃ i32, (mR (sI M 13 s1 12 s0) 11 this 46) = some (13, i32) ∧ Q (sI (sI M 13 s1 12 s0) 13 i32 13 (0 : Int32))
def w_Model_endFrame_j146 (this : Nat) (Q : Mem → Prop) (v2 : Int32) (s0 : Int32) (s1 : Nat) (M : Mem) : Prop :=
  ∃ i27, (mR (sI M 13 s1 11 s0) 11 this 46) = some (13, i27) ∧ ∃ i28, (mR (sI M 13 s1 11 s0) 11 this 46) = some (13, i28) ∧ if (mI (sI M 13 s1 11 s0) 13 i28 10) = (4 : Int32) then (w_Model_classOfRef this v2 (fun r31 M30 => w_Model_endFrame_j174 this Q r31 i27 M30) (sI M 13 s1 11 s0)) else (w_Model_endFrame_j174 this Q (-2 : Int32) i27 (sI M 13 s1 11 s0))
def w_Model_endFrame_j123 (this : Nat) (Q : Mem → Prop) (v2 : Int32) (s0 : Int32) (s1 : Nat) (M : Mem) : Prop :=
  ∃ i24, (mR (sI M 13 s1 10 s0) 11 this 46) = some (13, i24) ∧ ∃ i25, (mR (sI M 13 s1 10 s0) 11 this 46) = some (13, i25) ∧ if (mI (sI M 13 s1 10 s0) 13 i25 10) = (1 : Int32) then (w_Model_endFrame_j146 this Q v2 v2 i24 (sI M 13 s1 10 s0)) else (w_Model_endFrame_j146 this Q v2 (0 : Int32) i24 (sI M 13 s1 10 s0))
def w_Model_endFrame_j122 (this : Nat) (Q : Mem → Prop) (v2 : Int32) (s0 : Nat) (M : Mem) : Prop :=
  w_Model_endFrame_j123 this Q v2 (4 : Int32) s0 M
def w_Model_endFrame (this : Nat) (a1 : Int32) (a2 : Int32) (a3 : Int32) (Q : Mem → Prop) (M : Mem) : Prop :=
  ∃ i1, (mR M 11 this 46) = some (13, i1) ∧ ∃ i2, (mR (sI M 13 i1 22 ((mI M 13 i1 22) - (1 : Int32))) 11 this 46) = some (13, i2) ∧ ∃ M3, M3 = (sI (sI M 13 i1 22 ((mI M 13 i1 22) - (1 : Int32))) 13 i2 16 ((mI (sI M 13 i1 22 ((mI M 13 i1 22) - (1 : Int32))) 13 i2 16) - (1 : Int32))) ∧ ∃ i4, (mR M3 11 this 46) = some (13, i4) ∧ ∃ i5, (mR M3 11 this 46) = some (13, i5) ∧ vp_in (mI M3 13 i5 22) (mL M3 173 i4) ∧ w_Model_note this (2 : Int32) (mI M3 173 i4 (mI M3 13 i5 22).toNatClampNeg) (fun M7 => ∃ i8, (mR M7 11 this 46) = some (13, i8) ∧ if 0 ≤ ((mI M7 13 i8 16) - (1 : Int32)) then (∃ i10, (mR M7 11 this 46) = some (13, i10) ∧ vp_in ((mI M7 13 i8 16) - (1 : Int32)) (mL M7 171 i10) ∧ ∃ x12 : Int32, x12 = (mI M7 171 i10 ((mI M7 13 i8 16) - (1 : Int32)).toNatClampNeg) ∧ if x12 < 0 then (w_Model_endStart this ((mI M7 13 i8 16) - (1 : Int32)) (fun M14 => Q M14) M7) else (if a1 = 0 then (w_Model_endFrame_j215 this Q x12 M7) else (w_Model_push this x12 a2 a3 (fun M20 => w_Model_endFrame_j215 this Q x12 M20) M7))) else (∃ i21, (mR M7 11 this 46) = some (13, i21) ∧ ∃ i22, (mR (sI M7 13 i21 0 (0 : Int32)) 11 this 46) = some (13, i22) ∧ if a1 = 0 then (w_Model_endFrame_j123 this Q a2 (0 : Int32) i22 (sI M7 13 i21 0 (0 : Int32))) else (if a3 = 0 then (w_Model_endFrame_j123 this Q a2 (1 : Int32) i22 (sI M7 13 i21 0 (0 : Int32))) else (if a2 = 0 then (w_Model_endFrame_j123 this Q a2 (2 : Int32) i22 (sI M7 13 i21 0 (0 : Int32))) else (if (1001 : Int32) ≤ a2 then (w_Model_endFrame_j122 this Q a2 i22 (sI M7 13 i21 0 (0 : Int32))) else (∃ i36, (mR (sI M7 13 i21 0 (0 : Int32)) 11 this 45) = some (12, i36) ∧ vp_in a2 (mL (sI M7 13 i21 0 (0 : Int32)) 157 i36) ∧ if (mI (sI M7 13 i21 0 (0 : Int32)) 157 i36 a2.toNatClampNeg) = (-1 : Int32) then (w_Model_endFrame_j123 this Q a2 (3 : Int32) i22 (sI M7 13 i21 0 (0 : Int32))) else (w_Model_endFrame_j122 this Q a2 i22 (sI M7 13 i21 0 (0 : Int32))))))))) M3
set_option maxRecDepth 4096 in
theorem lk_Model_endFrame_j215 {γ : Gm} (hγ : Gk γ) (this : Nat) (Q : Mem → Prop) (v5 : Int32) (M : Mem) (h : w_Model_endFrame_j215 this Q v5 M) : E γ k_Model_endFrame 2 215 [some (vr (some (11, this))), none, none, none, none, some (vi v5)] [] M (Qv Q) := by
  unfold w_Model_endFrame_j215 at h
  refine E_blk (lv' := [some (vr (some (11, this))), none, none, none, none, some (vi v5)]) (st' := [vr (mR M 11 this 46)]) (M1 := M) (pc' := 219) (tb_Model hγ) [.aload_n 0, .getfield 917] (by decide +kernel) rfl rfl trivial ?_
  obtain ⟨i16, ei16, h⟩ := h
  rw [ei16]
  obtain ⟨c17, c18, h⟩ := h
  refine E_blk (lv' := [some (vr (some (11, this))), none, none, none, none, some (vi v5)]) (st' := []) (M1 := (sI M 174 i16 v5.toNatClampNeg ((mI M 174 i16 v5.toNatClampNeg) + (1 : Int32)))) (pc' := 229) (tb_Model hγ) [.getfield 930, .iload 5, .dup2, .iaload, .iconst 1, .iadd, .iastore] (by decide +kernel) rfl rfl ⟨c17, c18, trivial⟩ ?_
  obtain ⟨M19, eM19, h⟩ := h
  rw [← eM19]
  exact E_vret rfl (by decide +kernel) h
set_option maxRecDepth 4096 in
theorem lk_Model_endFrame_j174 {γ : Gm} (hγ : Gk γ) (this : Nat) (Q : Mem → Prop) (s0 : Int32) (s1 : Nat) (M : Mem) (h : w_Model_endFrame_j174 this Q s0 s1 M) : E γ k_Model_endFrame 2 174 [some (vr (some (11, this))), none, none, none, none, none] [vi s0, vr (some (13, s1))] M (Qv Q) := by
  unfold w_Model_endFrame_j174 at h
  refine E_blk (lv' := [some (vr (some (11, this))), none, none, none, none, none]) (st' := [vr (mR (sI M 13 s1 12 s0) 11 this 46)]) (M1 := (sI M 13 s1 12 s0)) (pc' := 181) (tb_Model hγ) [.putfield 980, .aload_n 0, .getfield 917] (by decide +kernel) rfl rfl trivial ?_
  obtain ⟨i32, ei32, h⟩ := h
  rw [ei32]
  refine E_blk (lv' := [some (vr (some (11, this))), none, none, none, none, none]) (st' := []) (M1 := (sI (sI M 13 s1 12 s0) 13 i32 13 (0 : Int32))) (pc' := 185) (tb_Model hγ) [.iconst 0, .putfield 983] (by decide +kernel) rfl rfl trivial ?_
  exact E_vret rfl (by decide +kernel) h
set_option maxRecDepth 4096 in
theorem lk_Model_endFrame_j146 {γ : Gm} (hγ : Gk γ) (this : Nat) (Q : Mem → Prop) (v2 : Int32) (s0 : Int32) (s1 : Nat) (M : Mem) (h : w_Model_endFrame_j146 this Q v2 s0 s1 M) : E γ k_Model_endFrame 2 146 [some (vr (some (11, this))), none, some (vi v2), none, none, none] [vi s0, vr (some (13, s1))] M (Qv Q) := by
  unfold w_Model_endFrame_j146 at h
  refine E_blk (lv' := [some (vr (some (11, this))), none, some (vi v2), none, none, none]) (st' := [vr (mR (sI M 13 s1 11 s0) 11 this 46)]) (M1 := (sI M 13 s1 11 s0)) (pc' := 153) (tb_Model hγ) [.putfield 977, .aload_n 0, .getfield 917] (by decide +kernel) rfl rfl trivial ?_
  obtain ⟨i27, ei27, h⟩ := h
  rw [ei27]
  refine E_blk (lv' := [some (vr (some (11, this))), none, some (vi v2), none, none, none]) (st' := [vr (mR (sI M 13 s1 11 s0) 11 this 46), vr (some (13, i27))]) (M1 := (sI M 13 s1 11 s0)) (pc' := 157) (tb_Model hγ) [.aload_n 0, .getfield 917] (by decide +kernel) rfl rfl trivial ?_
  obtain ⟨i28, ei28, h⟩ := h
  rw [ei28]
  refine E_blk (lv' := [some (vr (some (11, this))), none, some (vi v2), none, none, none]) (st' := [vi (4 : Int32), vi (mI (sI M 13 s1 11 s0) 13 i28 10), vr (some (13, i27))]) (M1 := (sI M 13 s1 11 s0)) (pc' := 161) (tb_Model hγ) [.getfield 974, .iconst 4] (by decide +kernel) rfl rfl trivial ?_
  refine E_icmp_ne (off := 11) (tgt := 172) (by decide +kernel) (by decide) (fun b29 => ?_) (fun b29 => ?_)
  · rw [if_pos b29] at h
    refine E_blk (lv' := [some (vr (some (11, this))), none, some (vi v2), none, none, none]) (st' := [vi v2, vr (some (11, this)), vr (some (13, i27))]) (M1 := (sI M 13 s1 11 s0)) (pc' := 166) (tb_Model hγ) [.aload_n 0, .iload_n 2] (by decide +kernel) rfl rfl trivial ?_
    refine E_callV (κ' := k_Model_classOfRef) (As := [vi v2]) (st := [vr (some (13, i27))]) mv_Model_classOfRef (Or.inl (tbk_mem (j := 16) (k := 127) rfl)) rfl (by decide +kernel) (Nat.le_of_ble_eq_true rfl) (Nat.le_of_ble_eq_true rfl) rfl (by decide) (lk_Model_classOfRef hγ this v2 _ (sI M 13 s1 11 s0) h) (fun _ _ => Qi_r) (fun v M30 hp => Qi_k (R := fun st => E γ k_Model_endFrame 2 169 [some (vr (some (11, this))), none, some (vi v2), none, none, none] st M30 (Qv Q)) hp (fun r31 h => ?_))
    refine E_goto (off := 5) (tgt := 174) (by decide +kernel) (by decide) ?_
    refine E_mask [true, false, false, false, false, false] rfl ?_
    exact lk_Model_endFrame_j174 hγ this Q r31 i27 M30 h
  · rw [if_neg b29] at h
    refine E_blk (lv' := [some (vr (some (11, this))), none, some (vi v2), none, none, none]) (st' := [vi (-2 : Int32), vr (some (13, i27))]) (M1 := (sI M 13 s1 11 s0)) (pc' := 174) (tb_Model hγ) [.bipush (.negSucc 1)] (by decide +kernel) rfl rfl trivial ?_
    refine E_mask [true, false, false, false, false, false] rfl ?_
    exact lk_Model_endFrame_j174 hγ this Q (-2 : Int32) i27 (sI M 13 s1 11 s0) h
set_option maxRecDepth 4096 in
theorem lk_Model_endFrame_j123 {γ : Gm} (hγ : Gk γ) (this : Nat) (Q : Mem → Prop) (v2 : Int32) (s0 : Int32) (s1 : Nat) (M : Mem) (h : w_Model_endFrame_j123 this Q v2 s0 s1 M) : E γ k_Model_endFrame 2 123 [some (vr (some (11, this))), none, some (vi v2), none, none, none] [vi s0, vr (some (13, s1))] M (Qv Q) := by
  unfold w_Model_endFrame_j123 at h
  refine E_blk (lv' := [some (vr (some (11, this))), none, some (vi v2), none, none, none]) (st' := [vr (mR (sI M 13 s1 10 s0) 11 this 46)]) (M1 := (sI M 13 s1 10 s0)) (pc' := 130) (tb_Model hγ) [.putfield 974, .aload_n 0, .getfield 917] (by decide +kernel) rfl rfl trivial ?_
  obtain ⟨i24, ei24, h⟩ := h
  rw [ei24]
  refine E_blk (lv' := [some (vr (some (11, this))), none, some (vi v2), none, none, none]) (st' := [vr (mR (sI M 13 s1 10 s0) 11 this 46), vr (some (13, i24))]) (M1 := (sI M 13 s1 10 s0)) (pc' := 134) (tb_Model hγ) [.aload_n 0, .getfield 917] (by decide +kernel) rfl rfl trivial ?_
  obtain ⟨i25, ei25, h⟩ := h
  rw [ei25]
  refine E_blk (lv' := [some (vr (some (11, this))), none, some (vi v2), none, none, none]) (st' := [vi (1 : Int32), vi (mI (sI M 13 s1 10 s0) 13 i25 10), vr (some (13, i24))]) (M1 := (sI M 13 s1 10 s0)) (pc' := 138) (tb_Model hγ) [.getfield 974, .iconst 1] (by decide +kernel) rfl rfl trivial ?_
  refine E_icmp_ne (off := 7) (tgt := 145) (by decide +kernel) (by decide) (fun b26 => ?_) (fun b26 => ?_)
  · rw [if_pos b26] at h
    refine E_blk (lv' := [some (vr (some (11, this))), none, some (vi v2), none, none, none]) (st' := [vi v2, vr (some (13, i24))]) (M1 := (sI M 13 s1 10 s0)) (pc' := 142) (tb_Model hγ) [.iload_n 2] (by decide +kernel) rfl rfl trivial ?_
    refine E_goto (off := 4) (tgt := 146) (by decide +kernel) (by decide) ?_
    refine E_mask [true, false, true, false, false, false] rfl ?_
    exact lk_Model_endFrame_j146 hγ this Q v2 v2 i24 (sI M 13 s1 10 s0) h
  · rw [if_neg b26] at h
    refine E_blk (lv' := [some (vr (some (11, this))), none, some (vi v2), none, none, none]) (st' := [vi (0 : Int32), vr (some (13, i24))]) (M1 := (sI M 13 s1 10 s0)) (pc' := 146) (tb_Model hγ) [.iconst 0] (by decide +kernel) rfl rfl trivial ?_
    refine E_mask [true, false, true, false, false, false] rfl ?_
    exact lk_Model_endFrame_j146 hγ this Q v2 (0 : Int32) i24 (sI M 13 s1 10 s0) h
set_option maxRecDepth 4096 in
theorem lk_Model_endFrame_j122 {γ : Gm} (hγ : Gk γ) (this : Nat) (Q : Mem → Prop) (v2 : Int32) (s0 : Nat) (M : Mem) (h : w_Model_endFrame_j122 this Q v2 s0 M) : E γ k_Model_endFrame 2 122 [some (vr (some (11, this))), none, some (vi v2), none, none, none] [vr (some (13, s0))] M (Qv Q) := by
  unfold w_Model_endFrame_j122 at h
  refine E_blk (lv' := [some (vr (some (11, this))), none, some (vi v2), none, none, none]) (st' := [vi (4 : Int32), vr (some (13, s0))]) (M1 := M) (pc' := 123) (tb_Model hγ) [.iconst 4] (by decide +kernel) rfl rfl trivial ?_
  refine E_mask [true, false, true, false, false, false] rfl ?_
  exact lk_Model_endFrame_j123 hγ this Q v2 (4 : Int32) s0 M h
set_option maxRecDepth 4096 in
theorem lk_Model_endFrame {γ : Gm} (hγ : Gk γ) (this : Nat) (a1 : Int32) (a2 : Int32) (a3 : Int32) (Q : Mem → Prop) (M : Mem) (h : w_Model_endFrame this a1 a2 a3 Q M) : E γ k_Model_endFrame 2 0 [some (vr (some (11, this))), some (vi a1), some (vi a2), some (vi a3), none, none] [] M (Qv Q) := by
  unfold w_Model_endFrame at h
  refine E_blk (lv' := [some (vr (some (11, this))), some (vi a1), some (vi a2), some (vi a3), none, none]) (st' := [vr (mR M 11 this 46)]) (M1 := M) (pc' := 4) (tb_Model hγ) [.aload_n 0, .getfield 917] (by decide +kernel) rfl rfl trivial ?_
  obtain ⟨i1, ei1, h⟩ := h
  rw [ei1]
  refine E_blk (lv' := [some (vr (some (11, this))), some (vi a1), some (vi a2), some (vi a3), none, none]) (st' := [vr (mR (sI M 13 i1 22 ((mI M 13 i1 22) - (1 : Int32))) 11 this 46)]) (M1 := (sI M 13 i1 22 ((mI M 13 i1 22) - (1 : Int32)))) (pc' := 17) (tb_Model hγ) [.dup, .getfield 924, .iconst 1, .isub, .putfield 924, .aload_n 0, .getfield 917] (by decide +kernel) rfl rfl trivial ?_
  obtain ⟨i2, ei2, h⟩ := h
  rw [ei2]
  refine E_blk (lv' := [some (vr (some (11, this))), some (vi a1), some (vi a2), some (vi a3), none, none]) (st' := []) (M1 := (sI (sI M 13 i1 22 ((mI M 13 i1 22) - (1 : Int32))) 13 i2 16 ((mI (sI M 13 i1 22 ((mI M 13 i1 22) - (1 : Int32))) 13 i2 16) - (1 : Int32)))) (pc' := 26) (tb_Model hγ) [.dup, .getfield 945, .iconst 1, .isub, .putfield 945] (by decide +kernel) rfl rfl trivial ?_
  obtain ⟨M3, eM3, h⟩ := h
  rw [← eM3]
  refine E_blk (lv' := [some (vr (some (11, this))), some (vi a1), some (vi a2), some (vi a3), none, none]) (st' := [vr (mR M3 11 this 46), vi (2 : Int32), vr (some (11, this))]) (M1 := M3) (pc' := 32) (tb_Model hγ) [.aload_n 0, .iconst 2, .aload_n 0, .getfield 917] (by decide +kernel) rfl rfl trivial ?_
  obtain ⟨i4, ei4, h⟩ := h
  rw [ei4]
  refine E_blk (lv' := [some (vr (some (11, this))), some (vi a1), some (vi a2), some (vi a3), none, none]) (st' := [vr (mR M3 11 this 46), vr (some (173, i4)), vi (2 : Int32), vr (some (11, this))]) (M1 := M3) (pc' := 39) (tb_Model hγ) [.getfield 927, .aload_n 0, .getfield 917] (by decide +kernel) rfl rfl trivial ?_
  obtain ⟨i5, ei5, h⟩ := h
  rw [ei5]
  obtain ⟨c6, h⟩ := h
  refine E_blk (lv' := [some (vr (some (11, this))), some (vi a1), some (vi a2), some (vi a3), none, none]) (st' := [vi (mI M3 173 i4 (mI M3 13 i5 22).toNatClampNeg), vi (2 : Int32), vr (some (11, this))]) (M1 := M3) (pc' := 43) (tb_Model hγ) [.getfield 924, .iaload] (by decide +kernel) rfl rfl ⟨c6, trivial⟩ ?_
  refine E_callV (κ' := k_Model_note) (As := [vi (2 : Int32), vi (mI M3 173 i4 (mI M3 13 i5 22).toNatClampNeg)]) (st := []) mv_Model_note (Or.inl (tbk_mem (j := 16) (k := 107) rfl)) rfl (by decide +kernel) (Nat.le_of_ble_eq_true rfl) (Nat.le_of_ble_eq_true rfl) rfl (by decide) (lk_Model_note hγ this (2 : Int32) (mI M3 173 i4 (mI M3 13 i5 22).toNatClampNeg) _ M3 h) (fun _ _ => Qv_r) (fun v M7 hp => Qv_k (R := fun st => E γ k_Model_endFrame 2 46 [some (vr (some (11, this))), some (vi a1), some (vi a2), some (vi a3), none, none] st M7 (Qv Q)) hp (fun h => ?_))
  refine E_blk (lv' := [some (vr (some (11, this))), some (vi a1), some (vi a2), some (vi a3), none, none]) (st' := [vr (mR M7 11 this 46)]) (M1 := M7) (pc' := 50) (tb_Model hγ) [.aload_n 0, .getfield 917] (by decide +kernel) rfl rfl trivial ?_
  obtain ⟨i8, ei8, h⟩ := h
  rw [ei8]
  refine E_blk (lv' := [some (vr (some (11, this))), some (vi a1), some (vi a2), some (vi a3), some (vi ((mI M7 13 i8 16) - (1 : Int32))), none]) (st' := [vi ((mI M7 13 i8 16) - (1 : Int32))]) (M1 := M7) (pc' := 59) (tb_Model hγ) [.getfield 945, .iconst 1, .isub, .istore 4, .iload 4] (by decide +kernel) rfl rfl trivial ?_
  refine E_if_ge (off := 127) (tgt := 186) (by decide +kernel) (by decide) (fun b9 => ?_) (fun b9 => ?_)
  · rw [if_pos b9] at h
    refine E_blk (lv' := [some (vr (some (11, this))), some (vi a1), some (vi a2), some (vi a3), some (vi ((mI M7 13 i8 16) - (1 : Int32))), none]) (st' := [vr (mR M7 11 this 46)]) (M1 := M7) (pc' := 190) (tb_Model hγ) [.aload_n 0, .getfield 917] (by decide +kernel) rfl rfl trivial ?_
    obtain ⟨i10, ei10, h⟩ := h
    rw [ei10]
    obtain ⟨c11, h⟩ := h
    refine E_blk (lv' := [some (vr (some (11, this))), some (vi a1), some (vi a2), some (vi a3), some (vi ((mI M7 13 i8 16) - (1 : Int32))), some (vi (mI M7 171 i10 ((mI M7 13 i8 16) - (1 : Int32)).toNatClampNeg))]) (st' := []) (M1 := M7) (pc' := 198) (tb_Model hγ) [.getfield 942, .iload 4, .iaload, .istore 5] (by decide +kernel) rfl rfl ⟨c11, trivial⟩ ?_
    obtain ⟨x12, ex12, h⟩ := h
    rw [← ex12]
    refine E_blk (lv' := [some (vr (some (11, this))), some (vi a1), some (vi a2), some (vi a3), some (vi ((mI M7 13 i8 16) - (1 : Int32))), some (vi x12)]) (st' := [vi x12]) (M1 := M7) (pc' := 200) (tb_Model hγ) [.iload 5] (by decide +kernel) rfl rfl trivial ?_
    refine E_if_lt (off := 30) (tgt := 230) (by decide +kernel) (by decide) (fun b13 => ?_) (fun b13 => ?_)
    · rw [if_pos b13] at h
      refine E_blk (lv' := [some (vr (some (11, this))), some (vi a1), some (vi a2), some (vi a3), some (vi ((mI M7 13 i8 16) - (1 : Int32))), some (vi x12)]) (st' := [vi ((mI M7 13 i8 16) - (1 : Int32)), vr (some (11, this))]) (M1 := M7) (pc' := 233) (tb_Model hγ) [.aload_n 0, .iload 4] (by decide +kernel) rfl rfl trivial ?_
      refine E_callV (κ' := k_Model_endStart) (As := [vi ((mI M7 13 i8 16) - (1 : Int32))]) (st := []) mv_Model_endStart (Or.inl (tbk_mem (j := 16) (k := 147) rfl)) rfl (by decide +kernel) (Nat.le_of_ble_eq_true rfl) (Nat.le_of_ble_eq_true rfl) rfl (by decide) (lk_Model_endStart hγ this ((mI M7 13 i8 16) - (1 : Int32)) _ M7 h) (fun _ _ => Qv_r) (fun v M14 hp => Qv_k (R := fun st => E γ k_Model_endFrame 2 236 [some (vr (some (11, this))), some (vi a1), some (vi a2), some (vi a3), some (vi ((mI M7 13 i8 16) - (1 : Int32))), some (vi x12)] st M14 (Qv Q)) hp (fun h => ?_))
      exact E_vret rfl (by decide +kernel) h
    · rw [if_neg b13] at h
      refine E_blk (lv' := [some (vr (some (11, this))), some (vi a1), some (vi a2), some (vi a3), some (vi ((mI M7 13 i8 16) - (1 : Int32))), some (vi x12)]) (st' := [vi a1]) (M1 := M7) (pc' := 204) (tb_Model hγ) [.iload_n 1] (by decide +kernel) rfl rfl trivial ?_
      refine E_if_eq (off := 11) (tgt := 215) (by decide +kernel) (by decide) (fun b15 => ?_) (fun b15 => ?_)
      · rw [if_pos b15] at h
        refine E_mask [true, false, false, false, false, true] rfl ?_
        exact lk_Model_endFrame_j215 hγ this Q x12 M7 h
      · rw [if_neg b15] at h
        refine E_blk (lv' := [some (vr (some (11, this))), some (vi a1), some (vi a2), some (vi a3), some (vi ((mI M7 13 i8 16) - (1 : Int32))), some (vi x12)]) (st' := [vi a3, vi a2, vi x12, vr (some (11, this))]) (M1 := M7) (pc' := 212) (tb_Model hγ) [.aload_n 0, .iload 5, .iload_n 2, .iload_n 3] (by decide +kernel) rfl rfl trivial ?_
        refine E_callV (κ' := k_Model_push) (As := [vi x12, vi a2, vi a3]) (st := []) mv_Model_push (Or.inl (tbk_mem (j := 16) (k := 135) rfl)) rfl (by decide +kernel) (Nat.le_of_ble_eq_true rfl) (Nat.le_of_ble_eq_true rfl) rfl (by decide) (lk_Model_push hγ this x12 a2 a3 _ M7 h) (fun _ _ => Qv_r) (fun v M20 hp => Qv_k (R := fun st => E γ k_Model_endFrame 2 215 [some (vr (some (11, this))), some (vi a1), some (vi a2), some (vi a3), some (vi ((mI M7 13 i8 16) - (1 : Int32))), some (vi x12)] st M20 (Qv Q)) hp (fun h => ?_))
        refine E_mask [true, false, false, false, false, true] rfl ?_
        exact lk_Model_endFrame_j215 hγ this Q x12 M20 h
  · rw [if_neg b9] at h
    refine E_blk (lv' := [some (vr (some (11, this))), some (vi a1), some (vi a2), some (vi a3), some (vi ((mI M7 13 i8 16) - (1 : Int32))), none]) (st' := [vr (mR M7 11 this 46)]) (M1 := M7) (pc' := 66) (tb_Model hγ) [.aload_n 0, .getfield 917] (by decide +kernel) rfl rfl trivial ?_
    obtain ⟨i21, ei21, h⟩ := h
    rw [ei21]
    refine E_blk (lv' := [some (vr (some (11, this))), some (vi a1), some (vi a2), some (vi a3), some (vi ((mI M7 13 i8 16) - (1 : Int32))), none]) (st' := [vr (mR (sI M7 13 i21 0 (0 : Int32)) 11 this 46)]) (M1 := (sI M7 13 i21 0 (0 : Int32))) (pc' := 74) (tb_Model hγ) [.iconst 0, .putfield 486, .aload_n 0, .getfield 917] (by decide +kernel) rfl rfl trivial ?_
    obtain ⟨i22, ei22, h⟩ := h
    rw [ei22]
    refine E_blk (lv' := [some (vr (some (11, this))), some (vi a1), some (vi a2), some (vi a3), some (vi ((mI M7 13 i8 16) - (1 : Int32))), none]) (st' := [vi a1, vr (some (13, i22))]) (M1 := (sI M7 13 i21 0 (0 : Int32))) (pc' := 75) (tb_Model hγ) [.iload_n 1] (by decide +kernel) rfl rfl trivial ?_
    refine E_if_ne (off := 7) (tgt := 82) (by decide +kernel) (by decide) (fun b23 => ?_) (fun b23 => ?_)
    · rw [if_pos b23] at h
      refine E_blk (lv' := [some (vr (some (11, this))), some (vi a1), some (vi a2), some (vi a3), some (vi ((mI M7 13 i8 16) - (1 : Int32))), none]) (st' := [vi (0 : Int32), vr (some (13, i22))]) (M1 := (sI M7 13 i21 0 (0 : Int32))) (pc' := 79) (tb_Model hγ) [.iconst 0] (by decide +kernel) rfl rfl trivial ?_
      refine E_goto (off := 44) (tgt := 123) (by decide +kernel) (by decide) ?_
      refine E_mask [true, false, true, false, false, false] rfl ?_
      exact lk_Model_endFrame_j123 hγ this Q a2 (0 : Int32) i22 (sI M7 13 i21 0 (0 : Int32)) h
    · rw [if_neg b23] at h
      refine E_blk (lv' := [some (vr (some (11, this))), some (vi a1), some (vi a2), some (vi a3), some (vi ((mI M7 13 i8 16) - (1 : Int32))), none]) (st' := [vi a3, vr (some (13, i22))]) (M1 := (sI M7 13 i21 0 (0 : Int32))) (pc' := 83) (tb_Model hγ) [.iload_n 3] (by decide +kernel) rfl rfl trivial ?_
      refine E_if_ne (off := 7) (tgt := 90) (by decide +kernel) (by decide) (fun b33 => ?_) (fun b33 => ?_)
      · rw [if_pos b33] at h
        refine E_blk (lv' := [some (vr (some (11, this))), some (vi a1), some (vi a2), some (vi a3), some (vi ((mI M7 13 i8 16) - (1 : Int32))), none]) (st' := [vi (1 : Int32), vr (some (13, i22))]) (M1 := (sI M7 13 i21 0 (0 : Int32))) (pc' := 87) (tb_Model hγ) [.iconst 1] (by decide +kernel) rfl rfl trivial ?_
        refine E_goto (off := 36) (tgt := 123) (by decide +kernel) (by decide) ?_
        refine E_mask [true, false, true, false, false, false] rfl ?_
        exact lk_Model_endFrame_j123 hγ this Q a2 (1 : Int32) i22 (sI M7 13 i21 0 (0 : Int32)) h
      · rw [if_neg b33] at h
        refine E_blk (lv' := [some (vr (some (11, this))), some (vi a1), some (vi a2), some (vi a3), some (vi ((mI M7 13 i8 16) - (1 : Int32))), none]) (st' := [vi a2, vr (some (13, i22))]) (M1 := (sI M7 13 i21 0 (0 : Int32))) (pc' := 91) (tb_Model hγ) [.iload_n 2] (by decide +kernel) rfl rfl trivial ?_
        refine E_if_ne (off := 7) (tgt := 98) (by decide +kernel) (by decide) (fun b34 => ?_) (fun b34 => ?_)
        · rw [if_pos b34] at h
          refine E_blk (lv' := [some (vr (some (11, this))), some (vi a1), some (vi a2), some (vi a3), some (vi ((mI M7 13 i8 16) - (1 : Int32))), none]) (st' := [vi (2 : Int32), vr (some (13, i22))]) (M1 := (sI M7 13 i21 0 (0 : Int32))) (pc' := 95) (tb_Model hγ) [.iconst 2] (by decide +kernel) rfl rfl trivial ?_
          refine E_goto (off := 28) (tgt := 123) (by decide +kernel) (by decide) ?_
          refine E_mask [true, false, true, false, false, false] rfl ?_
          exact lk_Model_endFrame_j123 hγ this Q a2 (2 : Int32) i22 (sI M7 13 i21 0 (0 : Int32)) h
        · rw [if_neg b34] at h
          refine E_blk (lv' := [some (vr (some (11, this))), some (vi a1), some (vi a2), some (vi a3), some (vi ((mI M7 13 i8 16) - (1 : Int32))), none]) (st' := [vi (1001 : Int32), vi a2, vr (some (13, i22))]) (M1 := (sI M7 13 i21 0 (0 : Int32))) (pc' := 102) (tb_Model hγ) [.iload_n 2, .sipush 1001] (by decide +kernel) rfl rfl trivial ?_
          refine E_icmp_ge (off := 20) (tgt := 122) (by decide +kernel) (by decide) (fun b35 => ?_) (fun b35 => ?_)
          · rw [if_pos b35] at h
            refine E_mask [true, false, true, false, false, false] rfl ?_
            exact lk_Model_endFrame_j122 hγ this Q a2 i22 (sI M7 13 i21 0 (0 : Int32)) h
          · rw [if_neg b35] at h
            refine E_blk (lv' := [some (vr (some (11, this))), some (vi a1), some (vi a2), some (vi a3), some (vi ((mI M7 13 i8 16) - (1 : Int32))), none]) (st' := [vr (mR (sI M7 13 i21 0 (0 : Int32)) 11 this 45), vr (some (13, i22))]) (M1 := (sI M7 13 i21 0 (0 : Int32))) (pc' := 109) (tb_Model hγ) [.aload_n 0, .getfield 522] (by decide +kernel) rfl rfl trivial ?_
            obtain ⟨i36, ei36, h⟩ := h
            rw [ei36]
            obtain ⟨c37, h⟩ := h
            refine E_blk (lv' := [some (vr (some (11, this))), some (vi a1), some (vi a2), some (vi a3), some (vi ((mI M7 13 i8 16) - (1 : Int32))), none]) (st' := [vi (-1 : Int32), vi (mI (sI M7 13 i21 0 (0 : Int32)) 157 i36 a2.toNatClampNeg), vr (some (13, i22))]) (M1 := (sI M7 13 i21 0 (0 : Int32))) (pc' := 115) (tb_Model hγ) [.getfield 872, .iload_n 2, .iaload, .iconst (.negSucc 0)] (by decide +kernel) rfl rfl ⟨c37, trivial⟩ ?_
            refine E_icmp_ne (off := 7) (tgt := 122) (by decide +kernel) (by decide) (fun b38 => ?_) (fun b38 => ?_)
            · rw [if_pos b38] at h
              refine E_blk (lv' := [some (vr (some (11, this))), some (vi a1), some (vi a2), some (vi a3), some (vi ((mI M7 13 i8 16) - (1 : Int32))), none]) (st' := [vi (3 : Int32), vr (some (13, i22))]) (M1 := (sI M7 13 i21 0 (0 : Int32))) (pc' := 119) (tb_Model hγ) [.iconst 3] (by decide +kernel) rfl rfl trivial ?_
              refine E_goto (off := 4) (tgt := 123) (by decide +kernel) (by decide) ?_
              refine E_mask [true, false, true, false, false, false] rfl ?_
              exact lk_Model_endFrame_j123 hγ this Q a2 (3 : Int32) i22 (sI M7 13 i21 0 (0 : Int32)) h
            · rw [if_neg b38] at h
              refine E_mask [true, false, true, false, false, false] rfl ?_
              exact lk_Model_endFrame_j122 hγ this Q a2 i22 (sI M7 13 i21 0 (0 : Int32)) h
def w_Model_startOf_j228 (this : Nat) (Q : Int32 → Mem → Prop) (k180 : Int32 → Int32 → Mem → Prop) (v1 : Int32) (v2 : Int32) (M : Mem) : Prop :=
  k180 v1 (v2 + (1 : Int32)) M
def w_Model_startOf_L180 (this : Nat) (Q : Int32 → Mem → Prop) : Nat → Int32 → Int32 → Mem → Prop
  | 0, _, _, _ => False
  | n + 1, v1, v2, M => ∃ i23, (mR M 11 this 45) = some (12, i23) ∧ vp_in v1 (mL M 135 i23) ∧ if (((8 : Int32) * v1) + (mI M 135 i23 v1.toNatClampNeg)) ≤ v2 then (∃ i26, (mR M 11 this 46) = some (13, i26) ∧ ∃ i27, (mR M 11 this 46) = some (13, i27) ∧ vp_in (mI M 13 i27 16) (mL M 171 i26) ∧ ∃ i29, (mR (sI M 171 i26 (mI M 13 i27 16).toNatClampNeg ((-1 : Int32) - v1)) 11 this 46) = some (13, i29) ∧ ∃ i30, (mR (sI M 171 i26 (mI M 13 i27 16).toNatClampNeg ((-1 : Int32) - v1)) 11 this 46) = some (13, i30) ∧ vp_in (mI (sI M 171 i26 (mI M 13 i27 16).toNatClampNeg ((-1 : Int32) - v1)) 13 i30 16) (mL (sI M 171 i26 (mI M 13 i27 16).toNatClampNeg ((-1 : Int32) - v1)) 172 i29) ∧ ∃ M32, M32 = (sI (sI M 171 i26 (mI M 13 i27 16).toNatClampNeg ((-1 : Int32) - v1)) 172 i29 (mI (sI M 171 i26 (mI M 13 i27 16).toNatClampNeg ((-1 : Int32) - v1)) 13 i30 16).toNatClampNeg (1 : Int32)) ∧ ∃ i33, (mR M32 11 this 46) = some (13, i33) ∧ w_Model_note this (4 : Int32) ((-1 : Int32) - v1) (fun M34 => Q (1 : Int32) M34) (sI M32 13 i33 16 ((mI M32 13 i33 16) + (1 : Int32)))) else (∃ i35, (mR M 11 this 45) = some (12, i35) ∧ vp_in v2 (mL M 523 i35) ∧ if (mI M 523 i35 v2.toNatClampNeg) = 0 then (w_Model_startOf_j228 this Q (w_Model_startOf_L180 this Q n) v1 v2 M) else (∃ i38, (mR M 11 this 45) = some (12, i38) ∧ ∃ i39, (mR M 11 this 45) = some (12, i39) ∧ vp_in v2 (mL M 142 i39) ∧ vp_in v2 (mL M 143 i38) ∧ w_Model_startOf_j228 this Q (w_Model_startOf_L180 this Q n) v1 v2 (sI M 143 i38 v2.toNatClampNeg (mI M 142 i39 v2.toNatClampNeg))))
def w_Model_startOf (this : Nat) (a1 : Int32) (Q : Int32 → Mem → Prop) (M : Mem) : Prop :=
  ∃ i1, (mR M 11 this 45) = some (12, i1) ∧ vp_in a1 (mL M 137 i1) ∧ if (mI M 137 i1 a1.toNatClampNeg) = (1 : Int32) then (∃ i46, (mR M 11 this 45) = some (12, i46) ∧ vp_in a1 (mL M 164 i46) ∧ if (mI M 164 i46 a1.toNatClampNeg) = (mI M 11 this 47) then (Q (0 : Int32) M) else (∃ i49, (mR M 11 this 46) = some (13, i49) ∧ Q (2 : Int32) (sI M 13 i49 2 ((-1 : Int32) - a1)))) else (if (mI M 137 i1 a1.toNatClampNeg) = (2 : Int32) then (Q (0 : Int32) M) else (if (mI M 137 i1 a1.toNatClampNeg) = (3 : Int32) then (Q (3 : Int32) (sI (sI M 11 this 81 (0 : Int32)) 11 this 80 (11 : Int32))) else (w_Model_isLinked this a1 (fun r4 M3 => if r4 = 0 then (∃ i6, (mR M3 11 this 45) = some (12, i6) ∧ vp_in a1 (mL M3 138 i6) ∧ ¬ (100 : Int32) = 0 ∧ ∃ i9, (mR (sI M3 11 this 81 ((mI M3 138 i6 a1.toNatClampNeg) / (100 : Int32))) 11 this 45) = some (12, i9) ∧ vp_in a1 (mL (sI M3 11 this 81 ((mI M3 138 i6 a1.toNatClampNeg) / (100 : Int32))) 138 i9) ∧ ¬ (100 : Int32) = 0 ∧ ∃ M12, M12 = (sI (sI M3 11 this 81 ((mI M3 138 i6 a1.toNatClampNeg) / (100 : Int32))) 11 this 80 ((mI (sI M3 11 this 81 ((mI M3 138 i6 a1.toNatClampNeg) / (100 : Int32))) 138 i9 a1.toNatClampNeg) - (mI (sI M3 11 this 81 ((mI M3 138 i6 a1.toNatClampNeg) / (100 : Int32))) 138 i9 a1.toNatClampNeg) / (100 : Int32) * (100 : Int32))) ∧ Q (3 : Int32) M12) else (∃ i13, (mR M3 11 this 45) = some (12, i13) ∧ vp_in a1 (mL M3 137 i13) ∧ ∃ i15, (mR (sI M3 137 i13 a1.toNatClampNeg (1 : Int32)) 11 this 45) = some (12, i15) ∧ vp_in a1 (mL (sI M3 137 i13 a1.toNatClampNeg (1 : Int32)) 164 i15) ∧ ∃ M17, M17 = (sI (sI M3 137 i13 a1.toNatClampNeg (1 : Int32)) 164 i15 a1.toNatClampNeg (mI (sI M3 137 i13 a1.toNatClampNeg (1 : Int32)) 11 this 47)) ∧ ∃ i18, (mR M17 11 this 45) = some (12, i18) ∧ ∃ i19, (mR M17 11 this 45) = some (12, i19) ∧ vp_in (mI M17 12 i19 60) (mL M17 163 i18) ∧ ∃ i21, (mR (sI M17 163 i18 (mI M17 12 i19 60).toNatClampNeg a1) 11 this 45) = some (12, i21) ∧ ∃ M22, M22 = (sI (sI M17 163 i18 (mI M17 12 i19 60).toNatClampNeg a1) 12 i21 60 ((mI (sI M17 163 i18 (mI M17 12 i19 60).toNatClampNeg a1) 12 i21 60) + (1 : Int32))) ∧ ∃ n42 : Nat, w_Model_startOf_L180 this Q n42 a1 ((8 : Int32) * a1) M22)) M)))
set_option maxRecDepth 4096 in
theorem lk_Model_startOf_j228 {γ : Gm} (hγ : Gk γ) (this : Nat) (Q : Int32 → Mem → Prop) (k180 : Int32 → Int32 → Mem → Prop) (hk180 : ∀ (v1 : Int32) (v2 : Int32) (M : Mem), k180 v1 v2 M → E γ k_Model_startOf 129 180 [some (vr (some (11, this))), some (vi v1), some (vi v2)] [] M (Qi Q)) (v1 : Int32) (v2 : Int32) (M : Mem) (h : w_Model_startOf_j228 this Q k180 v1 v2 M) : E γ k_Model_startOf 129 228 [some (vr (some (11, this))), some (vi v1), some (vi v2)] [] M (Qi Q) := by
  unfold w_Model_startOf_j228 at h
  refine E_blk (lv' := [some (vr (some (11, this))), some (vi v1), some (vi (v2 + (1 : Int32)))]) (st' := []) (M1 := M) (pc' := 231) (tb_Model hγ) [.iinc 2 1] (by decide +kernel) rfl rfl trivial ?_
  refine E_goto (off := -51) (tgt := 180) (by decide +kernel) (by decide) ?_
  refine E_mask [true, true, true] rfl ?_
  exact hk180 v1 (v2 + (1 : Int32)) M h
set_option maxRecDepth 4096 in
theorem lk_Model_startOf_L180 {γ : Gm} (hγ : Gk γ) (this : Nat) (Q : Int32 → Mem → Prop) : ∀ (n : Nat) (v1 : Int32) (v2 : Int32) (M : Mem), w_Model_startOf_L180 this Q n v1 v2 M → E γ k_Model_startOf 129 180 [some (vr (some (11, this))), some (vi v1), some (vi v2)] [] M (Qi Q) := by
  intro n
  induction n with
  | zero => intro v1 v2 M h; exact h.elim
  | succ n ih =>
    intro v1 v2 M h
    unfold w_Model_startOf_L180 at h
    refine E_blk (lv' := [some (vr (some (11, this))), some (vi v1), some (vi v2)]) (st' := [vr (mR M 11 this 45), vi ((8 : Int32) * v1), vi v2]) (M1 := M) (pc' := 189) (tb_Model hγ) [.iload_n 2, .bipush 8, .iload_n 1, .imul, .aload_n 0, .getfield 522] (by decide +kernel) rfl rfl trivial ?_
    obtain ⟨i23, ei23, h⟩ := h
    rw [ei23]
    obtain ⟨c24, h⟩ := h
    refine E_blk (lv' := [some (vr (some (11, this))), some (vi v1), some (vi v2)]) (st' := [vi (((8 : Int32) * v1) + (mI M 135 i23 v1.toNatClampNeg)), vi v2]) (M1 := M) (pc' := 195) (tb_Model hγ) [.getfield 435, .iload_n 1, .iaload, .iadd] (by decide +kernel) rfl rfl ⟨c24, trivial⟩ ?_
    refine E_icmp_ge (off := 39) (tgt := 234) (by decide +kernel) (by decide) (fun b25 => ?_) (fun b25 => ?_)
    · rw [if_pos b25] at h
      refine E_blk (lv' := [some (vr (some (11, this))), some (vi v1), some (vi v2)]) (st' := [vr (mR M 11 this 46)]) (M1 := M) (pc' := 238) (tb_Model hγ) [.aload_n 0, .getfield 917] (by decide +kernel) rfl rfl trivial ?_
      obtain ⟨i26, ei26, h⟩ := h
      rw [ei26]
      refine E_blk (lv' := [some (vr (some (11, this))), some (vi v1), some (vi v2)]) (st' := [vr (mR M 11 this 46), vr (some (171, i26))]) (M1 := M) (pc' := 245) (tb_Model hγ) [.getfield 942, .aload_n 0, .getfield 917] (by decide +kernel) rfl rfl trivial ?_
      obtain ⟨i27, ei27, h⟩ := h
      rw [ei27]
      obtain ⟨c28, h⟩ := h
      refine E_blk (lv' := [some (vr (some (11, this))), some (vi v1), some (vi v2)]) (st' := [vr (mR (sI M 171 i26 (mI M 13 i27 16).toNatClampNeg ((-1 : Int32) - v1)) 11 this 46)]) (M1 := (sI M 171 i26 (mI M 13 i27 16).toNatClampNeg ((-1 : Int32) - v1))) (pc' := 256) (tb_Model hγ) [.getfield 945, .iconst (.negSucc 0), .iload_n 1, .isub, .iastore, .aload_n 0, .getfield 917] (by decide +kernel) rfl rfl ⟨c28, trivial⟩ ?_
      obtain ⟨i29, ei29, h⟩ := h
      rw [ei29]
      refine E_blk (lv' := [some (vr (some (11, this))), some (vi v1), some (vi v2)]) (st' := [vr (mR (sI M 171 i26 (mI M 13 i27 16).toNatClampNeg ((-1 : Int32) - v1)) 11 this 46), vr (some (172, i29))]) (M1 := (sI M 171 i26 (mI M 13 i27 16).toNatClampNeg ((-1 : Int32) - v1))) (pc' := 263) (tb_Model hγ) [.getfield 948, .aload_n 0, .getfield 917] (by decide +kernel) rfl rfl trivial ?_
      obtain ⟨i30, ei30, h⟩ := h
      rw [ei30]
      obtain ⟨c31, h⟩ := h
      refine E_blk (lv' := [some (vr (some (11, this))), some (vi v1), some (vi v2)]) (st' := []) (M1 := (sI (sI M 171 i26 (mI M 13 i27 16).toNatClampNeg ((-1 : Int32) - v1)) 172 i29 (mI (sI M 171 i26 (mI M 13 i27 16).toNatClampNeg ((-1 : Int32) - v1)) 13 i30 16).toNatClampNeg (1 : Int32))) (pc' := 268) (tb_Model hγ) [.getfield 945, .iconst 1, .iastore] (by decide +kernel) rfl rfl ⟨c31, trivial⟩ ?_
      obtain ⟨M32, eM32, h⟩ := h
      rw [← eM32]
      refine E_blk (lv' := [some (vr (some (11, this))), some (vi v1), some (vi v2)]) (st' := [vr (mR M32 11 this 46)]) (M1 := M32) (pc' := 272) (tb_Model hγ) [.aload_n 0, .getfield 917] (by decide +kernel) rfl rfl trivial ?_
      obtain ⟨i33, ei33, h⟩ := h
      rw [ei33]
      refine E_blk (lv' := [some (vr (some (11, this))), some (vi v1), some (vi v2)]) (st' := [vi ((-1 : Int32) - v1), vi (4 : Int32), vr (some (11, this))]) (M1 := (sI M32 13 i33 16 ((mI M32 13 i33 16) + (1 : Int32)))) (pc' := 286) (tb_Model hγ) [.dup, .getfield 945, .iconst 1, .iadd, .putfield 945, .aload_n 0, .iconst 4, .iconst (.negSucc 0), .iload_n 1, .isub] (by decide +kernel) rfl rfl trivial ?_
      refine E_callV (κ' := k_Model_note) (As := [vi (4 : Int32), vi ((-1 : Int32) - v1)]) (st := []) mv_Model_note (Or.inl (tbk_mem (j := 16) (k := 107) rfl)) rfl (by decide +kernel) (Nat.le_of_ble_eq_true rfl) (Nat.le_of_ble_eq_true rfl) rfl (by decide) (lk_Model_note hγ this (4 : Int32) ((-1 : Int32) - v1) _ (sI M32 13 i33 16 ((mI M32 13 i33 16) + (1 : Int32))) h) (fun _ _ => Qv_r) (fun v M34 hp => Qv_k (R := fun st => E γ k_Model_startOf 129 289 [some (vr (some (11, this))), some (vi v1), some (vi v2)] st M34 (Qi Q)) hp (fun h => ?_))
      refine E_blk (lv' := [some (vr (some (11, this))), some (vi v1), some (vi v2)]) (st' := [vi (1 : Int32)]) (M1 := M34) (pc' := 290) (tb_Model hγ) [.iconst 1] (by decide +kernel) rfl rfl trivial ?_
      exact E_iret rfl (by decide +kernel) h
    · rw [if_neg b25] at h
      refine E_blk (lv' := [some (vr (some (11, this))), some (vi v1), some (vi v2)]) (st' := [vr (mR M 11 this 45)]) (M1 := M) (pc' := 202) (tb_Model hγ) [.aload_n 0, .getfield 522] (by decide +kernel) rfl rfl trivial ?_
      obtain ⟨i35, ei35, h⟩ := h
      rw [ei35]
      obtain ⟨c36, h⟩ := h
      refine E_blk (lv' := [some (vr (some (11, this))), some (vi v1), some (vi v2)]) (st' := [vi (mI M 523 i35 v2.toNatClampNeg)]) (M1 := M) (pc' := 207) (tb_Model hγ) [.getfield 633, .iload_n 2, .baload] (by decide +kernel) rfl rfl ⟨c36, trivial⟩ ?_
      refine E_if_eq (off := 21) (tgt := 228) (by decide +kernel) (by decide) (fun b37 => ?_) (fun b37 => ?_)
      · rw [if_pos b37] at h
        refine E_mask [true, true, true] rfl ?_
        exact lk_Model_startOf_j228 hγ this Q (w_Model_startOf_L180 this Q n) ih v1 v2 M h
      · rw [if_neg b37] at h
        refine E_blk (lv' := [some (vr (some (11, this))), some (vi v1), some (vi v2)]) (st' := [vr (mR M 11 this 45)]) (M1 := M) (pc' := 214) (tb_Model hγ) [.aload_n 0, .getfield 522] (by decide +kernel) rfl rfl trivial ?_
        obtain ⟨i38, ei38, h⟩ := h
        rw [ei38]
        refine E_blk (lv' := [some (vr (some (11, this))), some (vi v1), some (vi v2)]) (st' := [vr (mR M 11 this 45), vi v2, vr (some (143, i38))]) (M1 := M) (pc' := 222) (tb_Model hγ) [.getfield 636, .iload_n 2, .aload_n 0, .getfield 522] (by decide +kernel) rfl rfl trivial ?_
        obtain ⟨i39, ei39, h⟩ := h
        rw [ei39]
        obtain ⟨c40, c41, h⟩ := h
        refine E_blk (lv' := [some (vr (some (11, this))), some (vi v1), some (vi v2)]) (st' := []) (M1 := (sI M 143 i38 v2.toNatClampNeg (mI M 142 i39 v2.toNatClampNeg))) (pc' := 228) (tb_Model hγ) [.getfield 630, .iload_n 2, .iaload, .iastore] (by decide +kernel) rfl rfl ⟨c40, c41, trivial⟩ ?_
        refine E_mask [true, true, true] rfl ?_
        exact lk_Model_startOf_j228 hγ this Q (w_Model_startOf_L180 this Q n) ih v1 v2 (sI M 143 i38 v2.toNatClampNeg (mI M 142 i39 v2.toNatClampNeg)) h
set_option maxRecDepth 4096 in
theorem lk_Model_startOf {γ : Gm} (hγ : Gk γ) (this : Nat) (a1 : Int32) (Q : Int32 → Mem → Prop) (M : Mem) (h : w_Model_startOf this a1 Q M) : E γ k_Model_startOf 129 0 [some (vr (some (11, this))), some (vi a1), none] [] M (Qi Q) := by
  unfold w_Model_startOf at h
  refine E_blk (lv' := [some (vr (some (11, this))), some (vi a1), none]) (st' := [vr (mR M 11 this 45)]) (M1 := M) (pc' := 4) (tb_Model hγ) [.aload_n 0, .getfield 522] (by decide +kernel) rfl rfl trivial ?_
  obtain ⟨i1, ei1, h⟩ := h
  rw [ei1]
  obtain ⟨c2, h⟩ := h
  refine E_blk (lv' := [some (vr (some (11, this))), some (vi a1), none]) (st' := [vi (mI M 137 i1 a1.toNatClampNeg)]) (M1 := M) (pc' := 9) (tb_Model hγ) [.getfield 441, .iload_n 1, .iaload] (by decide +kernel) rfl rfl ⟨c2, trivial⟩ ?_
  by_cases b43 : (mI M 137 i1 a1.toNatClampNeg) = (1 : Int32)
  · rw [if_pos b43] at h
    refine E.up (fun _ _ hJ => J_tswI (len := 27) (dflt := 72) (lo := 1) (hi := 3) (offs := #[29, 27, 59]) (off := 29) (tgt := 38) (by decide +kernel) (by rw [b43]; decide) (by rw [b43]; decide) (by rw [b43]; rfl) (by decide) hJ) ?_
    refine E_blk (lv' := [some (vr (some (11, this))), some (vi a1), none]) (st' := [vr (mR M 11 this 45)]) (M1 := M) (pc' := 42) (tb_Model hγ) [.aload_n 0, .getfield 522] (by decide +kernel) rfl rfl trivial ?_
    obtain ⟨i46, ei46, h⟩ := h
    rw [ei46]
    obtain ⟨c47, h⟩ := h
    refine E_blk (lv' := [some (vr (some (11, this))), some (vi a1), none]) (st' := [vi (mI M 11 this 47), vi (mI M 164 i46 a1.toNatClampNeg)]) (M1 := M) (pc' := 51) (tb_Model hγ) [.getfield 989, .iload_n 1, .iaload, .aload_n 0, .getfield 908] (by decide +kernel) rfl rfl ⟨c47, trivial⟩ ?_
    refine E_icmp_ne (off := 5) (tgt := 56) (by decide +kernel) (by decide) (fun b48 => ?_) (fun b48 => ?_)
    · rw [if_pos b48] at h
      refine E_blk (lv' := [some (vr (some (11, this))), some (vi a1), none]) (st' := [vi (0 : Int32)]) (M1 := M) (pc' := 55) (tb_Model hγ) [.iconst 0] (by decide +kernel) rfl rfl trivial ?_
      exact E_iret rfl (by decide +kernel) h
    · rw [if_neg b48] at h
      refine E_blk (lv' := [some (vr (some (11, this))), some (vi a1), none]) (st' := [vr (mR M 11 this 46)]) (M1 := M) (pc' := 60) (tb_Model hγ) [.aload_n 0, .getfield 917] (by decide +kernel) rfl rfl trivial ?_
      obtain ⟨i49, ei49, h⟩ := h
      rw [ei49]
      refine E_blk (lv' := [some (vr (some (11, this))), some (vi a1), none]) (st' := [vi (2 : Int32)]) (M1 := (sI M 13 i49 2 ((-1 : Int32) - a1))) (pc' := 67) (tb_Model hγ) [.iconst (.negSucc 0), .iload_n 1, .isub, .putfield 992, .iconst 2] (by decide +kernel) rfl rfl trivial ?_
      exact E_iret rfl (by decide +kernel) h
  · rw [if_neg b43] at h
    by_cases b44 : (mI M 137 i1 a1.toNatClampNeg) = (2 : Int32)
    · rw [if_pos b44] at h
      refine E.up (fun _ _ hJ => J_tswI (len := 27) (dflt := 72) (lo := 1) (hi := 3) (offs := #[29, 27, 59]) (off := 27) (tgt := 36) (by decide +kernel) (by rw [b44]; decide) (by rw [b44]; decide) (by rw [b44]; rfl) (by decide) hJ) ?_
      refine E_blk (lv' := [some (vr (some (11, this))), some (vi a1), none]) (st' := [vi (0 : Int32)]) (M1 := M) (pc' := 37) (tb_Model hγ) [.iconst 0] (by decide +kernel) rfl rfl trivial ?_
      exact E_iret rfl (by decide +kernel) h
    · rw [if_neg b44] at h
      by_cases b45 : (mI M 137 i1 a1.toNatClampNeg) = (3 : Int32)
      · rw [if_pos b45] at h
        refine E.up (fun _ _ hJ => J_tswI (len := 27) (dflt := 72) (lo := 1) (hi := 3) (offs := #[29, 27, 59]) (off := 59) (tgt := 68) (by decide +kernel) (by rw [b45]; decide) (by rw [b45]; decide) (by rw [b45]; rfl) (by decide) hJ) ?_
        refine E_blk (lv' := [some (vr (some (11, this))), some (vi a1), none]) (st' := [vi (3 : Int32)]) (M1 := (sI (sI M 11 this 81 (0 : Int32)) 11 this 80 (11 : Int32))) (pc' := 80) (tb_Model hγ) [.aload_n 0, .iconst 0, .putfield 844, .aload_n 0, .bipush 11, .putfield 847, .iconst 3] (by decide +kernel) rfl rfl trivial ?_
        exact E_iret rfl (by decide +kernel) h
      · rw [if_neg b45] at h
        refine E.up (fun _ _ hJ => J_tswO (len := 27) (dflt := 72) (lo := 1) (hi := 3) (offs := #[29, 27, 59]) (tgt := 81) (by decide +kernel) ?_ (by decide) hJ) ?_
        · have q := sw0 (x := (mI M 137 i1 a1.toNatClampNeg)) 1
          replace q : ((mI M 137 i1 a1.toNatClampNeg)).toInt < 1 ∨ 2 ≤ ((mI M 137 i1 a1.toNatClampNeg)).toInt := sw1 q b43 rfl rfl
          replace q : ((mI M 137 i1 a1.toNatClampNeg)).toInt < 1 ∨ 3 ≤ ((mI M 137 i1 a1.toNatClampNeg)).toInt := sw1 q b44 rfl rfl
          replace q : ((mI M 137 i1 a1.toNatClampNeg)).toInt < 1 ∨ 4 ≤ ((mI M 137 i1 a1.toNatClampNeg)).toInt := sw1 q b45 rfl rfl
          omega
        · refine E_blk (lv' := [some (vr (some (11, this))), some (vi a1), none]) (st' := [vi a1, vr (some (11, this))]) (M1 := M) (pc' := 83) (tb_Model hγ) [.aload_n 0, .iload_n 1] (by decide +kernel) rfl rfl trivial ?_
          refine E_callV (κ' := k_Model_isLinked) (As := [vi a1]) (st := []) mv_Model_isLinked (Or.inl (tbk_mem (j := 15) (k := 145) rfl)) rfl (by decide +kernel) (Nat.le_of_ble_eq_true rfl) (Nat.le_of_ble_eq_true rfl) rfl (by decide) (lk_Model_isLinked hγ this a1 _ M h) (fun _ _ => Qi_r) (fun v M3 hp => Qi_k (R := fun st => E γ k_Model_startOf 129 86 [some (vr (some (11, this))), some (vi a1), none] st M3 (Qi Q)) hp (fun r4 h => ?_))
          refine E_if_ne (off := 37) (tgt := 123) (by decide +kernel) (by decide) (fun b5 => ?_) (fun b5 => ?_)
          · rw [if_pos b5] at h
            refine E_blk (lv' := [some (vr (some (11, this))), some (vi a1), none]) (st' := [vr (mR M3 11 this 45), vr (some (11, this))]) (M1 := M3) (pc' := 94) (tb_Model hγ) [.aload_n 0, .aload_n 0, .getfield 522] (by decide +kernel) rfl rfl trivial ?_
            obtain ⟨i6, ei6, h⟩ := h
            rw [ei6]
            obtain ⟨c7, c8, h⟩ := h
            refine E_blk (lv' := [some (vr (some (11, this))), some (vi a1), none]) (st' := [vr (mR (sI M3 11 this 81 ((mI M3 138 i6 a1.toNatClampNeg) / (100 : Int32))) 11 this 45), vr (some (11, this))]) (M1 := (sI M3 11 this 81 ((mI M3 138 i6 a1.toNatClampNeg) / (100 : Int32)))) (pc' := 110) (tb_Model hγ) [.getfield 444, .iload_n 1, .iaload, .bipush 100, .idiv, .putfield 844, .aload_n 0, .aload_n 0, .getfield 522] (by decide +kernel) rfl rfl ⟨c7, c8, trivial⟩ ?_
            obtain ⟨i9, ei9, h⟩ := h
            rw [ei9]
            obtain ⟨c10, c11, h⟩ := h
            refine E_blk (lv' := [some (vr (some (11, this))), some (vi a1), none]) (st' := []) (M1 := (sI (sI M3 11 this 81 ((mI M3 138 i6 a1.toNatClampNeg) / (100 : Int32))) 11 this 80 ((mI (sI M3 11 this 81 ((mI M3 138 i6 a1.toNatClampNeg) / (100 : Int32))) 138 i9 a1.toNatClampNeg) - (mI (sI M3 11 this 81 ((mI M3 138 i6 a1.toNatClampNeg) / (100 : Int32))) 138 i9 a1.toNatClampNeg) / (100 : Int32) * (100 : Int32)))) (pc' := 121) (tb_Model hγ) [.getfield 444, .iload_n 1, .iaload, .bipush 100, .irem, .putfield 847] (by decide +kernel) rfl rfl ⟨c10, c11, trivial⟩ ?_
            obtain ⟨M12, eM12, h⟩ := h
            rw [← eM12]
            refine E_blk (lv' := [some (vr (some (11, this))), some (vi a1), none]) (st' := [vi (3 : Int32)]) (M1 := M12) (pc' := 122) (tb_Model hγ) [.iconst 3] (by decide +kernel) rfl rfl trivial ?_
            exact E_iret rfl (by decide +kernel) h
          · rw [if_neg b5] at h
            refine E_blk (lv' := [some (vr (some (11, this))), some (vi a1), none]) (st' := [vr (mR M3 11 this 45)]) (M1 := M3) (pc' := 127) (tb_Model hγ) [.aload_n 0, .getfield 522] (by decide +kernel) rfl rfl trivial ?_
            obtain ⟨i13, ei13, h⟩ := h
            rw [ei13]
            obtain ⟨c14, h⟩ := h
            refine E_blk (lv' := [some (vr (some (11, this))), some (vi a1), none]) (st' := [vr (mR (sI M3 137 i13 a1.toNatClampNeg (1 : Int32)) 11 this 45)]) (M1 := (sI M3 137 i13 a1.toNatClampNeg (1 : Int32))) (pc' := 137) (tb_Model hγ) [.getfield 441, .iload_n 1, .iconst 1, .iastore, .aload_n 0, .getfield 522] (by decide +kernel) rfl rfl ⟨c14, trivial⟩ ?_
            obtain ⟨i15, ei15, h⟩ := h
            rw [ei15]
            obtain ⟨c16, h⟩ := h
            refine E_blk (lv' := [some (vr (some (11, this))), some (vi a1), none]) (st' := []) (M1 := (sI (sI M3 137 i13 a1.toNatClampNeg (1 : Int32)) 164 i15 a1.toNatClampNeg (mI (sI M3 137 i13 a1.toNatClampNeg (1 : Int32)) 11 this 47))) (pc' := 146) (tb_Model hγ) [.getfield 989, .iload_n 1, .aload_n 0, .getfield 908, .iastore] (by decide +kernel) rfl rfl ⟨c16, trivial⟩ ?_
            obtain ⟨M17, eM17, h⟩ := h
            rw [← eM17]
            refine E_blk (lv' := [some (vr (some (11, this))), some (vi a1), none]) (st' := [vr (mR M17 11 this 45)]) (M1 := M17) (pc' := 150) (tb_Model hγ) [.aload_n 0, .getfield 522] (by decide +kernel) rfl rfl trivial ?_
            obtain ⟨i18, ei18, h⟩ := h
            rw [ei18]
            refine E_blk (lv' := [some (vr (some (11, this))), some (vi a1), none]) (st' := [vr (mR M17 11 this 45), vr (some (163, i18))]) (M1 := M17) (pc' := 157) (tb_Model hγ) [.getfield 995, .aload_n 0, .getfield 522] (by decide +kernel) rfl rfl trivial ?_
            obtain ⟨i19, ei19, h⟩ := h
            rw [ei19]
            obtain ⟨c20, h⟩ := h
            refine E_blk (lv' := [some (vr (some (11, this))), some (vi a1), none]) (st' := [vr (mR (sI M17 163 i18 (mI M17 12 i19 60).toNatClampNeg a1) 11 this 45)]) (M1 := (sI M17 163 i18 (mI M17 12 i19 60).toNatClampNeg a1)) (pc' := 166) (tb_Model hγ) [.getfield 519, .iload_n 1, .iastore, .aload_n 0, .getfield 522] (by decide +kernel) rfl rfl ⟨c20, trivial⟩ ?_
            obtain ⟨i21, ei21, h⟩ := h
            rw [ei21]
            refine E_blk (lv' := [some (vr (some (11, this))), some (vi a1), none]) (st' := []) (M1 := (sI (sI M17 163 i18 (mI M17 12 i19 60).toNatClampNeg a1) 12 i21 60 ((mI (sI M17 163 i18 (mI M17 12 i19 60).toNatClampNeg a1) 12 i21 60) + (1 : Int32)))) (pc' := 175) (tb_Model hγ) [.dup, .getfield 519, .iconst 1, .iadd, .putfield 519] (by decide +kernel) rfl rfl trivial ?_
            obtain ⟨M22, eM22, h⟩ := h
            rw [← eM22]
            refine E_blk (lv' := [some (vr (some (11, this))), some (vi a1), some (vi ((8 : Int32) * a1))]) (st' := []) (M1 := M22) (pc' := 180) (tb_Model hγ) [.bipush 8, .iload_n 1, .imul, .istore_n 2] (by decide +kernel) rfl rfl trivial ?_
            obtain ⟨n42, h⟩ := h
            refine E_mask [true, true, true] rfl ?_
            exact lk_Model_startOf_L180 hγ this Q n42 a1 ((8 : Int32) * a1) M22 h
def w_Model_startOn_j78 (this : Nat) (Q : Int32 → Mem → Prop) (v1 : Int32) (v2 : Int32) (M : Mem) : Prop :=
  w_Model_methodIn this v2 (mI M 11 this 7) (mI M 11 this 38) (fun r16 M15 => if 0 ≤ r16 then (∃ i18, (mR M15 11 this 46) = some (13, i18) ∧ vp_in v1 (mL M15 172 i18) ∧ ∃ i20, (mR (sI M15 172 i18 v1.toNatClampNeg (2 : Int32)) 11 this 46) = some (13, i20) ∧ if (mI (sI M15 172 i18 v1.toNatClampNeg (2 : Int32)) 13 i20 22) = (40 : Int32) then (w_Model_throwNew this (0 : Int32) (8 : Int32) (fun M22 => Q (0 : Int32) M22) (sI M15 172 i18 v1.toNatClampNeg (2 : Int32))) else (w_Model_newFrame this r16 (fun M23 => Q (0 : Int32) M23) (sI M15 172 i18 v1.toNatClampNeg (2 : Int32)))) else (w_Model_endStart this v1 (fun M24 => Q (0 : Int32) M24) M15)) M
def w_Model_startOn_j63 (this : Nat) (Q : Int32 → Mem → Prop) (v1 : Int32) (v2 : Int32) (v3 : Int32) (M : Mem) : Prop :=
  if v3 = 0 then (w_Model_startOn_j78 this Q v1 v2 M) else (if v3 = (2 : Int32) then (Q (2 : Int32) M) else (Q (0 : Int32) M))
def w_Model_startOn (this : Nat) (Q : Int32 → Mem → Prop) (M : Mem) : Prop :=
  ∃ i1, (mR M 11 this 46) = some (13, i1) ∧ ∃ i2, (mR M 11 this 46) = some (13, i2) ∧ vp_in ((mI M 13 i1 16) - (1 : Int32)) (mL M 171 i2) ∧ ∃ x4 : Int32, x4 = ((-1 : Int32) - (mI M 171 i2 ((mI M 13 i1 16) - (1 : Int32)).toNatClampNeg)) ∧ ∃ i5, (mR M 11 this 45) = some (12, i5) ∧ vp_in x4 (mL M 132 i5) ∧ if ((mI M 132 i5 x4.toNatClampNeg) &&& (4 : Int32)) = 0 then (w_Model_parentOf this x4 (fun r9 M8 => w_Model_startOf this r9 (fun r11 M10 => if r11 = (3 : Int32) then (w_Model_throwNew this (mI M10 11 this 81) (mI M10 11 this 80) (fun M13 => w_Model_startOn_j63 this Q ((mI M 13 i1 16) - (1 : Int32)) x4 r11 M13) M10) else (w_Model_startOn_j63 this Q ((mI M 13 i1 16) - (1 : Int32)) x4 r11 M10)) M8) M) else (w_Model_startOn_j78 this Q ((mI M 13 i1 16) - (1 : Int32)) x4 M)
set_option maxRecDepth 4096 in
theorem lk_Model_startOn_j78 {γ : Gm} (hγ : Gk γ) (this : Nat) (Q : Int32 → Mem → Prop) (v1 : Int32) (v2 : Int32) (M : Mem) (h : w_Model_startOn_j78 this Q v1 v2 M) : E γ k_Model_startOn 130 78 [some (vr (some (11, this))), some (vi v1), some (vi v2), none] [] M (Qi Q) := by
  unfold w_Model_startOn_j78 at h
  refine E_blk (lv' := [some (vr (some (11, this))), some (vi v1), some (vi v2), none]) (st' := [vi (mI M 11 this 38), vi (mI M 11 this 7), vi v2, vr (some (11, this))]) (M1 := M) (pc' := 88) (tb_Model hγ) [.aload_n 0, .iload_n 2, .aload_n 0, .getfield 127, .aload_n 0, .getfield 258] (by decide +kernel) rfl rfl trivial ?_
  refine E_callV (κ' := k_Model_methodIn) (As := [vi v2, vi (mI M 11 this 7), vi (mI M 11 this 38)]) (st := []) mv_Model_methodIn (Or.inl (tbk_mem (j := 15) (k := 165) rfl)) rfl (by decide +kernel) (Nat.le_of_ble_eq_true rfl) (Nat.le_of_ble_eq_true rfl) rfl (by decide) (lk_Model_methodIn hγ this v2 (mI M 11 this 7) (mI M 11 this 38) _ M h) (fun _ _ => Qi_r) (fun v M15 hp => Qi_k (R := fun st => E γ k_Model_startOn 130 91 [some (vr (some (11, this))), some (vi v1), some (vi v2), none] st M15 (Qi Q)) hp (fun r16 h => ?_))
  refine E_blk (lv' := [some (vr (some (11, this))), some (vi v1), some (vi v2), some (vi r16)]) (st' := [vi r16]) (M1 := M15) (pc' := 93) (tb_Model hγ) [.istore_n 3, .iload_n 3] (by decide +kernel) rfl rfl trivial ?_
  refine E_if_ge (off := 10) (tgt := 103) (by decide +kernel) (by decide) (fun b17 => ?_) (fun b17 => ?_)
  · rw [if_pos b17] at h
    refine E_blk (lv' := [some (vr (some (11, this))), some (vi v1), some (vi v2), some (vi r16)]) (st' := [vr (mR M15 11 this 46)]) (M1 := M15) (pc' := 107) (tb_Model hγ) [.aload_n 0, .getfield 917] (by decide +kernel) rfl rfl trivial ?_
    obtain ⟨i18, ei18, h⟩ := h
    rw [ei18]
    obtain ⟨c19, h⟩ := h
    refine E_blk (lv' := [some (vr (some (11, this))), some (vi v1), some (vi v2), some (vi r16)]) (st' := [vr (mR (sI M15 172 i18 v1.toNatClampNeg (2 : Int32)) 11 this 46)]) (M1 := (sI M15 172 i18 v1.toNatClampNeg (2 : Int32))) (pc' := 117) (tb_Model hγ) [.getfield 948, .iload_n 1, .iconst 2, .iastore, .aload_n 0, .getfield 917] (by decide +kernel) rfl rfl ⟨c19, trivial⟩ ?_
    obtain ⟨i20, ei20, h⟩ := h
    rw [ei20]
    refine E_blk (lv' := [some (vr (some (11, this))), some (vi v1), some (vi v2), some (vi r16)]) (st' := [vi (40 : Int32), vi (mI (sI M15 172 i18 v1.toNatClampNeg (2 : Int32)) 13 i20 22)]) (M1 := (sI M15 172 i18 v1.toNatClampNeg (2 : Int32))) (pc' := 122) (tb_Model hγ) [.getfield 924, .bipush 40] (by decide +kernel) rfl rfl trivial ?_
    refine E_icmp_ne (off := 13) (tgt := 135) (by decide +kernel) (by decide) (fun b21 => ?_) (fun b21 => ?_)
    · rw [if_pos b21] at h
      refine E_blk (lv' := [some (vr (some (11, this))), some (vi v1), some (vi v2), some (vi r16)]) (st' := [vi (8 : Int32), vi (0 : Int32), vr (some (11, this))]) (M1 := (sI M15 172 i18 v1.toNatClampNeg (2 : Int32))) (pc' := 129) (tb_Model hγ) [.aload_n 0, .iconst 0, .bipush 8] (by decide +kernel) rfl rfl trivial ?_
      refine E_callV (κ' := k_Model_throwNew) (As := [vi (0 : Int32), vi (8 : Int32)]) (st := []) mv_Model_throwNew (Or.inl (tbk_mem (j := 16) (k := 111) rfl)) rfl (by decide +kernel) (Nat.le_of_ble_eq_true rfl) (Nat.le_of_ble_eq_true rfl) rfl (by decide) (lk_Model_throwNew hγ this (0 : Int32) (8 : Int32) _ (sI M15 172 i18 v1.toNatClampNeg (2 : Int32)) h) (fun _ _ => Qv_r) (fun v M22 hp => Qv_k (R := fun st => E γ k_Model_startOn 130 132 [some (vr (some (11, this))), some (vi v1), some (vi v2), some (vi r16)] st M22 (Qi Q)) hp (fun h => ?_))
      refine E_goto (off := 8) (tgt := 140) (by decide +kernel) (by decide) ?_
      refine E_blk (lv' := [some (vr (some (11, this))), some (vi v1), some (vi v2), some (vi r16)]) (st' := [vi (0 : Int32)]) (M1 := M22) (pc' := 141) (tb_Model hγ) [.iconst 0] (by decide +kernel) rfl rfl trivial ?_
      exact E_iret rfl (by decide +kernel) h
    · rw [if_neg b21] at h
      refine E_blk (lv' := [some (vr (some (11, this))), some (vi v1), some (vi v2), some (vi r16)]) (st' := [vi r16, vr (some (11, this))]) (M1 := (sI M15 172 i18 v1.toNatClampNeg (2 : Int32))) (pc' := 137) (tb_Model hγ) [.aload_n 0, .iload_n 3] (by decide +kernel) rfl rfl trivial ?_
      refine E_callV (κ' := k_Model_newFrame) (As := [vi r16]) (st := []) mv_Model_newFrame (Or.inl (tbk_mem (j := 16) (k := 139) rfl)) rfl (by decide +kernel) (Nat.le_of_ble_eq_true rfl) (Nat.le_of_ble_eq_true rfl) rfl (by decide) (lk_Model_newFrame hγ this r16 _ (sI M15 172 i18 v1.toNatClampNeg (2 : Int32)) h) (fun _ _ => Qv_r) (fun v M23 hp => Qv_k (R := fun st => E γ k_Model_startOn 130 140 [some (vr (some (11, this))), some (vi v1), some (vi v2), some (vi r16)] st M23 (Qi Q)) hp (fun h => ?_))
      refine E_blk (lv' := [some (vr (some (11, this))), some (vi v1), some (vi v2), some (vi r16)]) (st' := [vi (0 : Int32)]) (M1 := M23) (pc' := 141) (tb_Model hγ) [.iconst 0] (by decide +kernel) rfl rfl trivial ?_
      exact E_iret rfl (by decide +kernel) h
  · rw [if_neg b17] at h
    refine E_blk (lv' := [some (vr (some (11, this))), some (vi v1), some (vi v2), some (vi r16)]) (st' := [vi v1, vr (some (11, this))]) (M1 := M15) (pc' := 98) (tb_Model hγ) [.aload_n 0, .iload_n 1] (by decide +kernel) rfl rfl trivial ?_
    refine E_callV (κ' := k_Model_endStart) (As := [vi v1]) (st := []) mv_Model_endStart (Or.inl (tbk_mem (j := 16) (k := 147) rfl)) rfl (by decide +kernel) (Nat.le_of_ble_eq_true rfl) (Nat.le_of_ble_eq_true rfl) rfl (by decide) (lk_Model_endStart hγ this v1 _ M15 h) (fun _ _ => Qv_r) (fun v M24 hp => Qv_k (R := fun st => E γ k_Model_startOn 130 101 [some (vr (some (11, this))), some (vi v1), some (vi v2), some (vi r16)] st M24 (Qi Q)) hp (fun h => ?_))
    refine E_blk (lv' := [some (vr (some (11, this))), some (vi v1), some (vi v2), some (vi r16)]) (st' := [vi (0 : Int32)]) (M1 := M24) (pc' := 102) (tb_Model hγ) [.iconst 0] (by decide +kernel) rfl rfl trivial ?_
    exact E_iret rfl (by decide +kernel) h
set_option maxRecDepth 4096 in
theorem lk_Model_startOn_j63 {γ : Gm} (hγ : Gk γ) (this : Nat) (Q : Int32 → Mem → Prop) (v1 : Int32) (v2 : Int32) (v3 : Int32) (M : Mem) (h : w_Model_startOn_j63 this Q v1 v2 v3 M) : E γ k_Model_startOn 130 63 [some (vr (some (11, this))), some (vi v1), some (vi v2), some (vi v3)] [] M (Qi Q) := by
  unfold w_Model_startOn_j63 at h
  refine E_blk (lv' := [some (vr (some (11, this))), some (vi v1), some (vi v2), some (vi v3)]) (st' := [vi v3]) (M1 := M) (pc' := 64) (tb_Model hγ) [.iload_n 3] (by decide +kernel) rfl rfl trivial ?_
  refine E_if_eq (off := 14) (tgt := 78) (by decide +kernel) (by decide) (fun b14 => ?_) (fun b14 => ?_)
  · rw [if_pos b14] at h
    refine E_mask [true, true, true, false] rfl ?_
    exact lk_Model_startOn_j78 hγ this Q v1 v2 M h
  · rw [if_neg b14] at h
    refine E_blk (lv' := [some (vr (some (11, this))), some (vi v1), some (vi v2), some (vi v3)]) (st' := [vi (2 : Int32), vi v3]) (M1 := M) (pc' := 69) (tb_Model hγ) [.iload_n 3, .iconst 2] (by decide +kernel) rfl rfl trivial ?_
    refine E_icmp_ne (off := 7) (tgt := 76) (by decide +kernel) (by decide) (fun b25 => ?_) (fun b25 => ?_)
    · rw [if_pos b25] at h
      refine E_blk (lv' := [some (vr (some (11, this))), some (vi v1), some (vi v2), some (vi v3)]) (st' := [vi (2 : Int32)]) (M1 := M) (pc' := 73) (tb_Model hγ) [.iconst 2] (by decide +kernel) rfl rfl trivial ?_
      refine E_goto (off := 4) (tgt := 77) (by decide +kernel) (by decide) ?_
      exact E_iret rfl (by decide +kernel) h
    · rw [if_neg b25] at h
      refine E_blk (lv' := [some (vr (some (11, this))), some (vi v1), some (vi v2), some (vi v3)]) (st' := [vi (0 : Int32)]) (M1 := M) (pc' := 77) (tb_Model hγ) [.iconst 0] (by decide +kernel) rfl rfl trivial ?_
      exact E_iret rfl (by decide +kernel) h
set_option maxRecDepth 4096 in
theorem lk_Model_startOn {γ : Gm} (hγ : Gk γ) (this : Nat) (Q : Int32 → Mem → Prop) (M : Mem) (h : w_Model_startOn this Q M) : E γ k_Model_startOn 130 0 [some (vr (some (11, this))), none, none, none] [] M (Qi Q) := by
  unfold w_Model_startOn at h
  refine E_blk (lv' := [some (vr (some (11, this))), none, none, none]) (st' := [vr (mR M 11 this 46)]) (M1 := M) (pc' := 4) (tb_Model hγ) [.aload_n 0, .getfield 917] (by decide +kernel) rfl rfl trivial ?_
  obtain ⟨i1, ei1, h⟩ := h
  rw [ei1]
  refine E_blk (lv' := [some (vr (some (11, this))), some (vi ((mI M 13 i1 16) - (1 : Int32))), none, none]) (st' := [vr (mR M 11 this 46), vi (-1 : Int32)]) (M1 := M) (pc' := 15) (tb_Model hγ) [.getfield 945, .iconst 1, .isub, .istore_n 1, .iconst (.negSucc 0), .aload_n 0, .getfield 917] (by decide +kernel) rfl rfl trivial ?_
  obtain ⟨i2, ei2, h⟩ := h
  rw [ei2]
  obtain ⟨c3, h⟩ := h
  refine E_blk (lv' := [some (vr (some (11, this))), some (vi ((mI M 13 i1 16) - (1 : Int32))), some (vi ((-1 : Int32) - (mI M 171 i2 ((mI M 13 i1 16) - (1 : Int32)).toNatClampNeg))), none]) (st' := []) (M1 := M) (pc' := 22) (tb_Model hγ) [.getfield 942, .iload_n 1, .iaload, .isub, .istore_n 2] (by decide +kernel) rfl rfl ⟨c3, trivial⟩ ?_
  obtain ⟨x4, ex4, h⟩ := h
  rw [← ex4]
  refine E_blk (lv' := [some (vr (some (11, this))), some (vi ((mI M 13 i1 16) - (1 : Int32))), some (vi x4), none]) (st' := [vr (mR M 11 this 45)]) (M1 := M) (pc' := 26) (tb_Model hγ) [.aload_n 0, .getfield 522] (by decide +kernel) rfl rfl trivial ?_
  obtain ⟨i5, ei5, h⟩ := h
  rw [ei5]
  obtain ⟨c6, h⟩ := h
  refine E_blk (lv' := [some (vr (some (11, this))), some (vi ((mI M 13 i1 16) - (1 : Int32))), some (vi x4), none]) (st' := [vi ((mI M 132 i5 x4.toNatClampNeg) &&& (4 : Int32))]) (M1 := M) (pc' := 33) (tb_Model hγ) [.getfield 429, .iload_n 2, .iaload, .iconst 4, .iand] (by decide +kernel) rfl rfl ⟨c6, trivial⟩ ?_
  refine E_if_ne (off := 45) (tgt := 78) (by decide +kernel) (by decide) (fun b7 => ?_) (fun b7 => ?_)
  · rw [if_pos b7] at h
    refine E_blk (lv' := [some (vr (some (11, this))), some (vi ((mI M 13 i1 16) - (1 : Int32))), some (vi x4), none]) (st' := [vi x4, vr (some (11, this)), vr (some (11, this))]) (M1 := M) (pc' := 39) (tb_Model hγ) [.aload_n 0, .aload_n 0, .iload_n 2] (by decide +kernel) rfl rfl trivial ?_
    refine E_callV (κ' := k_Model_parentOf) (As := [vi x4]) (st := [vr (some (11, this))]) mv_Model_parentOf (Or.inl (tbk_mem (j := 15) (k := 157) rfl)) rfl (by decide +kernel) (Nat.le_of_ble_eq_true rfl) (Nat.le_of_ble_eq_true rfl) rfl (by decide) (lk_Model_parentOf hγ this x4 _ M h) (fun _ _ => Qi_r) (fun v M8 hp => Qi_k (R := fun st => E γ k_Model_startOn 130 42 [some (vr (some (11, this))), some (vi ((mI M 13 i1 16) - (1 : Int32))), some (vi x4), none] st M8 (Qi Q)) hp (fun r9 h => ?_))
    refine E_callV (κ' := k_Model_startOf) (As := [vi r9]) (st := []) mv_Model_startOf (Or.inl (tbk_mem (j := 16) (k := 103) rfl)) rfl (by decide +kernel) (Nat.le_of_ble_eq_true rfl) (Nat.le_of_ble_eq_true rfl) rfl (by decide) (lk_Model_startOf hγ this r9 _ M8 h) (fun _ _ => Qi_r) (fun v M10 hp => Qi_k (R := fun st => E γ k_Model_startOn 130 45 [some (vr (some (11, this))), some (vi ((mI M 13 i1 16) - (1 : Int32))), some (vi x4), none] st M10 (Qi Q)) hp (fun r11 h => ?_))
    refine E_blk (lv' := [some (vr (some (11, this))), some (vi ((mI M 13 i1 16) - (1 : Int32))), some (vi x4), some (vi r11)]) (st' := [vi (3 : Int32), vi r11]) (M1 := M10) (pc' := 48) (tb_Model hγ) [.istore_n 3, .iload_n 3, .iconst 3] (by decide +kernel) rfl rfl trivial ?_
    refine E_icmp_ne (off := 15) (tgt := 63) (by decide +kernel) (by decide) (fun b12 => ?_) (fun b12 => ?_)
    · rw [if_pos b12] at h
      refine E_blk (lv' := [some (vr (some (11, this))), some (vi ((mI M 13 i1 16) - (1 : Int32))), some (vi x4), some (vi r11)]) (st' := [vi (mI M10 11 this 80), vi (mI M10 11 this 81), vr (some (11, this))]) (M1 := M10) (pc' := 60) (tb_Model hγ) [.aload_n 0, .aload_n 0, .getfield 844, .aload_n 0, .getfield 847] (by decide +kernel) rfl rfl trivial ?_
      refine E_callV (κ' := k_Model_throwNew) (As := [vi (mI M10 11 this 81), vi (mI M10 11 this 80)]) (st := []) mv_Model_throwNew (Or.inl (tbk_mem (j := 16) (k := 111) rfl)) rfl (by decide +kernel) (Nat.le_of_ble_eq_true rfl) (Nat.le_of_ble_eq_true rfl) rfl (by decide) (lk_Model_throwNew hγ this (mI M10 11 this 81) (mI M10 11 this 80) _ M10 h) (fun _ _ => Qv_r) (fun v M13 hp => Qv_k (R := fun st => E γ k_Model_startOn 130 63 [some (vr (some (11, this))), some (vi ((mI M 13 i1 16) - (1 : Int32))), some (vi x4), some (vi r11)] st M13 (Qi Q)) hp (fun h => ?_))
      refine E_mask [true, true, true, true] rfl ?_
      exact lk_Model_startOn_j63 hγ this Q ((mI M 13 i1 16) - (1 : Int32)) x4 r11 M13 h
    · rw [if_neg b12] at h
      refine E_mask [true, true, true, true] rfl ?_
      exact lk_Model_startOn_j63 hγ this Q ((mI M 13 i1 16) - (1 : Int32)) x4 r11 M10 h
  · rw [if_neg b7] at h
    refine E_mask [true, true, true, false] rfl ?_
    exact lk_Model_startOn_j78 hγ this Q ((mI M 13 i1 16) - (1 : Int32)) x4 M h
def w_Model_tally (this : Nat) (a1 : Int32) (Q : Mem → Prop) (M : Mem) : Prop :=
  ∃ i1, (mR M 11 this 46) = some (13, i1) ∧ ∃ i2, (mR (sI M 13 i1 3 ((mI M 13 i1 3) + (1 : Int32))) 11 this 45) = some (12, i2) ∧ vp_in a1 (mL (sI M 13 i1 3 ((mI M 13 i1 3) + (1 : Int32))) 169 i2) ∧ vp_in a1 (mL (sI M 13 i1 3 ((mI M 13 i1 3) + (1 : Int32))) 169 i2) ∧ ∃ M5, M5 = (sI (sI M 13 i1 3 ((mI M 13 i1 3) + (1 : Int32))) 169 i2 a1.toNatClampNeg ((mI (sI M 13 i1 3 ((mI M 13 i1 3) + (1 : Int32))) 169 i2 a1.toNatClampNeg) + (1 : Int32))) ∧ Q M5
set_option maxRecDepth 4096 in
theorem lk_Model_tally {γ : Gm} (hγ : Gk γ) (this : Nat) (a1 : Int32) (Q : Mem → Prop) (M : Mem) (h : w_Model_tally this a1 Q M) : E γ k_Model_tally 0 0 [some (vr (some (11, this))), some (vi a1)] [] M (Qv Q) := by
  unfold w_Model_tally at h
  refine E_blk (lv' := [some (vr (some (11, this))), some (vi a1)]) (st' := [vr (mR M 11 this 46)]) (M1 := M) (pc' := 4) (tb_Model hγ) [.aload_n 0, .getfield 917] (by decide +kernel) rfl rfl trivial ?_
  obtain ⟨i1, ei1, h⟩ := h
  rw [ei1]
  refine E_blk (lv' := [some (vr (some (11, this))), some (vi a1)]) (st' := [vr (mR (sI M 13 i1 3 ((mI M 13 i1 3) + (1 : Int32))) 11 this 45)]) (M1 := (sI M 13 i1 3 ((mI M 13 i1 3) + (1 : Int32)))) (pc' := 17) (tb_Model hγ) [.dup, .getfield 921, .iconst 1, .iadd, .putfield 921, .aload_n 0, .getfield 522] (by decide +kernel) rfl rfl trivial ?_
  obtain ⟨i2, ei2, h⟩ := h
  rw [ei2]
  obtain ⟨c3, c4, h⟩ := h
  refine E_blk (lv' := [some (vr (some (11, this))), some (vi a1)]) (st' := []) (M1 := (sI (sI M 13 i1 3 ((mI M 13 i1 3) + (1 : Int32))) 169 i2 a1.toNatClampNeg ((mI (sI M 13 i1 3 ((mI M 13 i1 3) + (1 : Int32))) 169 i2 a1.toNatClampNeg) + (1 : Int32)))) (pc' := 26) (tb_Model hγ) [.getfield 504, .iload_n 1, .dup2, .iaload, .iconst 1, .iadd, .iastore] (by decide +kernel) rfl rfl ⟨c3, c4, trivial⟩ ?_
  obtain ⟨M5, eM5, h⟩ := h
  rw [← eM5]
  exact E_vret rfl (by decide +kernel) h
def w_Model_throwsAt (this : Nat) (a1 : Int32) (a2 : Int32) (a3 : Int32) (Q : Int32 → Mem → Prop) (M : Mem) : Prop :=
  w_Model_tally this a1 (fun M1 => w_Model_throwNew this a2 a3 (fun M2 => Q (1 : Int32) M2) M1) M
set_option maxRecDepth 4096 in
theorem lk_Model_throwsAt {γ : Gm} (hγ : Gk γ) (this : Nat) (a1 : Int32) (a2 : Int32) (a3 : Int32) (Q : Int32 → Mem → Prop) (M : Mem) (h : w_Model_throwsAt this a1 a2 a3 Q M) : E γ k_Model_throwsAt 8 0 [some (vr (some (11, this))), some (vi a1), some (vi a2), some (vi a3)] [] M (Qi Q) := by
  unfold w_Model_throwsAt at h
  refine E_blk (lv' := [some (vr (some (11, this))), some (vi a1), some (vi a2), some (vi a3)]) (st' := [vi a1, vr (some (11, this))]) (M1 := M) (pc' := 2) (tb_Model hγ) [.aload_n 0, .iload_n 1] (by decide +kernel) rfl rfl trivial ?_
  refine E_callV (κ' := k_Model_tally) (As := [vi a1]) (st := []) mv_Model_tally (Or.inl (tbk_mem (j := 16) (k := 171) rfl)) rfl (by decide +kernel) (Nat.le_of_ble_eq_true rfl) (Nat.le_of_ble_eq_true rfl) rfl (by decide) (lk_Model_tally hγ this a1 _ M h) (fun _ _ => Qv_r) (fun v M1 hp => Qv_k (R := fun st => E γ k_Model_throwsAt 8 5 [some (vr (some (11, this))), some (vi a1), some (vi a2), some (vi a3)] st M1 (Qi Q)) hp (fun h => ?_))
  refine E_blk (lv' := [some (vr (some (11, this))), some (vi a1), some (vi a2), some (vi a3)]) (st' := [vi a3, vi a2, vr (some (11, this))]) (M1 := M1) (pc' := 8) (tb_Model hγ) [.aload_n 0, .iload_n 2, .iload_n 3] (by decide +kernel) rfl rfl trivial ?_
  refine E_callV (κ' := k_Model_throwNew) (As := [vi a2, vi a3]) (st := []) mv_Model_throwNew (Or.inl (tbk_mem (j := 16) (k := 111) rfl)) rfl (by decide +kernel) (Nat.le_of_ble_eq_true rfl) (Nat.le_of_ble_eq_true rfl) rfl (by decide) (lk_Model_throwNew hγ this a2 a3 _ M1 h) (fun _ _ => Qv_r) (fun v M2 hp => Qv_k (R := fun st => E γ k_Model_throwsAt 8 11 [some (vr (some (11, this))), some (vi a1), some (vi a2), some (vi a3)] st M2 (Qi Q)) hp (fun h => ?_))
  refine E_blk (lv' := [some (vr (some (11, this))), some (vi a1), some (vi a2), some (vi a3)]) (st' := [vi (1 : Int32)]) (M1 := M2) (pc' := 12) (tb_Model hγ) [.iconst 1] (by decide +kernel) rfl rfl trivial ?_
  exact E_iret rfl (by decide +kernel) h
def w_Model_fieldStep_j164 (this : Nat) (Q : Int32 → Mem → Prop) (v1 : Int32) (M : Mem) : Prop :=
  ∃ i17, (mR M 11 this 46) = some (13, i17) ∧ vp_in v1 (mL M 174 i17) ∧ vp_in v1 (mL M 174 i17) ∧ ∃ M20, M20 = (sI M 174 i17 v1.toNatClampNeg ((mI M 174 i17 v1.toNatClampNeg) + (1 : Int32))) ∧ Q (1 : Int32) M20
def w_Model_fieldStep_j65 (this : Nat) (Q : Int32 → Mem → Prop) (v1 : Int32) (v4 : Int32) (v5 : Int32) (v6 : Int32) (M : Mem) : Prop :=
  ¬ (8 : Int32) = 0 ∧ w_Model_startOf this (v5 / (8 : Int32)) (fun r10 M9 => if r10 = 0 then (w_Model_tally this v4 (fun M12 => if v4 = (48 : Int32) then (∃ i14, (mR M12 11 this 45) = some (12, i14) ∧ vp_in v5 (mL M12 143 i14) ∧ w_Model_push this v1 (mI M12 143 i14 v5.toNatClampNeg) v6 (fun M16 => w_Model_fieldStep_j164 this Q v1 M16) M12) else (∃ i21, (mR M12 11 this 45) = some (12, i21) ∧ w_Model_pop this v1 (fun r23 M22 => vp_in v5 (mL M22 143 i21) ∧ w_Model_fieldStep_j164 this Q v1 (sI M22 143 i21 v5.toNatClampNeg r23)) M12)) M9) else (if r10 = (3 : Int32) then (w_Model_throwsAt this v4 (mI M9 11 this 81) (mI M9 11 this 80) (fun r27 M26 => Q r27 M26) M9) else (if r10 = (2 : Int32) then (Q (2 : Int32) M9) else (Q (0 : Int32) M9)))) M
def w_Model_fieldStep_j281 (this : Nat) (Q : Int32 → Mem → Prop) (v1 : Int32) (M : Mem) : Prop :=
  ∃ i46, (mR M 11 this 46) = some (13, i46) ∧ vp_in v1 (mL M 174 i46) ∧ vp_in v1 (mL M 174 i46) ∧ ∃ M49, M49 = (sI M 174 i46 v1.toNatClampNeg ((mI M 174 i46 v1.toNatClampNeg) + (1 : Int32))) ∧ Q (1 : Int32) M49
def w_Model_fieldStep_j201 (this : Nat) (Q : Int32 → Mem → Prop) (v1 : Int32) (v4 : Int32) (v5 : Int32) (v6 : Int32) (s0 : Int32) (M : Mem) : Prop :=
  w_Model_pop this v1 (fun r35 M34 => if r35 = 0 then (w_Model_throwNew this (0 : Int32) (2 : Int32) (fun M37 => Q (1 : Int32) M37) M34) else (∃ i38, (mR M34 11 this 45) = some (12, i38) ∧ vp_in r35 (mL M34 158 i38) ∧ w_Model_slotOf this v5 (fun r41 M40 => if v4 = (47 : Int32) then (∃ i43, (mR M40 11 this 45) = some (12, i43) ∧ vp_in ((mI M34 158 i38 r35.toNatClampNeg) + r41) (mL M40 161 i43) ∧ ∃ M45, M45 = (sI M40 161 i43 ((mI M34 158 i38 r35.toNatClampNeg) + r41).toNatClampNeg s0) ∧ w_Model_fieldStep_j281 this Q v1 M45) else (∃ i50, (mR M40 11 this 45) = some (12, i50) ∧ vp_in ((mI M34 158 i38 r35.toNatClampNeg) + r41) (mL M40 161 i50) ∧ w_Model_push this v1 (mI M40 161 i50 ((mI M34 158 i38 r35.toNatClampNeg) + r41).toNatClampNeg) v6 (fun M52 => w_Model_fieldStep_j281 this Q v1 M52) M40)) M34)) M
def w_Model_fieldStep_j49 (this : Nat) (Q : Int32 → Mem → Prop) (v1 : Int32) (v4 : Int32) (v5 : Int32) (s0 : Int32) (M : Mem) : Prop :=
  if v4 = (48 : Int32) then (w_Model_fieldStep_j65 this Q v1 v4 v5 s0 M) else (if v4 = (49 : Int32) then (w_Model_fieldStep_j65 this Q v1 v4 v5 s0 M) else (w_Model_tally this v4 (fun M30 => if v4 = (47 : Int32) then (w_Model_pop this v1 (fun r33 M32 => w_Model_fieldStep_j201 this Q v1 v4 v5 s0 r33 M32) M30) else (w_Model_fieldStep_j201 this Q v1 v4 v5 s0 (0 : Int32) M30)) M))
def w_Model_fieldStep (this : Nat) (a1 : Int32) (a2 : Int32) (a3 : Int32) (a4 : Int32) (Q : Int32 → Mem → Prop) (M : Mem) : Prop :=
  w_Model_findField this a4 a3 a2 (fun r2 M1 => if 0 ≤ r2 then (∃ i4, (mR M1 11 this 45) = some (12, i4) ∧ vp_in r2 (mL M1 140 i4) ∧ if (mI M1 140 i4 r2.toNatClampNeg) = (1 : Int32) then (w_Model_fieldStep_j49 this Q a1 a4 r2 (0 : Int32) M1) else (w_Model_fieldStep_j49 this Q a1 a4 r2 (1 : Int32) M1)) else (w_Model_throwsAt this a4 (mI M1 11 this 81) (mI M1 11 this 80) (fun r54 M53 => Q r54 M53) M1)) M
set_option maxRecDepth 4096 in
theorem lk_Model_fieldStep_j164 {γ : Gm} (hγ : Gk γ) (this : Nat) (Q : Int32 → Mem → Prop) (v1 : Int32) (M : Mem) (h : w_Model_fieldStep_j164 this Q v1 M) : E γ k_Model_fieldStep 131 164 [some (vr (some (11, this))), some (vi v1), none, none, none, none, none, none, none, none] [] M (Qi Q) := by
  unfold w_Model_fieldStep_j164 at h
  refine E_blk (lv' := [some (vr (some (11, this))), some (vi v1), none, none, none, none, none, none, none, none]) (st' := [vr (mR M 11 this 46)]) (M1 := M) (pc' := 168) (tb_Model hγ) [.aload_n 0, .getfield 917] (by decide +kernel) rfl rfl trivial ?_
  obtain ⟨i17, ei17, h⟩ := h
  rw [ei17]
  obtain ⟨c18, c19, h⟩ := h
  refine E_blk (lv' := [some (vr (some (11, this))), some (vi v1), none, none, none, none, none, none, none, none]) (st' := []) (M1 := (sI M 174 i17 v1.toNatClampNeg ((mI M 174 i17 v1.toNatClampNeg) + (1 : Int32)))) (pc' := 177) (tb_Model hγ) [.getfield 930, .iload_n 1, .dup2, .iaload, .iconst 1, .iadd, .iastore] (by decide +kernel) rfl rfl ⟨c18, c19, trivial⟩ ?_
  obtain ⟨M20, eM20, h⟩ := h
  rw [← eM20]
  refine E_blk (lv' := [some (vr (some (11, this))), some (vi v1), none, none, none, none, none, none, none, none]) (st' := [vi (1 : Int32)]) (M1 := M20) (pc' := 178) (tb_Model hγ) [.iconst 1] (by decide +kernel) rfl rfl trivial ?_
  exact E_iret rfl (by decide +kernel) h
set_option maxRecDepth 4096 in
theorem lk_Model_fieldStep_j65 {γ : Gm} (hγ : Gk γ) (this : Nat) (Q : Int32 → Mem → Prop) (v1 : Int32) (v4 : Int32) (v5 : Int32) (v6 : Int32) (M : Mem) (h : w_Model_fieldStep_j65 this Q v1 v4 v5 v6 M) : E γ k_Model_fieldStep 131 65 [some (vr (some (11, this))), some (vi v1), none, none, some (vi v4), some (vi v5), some (vi v6), none, none, none] [] M (Qi Q) := by
  unfold w_Model_fieldStep_j65 at h
  obtain ⟨c8, h⟩ := h
  refine E_blk (lv' := [some (vr (some (11, this))), some (vi v1), none, none, some (vi v4), some (vi v5), some (vi v6), none, none, none]) (st' := [vi (v5 / (8 : Int32)), vr (some (11, this))]) (M1 := M) (pc' := 71) (tb_Model hγ) [.aload_n 0, .iload 5, .bipush 8, .idiv] (by decide +kernel) rfl rfl ⟨c8, trivial⟩ ?_
  refine E_callV (κ' := k_Model_startOf) (As := [vi (v5 / (8 : Int32))]) (st := []) mv_Model_startOf (Or.inl (tbk_mem (j := 16) (k := 103) rfl)) rfl (by decide +kernel) (Nat.le_of_ble_eq_true rfl) (Nat.le_of_ble_eq_true rfl) rfl (by decide) (lk_Model_startOf hγ this (v5 / (8 : Int32)) _ M h) (fun _ _ => Qi_r) (fun v M9 hp => Qi_k (R := fun st => E γ k_Model_fieldStep 131 74 [some (vr (some (11, this))), some (vi v1), none, none, some (vi v4), some (vi v5), some (vi v6), none, none, none] st M9 (Qi Q)) hp (fun r10 h => ?_))
  refine E_blk (lv' := [some (vr (some (11, this))), some (vi v1), none, none, some (vi v4), some (vi v5), some (vi v6), some (vi r10), none, none]) (st' := [vi r10]) (M1 := M9) (pc' := 78) (tb_Model hγ) [.istore 7, .iload 7] (by decide +kernel) rfl rfl trivial ?_
  refine E_if_eq (off := 38) (tgt := 116) (by decide +kernel) (by decide) (fun b11 => ?_) (fun b11 => ?_)
  · rw [if_pos b11] at h
    refine E_blk (lv' := [some (vr (some (11, this))), some (vi v1), none, none, some (vi v4), some (vi v5), some (vi v6), some (vi r10), none, none]) (st' := [vi v4, vr (some (11, this))]) (M1 := M9) (pc' := 119) (tb_Model hγ) [.aload_n 0, .iload 4] (by decide +kernel) rfl rfl trivial ?_
    refine E_callV (κ' := k_Model_tally) (As := [vi v4]) (st := []) mv_Model_tally (Or.inl (tbk_mem (j := 16) (k := 171) rfl)) rfl (by decide +kernel) (Nat.le_of_ble_eq_true rfl) (Nat.le_of_ble_eq_true rfl) rfl (by decide) (lk_Model_tally hγ this v4 _ M9 h) (fun _ _ => Qv_r) (fun v M12 hp => Qv_k (R := fun st => E γ k_Model_fieldStep 131 122 [some (vr (some (11, this))), some (vi v1), none, none, some (vi v4), some (vi v5), some (vi v6), some (vi r10), none, none] st M12 (Qi Q)) hp (fun h => ?_))
    refine E_blk (lv' := [some (vr (some (11, this))), some (vi v1), none, none, some (vi v4), some (vi v5), some (vi v6), some (vi r10), none, none]) (st' := [vi (48 : Int32), vi v4]) (M1 := M12) (pc' := 126) (tb_Model hγ) [.iload 4, .bipush 48] (by decide +kernel) rfl rfl trivial ?_
    refine E_icmp_ne (off := 23) (tgt := 149) (by decide +kernel) (by decide) (fun b13 => ?_) (fun b13 => ?_)
    · rw [if_pos b13] at h
      refine E_blk (lv' := [some (vr (some (11, this))), some (vi v1), none, none, some (vi v4), some (vi v5), some (vi v6), some (vi r10), none, none]) (st' := [vr (mR M12 11 this 45), vi v1, vr (some (11, this))]) (M1 := M12) (pc' := 135) (tb_Model hγ) [.aload_n 0, .iload_n 1, .aload_n 0, .getfield 522] (by decide +kernel) rfl rfl trivial ?_
      obtain ⟨i14, ei14, h⟩ := h
      rw [ei14]
      obtain ⟨c15, h⟩ := h
      refine E_blk (lv' := [some (vr (some (11, this))), some (vi v1), none, none, some (vi v4), some (vi v5), some (vi v6), some (vi r10), none, none]) (st' := [vi v6, vi (mI M12 143 i14 v5.toNatClampNeg), vi v1, vr (some (11, this))]) (M1 := M12) (pc' := 143) (tb_Model hγ) [.getfield 636, .iload 5, .iaload, .iload 6] (by decide +kernel) rfl rfl ⟨c15, trivial⟩ ?_
      refine E_callV (κ' := k_Model_push) (As := [vi v1, vi (mI M12 143 i14 v5.toNatClampNeg), vi v6]) (st := []) mv_Model_push (Or.inl (tbk_mem (j := 16) (k := 135) rfl)) rfl (by decide +kernel) (Nat.le_of_ble_eq_true rfl) (Nat.le_of_ble_eq_true rfl) rfl (by decide) (lk_Model_push hγ this v1 (mI M12 143 i14 v5.toNatClampNeg) v6 _ M12 h) (fun _ _ => Qv_r) (fun v M16 hp => Qv_k (R := fun st => E γ k_Model_fieldStep 131 146 [some (vr (some (11, this))), some (vi v1), none, none, some (vi v4), some (vi v5), some (vi v6), some (vi r10), none, none] st M16 (Qi Q)) hp (fun h => ?_))
      refine E_goto (off := 18) (tgt := 164) (by decide +kernel) (by decide) ?_
      refine E_mask [true, true, false, false, false, false, false, false, false, false] rfl ?_
      exact lk_Model_fieldStep_j164 hγ this Q v1 M16 h
    · rw [if_neg b13] at h
      refine E_blk (lv' := [some (vr (some (11, this))), some (vi v1), none, none, some (vi v4), some (vi v5), some (vi v6), some (vi r10), none, none]) (st' := [vr (mR M12 11 this 45)]) (M1 := M12) (pc' := 153) (tb_Model hγ) [.aload_n 0, .getfield 522] (by decide +kernel) rfl rfl trivial ?_
      obtain ⟨i21, ei21, h⟩ := h
      rw [ei21]
      refine E_blk (lv' := [some (vr (some (11, this))), some (vi v1), none, none, some (vi v4), some (vi v5), some (vi v6), some (vi r10), none, none]) (st' := [vi v1, vr (some (11, this)), vi v5, vr (some (143, i21))]) (M1 := M12) (pc' := 160) (tb_Model hγ) [.getfield 636, .iload 5, .aload_n 0, .iload_n 1] (by decide +kernel) rfl rfl trivial ?_
      refine E_callV (κ' := k_Model_pop) (As := [vi v1]) (st := [vi v5, vr (some (143, i21))]) mv_Model_pop (Or.inl (tbk_mem (j := 16) (k := 175) rfl)) rfl (by decide +kernel) (Nat.le_of_ble_eq_true rfl) (Nat.le_of_ble_eq_true rfl) rfl (by decide) (lk_Model_pop hγ this v1 _ M12 h) (fun _ _ => Qi_r) (fun v M22 hp => Qi_k (R := fun st => E γ k_Model_fieldStep 131 163 [some (vr (some (11, this))), some (vi v1), none, none, some (vi v4), some (vi v5), some (vi v6), some (vi r10), none, none] st M22 (Qi Q)) hp (fun r23 h => ?_))
      obtain ⟨c24, h⟩ := h
      refine E_blk (lv' := [some (vr (some (11, this))), some (vi v1), none, none, some (vi v4), some (vi v5), some (vi v6), some (vi r10), none, none]) (st' := []) (M1 := (sI M22 143 i21 v5.toNatClampNeg r23)) (pc' := 164) (tb_Model hγ) [.iastore] (by decide +kernel) rfl rfl ⟨c24, trivial⟩ ?_
      refine E_mask [true, true, false, false, false, false, false, false, false, false] rfl ?_
      exact lk_Model_fieldStep_j164 hγ this Q v1 (sI M22 143 i21 v5.toNatClampNeg r23) h
  · rw [if_neg b11] at h
    refine E_blk (lv' := [some (vr (some (11, this))), some (vi v1), none, none, some (vi v4), some (vi v5), some (vi v6), some (vi r10), none, none]) (st' := [vi (3 : Int32), vi r10]) (M1 := M9) (pc' := 84) (tb_Model hγ) [.iload 7, .iconst 3] (by decide +kernel) rfl rfl trivial ?_
    refine E_icmp_ne (off := 20) (tgt := 104) (by decide +kernel) (by decide) (fun b25 => ?_) (fun b25 => ?_)
    · rw [if_pos b25] at h
      refine E_blk (lv' := [some (vr (some (11, this))), some (vi v1), none, none, some (vi v4), some (vi v5), some (vi v6), some (vi r10), none, none]) (st' := [vi (mI M9 11 this 80), vi (mI M9 11 this 81), vi v4, vr (some (11, this))]) (M1 := M9) (pc' := 98) (tb_Model hγ) [.aload_n 0, .iload 4, .aload_n 0, .getfield 844, .aload_n 0, .getfield 847] (by decide +kernel) rfl rfl trivial ?_
      refine E_callV (κ' := k_Model_throwsAt) (As := [vi v4, vi (mI M9 11 this 81), vi (mI M9 11 this 80)]) (st := []) mv_Model_throwsAt (Or.inl (tbk_mem (j := 16) (k := 167) rfl)) rfl (by decide +kernel) (Nat.le_of_ble_eq_true rfl) (Nat.le_of_ble_eq_true rfl) rfl (by decide) (lk_Model_throwsAt hγ this v4 (mI M9 11 this 81) (mI M9 11 this 80) _ M9 h) (fun _ _ => Qi_r) (fun v M26 hp => Qi_k (R := fun st => E γ k_Model_fieldStep 131 101 [some (vr (some (11, this))), some (vi v1), none, none, some (vi v4), some (vi v5), some (vi v6), some (vi r10), none, none] st M26 (Qi Q)) hp (fun r27 h => ?_))
      refine E_goto (off := 14) (tgt := 115) (by decide +kernel) (by decide) ?_
      exact E_iret rfl (by decide +kernel) h
    · rw [if_neg b25] at h
      refine E_blk (lv' := [some (vr (some (11, this))), some (vi v1), none, none, some (vi v4), some (vi v5), some (vi v6), some (vi r10), none, none]) (st' := [vi (2 : Int32), vi r10]) (M1 := M9) (pc' := 107) (tb_Model hγ) [.iload 7, .iconst 2] (by decide +kernel) rfl rfl trivial ?_
      refine E_icmp_ne (off := 7) (tgt := 114) (by decide +kernel) (by decide) (fun b28 => ?_) (fun b28 => ?_)
      · rw [if_pos b28] at h
        refine E_blk (lv' := [some (vr (some (11, this))), some (vi v1), none, none, some (vi v4), some (vi v5), some (vi v6), some (vi r10), none, none]) (st' := [vi (2 : Int32)]) (M1 := M9) (pc' := 111) (tb_Model hγ) [.iconst 2] (by decide +kernel) rfl rfl trivial ?_
        refine E_goto (off := 4) (tgt := 115) (by decide +kernel) (by decide) ?_
        exact E_iret rfl (by decide +kernel) h
      · rw [if_neg b28] at h
        refine E_blk (lv' := [some (vr (some (11, this))), some (vi v1), none, none, some (vi v4), some (vi v5), some (vi v6), some (vi r10), none, none]) (st' := [vi (0 : Int32)]) (M1 := M9) (pc' := 115) (tb_Model hγ) [.iconst 0] (by decide +kernel) rfl rfl trivial ?_
        exact E_iret rfl (by decide +kernel) h
set_option maxRecDepth 4096 in
theorem lk_Model_fieldStep_j281 {γ : Gm} (hγ : Gk γ) (this : Nat) (Q : Int32 → Mem → Prop) (v1 : Int32) (M : Mem) (h : w_Model_fieldStep_j281 this Q v1 M) : E γ k_Model_fieldStep 131 281 [some (vr (some (11, this))), some (vi v1), none, none, none, none, none, none, none, none] [] M (Qi Q) := by
  unfold w_Model_fieldStep_j281 at h
  refine E_blk (lv' := [some (vr (some (11, this))), some (vi v1), none, none, none, none, none, none, none, none]) (st' := [vr (mR M 11 this 46)]) (M1 := M) (pc' := 285) (tb_Model hγ) [.aload_n 0, .getfield 917] (by decide +kernel) rfl rfl trivial ?_
  obtain ⟨i46, ei46, h⟩ := h
  rw [ei46]
  obtain ⟨c47, c48, h⟩ := h
  refine E_blk (lv' := [some (vr (some (11, this))), some (vi v1), none, none, none, none, none, none, none, none]) (st' := []) (M1 := (sI M 174 i46 v1.toNatClampNeg ((mI M 174 i46 v1.toNatClampNeg) + (1 : Int32)))) (pc' := 294) (tb_Model hγ) [.getfield 930, .iload_n 1, .dup2, .iaload, .iconst 1, .iadd, .iastore] (by decide +kernel) rfl rfl ⟨c47, c48, trivial⟩ ?_
  obtain ⟨M49, eM49, h⟩ := h
  rw [← eM49]
  refine E_blk (lv' := [some (vr (some (11, this))), some (vi v1), none, none, none, none, none, none, none, none]) (st' := [vi (1 : Int32)]) (M1 := M49) (pc' := 295) (tb_Model hγ) [.iconst 1] (by decide +kernel) rfl rfl trivial ?_
  exact E_iret rfl (by decide +kernel) h
set_option maxRecDepth 4096 in
theorem lk_Model_fieldStep_j201 {γ : Gm} (hγ : Gk γ) (this : Nat) (Q : Int32 → Mem → Prop) (v1 : Int32) (v4 : Int32) (v5 : Int32) (v6 : Int32) (s0 : Int32) (M : Mem) (h : w_Model_fieldStep_j201 this Q v1 v4 v5 v6 s0 M) : E γ k_Model_fieldStep 131 201 [some (vr (some (11, this))), some (vi v1), none, none, some (vi v4), some (vi v5), some (vi v6), none, none, none] [vi s0] M (Qi Q) := by
  unfold w_Model_fieldStep_j201 at h
  refine E_blk (lv' := [some (vr (some (11, this))), some (vi v1), none, none, some (vi v4), some (vi v5), some (vi v6), some (vi s0), none, none]) (st' := [vi v1, vr (some (11, this))]) (M1 := M) (pc' := 205) (tb_Model hγ) [.istore 7, .aload_n 0, .iload_n 1] (by decide +kernel) rfl rfl trivial ?_
  refine E_callV (κ' := k_Model_pop) (As := [vi v1]) (st := []) mv_Model_pop (Or.inl (tbk_mem (j := 16) (k := 175) rfl)) rfl (by decide +kernel) (Nat.le_of_ble_eq_true rfl) (Nat.le_of_ble_eq_true rfl) rfl (by decide) (lk_Model_pop hγ this v1 _ M h) (fun _ _ => Qi_r) (fun v M34 hp => Qi_k (R := fun st => E γ k_Model_fieldStep 131 208 [some (vr (some (11, this))), some (vi v1), none, none, some (vi v4), some (vi v5), some (vi v6), some (vi s0), none, none] st M34 (Qi Q)) hp (fun r35 h => ?_))
  refine E_blk (lv' := [some (vr (some (11, this))), some (vi v1), none, none, some (vi v4), some (vi v5), some (vi v6), some (vi s0), some (vi r35), none]) (st' := [vi r35]) (M1 := M34) (pc' := 212) (tb_Model hγ) [.istore 8, .iload 8] (by decide +kernel) rfl rfl trivial ?_
  refine E_if_ne (off := 11) (tgt := 223) (by decide +kernel) (by decide) (fun b36 => ?_) (fun b36 => ?_)
  · rw [if_pos b36] at h
    refine E_blk (lv' := [some (vr (some (11, this))), some (vi v1), none, none, some (vi v4), some (vi v5), some (vi v6), some (vi s0), some (vi r35), none]) (st' := [vi (2 : Int32), vi (0 : Int32), vr (some (11, this))]) (M1 := M34) (pc' := 218) (tb_Model hγ) [.aload_n 0, .iconst 0, .iconst 2] (by decide +kernel) rfl rfl trivial ?_
    refine E_callV (κ' := k_Model_throwNew) (As := [vi (0 : Int32), vi (2 : Int32)]) (st := []) mv_Model_throwNew (Or.inl (tbk_mem (j := 16) (k := 111) rfl)) rfl (by decide +kernel) (Nat.le_of_ble_eq_true rfl) (Nat.le_of_ble_eq_true rfl) rfl (by decide) (lk_Model_throwNew hγ this (0 : Int32) (2 : Int32) _ M34 h) (fun _ _ => Qv_r) (fun v M37 hp => Qv_k (R := fun st => E γ k_Model_fieldStep 131 221 [some (vr (some (11, this))), some (vi v1), none, none, some (vi v4), some (vi v5), some (vi v6), some (vi s0), some (vi r35), none] st M37 (Qi Q)) hp (fun h => ?_))
    refine E_blk (lv' := [some (vr (some (11, this))), some (vi v1), none, none, some (vi v4), some (vi v5), some (vi v6), some (vi s0), some (vi r35), none]) (st' := [vi (1 : Int32)]) (M1 := M37) (pc' := 222) (tb_Model hγ) [.iconst 1] (by decide +kernel) rfl rfl trivial ?_
    exact E_iret rfl (by decide +kernel) h
  · rw [if_neg b36] at h
    refine E_blk (lv' := [some (vr (some (11, this))), some (vi v1), none, none, some (vi v4), some (vi v5), some (vi v6), some (vi s0), some (vi r35), none]) (st' := [vr (mR M34 11 this 45)]) (M1 := M34) (pc' := 227) (tb_Model hγ) [.aload_n 0, .getfield 522] (by decide +kernel) rfl rfl trivial ?_
    obtain ⟨i38, ei38, h⟩ := h
    rw [ei38]
    obtain ⟨c39, h⟩ := h
    refine E_blk (lv' := [some (vr (some (11, this))), some (vi v1), none, none, some (vi v4), some (vi v5), some (vi v6), some (vi s0), some (vi r35), none]) (st' := [vi v5, vr (some (11, this)), vi (mI M34 158 i38 r35.toNatClampNeg)]) (M1 := M34) (pc' := 236) (tb_Model hγ) [.getfield 884, .iload 8, .iaload, .aload_n 0, .iload 5] (by decide +kernel) rfl rfl ⟨c39, trivial⟩ ?_
    refine E_callV (κ' := k_Model_slotOf) (As := [vi v5]) (st := [vi (mI M34 158 i38 r35.toNatClampNeg)]) mv_Model_slotOf (Or.inl (tbk_mem (j := 16) (k := 179) rfl)) rfl (by decide +kernel) (Nat.le_of_ble_eq_true rfl) (Nat.le_of_ble_eq_true rfl) rfl (by decide) (lk_Model_slotOf hγ this v5 _ M34 h) (fun _ _ => Qi_r) (fun v M40 hp => Qi_k (R := fun st => E γ k_Model_fieldStep 131 239 [some (vr (some (11, this))), some (vi v1), none, none, some (vi v4), some (vi v5), some (vi v6), some (vi s0), some (vi r35), none] st M40 (Qi Q)) hp (fun r41 h => ?_))
    refine E_blk (lv' := [some (vr (some (11, this))), some (vi v1), none, none, some (vi v4), some (vi v5), some (vi v6), some (vi s0), some (vi r35), some (vi ((mI M34 158 i38 r35.toNatClampNeg) + r41))]) (st' := [vi (47 : Int32), vi v4]) (M1 := M40) (pc' := 246) (tb_Model hγ) [.iadd, .istore 9, .iload 4, .bipush 47] (by decide +kernel) rfl rfl trivial ?_
    refine E_icmp_ne (off := 18) (tgt := 264) (by decide +kernel) (by decide) (fun b42 => ?_) (fun b42 => ?_)
    · rw [if_pos b42] at h
      refine E_blk (lv' := [some (vr (some (11, this))), some (vi v1), none, none, some (vi v4), some (vi v5), some (vi v6), some (vi s0), some (vi r35), some (vi ((mI M34 158 i38 r35.toNatClampNeg) + r41))]) (st' := [vr (mR M40 11 this 45)]) (M1 := M40) (pc' := 253) (tb_Model hγ) [.aload_n 0, .getfield 522] (by decide +kernel) rfl rfl trivial ?_
      obtain ⟨i43, ei43, h⟩ := h
      rw [ei43]
      obtain ⟨c44, h⟩ := h
      refine E_blk (lv' := [some (vr (some (11, this))), some (vi v1), none, none, some (vi v4), some (vi v5), some (vi v6), some (vi s0), some (vi r35), some (vi ((mI M34 158 i38 r35.toNatClampNeg) + r41))]) (st' := []) (M1 := (sI M40 161 i43 ((mI M34 158 i38 r35.toNatClampNeg) + r41).toNatClampNeg s0)) (pc' := 261) (tb_Model hγ) [.getfield 893, .iload 9, .iload 7, .iastore] (by decide +kernel) rfl rfl ⟨c44, trivial⟩ ?_
      obtain ⟨M45, eM45, h⟩ := h
      rw [← eM45]
      refine E_goto (off := 20) (tgt := 281) (by decide +kernel) (by decide) ?_
      refine E_mask [true, true, false, false, false, false, false, false, false, false] rfl ?_
      exact lk_Model_fieldStep_j281 hγ this Q v1 M45 h
    · rw [if_neg b42] at h
      refine E_blk (lv' := [some (vr (some (11, this))), some (vi v1), none, none, some (vi v4), some (vi v5), some (vi v6), some (vi s0), some (vi r35), some (vi ((mI M34 158 i38 r35.toNatClampNeg) + r41))]) (st' := [vr (mR M40 11 this 45), vi v1, vr (some (11, this))]) (M1 := M40) (pc' := 270) (tb_Model hγ) [.aload_n 0, .iload_n 1, .aload_n 0, .getfield 522] (by decide +kernel) rfl rfl trivial ?_
      obtain ⟨i50, ei50, h⟩ := h
      rw [ei50]
      obtain ⟨c51, h⟩ := h
      refine E_blk (lv' := [some (vr (some (11, this))), some (vi v1), none, none, some (vi v4), some (vi v5), some (vi v6), some (vi s0), some (vi r35), some (vi ((mI M34 158 i38 r35.toNatClampNeg) + r41))]) (st' := [vi v6, vi (mI M40 161 i50 ((mI M34 158 i38 r35.toNatClampNeg) + r41).toNatClampNeg), vi v1, vr (some (11, this))]) (M1 := M40) (pc' := 278) (tb_Model hγ) [.getfield 893, .iload 9, .iaload, .iload 6] (by decide +kernel) rfl rfl ⟨c51, trivial⟩ ?_
      refine E_callV (κ' := k_Model_push) (As := [vi v1, vi (mI M40 161 i50 ((mI M34 158 i38 r35.toNatClampNeg) + r41).toNatClampNeg), vi v6]) (st := []) mv_Model_push (Or.inl (tbk_mem (j := 16) (k := 135) rfl)) rfl (by decide +kernel) (Nat.le_of_ble_eq_true rfl) (Nat.le_of_ble_eq_true rfl) rfl (by decide) (lk_Model_push hγ this v1 (mI M40 161 i50 ((mI M34 158 i38 r35.toNatClampNeg) + r41).toNatClampNeg) v6 _ M40 h) (fun _ _ => Qv_r) (fun v M52 hp => Qv_k (R := fun st => E γ k_Model_fieldStep 131 281 [some (vr (some (11, this))), some (vi v1), none, none, some (vi v4), some (vi v5), some (vi v6), some (vi s0), some (vi r35), some (vi ((mI M34 158 i38 r35.toNatClampNeg) + r41))] st M52 (Qi Q)) hp (fun h => ?_))
      refine E_mask [true, true, false, false, false, false, false, false, false, false] rfl ?_
      exact lk_Model_fieldStep_j281 hγ this Q v1 M52 h
set_option maxRecDepth 4096 in
theorem lk_Model_fieldStep_j49 {γ : Gm} (hγ : Gk γ) (this : Nat) (Q : Int32 → Mem → Prop) (v1 : Int32) (v4 : Int32) (v5 : Int32) (s0 : Int32) (M : Mem) (h : w_Model_fieldStep_j49 this Q v1 v4 v5 s0 M) : E γ k_Model_fieldStep 131 49 [some (vr (some (11, this))), some (vi v1), none, none, some (vi v4), some (vi v5), none, none, none, none] [vi s0] M (Qi Q) := by
  unfold w_Model_fieldStep_j49 at h
  refine E_blk (lv' := [some (vr (some (11, this))), some (vi v1), none, none, some (vi v4), some (vi v5), some (vi s0), none, none, none]) (st' := [vi (48 : Int32), vi v4]) (M1 := M) (pc' := 55) (tb_Model hγ) [.istore 6, .iload 4, .bipush 48] (by decide +kernel) rfl rfl trivial ?_
  refine E_icmp_eq (off := 10) (tgt := 65) (by decide +kernel) (by decide) (fun b7 => ?_) (fun b7 => ?_)
  · rw [if_pos b7] at h
    refine E_mask [true, true, false, false, true, true, true, false, false, false] rfl ?_
    exact lk_Model_fieldStep_j65 hγ this Q v1 v4 v5 s0 M h
  · rw [if_neg b7] at h
    refine E_blk (lv' := [some (vr (some (11, this))), some (vi v1), none, none, some (vi v4), some (vi v5), some (vi s0), none, none, none]) (st' := [vi (49 : Int32), vi v4]) (M1 := M) (pc' := 62) (tb_Model hγ) [.iload 4, .bipush 49] (by decide +kernel) rfl rfl trivial ?_
    refine E_icmp_ne (off := 117) (tgt := 179) (by decide +kernel) (by decide) (fun b29 => ?_) (fun b29 => ?_)
    · rw [if_pos b29] at h
      refine E_mask [true, true, false, false, true, true, true, false, false, false] rfl ?_
      exact lk_Model_fieldStep_j65 hγ this Q v1 v4 v5 s0 M h
    · rw [if_neg b29] at h
      refine E_blk (lv' := [some (vr (some (11, this))), some (vi v1), none, none, some (vi v4), some (vi v5), some (vi s0), none, none, none]) (st' := [vi v4, vr (some (11, this))]) (M1 := M) (pc' := 182) (tb_Model hγ) [.aload_n 0, .iload 4] (by decide +kernel) rfl rfl trivial ?_
      refine E_callV (κ' := k_Model_tally) (As := [vi v4]) (st := []) mv_Model_tally (Or.inl (tbk_mem (j := 16) (k := 171) rfl)) rfl (by decide +kernel) (Nat.le_of_ble_eq_true rfl) (Nat.le_of_ble_eq_true rfl) rfl (by decide) (lk_Model_tally hγ this v4 _ M h) (fun _ _ => Qv_r) (fun v M30 hp => Qv_k (R := fun st => E γ k_Model_fieldStep 131 185 [some (vr (some (11, this))), some (vi v1), none, none, some (vi v4), some (vi v5), some (vi s0), none, none, none] st M30 (Qi Q)) hp (fun h => ?_))
      refine E_blk (lv' := [some (vr (some (11, this))), some (vi v1), none, none, some (vi v4), some (vi v5), some (vi s0), none, none, none]) (st' := [vi (47 : Int32), vi v4]) (M1 := M30) (pc' := 189) (tb_Model hγ) [.iload 4, .bipush 47] (by decide +kernel) rfl rfl trivial ?_
      refine E_icmp_ne (off := 11) (tgt := 200) (by decide +kernel) (by decide) (fun b31 => ?_) (fun b31 => ?_)
      · rw [if_pos b31] at h
        refine E_blk (lv' := [some (vr (some (11, this))), some (vi v1), none, none, some (vi v4), some (vi v5), some (vi s0), none, none, none]) (st' := [vi v1, vr (some (11, this))]) (M1 := M30) (pc' := 194) (tb_Model hγ) [.aload_n 0, .iload_n 1] (by decide +kernel) rfl rfl trivial ?_
        refine E_callV (κ' := k_Model_pop) (As := [vi v1]) (st := []) mv_Model_pop (Or.inl (tbk_mem (j := 16) (k := 175) rfl)) rfl (by decide +kernel) (Nat.le_of_ble_eq_true rfl) (Nat.le_of_ble_eq_true rfl) rfl (by decide) (lk_Model_pop hγ this v1 _ M30 h) (fun _ _ => Qi_r) (fun v M32 hp => Qi_k (R := fun st => E γ k_Model_fieldStep 131 197 [some (vr (some (11, this))), some (vi v1), none, none, some (vi v4), some (vi v5), some (vi s0), none, none, none] st M32 (Qi Q)) hp (fun r33 h => ?_))
        refine E_goto (off := 4) (tgt := 201) (by decide +kernel) (by decide) ?_
        refine E_mask [true, true, false, false, true, true, true, false, false, false] rfl ?_
        exact lk_Model_fieldStep_j201 hγ this Q v1 v4 v5 s0 r33 M32 h
      · rw [if_neg b31] at h
        refine E_blk (lv' := [some (vr (some (11, this))), some (vi v1), none, none, some (vi v4), some (vi v5), some (vi s0), none, none, none]) (st' := [vi (0 : Int32)]) (M1 := M30) (pc' := 201) (tb_Model hγ) [.iconst 0] (by decide +kernel) rfl rfl trivial ?_
        refine E_mask [true, true, false, false, true, true, true, false, false, false] rfl ?_
        exact lk_Model_fieldStep_j201 hγ this Q v1 v4 v5 s0 (0 : Int32) M30 h
set_option maxRecDepth 4096 in
theorem lk_Model_fieldStep {γ : Gm} (hγ : Gk γ) (this : Nat) (a1 : Int32) (a2 : Int32) (a3 : Int32) (a4 : Int32) (Q : Int32 → Mem → Prop) (M : Mem) (h : w_Model_fieldStep this a1 a2 a3 a4 Q M) : E γ k_Model_fieldStep 131 0 [some (vr (some (11, this))), some (vi a1), some (vi a2), some (vi a3), some (vi a4), none, none, none, none, none] [] M (Qi Q) := by
  unfold w_Model_fieldStep at h
  refine E_blk (lv' := [some (vr (some (11, this))), some (vi a1), some (vi a2), some (vi a3), some (vi a4), none, none, none, none, none]) (st' := [vi a2, vi a3, vi a4, vr (some (11, this))]) (M1 := M) (pc' := 5) (tb_Model hγ) [.aload_n 0, .iload 4, .iload_n 3, .iload_n 2] (by decide +kernel) rfl rfl trivial ?_
  refine E_callV (κ' := k_Model_findField) (As := [vi a4, vi a3, vi a2]) (st := []) mv_Model_findField (Or.inl (tbk_mem (j := 16) (k := 159) rfl)) rfl (by decide +kernel) (Nat.le_of_ble_eq_true rfl) (Nat.le_of_ble_eq_true rfl) rfl (by decide) (lk_Model_findField hγ this a4 a3 a2 _ M h) (fun _ _ => Qi_r) (fun v M1 hp => Qi_k (R := fun st => E γ k_Model_fieldStep 131 8 [some (vr (some (11, this))), some (vi a1), some (vi a2), some (vi a3), some (vi a4), none, none, none, none, none] st M1 (Qi Q)) hp (fun r2 h => ?_))
  refine E_blk (lv' := [some (vr (some (11, this))), some (vi a1), some (vi a2), some (vi a3), some (vi a4), some (vi r2), none, none, none, none]) (st' := [vi r2]) (M1 := M1) (pc' := 12) (tb_Model hγ) [.istore 5, .iload 5] (by decide +kernel) rfl rfl trivial ?_
  refine E_if_ge (off := 18) (tgt := 30) (by decide +kernel) (by decide) (fun b3 => ?_) (fun b3 => ?_)
  · rw [if_pos b3] at h
    refine E_blk (lv' := [some (vr (some (11, this))), some (vi a1), some (vi a2), some (vi a3), some (vi a4), some (vi r2), none, none, none, none]) (st' := [vr (mR M1 11 this 45)]) (M1 := M1) (pc' := 34) (tb_Model hγ) [.aload_n 0, .getfield 522] (by decide +kernel) rfl rfl trivial ?_
    obtain ⟨i4, ei4, h⟩ := h
    rw [ei4]
    obtain ⟨c5, h⟩ := h
    refine E_blk (lv' := [some (vr (some (11, this))), some (vi a1), some (vi a2), some (vi a3), some (vi a4), some (vi r2), none, none, none, none]) (st' := [vi (1 : Int32), vi (mI M1 140 i4 r2.toNatClampNeg)]) (M1 := M1) (pc' := 41) (tb_Model hγ) [.getfield 624, .iload 5, .iaload, .iconst 1] (by decide +kernel) rfl rfl ⟨c5, trivial⟩ ?_
    refine E_icmp_eq (off := 7) (tgt := 48) (by decide +kernel) (by decide) (fun b6 => ?_) (fun b6 => ?_)
    · rw [if_pos b6] at h
      refine E_blk (lv' := [some (vr (some (11, this))), some (vi a1), some (vi a2), some (vi a3), some (vi a4), some (vi r2), none, none, none, none]) (st' := [vi (0 : Int32)]) (M1 := M1) (pc' := 49) (tb_Model hγ) [.iconst 0] (by decide +kernel) rfl rfl trivial ?_
      refine E_mask [true, true, false, false, true, true, false, false, false, false] rfl ?_
      exact lk_Model_fieldStep_j49 hγ this Q a1 a4 r2 (0 : Int32) M1 h
    · rw [if_neg b6] at h
      refine E_blk (lv' := [some (vr (some (11, this))), some (vi a1), some (vi a2), some (vi a3), some (vi a4), some (vi r2), none, none, none, none]) (st' := [vi (1 : Int32)]) (M1 := M1) (pc' := 45) (tb_Model hγ) [.iconst 1] (by decide +kernel) rfl rfl trivial ?_
      refine E_goto (off := 4) (tgt := 49) (by decide +kernel) (by decide) ?_
      refine E_mask [true, true, false, false, true, true, false, false, false, false] rfl ?_
      exact lk_Model_fieldStep_j49 hγ this Q a1 a4 r2 (1 : Int32) M1 h
  · rw [if_neg b3] at h
    refine E_blk (lv' := [some (vr (some (11, this))), some (vi a1), some (vi a2), some (vi a3), some (vi a4), some (vi r2), none, none, none, none]) (st' := [vi (mI M1 11 this 80), vi (mI M1 11 this 81), vi a4, vr (some (11, this))]) (M1 := M1) (pc' := 26) (tb_Model hγ) [.aload_n 0, .iload 4, .aload_n 0, .getfield 844, .aload_n 0, .getfield 847] (by decide +kernel) rfl rfl trivial ?_
    refine E_callV (κ' := k_Model_throwsAt) (As := [vi a4, vi (mI M1 11 this 81), vi (mI M1 11 this 80)]) (st := []) mv_Model_throwsAt (Or.inl (tbk_mem (j := 16) (k := 167) rfl)) rfl (by decide +kernel) (Nat.le_of_ble_eq_true rfl) (Nat.le_of_ble_eq_true rfl) rfl (by decide) (lk_Model_throwsAt hγ this a4 (mI M1 11 this 81) (mI M1 11 this 80) _ M1 h) (fun _ _ => Qi_r) (fun v M53 hp => Qi_k (R := fun st => E γ k_Model_fieldStep 131 29 [some (vr (some (11, this))), some (vi a1), some (vi a2), some (vi a3), some (vi a4), some (vi r2), none, none, none, none] st M53 (Qi Q)) hp (fun r54 h => ?_))
    exact E_iret rfl (by decide +kernel) h
def w_Model_callStep_L402 (this : Nat) (Q : Int32 → Mem → Prop) : Nat → Int32 → Int32 → Int32 → Int32 → Mem → Prop
  | 0, _, _, _, _, _ => False
  | n + 1, v9, v10, v11, v12, M => if v9 ≤ v12 then (Q (1 : Int32) M) else (∃ i38, (mR M 11 this 46) = some (13, i38) ∧ ∃ i39, (mR M 11 this 46) = some (13, i39) ∧ vp_in (v10 + v12) (mL M 176 i39) ∧ vp_in (v11 + v12) (mL M 176 i38) ∧ ∃ M42, M42 = (sI M 176 i38 (v11 + v12).toNatClampNeg (mI M 176 i39 (v10 + v12).toNatClampNeg)) ∧ ∃ i43, (mR M42 11 this 46) = some (13, i43) ∧ ∃ i44, (mR M42 11 this 46) = some (13, i44) ∧ vp_in (v10 + v12) (mL M42 525 i44) ∧ vp_in (v11 + v12) (mL M42 525 i43) ∧ ∃ M47, M47 = (sI M42 525 i43 (v11 + v12).toNatClampNeg ((mI M42 525 i44 (v10 + v12).toNatClampNeg) &&& 1)) ∧ (w_Model_callStep_L402 this Q n) v9 v10 v11 (v12 + (1 : Int32)) M47)
def w_Model_callStep_j311 (this : Nat) (Q : Int32 → Mem → Prop) (v1 : Int32) (v7 : Int32) (v9 : Int32) (v10 : Int32) (M : Mem) : Prop :=
  ¬ (12 : Int32) = 0 ∧ if (21 : Int32) ≤ (v7 / (12 : Int32)) then (∃ i30, (mR M 11 this 46) = some (13, i30) ∧ if (mI M 13 i30 22) = (40 : Int32) then (w_Model_throwNew this (0 : Int32) (8 : Int32) (fun M32 => Q (1 : Int32) M32) M) else (∃ i33, (mR M 11 this 46) = some (13, i33) ∧ vp_in v1 (mL M 175 i33) ∧ vp_in v1 (mL M 175 i33) ∧ w_Model_newFrame this v7 (fun M36 => ∃ n48 : Nat, w_Model_callStep_L402 this Q n48 v9 v10 ((44 : Int32) * (v1 + (1 : Int32))) (0 : Int32) M36) (sI M 175 i33 v1.toNatClampNeg ((mI M 175 i33 v1.toNatClampNeg) - v9)))) else (∃ i49, (mR M 11 this 46) = some (13, i49) ∧ vp_in v1 (mL M 175 i49) ∧ vp_in v1 (mL M 175 i49) ∧ ∃ i52, (mR (sI M 175 i49 v1.toNatClampNeg ((mI M 175 i49 v1.toNatClampNeg) - v9)) 11 this 46) = some (13, i52) ∧ vp_in v1 (mL (sI M 175 i49 v1.toNatClampNeg ((mI M 175 i49 v1.toNatClampNeg) - v9)) 174 i52) ∧ vp_in v1 (mL (sI M 175 i49 v1.toNatClampNeg ((mI M 175 i49 v1.toNatClampNeg) - v9)) 174 i52) ∧ ∃ M55, M55 = (sI (sI M 175 i49 v1.toNatClampNeg ((mI M 175 i49 v1.toNatClampNeg) - v9)) 174 i52 v1.toNatClampNeg ((mI (sI M 175 i49 v1.toNatClampNeg ((mI M 175 i49 v1.toNatClampNeg) - v9)) 174 i52 v1.toNatClampNeg) + (1 : Int32))) ∧ Q (1 : Int32) M55)
def w_Model_callStep_j276 (this : Nat) (Q : Int32 → Mem → Prop) (v1 : Int32) (v5 : Int32) (v6 : Int32) (v9 : Int32) (v10 : Int32) (v11 : Int32) (M : Mem) : Prop :=
  w_Model_classOfRef this v11 (fun r77 M76 => w_Model_dispatch this r77 v5 v6 (fun r79 M78 => if 0 ≤ r79 then (w_Model_callStep_j311 this Q v1 r79 v9 v10 M78) else (w_Model_throwNew this (mI M78 11 this 81) (mI M78 11 this 80) (fun M81 => Q (1 : Int32) M81) M78)) M76) M
def w_Model_callStep_j154 (this : Nat) (Q : Int32 → Mem → Prop) (v1 : Int32) (v3 : Int32) (v4 : Int32) (v5 : Int32) (v6 : Int32) (v7 : Int32) (s0 : Int32) (s1 : Int32) (M : Mem) : Prop :=
  ∃ i24, (mR M 11 this 46) = some (13, i24) ∧ vp_in v1 (mL M 175 i24) ∧ ∃ x26 : Int32, x26 = (((((44 : Int32) * v1) + (20 : Int32)) + (mI M 175 i24 v1.toNatClampNeg)) - (s1 + s0)) ∧ if v4 = (52 : Int32) then (w_Model_callStep_j311 this Q v1 v7 (s1 + s0) x26 M) else (∃ i56, (mR M 11 this 46) = some (13, i56) ∧ vp_in x26 (mL M 176 i56) ∧ if (mI M 176 i56 x26.toNatClampNeg) = 0 then (w_Model_throwNew this (0 : Int32) (2 : Int32) (fun M59 => Q (1 : Int32) M59) M) else (if v4 = (51 : Int32) then (w_Model_callStep_j311 this Q v1 v7 (s1 + s0) x26 M) else (∃ i61, (mR M 11 this 45) = some (12, i61) ∧ vp_in v7 (mL M 146 i61) ∧ if ((mI M 146 i61 v7.toNatClampNeg) &&& (4 : Int32)) = 0 then (if v4 = (53 : Int32) then (w_Model_classOfRef this (mI M 176 i56 x26.toNatClampNeg) (fun r66 M65 => ∃ i67, (mR M65 11 this 45) = some (12, i67) ∧ ∃ i68, (mR M65 12 i67 31) = some (300, i68) ∧ vp_in v3 (mL M65 300 i68) ∧ w_Model_classOf this (mI M65 300 i68 v3.toNatClampNeg) (fun r71 M70 => w_Model_isBelow this r66 r71 (fun r73 M72 => if r73 = 0 then (w_Model_throwNew this (59 : Int32) (15 : Int32) (fun M75 => Q (1 : Int32) M75) M72) else (w_Model_callStep_j276 this Q v1 v5 v6 (s1 + s0) x26 (mI M 176 i56 x26.toNatClampNeg) M72)) M70) M65) M) else (w_Model_callStep_j276 this Q v1 v5 v6 (s1 + s0) x26 (mI M 176 i56 x26.toNatClampNeg) M)) else (w_Model_callStep_j311 this Q v1 v7 (s1 + s0) x26 M))))
def w_Model_callStep_j134 (this : Nat) (Q : Int32 → Mem → Prop) (v1 : Int32) (v3 : Int32) (v4 : Int32) (v5 : Int32) (v6 : Int32) (v7 : Int32) (v8 : Int32) (M : Mem) : Prop :=
  w_Model_tally this v4 (fun M22 => if v4 = (52 : Int32) then (w_Model_callStep_j154 this Q v1 v3 v4 v5 v6 v7 (0 : Int32) v8 M22) else (w_Model_callStep_j154 this Q v1 v3 v4 v5 v6 v7 (1 : Int32) v8 M22)) M
def w_Model_callStep (this : Nat) (a1 : Int32) (a2 : Int32) (a3 : Int32) (a4 : Int32) (Q : Int32 → Mem → Prop) (M : Mem) : Prop :=
  ∃ i1, (mR M 11 this 45) = some (12, i1) ∧ ∃ i2, (mR M 12 i1 32) = some (300, i2) ∧ vp_in a3 (mL M 300 i2) ∧ ∃ i4, (mR M 11 this 45) = some (12, i4) ∧ ∃ i5, (mR M 12 i4 33) = some (300, i5) ∧ vp_in a3 (mL M 300 i5) ∧ ∃ i7, (mR M 11 this 45) = some (12, i7) ∧ ∃ i8, (mR M 12 i7 31) = some (300, i8) ∧ vp_in a3 (mL M 300 i8) ∧ ¬ (12 : Int32) = 0 ∧ w_Model_findMethod this a4 (mI M 300 i8 a3.toNatClampNeg) (mI M 300 i2 a3.toNatClampNeg) (mI M 300 i5 a3.toNatClampNeg) (a2 / (12 : Int32)) (fun r12 M11 => if 0 ≤ r12 then (∃ i14, (mR M11 11 this 31) = some (300, i14) ∧ vp_in (mI M 300 i5 a3.toNatClampNeg) (mL M11 300 i14) ∧ ∃ x16 : Int32, x16 = (mI M11 300 i14 (mI M 300 i5 a3.toNatClampNeg).toNatClampNeg) ∧ if a4 = (52 : Int32) then (¬ (12 : Int32) = 0 ∧ w_Model_startOf this (r12 / (12 : Int32)) (fun r20 M19 => if r20 = 0 then (w_Model_callStep_j134 this Q a1 a3 a4 (mI M 300 i2 a3.toNatClampNeg) (mI M 300 i5 a3.toNatClampNeg) r12 x16 M19) else (if r20 = (3 : Int32) then (w_Model_throwsAt this a4 (mI M19 11 this 81) (mI M19 11 this 80) (fun r84 M83 => Q r84 M83) M19) else (if r20 = (2 : Int32) then (Q (2 : Int32) M19) else (Q (0 : Int32) M19)))) M11) else (w_Model_callStep_j134 this Q a1 a3 a4 (mI M 300 i2 a3.toNatClampNeg) (mI M 300 i5 a3.toNatClampNeg) r12 x16 M11)) else (w_Model_throwsAt this a4 (mI M11 11 this 81) (mI M11 11 this 80) (fun r87 M86 => Q r87 M86) M11)) M
set_option maxRecDepth 4096 in
theorem lk_Model_callStep_L402 {γ : Gm} (hγ : Gk γ) (this : Nat) (Q : Int32 → Mem → Prop) : ∀ (n : Nat) (v9 : Int32) (v10 : Int32) (v11 : Int32) (v12 : Int32) (M : Mem), w_Model_callStep_L402 this Q n v9 v10 v11 v12 M → E γ k_Model_callStep 131 402 [some (vr (some (11, this))), none, none, none, none, none, none, none, none, some (vi v9), some (vi v10), some (vi v11), some (vi v12)] [] M (Qi Q) := by
  intro n
  induction n with
  | zero => intro v9 v10 v11 v12 M h; exact h.elim
  | succ n ih =>
    intro v9 v10 v11 v12 M h
    unfold w_Model_callStep_L402 at h
    refine E_blk (lv' := [some (vr (some (11, this))), none, none, none, none, none, none, none, none, some (vi v9), some (vi v10), some (vi v11), some (vi v12)]) (st' := [vi v9, vi v12]) (M1 := M) (pc' := 406) (tb_Model hγ) [.iload 12, .iload 9] (by decide +kernel) rfl rfl trivial ?_
    refine E_icmp_ge (off := 61) (tgt := 467) (by decide +kernel) (by decide) (fun b37 => ?_) (fun b37 => ?_)
    · rw [if_pos b37] at h
      refine E_blk (lv' := [some (vr (some (11, this))), none, none, none, none, none, none, none, none, some (vi v9), some (vi v10), some (vi v11), some (vi v12)]) (st' := [vi (1 : Int32)]) (M1 := M) (pc' := 468) (tb_Model hγ) [.iconst 1] (by decide +kernel) rfl rfl trivial ?_
      exact E_iret rfl (by decide +kernel) h
    · rw [if_neg b37] at h
      refine E_blk (lv' := [some (vr (some (11, this))), none, none, none, none, none, none, none, none, some (vi v9), some (vi v10), some (vi v11), some (vi v12)]) (st' := [vr (mR M 11 this 46)]) (M1 := M) (pc' := 413) (tb_Model hγ) [.aload_n 0, .getfield 917] (by decide +kernel) rfl rfl trivial ?_
      obtain ⟨i38, ei38, h⟩ := h
      rw [ei38]
      refine E_blk (lv' := [some (vr (some (11, this))), none, none, none, none, none, none, none, none, some (vi v9), some (vi v10), some (vi v11), some (vi v12)]) (st' := [vr (mR M 11 this 46), vi (v11 + v12), vr (some (176, i38))]) (M1 := M) (pc' := 425) (tb_Model hγ) [.getfield 936, .iload 11, .iload 12, .iadd, .aload_n 0, .getfield 917] (by decide +kernel) rfl rfl trivial ?_
      obtain ⟨i39, ei39, h⟩ := h
      rw [ei39]
      obtain ⟨c40, c41, h⟩ := h
      refine E_blk (lv' := [some (vr (some (11, this))), none, none, none, none, none, none, none, none, some (vi v9), some (vi v10), some (vi v11), some (vi v12)]) (st' := []) (M1 := (sI M 176 i38 (v11 + v12).toNatClampNeg (mI M 176 i39 (v10 + v12).toNatClampNeg))) (pc' := 435) (tb_Model hγ) [.getfield 936, .iload 10, .iload 12, .iadd, .iaload, .iastore] (by decide +kernel) rfl rfl ⟨c40, c41, trivial⟩ ?_
      obtain ⟨M42, eM42, h⟩ := h
      rw [← eM42]
      refine E_blk (lv' := [some (vr (some (11, this))), none, none, none, none, none, none, none, none, some (vi v9), some (vi v10), some (vi v11), some (vi v12)]) (st' := [vr (mR M42 11 this 46)]) (M1 := M42) (pc' := 439) (tb_Model hγ) [.aload_n 0, .getfield 917] (by decide +kernel) rfl rfl trivial ?_
      obtain ⟨i43, ei43, h⟩ := h
      rw [ei43]
      refine E_blk (lv' := [some (vr (some (11, this))), none, none, none, none, none, none, none, none, some (vi v9), some (vi v10), some (vi v11), some (vi v12)]) (st' := [vr (mR M42 11 this 46), vi (v11 + v12), vr (some (525, i43))]) (M1 := M42) (pc' := 451) (tb_Model hγ) [.getfield 939, .iload 11, .iload 12, .iadd, .aload_n 0, .getfield 917] (by decide +kernel) rfl rfl trivial ?_
      obtain ⟨i44, ei44, h⟩ := h
      rw [ei44]
      obtain ⟨c45, c46, h⟩ := h
      refine E_blk (lv' := [some (vr (some (11, this))), none, none, none, none, none, none, none, none, some (vi v9), some (vi v10), some (vi v11), some (vi v12)]) (st' := []) (M1 := (sI M42 525 i43 (v11 + v12).toNatClampNeg ((mI M42 525 i44 (v10 + v12).toNatClampNeg) &&& 1))) (pc' := 461) (tb_Model hγ) [.getfield 939, .iload 10, .iload 12, .iadd, .baload, .bastore] (by decide +kernel) rfl rfl ⟨c45, c46, trivial⟩ ?_
      obtain ⟨M47, eM47, h⟩ := h
      rw [← eM47]
      refine E_blk (lv' := [some (vr (some (11, this))), none, none, none, none, none, none, none, none, some (vi v9), some (vi v10), some (vi v11), some (vi (v12 + (1 : Int32)))]) (st' := []) (M1 := M47) (pc' := 464) (tb_Model hγ) [.iinc 12 1] (by decide +kernel) rfl rfl trivial ?_
      refine E_goto (off := -62) (tgt := 402) (by decide +kernel) (by decide) ?_
      refine E_mask [true, false, false, false, false, false, false, false, false, true, true, true, true] rfl ?_
      exact ih v9 v10 v11 (v12 + (1 : Int32)) M47 h
set_option maxRecDepth 4096 in
theorem lk_Model_callStep_j311 {γ : Gm} (hγ : Gk γ) (this : Nat) (Q : Int32 → Mem → Prop) (v1 : Int32) (v7 : Int32) (v9 : Int32) (v10 : Int32) (M : Mem) (h : w_Model_callStep_j311 this Q v1 v7 v9 v10 M) : E γ k_Model_callStep 131 311 [some (vr (some (11, this))), some (vi v1), none, none, none, none, none, some (vi v7), none, some (vi v9), some (vi v10), none, none] [] M (Qi Q) := by
  unfold w_Model_callStep_j311 at h
  obtain ⟨c28, h⟩ := h
  refine E_blk (lv' := [some (vr (some (11, this))), some (vi v1), none, none, none, none, none, some (vi v7), none, some (vi v9), some (vi v10), none, none]) (st' := [vi (21 : Int32), vi (v7 / (12 : Int32))]) (M1 := M) (pc' := 318) (tb_Model hγ) [.iload 7, .bipush 12, .idiv, .bipush 21] (by decide +kernel) rfl rfl ⟨c28, trivial⟩ ?_
  refine E_icmp_ge (off := 32) (tgt := 350) (by decide +kernel) (by decide) (fun b29 => ?_) (fun b29 => ?_)
  · rw [if_pos b29] at h
    refine E_blk (lv' := [some (vr (some (11, this))), some (vi v1), none, none, none, none, none, some (vi v7), none, some (vi v9), some (vi v10), none, none]) (st' := [vr (mR M 11 this 46)]) (M1 := M) (pc' := 354) (tb_Model hγ) [.aload_n 0, .getfield 917] (by decide +kernel) rfl rfl trivial ?_
    obtain ⟨i30, ei30, h⟩ := h
    rw [ei30]
    refine E_blk (lv' := [some (vr (some (11, this))), some (vi v1), none, none, none, none, none, some (vi v7), none, some (vi v9), some (vi v10), none, none]) (st' := [vi (40 : Int32), vi (mI M 13 i30 22)]) (M1 := M) (pc' := 359) (tb_Model hγ) [.getfield 924, .bipush 40] (by decide +kernel) rfl rfl trivial ?_
    refine E_icmp_ne (off := 12) (tgt := 371) (by decide +kernel) (by decide) (fun b31 => ?_) (fun b31 => ?_)
    · rw [if_pos b31] at h
      refine E_blk (lv' := [some (vr (some (11, this))), some (vi v1), none, none, none, none, none, some (vi v7), none, some (vi v9), some (vi v10), none, none]) (st' := [vi (8 : Int32), vi (0 : Int32), vr (some (11, this))]) (M1 := M) (pc' := 366) (tb_Model hγ) [.aload_n 0, .iconst 0, .bipush 8] (by decide +kernel) rfl rfl trivial ?_
      refine E_callV (κ' := k_Model_throwNew) (As := [vi (0 : Int32), vi (8 : Int32)]) (st := []) mv_Model_throwNew (Or.inl (tbk_mem (j := 16) (k := 111) rfl)) rfl (by decide +kernel) (Nat.le_of_ble_eq_true rfl) (Nat.le_of_ble_eq_true rfl) rfl (by decide) (lk_Model_throwNew hγ this (0 : Int32) (8 : Int32) _ M h) (fun _ _ => Qv_r) (fun v M32 hp => Qv_k (R := fun st => E γ k_Model_callStep 131 369 [some (vr (some (11, this))), some (vi v1), none, none, none, none, none, some (vi v7), none, some (vi v9), some (vi v10), none, none] st M32 (Qi Q)) hp (fun h => ?_))
      refine E_blk (lv' := [some (vr (some (11, this))), some (vi v1), none, none, none, none, none, some (vi v7), none, some (vi v9), some (vi v10), none, none]) (st' := [vi (1 : Int32)]) (M1 := M32) (pc' := 370) (tb_Model hγ) [.iconst 1] (by decide +kernel) rfl rfl trivial ?_
      exact E_iret rfl (by decide +kernel) h
    · rw [if_neg b31] at h
      refine E_blk (lv' := [some (vr (some (11, this))), some (vi v1), none, none, none, none, none, some (vi v7), none, some (vi v9), some (vi v10), none, none]) (st' := [vr (mR M 11 this 46)]) (M1 := M) (pc' := 375) (tb_Model hγ) [.aload_n 0, .getfield 917] (by decide +kernel) rfl rfl trivial ?_
      obtain ⟨i33, ei33, h⟩ := h
      rw [ei33]
      obtain ⟨c34, c35, h⟩ := h
      refine E_blk (lv' := [some (vr (some (11, this))), some (vi v1), none, none, none, none, none, some (vi v7), none, some (vi v9), some (vi v10), none, none]) (st' := [vi v7, vr (some (11, this))]) (M1 := (sI M 175 i33 v1.toNatClampNeg ((mI M 175 i33 v1.toNatClampNeg) - v9))) (pc' := 388) (tb_Model hγ) [.getfield 933, .iload_n 1, .dup2, .iaload, .iload 9, .isub, .iastore, .aload_n 0, .iload 7] (by decide +kernel) rfl rfl ⟨c34, c35, trivial⟩ ?_
      refine E_callV (κ' := k_Model_newFrame) (As := [vi v7]) (st := []) mv_Model_newFrame (Or.inl (tbk_mem (j := 16) (k := 139) rfl)) rfl (by decide +kernel) (Nat.le_of_ble_eq_true rfl) (Nat.le_of_ble_eq_true rfl) rfl (by decide) (lk_Model_newFrame hγ this v7 _ (sI M 175 i33 v1.toNatClampNeg ((mI M 175 i33 v1.toNatClampNeg) - v9)) h) (fun _ _ => Qv_r) (fun v M36 hp => Qv_k (R := fun st => E γ k_Model_callStep 131 391 [some (vr (some (11, this))), some (vi v1), none, none, none, none, none, some (vi v7), none, some (vi v9), some (vi v10), none, none] st M36 (Qi Q)) hp (fun h => ?_))
      refine E_blk (lv' := [some (vr (some (11, this))), some (vi v1), none, none, none, none, none, some (vi v7), none, some (vi v9), some (vi v10), some (vi ((44 : Int32) * (v1 + (1 : Int32)))), some (vi (0 : Int32))]) (st' := []) (M1 := M36) (pc' := 402) (tb_Model hγ) [.bipush 44, .iload_n 1, .iconst 1, .iadd, .imul, .istore 11, .iconst 0, .istore 12] (by decide +kernel) rfl rfl trivial ?_
      obtain ⟨n48, h⟩ := h
      refine E_mask [true, false, false, false, false, false, false, false, false, true, true, true, true] rfl ?_
      exact lk_Model_callStep_L402 hγ this Q n48 v9 v10 ((44 : Int32) * (v1 + (1 : Int32))) (0 : Int32) M36 h
  · rw [if_neg b29] at h
    refine E_blk (lv' := [some (vr (some (11, this))), some (vi v1), none, none, none, none, none, some (vi v7), none, some (vi v9), some (vi v10), none, none]) (st' := [vr (mR M 11 this 46)]) (M1 := M) (pc' := 325) (tb_Model hγ) [.aload_n 0, .getfield 917] (by decide +kernel) rfl rfl trivial ?_
    obtain ⟨i49, ei49, h⟩ := h
    rw [ei49]
    obtain ⟨c50, c51, h⟩ := h
    refine E_blk (lv' := [some (vr (some (11, this))), some (vi v1), none, none, none, none, none, some (vi v7), none, some (vi v9), some (vi v10), none, none]) (st' := [vr (mR (sI M 175 i49 v1.toNatClampNeg ((mI M 175 i49 v1.toNatClampNeg) - v9)) 11 this 46)]) (M1 := (sI M 175 i49 v1.toNatClampNeg ((mI M 175 i49 v1.toNatClampNeg) - v9))) (pc' := 339) (tb_Model hγ) [.getfield 933, .iload_n 1, .dup2, .iaload, .iload 9, .isub, .iastore, .aload_n 0, .getfield 917] (by decide +kernel) rfl rfl ⟨c50, c51, trivial⟩ ?_
    obtain ⟨i52, ei52, h⟩ := h
    rw [ei52]
    obtain ⟨c53, c54, h⟩ := h
    refine E_blk (lv' := [some (vr (some (11, this))), some (vi v1), none, none, none, none, none, some (vi v7), none, some (vi v9), some (vi v10), none, none]) (st' := []) (M1 := (sI (sI M 175 i49 v1.toNatClampNeg ((mI M 175 i49 v1.toNatClampNeg) - v9)) 174 i52 v1.toNatClampNeg ((mI (sI M 175 i49 v1.toNatClampNeg ((mI M 175 i49 v1.toNatClampNeg) - v9)) 174 i52 v1.toNatClampNeg) + (1 : Int32)))) (pc' := 348) (tb_Model hγ) [.getfield 930, .iload_n 1, .dup2, .iaload, .iconst 1, .iadd, .iastore] (by decide +kernel) rfl rfl ⟨c53, c54, trivial⟩ ?_
    obtain ⟨M55, eM55, h⟩ := h
    rw [← eM55]
    refine E_blk (lv' := [some (vr (some (11, this))), some (vi v1), none, none, none, none, none, some (vi v7), none, some (vi v9), some (vi v10), none, none]) (st' := [vi (1 : Int32)]) (M1 := M55) (pc' := 349) (tb_Model hγ) [.iconst 1] (by decide +kernel) rfl rfl trivial ?_
    exact E_iret rfl (by decide +kernel) h
set_option maxRecDepth 4096 in
theorem lk_Model_callStep_j276 {γ : Gm} (hγ : Gk γ) (this : Nat) (Q : Int32 → Mem → Prop) (v1 : Int32) (v5 : Int32) (v6 : Int32) (v9 : Int32) (v10 : Int32) (v11 : Int32) (M : Mem) (h : w_Model_callStep_j276 this Q v1 v5 v6 v9 v10 v11 M) : E γ k_Model_callStep 131 276 [some (vr (some (11, this))), some (vi v1), none, none, none, some (vi v5), some (vi v6), none, none, some (vi v9), some (vi v10), some (vi v11), none] [] M (Qi Q) := by
  unfold w_Model_callStep_j276 at h
  refine E_blk (lv' := [some (vr (some (11, this))), some (vi v1), none, none, none, some (vi v5), some (vi v6), none, none, some (vi v9), some (vi v10), some (vi v11), none]) (st' := [vi v11, vr (some (11, this)), vr (some (11, this))]) (M1 := M) (pc' := 280) (tb_Model hγ) [.aload_n 0, .aload_n 0, .iload 11] (by decide +kernel) rfl rfl trivial ?_
  refine E_callV (κ' := k_Model_classOfRef) (As := [vi v11]) (st := [vr (some (11, this))]) mv_Model_classOfRef (Or.inl (tbk_mem (j := 16) (k := 127) rfl)) rfl (by decide +kernel) (Nat.le_of_ble_eq_true rfl) (Nat.le_of_ble_eq_true rfl) rfl (by decide) (lk_Model_classOfRef hγ this v11 _ M h) (fun _ _ => Qi_r) (fun v M76 hp => Qi_k (R := fun st => E γ k_Model_callStep 131 283 [some (vr (some (11, this))), some (vi v1), none, none, none, some (vi v5), some (vi v6), none, none, some (vi v9), some (vi v10), some (vi v11), none] st M76 (Qi Q)) hp (fun r77 h => ?_))
  refine E_blk (lv' := [some (vr (some (11, this))), some (vi v1), none, none, none, some (vi v5), some (vi v6), none, none, some (vi v9), some (vi v10), some (vi v11), none]) (st' := [vi v6, vi v5, vi r77, vr (some (11, this))]) (M1 := M76) (pc' := 287) (tb_Model hγ) [.iload 5, .iload 6] (by decide +kernel) rfl rfl trivial ?_
  refine E_callV (κ' := k_Model_dispatch) (As := [vi r77, vi v5, vi v6]) (st := []) mv_Model_dispatch (Or.inl (tbk_mem (j := 16) (k := 195) rfl)) rfl (by decide +kernel) (Nat.le_of_ble_eq_true rfl) (Nat.le_of_ble_eq_true rfl) rfl (by decide) (lk_Model_dispatch hγ this r77 v5 v6 _ M76 h) (fun _ _ => Qi_r) (fun v M78 hp => Qi_k (R := fun st => E γ k_Model_callStep 131 290 [some (vr (some (11, this))), some (vi v1), none, none, none, some (vi v5), some (vi v6), none, none, some (vi v9), some (vi v10), some (vi v11), none] st M78 (Qi Q)) hp (fun r79 h => ?_))
  refine E_blk (lv' := [some (vr (some (11, this))), some (vi v1), none, none, none, some (vi v5), some (vi v6), some (vi r79), none, some (vi v9), some (vi v10), some (vi v11), none]) (st' := [vi r79]) (M1 := M78) (pc' := 294) (tb_Model hγ) [.istore 7, .iload 7] (by decide +kernel) rfl rfl trivial ?_
  refine E_if_ge (off := 17) (tgt := 311) (by decide +kernel) (by decide) (fun b80 => ?_) (fun b80 => ?_)
  · rw [if_pos b80] at h
    refine E_mask [true, true, false, false, false, false, false, true, false, true, true, false, false] rfl ?_
    exact lk_Model_callStep_j311 hγ this Q v1 r79 v9 v10 M78 h
  · rw [if_neg b80] at h
    refine E_blk (lv' := [some (vr (some (11, this))), some (vi v1), none, none, none, some (vi v5), some (vi v6), some (vi r79), none, some (vi v9), some (vi v10), some (vi v11), none]) (st' := [vi (mI M78 11 this 80), vi (mI M78 11 this 81), vr (some (11, this))]) (M1 := M78) (pc' := 306) (tb_Model hγ) [.aload_n 0, .aload_n 0, .getfield 844, .aload_n 0, .getfield 847] (by decide +kernel) rfl rfl trivial ?_
    refine E_callV (κ' := k_Model_throwNew) (As := [vi (mI M78 11 this 81), vi (mI M78 11 this 80)]) (st := []) mv_Model_throwNew (Or.inl (tbk_mem (j := 16) (k := 111) rfl)) rfl (by decide +kernel) (Nat.le_of_ble_eq_true rfl) (Nat.le_of_ble_eq_true rfl) rfl (by decide) (lk_Model_throwNew hγ this (mI M78 11 this 81) (mI M78 11 this 80) _ M78 h) (fun _ _ => Qv_r) (fun v M81 hp => Qv_k (R := fun st => E γ k_Model_callStep 131 309 [some (vr (some (11, this))), some (vi v1), none, none, none, some (vi v5), some (vi v6), some (vi r79), none, some (vi v9), some (vi v10), some (vi v11), none] st M81 (Qi Q)) hp (fun h => ?_))
    refine E_blk (lv' := [some (vr (some (11, this))), some (vi v1), none, none, none, some (vi v5), some (vi v6), some (vi r79), none, some (vi v9), some (vi v10), some (vi v11), none]) (st' := [vi (1 : Int32)]) (M1 := M81) (pc' := 310) (tb_Model hγ) [.iconst 1] (by decide +kernel) rfl rfl trivial ?_
    exact E_iret rfl (by decide +kernel) h
set_option maxRecDepth 4096 in
theorem lk_Model_callStep_j154 {γ : Gm} (hγ : Gk γ) (this : Nat) (Q : Int32 → Mem → Prop) (v1 : Int32) (v3 : Int32) (v4 : Int32) (v5 : Int32) (v6 : Int32) (v7 : Int32) (s0 : Int32) (s1 : Int32) (M : Mem) (h : w_Model_callStep_j154 this Q v1 v3 v4 v5 v6 v7 s0 s1 M) : E γ k_Model_callStep 131 154 [some (vr (some (11, this))), some (vi v1), none, some (vi v3), some (vi v4), some (vi v5), some (vi v6), some (vi v7), none, none, none, none, none] [vi s0, vi s1] M (Qi Q) := by
  unfold w_Model_callStep_j154 at h
  refine E_blk (lv' := [some (vr (some (11, this))), some (vi v1), none, some (vi v3), some (vi v4), some (vi v5), some (vi v6), some (vi v7), none, some (vi (s1 + s0)), none, none, none]) (st' := [vr (mR M 11 this 46), vi (((44 : Int32) * v1) + (20 : Int32))]) (M1 := M) (pc' := 168) (tb_Model hγ) [.iadd, .istore 9, .bipush 44, .iload_n 1, .imul, .bipush 20, .iadd, .aload_n 0, .getfield 917] (by decide +kernel) rfl rfl trivial ?_
  obtain ⟨i24, ei24, h⟩ := h
  rw [ei24]
  obtain ⟨c25, h⟩ := h
  refine E_blk (lv' := [some (vr (some (11, this))), some (vi v1), none, some (vi v3), some (vi v4), some (vi v5), some (vi v6), some (vi v7), none, some (vi (s1 + s0)), some (vi (((((44 : Int32) * v1) + (20 : Int32)) + (mI M 175 i24 v1.toNatClampNeg)) - (s1 + s0))), none, none]) (st' := []) (M1 := M) (pc' := 179) (tb_Model hγ) [.getfield 933, .iload_n 1, .iaload, .iadd, .iload 9, .isub, .istore 10] (by decide +kernel) rfl rfl ⟨c25, trivial⟩ ?_
  obtain ⟨x26, ex26, h⟩ := h
  rw [← ex26]
  refine E_blk (lv' := [some (vr (some (11, this))), some (vi v1), none, some (vi v3), some (vi v4), some (vi v5), some (vi v6), some (vi v7), none, some (vi (s1 + s0)), some (vi x26), none, none]) (st' := [vi (52 : Int32), vi v4]) (M1 := M) (pc' := 183) (tb_Model hγ) [.iload 4, .bipush 52] (by decide +kernel) rfl rfl trivial ?_
  refine E_icmp_eq (off := 128) (tgt := 311) (by decide +kernel) (by decide) (fun b27 => ?_) (fun b27 => ?_)
  · rw [if_pos b27] at h
    refine E_mask [true, true, false, false, false, false, false, true, false, true, true, false, false] rfl ?_
    exact lk_Model_callStep_j311 hγ this Q v1 v7 (s1 + s0) x26 M h
  · rw [if_neg b27] at h
    refine E_blk (lv' := [some (vr (some (11, this))), some (vi v1), none, some (vi v3), some (vi v4), some (vi v5), some (vi v6), some (vi v7), none, some (vi (s1 + s0)), some (vi x26), none, none]) (st' := [vr (mR M 11 this 46)]) (M1 := M) (pc' := 190) (tb_Model hγ) [.aload_n 0, .getfield 917] (by decide +kernel) rfl rfl trivial ?_
    obtain ⟨i56, ei56, h⟩ := h
    rw [ei56]
    obtain ⟨c57, h⟩ := h
    refine E_blk (lv' := [some (vr (some (11, this))), some (vi v1), none, some (vi v3), some (vi v4), some (vi v5), some (vi v6), some (vi v7), none, some (vi (s1 + s0)), some (vi x26), some (vi (mI M 176 i56 x26.toNatClampNeg)), none]) (st' := [vi (mI M 176 i56 x26.toNatClampNeg)]) (M1 := M) (pc' := 200) (tb_Model hγ) [.getfield 936, .iload 10, .iaload, .istore 11, .iload 11] (by decide +kernel) rfl rfl ⟨c57, trivial⟩ ?_
    refine E_if_ne (off := 11) (tgt := 211) (by decide +kernel) (by decide) (fun b58 => ?_) (fun b58 => ?_)
    · rw [if_pos b58] at h
      refine E_blk (lv' := [some (vr (some (11, this))), some (vi v1), none, some (vi v3), some (vi v4), some (vi v5), some (vi v6), some (vi v7), none, some (vi (s1 + s0)), some (vi x26), some (vi (mI M 176 i56 x26.toNatClampNeg)), none]) (st' := [vi (2 : Int32), vi (0 : Int32), vr (some (11, this))]) (M1 := M) (pc' := 206) (tb_Model hγ) [.aload_n 0, .iconst 0, .iconst 2] (by decide +kernel) rfl rfl trivial ?_
      refine E_callV (κ' := k_Model_throwNew) (As := [vi (0 : Int32), vi (2 : Int32)]) (st := []) mv_Model_throwNew (Or.inl (tbk_mem (j := 16) (k := 111) rfl)) rfl (by decide +kernel) (Nat.le_of_ble_eq_true rfl) (Nat.le_of_ble_eq_true rfl) rfl (by decide) (lk_Model_throwNew hγ this (0 : Int32) (2 : Int32) _ M h) (fun _ _ => Qv_r) (fun v M59 hp => Qv_k (R := fun st => E γ k_Model_callStep 131 209 [some (vr (some (11, this))), some (vi v1), none, some (vi v3), some (vi v4), some (vi v5), some (vi v6), some (vi v7), none, some (vi (s1 + s0)), some (vi x26), some (vi (mI M 176 i56 x26.toNatClampNeg)), none] st M59 (Qi Q)) hp (fun h => ?_))
      refine E_blk (lv' := [some (vr (some (11, this))), some (vi v1), none, some (vi v3), some (vi v4), some (vi v5), some (vi v6), some (vi v7), none, some (vi (s1 + s0)), some (vi x26), some (vi (mI M 176 i56 x26.toNatClampNeg)), none]) (st' := [vi (1 : Int32)]) (M1 := M59) (pc' := 210) (tb_Model hγ) [.iconst 1] (by decide +kernel) rfl rfl trivial ?_
      exact E_iret rfl (by decide +kernel) h
    · rw [if_neg b58] at h
      refine E_blk (lv' := [some (vr (some (11, this))), some (vi v1), none, some (vi v3), some (vi v4), some (vi v5), some (vi v6), some (vi v7), none, some (vi (s1 + s0)), some (vi x26), some (vi (mI M 176 i56 x26.toNatClampNeg)), none]) (st' := [vi (51 : Int32), vi v4]) (M1 := M) (pc' := 215) (tb_Model hγ) [.iload 4, .bipush 51] (by decide +kernel) rfl rfl trivial ?_
      refine E_icmp_eq (off := 96) (tgt := 311) (by decide +kernel) (by decide) (fun b60 => ?_) (fun b60 => ?_)
      · rw [if_pos b60] at h
        refine E_mask [true, true, false, false, false, false, false, true, false, true, true, false, false] rfl ?_
        exact lk_Model_callStep_j311 hγ this Q v1 v7 (s1 + s0) x26 M h
      · rw [if_neg b60] at h
        refine E_blk (lv' := [some (vr (some (11, this))), some (vi v1), none, some (vi v3), some (vi v4), some (vi v5), some (vi v6), some (vi v7), none, some (vi (s1 + s0)), some (vi x26), some (vi (mI M 176 i56 x26.toNatClampNeg)), none]) (st' := [vr (mR M 11 this 45)]) (M1 := M) (pc' := 222) (tb_Model hγ) [.aload_n 0, .getfield 522] (by decide +kernel) rfl rfl trivial ?_
        obtain ⟨i61, ei61, h⟩ := h
        rw [ei61]
        obtain ⟨c62, h⟩ := h
        refine E_blk (lv' := [some (vr (some (11, this))), some (vi v1), none, some (vi v3), some (vi v4), some (vi v5), some (vi v6), some (vi v7), none, some (vi (s1 + s0)), some (vi x26), some (vi (mI M 176 i56 x26.toNatClampNeg)), none]) (st' := [vi ((mI M 146 i61 v7.toNatClampNeg) &&& (4 : Int32))]) (M1 := M) (pc' := 230) (tb_Model hγ) [.getfield 453, .iload 7, .iaload, .iconst 4, .iand] (by decide +kernel) rfl rfl ⟨c62, trivial⟩ ?_
        refine E_if_ne (off := 81) (tgt := 311) (by decide +kernel) (by decide) (fun b63 => ?_) (fun b63 => ?_)
        · rw [if_pos b63] at h
          refine E_blk (lv' := [some (vr (some (11, this))), some (vi v1), none, some (vi v3), some (vi v4), some (vi v5), some (vi v6), some (vi v7), none, some (vi (s1 + s0)), some (vi x26), some (vi (mI M 176 i56 x26.toNatClampNeg)), none]) (st' := [vi (53 : Int32), vi v4]) (M1 := M) (pc' := 237) (tb_Model hγ) [.iload 4, .bipush 53] (by decide +kernel) rfl rfl trivial ?_
          refine E_icmp_ne (off := 39) (tgt := 276) (by decide +kernel) (by decide) (fun b64 => ?_) (fun b64 => ?_)
          · rw [if_pos b64] at h
            refine E_blk (lv' := [some (vr (some (11, this))), some (vi v1), none, some (vi v3), some (vi v4), some (vi v5), some (vi v6), some (vi v7), none, some (vi (s1 + s0)), some (vi x26), some (vi (mI M 176 i56 x26.toNatClampNeg)), none]) (st' := [vi (mI M 176 i56 x26.toNatClampNeg), vr (some (11, this)), vr (some (11, this))]) (M1 := M) (pc' := 244) (tb_Model hγ) [.aload_n 0, .aload_n 0, .iload 11] (by decide +kernel) rfl rfl trivial ?_
            refine E_callV (κ' := k_Model_classOfRef) (As := [vi (mI M 176 i56 x26.toNatClampNeg)]) (st := [vr (some (11, this))]) mv_Model_classOfRef (Or.inl (tbk_mem (j := 16) (k := 127) rfl)) rfl (by decide +kernel) (Nat.le_of_ble_eq_true rfl) (Nat.le_of_ble_eq_true rfl) rfl (by decide) (lk_Model_classOfRef hγ this (mI M 176 i56 x26.toNatClampNeg) _ M h) (fun _ _ => Qi_r) (fun v M65 hp => Qi_k (R := fun st => E γ k_Model_callStep 131 247 [some (vr (some (11, this))), some (vi v1), none, some (vi v3), some (vi v4), some (vi v5), some (vi v6), some (vi v7), none, some (vi (s1 + s0)), some (vi x26), some (vi (mI M 176 i56 x26.toNatClampNeg)), none] st M65 (Qi Q)) hp (fun r66 h => ?_))
            refine E_blk (lv' := [some (vr (some (11, this))), some (vi v1), none, some (vi v3), some (vi v4), some (vi v5), some (vi v6), some (vi v7), none, some (vi (s1 + s0)), some (vi x26), some (vi (mI M 176 i56 x26.toNatClampNeg)), none]) (st' := [vr (mR M65 11 this 45), vr (some (11, this)), vi r66, vr (some (11, this))]) (M1 := M65) (pc' := 252) (tb_Model hγ) [.aload_n 0, .aload_n 0, .getfield 522] (by decide +kernel) rfl rfl trivial ?_
            obtain ⟨i67, ei67, h⟩ := h
            rw [ei67]
            refine E_blk (lv' := [some (vr (some (11, this))), some (vi v1), none, some (vi v3), some (vi v4), some (vi v5), some (vi v6), some (vi v7), none, some (vi (s1 + s0)), some (vi x26), some (vi (mI M 176 i56 x26.toNatClampNeg)), none]) (st' := [vr (mR M65 12 i67 31), vr (some (11, this)), vi r66, vr (some (11, this))]) (M1 := M65) (pc' := 255) (tb_Model hγ) [.getfield 677] (by decide +kernel) rfl rfl trivial ?_
            obtain ⟨i68, ei68, h⟩ := h
            rw [ei68]
            obtain ⟨c69, h⟩ := h
            refine E_blk (lv' := [some (vr (some (11, this))), some (vi v1), none, some (vi v3), some (vi v4), some (vi v5), some (vi v6), some (vi v7), none, some (vi (s1 + s0)), some (vi x26), some (vi (mI M 176 i56 x26.toNatClampNeg)), none]) (st' := [vi (mI M65 300 i68 v3.toNatClampNeg), vr (some (11, this)), vi r66, vr (some (11, this))]) (M1 := M65) (pc' := 257) (tb_Model hγ) [.iload_n 3, .iaload] (by decide +kernel) rfl rfl ⟨c69, trivial⟩ ?_
            refine E_callV (κ' := k_Model_classOf) (As := [vi (mI M65 300 i68 v3.toNatClampNeg)]) (st := [vi r66, vr (some (11, this))]) mv_Model_classOf (Or.inl (tbk_mem (j := 15) (k := 39) rfl)) rfl (by decide +kernel) (Nat.le_of_ble_eq_true rfl) (Nat.le_of_ble_eq_true rfl) rfl (by decide) (lk_Model_classOf hγ this (mI M65 300 i68 v3.toNatClampNeg) _ M65 h) (fun _ _ => Qi_r) (fun v M70 hp => Qi_k (R := fun st => E γ k_Model_callStep 131 260 [some (vr (some (11, this))), some (vi v1), none, some (vi v3), some (vi v4), some (vi v5), some (vi v6), some (vi v7), none, some (vi (s1 + s0)), some (vi x26), some (vi (mI M 176 i56 x26.toNatClampNeg)), none] st M70 (Qi Q)) hp (fun r71 h => ?_))
            refine E_callV (κ' := k_Model_isBelow) (As := [vi r66, vi r71]) (st := []) mv_Model_isBelow (Or.inl (tbk_mem (j := 16) (k := 131) rfl)) rfl (by decide +kernel) (Nat.le_of_ble_eq_true rfl) (Nat.le_of_ble_eq_true rfl) rfl (by decide) (lk_Model_isBelow hγ this r66 r71 _ M70 h) (fun _ _ => Qi_r) (fun v M72 hp => Qi_k (R := fun st => E γ k_Model_callStep 131 263 [some (vr (some (11, this))), some (vi v1), none, some (vi v3), some (vi v4), some (vi v5), some (vi v6), some (vi v7), none, some (vi (s1 + s0)), some (vi x26), some (vi (mI M 176 i56 x26.toNatClampNeg)), none] st M72 (Qi Q)) hp (fun r73 h => ?_))
            refine E_if_ne (off := 13) (tgt := 276) (by decide +kernel) (by decide) (fun b74 => ?_) (fun b74 => ?_)
            · rw [if_pos b74] at h
              refine E_blk (lv' := [some (vr (some (11, this))), some (vi v1), none, some (vi v3), some (vi v4), some (vi v5), some (vi v6), some (vi v7), none, some (vi (s1 + s0)), some (vi x26), some (vi (mI M 176 i56 x26.toNatClampNeg)), none]) (st' := [vi (15 : Int32), vi (59 : Int32), vr (some (11, this))]) (M1 := M72) (pc' := 271) (tb_Model hγ) [.aload_n 0, .bipush 59, .bipush 15] (by decide +kernel) rfl rfl trivial ?_
              refine E_callV (κ' := k_Model_throwNew) (As := [vi (59 : Int32), vi (15 : Int32)]) (st := []) mv_Model_throwNew (Or.inl (tbk_mem (j := 16) (k := 111) rfl)) rfl (by decide +kernel) (Nat.le_of_ble_eq_true rfl) (Nat.le_of_ble_eq_true rfl) rfl (by decide) (lk_Model_throwNew hγ this (59 : Int32) (15 : Int32) _ M72 h) (fun _ _ => Qv_r) (fun v M75 hp => Qv_k (R := fun st => E γ k_Model_callStep 131 274 [some (vr (some (11, this))), some (vi v1), none, some (vi v3), some (vi v4), some (vi v5), some (vi v6), some (vi v7), none, some (vi (s1 + s0)), some (vi x26), some (vi (mI M 176 i56 x26.toNatClampNeg)), none] st M75 (Qi Q)) hp (fun h => ?_))
              refine E_blk (lv' := [some (vr (some (11, this))), some (vi v1), none, some (vi v3), some (vi v4), some (vi v5), some (vi v6), some (vi v7), none, some (vi (s1 + s0)), some (vi x26), some (vi (mI M 176 i56 x26.toNatClampNeg)), none]) (st' := [vi (1 : Int32)]) (M1 := M75) (pc' := 275) (tb_Model hγ) [.iconst 1] (by decide +kernel) rfl rfl trivial ?_
              exact E_iret rfl (by decide +kernel) h
            · rw [if_neg b74] at h
              refine E_mask [true, true, false, false, false, true, true, false, false, true, true, true, false] rfl ?_
              exact lk_Model_callStep_j276 hγ this Q v1 v5 v6 (s1 + s0) x26 (mI M 176 i56 x26.toNatClampNeg) M72 h
          · rw [if_neg b64] at h
            refine E_mask [true, true, false, false, false, true, true, false, false, true, true, true, false] rfl ?_
            exact lk_Model_callStep_j276 hγ this Q v1 v5 v6 (s1 + s0) x26 (mI M 176 i56 x26.toNatClampNeg) M h
        · rw [if_neg b63] at h
          refine E_mask [true, true, false, false, false, false, false, true, false, true, true, false, false] rfl ?_
          exact lk_Model_callStep_j311 hγ this Q v1 v7 (s1 + s0) x26 M h
set_option maxRecDepth 4096 in
theorem lk_Model_callStep_j134 {γ : Gm} (hγ : Gk γ) (this : Nat) (Q : Int32 → Mem → Prop) (v1 : Int32) (v3 : Int32) (v4 : Int32) (v5 : Int32) (v6 : Int32) (v7 : Int32) (v8 : Int32) (M : Mem) (h : w_Model_callStep_j134 this Q v1 v3 v4 v5 v6 v7 v8 M) : E γ k_Model_callStep 131 134 [some (vr (some (11, this))), some (vi v1), none, some (vi v3), some (vi v4), some (vi v5), some (vi v6), some (vi v7), some (vi v8), none, none, none, none] [] M (Qi Q) := by
  unfold w_Model_callStep_j134 at h
  refine E_blk (lv' := [some (vr (some (11, this))), some (vi v1), none, some (vi v3), some (vi v4), some (vi v5), some (vi v6), some (vi v7), some (vi v8), none, none, none, none]) (st' := [vi v4, vr (some (11, this))]) (M1 := M) (pc' := 137) (tb_Model hγ) [.aload_n 0, .iload 4] (by decide +kernel) rfl rfl trivial ?_
  refine E_callV (κ' := k_Model_tally) (As := [vi v4]) (st := []) mv_Model_tally (Or.inl (tbk_mem (j := 16) (k := 171) rfl)) rfl (by decide +kernel) (Nat.le_of_ble_eq_true rfl) (Nat.le_of_ble_eq_true rfl) rfl (by decide) (lk_Model_tally hγ this v4 _ M h) (fun _ _ => Qv_r) (fun v M22 hp => Qv_k (R := fun st => E γ k_Model_callStep 131 140 [some (vr (some (11, this))), some (vi v1), none, some (vi v3), some (vi v4), some (vi v5), some (vi v6), some (vi v7), some (vi v8), none, none, none, none] st M22 (Qi Q)) hp (fun h => ?_))
  refine E_blk (lv' := [some (vr (some (11, this))), some (vi v1), none, some (vi v3), some (vi v4), some (vi v5), some (vi v6), some (vi v7), some (vi v8), none, none, none, none]) (st' := [vi (52 : Int32), vi v4, vi v8]) (M1 := M22) (pc' := 146) (tb_Model hγ) [.iload 8, .iload 4, .bipush 52] (by decide +kernel) rfl rfl trivial ?_
  refine E_icmp_ne (off := 7) (tgt := 153) (by decide +kernel) (by decide) (fun b23 => ?_) (fun b23 => ?_)
  · rw [if_pos b23] at h
    refine E_blk (lv' := [some (vr (some (11, this))), some (vi v1), none, some (vi v3), some (vi v4), some (vi v5), some (vi v6), some (vi v7), some (vi v8), none, none, none, none]) (st' := [vi (0 : Int32), vi v8]) (M1 := M22) (pc' := 150) (tb_Model hγ) [.iconst 0] (by decide +kernel) rfl rfl trivial ?_
    refine E_goto (off := 4) (tgt := 154) (by decide +kernel) (by decide) ?_
    refine E_mask [true, true, false, true, true, true, true, true, false, false, false, false, false] rfl ?_
    exact lk_Model_callStep_j154 hγ this Q v1 v3 v4 v5 v6 v7 (0 : Int32) v8 M22 h
  · rw [if_neg b23] at h
    refine E_blk (lv' := [some (vr (some (11, this))), some (vi v1), none, some (vi v3), some (vi v4), some (vi v5), some (vi v6), some (vi v7), some (vi v8), none, none, none, none]) (st' := [vi (1 : Int32), vi v8]) (M1 := M22) (pc' := 154) (tb_Model hγ) [.iconst 1] (by decide +kernel) rfl rfl trivial ?_
    refine E_mask [true, true, false, true, true, true, true, true, false, false, false, false, false] rfl ?_
    exact lk_Model_callStep_j154 hγ this Q v1 v3 v4 v5 v6 v7 (1 : Int32) v8 M22 h
set_option maxRecDepth 4096 in
theorem lk_Model_callStep {γ : Gm} (hγ : Gk γ) (this : Nat) (a1 : Int32) (a2 : Int32) (a3 : Int32) (a4 : Int32) (Q : Int32 → Mem → Prop) (M : Mem) (h : w_Model_callStep this a1 a2 a3 a4 Q M) : E γ k_Model_callStep 131 0 [some (vr (some (11, this))), some (vi a1), some (vi a2), some (vi a3), some (vi a4), none, none, none, none, none, none, none, none] [] M (Qi Q) := by
  unfold w_Model_callStep at h
  refine E_blk (lv' := [some (vr (some (11, this))), some (vi a1), some (vi a2), some (vi a3), some (vi a4), none, none, none, none, none, none, none, none]) (st' := [vr (mR M 11 this 45)]) (M1 := M) (pc' := 4) (tb_Model hγ) [.aload_n 0, .getfield 522] (by decide +kernel) rfl rfl trivial ?_
  obtain ⟨i1, ei1, h⟩ := h
  rw [ei1]
  refine E_blk (lv' := [some (vr (some (11, this))), some (vi a1), some (vi a2), some (vi a3), some (vi a4), none, none, none, none, none, none, none, none]) (st' := [vr (mR M 12 i1 32)]) (M1 := M) (pc' := 7) (tb_Model hγ) [.getfield 680] (by decide +kernel) rfl rfl trivial ?_
  obtain ⟨i2, ei2, h⟩ := h
  rw [ei2]
  obtain ⟨c3, h⟩ := h
  refine E_blk (lv' := [some (vr (some (11, this))), some (vi a1), some (vi a2), some (vi a3), some (vi a4), some (vi (mI M 300 i2 a3.toNatClampNeg)), none, none, none, none, none, none, none]) (st' := [vr (mR M 11 this 45)]) (M1 := M) (pc' := 15) (tb_Model hγ) [.iload_n 3, .iaload, .istore 5, .aload_n 0, .getfield 522] (by decide +kernel) rfl rfl ⟨c3, trivial⟩ ?_
  obtain ⟨i4, ei4, h⟩ := h
  rw [ei4]
  refine E_blk (lv' := [some (vr (some (11, this))), some (vi a1), some (vi a2), some (vi a3), some (vi a4), some (vi (mI M 300 i2 a3.toNatClampNeg)), none, none, none, none, none, none, none]) (st' := [vr (mR M 12 i4 33)]) (M1 := M) (pc' := 18) (tb_Model hγ) [.getfield 683] (by decide +kernel) rfl rfl trivial ?_
  obtain ⟨i5, ei5, h⟩ := h
  rw [ei5]
  obtain ⟨c6, h⟩ := h
  refine E_blk (lv' := [some (vr (some (11, this))), some (vi a1), some (vi a2), some (vi a3), some (vi a4), some (vi (mI M 300 i2 a3.toNatClampNeg)), some (vi (mI M 300 i5 a3.toNatClampNeg)), none, none, none, none, none, none]) (st' := [vr (mR M 11 this 45), vi a4, vr (some (11, this))]) (M1 := M) (pc' := 29) (tb_Model hγ) [.iload_n 3, .iaload, .istore 6, .aload_n 0, .iload 4, .aload_n 0, .getfield 522] (by decide +kernel) rfl rfl ⟨c6, trivial⟩ ?_
  obtain ⟨i7, ei7, h⟩ := h
  rw [ei7]
  refine E_blk (lv' := [some (vr (some (11, this))), some (vi a1), some (vi a2), some (vi a3), some (vi a4), some (vi (mI M 300 i2 a3.toNatClampNeg)), some (vi (mI M 300 i5 a3.toNatClampNeg)), none, none, none, none, none, none]) (st' := [vr (mR M 12 i7 31), vi a4, vr (some (11, this))]) (M1 := M) (pc' := 32) (tb_Model hγ) [.getfield 677] (by decide +kernel) rfl rfl trivial ?_
  obtain ⟨i8, ei8, h⟩ := h
  rw [ei8]
  obtain ⟨c9, c10, h⟩ := h
  refine E_blk (lv' := [some (vr (some (11, this))), some (vi a1), some (vi a2), some (vi a3), some (vi a4), some (vi (mI M 300 i2 a3.toNatClampNeg)), some (vi (mI M 300 i5 a3.toNatClampNeg)), none, none, none, none, none, none]) (st' := [vi (a2 / (12 : Int32)), vi (mI M 300 i5 a3.toNatClampNeg), vi (mI M 300 i2 a3.toNatClampNeg), vi (mI M 300 i8 a3.toNatClampNeg), vi a4, vr (some (11, this))]) (M1 := M) (pc' := 42) (tb_Model hγ) [.iload_n 3, .iaload, .iload 5, .iload 6, .iload_n 2, .bipush 12, .idiv] (by decide +kernel) rfl rfl ⟨c9, c10, trivial⟩ ?_
  refine E_callV (κ' := k_Model_findMethod) (As := [vi a4, vi (mI M 300 i8 a3.toNatClampNeg), vi (mI M 300 i2 a3.toNatClampNeg), vi (mI M 300 i5 a3.toNatClampNeg), vi (a2 / (12 : Int32))]) (st := []) mv_Model_findMethod (Or.inl (tbk_mem (j := 16) (k := 79) rfl)) rfl (by decide +kernel) (Nat.le_of_ble_eq_true rfl) (Nat.le_of_ble_eq_true rfl) rfl (by decide) (lk_Model_findMethod hγ this a4 (mI M 300 i8 a3.toNatClampNeg) (mI M 300 i2 a3.toNatClampNeg) (mI M 300 i5 a3.toNatClampNeg) (a2 / (12 : Int32)) _ M h) (fun _ _ => Qi_r) (fun v M11 hp => Qi_k (R := fun st => E γ k_Model_callStep 131 45 [some (vr (some (11, this))), some (vi a1), some (vi a2), some (vi a3), some (vi a4), some (vi (mI M 300 i2 a3.toNatClampNeg)), some (vi (mI M 300 i5 a3.toNatClampNeg)), none, none, none, none, none, none] st M11 (Qi Q)) hp (fun r12 h => ?_))
  refine E_blk (lv' := [some (vr (some (11, this))), some (vi a1), some (vi a2), some (vi a3), some (vi a4), some (vi (mI M 300 i2 a3.toNatClampNeg)), some (vi (mI M 300 i5 a3.toNatClampNeg)), some (vi r12), none, none, none, none, none]) (st' := [vi r12]) (M1 := M11) (pc' := 49) (tb_Model hγ) [.istore 7, .iload 7] (by decide +kernel) rfl rfl trivial ?_
  refine E_if_ge (off := 18) (tgt := 67) (by decide +kernel) (by decide) (fun b13 => ?_) (fun b13 => ?_)
  · rw [if_pos b13] at h
    refine E_blk (lv' := [some (vr (some (11, this))), some (vi a1), some (vi a2), some (vi a3), some (vi a4), some (vi (mI M 300 i2 a3.toNatClampNeg)), some (vi (mI M 300 i5 a3.toNatClampNeg)), some (vi r12), none, none, none, none, none]) (st' := [vr (mR M11 11 this 31)]) (M1 := M11) (pc' := 71) (tb_Model hγ) [.aload_n 0, .getfield 80] (by decide +kernel) rfl rfl trivial ?_
    obtain ⟨i14, ei14, h⟩ := h
    rw [ei14]
    obtain ⟨c15, h⟩ := h
    refine E_blk (lv' := [some (vr (some (11, this))), some (vi a1), some (vi a2), some (vi a3), some (vi a4), some (vi (mI M 300 i2 a3.toNatClampNeg)), some (vi (mI M 300 i5 a3.toNatClampNeg)), some (vi r12), some (vi (mI M11 300 i14 (mI M 300 i5 a3.toNatClampNeg).toNatClampNeg)), none, none, none, none]) (st' := []) (M1 := M11) (pc' := 76) (tb_Model hγ) [.iload 6, .iaload, .istore 8] (by decide +kernel) rfl rfl ⟨c15, trivial⟩ ?_
    obtain ⟨x16, ex16, h⟩ := h
    rw [← ex16]
    refine E_blk (lv' := [some (vr (some (11, this))), some (vi a1), some (vi a2), some (vi a3), some (vi a4), some (vi (mI M 300 i2 a3.toNatClampNeg)), some (vi (mI M 300 i5 a3.toNatClampNeg)), some (vi r12), some (vi x16), none, none, none, none]) (st' := [vi (52 : Int32), vi a4]) (M1 := M11) (pc' := 80) (tb_Model hγ) [.iload 4, .bipush 52] (by decide +kernel) rfl rfl trivial ?_
    refine E_icmp_ne (off := 54) (tgt := 134) (by decide +kernel) (by decide) (fun b17 => ?_) (fun b17 => ?_)
    · rw [if_pos b17] at h
      obtain ⟨c18, h⟩ := h
      refine E_blk (lv' := [some (vr (some (11, this))), some (vi a1), some (vi a2), some (vi a3), some (vi a4), some (vi (mI M 300 i2 a3.toNatClampNeg)), some (vi (mI M 300 i5 a3.toNatClampNeg)), some (vi r12), some (vi x16), none, none, none, none]) (st' := [vi (r12 / (12 : Int32)), vr (some (11, this))]) (M1 := M11) (pc' := 89) (tb_Model hγ) [.aload_n 0, .iload 7, .bipush 12, .idiv] (by decide +kernel) rfl rfl ⟨c18, trivial⟩ ?_
      refine E_callV (κ' := k_Model_startOf) (As := [vi (r12 / (12 : Int32))]) (st := []) mv_Model_startOf (Or.inl (tbk_mem (j := 16) (k := 103) rfl)) rfl (by decide +kernel) (Nat.le_of_ble_eq_true rfl) (Nat.le_of_ble_eq_true rfl) rfl (by decide) (lk_Model_startOf hγ this (r12 / (12 : Int32)) _ M11 h) (fun _ _ => Qi_r) (fun v M19 hp => Qi_k (R := fun st => E γ k_Model_callStep 131 92 [some (vr (some (11, this))), some (vi a1), some (vi a2), some (vi a3), some (vi a4), some (vi (mI M 300 i2 a3.toNatClampNeg)), some (vi (mI M 300 i5 a3.toNatClampNeg)), some (vi r12), some (vi x16), none, none, none, none] st M19 (Qi Q)) hp (fun r20 h => ?_))
      refine E_blk (lv' := [some (vr (some (11, this))), some (vi a1), some (vi a2), some (vi a3), some (vi a4), some (vi (mI M 300 i2 a3.toNatClampNeg)), some (vi (mI M 300 i5 a3.toNatClampNeg)), some (vi r12), some (vi x16), some (vi r20), none, none, none]) (st' := [vi r20]) (M1 := M19) (pc' := 96) (tb_Model hγ) [.istore 9, .iload 9] (by decide +kernel) rfl rfl trivial ?_
      refine E_if_eq (off := 38) (tgt := 134) (by decide +kernel) (by decide) (fun b21 => ?_) (fun b21 => ?_)
      · rw [if_pos b21] at h
        refine E_mask [true, true, false, true, true, true, true, true, true, false, false, false, false] rfl ?_
        exact lk_Model_callStep_j134 hγ this Q a1 a3 a4 (mI M 300 i2 a3.toNatClampNeg) (mI M 300 i5 a3.toNatClampNeg) r12 x16 M19 h
      · rw [if_neg b21] at h
        refine E_blk (lv' := [some (vr (some (11, this))), some (vi a1), some (vi a2), some (vi a3), some (vi a4), some (vi (mI M 300 i2 a3.toNatClampNeg)), some (vi (mI M 300 i5 a3.toNatClampNeg)), some (vi r12), some (vi x16), some (vi r20), none, none, none]) (st' := [vi (3 : Int32), vi r20]) (M1 := M19) (pc' := 102) (tb_Model hγ) [.iload 9, .iconst 3] (by decide +kernel) rfl rfl trivial ?_
        refine E_icmp_ne (off := 20) (tgt := 122) (by decide +kernel) (by decide) (fun b82 => ?_) (fun b82 => ?_)
        · rw [if_pos b82] at h
          refine E_blk (lv' := [some (vr (some (11, this))), some (vi a1), some (vi a2), some (vi a3), some (vi a4), some (vi (mI M 300 i2 a3.toNatClampNeg)), some (vi (mI M 300 i5 a3.toNatClampNeg)), some (vi r12), some (vi x16), some (vi r20), none, none, none]) (st' := [vi (mI M19 11 this 80), vi (mI M19 11 this 81), vi a4, vr (some (11, this))]) (M1 := M19) (pc' := 116) (tb_Model hγ) [.aload_n 0, .iload 4, .aload_n 0, .getfield 844, .aload_n 0, .getfield 847] (by decide +kernel) rfl rfl trivial ?_
          refine E_callV (κ' := k_Model_throwsAt) (As := [vi a4, vi (mI M19 11 this 81), vi (mI M19 11 this 80)]) (st := []) mv_Model_throwsAt (Or.inl (tbk_mem (j := 16) (k := 167) rfl)) rfl (by decide +kernel) (Nat.le_of_ble_eq_true rfl) (Nat.le_of_ble_eq_true rfl) rfl (by decide) (lk_Model_throwsAt hγ this a4 (mI M19 11 this 81) (mI M19 11 this 80) _ M19 h) (fun _ _ => Qi_r) (fun v M83 hp => Qi_k (R := fun st => E γ k_Model_callStep 131 119 [some (vr (some (11, this))), some (vi a1), some (vi a2), some (vi a3), some (vi a4), some (vi (mI M 300 i2 a3.toNatClampNeg)), some (vi (mI M 300 i5 a3.toNatClampNeg)), some (vi r12), some (vi x16), some (vi r20), none, none, none] st M83 (Qi Q)) hp (fun r84 h => ?_))
          refine E_goto (off := 14) (tgt := 133) (by decide +kernel) (by decide) ?_
          exact E_iret rfl (by decide +kernel) h
        · rw [if_neg b82] at h
          refine E_blk (lv' := [some (vr (some (11, this))), some (vi a1), some (vi a2), some (vi a3), some (vi a4), some (vi (mI M 300 i2 a3.toNatClampNeg)), some (vi (mI M 300 i5 a3.toNatClampNeg)), some (vi r12), some (vi x16), some (vi r20), none, none, none]) (st' := [vi (2 : Int32), vi r20]) (M1 := M19) (pc' := 125) (tb_Model hγ) [.iload 9, .iconst 2] (by decide +kernel) rfl rfl trivial ?_
          refine E_icmp_ne (off := 7) (tgt := 132) (by decide +kernel) (by decide) (fun b85 => ?_) (fun b85 => ?_)
          · rw [if_pos b85] at h
            refine E_blk (lv' := [some (vr (some (11, this))), some (vi a1), some (vi a2), some (vi a3), some (vi a4), some (vi (mI M 300 i2 a3.toNatClampNeg)), some (vi (mI M 300 i5 a3.toNatClampNeg)), some (vi r12), some (vi x16), some (vi r20), none, none, none]) (st' := [vi (2 : Int32)]) (M1 := M19) (pc' := 129) (tb_Model hγ) [.iconst 2] (by decide +kernel) rfl rfl trivial ?_
            refine E_goto (off := 4) (tgt := 133) (by decide +kernel) (by decide) ?_
            exact E_iret rfl (by decide +kernel) h
          · rw [if_neg b85] at h
            refine E_blk (lv' := [some (vr (some (11, this))), some (vi a1), some (vi a2), some (vi a3), some (vi a4), some (vi (mI M 300 i2 a3.toNatClampNeg)), some (vi (mI M 300 i5 a3.toNatClampNeg)), some (vi r12), some (vi x16), some (vi r20), none, none, none]) (st' := [vi (0 : Int32)]) (M1 := M19) (pc' := 133) (tb_Model hγ) [.iconst 0] (by decide +kernel) rfl rfl trivial ?_
            exact E_iret rfl (by decide +kernel) h
    · rw [if_neg b17] at h
      refine E_mask [true, true, false, true, true, true, true, true, true, false, false, false, false] rfl ?_
      exact lk_Model_callStep_j134 hγ this Q a1 a3 a4 (mI M 300 i2 a3.toNatClampNeg) (mI M 300 i5 a3.toNatClampNeg) r12 x16 M11 h
  · rw [if_neg b13] at h
    refine E_blk (lv' := [some (vr (some (11, this))), some (vi a1), some (vi a2), some (vi a3), some (vi a4), some (vi (mI M 300 i2 a3.toNatClampNeg)), some (vi (mI M 300 i5 a3.toNatClampNeg)), some (vi r12), none, none, none, none, none]) (st' := [vi (mI M11 11 this 80), vi (mI M11 11 this 81), vi a4, vr (some (11, this))]) (M1 := M11) (pc' := 63) (tb_Model hγ) [.aload_n 0, .iload 4, .aload_n 0, .getfield 844, .aload_n 0, .getfield 847] (by decide +kernel) rfl rfl trivial ?_
    refine E_callV (κ' := k_Model_throwsAt) (As := [vi a4, vi (mI M11 11 this 81), vi (mI M11 11 this 80)]) (st := []) mv_Model_throwsAt (Or.inl (tbk_mem (j := 16) (k := 167) rfl)) rfl (by decide +kernel) (Nat.le_of_ble_eq_true rfl) (Nat.le_of_ble_eq_true rfl) rfl (by decide) (lk_Model_throwsAt hγ this a4 (mI M11 11 this 81) (mI M11 11 this 80) _ M11 h) (fun _ _ => Qi_r) (fun v M86 hp => Qi_k (R := fun st => E γ k_Model_callStep 131 66 [some (vr (some (11, this))), some (vi a1), some (vi a2), some (vi a3), some (vi a4), some (vi (mI M 300 i2 a3.toNatClampNeg)), some (vi (mI M 300 i5 a3.toNatClampNeg)), some (vi r12), none, none, none, none, none] st M86 (Qi Q)) hp (fun r87 h => ?_))
    exact E_iret rfl (by decide +kernel) h
def w_Model_newStep_j51 (this : Nat) (Q : Int32 → Mem → Prop) (v1 : Int32) (v3 : Int32) (M : Mem) : Prop :=
  if 0 ≤ v3 then (w_Model_startOf this v3 (fun r9 M8 => if r9 = 0 then (w_Model_tally this (41 : Int32) (fun M11 => w_Model_fieldsOf this v3 (fun r13 M12 => w_Model_newThing this v3 r13 (fun r15 M14 => if 0 ≤ r15 then (w_Model_push this v1 r15 (1 : Int32) (fun M17 => ∃ i18, (mR M17 11 this 46) = some (13, i18) ∧ vp_in v1 (mL M17 174 i18) ∧ vp_in v1 (mL M17 174 i18) ∧ ∃ M21, M21 = (sI M17 174 i18 v1.toNatClampNeg ((mI M17 174 i18 v1.toNatClampNeg) + (1 : Int32))) ∧ Q (1 : Int32) M21) M14) else (w_Model_throwNew this (0 : Int32) (9 : Int32) (fun M22 => Q (1 : Int32) M22) M14)) M12) M11) M8) else (if r9 = (3 : Int32) then (w_Model_throwsAt this (41 : Int32) (mI M8 11 this 81) (mI M8 11 this 80) (fun r25 M24 => Q r25 M24) M8) else (if r9 = (2 : Int32) then (Q (2 : Int32) M8) else (Q (0 : Int32) M8)))) M) else (w_Model_throwsAt this (41 : Int32) (mI M 11 this 81) (mI M 11 this 80) (fun r28 M27 => Q r28 M27) M)
def w_Model_newStep (this : Nat) (a1 : Int32) (a2 : Int32) (Q : Int32 → Mem → Prop) (M : Mem) : Prop :=
  ∃ i1, (mR M 11 this 45) = some (12, i1) ∧ ∃ i2, (mR M 12 i1 31) = some (300, i2) ∧ vp_in a2 (mL M 300 i2) ∧ w_Model_findLinked this (mI M 300 i2 a2.toNatClampNeg) (fun r5 M4 => if r5 < 0 then (w_Model_newStep_j51 this Q a1 r5 M4) else (w_Model_isOff this (7 : Int32) (fun r30 M29 => if r30 = 0 then (∃ i32, (mR M29 11 this 45) = some (12, i32) ∧ vp_in r5 (mL M29 132 i32) ∧ if ((mI M29 132 i32 r5.toNatClampNeg) &&& (6 : Int32)) = 0 then (w_Model_newStep_j51 this Q a1 r5 M29) else (w_Model_fails this (57 : Int32) (19 : Int32) (fun r36 M35 => w_Model_newStep_j51 this Q a1 r36 M35) M29)) else (w_Model_newStep_j51 this Q a1 r5 M29)) M4)) M
set_option maxRecDepth 4096 in
theorem lk_Model_newStep_j51 {γ : Gm} (hγ : Gk γ) (this : Nat) (Q : Int32 → Mem → Prop) (v1 : Int32) (v3 : Int32) (M : Mem) (h : w_Model_newStep_j51 this Q v1 v3 M) : E γ k_Model_newStep 130 51 [some (vr (some (11, this))), some (vi v1), none, some (vi v3), none, none] [] M (Qi Q) := by
  unfold w_Model_newStep_j51 at h
  refine E_blk (lv' := [some (vr (some (11, this))), some (vi v1), none, some (vi v3), none, none]) (st' := [vi v3]) (M1 := M) (pc' := 52) (tb_Model hγ) [.iload_n 3] (by decide +kernel) rfl rfl trivial ?_
  refine E_if_ge (off := 18) (tgt := 70) (by decide +kernel) (by decide) (fun b7 => ?_) (fun b7 => ?_)
  · rw [if_pos b7] at h
    refine E_blk (lv' := [some (vr (some (11, this))), some (vi v1), none, some (vi v3), none, none]) (st' := [vi v3, vr (some (11, this))]) (M1 := M) (pc' := 72) (tb_Model hγ) [.aload_n 0, .iload_n 3] (by decide +kernel) rfl rfl trivial ?_
    refine E_callV (κ' := k_Model_startOf) (As := [vi v3]) (st := []) mv_Model_startOf (Or.inl (tbk_mem (j := 16) (k := 103) rfl)) rfl (by decide +kernel) (Nat.le_of_ble_eq_true rfl) (Nat.le_of_ble_eq_true rfl) rfl (by decide) (lk_Model_startOf hγ this v3 _ M h) (fun _ _ => Qi_r) (fun v M8 hp => Qi_k (R := fun st => E γ k_Model_newStep 130 75 [some (vr (some (11, this))), some (vi v1), none, some (vi v3), none, none] st M8 (Qi Q)) hp (fun r9 h => ?_))
    refine E_blk (lv' := [some (vr (some (11, this))), some (vi v1), none, some (vi v3), some (vi r9), none]) (st' := [vi r9]) (M1 := M8) (pc' := 79) (tb_Model hγ) [.istore 4, .iload 4] (by decide +kernel) rfl rfl trivial ?_
    refine E_if_eq (off := 38) (tgt := 117) (by decide +kernel) (by decide) (fun b10 => ?_) (fun b10 => ?_)
    · rw [if_pos b10] at h
      refine E_blk (lv' := [some (vr (some (11, this))), some (vi v1), none, some (vi v3), some (vi r9), none]) (st' := [vi (41 : Int32), vr (some (11, this))]) (M1 := M8) (pc' := 120) (tb_Model hγ) [.aload_n 0, .bipush 41] (by decide +kernel) rfl rfl trivial ?_
      refine E_callV (κ' := k_Model_tally) (As := [vi (41 : Int32)]) (st := []) mv_Model_tally (Or.inl (tbk_mem (j := 16) (k := 171) rfl)) rfl (by decide +kernel) (Nat.le_of_ble_eq_true rfl) (Nat.le_of_ble_eq_true rfl) rfl (by decide) (lk_Model_tally hγ this (41 : Int32) _ M8 h) (fun _ _ => Qv_r) (fun v M11 hp => Qv_k (R := fun st => E γ k_Model_newStep 130 123 [some (vr (some (11, this))), some (vi v1), none, some (vi v3), some (vi r9), none] st M11 (Qi Q)) hp (fun h => ?_))
      refine E_blk (lv' := [some (vr (some (11, this))), some (vi v1), none, some (vi v3), some (vi r9), none]) (st' := [vi v3, vr (some (11, this)), vi v3, vr (some (11, this))]) (M1 := M11) (pc' := 127) (tb_Model hγ) [.aload_n 0, .iload_n 3, .aload_n 0, .iload_n 3] (by decide +kernel) rfl rfl trivial ?_
      refine E_callV (κ' := k_Model_fieldsOf) (As := [vi v3]) (st := [vi v3, vr (some (11, this))]) mv_Model_fieldsOf (Or.inl (tbk_mem (j := 16) (k := 183) rfl)) rfl (by decide +kernel) (Nat.le_of_ble_eq_true rfl) (Nat.le_of_ble_eq_true rfl) rfl (by decide) (lk_Model_fieldsOf hγ this v3 _ M11 h) (fun _ _ => Qi_r) (fun v M12 hp => Qi_k (R := fun st => E γ k_Model_newStep 130 130 [some (vr (some (11, this))), some (vi v1), none, some (vi v3), some (vi r9), none] st M12 (Qi Q)) hp (fun r13 h => ?_))
      refine E_callV (κ' := k_Model_newThing) (As := [vi v3, vi r13]) (st := []) mv_Model_newThing (Or.inl (tbk_mem (j := 16) (k := 203) rfl)) rfl (by decide +kernel) (Nat.le_of_ble_eq_true rfl) (Nat.le_of_ble_eq_true rfl) rfl (by decide) (lk_Model_newThing hγ this v3 r13 _ M12 h) (fun _ _ => Qi_r) (fun v M14 hp => Qi_k (R := fun st => E γ k_Model_newStep 130 133 [some (vr (some (11, this))), some (vi v1), none, some (vi v3), some (vi r9), none] st M14 (Qi Q)) hp (fun r15 h => ?_))
      refine E_blk (lv' := [some (vr (some (11, this))), some (vi v1), none, some (vi v3), some (vi r9), some (vi r15)]) (st' := [vi r15]) (M1 := M14) (pc' := 137) (tb_Model hγ) [.istore 5, .iload 5] (by decide +kernel) rfl rfl trivial ?_
      refine E_if_ge (off := 13) (tgt := 150) (by decide +kernel) (by decide) (fun b16 => ?_) (fun b16 => ?_)
      · rw [if_pos b16] at h
        refine E_blk (lv' := [some (vr (some (11, this))), some (vi v1), none, some (vi v3), some (vi r9), some (vi r15)]) (st' := [vi (1 : Int32), vi r15, vi v1, vr (some (11, this))]) (M1 := M14) (pc' := 155) (tb_Model hγ) [.aload_n 0, .iload_n 1, .iload 5, .iconst 1] (by decide +kernel) rfl rfl trivial ?_
        refine E_callV (κ' := k_Model_push) (As := [vi v1, vi r15, vi (1 : Int32)]) (st := []) mv_Model_push (Or.inl (tbk_mem (j := 16) (k := 135) rfl)) rfl (by decide +kernel) (Nat.le_of_ble_eq_true rfl) (Nat.le_of_ble_eq_true rfl) rfl (by decide) (lk_Model_push hγ this v1 r15 (1 : Int32) _ M14 h) (fun _ _ => Qv_r) (fun v M17 hp => Qv_k (R := fun st => E γ k_Model_newStep 130 158 [some (vr (some (11, this))), some (vi v1), none, some (vi v3), some (vi r9), some (vi r15)] st M17 (Qi Q)) hp (fun h => ?_))
        refine E_blk (lv' := [some (vr (some (11, this))), some (vi v1), none, some (vi v3), some (vi r9), some (vi r15)]) (st' := [vr (mR M17 11 this 46)]) (M1 := M17) (pc' := 162) (tb_Model hγ) [.aload_n 0, .getfield 917] (by decide +kernel) rfl rfl trivial ?_
        obtain ⟨i18, ei18, h⟩ := h
        rw [ei18]
        obtain ⟨c19, c20, h⟩ := h
        refine E_blk (lv' := [some (vr (some (11, this))), some (vi v1), none, some (vi v3), some (vi r9), some (vi r15)]) (st' := []) (M1 := (sI M17 174 i18 v1.toNatClampNeg ((mI M17 174 i18 v1.toNatClampNeg) + (1 : Int32)))) (pc' := 171) (tb_Model hγ) [.getfield 930, .iload_n 1, .dup2, .iaload, .iconst 1, .iadd, .iastore] (by decide +kernel) rfl rfl ⟨c19, c20, trivial⟩ ?_
        obtain ⟨M21, eM21, h⟩ := h
        rw [← eM21]
        refine E_blk (lv' := [some (vr (some (11, this))), some (vi v1), none, some (vi v3), some (vi r9), some (vi r15)]) (st' := [vi (1 : Int32)]) (M1 := M21) (pc' := 172) (tb_Model hγ) [.iconst 1] (by decide +kernel) rfl rfl trivial ?_
        exact E_iret rfl (by decide +kernel) h
      · rw [if_neg b16] at h
        refine E_blk (lv' := [some (vr (some (11, this))), some (vi v1), none, some (vi v3), some (vi r9), some (vi r15)]) (st' := [vi (9 : Int32), vi (0 : Int32), vr (some (11, this))]) (M1 := M14) (pc' := 144) (tb_Model hγ) [.aload_n 0, .iconst 0, .bipush 9] (by decide +kernel) rfl rfl trivial ?_
        refine E_callV (κ' := k_Model_throwNew) (As := [vi (0 : Int32), vi (9 : Int32)]) (st := []) mv_Model_throwNew (Or.inl (tbk_mem (j := 16) (k := 111) rfl)) rfl (by decide +kernel) (Nat.le_of_ble_eq_true rfl) (Nat.le_of_ble_eq_true rfl) rfl (by decide) (lk_Model_throwNew hγ this (0 : Int32) (9 : Int32) _ M14 h) (fun _ _ => Qv_r) (fun v M22 hp => Qv_k (R := fun st => E γ k_Model_newStep 130 147 [some (vr (some (11, this))), some (vi v1), none, some (vi v3), some (vi r9), some (vi r15)] st M22 (Qi Q)) hp (fun h => ?_))
        refine E_goto (off := 24) (tgt := 171) (by decide +kernel) (by decide) ?_
        refine E_blk (lv' := [some (vr (some (11, this))), some (vi v1), none, some (vi v3), some (vi r9), some (vi r15)]) (st' := [vi (1 : Int32)]) (M1 := M22) (pc' := 172) (tb_Model hγ) [.iconst 1] (by decide +kernel) rfl rfl trivial ?_
        exact E_iret rfl (by decide +kernel) h
    · rw [if_neg b10] at h
      refine E_blk (lv' := [some (vr (some (11, this))), some (vi v1), none, some (vi v3), some (vi r9), none]) (st' := [vi (3 : Int32), vi r9]) (M1 := M8) (pc' := 85) (tb_Model hγ) [.iload 4, .iconst 3] (by decide +kernel) rfl rfl trivial ?_
      refine E_icmp_ne (off := 20) (tgt := 105) (by decide +kernel) (by decide) (fun b23 => ?_) (fun b23 => ?_)
      · rw [if_pos b23] at h
        refine E_blk (lv' := [some (vr (some (11, this))), some (vi v1), none, some (vi v3), some (vi r9), none]) (st' := [vi (mI M8 11 this 80), vi (mI M8 11 this 81), vi (41 : Int32), vr (some (11, this))]) (M1 := M8) (pc' := 99) (tb_Model hγ) [.aload_n 0, .bipush 41, .aload_n 0, .getfield 844, .aload_n 0, .getfield 847] (by decide +kernel) rfl rfl trivial ?_
        refine E_callV (κ' := k_Model_throwsAt) (As := [vi (41 : Int32), vi (mI M8 11 this 81), vi (mI M8 11 this 80)]) (st := []) mv_Model_throwsAt (Or.inl (tbk_mem (j := 16) (k := 167) rfl)) rfl (by decide +kernel) (Nat.le_of_ble_eq_true rfl) (Nat.le_of_ble_eq_true rfl) rfl (by decide) (lk_Model_throwsAt hγ this (41 : Int32) (mI M8 11 this 81) (mI M8 11 this 80) _ M8 h) (fun _ _ => Qi_r) (fun v M24 hp => Qi_k (R := fun st => E γ k_Model_newStep 130 102 [some (vr (some (11, this))), some (vi v1), none, some (vi v3), some (vi r9), none] st M24 (Qi Q)) hp (fun r25 h => ?_))
        refine E_goto (off := 14) (tgt := 116) (by decide +kernel) (by decide) ?_
        exact E_iret rfl (by decide +kernel) h
      · rw [if_neg b23] at h
        refine E_blk (lv' := [some (vr (some (11, this))), some (vi v1), none, some (vi v3), some (vi r9), none]) (st' := [vi (2 : Int32), vi r9]) (M1 := M8) (pc' := 108) (tb_Model hγ) [.iload 4, .iconst 2] (by decide +kernel) rfl rfl trivial ?_
        refine E_icmp_ne (off := 7) (tgt := 115) (by decide +kernel) (by decide) (fun b26 => ?_) (fun b26 => ?_)
        · rw [if_pos b26] at h
          refine E_blk (lv' := [some (vr (some (11, this))), some (vi v1), none, some (vi v3), some (vi r9), none]) (st' := [vi (2 : Int32)]) (M1 := M8) (pc' := 112) (tb_Model hγ) [.iconst 2] (by decide +kernel) rfl rfl trivial ?_
          refine E_goto (off := 4) (tgt := 116) (by decide +kernel) (by decide) ?_
          exact E_iret rfl (by decide +kernel) h
        · rw [if_neg b26] at h
          refine E_blk (lv' := [some (vr (some (11, this))), some (vi v1), none, some (vi v3), some (vi r9), none]) (st' := [vi (0 : Int32)]) (M1 := M8) (pc' := 116) (tb_Model hγ) [.iconst 0] (by decide +kernel) rfl rfl trivial ?_
          exact E_iret rfl (by decide +kernel) h
  · rw [if_neg b7] at h
    refine E_blk (lv' := [some (vr (some (11, this))), some (vi v1), none, some (vi v3), none, none]) (st' := [vi (mI M 11 this 80), vi (mI M 11 this 81), vi (41 : Int32), vr (some (11, this))]) (M1 := M) (pc' := 66) (tb_Model hγ) [.aload_n 0, .bipush 41, .aload_n 0, .getfield 844, .aload_n 0, .getfield 847] (by decide +kernel) rfl rfl trivial ?_
    refine E_callV (κ' := k_Model_throwsAt) (As := [vi (41 : Int32), vi (mI M 11 this 81), vi (mI M 11 this 80)]) (st := []) mv_Model_throwsAt (Or.inl (tbk_mem (j := 16) (k := 167) rfl)) rfl (by decide +kernel) (Nat.le_of_ble_eq_true rfl) (Nat.le_of_ble_eq_true rfl) rfl (by decide) (lk_Model_throwsAt hγ this (41 : Int32) (mI M 11 this 81) (mI M 11 this 80) _ M h) (fun _ _ => Qi_r) (fun v M27 hp => Qi_k (R := fun st => E γ k_Model_newStep 130 69 [some (vr (some (11, this))), some (vi v1), none, some (vi v3), none, none] st M27 (Qi Q)) hp (fun r28 h => ?_))
    exact E_iret rfl (by decide +kernel) h
set_option maxRecDepth 4096 in
theorem lk_Model_newStep {γ : Gm} (hγ : Gk γ) (this : Nat) (a1 : Int32) (a2 : Int32) (Q : Int32 → Mem → Prop) (M : Mem) (h : w_Model_newStep this a1 a2 Q M) : E γ k_Model_newStep 130 0 [some (vr (some (11, this))), some (vi a1), some (vi a2), none, none, none] [] M (Qi Q) := by
  unfold w_Model_newStep at h
  refine E_blk (lv' := [some (vr (some (11, this))), some (vi a1), some (vi a2), none, none, none]) (st' := [vr (mR M 11 this 45), vr (some (11, this))]) (M1 := M) (pc' := 5) (tb_Model hγ) [.aload_n 0, .aload_n 0, .getfield 522] (by decide +kernel) rfl rfl trivial ?_
  obtain ⟨i1, ei1, h⟩ := h
  rw [ei1]
  refine E_blk (lv' := [some (vr (some (11, this))), some (vi a1), some (vi a2), none, none, none]) (st' := [vr (mR M 12 i1 31), vr (some (11, this))]) (M1 := M) (pc' := 8) (tb_Model hγ) [.getfield 677] (by decide +kernel) rfl rfl trivial ?_
  obtain ⟨i2, ei2, h⟩ := h
  rw [ei2]
  obtain ⟨c3, h⟩ := h
  refine E_blk (lv' := [some (vr (some (11, this))), some (vi a1), some (vi a2), none, none, none]) (st' := [vi (mI M 300 i2 a2.toNatClampNeg), vr (some (11, this))]) (M1 := M) (pc' := 10) (tb_Model hγ) [.iload_n 2, .iaload] (by decide +kernel) rfl rfl ⟨c3, trivial⟩ ?_
  refine E_callV (κ' := k_Model_findLinked) (As := [vi (mI M 300 i2 a2.toNatClampNeg)]) (st := []) mv_Model_findLinked (Or.inl (tbk_mem (j := 16) (k := 83) rfl)) rfl (by decide +kernel) (Nat.le_of_ble_eq_true rfl) (Nat.le_of_ble_eq_true rfl) rfl (by decide) (lk_Model_findLinked hγ this (mI M 300 i2 a2.toNatClampNeg) _ M h) (fun _ _ => Qi_r) (fun v M4 hp => Qi_k (R := fun st => E γ k_Model_newStep 130 13 [some (vr (some (11, this))), some (vi a1), some (vi a2), none, none, none] st M4 (Qi Q)) hp (fun r5 h => ?_))
  refine E_blk (lv' := [some (vr (some (11, this))), some (vi a1), some (vi a2), some (vi r5), none, none]) (st' := [vi r5]) (M1 := M4) (pc' := 15) (tb_Model hγ) [.istore_n 3, .iload_n 3] (by decide +kernel) rfl rfl trivial ?_
  refine E_if_lt (off := 36) (tgt := 51) (by decide +kernel) (by decide) (fun b6 => ?_) (fun b6 => ?_)
  · rw [if_pos b6] at h
    refine E_mask [true, true, false, true, false, false] rfl ?_
    exact lk_Model_newStep_j51 hγ this Q a1 r5 M4 h
  · rw [if_neg b6] at h
    refine E_blk (lv' := [some (vr (some (11, this))), some (vi a1), some (vi a2), some (vi r5), none, none]) (st' := [vi (7 : Int32), vr (some (11, this))]) (M1 := M4) (pc' := 21) (tb_Model hγ) [.aload_n 0, .bipush 7] (by decide +kernel) rfl rfl trivial ?_
    refine E_callV (κ' := k_Model_isOff) (As := [vi (7 : Int32)]) (st := []) mv_Model_isOff (Or.inl (tbk_mem (j := 15) (k := 47) rfl)) rfl (by decide +kernel) (Nat.le_of_ble_eq_true rfl) (Nat.le_of_ble_eq_true rfl) rfl (by decide) (lk_Model_isOff hγ this (7 : Int32) _ M4 h) (fun _ _ => Qi_r) (fun v M29 hp => Qi_k (R := fun st => E γ k_Model_newStep 130 24 [some (vr (some (11, this))), some (vi a1), some (vi a2), some (vi r5), none, none] st M29 (Qi Q)) hp (fun r30 h => ?_))
    refine E_if_ne (off := 27) (tgt := 51) (by decide +kernel) (by decide) (fun b31 => ?_) (fun b31 => ?_)
    · rw [if_pos b31] at h
      refine E_blk (lv' := [some (vr (some (11, this))), some (vi a1), some (vi a2), some (vi r5), none, none]) (st' := [vr (mR M29 11 this 45)]) (M1 := M29) (pc' := 31) (tb_Model hγ) [.aload_n 0, .getfield 522] (by decide +kernel) rfl rfl trivial ?_
      obtain ⟨i32, ei32, h⟩ := h
      rw [ei32]
      obtain ⟨c33, h⟩ := h
      refine E_blk (lv' := [some (vr (some (11, this))), some (vi a1), some (vi a2), some (vi r5), none, none]) (st' := [vi ((mI M29 132 i32 r5.toNatClampNeg) &&& (6 : Int32))]) (M1 := M29) (pc' := 39) (tb_Model hγ) [.getfield 429, .iload_n 3, .iaload, .bipush 6, .iand] (by decide +kernel) rfl rfl ⟨c33, trivial⟩ ?_
      refine E_if_eq (off := 12) (tgt := 51) (by decide +kernel) (by decide) (fun b34 => ?_) (fun b34 => ?_)
      · rw [if_pos b34] at h
        refine E_mask [true, true, false, true, false, false] rfl ?_
        exact lk_Model_newStep_j51 hγ this Q a1 r5 M29 h
      · rw [if_neg b34] at h
        refine E_blk (lv' := [some (vr (some (11, this))), some (vi a1), some (vi a2), some (vi r5), none, none]) (st' := [vi (19 : Int32), vi (57 : Int32), vr (some (11, this))]) (M1 := M29) (pc' := 47) (tb_Model hγ) [.aload_n 0, .bipush 57, .bipush 19] (by decide +kernel) rfl rfl trivial ?_
        refine E_callV (κ' := k_Model_fails) (As := [vi (57 : Int32), vi (19 : Int32)]) (st := []) mv_Model_fails (Or.inl (tbk_mem (j := 16) (k := 87) rfl)) rfl (by decide +kernel) (Nat.le_of_ble_eq_true rfl) (Nat.le_of_ble_eq_true rfl) rfl (by decide) (lk_Model_fails hγ this (57 : Int32) (19 : Int32) _ M29 h) (fun _ _ => Qi_r) (fun v M35 hp => Qi_k (R := fun st => E γ k_Model_newStep 130 50 [some (vr (some (11, this))), some (vi a1), some (vi a2), some (vi r5), none, none] st M35 (Qi Q)) hp (fun r36 h => ?_))
        refine E_blk (lv' := [some (vr (some (11, this))), some (vi a1), some (vi a2), some (vi r36), none, none]) (st' := []) (M1 := M35) (pc' := 51) (tb_Model hγ) [.istore_n 3] (by decide +kernel) rfl rfl trivial ?_
        refine E_mask [true, true, false, true, false, false] rfl ?_
        exact lk_Model_newStep_j51 hγ this Q a1 r36 M35 h
    · rw [if_neg b31] at h
      refine E_mask [true, true, false, true, false, false] rfl ?_
      exact lk_Model_newStep_j51 hγ this Q a1 r5 M29 h
def w_Model_classStep_j182 (this : Nat) (Q : Int32 → Mem → Prop) (v1 : Int32) (M : Mem) : Prop :=
  ∃ i15, (mR M 11 this 46) = some (13, i15) ∧ vp_in v1 (mL M 174 i15) ∧ vp_in v1 (mL M 174 i15) ∧ ∃ M18, M18 = (sI M 174 i15 v1.toNatClampNeg ((mI M 174 i15 v1.toNatClampNeg) + (1 : Int32))) ∧ Q (1 : Int32) M18
def w_Model_classStep_j170 (this : Nat) (Q : Int32 → Mem → Prop) (v1 : Int32) (v4 : Int32) (s0 : Int32) (s1 : Int32) (s2 : Nat) (M : Mem) : Prop :=
  vp_in s1 (mL M 176 s2) ∧ ∃ i12, (mR (sI M 176 s2 s1.toNatClampNeg s0) 11 this 46) = some (13, i12) ∧ vp_in v4 (mL (sI M 176 s2 s1.toNatClampNeg s0) 525 i12) ∧ ∃ M14, M14 = (sI (sI M 176 s2 s1.toNatClampNeg s0) 525 i12 v4.toNatClampNeg ((0 : Int32) &&& 1)) ∧ w_Model_classStep_j182 this Q v1 M14
def w_Model_classStep_j145 (this : Nat) (Q : Int32 → Mem → Prop) (v1 : Int32) (v3 : Int32) (v4 : Int32) (v6 : Int32) (M : Mem) : Prop :=
  if v3 = (55 : Int32) then (∃ i9, (mR M 11 this 46) = some (13, i9) ∧ if v6 = 0 then (w_Model_classStep_j170 this Q v1 v4 (0 : Int32) v4 i9 M) else (w_Model_classStep_j170 this Q v1 v4 (1 : Int32) v4 i9 M)) else (w_Model_classStep_j182 this Q v1 M)
def w_Model_classStep_j123 (this : Nat) (Q : Int32 → Mem → Prop) (v1 : Int32) (v3 : Int32) (v4 : Int32) (s0 : Int32) (M : Mem) : Prop :=
  if v3 = (54 : Int32) then (if s0 = 0 then (w_Model_throwNew this (0 : Int32) (6 : Int32) (fun M32 => Q (1 : Int32) M32) M) else (w_Model_classStep_j145 this Q v1 v3 v4 s0 M)) else (w_Model_classStep_j145 this Q v1 v3 v4 s0 M)
def w_Model_classStep_j111 (this : Nat) (Q : Int32 → Mem → Prop) (v1 : Int32) (v3 : Int32) (v4 : Int32) (v5 : Int32) (v7 : Int32) (M : Mem) : Prop :=
  w_Model_classOfRef this v5 (fun r27 M26 => w_Model_isBelow this r27 v7 (fun r29 M28 => w_Model_classStep_j123 this Q v1 v3 v4 r29 M28) M26) M
def w_Model_classStep (this : Nat) (a1 : Int32) (a2 : Int32) (a3 : Int32) (Q : Int32 → Mem → Prop) (M : Mem) : Prop :=
  w_Model_tally this a3 (fun M1 => ∃ i2, (mR M1 11 this 46) = some (13, i2) ∧ vp_in a1 (mL M1 175 i2) ∧ ∃ x4 : Int32, x4 = (((((44 : Int32) * a1) + (20 : Int32)) + (mI M1 175 i2 a1.toNatClampNeg)) - (1 : Int32)) ∧ ∃ i5, (mR M1 11 this 46) = some (13, i5) ∧ vp_in x4 (mL M1 176 i5) ∧ if (mI M1 176 i5 x4.toNatClampNeg) = 0 then (w_Model_classStep_j145 this Q a1 a3 x4 (0 : Int32) M1) else (∃ i19, (mR M1 11 this 45) = some (12, i19) ∧ ∃ i20, (mR M1 12 i19 31) = some (300, i20) ∧ vp_in a2 (mL M1 300 i20) ∧ w_Model_classOf this (mI M1 300 i20 a2.toNatClampNeg) (fun r23 M22 => if 0 ≤ r23 then (if (1001 : Int32) ≤ (mI M1 176 i5 x4.toNatClampNeg) then (w_Model_classStep_j111 this Q a1 a3 x4 (mI M1 176 i5 x4.toNatClampNeg) r23 M22) else (∃ i33, (mR M22 11 this 45) = some (12, i33) ∧ vp_in (mI M1 176 i5 x4.toNatClampNeg) (mL M22 157 i33) ∧ if (mI M22 157 i33 (mI M1 176 i5 x4.toNatClampNeg).toNatClampNeg) = (-1 : Int32) then (if r23 = 0 then (w_Model_classStep_j123 this Q a1 a3 x4 (1 : Int32) M22) else (w_Model_classStep_j123 this Q a1 a3 x4 (0 : Int32) M22)) else (w_Model_classStep_j111 this Q a1 a3 x4 (mI M1 176 i5 x4.toNatClampNeg) r23 M22))) else (w_Model_throwNew this (50 : Int32) (11 : Int32) (fun M37 => Q (1 : Int32) M37) M22)) M1)) M
set_option maxRecDepth 4096 in
theorem lk_Model_classStep_j182 {γ : Gm} (hγ : Gk γ) (this : Nat) (Q : Int32 → Mem → Prop) (v1 : Int32) (M : Mem) (h : w_Model_classStep_j182 this Q v1 M) : E γ k_Model_classStep 8 182 [some (vr (some (11, this))), some (vi v1), none, none, none, none, none, none] [] M (Qi Q) := by
  unfold w_Model_classStep_j182 at h
  refine E_blk (lv' := [some (vr (some (11, this))), some (vi v1), none, none, none, none, none, none]) (st' := [vr (mR M 11 this 46)]) (M1 := M) (pc' := 186) (tb_Model hγ) [.aload_n 0, .getfield 917] (by decide +kernel) rfl rfl trivial ?_
  obtain ⟨i15, ei15, h⟩ := h
  rw [ei15]
  obtain ⟨c16, c17, h⟩ := h
  refine E_blk (lv' := [some (vr (some (11, this))), some (vi v1), none, none, none, none, none, none]) (st' := []) (M1 := (sI M 174 i15 v1.toNatClampNeg ((mI M 174 i15 v1.toNatClampNeg) + (1 : Int32)))) (pc' := 195) (tb_Model hγ) [.getfield 930, .iload_n 1, .dup2, .iaload, .iconst 1, .iadd, .iastore] (by decide +kernel) rfl rfl ⟨c16, c17, trivial⟩ ?_
  obtain ⟨M18, eM18, h⟩ := h
  rw [← eM18]
  refine E_blk (lv' := [some (vr (some (11, this))), some (vi v1), none, none, none, none, none, none]) (st' := [vi (1 : Int32)]) (M1 := M18) (pc' := 196) (tb_Model hγ) [.iconst 1] (by decide +kernel) rfl rfl trivial ?_
  exact E_iret rfl (by decide +kernel) h
set_option maxRecDepth 4096 in
theorem lk_Model_classStep_j170 {γ : Gm} (hγ : Gk γ) (this : Nat) (Q : Int32 → Mem → Prop) (v1 : Int32) (v4 : Int32) (s0 : Int32) (s1 : Int32) (s2 : Nat) (M : Mem) (h : w_Model_classStep_j170 this Q v1 v4 s0 s1 s2 M) : E γ k_Model_classStep 8 170 [some (vr (some (11, this))), some (vi v1), none, none, some (vi v4), none, none, none] [vi s0, vi s1, vr (some (176, s2))] M (Qi Q) := by
  unfold w_Model_classStep_j170 at h
  obtain ⟨c11, h⟩ := h
  refine E_blk (lv' := [some (vr (some (11, this))), some (vi v1), none, none, some (vi v4), none, none, none]) (st' := [vr (mR (sI M 176 s2 s1.toNatClampNeg s0) 11 this 46)]) (M1 := (sI M 176 s2 s1.toNatClampNeg s0)) (pc' := 175) (tb_Model hγ) [.iastore, .aload_n 0, .getfield 917] (by decide +kernel) rfl rfl ⟨c11, trivial⟩ ?_
  obtain ⟨i12, ei12, h⟩ := h
  rw [ei12]
  obtain ⟨c13, h⟩ := h
  refine E_blk (lv' := [some (vr (some (11, this))), some (vi v1), none, none, some (vi v4), none, none, none]) (st' := []) (M1 := (sI (sI M 176 s2 s1.toNatClampNeg s0) 525 i12 v4.toNatClampNeg ((0 : Int32) &&& 1))) (pc' := 182) (tb_Model hγ) [.getfield 939, .iload 4, .iconst 0, .bastore] (by decide +kernel) rfl rfl ⟨c13, trivial⟩ ?_
  obtain ⟨M14, eM14, h⟩ := h
  rw [← eM14]
  refine E_mask [true, true, false, false, false, false, false, false] rfl ?_
  exact lk_Model_classStep_j182 hγ this Q v1 M14 h
set_option maxRecDepth 4096 in
theorem lk_Model_classStep_j145 {γ : Gm} (hγ : Gk γ) (this : Nat) (Q : Int32 → Mem → Prop) (v1 : Int32) (v3 : Int32) (v4 : Int32) (v6 : Int32) (M : Mem) (h : w_Model_classStep_j145 this Q v1 v3 v4 v6 M) : E γ k_Model_classStep 8 145 [some (vr (some (11, this))), some (vi v1), none, some (vi v3), some (vi v4), none, some (vi v6), none] [] M (Qi Q) := by
  unfold w_Model_classStep_j145 at h
  refine E_blk (lv' := [some (vr (some (11, this))), some (vi v1), none, some (vi v3), some (vi v4), none, some (vi v6), none]) (st' := [vi (55 : Int32), vi v3]) (M1 := M) (pc' := 148) (tb_Model hγ) [.iload_n 3, .bipush 55] (by decide +kernel) rfl rfl trivial ?_
  refine E_icmp_ne (off := 34) (tgt := 182) (by decide +kernel) (by decide) (fun b8 => ?_) (fun b8 => ?_)
  · rw [if_pos b8] at h
    refine E_blk (lv' := [some (vr (some (11, this))), some (vi v1), none, some (vi v3), some (vi v4), none, some (vi v6), none]) (st' := [vr (mR M 11 this 46)]) (M1 := M) (pc' := 155) (tb_Model hγ) [.aload_n 0, .getfield 917] (by decide +kernel) rfl rfl trivial ?_
    obtain ⟨i9, ei9, h⟩ := h
    rw [ei9]
    refine E_blk (lv' := [some (vr (some (11, this))), some (vi v1), none, some (vi v3), some (vi v4), none, some (vi v6), none]) (st' := [vi v6, vi v4, vr (some (176, i9))]) (M1 := M) (pc' := 162) (tb_Model hγ) [.getfield 936, .iload 4, .iload 6] (by decide +kernel) rfl rfl trivial ?_
    refine E_if_eq (off := 7) (tgt := 169) (by decide +kernel) (by decide) (fun b10 => ?_) (fun b10 => ?_)
    · rw [if_pos b10] at h
      refine E_blk (lv' := [some (vr (some (11, this))), some (vi v1), none, some (vi v3), some (vi v4), none, some (vi v6), none]) (st' := [vi (0 : Int32), vi v4, vr (some (176, i9))]) (M1 := M) (pc' := 170) (tb_Model hγ) [.iconst 0] (by decide +kernel) rfl rfl trivial ?_
      refine E_mask [true, true, false, false, true, false, false, false] rfl ?_
      exact lk_Model_classStep_j170 hγ this Q v1 v4 (0 : Int32) v4 i9 M h
    · rw [if_neg b10] at h
      refine E_blk (lv' := [some (vr (some (11, this))), some (vi v1), none, some (vi v3), some (vi v4), none, some (vi v6), none]) (st' := [vi (1 : Int32), vi v4, vr (some (176, i9))]) (M1 := M) (pc' := 166) (tb_Model hγ) [.iconst 1] (by decide +kernel) rfl rfl trivial ?_
      refine E_goto (off := 4) (tgt := 170) (by decide +kernel) (by decide) ?_
      refine E_mask [true, true, false, false, true, false, false, false] rfl ?_
      exact lk_Model_classStep_j170 hγ this Q v1 v4 (1 : Int32) v4 i9 M h
  · rw [if_neg b8] at h
    refine E_mask [true, true, false, false, false, false, false, false] rfl ?_
    exact lk_Model_classStep_j182 hγ this Q v1 M h
set_option maxRecDepth 4096 in
theorem lk_Model_classStep_j123 {γ : Gm} (hγ : Gk γ) (this : Nat) (Q : Int32 → Mem → Prop) (v1 : Int32) (v3 : Int32) (v4 : Int32) (s0 : Int32) (M : Mem) (h : w_Model_classStep_j123 this Q v1 v3 v4 s0 M) : E γ k_Model_classStep 8 123 [some (vr (some (11, this))), some (vi v1), none, some (vi v3), some (vi v4), none, none, none] [vi s0] M (Qi Q) := by
  unfold w_Model_classStep_j123 at h
  refine E_blk (lv' := [some (vr (some (11, this))), some (vi v1), none, some (vi v3), some (vi v4), none, some (vi s0), none]) (st' := [vi (54 : Int32), vi v3]) (M1 := M) (pc' := 128) (tb_Model hγ) [.istore 6, .iload_n 3, .bipush 54] (by decide +kernel) rfl rfl trivial ?_
  refine E_icmp_ne (off := 17) (tgt := 145) (by decide +kernel) (by decide) (fun b30 => ?_) (fun b30 => ?_)
  · rw [if_pos b30] at h
    refine E_blk (lv' := [some (vr (some (11, this))), some (vi v1), none, some (vi v3), some (vi v4), none, some (vi s0), none]) (st' := [vi s0]) (M1 := M) (pc' := 133) (tb_Model hγ) [.iload 6] (by decide +kernel) rfl rfl trivial ?_
    refine E_if_ne (off := 12) (tgt := 145) (by decide +kernel) (by decide) (fun b31 => ?_) (fun b31 => ?_)
    · rw [if_pos b31] at h
      refine E_blk (lv' := [some (vr (some (11, this))), some (vi v1), none, some (vi v3), some (vi v4), none, some (vi s0), none]) (st' := [vi (6 : Int32), vi (0 : Int32), vr (some (11, this))]) (M1 := M) (pc' := 140) (tb_Model hγ) [.aload_n 0, .iconst 0, .bipush 6] (by decide +kernel) rfl rfl trivial ?_
      refine E_callV (κ' := k_Model_throwNew) (As := [vi (0 : Int32), vi (6 : Int32)]) (st := []) mv_Model_throwNew (Or.inl (tbk_mem (j := 16) (k := 111) rfl)) rfl (by decide +kernel) (Nat.le_of_ble_eq_true rfl) (Nat.le_of_ble_eq_true rfl) rfl (by decide) (lk_Model_throwNew hγ this (0 : Int32) (6 : Int32) _ M h) (fun _ _ => Qv_r) (fun v M32 hp => Qv_k (R := fun st => E γ k_Model_classStep 8 143 [some (vr (some (11, this))), some (vi v1), none, some (vi v3), some (vi v4), none, some (vi s0), none] st M32 (Qi Q)) hp (fun h => ?_))
      refine E_blk (lv' := [some (vr (some (11, this))), some (vi v1), none, some (vi v3), some (vi v4), none, some (vi s0), none]) (st' := [vi (1 : Int32)]) (M1 := M32) (pc' := 144) (tb_Model hγ) [.iconst 1] (by decide +kernel) rfl rfl trivial ?_
      exact E_iret rfl (by decide +kernel) h
    · rw [if_neg b31] at h
      refine E_mask [true, true, false, true, true, false, true, false] rfl ?_
      exact lk_Model_classStep_j145 hγ this Q v1 v3 v4 s0 M h
  · rw [if_neg b30] at h
    refine E_mask [true, true, false, true, true, false, true, false] rfl ?_
    exact lk_Model_classStep_j145 hγ this Q v1 v3 v4 s0 M h
set_option maxRecDepth 4096 in
theorem lk_Model_classStep_j111 {γ : Gm} (hγ : Gk γ) (this : Nat) (Q : Int32 → Mem → Prop) (v1 : Int32) (v3 : Int32) (v4 : Int32) (v5 : Int32) (v7 : Int32) (M : Mem) (h : w_Model_classStep_j111 this Q v1 v3 v4 v5 v7 M) : E γ k_Model_classStep 8 111 [some (vr (some (11, this))), some (vi v1), none, some (vi v3), some (vi v4), some (vi v5), none, some (vi v7)] [] M (Qi Q) := by
  unfold w_Model_classStep_j111 at h
  refine E_blk (lv' := [some (vr (some (11, this))), some (vi v1), none, some (vi v3), some (vi v4), some (vi v5), none, some (vi v7)]) (st' := [vi v5, vr (some (11, this)), vr (some (11, this))]) (M1 := M) (pc' := 115) (tb_Model hγ) [.aload_n 0, .aload_n 0, .iload 5] (by decide +kernel) rfl rfl trivial ?_
  refine E_callV (κ' := k_Model_classOfRef) (As := [vi v5]) (st := [vr (some (11, this))]) mv_Model_classOfRef (Or.inl (tbk_mem (j := 16) (k := 127) rfl)) rfl (by decide +kernel) (Nat.le_of_ble_eq_true rfl) (Nat.le_of_ble_eq_true rfl) rfl (by decide) (lk_Model_classOfRef hγ this v5 _ M h) (fun _ _ => Qi_r) (fun v M26 hp => Qi_k (R := fun st => E γ k_Model_classStep 8 118 [some (vr (some (11, this))), some (vi v1), none, some (vi v3), some (vi v4), some (vi v5), none, some (vi v7)] st M26 (Qi Q)) hp (fun r27 h => ?_))
  refine E_blk (lv' := [some (vr (some (11, this))), some (vi v1), none, some (vi v3), some (vi v4), some (vi v5), none, some (vi v7)]) (st' := [vi v7, vi r27, vr (some (11, this))]) (M1 := M26) (pc' := 120) (tb_Model hγ) [.iload 7] (by decide +kernel) rfl rfl trivial ?_
  refine E_callV (κ' := k_Model_isBelow) (As := [vi r27, vi v7]) (st := []) mv_Model_isBelow (Or.inl (tbk_mem (j := 16) (k := 131) rfl)) rfl (by decide +kernel) (Nat.le_of_ble_eq_true rfl) (Nat.le_of_ble_eq_true rfl) rfl (by decide) (lk_Model_isBelow hγ this r27 v7 _ M26 h) (fun _ _ => Qi_r) (fun v M28 hp => Qi_k (R := fun st => E γ k_Model_classStep 8 123 [some (vr (some (11, this))), some (vi v1), none, some (vi v3), some (vi v4), some (vi v5), none, some (vi v7)] st M28 (Qi Q)) hp (fun r29 h => ?_))
  refine E_mask [true, true, false, true, true, false, false, false] rfl ?_
  exact lk_Model_classStep_j123 hγ this Q v1 v3 v4 r29 M28 h
set_option maxRecDepth 4096 in
theorem lk_Model_classStep {γ : Gm} (hγ : Gk γ) (this : Nat) (a1 : Int32) (a2 : Int32) (a3 : Int32) (Q : Int32 → Mem → Prop) (M : Mem) (h : w_Model_classStep this a1 a2 a3 Q M) : E γ k_Model_classStep 8 0 [some (vr (some (11, this))), some (vi a1), some (vi a2), some (vi a3), none, none, none, none] [] M (Qi Q) := by
  unfold w_Model_classStep at h
  refine E_blk (lv' := [some (vr (some (11, this))), some (vi a1), some (vi a2), some (vi a3), none, none, none, none]) (st' := [vi a3, vr (some (11, this))]) (M1 := M) (pc' := 2) (tb_Model hγ) [.aload_n 0, .iload_n 3] (by decide +kernel) rfl rfl trivial ?_
  refine E_callV (κ' := k_Model_tally) (As := [vi a3]) (st := []) mv_Model_tally (Or.inl (tbk_mem (j := 16) (k := 171) rfl)) rfl (by decide +kernel) (Nat.le_of_ble_eq_true rfl) (Nat.le_of_ble_eq_true rfl) rfl (by decide) (lk_Model_tally hγ this a3 _ M h) (fun _ _ => Qv_r) (fun v M1 hp => Qv_k (R := fun st => E γ k_Model_classStep 8 5 [some (vr (some (11, this))), some (vi a1), some (vi a2), some (vi a3), none, none, none, none] st M1 (Qi Q)) hp (fun h => ?_))
  refine E_blk (lv' := [some (vr (some (11, this))), some (vi a1), some (vi a2), some (vi a3), none, none, none, none]) (st' := [vr (mR M1 11 this 46), vi (((44 : Int32) * a1) + (20 : Int32))]) (M1 := M1) (pc' := 16) (tb_Model hγ) [.bipush 44, .iload_n 1, .imul, .bipush 20, .iadd, .aload_n 0, .getfield 917] (by decide +kernel) rfl rfl trivial ?_
  obtain ⟨i2, ei2, h⟩ := h
  rw [ei2]
  obtain ⟨c3, h⟩ := h
  refine E_blk (lv' := [some (vr (some (11, this))), some (vi a1), some (vi a2), some (vi a3), some (vi (((((44 : Int32) * a1) + (20 : Int32)) + (mI M1 175 i2 a1.toNatClampNeg)) - (1 : Int32))), none, none, none]) (st' := []) (M1 := M1) (pc' := 26) (tb_Model hγ) [.getfield 933, .iload_n 1, .iaload, .iadd, .iconst 1, .isub, .istore 4] (by decide +kernel) rfl rfl ⟨c3, trivial⟩ ?_
  obtain ⟨x4, ex4, h⟩ := h
  rw [← ex4]
  refine E_blk (lv' := [some (vr (some (11, this))), some (vi a1), some (vi a2), some (vi a3), some (vi x4), none, none, none]) (st' := [vr (mR M1 11 this 46)]) (M1 := M1) (pc' := 30) (tb_Model hγ) [.aload_n 0, .getfield 917] (by decide +kernel) rfl rfl trivial ?_
  obtain ⟨i5, ei5, h⟩ := h
  rw [ei5]
  obtain ⟨c6, h⟩ := h
  refine E_blk (lv' := [some (vr (some (11, this))), some (vi a1), some (vi a2), some (vi a3), some (vi x4), some (vi (mI M1 176 i5 x4.toNatClampNeg)), some (vi (0 : Int32)), none]) (st' := [vi (mI M1 176 i5 x4.toNatClampNeg)]) (M1 := M1) (pc' := 43) (tb_Model hγ) [.getfield 936, .iload 4, .iaload, .istore 5, .iconst 0, .istore 6, .iload 5] (by decide +kernel) rfl rfl ⟨c6, trivial⟩ ?_
  refine E_if_eq (off := 102) (tgt := 145) (by decide +kernel) (by decide) (fun b7 => ?_) (fun b7 => ?_)
  · rw [if_pos b7] at h
    refine E_mask [true, true, false, true, true, false, true, false] rfl ?_
    exact lk_Model_classStep_j145 hγ this Q a1 a3 x4 (0 : Int32) M1 h
  · rw [if_neg b7] at h
    refine E_blk (lv' := [some (vr (some (11, this))), some (vi a1), some (vi a2), some (vi a3), some (vi x4), some (vi (mI M1 176 i5 x4.toNatClampNeg)), some (vi (0 : Int32)), none]) (st' := [vr (mR M1 11 this 45), vr (some (11, this))]) (M1 := M1) (pc' := 51) (tb_Model hγ) [.aload_n 0, .aload_n 0, .getfield 522] (by decide +kernel) rfl rfl trivial ?_
    obtain ⟨i19, ei19, h⟩ := h
    rw [ei19]
    refine E_blk (lv' := [some (vr (some (11, this))), some (vi a1), some (vi a2), some (vi a3), some (vi x4), some (vi (mI M1 176 i5 x4.toNatClampNeg)), some (vi (0 : Int32)), none]) (st' := [vr (mR M1 12 i19 31), vr (some (11, this))]) (M1 := M1) (pc' := 54) (tb_Model hγ) [.getfield 677] (by decide +kernel) rfl rfl trivial ?_
    obtain ⟨i20, ei20, h⟩ := h
    rw [ei20]
    obtain ⟨c21, h⟩ := h
    refine E_blk (lv' := [some (vr (some (11, this))), some (vi a1), some (vi a2), some (vi a3), some (vi x4), some (vi (mI M1 176 i5 x4.toNatClampNeg)), some (vi (0 : Int32)), none]) (st' := [vi (mI M1 300 i20 a2.toNatClampNeg), vr (some (11, this))]) (M1 := M1) (pc' := 56) (tb_Model hγ) [.iload_n 2, .iaload] (by decide +kernel) rfl rfl ⟨c21, trivial⟩ ?_
    refine E_callV (κ' := k_Model_classOf) (As := [vi (mI M1 300 i20 a2.toNatClampNeg)]) (st := []) mv_Model_classOf (Or.inl (tbk_mem (j := 15) (k := 39) rfl)) rfl (by decide +kernel) (Nat.le_of_ble_eq_true rfl) (Nat.le_of_ble_eq_true rfl) rfl (by decide) (lk_Model_classOf hγ this (mI M1 300 i20 a2.toNatClampNeg) _ M1 h) (fun _ _ => Qi_r) (fun v M22 hp => Qi_k (R := fun st => E γ k_Model_classStep 8 59 [some (vr (some (11, this))), some (vi a1), some (vi a2), some (vi a3), some (vi x4), some (vi (mI M1 176 i5 x4.toNatClampNeg)), some (vi (0 : Int32)), none] st M22 (Qi Q)) hp (fun r23 h => ?_))
    refine E_blk (lv' := [some (vr (some (11, this))), some (vi a1), some (vi a2), some (vi a3), some (vi x4), some (vi (mI M1 176 i5 x4.toNatClampNeg)), some (vi (0 : Int32)), some (vi r23)]) (st' := [vi r23]) (M1 := M22) (pc' := 63) (tb_Model hγ) [.istore 7, .iload 7] (by decide +kernel) rfl rfl trivial ?_
    refine E_if_ge (off := 13) (tgt := 76) (by decide +kernel) (by decide) (fun b24 => ?_) (fun b24 => ?_)
    · rw [if_pos b24] at h
      refine E_blk (lv' := [some (vr (some (11, this))), some (vi a1), some (vi a2), some (vi a3), some (vi x4), some (vi (mI M1 176 i5 x4.toNatClampNeg)), some (vi (0 : Int32)), some (vi r23)]) (st' := [vi (1001 : Int32), vi (mI M1 176 i5 x4.toNatClampNeg)]) (M1 := M22) (pc' := 81) (tb_Model hγ) [.iload 5, .sipush 1001] (by decide +kernel) rfl rfl trivial ?_
      refine E_icmp_ge (off := 30) (tgt := 111) (by decide +kernel) (by decide) (fun b25 => ?_) (fun b25 => ?_)
      · rw [if_pos b25] at h
        refine E_mask [true, true, false, true, true, true, false, true] rfl ?_
        exact lk_Model_classStep_j111 hγ this Q a1 a3 x4 (mI M1 176 i5 x4.toNatClampNeg) r23 M22 h
      · rw [if_neg b25] at h
        refine E_blk (lv' := [some (vr (some (11, this))), some (vi a1), some (vi a2), some (vi a3), some (vi x4), some (vi (mI M1 176 i5 x4.toNatClampNeg)), some (vi (0 : Int32)), some (vi r23)]) (st' := [vr (mR M22 11 this 45)]) (M1 := M22) (pc' := 88) (tb_Model hγ) [.aload_n 0, .getfield 522] (by decide +kernel) rfl rfl trivial ?_
        obtain ⟨i33, ei33, h⟩ := h
        rw [ei33]
        obtain ⟨c34, h⟩ := h
        refine E_blk (lv' := [some (vr (some (11, this))), some (vi a1), some (vi a2), some (vi a3), some (vi x4), some (vi (mI M1 176 i5 x4.toNatClampNeg)), some (vi (0 : Int32)), some (vi r23)]) (st' := [vi (-1 : Int32), vi (mI M22 157 i33 (mI M1 176 i5 x4.toNatClampNeg).toNatClampNeg)]) (M1 := M22) (pc' := 95) (tb_Model hγ) [.getfield 872, .iload 5, .iaload, .iconst (.negSucc 0)] (by decide +kernel) rfl rfl ⟨c34, trivial⟩ ?_
        refine E_icmp_ne (off := 16) (tgt := 111) (by decide +kernel) (by decide) (fun b35 => ?_) (fun b35 => ?_)
        · rw [if_pos b35] at h
          refine E_blk (lv' := [some (vr (some (11, this))), some (vi a1), some (vi a2), some (vi a3), some (vi x4), some (vi (mI M1 176 i5 x4.toNatClampNeg)), some (vi (0 : Int32)), some (vi r23)]) (st' := [vi r23]) (M1 := M22) (pc' := 100) (tb_Model hγ) [.iload 7] (by decide +kernel) rfl rfl trivial ?_
          refine E_if_ne (off := 7) (tgt := 107) (by decide +kernel) (by decide) (fun b36 => ?_) (fun b36 => ?_)
          · rw [if_pos b36] at h
            refine E_blk (lv' := [some (vr (some (11, this))), some (vi a1), some (vi a2), some (vi a3), some (vi x4), some (vi (mI M1 176 i5 x4.toNatClampNeg)), some (vi (0 : Int32)), some (vi r23)]) (st' := [vi (1 : Int32)]) (M1 := M22) (pc' := 104) (tb_Model hγ) [.iconst 1] (by decide +kernel) rfl rfl trivial ?_
            refine E_goto (off := 19) (tgt := 123) (by decide +kernel) (by decide) ?_
            refine E_mask [true, true, false, true, true, false, false, false] rfl ?_
            exact lk_Model_classStep_j123 hγ this Q a1 a3 x4 (1 : Int32) M22 h
          · rw [if_neg b36] at h
            refine E_blk (lv' := [some (vr (some (11, this))), some (vi a1), some (vi a2), some (vi a3), some (vi x4), some (vi (mI M1 176 i5 x4.toNatClampNeg)), some (vi (0 : Int32)), some (vi r23)]) (st' := [vi (0 : Int32)]) (M1 := M22) (pc' := 108) (tb_Model hγ) [.iconst 0] (by decide +kernel) rfl rfl trivial ?_
            refine E_goto (off := 15) (tgt := 123) (by decide +kernel) (by decide) ?_
            refine E_mask [true, true, false, true, true, false, false, false] rfl ?_
            exact lk_Model_classStep_j123 hγ this Q a1 a3 x4 (0 : Int32) M22 h
        · rw [if_neg b35] at h
          refine E_mask [true, true, false, true, true, true, false, true] rfl ?_
          exact lk_Model_classStep_j111 hγ this Q a1 a3 x4 (mI M1 176 i5 x4.toNatClampNeg) r23 M22 h
    · rw [if_neg b24] at h
      refine E_blk (lv' := [some (vr (some (11, this))), some (vi a1), some (vi a2), some (vi a3), some (vi x4), some (vi (mI M1 176 i5 x4.toNatClampNeg)), some (vi (0 : Int32)), some (vi r23)]) (st' := [vi (11 : Int32), vi (50 : Int32), vr (some (11, this))]) (M1 := M22) (pc' := 71) (tb_Model hγ) [.aload_n 0, .bipush 50, .bipush 11] (by decide +kernel) rfl rfl trivial ?_
      refine E_callV (κ' := k_Model_throwNew) (As := [vi (50 : Int32), vi (11 : Int32)]) (st := []) mv_Model_throwNew (Or.inl (tbk_mem (j := 16) (k := 111) rfl)) rfl (by decide +kernel) (Nat.le_of_ble_eq_true rfl) (Nat.le_of_ble_eq_true rfl) rfl (by decide) (lk_Model_throwNew hγ this (50 : Int32) (11 : Int32) _ M22 h) (fun _ _ => Qv_r) (fun v M37 hp => Qv_k (R := fun st => E γ k_Model_classStep 8 74 [some (vr (some (11, this))), some (vi a1), some (vi a2), some (vi a3), some (vi x4), some (vi (mI M1 176 i5 x4.toNatClampNeg)), some (vi (0 : Int32)), some (vi r23)] st M37 (Qi Q)) hp (fun h => ?_))
      refine E_blk (lv' := [some (vr (some (11, this))), some (vi a1), some (vi a2), some (vi a3), some (vi x4), some (vi (mI M1 176 i5 x4.toNatClampNeg)), some (vi (0 : Int32)), some (vi r23)]) (st' := [vi (1 : Int32)]) (M1 := M37) (pc' := 75) (tb_Model hγ) [.iconst 1] (by decide +kernel) rfl rfl trivial ?_
      exact E_iret rfl (by decide +kernel) h
def w_Model_locksOf (this : Nat) (a1 : Int32) (Q : Int32 → Mem → Prop) (M : Mem) : Prop :=
  if a1 < (1001 : Int32) then (∃ i2, (mR M 11 this 45) = some (12, i2) ∧ vp_in a1 (mL M 160 i2) ∧ Q (mI M 160 i2 a1.toNatClampNeg) M) else (∃ i4, (mR M 11 this 45) = some (12, i4) ∧ ∃ i5, (mR M 12 i4 55) = some (300, i5) ∧ vp_in (a1 - (1001 : Int32)) (mL M 300 i5) ∧ Q (mI M 300 i5 (a1 - (1001 : Int32)).toNatClampNeg) M)
set_option maxRecDepth 4096 in
theorem lk_Model_locksOf {γ : Gm} (hγ : Gk γ) (this : Nat) (a1 : Int32) (Q : Int32 → Mem → Prop) (M : Mem) (h : w_Model_locksOf this a1 Q M) : E γ k_Model_locksOf 0 0 [some (vr (some (11, this))), some (vi a1)] [] M (Qi Q) := by
  unfold w_Model_locksOf at h
  refine E_blk (lv' := [some (vr (some (11, this))), some (vi a1)]) (st' := [vi (1001 : Int32), vi a1]) (M1 := M) (pc' := 4) (tb_Model hγ) [.iload_n 1, .sipush 1001] (by decide +kernel) rfl rfl trivial ?_
  refine E_icmp_lt (off := 19) (tgt := 23) (by decide +kernel) (by decide) (fun b1 => ?_) (fun b1 => ?_)
  · rw [if_pos b1] at h
    refine E_blk (lv' := [some (vr (some (11, this))), some (vi a1)]) (st' := [vr (mR M 11 this 45)]) (M1 := M) (pc' := 27) (tb_Model hγ) [.aload_n 0, .getfield 522] (by decide +kernel) rfl rfl trivial ?_
    obtain ⟨i2, ei2, h⟩ := h
    rw [ei2]
    obtain ⟨c3, h⟩ := h
    refine E_blk (lv' := [some (vr (some (11, this))), some (vi a1)]) (st' := [vi (mI M 160 i2 a1.toNatClampNeg)]) (M1 := M) (pc' := 32) (tb_Model hγ) [.getfield 890, .iload_n 1, .iaload] (by decide +kernel) rfl rfl ⟨c3, trivial⟩ ?_
    exact E_iret rfl (by decide +kernel) h
  · rw [if_neg b1] at h
    refine E_blk (lv' := [some (vr (some (11, this))), some (vi a1)]) (st' := [vr (mR M 11 this 45)]) (M1 := M) (pc' := 11) (tb_Model hγ) [.aload_n 0, .getfield 522] (by decide +kernel) rfl rfl trivial ?_
    obtain ⟨i4, ei4, h⟩ := h
    rw [ei4]
    refine E_blk (lv' := [some (vr (some (11, this))), some (vi a1)]) (st' := [vr (mR M 12 i4 55)]) (M1 := M) (pc' := 14) (tb_Model hγ) [.getfield 878] (by decide +kernel) rfl rfl trivial ?_
    obtain ⟨i5, ei5, h⟩ := h
    rw [ei5]
    obtain ⟨c6, h⟩ := h
    refine E_blk (lv' := [some (vr (some (11, this))), some (vi a1)]) (st' := [vi (mI M 300 i5 (a1 - (1001 : Int32)).toNatClampNeg)]) (M1 := M) (pc' := 20) (tb_Model hγ) [.iload_n 1, .sipush 1001, .isub, .iaload] (by decide +kernel) rfl rfl ⟨c6, trivial⟩ ?_
    refine E_goto (off := 12) (tgt := 32) (by decide +kernel) (by decide) ?_
    exact E_iret rfl (by decide +kernel) h
def w_Model_ownerOf (this : Nat) (a1 : Int32) (Q : Int32 → Mem → Prop) (M : Mem) : Prop :=
  if a1 < (1001 : Int32) then (∃ i2, (mR M 11 this 45) = some (12, i2) ∧ vp_in a1 (mL M 162 i2) ∧ Q (mI M 162 i2 a1.toNatClampNeg) M) else (∃ i4, (mR M 11 this 45) = some (12, i4) ∧ ∃ i5, (mR M 12 i4 58) = some (300, i5) ∧ vp_in (a1 - (1001 : Int32)) (mL M 300 i5) ∧ Q (mI M 300 i5 (a1 - (1001 : Int32)).toNatClampNeg) M)
set_option maxRecDepth 4096 in
theorem lk_Model_ownerOf {γ : Gm} (hγ : Gk γ) (this : Nat) (a1 : Int32) (Q : Int32 → Mem → Prop) (M : Mem) (h : w_Model_ownerOf this a1 Q M) : E γ k_Model_ownerOf 0 0 [some (vr (some (11, this))), some (vi a1)] [] M (Qi Q) := by
  unfold w_Model_ownerOf at h
  refine E_blk (lv' := [some (vr (some (11, this))), some (vi a1)]) (st' := [vi (1001 : Int32), vi a1]) (M1 := M) (pc' := 4) (tb_Model hγ) [.iload_n 1, .sipush 1001] (by decide +kernel) rfl rfl trivial ?_
  refine E_icmp_lt (off := 19) (tgt := 23) (by decide +kernel) (by decide) (fun b1 => ?_) (fun b1 => ?_)
  · rw [if_pos b1] at h
    refine E_blk (lv' := [some (vr (some (11, this))), some (vi a1)]) (st' := [vr (mR M 11 this 45)]) (M1 := M) (pc' := 27) (tb_Model hγ) [.aload_n 0, .getfield 522] (by decide +kernel) rfl rfl trivial ?_
    obtain ⟨i2, ei2, h⟩ := h
    rw [ei2]
    obtain ⟨c3, h⟩ := h
    refine E_blk (lv' := [some (vr (some (11, this))), some (vi a1)]) (st' := [vi (mI M 162 i2 a1.toNatClampNeg)]) (M1 := M) (pc' := 32) (tb_Model hγ) [.getfield 1084, .iload_n 1, .iaload] (by decide +kernel) rfl rfl ⟨c3, trivial⟩ ?_
    exact E_iret rfl (by decide +kernel) h
  · rw [if_neg b1] at h
    refine E_blk (lv' := [some (vr (some (11, this))), some (vi a1)]) (st' := [vr (mR M 11 this 45)]) (M1 := M) (pc' := 11) (tb_Model hγ) [.aload_n 0, .getfield 522] (by decide +kernel) rfl rfl trivial ?_
    obtain ⟨i4, ei4, h⟩ := h
    rw [ei4]
    refine E_blk (lv' := [some (vr (some (11, this))), some (vi a1)]) (st' := [vr (mR M 12 i4 58)]) (M1 := M) (pc' := 14) (tb_Model hγ) [.getfield 881] (by decide +kernel) rfl rfl trivial ?_
    obtain ⟨i5, ei5, h⟩ := h
    rw [ei5]
    obtain ⟨c6, h⟩ := h
    refine E_blk (lv' := [some (vr (some (11, this))), some (vi a1)]) (st' := [vi (mI M 300 i5 (a1 - (1001 : Int32)).toNatClampNeg)]) (M1 := M) (pc' := 20) (tb_Model hγ) [.iload_n 1, .sipush 1001, .isub, .iaload] (by decide +kernel) rfl rfl ⟨c6, trivial⟩ ?_
    refine E_goto (off := 12) (tgt := 32) (by decide +kernel) (by decide) ?_
    exact E_iret rfl (by decide +kernel) h
def w_Model_lock (this : Nat) (a1 : Int32) (a2 : Int32) (Q : Mem → Prop) (M : Mem) : Prop :=
  if a1 < (1001 : Int32) then (∃ i2, (mR M 11 this 45) = some (12, i2) ∧ vp_in a1 (mL M 160 i2) ∧ ∃ i4, (mR (sI M 160 i2 a1.toNatClampNeg a2) 11 this 45) = some (12, i4) ∧ vp_in a1 (mL (sI M 160 i2 a1.toNatClampNeg a2) 162 i4) ∧ ∃ M6, M6 = (sI (sI M 160 i2 a1.toNatClampNeg a2) 162 i4 a1.toNatClampNeg (mI (sI M 160 i2 a1.toNatClampNeg a2) 11 this 47)) ∧ Q M6) else (∃ i7, (mR M 11 this 45) = some (12, i7) ∧ ∃ i8, (mR M 12 i7 55) = some (300, i8) ∧ vp_in (a1 - (1001 : Int32)) (mL M 300 i8) ∧ ∃ i10, (mR (sI M 300 i8 (a1 - (1001 : Int32)).toNatClampNeg a2) 11 this 45) = some (12, i10) ∧ ∃ i11, (mR (sI M 300 i8 (a1 - (1001 : Int32)).toNatClampNeg a2) 12 i10 58) = some (300, i11) ∧ vp_in (a1 - (1001 : Int32)) (mL (sI M 300 i8 (a1 - (1001 : Int32)).toNatClampNeg a2) 300 i11) ∧ ∃ M13, M13 = (sI (sI M 300 i8 (a1 - (1001 : Int32)).toNatClampNeg a2) 300 i11 (a1 - (1001 : Int32)).toNatClampNeg (mI (sI M 300 i8 (a1 - (1001 : Int32)).toNatClampNeg a2) 11 this 47)) ∧ Q M13)
set_option maxRecDepth 4096 in
theorem lk_Model_lock {γ : Gm} (hγ : Gk γ) (this : Nat) (a1 : Int32) (a2 : Int32) (Q : Mem → Prop) (M : Mem) (h : w_Model_lock this a1 a2 Q M) : E γ k_Model_lock 0 0 [some (vr (some (11, this))), some (vi a1), some (vi a2)] [] M (Qv Q) := by
  unfold w_Model_lock at h
  refine E_blk (lv' := [some (vr (some (11, this))), some (vi a1), some (vi a2)]) (st' := [vi (1001 : Int32), vi a1]) (M1 := M) (pc' := 4) (tb_Model hγ) [.iload_n 1, .sipush 1001] (by decide +kernel) rfl rfl trivial ?_
  refine E_icmp_lt (off := 37) (tgt := 41) (by decide +kernel) (by decide) (fun b1 => ?_) (fun b1 => ?_)
  · rw [if_pos b1] at h
    refine E_blk (lv' := [some (vr (some (11, this))), some (vi a1), some (vi a2)]) (st' := [vr (mR M 11 this 45)]) (M1 := M) (pc' := 45) (tb_Model hγ) [.aload_n 0, .getfield 522] (by decide +kernel) rfl rfl trivial ?_
    obtain ⟨i2, ei2, h⟩ := h
    rw [ei2]
    obtain ⟨c3, h⟩ := h
    refine E_blk (lv' := [some (vr (some (11, this))), some (vi a1), some (vi a2)]) (st' := [vr (mR (sI M 160 i2 a1.toNatClampNeg a2) 11 this 45)]) (M1 := (sI M 160 i2 a1.toNatClampNeg a2)) (pc' := 55) (tb_Model hγ) [.getfield 890, .iload_n 1, .iload_n 2, .iastore, .aload_n 0, .getfield 522] (by decide +kernel) rfl rfl ⟨c3, trivial⟩ ?_
    obtain ⟨i4, ei4, h⟩ := h
    rw [ei4]
    obtain ⟨c5, h⟩ := h
    refine E_blk (lv' := [some (vr (some (11, this))), some (vi a1), some (vi a2)]) (st' := []) (M1 := (sI (sI M 160 i2 a1.toNatClampNeg a2) 162 i4 a1.toNatClampNeg (mI (sI M 160 i2 a1.toNatClampNeg a2) 11 this 47))) (pc' := 64) (tb_Model hγ) [.getfield 1084, .iload_n 1, .aload_n 0, .getfield 908, .iastore] (by decide +kernel) rfl rfl ⟨c5, trivial⟩ ?_
    obtain ⟨M6, eM6, h⟩ := h
    rw [← eM6]
    exact E_vret rfl (by decide +kernel) h
  · rw [if_neg b1] at h
    refine E_blk (lv' := [some (vr (some (11, this))), some (vi a1), some (vi a2)]) (st' := [vr (mR M 11 this 45)]) (M1 := M) (pc' := 11) (tb_Model hγ) [.aload_n 0, .getfield 522] (by decide +kernel) rfl rfl trivial ?_
    obtain ⟨i7, ei7, h⟩ := h
    rw [ei7]
    refine E_blk (lv' := [some (vr (some (11, this))), some (vi a1), some (vi a2)]) (st' := [vr (mR M 12 i7 55)]) (M1 := M) (pc' := 14) (tb_Model hγ) [.getfield 878] (by decide +kernel) rfl rfl trivial ?_
    obtain ⟨i8, ei8, h⟩ := h
    rw [ei8]
    obtain ⟨c9, h⟩ := h
    refine E_blk (lv' := [some (vr (some (11, this))), some (vi a1), some (vi a2)]) (st' := [vr (mR (sI M 300 i8 (a1 - (1001 : Int32)).toNatClampNeg a2) 11 this 45)]) (M1 := (sI M 300 i8 (a1 - (1001 : Int32)).toNatClampNeg a2)) (pc' := 25) (tb_Model hγ) [.iload_n 1, .sipush 1001, .isub, .iload_n 2, .iastore, .aload_n 0, .getfield 522] (by decide +kernel) rfl rfl ⟨c9, trivial⟩ ?_
    obtain ⟨i10, ei10, h⟩ := h
    rw [ei10]
    refine E_blk (lv' := [some (vr (some (11, this))), some (vi a1), some (vi a2)]) (st' := [vr (mR (sI M 300 i8 (a1 - (1001 : Int32)).toNatClampNeg a2) 12 i10 58)]) (M1 := (sI M 300 i8 (a1 - (1001 : Int32)).toNatClampNeg a2)) (pc' := 28) (tb_Model hγ) [.getfield 881] (by decide +kernel) rfl rfl trivial ?_
    obtain ⟨i11, ei11, h⟩ := h
    rw [ei11]
    obtain ⟨c12, h⟩ := h
    refine E_blk (lv' := [some (vr (some (11, this))), some (vi a1), some (vi a2)]) (st' := []) (M1 := (sI (sI M 300 i8 (a1 - (1001 : Int32)).toNatClampNeg a2) 300 i11 (a1 - (1001 : Int32)).toNatClampNeg (mI (sI M 300 i8 (a1 - (1001 : Int32)).toNatClampNeg a2) 11 this 47))) (pc' := 38) (tb_Model hγ) [.iload_n 1, .sipush 1001, .isub, .aload_n 0, .getfield 908, .iastore] (by decide +kernel) rfl rfl ⟨c12, trivial⟩ ?_
    obtain ⟨M13, eM13, h⟩ := h
    rw [← eM13]
    refine E_goto (off := 26) (tgt := 64) (by decide +kernel) (by decide) ?_
    exact E_vret rfl (by decide +kernel) h
def w_Model_lockStep_j117 (this : Nat) (Q : Int32 → Mem → Prop)  (M : Mem) : Prop :=
  w_Model_throwNew this (0 : Int32) (7 : Int32) (fun M17 => Q (1 : Int32) M17) M
def w_Model_lockStep_j145 (this : Nat) (Q : Int32 → Mem → Prop) (v1 : Int32) (s0 : Int32) (s1 : Int32) (s2 : Int32) (M : Mem) : Prop :=
  w_Model_lock this s2 (s1 + s0) (fun M21 => w_Model_pop this v1 (fun r23 M22 => ∃ i24, (mR M22 11 this 46) = some (13, i24) ∧ vp_in v1 (mL M22 174 i24) ∧ vp_in v1 (mL M22 174 i24) ∧ ∃ M27, M27 = (sI M22 174 i24 v1.toNatClampNeg ((mI M22 174 i24 v1.toNatClampNeg) + (1 : Int32))) ∧ Q (1 : Int32) M27) M21) M
def w_Model_lockStep_j127 (this : Nat) (Q : Int32 → Mem → Prop) (v1 : Int32) (v2 : Int32) (v3 : Int32) (M : Mem) : Prop :=
  w_Model_locksOf this v3 (fun r19 M18 => if v2 = (60 : Int32) then (w_Model_lockStep_j145 this Q v1 (1 : Int32) r19 v3 M18) else (w_Model_lockStep_j145 this Q v1 (-1 : Int32) r19 v3 M18)) M
def w_Model_lockStep_j80 (this : Nat) (Q : Int32 → Mem → Prop) (v1 : Int32) (v2 : Int32) (v3 : Int32) (v4 : Int32) (M : Mem) : Prop :=
  w_Model_tally this v2 (fun M9 => if v3 = 0 then (w_Model_throwNew this (0 : Int32) (2 : Int32) (fun M11 => Q (1 : Int32) M11) M9) else (if v2 = (61 : Int32) then (if v4 = 0 then (w_Model_locksOf this v3 (fun r15 M14 => if r15 = 0 then (w_Model_lockStep_j117 this Q  M14) else (w_Model_lockStep_j127 this Q v1 v2 v3 M14)) M9) else (w_Model_lockStep_j117 this Q  M9)) else (w_Model_lockStep_j127 this Q v1 v2 v3 M9))) M
def w_Model_lockStep_j57 (this : Nat) (Q : Int32 → Mem → Prop) (v1 : Int32) (v2 : Int32) (v3 : Int32) (s0 : Int32) (M : Mem) : Prop :=
  if v2 = (60 : Int32) then (if s0 = 0 then (w_Model_lockStep_j80 this Q v1 v2 v3 s0 M) else (∃ i28, (mR M 11 this 46) = some (13, i28) ∧ Q (2 : Int32) (sI M 13 i28 2 v3))) else (w_Model_lockStep_j80 this Q v1 v2 v3 s0 M)
def w_Model_lockStep_j56 (this : Nat) (Q : Int32 → Mem → Prop) (v1 : Int32) (v2 : Int32) (v3 : Int32) (M : Mem) : Prop :=
  w_Model_lockStep_j57 this Q v1 v2 v3 (0 : Int32) M
def w_Model_lockStep (this : Nat) (a1 : Int32) (a2 : Int32) (Q : Int32 → Mem → Prop) (M : Mem) : Prop :=
  ∃ i1, (mR M 11 this 46) = some (13, i1) ∧ ∃ i2, (mR M 11 this 46) = some (13, i2) ∧ vp_in a1 (mL M 175 i2) ∧ vp_in (((((44 : Int32) * a1) + (20 : Int32)) + (mI M 175 i2 a1.toNatClampNeg)) - (1 : Int32)) (mL M 176 i1) ∧ ∃ x5 : Int32, x5 = (mI M 176 i1 (((((44 : Int32) * a1) + (20 : Int32)) + (mI M 175 i2 a1.toNatClampNeg)) - (1 : Int32)).toNatClampNeg) ∧ if x5 = 0 then (w_Model_lockStep_j56 this Q a1 a2 x5 M) else (w_Model_locksOf this x5 (fun r30 M29 => if r30 ≤ 0 then (w_Model_lockStep_j56 this Q a1 a2 x5 M29) else (w_Model_ownerOf this x5 (fun r33 M32 => if r33 = (mI M32 11 this 47) then (w_Model_lockStep_j56 this Q a1 a2 x5 M32) else (w_Model_lockStep_j57 this Q a1 a2 x5 (1 : Int32) M32)) M29)) M)
set_option maxRecDepth 4096 in
theorem lk_Model_lockStep_j117 {γ : Gm} (hγ : Gk γ) (this : Nat) (Q : Int32 → Mem → Prop)  (M : Mem) (h : w_Model_lockStep_j117 this Q  M) : E γ k_Model_lockStep 8 117 [some (vr (some (11, this))), none, none, none, none] [] M (Qi Q) := by
  unfold w_Model_lockStep_j117 at h
  refine E_blk (lv' := [some (vr (some (11, this))), none, none, none, none]) (st' := [vi (7 : Int32), vi (0 : Int32), vr (some (11, this))]) (M1 := M) (pc' := 121) (tb_Model hγ) [.aload_n 0, .iconst 0, .bipush 7] (by decide +kernel) rfl rfl trivial ?_
  refine E_callV (κ' := k_Model_throwNew) (As := [vi (0 : Int32), vi (7 : Int32)]) (st := []) mv_Model_throwNew (Or.inl (tbk_mem (j := 16) (k := 111) rfl)) rfl (by decide +kernel) (Nat.le_of_ble_eq_true rfl) (Nat.le_of_ble_eq_true rfl) rfl (by decide) (lk_Model_throwNew hγ this (0 : Int32) (7 : Int32) _ M h) (fun _ _ => Qv_r) (fun v M17 hp => Qv_k (R := fun st => E γ k_Model_lockStep 8 124 [some (vr (some (11, this))), none, none, none, none] st M17 (Qi Q)) hp (fun h => ?_))
  refine E_goto (off := 44) (tgt := 168) (by decide +kernel) (by decide) ?_
  refine E_blk (lv' := [some (vr (some (11, this))), none, none, none, none]) (st' := [vi (1 : Int32)]) (M1 := M17) (pc' := 169) (tb_Model hγ) [.iconst 1] (by decide +kernel) rfl rfl trivial ?_
  exact E_iret rfl (by decide +kernel) h
set_option maxRecDepth 4096 in
theorem lk_Model_lockStep_j145 {γ : Gm} (hγ : Gk γ) (this : Nat) (Q : Int32 → Mem → Prop) (v1 : Int32) (s0 : Int32) (s1 : Int32) (s2 : Int32) (M : Mem) (h : w_Model_lockStep_j145 this Q v1 s0 s1 s2 M) : E γ k_Model_lockStep 8 145 [some (vr (some (11, this))), some (vi v1), none, none, none] [vi s0, vi s1, vi s2, vr (some (11, this))] M (Qi Q) := by
  unfold w_Model_lockStep_j145 at h
  refine E_blk (lv' := [some (vr (some (11, this))), some (vi v1), none, none, none]) (st' := [vi (s1 + s0), vi s2, vr (some (11, this))]) (M1 := M) (pc' := 146) (tb_Model hγ) [.iadd] (by decide +kernel) rfl rfl trivial ?_
  refine E_callV (κ' := k_Model_lock) (As := [vi s2, vi (s1 + s0)]) (st := []) mv_Model_lock (Or.inl (tbk_mem (j := 16) (k := 215) rfl)) rfl (by decide +kernel) (Nat.le_of_ble_eq_true rfl) (Nat.le_of_ble_eq_true rfl) rfl (by decide) (lk_Model_lock hγ this s2 (s1 + s0) _ M h) (fun _ _ => Qv_r) (fun v M21 hp => Qv_k (R := fun st => E γ k_Model_lockStep 8 149 [some (vr (some (11, this))), some (vi v1), none, none, none] st M21 (Qi Q)) hp (fun h => ?_))
  refine E_blk (lv' := [some (vr (some (11, this))), some (vi v1), none, none, none]) (st' := [vi v1, vr (some (11, this))]) (M1 := M21) (pc' := 151) (tb_Model hγ) [.aload_n 0, .iload_n 1] (by decide +kernel) rfl rfl trivial ?_
  refine E_callV (κ' := k_Model_pop) (As := [vi v1]) (st := []) mv_Model_pop (Or.inl (tbk_mem (j := 16) (k := 175) rfl)) rfl (by decide +kernel) (Nat.le_of_ble_eq_true rfl) (Nat.le_of_ble_eq_true rfl) rfl (by decide) (lk_Model_pop hγ this v1 _ M21 h) (fun _ _ => Qi_r) (fun v M22 hp => Qi_k (R := fun st => E γ k_Model_lockStep 8 154 [some (vr (some (11, this))), some (vi v1), none, none, none] st M22 (Qi Q)) hp (fun r23 h => ?_))
  refine E_blk (lv' := [some (vr (some (11, this))), some (vi v1), none, none, none]) (st' := [vr (mR M22 11 this 46)]) (M1 := M22) (pc' := 159) (tb_Model hγ) [.pop, .aload_n 0, .getfield 917] (by decide +kernel) rfl rfl trivial ?_
  obtain ⟨i24, ei24, h⟩ := h
  rw [ei24]
  obtain ⟨c25, c26, h⟩ := h
  refine E_blk (lv' := [some (vr (some (11, this))), some (vi v1), none, none, none]) (st' := []) (M1 := (sI M22 174 i24 v1.toNatClampNeg ((mI M22 174 i24 v1.toNatClampNeg) + (1 : Int32)))) (pc' := 168) (tb_Model hγ) [.getfield 930, .iload_n 1, .dup2, .iaload, .iconst 1, .iadd, .iastore] (by decide +kernel) rfl rfl ⟨c25, c26, trivial⟩ ?_
  obtain ⟨M27, eM27, h⟩ := h
  rw [← eM27]
  refine E_blk (lv' := [some (vr (some (11, this))), some (vi v1), none, none, none]) (st' := [vi (1 : Int32)]) (M1 := M27) (pc' := 169) (tb_Model hγ) [.iconst 1] (by decide +kernel) rfl rfl trivial ?_
  exact E_iret rfl (by decide +kernel) h
set_option maxRecDepth 4096 in
theorem lk_Model_lockStep_j127 {γ : Gm} (hγ : Gk γ) (this : Nat) (Q : Int32 → Mem → Prop) (v1 : Int32) (v2 : Int32) (v3 : Int32) (M : Mem) (h : w_Model_lockStep_j127 this Q v1 v2 v3 M) : E γ k_Model_lockStep 8 127 [some (vr (some (11, this))), some (vi v1), some (vi v2), some (vi v3), none] [] M (Qi Q) := by
  unfold w_Model_lockStep_j127 at h
  refine E_blk (lv' := [some (vr (some (11, this))), some (vi v1), some (vi v2), some (vi v3), none]) (st' := [vi v3, vr (some (11, this)), vi v3, vr (some (11, this))]) (M1 := M) (pc' := 131) (tb_Model hγ) [.aload_n 0, .iload_n 3, .aload_n 0, .iload_n 3] (by decide +kernel) rfl rfl trivial ?_
  refine E_callV (κ' := k_Model_locksOf) (As := [vi v3]) (st := [vi v3, vr (some (11, this))]) mv_Model_locksOf (Or.inl (tbk_mem (j := 16) (k := 67) rfl)) rfl (by decide +kernel) (Nat.le_of_ble_eq_true rfl) (Nat.le_of_ble_eq_true rfl) rfl (by decide) (lk_Model_locksOf hγ this v3 _ M h) (fun _ _ => Qi_r) (fun v M18 hp => Qi_k (R := fun st => E γ k_Model_lockStep 8 134 [some (vr (some (11, this))), some (vi v1), some (vi v2), some (vi v3), none] st M18 (Qi Q)) hp (fun r19 h => ?_))
  refine E_blk (lv' := [some (vr (some (11, this))), some (vi v1), some (vi v2), some (vi v3), none]) (st' := [vi (60 : Int32), vi v2, vi r19, vi v3, vr (some (11, this))]) (M1 := M18) (pc' := 137) (tb_Model hγ) [.iload_n 2, .bipush 60] (by decide +kernel) rfl rfl trivial ?_
  refine E_icmp_ne (off := 7) (tgt := 144) (by decide +kernel) (by decide) (fun b20 => ?_) (fun b20 => ?_)
  · rw [if_pos b20] at h
    refine E_blk (lv' := [some (vr (some (11, this))), some (vi v1), some (vi v2), some (vi v3), none]) (st' := [vi (1 : Int32), vi r19, vi v3, vr (some (11, this))]) (M1 := M18) (pc' := 141) (tb_Model hγ) [.iconst 1] (by decide +kernel) rfl rfl trivial ?_
    refine E_goto (off := 4) (tgt := 145) (by decide +kernel) (by decide) ?_
    refine E_mask [true, true, false, false, false] rfl ?_
    exact lk_Model_lockStep_j145 hγ this Q v1 (1 : Int32) r19 v3 M18 h
  · rw [if_neg b20] at h
    refine E_blk (lv' := [some (vr (some (11, this))), some (vi v1), some (vi v2), some (vi v3), none]) (st' := [vi (-1 : Int32), vi r19, vi v3, vr (some (11, this))]) (M1 := M18) (pc' := 145) (tb_Model hγ) [.iconst (.negSucc 0)] (by decide +kernel) rfl rfl trivial ?_
    refine E_mask [true, true, false, false, false] rfl ?_
    exact lk_Model_lockStep_j145 hγ this Q v1 (-1 : Int32) r19 v3 M18 h
set_option maxRecDepth 4096 in
theorem lk_Model_lockStep_j80 {γ : Gm} (hγ : Gk γ) (this : Nat) (Q : Int32 → Mem → Prop) (v1 : Int32) (v2 : Int32) (v3 : Int32) (v4 : Int32) (M : Mem) (h : w_Model_lockStep_j80 this Q v1 v2 v3 v4 M) : E γ k_Model_lockStep 8 80 [some (vr (some (11, this))), some (vi v1), some (vi v2), some (vi v3), some (vi v4)] [] M (Qi Q) := by
  unfold w_Model_lockStep_j80 at h
  refine E_blk (lv' := [some (vr (some (11, this))), some (vi v1), some (vi v2), some (vi v3), some (vi v4)]) (st' := [vi v2, vr (some (11, this))]) (M1 := M) (pc' := 82) (tb_Model hγ) [.aload_n 0, .iload_n 2] (by decide +kernel) rfl rfl trivial ?_
  refine E_callV (κ' := k_Model_tally) (As := [vi v2]) (st := []) mv_Model_tally (Or.inl (tbk_mem (j := 16) (k := 171) rfl)) rfl (by decide +kernel) (Nat.le_of_ble_eq_true rfl) (Nat.le_of_ble_eq_true rfl) rfl (by decide) (lk_Model_tally hγ this v2 _ M h) (fun _ _ => Qv_r) (fun v M9 hp => Qv_k (R := fun st => E γ k_Model_lockStep 8 85 [some (vr (some (11, this))), some (vi v1), some (vi v2), some (vi v3), some (vi v4)] st M9 (Qi Q)) hp (fun h => ?_))
  refine E_blk (lv' := [some (vr (some (11, this))), some (vi v1), some (vi v2), some (vi v3), some (vi v4)]) (st' := [vi v3]) (M1 := M9) (pc' := 86) (tb_Model hγ) [.iload_n 3] (by decide +kernel) rfl rfl trivial ?_
  refine E_if_ne (off := 12) (tgt := 98) (by decide +kernel) (by decide) (fun b10 => ?_) (fun b10 => ?_)
  · rw [if_pos b10] at h
    refine E_blk (lv' := [some (vr (some (11, this))), some (vi v1), some (vi v2), some (vi v3), some (vi v4)]) (st' := [vi (2 : Int32), vi (0 : Int32), vr (some (11, this))]) (M1 := M9) (pc' := 92) (tb_Model hγ) [.aload_n 0, .iconst 0, .iconst 2] (by decide +kernel) rfl rfl trivial ?_
    refine E_callV (κ' := k_Model_throwNew) (As := [vi (0 : Int32), vi (2 : Int32)]) (st := []) mv_Model_throwNew (Or.inl (tbk_mem (j := 16) (k := 111) rfl)) rfl (by decide +kernel) (Nat.le_of_ble_eq_true rfl) (Nat.le_of_ble_eq_true rfl) rfl (by decide) (lk_Model_throwNew hγ this (0 : Int32) (2 : Int32) _ M9 h) (fun _ _ => Qv_r) (fun v M11 hp => Qv_k (R := fun st => E γ k_Model_lockStep 8 95 [some (vr (some (11, this))), some (vi v1), some (vi v2), some (vi v3), some (vi v4)] st M11 (Qi Q)) hp (fun h => ?_))
    refine E_goto (off := 73) (tgt := 168) (by decide +kernel) (by decide) ?_
    refine E_blk (lv' := [some (vr (some (11, this))), some (vi v1), some (vi v2), some (vi v3), some (vi v4)]) (st' := [vi (1 : Int32)]) (M1 := M11) (pc' := 169) (tb_Model hγ) [.iconst 1] (by decide +kernel) rfl rfl trivial ?_
    exact E_iret rfl (by decide +kernel) h
  · rw [if_neg b10] at h
    refine E_blk (lv' := [some (vr (some (11, this))), some (vi v1), some (vi v2), some (vi v3), some (vi v4)]) (st' := [vi (61 : Int32), vi v2]) (M1 := M9) (pc' := 101) (tb_Model hγ) [.iload_n 2, .bipush 61] (by decide +kernel) rfl rfl trivial ?_
    refine E_icmp_ne (off := 26) (tgt := 127) (by decide +kernel) (by decide) (fun b12 => ?_) (fun b12 => ?_)
    · rw [if_pos b12] at h
      refine E_blk (lv' := [some (vr (some (11, this))), some (vi v1), some (vi v2), some (vi v3), some (vi v4)]) (st' := [vi v4]) (M1 := M9) (pc' := 106) (tb_Model hγ) [.iload 4] (by decide +kernel) rfl rfl trivial ?_
      refine E_if_ne (off := 11) (tgt := 117) (by decide +kernel) (by decide) (fun b13 => ?_) (fun b13 => ?_)
      · rw [if_pos b13] at h
        refine E_blk (lv' := [some (vr (some (11, this))), some (vi v1), some (vi v2), some (vi v3), some (vi v4)]) (st' := [vi v3, vr (some (11, this))]) (M1 := M9) (pc' := 111) (tb_Model hγ) [.aload_n 0, .iload_n 3] (by decide +kernel) rfl rfl trivial ?_
        refine E_callV (κ' := k_Model_locksOf) (As := [vi v3]) (st := []) mv_Model_locksOf (Or.inl (tbk_mem (j := 16) (k := 67) rfl)) rfl (by decide +kernel) (Nat.le_of_ble_eq_true rfl) (Nat.le_of_ble_eq_true rfl) rfl (by decide) (lk_Model_locksOf hγ this v3 _ M9 h) (fun _ _ => Qi_r) (fun v M14 hp => Qi_k (R := fun st => E γ k_Model_lockStep 8 114 [some (vr (some (11, this))), some (vi v1), some (vi v2), some (vi v3), some (vi v4)] st M14 (Qi Q)) hp (fun r15 h => ?_))
        refine E_if_ne (off := 13) (tgt := 127) (by decide +kernel) (by decide) (fun b16 => ?_) (fun b16 => ?_)
        · rw [if_pos b16] at h
          refine E_mask [true, false, false, false, false] rfl ?_
          exact lk_Model_lockStep_j117 hγ this Q  M14 h
        · rw [if_neg b16] at h
          refine E_mask [true, true, true, true, false] rfl ?_
          exact lk_Model_lockStep_j127 hγ this Q v1 v2 v3 M14 h
      · rw [if_neg b13] at h
        refine E_mask [true, false, false, false, false] rfl ?_
        exact lk_Model_lockStep_j117 hγ this Q  M9 h
    · rw [if_neg b12] at h
      refine E_mask [true, true, true, true, false] rfl ?_
      exact lk_Model_lockStep_j127 hγ this Q v1 v2 v3 M9 h
set_option maxRecDepth 4096 in
theorem lk_Model_lockStep_j57 {γ : Gm} (hγ : Gk γ) (this : Nat) (Q : Int32 → Mem → Prop) (v1 : Int32) (v2 : Int32) (v3 : Int32) (s0 : Int32) (M : Mem) (h : w_Model_lockStep_j57 this Q v1 v2 v3 s0 M) : E γ k_Model_lockStep 8 57 [some (vr (some (11, this))), some (vi v1), some (vi v2), some (vi v3), none] [vi s0] M (Qi Q) := by
  unfold w_Model_lockStep_j57 at h
  refine E_blk (lv' := [some (vr (some (11, this))), some (vi v1), some (vi v2), some (vi v3), some (vi s0)]) (st' := [vi (60 : Int32), vi v2]) (M1 := M) (pc' := 62) (tb_Model hγ) [.istore 4, .iload_n 2, .bipush 60] (by decide +kernel) rfl rfl trivial ?_
  refine E_icmp_ne (off := 18) (tgt := 80) (by decide +kernel) (by decide) (fun b7 => ?_) (fun b7 => ?_)
  · rw [if_pos b7] at h
    refine E_blk (lv' := [some (vr (some (11, this))), some (vi v1), some (vi v2), some (vi v3), some (vi s0)]) (st' := [vi s0]) (M1 := M) (pc' := 67) (tb_Model hγ) [.iload 4] (by decide +kernel) rfl rfl trivial ?_
    refine E_if_eq (off := 13) (tgt := 80) (by decide +kernel) (by decide) (fun b8 => ?_) (fun b8 => ?_)
    · rw [if_pos b8] at h
      refine E_mask [true, true, true, true, true] rfl ?_
      exact lk_Model_lockStep_j80 hγ this Q v1 v2 v3 s0 M h
    · rw [if_neg b8] at h
      refine E_blk (lv' := [some (vr (some (11, this))), some (vi v1), some (vi v2), some (vi v3), some (vi s0)]) (st' := [vr (mR M 11 this 46)]) (M1 := M) (pc' := 74) (tb_Model hγ) [.aload_n 0, .getfield 917] (by decide +kernel) rfl rfl trivial ?_
      obtain ⟨i28, ei28, h⟩ := h
      rw [ei28]
      refine E_blk (lv' := [some (vr (some (11, this))), some (vi v1), some (vi v2), some (vi v3), some (vi s0)]) (st' := [vi (2 : Int32)]) (M1 := (sI M 13 i28 2 v3)) (pc' := 79) (tb_Model hγ) [.iload_n 3, .putfield 992, .iconst 2] (by decide +kernel) rfl rfl trivial ?_
      exact E_iret rfl (by decide +kernel) h
  · rw [if_neg b7] at h
    refine E_mask [true, true, true, true, true] rfl ?_
    exact lk_Model_lockStep_j80 hγ this Q v1 v2 v3 s0 M h
set_option maxRecDepth 4096 in
theorem lk_Model_lockStep_j56 {γ : Gm} (hγ : Gk γ) (this : Nat) (Q : Int32 → Mem → Prop) (v1 : Int32) (v2 : Int32) (v3 : Int32) (M : Mem) (h : w_Model_lockStep_j56 this Q v1 v2 v3 M) : E γ k_Model_lockStep 8 56 [some (vr (some (11, this))), some (vi v1), some (vi v2), some (vi v3), none] [] M (Qi Q) := by
  unfold w_Model_lockStep_j56 at h
  refine E_blk (lv' := [some (vr (some (11, this))), some (vi v1), some (vi v2), some (vi v3), none]) (st' := [vi (0 : Int32)]) (M1 := M) (pc' := 57) (tb_Model hγ) [.iconst 0] (by decide +kernel) rfl rfl trivial ?_
  refine E_mask [true, true, true, true, false] rfl ?_
  exact lk_Model_lockStep_j57 hγ this Q v1 v2 v3 (0 : Int32) M h
set_option maxRecDepth 4096 in
theorem lk_Model_lockStep {γ : Gm} (hγ : Gk γ) (this : Nat) (a1 : Int32) (a2 : Int32) (Q : Int32 → Mem → Prop) (M : Mem) (h : w_Model_lockStep this a1 a2 Q M) : E γ k_Model_lockStep 8 0 [some (vr (some (11, this))), some (vi a1), some (vi a2), none, none] [] M (Qi Q) := by
  unfold w_Model_lockStep at h
  refine E_blk (lv' := [some (vr (some (11, this))), some (vi a1), some (vi a2), none, none]) (st' := [vr (mR M 11 this 46)]) (M1 := M) (pc' := 4) (tb_Model hγ) [.aload_n 0, .getfield 917] (by decide +kernel) rfl rfl trivial ?_
  obtain ⟨i1, ei1, h⟩ := h
  rw [ei1]
  refine E_blk (lv' := [some (vr (some (11, this))), some (vi a1), some (vi a2), none, none]) (st' := [vr (mR M 11 this 46), vi (((44 : Int32) * a1) + (20 : Int32)), vr (some (176, i1))]) (M1 := M) (pc' := 18) (tb_Model hγ) [.getfield 936, .bipush 44, .iload_n 1, .imul, .bipush 20, .iadd, .aload_n 0, .getfield 917] (by decide +kernel) rfl rfl trivial ?_
  obtain ⟨i2, ei2, h⟩ := h
  rw [ei2]
  obtain ⟨c3, c4, h⟩ := h
  refine E_blk (lv' := [some (vr (some (11, this))), some (vi a1), some (vi a2), some (vi (mI M 176 i1 (((((44 : Int32) * a1) + (20 : Int32)) + (mI M 175 i2 a1.toNatClampNeg)) - (1 : Int32)).toNatClampNeg)), none]) (st' := []) (M1 := M) (pc' := 28) (tb_Model hγ) [.getfield 933, .iload_n 1, .iaload, .iadd, .iconst 1, .isub, .iaload, .istore_n 3] (by decide +kernel) rfl rfl ⟨c3, c4, trivial⟩ ?_
  obtain ⟨x5, ex5, h⟩ := h
  rw [← ex5]
  refine E_blk (lv' := [some (vr (some (11, this))), some (vi a1), some (vi a2), some (vi x5), none]) (st' := [vi x5]) (M1 := M) (pc' := 29) (tb_Model hγ) [.iload_n 3] (by decide +kernel) rfl rfl trivial ?_
  refine E_if_eq (off := 27) (tgt := 56) (by decide +kernel) (by decide) (fun b6 => ?_) (fun b6 => ?_)
  · rw [if_pos b6] at h
    refine E_mask [true, true, true, true, false] rfl ?_
    exact lk_Model_lockStep_j56 hγ this Q a1 a2 x5 M h
  · rw [if_neg b6] at h
    refine E_blk (lv' := [some (vr (some (11, this))), some (vi a1), some (vi a2), some (vi x5), none]) (st' := [vi x5, vr (some (11, this))]) (M1 := M) (pc' := 34) (tb_Model hγ) [.aload_n 0, .iload_n 3] (by decide +kernel) rfl rfl trivial ?_
    refine E_callV (κ' := k_Model_locksOf) (As := [vi x5]) (st := []) mv_Model_locksOf (Or.inl (tbk_mem (j := 16) (k := 67) rfl)) rfl (by decide +kernel) (Nat.le_of_ble_eq_true rfl) (Nat.le_of_ble_eq_true rfl) rfl (by decide) (lk_Model_locksOf hγ this x5 _ M h) (fun _ _ => Qi_r) (fun v M29 hp => Qi_k (R := fun st => E γ k_Model_lockStep 8 37 [some (vr (some (11, this))), some (vi a1), some (vi a2), some (vi x5), none] st M29 (Qi Q)) hp (fun r30 h => ?_))
    refine E_if_le (off := 19) (tgt := 56) (by decide +kernel) (by decide) (fun b31 => ?_) (fun b31 => ?_)
    · rw [if_pos b31] at h
      refine E_mask [true, true, true, true, false] rfl ?_
      exact lk_Model_lockStep_j56 hγ this Q a1 a2 x5 M29 h
    · rw [if_neg b31] at h
      refine E_blk (lv' := [some (vr (some (11, this))), some (vi a1), some (vi a2), some (vi x5), none]) (st' := [vi x5, vr (some (11, this))]) (M1 := M29) (pc' := 42) (tb_Model hγ) [.aload_n 0, .iload_n 3] (by decide +kernel) rfl rfl trivial ?_
      refine E_callV (κ' := k_Model_ownerOf) (As := [vi x5]) (st := []) mv_Model_ownerOf (Or.inl (tbk_mem (j := 16) (k := 71) rfl)) rfl (by decide +kernel) (Nat.le_of_ble_eq_true rfl) (Nat.le_of_ble_eq_true rfl) rfl (by decide) (lk_Model_ownerOf hγ this x5 _ M29 h) (fun _ _ => Qi_r) (fun v M32 hp => Qi_k (R := fun st => E γ k_Model_lockStep 8 45 [some (vr (some (11, this))), some (vi a1), some (vi a2), some (vi x5), none] st M32 (Qi Q)) hp (fun r33 h => ?_))
      refine E_blk (lv' := [some (vr (some (11, this))), some (vi a1), some (vi a2), some (vi x5), none]) (st' := [vi (mI M32 11 this 47), vi r33]) (M1 := M32) (pc' := 49) (tb_Model hγ) [.aload_n 0, .getfield 908] (by decide +kernel) rfl rfl trivial ?_
      refine E_icmp_eq (off := 7) (tgt := 56) (by decide +kernel) (by decide) (fun b34 => ?_) (fun b34 => ?_)
      · rw [if_pos b34] at h
        refine E_mask [true, true, true, true, false] rfl ?_
        exact lk_Model_lockStep_j56 hγ this Q a1 a2 x5 M32 h
      · rw [if_neg b34] at h
        refine E_blk (lv' := [some (vr (some (11, this))), some (vi a1), some (vi a2), some (vi x5), none]) (st' := [vi (1 : Int32)]) (M1 := M32) (pc' := 53) (tb_Model hγ) [.iconst 1] (by decide +kernel) rfl rfl trivial ?_
        refine E_goto (off := 4) (tgt := 57) (by decide +kernel) (by decide) ?_
        refine E_mask [true, true, true, true, false] rfl ?_
        exact lk_Model_lockStep_j57 hγ this Q a1 a2 x5 (1 : Int32) M32 h
