def k_Model_goStep : Kp := (⟨"ClassWorksModel", "goStep", "(III)V"⟩, prog_13_method_111_code, 7, none, [])
theorem mv_Model_goStep : MV k_Model_goStep 11 3 := ⟨⟨_, rfl, rfl⟩, by decide, (tbk_mem (j := 16) (k := 221) rfl), Or.inr ⟨(tbk_mem (j := 16) (k := 220) rfl), 131, (tbk_mem (j := 11) (k := 41) rfl)⟩, Or.inl ⟨rfl, (tbk_mem (j := 16) (k := 222) rfl)⟩, ⟨by decide, by decide⟩, by decide +kernel, by decide +kernel, by decide⟩
def k_Model_reckon : Kp := (⟨"ClassWorksModel", "reckon", "(II)V"⟩, prog_13_method_110_code, 6, none, [])
theorem mv_Model_reckon : MV k_Model_reckon 11 2 := ⟨⟨_, rfl, rfl⟩, by decide, (tbk_mem (j := 16) (k := 225) rfl), Or.inr ⟨(tbk_mem (j := 16) (k := 224) rfl), 131, (tbk_mem (j := 11) (k := 41) rfl)⟩, Or.inl ⟨rfl, (tbk_mem (j := 16) (k := 226) rfl)⟩, ⟨by decide, by decide⟩, by decide +kernel, by decide +kernel, by decide⟩
def k_Model_turnStep : Kp := (⟨"ClassWorksModel", "turnStep", "(II)V"⟩, prog_13_method_109_code, 7, none, [])
theorem mv_Model_turnStep : MV k_Model_turnStep 11 2 := ⟨⟨_, rfl, rfl⟩, by decide, (tbk_mem (j := 16) (k := 229) rfl), Or.inr ⟨(tbk_mem (j := 16) (k := 228) rfl), 131, (tbk_mem (j := 11) (k := 41) rfl)⟩, Or.inl ⟨rfl, (tbk_mem (j := 16) (k := 230) rfl)⟩, ⟨by decide, by decide⟩, by decide +kernel, by decide +kernel, by decide⟩
def k_Model_rowStep : Kp := (⟨"ClassWorksModel", "rowStep", "(II)V"⟩, prog_13_method_112_code, 7, none, [])
theorem mv_Model_rowStep : MV k_Model_rowStep 11 2 := ⟨⟨_, rfl, rfl⟩, by decide, (tbk_mem (j := 16) (k := 237) rfl), Or.inr ⟨(tbk_mem (j := 16) (k := 236) rfl), 131, (tbk_mem (j := 11) (k := 41) rfl)⟩, Or.inl ⟨rfl, (tbk_mem (j := 16) (k := 238) rfl)⟩, ⟨by decide, by decide⟩, by decide +kernel, by decide +kernel, by decide⟩
def k_Model_instruction : Kp := (⟨"ClassWorksModel", "instruction", "()I"⟩, prog_13_method_108_code, 8, some (.int), [])
theorem mv_Model_instruction : MV k_Model_instruction 11 0 := ⟨⟨_, rfl, rfl⟩, by decide, (tbk_mem (j := 16) (k := 153) rfl), Or.inr ⟨(tbk_mem (j := 16) (k := 152) rfl), 131, (tbk_mem (j := 11) (k := 41) rfl)⟩, Or.inl ⟨rfl, (tbk_mem (j := 16) (k := 154) rfl)⟩, ⟨by decide, by decide⟩, by decide +kernel, by decide +kernel, by decide⟩
def k_Model_advance : Kp := (⟨"ClassWorksModel", "advance", "()I"⟩, prog_13_method_105_code, 4, some (.int), [])
theorem mv_Model_advance : MV k_Model_advance 11 0 := ⟨⟨_, rfl, rfl⟩, by decide, (tbk_mem (j := 16) (k := 77) rfl), Or.inr ⟨(tbk_mem (j := 16) (k := 76) rfl), 131, (tbk_mem (j := 11) (k := 41) rfl)⟩, Or.inl ⟨rfl, (tbk_mem (j := 16) (k := 78) rfl)⟩, ⟨by decide, by decide⟩, by decide +kernel, by decide +kernel, by decide⟩
def k_Model_canGo : Kp := (⟨"ClassWorksModel", "canGo", "(I)Z"⟩, prog_13_method_121_code, 4, some (.boolean), [])
theorem mv_Model_canGo : MV k_Model_canGo 11 1 := ⟨⟨_, rfl, rfl⟩, by decide, (tbk_mem (j := 16) (k := 65) rfl), Or.inr ⟨(tbk_mem (j := 16) (k := 64) rfl), 131, (tbk_mem (j := 11) (k := 41) rfl)⟩, Or.inl ⟨rfl, (tbk_mem (j := 16) (k := 66) rfl)⟩, ⟨by decide, by decide⟩, by decide +kernel, by decide +kernel, by decide⟩
def k_Model_isAnyOn : Kp := (⟨"ClassWorksModel", "isAnyOn", "(LClassWorksModel$World;)Z"⟩, prog_13_method_122_code, 2, some (.boolean), [])
theorem mv_Model_isAnyOn : MV k_Model_isAnyOn 11 1 := ⟨⟨_, rfl, rfl⟩, by decide, (tbk_mem (j := 16) (k := 56) rfl), Or.inr ⟨(tbk_mem (j := 16) (k := 55) rfl), 131, (tbk_mem (j := 11) (k := 41) rfl)⟩, Or.inl ⟨rfl, (tbk_mem (j := 16) (k := 57) rfl)⟩, ⟨by decide, by decide⟩, by decide +kernel, by decide +kernel, by decide⟩
def k_Model_goOn : Kp := (⟨"ClassWorksModel", "goOn", "(I)I"⟩, prog_13_method_123_code, 5, some (.int), [])
theorem mv_Model_goOn : MV k_Model_goOn 11 1 := ⟨⟨_, rfl, rfl⟩, by decide, (tbk_mem (j := 16) (k := 61) rfl), Or.inr ⟨(tbk_mem (j := 16) (k := 60) rfl), 131, (tbk_mem (j := 11) (k := 41) rfl)⟩, Or.inl ⟨rfl, (tbk_mem (j := 16) (k := 62) rfl)⟩, ⟨by decide, by decide⟩, by decide +kernel, by decide +kernel, by decide⟩
def k_Model_feedOne : Kp := (⟨"ClassWorksModel", "feedOne", "(I)V"⟩, prog_13_method_125_code, 3, none, [])
theorem mv_Model_feedOne : MV k_Model_feedOne 11 1 := ⟨⟨_, rfl, rfl⟩, by decide, (tbk_mem (j := 14) (k := 172) rfl), Or.inr ⟨(tbk_mem (j := 14) (k := 171) rfl), 131, (tbk_mem (j := 11) (k := 41) rfl)⟩, Or.inl ⟨rfl, (tbk_mem (j := 14) (k := 173) rfl)⟩, ⟨by decide, by decide⟩, by decide +kernel, by decide +kernel, by decide⟩
def k_Model_feed : Kp := (⟨"ClassWorksModel", "feed", "(IIIII)I"⟩, prog_13_method_124_code, 6, some (.int), [])
theorem mv_Model_feed : MV k_Model_feed 11 5 := ⟨⟨_, rfl, rfl⟩, by decide, (tbk_mem (j := 14) (k := 167) rfl), Or.inl (tbk_mem (j := 14) (k := 168) rfl), Or.inl ⟨rfl, (tbk_mem (j := 14) (k := 169) rfl)⟩, ⟨by decide, by decide⟩, by decide +kernel, by decide +kernel, by decide⟩
def k_Model_cut : Kp := (⟨"ClassWorksModel", "cut", "(I)I"⟩, prog_13_method_126_code, 2, some (.int), [])
theorem mv_Model_cut : MV k_Model_cut 11 1 := ⟨⟨_, rfl, rfl⟩, by decide, (tbk_mem (j := 14) (k := 175) rfl), Or.inl (tbk_mem (j := 14) (k := 176) rfl), Or.inl ⟨rfl, (tbk_mem (j := 14) (k := 177) rfl)⟩, ⟨by decide, by decide⟩, by decide +kernel, by decide +kernel, by decide⟩
def k_Model_isWorld : Kp := (⟨"ClassWorksModel", "isWorld", "(I)Z"⟩, prog_13_method_127_code, 2, some (.boolean), [])
theorem mv_Model_isWorld : MV k_Model_isWorld 11 1 := ⟨⟨_, rfl, rfl⟩, by decide, (tbk_mem (j := 14) (k := 192) rfl), Or.inr ⟨(tbk_mem (j := 14) (k := 191) rfl), 131, (tbk_mem (j := 11) (k := 41) rfl)⟩, Or.inl ⟨rfl, (tbk_mem (j := 14) (k := 193) rfl)⟩, ⟨by decide, by decide⟩, by decide +kernel, by decide +kernel, by decide⟩
def k_Model_isClass : Kp := (⟨"ClassWorksModel", "isClass", "(II)Z"⟩, prog_13_method_128_code, 3, some (.boolean), [])
theorem mv_Model_isClass : MV k_Model_isClass 11 2 := ⟨⟨_, rfl, rfl⟩, by decide, (tbk_mem (j := 15) (k := 131) rfl), Or.inr ⟨(tbk_mem (j := 15) (k := 130) rfl), 131, (tbk_mem (j := 11) (k := 41) rfl)⟩, Or.inl ⟨rfl, (tbk_mem (j := 15) (k := 132) rfl)⟩, ⟨by decide, by decide⟩, by decide +kernel, by decide +kernel, by decide⟩
def k_Model_world : Kp := (⟨"ClassWorksModel", "world", "(I)I"⟩, prog_13_method_129_code, 3, some (.int), [])
theorem mv_Model_world : MV k_Model_world 11 1 := ⟨⟨_, rfl, rfl⟩, by decide, (tbk_mem (j := 14) (k := 179) rfl), Or.inl (tbk_mem (j := 14) (k := 180) rfl), Or.inl ⟨rfl, (tbk_mem (j := 14) (k := 181) rfl)⟩, ⟨by decide, by decide⟩, by decide +kernel, by decide +kernel, by decide⟩
def k_Model_drop : Kp := (⟨"ClassWorksModel", "drop", "(I)I"⟩, prog_13_method_130_code, 2, some (.int), [])
theorem mv_Model_drop : MV k_Model_drop 11 1 := ⟨⟨_, rfl, rfl⟩, by decide, (tbk_mem (j := 14) (k := 187) rfl), Or.inl (tbk_mem (j := 14) (k := 188) rfl), Or.inl ⟨rfl, (tbk_mem (j := 14) (k := 189) rfl)⟩, ⟨by decide, by decide⟩, by decide +kernel, by decide +kernel, by decide⟩
def k_Model_define : Kp := (⟨"ClassWorksModel", "define", "(I)I"⟩, prog_13_method_131_code, 3, some (.int), [])
theorem mv_Model_define : MV k_Model_define 11 1 := ⟨⟨_, rfl, rfl⟩, by decide, (tbk_mem (j := 14) (k := 195) rfl), Or.inl (tbk_mem (j := 14) (k := 196) rfl), Or.inl ⟨rfl, (tbk_mem (j := 14) (k := 197) rfl)⟩, ⟨by decide, by decide⟩, by decide +kernel, by decide +kernel, by decide⟩
def k_Model_place : Kp := (⟨"ClassWorksModel", "place", "()I"⟩, prog_13_method_132_code, 1, some (.int), [])
theorem mv_Model_place : MV k_Model_place 11 0 := ⟨⟨_, rfl, rfl⟩, by decide, (tbk_mem (j := 15) (k := 118) rfl), Or.inl (tbk_mem (j := 15) (k := 119) rfl), Or.inl ⟨rfl, (tbk_mem (j := 15) (k := 120) rfl)⟩, ⟨by decide, by decide⟩, by decide +kernel, by decide +kernel, by decide⟩
def k_Model_classes : Kp := (⟨"ClassWorksModel", "classes", "(I)I"⟩, prog_13_method_133_code, 2, some (.int), [])
theorem mv_Model_classes : MV k_Model_classes 11 1 := ⟨⟨_, rfl, rfl⟩, by decide, (tbk_mem (j := 15) (k := 122) rfl), Or.inl (tbk_mem (j := 15) (k := 123) rfl), Or.inl ⟨rfl, (tbk_mem (j := 15) (k := 124) rfl)⟩, ⟨by decide, by decide⟩, by decide +kernel, by decide +kernel, by decide⟩
def k_Model_told : Kp := (⟨"ClassWorksModel", "told", "(III)I"⟩, prog_13_method_134_code, 4, some (.int), [])
theorem mv_Model_told : MV k_Model_told 11 3 := ⟨⟨_, rfl, rfl⟩, by decide, (tbk_mem (j := 15) (k := 126) rfl), Or.inl (tbk_mem (j := 15) (k := 127) rfl), Or.inl ⟨rfl, (tbk_mem (j := 15) (k := 128) rfl)⟩, ⟨by decide, by decide⟩, by decide +kernel, by decide +kernel, by decide⟩
def k_Model_name : Kp := (⟨"ClassWorksModel", "name", "(IIIII)I"⟩, prog_13_method_135_code, 8, some (.int), [])
theorem mv_Model_name : MV k_Model_name 11 5 := ⟨⟨_, rfl, rfl⟩, by decide, (tbk_mem (j := 15) (k := 134) rfl), Or.inl (tbk_mem (j := 15) (k := 135) rfl), Or.inl ⟨rfl, (tbk_mem (j := 15) (k := 136) rfl)⟩, ⟨by decide, by decide⟩, by decide +kernel, by decide +kernel, by decide⟩
def w_Model_goStep_j86 (this : Nat) (Q : Mem → Prop) (s0 : Int32) (s1 : Int32) (s2 : Nat) (s3 : Int32) (s4 : Nat) (M : Mem) : Prop :=
  vp_in (s1 + s0) (mL M 300 s2) ∧ vp_in s3 (mL M 174 s4) ∧ Q (sI M 174 s4 s3.toNatClampNeg (mI M 300 s2 (s1 + s0).toNatClampNeg))
def w_Model_goStep_j84 (this : Nat) (Q : Mem → Prop) (v6 : Int32) (s0 : Int32) (s1 : Nat) (s2 : Int32) (s3 : Nat) (M : Mem) : Prop :=
  w_Model_goStep_j86 this Q v6 s0 s1 s2 s3 M
def w_Model_goStep_j445 (this : Nat) (Q : Mem → Prop) (s0 : Int32) (s1 : Int32) (s2 : Nat) (M : Mem) : Prop :=
  vp_in s1 (mL M 174 s2) ∧ Q (sI M 174 s2 s1.toNatClampNeg s0)
def w_Model_goStep_j409 (this : Nat) (Q : Mem → Prop) (v1 : Int32) (v2 : Int32) (v4 : Int32) (M : Mem) : Prop :=
  ∃ i21, (mR M 11 this 46) = some (13, i21) ∧ if v4 = 0 then (∃ i23, (mR M 11 this 46) = some (13, i23) ∧ vp_in v1 (mL M 174 i23) ∧ w_Model_goStep_j445 this Q ((mI M 174 i23 v1.toNatClampNeg) + (1 : Int32)) v1 i21 M) else (∃ i26, (mR M 11 this 45) = some (12, i26) ∧ ∃ i27, (mR M 12 i26 31) = some (300, i27) ∧ vp_in v2 (mL M 300 i27) ∧ w_Model_goStep_j445 this Q (mI M 300 i27 v2.toNatClampNeg) v1 i21 M)
def w_Model_goStep_j407 (this : Nat) (Q : Mem → Prop) (v1 : Int32) (v2 : Int32) (s0 : Int32) (M : Mem) : Prop :=
  w_Model_goStep_j409 this Q v1 v2 s0 M
def w_Model_goStep_j339 (this : Nat) (Q : Mem → Prop) (v1 : Int32) (v2 : Int32) (s0 : Int32) (M : Mem) : Prop :=
  w_Model_goStep_j409 this Q v1 v2 s0 M
def w_Model_goStep_j322 (this : Nat) (Q : Mem → Prop) (v1 : Int32) (v2 : Int32) (s0 : Int32) (M : Mem) : Prop :=
  w_Model_goStep_j409 this Q v1 v2 s0 M
def w_Model_goStep_j245 (this : Nat) (Q : Mem → Prop) (v1 : Int32) (v2 : Int32) (s0 : Int32) (M : Mem) : Prop :=
  w_Model_goStep_j409 this Q v1 v2 s0 M
def w_Model_goStep_j230 (this : Nat) (Q : Mem → Prop) (v1 : Int32) (v2 : Int32) (s0 : Int32) (M : Mem) : Prop :=
  w_Model_goStep_j409 this Q v1 v2 s0 M
def w_Model_goStep_j390 (this : Nat) (Q : Mem → Prop) (v1 : Int32) (v2 : Int32) (s0 : Int32) (M : Mem) : Prop :=
  w_Model_goStep_j409 this Q v1 v2 s0 M
def w_Model_goStep_j373 (this : Nat) (Q : Mem → Prop) (v1 : Int32) (v2 : Int32) (s0 : Int32) (M : Mem) : Prop :=
  w_Model_goStep_j409 this Q v1 v2 s0 M
def w_Model_goStep_j356 (this : Nat) (Q : Mem → Prop) (v1 : Int32) (v2 : Int32) (s0 : Int32) (M : Mem) : Prop :=
  w_Model_goStep_j409 this Q v1 v2 s0 M
def w_Model_goStep_j305 (this : Nat) (Q : Mem → Prop) (v1 : Int32) (v2 : Int32) (s0 : Int32) (M : Mem) : Prop :=
  w_Model_goStep_j409 this Q v1 v2 s0 M
def w_Model_goStep_j290 (this : Nat) (Q : Mem → Prop) (v1 : Int32) (v2 : Int32) (s0 : Int32) (M : Mem) : Prop :=
  w_Model_goStep_j409 this Q v1 v2 s0 M
def w_Model_goStep_j275 (this : Nat) (Q : Mem → Prop) (v1 : Int32) (v2 : Int32) (s0 : Int32) (M : Mem) : Prop :=
  w_Model_goStep_j409 this Q v1 v2 s0 M
def w_Model_goStep_j260 (this : Nat) (Q : Mem → Prop) (v1 : Int32) (v2 : Int32) (s0 : Int32) (M : Mem) : Prop :=
  w_Model_goStep_j409 this Q v1 v2 s0 M
def w_Model_goStep_j139 (this : Nat) (Q : Mem → Prop) (v1 : Int32) (v2 : Int32) (v3 : Int32) (v5 : Int32) (s0 : Int32) (M : Mem) : Prop :=
  if v3 = (24 : Int32) then (if v5 = 0 then (w_Model_goStep_j230 this Q v1 v2 (1 : Int32) M) else (w_Model_goStep_j230 this Q v1 v2 (0 : Int32) M)) else (if v3 = (25 : Int32) then (if v5 = 0 then (w_Model_goStep_j245 this Q v1 v2 (0 : Int32) M) else (w_Model_goStep_j245 this Q v1 v2 (1 : Int32) M)) else (if v3 = (26 : Int32) then (if 0 ≤ v5 then (w_Model_goStep_j260 this Q v1 v2 (0 : Int32) M) else (w_Model_goStep_j260 this Q v1 v2 (1 : Int32) M)) else (if v3 = (27 : Int32) then (if v5 < 0 then (w_Model_goStep_j275 this Q v1 v2 (0 : Int32) M) else (w_Model_goStep_j275 this Q v1 v2 (1 : Int32) M)) else (if v3 = (28 : Int32) then (if v5 ≤ 0 then (w_Model_goStep_j290 this Q v1 v2 (0 : Int32) M) else (w_Model_goStep_j290 this Q v1 v2 (1 : Int32) M)) else (if v3 = (29 : Int32) then (if 0 < v5 then (w_Model_goStep_j305 this Q v1 v2 (0 : Int32) M) else (w_Model_goStep_j305 this Q v1 v2 (1 : Int32) M)) else (if v3 = (30 : Int32) then (if s0 = v5 then (w_Model_goStep_j322 this Q v1 v2 (1 : Int32) M) else (w_Model_goStep_j322 this Q v1 v2 (0 : Int32) M)) else (if v3 = (31 : Int32) then (if s0 = v5 then (w_Model_goStep_j339 this Q v1 v2 (0 : Int32) M) else (w_Model_goStep_j339 this Q v1 v2 (1 : Int32) M)) else (if v3 = (32 : Int32) then (if v5 ≤ s0 then (w_Model_goStep_j356 this Q v1 v2 (0 : Int32) M) else (w_Model_goStep_j356 this Q v1 v2 (1 : Int32) M)) else (if v3 = (33 : Int32) then (if s0 < v5 then (w_Model_goStep_j373 this Q v1 v2 (0 : Int32) M) else (w_Model_goStep_j373 this Q v1 v2 (1 : Int32) M)) else (if v3 = (34 : Int32) then (if s0 ≤ v5 then (w_Model_goStep_j390 this Q v1 v2 (0 : Int32) M) else (w_Model_goStep_j390 this Q v1 v2 (1 : Int32) M)) else (if v3 = (35 : Int32) then (if v5 < s0 then (w_Model_goStep_j407 this Q v1 v2 (0 : Int32) M) else (w_Model_goStep_j407 this Q v1 v2 (1 : Int32) M)) else (if v3 = (36 : Int32) then (if v5 = 0 then (w_Model_goStep_j230 this Q v1 v2 (1 : Int32) M) else (w_Model_goStep_j230 this Q v1 v2 (0 : Int32) M)) else (if v3 = (37 : Int32) then (if v5 = 0 then (w_Model_goStep_j245 this Q v1 v2 (0 : Int32) M) else (w_Model_goStep_j245 this Q v1 v2 (1 : Int32) M)) else (if v3 = (38 : Int32) then (if s0 = v5 then (w_Model_goStep_j322 this Q v1 v2 (1 : Int32) M) else (w_Model_goStep_j322 this Q v1 v2 (0 : Int32) M)) else (if v3 = (39 : Int32) then (if s0 = v5 then (w_Model_goStep_j339 this Q v1 v2 (0 : Int32) M) else (w_Model_goStep_j339 this Q v1 v2 (1 : Int32) M)) else (if v5 < s0 then (w_Model_goStep_j407 this Q v1 v2 (0 : Int32) M) else (w_Model_goStep_j407 this Q v1 v2 (1 : Int32) M)))))))))))))))))
def w_Model_goStep_j130 (this : Nat) (Q : Mem → Prop) (v1 : Int32) (v2 : Int32) (v3 : Int32) (v5 : Int32) (M : Mem) : Prop :=
  w_Model_pop this v1 (fun r34 M33 => w_Model_goStep_j139 this Q v1 v2 v3 v5 r34 M33) M
def w_Model_goStep_j118 (this : Nat) (Q : Mem → Prop) (v1 : Int32) (v2 : Int32) (v3 : Int32) (v5 : Int32) (M : Mem) : Prop :=
  if v3 = (38 : Int32) then (w_Model_goStep_j130 this Q v1 v2 v3 v5 M) else (if v3 = (39 : Int32) then (w_Model_goStep_j130 this Q v1 v2 v3 v5 M) else (w_Model_goStep_j139 this Q v1 v2 v3 v5 (0 : Int32) M))
def w_Model_goStep (this : Nat) (a1 : Int32) (a2 : Int32) (a3 : Int32) (Q : Mem → Prop) (M : Mem) : Prop :=
  if a3 = (40 : Int32) then (w_Model_pop this a1 (fun r3 M2 => ∃ i4, (mR M2 11 this 45) = some (12, i4) ∧ ∃ i5, (mR M2 12 i4 31) = some (300, i5) ∧ vp_in a2 (mL M2 300 i5) ∧ ∃ i7, (mR M2 11 this 45) = some (12, i7) ∧ ∃ i8, (mR M2 12 i7 33) = some (300, i8) ∧ vp_in a2 (mL M2 300 i8) ∧ ∃ i10, (mR M2 11 this 46) = some (13, i10) ∧ ∃ i11, (mR M2 11 this 45) = some (12, i11) ∧ ∃ i12, (mR M2 12 i11 36) = some (300, i12) ∧ ∃ i13, (mR M2 11 this 45) = some (12, i13) ∧ ∃ i14, (mR M2 12 i13 32) = some (300, i14) ∧ vp_in a2 (mL M2 300 i14) ∧ if (lg_cmp (r3.toInt64 - (mI M2 300 i5 a2.toNatClampNeg).toInt64) (0 : Int64)) < 0 then (w_Model_goStep_j84 this Q ((mI M2 300 i8 a2.toNatClampNeg) - (1 : Int32)) (mI M2 300 i14 a2.toNatClampNeg) i12 a1 i10 M2) else (if 0 ≤ (lg_cmp (r3.toInt64 - (mI M2 300 i5 a2.toNatClampNeg).toInt64) (((mI M2 300 i8 a2.toNatClampNeg) - (1 : Int32)).toInt64)) then (w_Model_goStep_j84 this Q ((mI M2 300 i8 a2.toNatClampNeg) - (1 : Int32)) (mI M2 300 i14 a2.toNatClampNeg) i12 a1 i10 M2) else (w_Model_goStep_j86 this Q ((r3.toInt64 - (mI M2 300 i5 a2.toNatClampNeg).toInt64).toInt32) (mI M2 300 i14 a2.toNatClampNeg) i12 a1 i10 M2))) M) else (if a3 = (23 : Int32) then (w_Model_goStep_j409 this Q a1 a2 (1 : Int32) M) else (w_Model_pop this a1 (fun r30 M29 => if a3 < (30 : Int32) then (w_Model_goStep_j118 this Q a1 a2 a3 r30 M29) else (if a3 ≤ (35 : Int32) then (w_Model_goStep_j130 this Q a1 a2 a3 r30 M29) else (w_Model_goStep_j118 this Q a1 a2 a3 r30 M29))) M))
set_option maxRecDepth 4096 in
theorem lk_Model_goStep_j86 {γ : Gm} (hγ : Gk γ) (this : Nat) (Q : Mem → Prop) (s0 : Int32) (s1 : Int32) (s2 : Nat) (s3 : Int32) (s4 : Nat) (M : Mem) (h : w_Model_goStep_j86 this Q s0 s1 s2 s3 s4 M) : E γ k_Model_goStep 1 86 [none, none, none, none, none, none, none] [vi s0, vi s1, vr (some (300, s2)), vi s3, vr (some (174, s4))] M (Qv Q) := by
  unfold w_Model_goStep_j86 at h
  obtain ⟨c17, c18, h⟩ := h
  refine E_blk (lv' := [none, none, none, none, none, none, none]) (st' := []) (M1 := (sI M 174 s4 s3.toNatClampNeg (mI M 300 s2 (s1 + s0).toNatClampNeg))) (pc' := 89) (tb_Model hγ) [.iadd, .iaload, .iastore] (by decide +kernel) rfl rfl ⟨c17, c18, trivial⟩ ?_
  exact E_vret rfl (by decide +kernel) h
set_option maxRecDepth 4096 in
theorem lk_Model_goStep_j84 {γ : Gm} (hγ : Gk γ) (this : Nat) (Q : Mem → Prop) (v6 : Int32) (s0 : Int32) (s1 : Nat) (s2 : Int32) (s3 : Nat) (M : Mem) (h : w_Model_goStep_j84 this Q v6 s0 s1 s2 s3 M) : E γ k_Model_goStep 1 84 [none, none, none, none, none, none, some (vi v6)] [vi s0, vr (some (300, s1)), vi s2, vr (some (174, s3))] M (Qv Q) := by
  unfold w_Model_goStep_j84 at h
  refine E_blk (lv' := [none, none, none, none, none, none, some (vi v6)]) (st' := [vi v6, vi s0, vr (some (300, s1)), vi s2, vr (some (174, s3))]) (M1 := M) (pc' := 86) (tb_Model hγ) [.iload 6] (by decide +kernel) rfl rfl trivial ?_
  refine E_mask [false, false, false, false, false, false, false] rfl ?_
  exact lk_Model_goStep_j86 hγ this Q v6 s0 s1 s2 s3 M h
set_option maxRecDepth 4096 in
theorem lk_Model_goStep_j445 {γ : Gm} (hγ : Gk γ) (this : Nat) (Q : Mem → Prop) (s0 : Int32) (s1 : Int32) (s2 : Nat) (M : Mem) (h : w_Model_goStep_j445 this Q s0 s1 s2 M) : E γ k_Model_goStep 1 445 [none, none, none, none, none, none, none] [vi s0, vi s1, vr (some (174, s2))] M (Qv Q) := by
  unfold w_Model_goStep_j445 at h
  obtain ⟨c25, h⟩ := h
  refine E_blk (lv' := [none, none, none, none, none, none, none]) (st' := []) (M1 := (sI M 174 s2 s1.toNatClampNeg s0)) (pc' := 446) (tb_Model hγ) [.iastore] (by decide +kernel) rfl rfl ⟨c25, trivial⟩ ?_
  exact E_vret rfl (by decide +kernel) h
set_option maxRecDepth 4096 in
theorem lk_Model_goStep_j409 {γ : Gm} (hγ : Gk γ) (this : Nat) (Q : Mem → Prop) (v1 : Int32) (v2 : Int32) (v4 : Int32) (M : Mem) (h : w_Model_goStep_j409 this Q v1 v2 v4 M) : E γ k_Model_goStep 1 409 [some (vr (some (11, this))), some (vi v1), some (vi v2), none, some (vi v4), none, none] [] M (Qv Q) := by
  unfold w_Model_goStep_j409 at h
  refine E_blk (lv' := [some (vr (some (11, this))), some (vi v1), some (vi v2), none, some (vi v4), none, none]) (st' := [vr (mR M 11 this 46)]) (M1 := M) (pc' := 413) (tb_Model hγ) [.aload_n 0, .getfield 917] (by decide +kernel) rfl rfl trivial ?_
  obtain ⟨i21, ei21, h⟩ := h
  rw [ei21]
  refine E_blk (lv' := [some (vr (some (11, this))), some (vi v1), some (vi v2), none, some (vi v4), none, none]) (st' := [vi v4, vi v1, vr (some (174, i21))]) (M1 := M) (pc' := 419) (tb_Model hγ) [.getfield 930, .iload_n 1, .iload 4] (by decide +kernel) rfl rfl trivial ?_
  refine E_if_eq (off := 15) (tgt := 434) (by decide +kernel) (by decide) (fun b22 => ?_) (fun b22 => ?_)
  · rw [if_pos b22] at h
    refine E_blk (lv' := [some (vr (some (11, this))), some (vi v1), some (vi v2), none, some (vi v4), none, none]) (st' := [vr (mR M 11 this 46), vi v1, vr (some (174, i21))]) (M1 := M) (pc' := 438) (tb_Model hγ) [.aload_n 0, .getfield 917] (by decide +kernel) rfl rfl trivial ?_
    obtain ⟨i23, ei23, h⟩ := h
    rw [ei23]
    obtain ⟨c24, h⟩ := h
    refine E_blk (lv' := [some (vr (some (11, this))), some (vi v1), some (vi v2), none, some (vi v4), none, none]) (st' := [vi ((mI M 174 i23 v1.toNatClampNeg) + (1 : Int32)), vi v1, vr (some (174, i21))]) (M1 := M) (pc' := 445) (tb_Model hγ) [.getfield 930, .iload_n 1, .iaload, .iconst 1, .iadd] (by decide +kernel) rfl rfl ⟨c24, trivial⟩ ?_
    refine E_mask [false, false, false, false, false, false, false] rfl ?_
    exact lk_Model_goStep_j445 hγ this Q ((mI M 174 i23 v1.toNatClampNeg) + (1 : Int32)) v1 i21 M h
  · rw [if_neg b22] at h
    refine E_blk (lv' := [some (vr (some (11, this))), some (vi v1), some (vi v2), none, some (vi v4), none, none]) (st' := [vr (mR M 11 this 45), vi v1, vr (some (174, i21))]) (M1 := M) (pc' := 426) (tb_Model hγ) [.aload_n 0, .getfield 522] (by decide +kernel) rfl rfl trivial ?_
    obtain ⟨i26, ei26, h⟩ := h
    rw [ei26]
    refine E_blk (lv' := [some (vr (some (11, this))), some (vi v1), some (vi v2), none, some (vi v4), none, none]) (st' := [vr (mR M 12 i26 31), vi v1, vr (some (174, i21))]) (M1 := M) (pc' := 429) (tb_Model hγ) [.getfield 677] (by decide +kernel) rfl rfl trivial ?_
    obtain ⟨i27, ei27, h⟩ := h
    rw [ei27]
    obtain ⟨c28, h⟩ := h
    refine E_blk (lv' := [some (vr (some (11, this))), some (vi v1), some (vi v2), none, some (vi v4), none, none]) (st' := [vi (mI M 300 i27 v2.toNatClampNeg), vi v1, vr (some (174, i21))]) (M1 := M) (pc' := 431) (tb_Model hγ) [.iload_n 2, .iaload] (by decide +kernel) rfl rfl ⟨c28, trivial⟩ ?_
    refine E_goto (off := 14) (tgt := 445) (by decide +kernel) (by decide) ?_
    refine E_mask [false, false, false, false, false, false, false] rfl ?_
    exact lk_Model_goStep_j445 hγ this Q (mI M 300 i27 v2.toNatClampNeg) v1 i21 M h
set_option maxRecDepth 4096 in
theorem lk_Model_goStep_j407 {γ : Gm} (hγ : Gk γ) (this : Nat) (Q : Mem → Prop) (v1 : Int32) (v2 : Int32) (s0 : Int32) (M : Mem) (h : w_Model_goStep_j407 this Q v1 v2 s0 M) : E γ k_Model_goStep 1 407 [some (vr (some (11, this))), some (vi v1), some (vi v2), none, none, none, none] [vi s0] M (Qv Q) := by
  unfold w_Model_goStep_j407 at h
  refine E_blk (lv' := [some (vr (some (11, this))), some (vi v1), some (vi v2), none, some (vi s0), none, none]) (st' := []) (M1 := M) (pc' := 409) (tb_Model hγ) [.istore 4] (by decide +kernel) rfl rfl trivial ?_
  refine E_mask [true, true, true, false, true, false, false] rfl ?_
  exact lk_Model_goStep_j409 hγ this Q v1 v2 s0 M h
set_option maxRecDepth 4096 in
theorem lk_Model_goStep_j339 {γ : Gm} (hγ : Gk γ) (this : Nat) (Q : Mem → Prop) (v1 : Int32) (v2 : Int32) (s0 : Int32) (M : Mem) (h : w_Model_goStep_j339 this Q v1 v2 s0 M) : E γ k_Model_goStep 1 339 [some (vr (some (11, this))), some (vi v1), some (vi v2), none, none, none, none] [vi s0] M (Qv Q) := by
  unfold w_Model_goStep_j339 at h
  refine E_blk (lv' := [some (vr (some (11, this))), some (vi v1), some (vi v2), none, some (vi s0), none, none]) (st' := []) (M1 := M) (pc' := 341) (tb_Model hγ) [.istore 4] (by decide +kernel) rfl rfl trivial ?_
  refine E_goto (off := 68) (tgt := 409) (by decide +kernel) (by decide) ?_
  refine E_mask [true, true, true, false, true, false, false] rfl ?_
  exact lk_Model_goStep_j409 hγ this Q v1 v2 s0 M h
set_option maxRecDepth 4096 in
theorem lk_Model_goStep_j322 {γ : Gm} (hγ : Gk γ) (this : Nat) (Q : Mem → Prop) (v1 : Int32) (v2 : Int32) (s0 : Int32) (M : Mem) (h : w_Model_goStep_j322 this Q v1 v2 s0 M) : E γ k_Model_goStep 1 322 [some (vr (some (11, this))), some (vi v1), some (vi v2), none, none, none, none] [vi s0] M (Qv Q) := by
  unfold w_Model_goStep_j322 at h
  refine E_blk (lv' := [some (vr (some (11, this))), some (vi v1), some (vi v2), none, some (vi s0), none, none]) (st' := []) (M1 := M) (pc' := 324) (tb_Model hγ) [.istore 4] (by decide +kernel) rfl rfl trivial ?_
  refine E_goto (off := 85) (tgt := 409) (by decide +kernel) (by decide) ?_
  refine E_mask [true, true, true, false, true, false, false] rfl ?_
  exact lk_Model_goStep_j409 hγ this Q v1 v2 s0 M h
set_option maxRecDepth 4096 in
theorem lk_Model_goStep_j245 {γ : Gm} (hγ : Gk γ) (this : Nat) (Q : Mem → Prop) (v1 : Int32) (v2 : Int32) (s0 : Int32) (M : Mem) (h : w_Model_goStep_j245 this Q v1 v2 s0 M) : E γ k_Model_goStep 1 245 [some (vr (some (11, this))), some (vi v1), some (vi v2), none, none, none, none] [vi s0] M (Qv Q) := by
  unfold w_Model_goStep_j245 at h
  refine E_blk (lv' := [some (vr (some (11, this))), some (vi v1), some (vi v2), none, some (vi s0), none, none]) (st' := []) (M1 := M) (pc' := 247) (tb_Model hγ) [.istore 4] (by decide +kernel) rfl rfl trivial ?_
  refine E_goto (off := 162) (tgt := 409) (by decide +kernel) (by decide) ?_
  refine E_mask [true, true, true, false, true, false, false] rfl ?_
  exact lk_Model_goStep_j409 hγ this Q v1 v2 s0 M h
set_option maxRecDepth 4096 in
theorem lk_Model_goStep_j230 {γ : Gm} (hγ : Gk γ) (this : Nat) (Q : Mem → Prop) (v1 : Int32) (v2 : Int32) (s0 : Int32) (M : Mem) (h : w_Model_goStep_j230 this Q v1 v2 s0 M) : E γ k_Model_goStep 1 230 [some (vr (some (11, this))), some (vi v1), some (vi v2), none, none, none, none] [vi s0] M (Qv Q) := by
  unfold w_Model_goStep_j230 at h
  refine E_blk (lv' := [some (vr (some (11, this))), some (vi v1), some (vi v2), none, some (vi s0), none, none]) (st' := []) (M1 := M) (pc' := 232) (tb_Model hγ) [.istore 4] (by decide +kernel) rfl rfl trivial ?_
  refine E_goto (off := 177) (tgt := 409) (by decide +kernel) (by decide) ?_
  refine E_mask [true, true, true, false, true, false, false] rfl ?_
  exact lk_Model_goStep_j409 hγ this Q v1 v2 s0 M h
set_option maxRecDepth 4096 in
theorem lk_Model_goStep_j390 {γ : Gm} (hγ : Gk γ) (this : Nat) (Q : Mem → Prop) (v1 : Int32) (v2 : Int32) (s0 : Int32) (M : Mem) (h : w_Model_goStep_j390 this Q v1 v2 s0 M) : E γ k_Model_goStep 1 390 [some (vr (some (11, this))), some (vi v1), some (vi v2), none, none, none, none] [vi s0] M (Qv Q) := by
  unfold w_Model_goStep_j390 at h
  refine E_blk (lv' := [some (vr (some (11, this))), some (vi v1), some (vi v2), none, some (vi s0), none, none]) (st' := []) (M1 := M) (pc' := 392) (tb_Model hγ) [.istore 4] (by decide +kernel) rfl rfl trivial ?_
  refine E_goto (off := 17) (tgt := 409) (by decide +kernel) (by decide) ?_
  refine E_mask [true, true, true, false, true, false, false] rfl ?_
  exact lk_Model_goStep_j409 hγ this Q v1 v2 s0 M h
set_option maxRecDepth 4096 in
theorem lk_Model_goStep_j373 {γ : Gm} (hγ : Gk γ) (this : Nat) (Q : Mem → Prop) (v1 : Int32) (v2 : Int32) (s0 : Int32) (M : Mem) (h : w_Model_goStep_j373 this Q v1 v2 s0 M) : E γ k_Model_goStep 1 373 [some (vr (some (11, this))), some (vi v1), some (vi v2), none, none, none, none] [vi s0] M (Qv Q) := by
  unfold w_Model_goStep_j373 at h
  refine E_blk (lv' := [some (vr (some (11, this))), some (vi v1), some (vi v2), none, some (vi s0), none, none]) (st' := []) (M1 := M) (pc' := 375) (tb_Model hγ) [.istore 4] (by decide +kernel) rfl rfl trivial ?_
  refine E_goto (off := 34) (tgt := 409) (by decide +kernel) (by decide) ?_
  refine E_mask [true, true, true, false, true, false, false] rfl ?_
  exact lk_Model_goStep_j409 hγ this Q v1 v2 s0 M h
set_option maxRecDepth 4096 in
theorem lk_Model_goStep_j356 {γ : Gm} (hγ : Gk γ) (this : Nat) (Q : Mem → Prop) (v1 : Int32) (v2 : Int32) (s0 : Int32) (M : Mem) (h : w_Model_goStep_j356 this Q v1 v2 s0 M) : E γ k_Model_goStep 1 356 [some (vr (some (11, this))), some (vi v1), some (vi v2), none, none, none, none] [vi s0] M (Qv Q) := by
  unfold w_Model_goStep_j356 at h
  refine E_blk (lv' := [some (vr (some (11, this))), some (vi v1), some (vi v2), none, some (vi s0), none, none]) (st' := []) (M1 := M) (pc' := 358) (tb_Model hγ) [.istore 4] (by decide +kernel) rfl rfl trivial ?_
  refine E_goto (off := 51) (tgt := 409) (by decide +kernel) (by decide) ?_
  refine E_mask [true, true, true, false, true, false, false] rfl ?_
  exact lk_Model_goStep_j409 hγ this Q v1 v2 s0 M h
set_option maxRecDepth 4096 in
theorem lk_Model_goStep_j305 {γ : Gm} (hγ : Gk γ) (this : Nat) (Q : Mem → Prop) (v1 : Int32) (v2 : Int32) (s0 : Int32) (M : Mem) (h : w_Model_goStep_j305 this Q v1 v2 s0 M) : E γ k_Model_goStep 1 305 [some (vr (some (11, this))), some (vi v1), some (vi v2), none, none, none, none] [vi s0] M (Qv Q) := by
  unfold w_Model_goStep_j305 at h
  refine E_blk (lv' := [some (vr (some (11, this))), some (vi v1), some (vi v2), none, some (vi s0), none, none]) (st' := []) (M1 := M) (pc' := 307) (tb_Model hγ) [.istore 4] (by decide +kernel) rfl rfl trivial ?_
  refine E_goto (off := 102) (tgt := 409) (by decide +kernel) (by decide) ?_
  refine E_mask [true, true, true, false, true, false, false] rfl ?_
  exact lk_Model_goStep_j409 hγ this Q v1 v2 s0 M h
set_option maxRecDepth 4096 in
theorem lk_Model_goStep_j290 {γ : Gm} (hγ : Gk γ) (this : Nat) (Q : Mem → Prop) (v1 : Int32) (v2 : Int32) (s0 : Int32) (M : Mem) (h : w_Model_goStep_j290 this Q v1 v2 s0 M) : E γ k_Model_goStep 1 290 [some (vr (some (11, this))), some (vi v1), some (vi v2), none, none, none, none] [vi s0] M (Qv Q) := by
  unfold w_Model_goStep_j290 at h
  refine E_blk (lv' := [some (vr (some (11, this))), some (vi v1), some (vi v2), none, some (vi s0), none, none]) (st' := []) (M1 := M) (pc' := 292) (tb_Model hγ) [.istore 4] (by decide +kernel) rfl rfl trivial ?_
  refine E_goto (off := 117) (tgt := 409) (by decide +kernel) (by decide) ?_
  refine E_mask [true, true, true, false, true, false, false] rfl ?_
  exact lk_Model_goStep_j409 hγ this Q v1 v2 s0 M h
set_option maxRecDepth 4096 in
theorem lk_Model_goStep_j275 {γ : Gm} (hγ : Gk γ) (this : Nat) (Q : Mem → Prop) (v1 : Int32) (v2 : Int32) (s0 : Int32) (M : Mem) (h : w_Model_goStep_j275 this Q v1 v2 s0 M) : E γ k_Model_goStep 1 275 [some (vr (some (11, this))), some (vi v1), some (vi v2), none, none, none, none] [vi s0] M (Qv Q) := by
  unfold w_Model_goStep_j275 at h
  refine E_blk (lv' := [some (vr (some (11, this))), some (vi v1), some (vi v2), none, some (vi s0), none, none]) (st' := []) (M1 := M) (pc' := 277) (tb_Model hγ) [.istore 4] (by decide +kernel) rfl rfl trivial ?_
  refine E_goto (off := 132) (tgt := 409) (by decide +kernel) (by decide) ?_
  refine E_mask [true, true, true, false, true, false, false] rfl ?_
  exact lk_Model_goStep_j409 hγ this Q v1 v2 s0 M h
set_option maxRecDepth 4096 in
theorem lk_Model_goStep_j260 {γ : Gm} (hγ : Gk γ) (this : Nat) (Q : Mem → Prop) (v1 : Int32) (v2 : Int32) (s0 : Int32) (M : Mem) (h : w_Model_goStep_j260 this Q v1 v2 s0 M) : E γ k_Model_goStep 1 260 [some (vr (some (11, this))), some (vi v1), some (vi v2), none, none, none, none] [vi s0] M (Qv Q) := by
  unfold w_Model_goStep_j260 at h
  refine E_blk (lv' := [some (vr (some (11, this))), some (vi v1), some (vi v2), none, some (vi s0), none, none]) (st' := []) (M1 := M) (pc' := 262) (tb_Model hγ) [.istore 4] (by decide +kernel) rfl rfl trivial ?_
  refine E_goto (off := 147) (tgt := 409) (by decide +kernel) (by decide) ?_
  refine E_mask [true, true, true, false, true, false, false] rfl ?_
  exact lk_Model_goStep_j409 hγ this Q v1 v2 s0 M h
set_option maxRecDepth 4096 in
theorem lk_Model_goStep_j139 {γ : Gm} (hγ : Gk γ) (this : Nat) (Q : Mem → Prop) (v1 : Int32) (v2 : Int32) (v3 : Int32) (v5 : Int32) (s0 : Int32) (M : Mem) (h : w_Model_goStep_j139 this Q v1 v2 v3 v5 s0 M) : E γ k_Model_goStep 1 139 [some (vr (some (11, this))), some (vi v1), some (vi v2), some (vi v3), none, some (vi v5), none] [vi s0] M (Qv Q) := by
  unfold w_Model_goStep_j139 at h
  refine E_blk (lv' := [some (vr (some (11, this))), some (vi v1), some (vi v2), some (vi v3), none, some (vi v5), some (vi s0)]) (st' := [vi v3]) (M1 := M) (pc' := 142) (tb_Model hγ) [.istore 6, .iload_n 3] (by decide +kernel) rfl rfl trivial ?_
  by_cases b36 : v3 = (24 : Int32)
  · rw [if_pos b36] at h
    refine E.up (fun _ _ hJ => J_tswI (len := 78) (dflt := 253) (lo := 24) (hi := 39) (offs := #[78, 93, 108, 123, 138, 153, 168, 185, 202, 219, 236, 253, 78, 93, 168, 185]) (off := 78) (tgt := 220) (by decide +kernel) (by rw [b36]; decide) (by rw [b36]; decide) (by rw [b36]; rfl) (by decide) hJ) ?_
    refine E_blk (lv' := [some (vr (some (11, this))), some (vi v1), some (vi v2), some (vi v3), none, some (vi v5), some (vi s0)]) (st' := [vi v5]) (M1 := M) (pc' := 222) (tb_Model hγ) [.iload 5] (by decide +kernel) rfl rfl trivial ?_
    refine E_if_ne (off := 7) (tgt := 229) (by decide +kernel) (by decide) (fun b67 => ?_) (fun b67 => ?_)
    · rw [if_pos b67] at h
      refine E_blk (lv' := [some (vr (some (11, this))), some (vi v1), some (vi v2), some (vi v3), none, some (vi v5), some (vi s0)]) (st' := [vi (1 : Int32)]) (M1 := M) (pc' := 226) (tb_Model hγ) [.iconst 1] (by decide +kernel) rfl rfl trivial ?_
      refine E_goto (off := 4) (tgt := 230) (by decide +kernel) (by decide) ?_
      refine E_mask [true, true, true, false, false, false, false] rfl ?_
      exact lk_Model_goStep_j230 hγ this Q v1 v2 (1 : Int32) M h
    · rw [if_neg b67] at h
      refine E_blk (lv' := [some (vr (some (11, this))), some (vi v1), some (vi v2), some (vi v3), none, some (vi v5), some (vi s0)]) (st' := [vi (0 : Int32)]) (M1 := M) (pc' := 230) (tb_Model hγ) [.iconst 0] (by decide +kernel) rfl rfl trivial ?_
      refine E_mask [true, true, true, false, false, false, false] rfl ?_
      exact lk_Model_goStep_j230 hγ this Q v1 v2 (0 : Int32) M h
  · rw [if_neg b36] at h
    by_cases b37 : v3 = (25 : Int32)
    · rw [if_pos b37] at h
      refine E.up (fun _ _ hJ => J_tswI (len := 78) (dflt := 253) (lo := 24) (hi := 39) (offs := #[78, 93, 108, 123, 138, 153, 168, 185, 202, 219, 236, 253, 78, 93, 168, 185]) (off := 93) (tgt := 235) (by decide +kernel) (by rw [b37]; decide) (by rw [b37]; decide) (by rw [b37]; rfl) (by decide) hJ) ?_
      refine E_blk (lv' := [some (vr (some (11, this))), some (vi v1), some (vi v2), some (vi v3), none, some (vi v5), some (vi s0)]) (st' := [vi v5]) (M1 := M) (pc' := 237) (tb_Model hγ) [.iload 5] (by decide +kernel) rfl rfl trivial ?_
      refine E_if_eq (off := 7) (tgt := 244) (by decide +kernel) (by decide) (fun b66 => ?_) (fun b66 => ?_)
      · rw [if_pos b66] at h
        refine E_blk (lv' := [some (vr (some (11, this))), some (vi v1), some (vi v2), some (vi v3), none, some (vi v5), some (vi s0)]) (st' := [vi (0 : Int32)]) (M1 := M) (pc' := 245) (tb_Model hγ) [.iconst 0] (by decide +kernel) rfl rfl trivial ?_
        refine E_mask [true, true, true, false, false, false, false] rfl ?_
        exact lk_Model_goStep_j245 hγ this Q v1 v2 (0 : Int32) M h
      · rw [if_neg b66] at h
        refine E_blk (lv' := [some (vr (some (11, this))), some (vi v1), some (vi v2), some (vi v3), none, some (vi v5), some (vi s0)]) (st' := [vi (1 : Int32)]) (M1 := M) (pc' := 241) (tb_Model hγ) [.iconst 1] (by decide +kernel) rfl rfl trivial ?_
        refine E_goto (off := 4) (tgt := 245) (by decide +kernel) (by decide) ?_
        refine E_mask [true, true, true, false, false, false, false] rfl ?_
        exact lk_Model_goStep_j245 hγ this Q v1 v2 (1 : Int32) M h
    · rw [if_neg b37] at h
      by_cases b38 : v3 = (26 : Int32)
      · rw [if_pos b38] at h
        refine E.up (fun _ _ hJ => J_tswI (len := 78) (dflt := 253) (lo := 24) (hi := 39) (offs := #[78, 93, 108, 123, 138, 153, 168, 185, 202, 219, 236, 253, 78, 93, 168, 185]) (off := 108) (tgt := 250) (by decide +kernel) (by rw [b38]; decide) (by rw [b38]; decide) (by rw [b38]; rfl) (by decide) hJ) ?_
        refine E_blk (lv' := [some (vr (some (11, this))), some (vi v1), some (vi v2), some (vi v3), none, some (vi v5), some (vi s0)]) (st' := [vi v5]) (M1 := M) (pc' := 252) (tb_Model hγ) [.iload 5] (by decide +kernel) rfl rfl trivial ?_
        refine E_if_ge (off := 7) (tgt := 259) (by decide +kernel) (by decide) (fun b65 => ?_) (fun b65 => ?_)
        · rw [if_pos b65] at h
          refine E_blk (lv' := [some (vr (some (11, this))), some (vi v1), some (vi v2), some (vi v3), none, some (vi v5), some (vi s0)]) (st' := [vi (0 : Int32)]) (M1 := M) (pc' := 260) (tb_Model hγ) [.iconst 0] (by decide +kernel) rfl rfl trivial ?_
          refine E_mask [true, true, true, false, false, false, false] rfl ?_
          exact lk_Model_goStep_j260 hγ this Q v1 v2 (0 : Int32) M h
        · rw [if_neg b65] at h
          refine E_blk (lv' := [some (vr (some (11, this))), some (vi v1), some (vi v2), some (vi v3), none, some (vi v5), some (vi s0)]) (st' := [vi (1 : Int32)]) (M1 := M) (pc' := 256) (tb_Model hγ) [.iconst 1] (by decide +kernel) rfl rfl trivial ?_
          refine E_goto (off := 4) (tgt := 260) (by decide +kernel) (by decide) ?_
          refine E_mask [true, true, true, false, false, false, false] rfl ?_
          exact lk_Model_goStep_j260 hγ this Q v1 v2 (1 : Int32) M h
      · rw [if_neg b38] at h
        by_cases b39 : v3 = (27 : Int32)
        · rw [if_pos b39] at h
          refine E.up (fun _ _ hJ => J_tswI (len := 78) (dflt := 253) (lo := 24) (hi := 39) (offs := #[78, 93, 108, 123, 138, 153, 168, 185, 202, 219, 236, 253, 78, 93, 168, 185]) (off := 123) (tgt := 265) (by decide +kernel) (by rw [b39]; decide) (by rw [b39]; decide) (by rw [b39]; rfl) (by decide) hJ) ?_
          refine E_blk (lv' := [some (vr (some (11, this))), some (vi v1), some (vi v2), some (vi v3), none, some (vi v5), some (vi s0)]) (st' := [vi v5]) (M1 := M) (pc' := 267) (tb_Model hγ) [.iload 5] (by decide +kernel) rfl rfl trivial ?_
          refine E_if_lt (off := 7) (tgt := 274) (by decide +kernel) (by decide) (fun b64 => ?_) (fun b64 => ?_)
          · rw [if_pos b64] at h
            refine E_blk (lv' := [some (vr (some (11, this))), some (vi v1), some (vi v2), some (vi v3), none, some (vi v5), some (vi s0)]) (st' := [vi (0 : Int32)]) (M1 := M) (pc' := 275) (tb_Model hγ) [.iconst 0] (by decide +kernel) rfl rfl trivial ?_
            refine E_mask [true, true, true, false, false, false, false] rfl ?_
            exact lk_Model_goStep_j275 hγ this Q v1 v2 (0 : Int32) M h
          · rw [if_neg b64] at h
            refine E_blk (lv' := [some (vr (some (11, this))), some (vi v1), some (vi v2), some (vi v3), none, some (vi v5), some (vi s0)]) (st' := [vi (1 : Int32)]) (M1 := M) (pc' := 271) (tb_Model hγ) [.iconst 1] (by decide +kernel) rfl rfl trivial ?_
            refine E_goto (off := 4) (tgt := 275) (by decide +kernel) (by decide) ?_
            refine E_mask [true, true, true, false, false, false, false] rfl ?_
            exact lk_Model_goStep_j275 hγ this Q v1 v2 (1 : Int32) M h
        · rw [if_neg b39] at h
          by_cases b40 : v3 = (28 : Int32)
          · rw [if_pos b40] at h
            refine E.up (fun _ _ hJ => J_tswI (len := 78) (dflt := 253) (lo := 24) (hi := 39) (offs := #[78, 93, 108, 123, 138, 153, 168, 185, 202, 219, 236, 253, 78, 93, 168, 185]) (off := 138) (tgt := 280) (by decide +kernel) (by rw [b40]; decide) (by rw [b40]; decide) (by rw [b40]; rfl) (by decide) hJ) ?_
            refine E_blk (lv' := [some (vr (some (11, this))), some (vi v1), some (vi v2), some (vi v3), none, some (vi v5), some (vi s0)]) (st' := [vi v5]) (M1 := M) (pc' := 282) (tb_Model hγ) [.iload 5] (by decide +kernel) rfl rfl trivial ?_
            refine E_if_le (off := 7) (tgt := 289) (by decide +kernel) (by decide) (fun b63 => ?_) (fun b63 => ?_)
            · rw [if_pos b63] at h
              refine E_blk (lv' := [some (vr (some (11, this))), some (vi v1), some (vi v2), some (vi v3), none, some (vi v5), some (vi s0)]) (st' := [vi (0 : Int32)]) (M1 := M) (pc' := 290) (tb_Model hγ) [.iconst 0] (by decide +kernel) rfl rfl trivial ?_
              refine E_mask [true, true, true, false, false, false, false] rfl ?_
              exact lk_Model_goStep_j290 hγ this Q v1 v2 (0 : Int32) M h
            · rw [if_neg b63] at h
              refine E_blk (lv' := [some (vr (some (11, this))), some (vi v1), some (vi v2), some (vi v3), none, some (vi v5), some (vi s0)]) (st' := [vi (1 : Int32)]) (M1 := M) (pc' := 286) (tb_Model hγ) [.iconst 1] (by decide +kernel) rfl rfl trivial ?_
              refine E_goto (off := 4) (tgt := 290) (by decide +kernel) (by decide) ?_
              refine E_mask [true, true, true, false, false, false, false] rfl ?_
              exact lk_Model_goStep_j290 hγ this Q v1 v2 (1 : Int32) M h
          · rw [if_neg b40] at h
            by_cases b41 : v3 = (29 : Int32)
            · rw [if_pos b41] at h
              refine E.up (fun _ _ hJ => J_tswI (len := 78) (dflt := 253) (lo := 24) (hi := 39) (offs := #[78, 93, 108, 123, 138, 153, 168, 185, 202, 219, 236, 253, 78, 93, 168, 185]) (off := 153) (tgt := 295) (by decide +kernel) (by rw [b41]; decide) (by rw [b41]; decide) (by rw [b41]; rfl) (by decide) hJ) ?_
              refine E_blk (lv' := [some (vr (some (11, this))), some (vi v1), some (vi v2), some (vi v3), none, some (vi v5), some (vi s0)]) (st' := [vi v5]) (M1 := M) (pc' := 297) (tb_Model hγ) [.iload 5] (by decide +kernel) rfl rfl trivial ?_
              refine E_if_gt (off := 7) (tgt := 304) (by decide +kernel) (by decide) (fun b62 => ?_) (fun b62 => ?_)
              · rw [if_pos b62] at h
                refine E_blk (lv' := [some (vr (some (11, this))), some (vi v1), some (vi v2), some (vi v3), none, some (vi v5), some (vi s0)]) (st' := [vi (0 : Int32)]) (M1 := M) (pc' := 305) (tb_Model hγ) [.iconst 0] (by decide +kernel) rfl rfl trivial ?_
                refine E_mask [true, true, true, false, false, false, false] rfl ?_
                exact lk_Model_goStep_j305 hγ this Q v1 v2 (0 : Int32) M h
              · rw [if_neg b62] at h
                refine E_blk (lv' := [some (vr (some (11, this))), some (vi v1), some (vi v2), some (vi v3), none, some (vi v5), some (vi s0)]) (st' := [vi (1 : Int32)]) (M1 := M) (pc' := 301) (tb_Model hγ) [.iconst 1] (by decide +kernel) rfl rfl trivial ?_
                refine E_goto (off := 4) (tgt := 305) (by decide +kernel) (by decide) ?_
                refine E_mask [true, true, true, false, false, false, false] rfl ?_
                exact lk_Model_goStep_j305 hγ this Q v1 v2 (1 : Int32) M h
            · rw [if_neg b41] at h
              by_cases b42 : v3 = (30 : Int32)
              · rw [if_pos b42] at h
                refine E.up (fun _ _ hJ => J_tswI (len := 78) (dflt := 253) (lo := 24) (hi := 39) (offs := #[78, 93, 108, 123, 138, 153, 168, 185, 202, 219, 236, 253, 78, 93, 168, 185]) (off := 168) (tgt := 310) (by decide +kernel) (by rw [b42]; decide) (by rw [b42]; decide) (by rw [b42]; rfl) (by decide) hJ) ?_
                refine E_blk (lv' := [some (vr (some (11, this))), some (vi v1), some (vi v2), some (vi v3), none, some (vi v5), some (vi s0)]) (st' := [vi v5, vi s0]) (M1 := M) (pc' := 314) (tb_Model hγ) [.iload 6, .iload 5] (by decide +kernel) rfl rfl trivial ?_
                refine E_icmp_ne (off := 7) (tgt := 321) (by decide +kernel) (by decide) (fun b61 => ?_) (fun b61 => ?_)
                · rw [if_pos b61] at h
                  refine E_blk (lv' := [some (vr (some (11, this))), some (vi v1), some (vi v2), some (vi v3), none, some (vi v5), some (vi s0)]) (st' := [vi (1 : Int32)]) (M1 := M) (pc' := 318) (tb_Model hγ) [.iconst 1] (by decide +kernel) rfl rfl trivial ?_
                  refine E_goto (off := 4) (tgt := 322) (by decide +kernel) (by decide) ?_
                  refine E_mask [true, true, true, false, false, false, false] rfl ?_
                  exact lk_Model_goStep_j322 hγ this Q v1 v2 (1 : Int32) M h
                · rw [if_neg b61] at h
                  refine E_blk (lv' := [some (vr (some (11, this))), some (vi v1), some (vi v2), some (vi v3), none, some (vi v5), some (vi s0)]) (st' := [vi (0 : Int32)]) (M1 := M) (pc' := 322) (tb_Model hγ) [.iconst 0] (by decide +kernel) rfl rfl trivial ?_
                  refine E_mask [true, true, true, false, false, false, false] rfl ?_
                  exact lk_Model_goStep_j322 hγ this Q v1 v2 (0 : Int32) M h
              · rw [if_neg b42] at h
                by_cases b43 : v3 = (31 : Int32)
                · rw [if_pos b43] at h
                  refine E.up (fun _ _ hJ => J_tswI (len := 78) (dflt := 253) (lo := 24) (hi := 39) (offs := #[78, 93, 108, 123, 138, 153, 168, 185, 202, 219, 236, 253, 78, 93, 168, 185]) (off := 185) (tgt := 327) (by decide +kernel) (by rw [b43]; decide) (by rw [b43]; decide) (by rw [b43]; rfl) (by decide) hJ) ?_
                  refine E_blk (lv' := [some (vr (some (11, this))), some (vi v1), some (vi v2), some (vi v3), none, some (vi v5), some (vi s0)]) (st' := [vi v5, vi s0]) (M1 := M) (pc' := 331) (tb_Model hγ) [.iload 6, .iload 5] (by decide +kernel) rfl rfl trivial ?_
                  refine E_icmp_eq (off := 7) (tgt := 338) (by decide +kernel) (by decide) (fun b60 => ?_) (fun b60 => ?_)
                  · rw [if_pos b60] at h
                    refine E_blk (lv' := [some (vr (some (11, this))), some (vi v1), some (vi v2), some (vi v3), none, some (vi v5), some (vi s0)]) (st' := [vi (0 : Int32)]) (M1 := M) (pc' := 339) (tb_Model hγ) [.iconst 0] (by decide +kernel) rfl rfl trivial ?_
                    refine E_mask [true, true, true, false, false, false, false] rfl ?_
                    exact lk_Model_goStep_j339 hγ this Q v1 v2 (0 : Int32) M h
                  · rw [if_neg b60] at h
                    refine E_blk (lv' := [some (vr (some (11, this))), some (vi v1), some (vi v2), some (vi v3), none, some (vi v5), some (vi s0)]) (st' := [vi (1 : Int32)]) (M1 := M) (pc' := 335) (tb_Model hγ) [.iconst 1] (by decide +kernel) rfl rfl trivial ?_
                    refine E_goto (off := 4) (tgt := 339) (by decide +kernel) (by decide) ?_
                    refine E_mask [true, true, true, false, false, false, false] rfl ?_
                    exact lk_Model_goStep_j339 hγ this Q v1 v2 (1 : Int32) M h
                · rw [if_neg b43] at h
                  by_cases b44 : v3 = (32 : Int32)
                  · rw [if_pos b44] at h
                    refine E.up (fun _ _ hJ => J_tswI (len := 78) (dflt := 253) (lo := 24) (hi := 39) (offs := #[78, 93, 108, 123, 138, 153, 168, 185, 202, 219, 236, 253, 78, 93, 168, 185]) (off := 202) (tgt := 344) (by decide +kernel) (by rw [b44]; decide) (by rw [b44]; decide) (by rw [b44]; rfl) (by decide) hJ) ?_
                    refine E_blk (lv' := [some (vr (some (11, this))), some (vi v1), some (vi v2), some (vi v3), none, some (vi v5), some (vi s0)]) (st' := [vi v5, vi s0]) (M1 := M) (pc' := 348) (tb_Model hγ) [.iload 6, .iload 5] (by decide +kernel) rfl rfl trivial ?_
                    refine E_icmp_ge (off := 7) (tgt := 355) (by decide +kernel) (by decide) (fun b59 => ?_) (fun b59 => ?_)
                    · rw [if_pos b59] at h
                      refine E_blk (lv' := [some (vr (some (11, this))), some (vi v1), some (vi v2), some (vi v3), none, some (vi v5), some (vi s0)]) (st' := [vi (0 : Int32)]) (M1 := M) (pc' := 356) (tb_Model hγ) [.iconst 0] (by decide +kernel) rfl rfl trivial ?_
                      refine E_mask [true, true, true, false, false, false, false] rfl ?_
                      exact lk_Model_goStep_j356 hγ this Q v1 v2 (0 : Int32) M h
                    · rw [if_neg b59] at h
                      refine E_blk (lv' := [some (vr (some (11, this))), some (vi v1), some (vi v2), some (vi v3), none, some (vi v5), some (vi s0)]) (st' := [vi (1 : Int32)]) (M1 := M) (pc' := 352) (tb_Model hγ) [.iconst 1] (by decide +kernel) rfl rfl trivial ?_
                      refine E_goto (off := 4) (tgt := 356) (by decide +kernel) (by decide) ?_
                      refine E_mask [true, true, true, false, false, false, false] rfl ?_
                      exact lk_Model_goStep_j356 hγ this Q v1 v2 (1 : Int32) M h
                  · rw [if_neg b44] at h
                    by_cases b45 : v3 = (33 : Int32)
                    · rw [if_pos b45] at h
                      refine E.up (fun _ _ hJ => J_tswI (len := 78) (dflt := 253) (lo := 24) (hi := 39) (offs := #[78, 93, 108, 123, 138, 153, 168, 185, 202, 219, 236, 253, 78, 93, 168, 185]) (off := 219) (tgt := 361) (by decide +kernel) (by rw [b45]; decide) (by rw [b45]; decide) (by rw [b45]; rfl) (by decide) hJ) ?_
                      refine E_blk (lv' := [some (vr (some (11, this))), some (vi v1), some (vi v2), some (vi v3), none, some (vi v5), some (vi s0)]) (st' := [vi v5, vi s0]) (M1 := M) (pc' := 365) (tb_Model hγ) [.iload 6, .iload 5] (by decide +kernel) rfl rfl trivial ?_
                      refine E_icmp_lt (off := 7) (tgt := 372) (by decide +kernel) (by decide) (fun b58 => ?_) (fun b58 => ?_)
                      · rw [if_pos b58] at h
                        refine E_blk (lv' := [some (vr (some (11, this))), some (vi v1), some (vi v2), some (vi v3), none, some (vi v5), some (vi s0)]) (st' := [vi (0 : Int32)]) (M1 := M) (pc' := 373) (tb_Model hγ) [.iconst 0] (by decide +kernel) rfl rfl trivial ?_
                        refine E_mask [true, true, true, false, false, false, false] rfl ?_
                        exact lk_Model_goStep_j373 hγ this Q v1 v2 (0 : Int32) M h
                      · rw [if_neg b58] at h
                        refine E_blk (lv' := [some (vr (some (11, this))), some (vi v1), some (vi v2), some (vi v3), none, some (vi v5), some (vi s0)]) (st' := [vi (1 : Int32)]) (M1 := M) (pc' := 369) (tb_Model hγ) [.iconst 1] (by decide +kernel) rfl rfl trivial ?_
                        refine E_goto (off := 4) (tgt := 373) (by decide +kernel) (by decide) ?_
                        refine E_mask [true, true, true, false, false, false, false] rfl ?_
                        exact lk_Model_goStep_j373 hγ this Q v1 v2 (1 : Int32) M h
                    · rw [if_neg b45] at h
                      by_cases b46 : v3 = (34 : Int32)
                      · rw [if_pos b46] at h
                        refine E.up (fun _ _ hJ => J_tswI (len := 78) (dflt := 253) (lo := 24) (hi := 39) (offs := #[78, 93, 108, 123, 138, 153, 168, 185, 202, 219, 236, 253, 78, 93, 168, 185]) (off := 236) (tgt := 378) (by decide +kernel) (by rw [b46]; decide) (by rw [b46]; decide) (by rw [b46]; rfl) (by decide) hJ) ?_
                        refine E_blk (lv' := [some (vr (some (11, this))), some (vi v1), some (vi v2), some (vi v3), none, some (vi v5), some (vi s0)]) (st' := [vi v5, vi s0]) (M1 := M) (pc' := 382) (tb_Model hγ) [.iload 6, .iload 5] (by decide +kernel) rfl rfl trivial ?_
                        refine E_icmp_le (off := 7) (tgt := 389) (by decide +kernel) (by decide) (fun b57 => ?_) (fun b57 => ?_)
                        · rw [if_pos b57] at h
                          refine E_blk (lv' := [some (vr (some (11, this))), some (vi v1), some (vi v2), some (vi v3), none, some (vi v5), some (vi s0)]) (st' := [vi (0 : Int32)]) (M1 := M) (pc' := 390) (tb_Model hγ) [.iconst 0] (by decide +kernel) rfl rfl trivial ?_
                          refine E_mask [true, true, true, false, false, false, false] rfl ?_
                          exact lk_Model_goStep_j390 hγ this Q v1 v2 (0 : Int32) M h
                        · rw [if_neg b57] at h
                          refine E_blk (lv' := [some (vr (some (11, this))), some (vi v1), some (vi v2), some (vi v3), none, some (vi v5), some (vi s0)]) (st' := [vi (1 : Int32)]) (M1 := M) (pc' := 386) (tb_Model hγ) [.iconst 1] (by decide +kernel) rfl rfl trivial ?_
                          refine E_goto (off := 4) (tgt := 390) (by decide +kernel) (by decide) ?_
                          refine E_mask [true, true, true, false, false, false, false] rfl ?_
                          exact lk_Model_goStep_j390 hγ this Q v1 v2 (1 : Int32) M h
                      · rw [if_neg b46] at h
                        by_cases b47 : v3 = (35 : Int32)
                        · rw [if_pos b47] at h
                          refine E.up (fun _ _ hJ => J_tswI (len := 78) (dflt := 253) (lo := 24) (hi := 39) (offs := #[78, 93, 108, 123, 138, 153, 168, 185, 202, 219, 236, 253, 78, 93, 168, 185]) (off := 253) (tgt := 395) (by decide +kernel) (by rw [b47]; decide) (by rw [b47]; decide) (by rw [b47]; rfl) (by decide) hJ) ?_
                          refine E_blk (lv' := [some (vr (some (11, this))), some (vi v1), some (vi v2), some (vi v3), none, some (vi v5), some (vi s0)]) (st' := [vi v5, vi s0]) (M1 := M) (pc' := 399) (tb_Model hγ) [.iload 6, .iload 5] (by decide +kernel) rfl rfl trivial ?_
                          refine E_icmp_gt (off := 7) (tgt := 406) (by decide +kernel) (by decide) (fun b56 => ?_) (fun b56 => ?_)
                          · rw [if_pos b56] at h
                            refine E_blk (lv' := [some (vr (some (11, this))), some (vi v1), some (vi v2), some (vi v3), none, some (vi v5), some (vi s0)]) (st' := [vi (0 : Int32)]) (M1 := M) (pc' := 407) (tb_Model hγ) [.iconst 0] (by decide +kernel) rfl rfl trivial ?_
                            refine E_mask [true, true, true, false, false, false, false] rfl ?_
                            exact lk_Model_goStep_j407 hγ this Q v1 v2 (0 : Int32) M h
                          · rw [if_neg b56] at h
                            refine E_blk (lv' := [some (vr (some (11, this))), some (vi v1), some (vi v2), some (vi v3), none, some (vi v5), some (vi s0)]) (st' := [vi (1 : Int32)]) (M1 := M) (pc' := 403) (tb_Model hγ) [.iconst 1] (by decide +kernel) rfl rfl trivial ?_
                            refine E_goto (off := 4) (tgt := 407) (by decide +kernel) (by decide) ?_
                            refine E_mask [true, true, true, false, false, false, false] rfl ?_
                            exact lk_Model_goStep_j407 hγ this Q v1 v2 (1 : Int32) M h
                        · rw [if_neg b47] at h
                          by_cases b48 : v3 = (36 : Int32)
                          · rw [if_pos b48] at h
                            refine E.up (fun _ _ hJ => J_tswI (len := 78) (dflt := 253) (lo := 24) (hi := 39) (offs := #[78, 93, 108, 123, 138, 153, 168, 185, 202, 219, 236, 253, 78, 93, 168, 185]) (off := 78) (tgt := 220) (by decide +kernel) (by rw [b48]; decide) (by rw [b48]; decide) (by rw [b48]; rfl) (by decide) hJ) ?_
                            refine E_blk (lv' := [some (vr (some (11, this))), some (vi v1), some (vi v2), some (vi v3), none, some (vi v5), some (vi s0)]) (st' := [vi v5]) (M1 := M) (pc' := 222) (tb_Model hγ) [.iload 5] (by decide +kernel) rfl rfl trivial ?_
                            refine E_if_ne (off := 7) (tgt := 229) (by decide +kernel) (by decide) (fun b55 => ?_) (fun b55 => ?_)
                            · rw [if_pos b55] at h
                              refine E_blk (lv' := [some (vr (some (11, this))), some (vi v1), some (vi v2), some (vi v3), none, some (vi v5), some (vi s0)]) (st' := [vi (1 : Int32)]) (M1 := M) (pc' := 226) (tb_Model hγ) [.iconst 1] (by decide +kernel) rfl rfl trivial ?_
                              refine E_goto (off := 4) (tgt := 230) (by decide +kernel) (by decide) ?_
                              refine E_mask [true, true, true, false, false, false, false] rfl ?_
                              exact lk_Model_goStep_j230 hγ this Q v1 v2 (1 : Int32) M h
                            · rw [if_neg b55] at h
                              refine E_blk (lv' := [some (vr (some (11, this))), some (vi v1), some (vi v2), some (vi v3), none, some (vi v5), some (vi s0)]) (st' := [vi (0 : Int32)]) (M1 := M) (pc' := 230) (tb_Model hγ) [.iconst 0] (by decide +kernel) rfl rfl trivial ?_
                              refine E_mask [true, true, true, false, false, false, false] rfl ?_
                              exact lk_Model_goStep_j230 hγ this Q v1 v2 (0 : Int32) M h
                          · rw [if_neg b48] at h
                            by_cases b49 : v3 = (37 : Int32)
                            · rw [if_pos b49] at h
                              refine E.up (fun _ _ hJ => J_tswI (len := 78) (dflt := 253) (lo := 24) (hi := 39) (offs := #[78, 93, 108, 123, 138, 153, 168, 185, 202, 219, 236, 253, 78, 93, 168, 185]) (off := 93) (tgt := 235) (by decide +kernel) (by rw [b49]; decide) (by rw [b49]; decide) (by rw [b49]; rfl) (by decide) hJ) ?_
                              refine E_blk (lv' := [some (vr (some (11, this))), some (vi v1), some (vi v2), some (vi v3), none, some (vi v5), some (vi s0)]) (st' := [vi v5]) (M1 := M) (pc' := 237) (tb_Model hγ) [.iload 5] (by decide +kernel) rfl rfl trivial ?_
                              refine E_if_eq (off := 7) (tgt := 244) (by decide +kernel) (by decide) (fun b54 => ?_) (fun b54 => ?_)
                              · rw [if_pos b54] at h
                                refine E_blk (lv' := [some (vr (some (11, this))), some (vi v1), some (vi v2), some (vi v3), none, some (vi v5), some (vi s0)]) (st' := [vi (0 : Int32)]) (M1 := M) (pc' := 245) (tb_Model hγ) [.iconst 0] (by decide +kernel) rfl rfl trivial ?_
                                refine E_mask [true, true, true, false, false, false, false] rfl ?_
                                exact lk_Model_goStep_j245 hγ this Q v1 v2 (0 : Int32) M h
                              · rw [if_neg b54] at h
                                refine E_blk (lv' := [some (vr (some (11, this))), some (vi v1), some (vi v2), some (vi v3), none, some (vi v5), some (vi s0)]) (st' := [vi (1 : Int32)]) (M1 := M) (pc' := 241) (tb_Model hγ) [.iconst 1] (by decide +kernel) rfl rfl trivial ?_
                                refine E_goto (off := 4) (tgt := 245) (by decide +kernel) (by decide) ?_
                                refine E_mask [true, true, true, false, false, false, false] rfl ?_
                                exact lk_Model_goStep_j245 hγ this Q v1 v2 (1 : Int32) M h
                            · rw [if_neg b49] at h
                              by_cases b50 : v3 = (38 : Int32)
                              · rw [if_pos b50] at h
                                refine E.up (fun _ _ hJ => J_tswI (len := 78) (dflt := 253) (lo := 24) (hi := 39) (offs := #[78, 93, 108, 123, 138, 153, 168, 185, 202, 219, 236, 253, 78, 93, 168, 185]) (off := 168) (tgt := 310) (by decide +kernel) (by rw [b50]; decide) (by rw [b50]; decide) (by rw [b50]; rfl) (by decide) hJ) ?_
                                refine E_blk (lv' := [some (vr (some (11, this))), some (vi v1), some (vi v2), some (vi v3), none, some (vi v5), some (vi s0)]) (st' := [vi v5, vi s0]) (M1 := M) (pc' := 314) (tb_Model hγ) [.iload 6, .iload 5] (by decide +kernel) rfl rfl trivial ?_
                                refine E_icmp_ne (off := 7) (tgt := 321) (by decide +kernel) (by decide) (fun b53 => ?_) (fun b53 => ?_)
                                · rw [if_pos b53] at h
                                  refine E_blk (lv' := [some (vr (some (11, this))), some (vi v1), some (vi v2), some (vi v3), none, some (vi v5), some (vi s0)]) (st' := [vi (1 : Int32)]) (M1 := M) (pc' := 318) (tb_Model hγ) [.iconst 1] (by decide +kernel) rfl rfl trivial ?_
                                  refine E_goto (off := 4) (tgt := 322) (by decide +kernel) (by decide) ?_
                                  refine E_mask [true, true, true, false, false, false, false] rfl ?_
                                  exact lk_Model_goStep_j322 hγ this Q v1 v2 (1 : Int32) M h
                                · rw [if_neg b53] at h
                                  refine E_blk (lv' := [some (vr (some (11, this))), some (vi v1), some (vi v2), some (vi v3), none, some (vi v5), some (vi s0)]) (st' := [vi (0 : Int32)]) (M1 := M) (pc' := 322) (tb_Model hγ) [.iconst 0] (by decide +kernel) rfl rfl trivial ?_
                                  refine E_mask [true, true, true, false, false, false, false] rfl ?_
                                  exact lk_Model_goStep_j322 hγ this Q v1 v2 (0 : Int32) M h
                              · rw [if_neg b50] at h
                                by_cases b51 : v3 = (39 : Int32)
                                · rw [if_pos b51] at h
                                  refine E.up (fun _ _ hJ => J_tswI (len := 78) (dflt := 253) (lo := 24) (hi := 39) (offs := #[78, 93, 108, 123, 138, 153, 168, 185, 202, 219, 236, 253, 78, 93, 168, 185]) (off := 185) (tgt := 327) (by decide +kernel) (by rw [b51]; decide) (by rw [b51]; decide) (by rw [b51]; rfl) (by decide) hJ) ?_
                                  refine E_blk (lv' := [some (vr (some (11, this))), some (vi v1), some (vi v2), some (vi v3), none, some (vi v5), some (vi s0)]) (st' := [vi v5, vi s0]) (M1 := M) (pc' := 331) (tb_Model hγ) [.iload 6, .iload 5] (by decide +kernel) rfl rfl trivial ?_
                                  refine E_icmp_eq (off := 7) (tgt := 338) (by decide +kernel) (by decide) (fun b52 => ?_) (fun b52 => ?_)
                                  · rw [if_pos b52] at h
                                    refine E_blk (lv' := [some (vr (some (11, this))), some (vi v1), some (vi v2), some (vi v3), none, some (vi v5), some (vi s0)]) (st' := [vi (0 : Int32)]) (M1 := M) (pc' := 339) (tb_Model hγ) [.iconst 0] (by decide +kernel) rfl rfl trivial ?_
                                    refine E_mask [true, true, true, false, false, false, false] rfl ?_
                                    exact lk_Model_goStep_j339 hγ this Q v1 v2 (0 : Int32) M h
                                  · rw [if_neg b52] at h
                                    refine E_blk (lv' := [some (vr (some (11, this))), some (vi v1), some (vi v2), some (vi v3), none, some (vi v5), some (vi s0)]) (st' := [vi (1 : Int32)]) (M1 := M) (pc' := 335) (tb_Model hγ) [.iconst 1] (by decide +kernel) rfl rfl trivial ?_
                                    refine E_goto (off := 4) (tgt := 339) (by decide +kernel) (by decide) ?_
                                    refine E_mask [true, true, true, false, false, false, false] rfl ?_
                                    exact lk_Model_goStep_j339 hγ this Q v1 v2 (1 : Int32) M h
                                · rw [if_neg b51] at h
                                  refine E.up (fun _ _ hJ => J_tswO (len := 78) (dflt := 253) (lo := 24) (hi := 39) (offs := #[78, 93, 108, 123, 138, 153, 168, 185, 202, 219, 236, 253, 78, 93, 168, 185]) (tgt := 395) (by decide +kernel) ?_ (by decide) hJ) ?_
                                  · have q := sw0 (x := v3) 24
                                    replace q : (v3).toInt < 24 ∨ 25 ≤ (v3).toInt := sw1 q b36 rfl rfl
                                    replace q : (v3).toInt < 24 ∨ 26 ≤ (v3).toInt := sw1 q b37 rfl rfl
                                    replace q : (v3).toInt < 24 ∨ 27 ≤ (v3).toInt := sw1 q b38 rfl rfl
                                    replace q : (v3).toInt < 24 ∨ 28 ≤ (v3).toInt := sw1 q b39 rfl rfl
                                    replace q : (v3).toInt < 24 ∨ 29 ≤ (v3).toInt := sw1 q b40 rfl rfl
                                    replace q : (v3).toInt < 24 ∨ 30 ≤ (v3).toInt := sw1 q b41 rfl rfl
                                    replace q : (v3).toInt < 24 ∨ 31 ≤ (v3).toInt := sw1 q b42 rfl rfl
                                    replace q : (v3).toInt < 24 ∨ 32 ≤ (v3).toInt := sw1 q b43 rfl rfl
                                    replace q : (v3).toInt < 24 ∨ 33 ≤ (v3).toInt := sw1 q b44 rfl rfl
                                    replace q : (v3).toInt < 24 ∨ 34 ≤ (v3).toInt := sw1 q b45 rfl rfl
                                    replace q : (v3).toInt < 24 ∨ 35 ≤ (v3).toInt := sw1 q b46 rfl rfl
                                    replace q : (v3).toInt < 24 ∨ 36 ≤ (v3).toInt := sw1 q b47 rfl rfl
                                    replace q : (v3).toInt < 24 ∨ 37 ≤ (v3).toInt := sw1 q b48 rfl rfl
                                    replace q : (v3).toInt < 24 ∨ 38 ≤ (v3).toInt := sw1 q b49 rfl rfl
                                    replace q : (v3).toInt < 24 ∨ 39 ≤ (v3).toInt := sw1 q b50 rfl rfl
                                    replace q : (v3).toInt < 24 ∨ 40 ≤ (v3).toInt := sw1 q b51 rfl rfl
                                    omega
                                  · refine E_blk (lv' := [some (vr (some (11, this))), some (vi v1), some (vi v2), some (vi v3), none, some (vi v5), some (vi s0)]) (st' := [vi v5, vi s0]) (M1 := M) (pc' := 399) (tb_Model hγ) [.iload 6, .iload 5] (by decide +kernel) rfl rfl trivial ?_
                                    refine E_icmp_gt (off := 7) (tgt := 406) (by decide +kernel) (by decide) (fun b35 => ?_) (fun b35 => ?_)
                                    · rw [if_pos b35] at h
                                      refine E_blk (lv' := [some (vr (some (11, this))), some (vi v1), some (vi v2), some (vi v3), none, some (vi v5), some (vi s0)]) (st' := [vi (0 : Int32)]) (M1 := M) (pc' := 407) (tb_Model hγ) [.iconst 0] (by decide +kernel) rfl rfl trivial ?_
                                      refine E_mask [true, true, true, false, false, false, false] rfl ?_
                                      exact lk_Model_goStep_j407 hγ this Q v1 v2 (0 : Int32) M h
                                    · rw [if_neg b35] at h
                                      refine E_blk (lv' := [some (vr (some (11, this))), some (vi v1), some (vi v2), some (vi v3), none, some (vi v5), some (vi s0)]) (st' := [vi (1 : Int32)]) (M1 := M) (pc' := 403) (tb_Model hγ) [.iconst 1] (by decide +kernel) rfl rfl trivial ?_
                                      refine E_goto (off := 4) (tgt := 407) (by decide +kernel) (by decide) ?_
                                      refine E_mask [true, true, true, false, false, false, false] rfl ?_
                                      exact lk_Model_goStep_j407 hγ this Q v1 v2 (1 : Int32) M h
set_option maxRecDepth 4096 in
theorem lk_Model_goStep_j130 {γ : Gm} (hγ : Gk γ) (this : Nat) (Q : Mem → Prop) (v1 : Int32) (v2 : Int32) (v3 : Int32) (v5 : Int32) (M : Mem) (h : w_Model_goStep_j130 this Q v1 v2 v3 v5 M) : E γ k_Model_goStep 1 130 [some (vr (some (11, this))), some (vi v1), some (vi v2), some (vi v3), none, some (vi v5), none] [] M (Qv Q) := by
  unfold w_Model_goStep_j130 at h
  refine E_blk (lv' := [some (vr (some (11, this))), some (vi v1), some (vi v2), some (vi v3), none, some (vi v5), none]) (st' := [vi v1, vr (some (11, this))]) (M1 := M) (pc' := 132) (tb_Model hγ) [.aload_n 0, .iload_n 1] (by decide +kernel) rfl rfl trivial ?_
  refine E_callV (κ' := k_Model_pop) (As := [vi v1]) (st := []) mv_Model_pop (Or.inl (tbk_mem (j := 16) (k := 175) rfl)) rfl (by decide +kernel) (Nat.le_of_ble_eq_true rfl) (Nat.le_of_ble_eq_true rfl) rfl (by decide) (lk_Model_pop hγ this v1 _ M h) (fun _ _ => Qi_r) (fun v M33 hp => Qi_k (R := fun st => E γ k_Model_goStep 1 135 [some (vr (some (11, this))), some (vi v1), some (vi v2), some (vi v3), none, some (vi v5), none] st M33 (Qv Q)) hp (fun r34 h => ?_))
  refine E_goto (off := 4) (tgt := 139) (by decide +kernel) (by decide) ?_
  refine E_mask [true, true, true, true, false, true, false] rfl ?_
  exact lk_Model_goStep_j139 hγ this Q v1 v2 v3 v5 r34 M33 h
set_option maxRecDepth 4096 in
theorem lk_Model_goStep_j118 {γ : Gm} (hγ : Gk γ) (this : Nat) (Q : Mem → Prop) (v1 : Int32) (v2 : Int32) (v3 : Int32) (v5 : Int32) (M : Mem) (h : w_Model_goStep_j118 this Q v1 v2 v3 v5 M) : E γ k_Model_goStep 1 118 [some (vr (some (11, this))), some (vi v1), some (vi v2), some (vi v3), none, some (vi v5), none] [] M (Qv Q) := by
  unfold w_Model_goStep_j118 at h
  refine E_blk (lv' := [some (vr (some (11, this))), some (vi v1), some (vi v2), some (vi v3), none, some (vi v5), none]) (st' := [vi (38 : Int32), vi v3]) (M1 := M) (pc' := 121) (tb_Model hγ) [.iload_n 3, .bipush 38] (by decide +kernel) rfl rfl trivial ?_
  refine E_icmp_eq (off := 9) (tgt := 130) (by decide +kernel) (by decide) (fun b32 => ?_) (fun b32 => ?_)
  · rw [if_pos b32] at h
    refine E_mask [true, true, true, true, false, true, false] rfl ?_
    exact lk_Model_goStep_j130 hγ this Q v1 v2 v3 v5 M h
  · rw [if_neg b32] at h
    refine E_blk (lv' := [some (vr (some (11, this))), some (vi v1), some (vi v2), some (vi v3), none, some (vi v5), none]) (st' := [vi (39 : Int32), vi v3]) (M1 := M) (pc' := 127) (tb_Model hγ) [.iload_n 3, .bipush 39] (by decide +kernel) rfl rfl trivial ?_
    refine E_icmp_ne (off := 11) (tgt := 138) (by decide +kernel) (by decide) (fun b68 => ?_) (fun b68 => ?_)
    · rw [if_pos b68] at h
      refine E_mask [true, true, true, true, false, true, false] rfl ?_
      exact lk_Model_goStep_j130 hγ this Q v1 v2 v3 v5 M h
    · rw [if_neg b68] at h
      refine E_blk (lv' := [some (vr (some (11, this))), some (vi v1), some (vi v2), some (vi v3), none, some (vi v5), none]) (st' := [vi (0 : Int32)]) (M1 := M) (pc' := 139) (tb_Model hγ) [.iconst 0] (by decide +kernel) rfl rfl trivial ?_
      refine E_mask [true, true, true, true, false, true, false] rfl ?_
      exact lk_Model_goStep_j139 hγ this Q v1 v2 v3 v5 (0 : Int32) M h
set_option maxRecDepth 4096 in
theorem lk_Model_goStep {γ : Gm} (hγ : Gk γ) (this : Nat) (a1 : Int32) (a2 : Int32) (a3 : Int32) (Q : Mem → Prop) (M : Mem) (h : w_Model_goStep this a1 a2 a3 Q M) : E γ k_Model_goStep 1 0 [some (vr (some (11, this))), some (vi a1), some (vi a2), some (vi a3), none, none, none] [] M (Qv Q) := by
  unfold w_Model_goStep at h
  refine E_blk (lv' := [some (vr (some (11, this))), some (vi a1), some (vi a2), some (vi a3), none, none, none]) (st' := [vi (40 : Int32), vi a3]) (M1 := M) (pc' := 3) (tb_Model hγ) [.iload_n 3, .bipush 40] (by decide +kernel) rfl rfl trivial ?_
  refine E_icmp_ne (off := 87) (tgt := 90) (by decide +kernel) (by decide) (fun b1 => ?_) (fun b1 => ?_)
  · rw [if_pos b1] at h
    refine E_blk (lv' := [some (vr (some (11, this))), some (vi a1), some (vi a2), some (vi a3), none, none, none]) (st' := [vi a1, vr (some (11, this))]) (M1 := M) (pc' := 8) (tb_Model hγ) [.aload_n 0, .iload_n 1] (by decide +kernel) rfl rfl trivial ?_
    refine E_callV (κ' := k_Model_pop) (As := [vi a1]) (st := []) mv_Model_pop (Or.inl (tbk_mem (j := 16) (k := 175) rfl)) rfl (by decide +kernel) (Nat.le_of_ble_eq_true rfl) (Nat.le_of_ble_eq_true rfl) rfl (by decide) (lk_Model_pop hγ this a1 _ M h) (fun _ _ => Qi_r) (fun v M2 hp => Qi_k (R := fun st => E γ k_Model_goStep 1 11 [some (vr (some (11, this))), some (vi a1), some (vi a2), some (vi a3), none, none, none] st M2 (Qv Q)) hp (fun r3 h => ?_))
    refine E_blk (lv' := [some (vr (some (11, this))), some (vi a1), some (vi a2), some (vi a3), none, none, none]) (st' := [vr (mR M2 11 this 45), vl r3.toInt64]) (M1 := M2) (pc' := 16) (tb_Model hγ) [.i2l, .aload_n 0, .getfield 522] (by decide +kernel) rfl rfl trivial ?_
    obtain ⟨i4, ei4, h⟩ := h
    rw [ei4]
    refine E_blk (lv' := [some (vr (some (11, this))), some (vi a1), some (vi a2), some (vi a3), none, none, none]) (st' := [vr (mR M2 12 i4 31), vl r3.toInt64]) (M1 := M2) (pc' := 19) (tb_Model hγ) [.getfield 677] (by decide +kernel) rfl rfl trivial ?_
    obtain ⟨i5, ei5, h⟩ := h
    rw [ei5]
    obtain ⟨c6, h⟩ := h
    refine E_blk (lv' := [some (vr (some (11, this))), some (vi a1), some (vi a2), some (vi a3), some (vl (r3.toInt64 - (mI M2 300 i5 a2.toNatClampNeg).toInt64)), none, none]) (st' := [vr (mR M2 11 this 45)]) (M1 := M2) (pc' := 29) (tb_Model hγ) [.iload_n 2, .iaload, .i2l, .lsub, .lstore 4, .aload_n 0, .getfield 522] (by decide +kernel) rfl rfl ⟨c6, trivial⟩ ?_
    obtain ⟨i7, ei7, h⟩ := h
    rw [ei7]
    refine E_blk (lv' := [some (vr (some (11, this))), some (vi a1), some (vi a2), some (vi a3), some (vl (r3.toInt64 - (mI M2 300 i5 a2.toNatClampNeg).toInt64)), none, none]) (st' := [vr (mR M2 12 i7 33)]) (M1 := M2) (pc' := 32) (tb_Model hγ) [.getfield 683] (by decide +kernel) rfl rfl trivial ?_
    obtain ⟨i8, ei8, h⟩ := h
    rw [ei8]
    obtain ⟨c9, h⟩ := h
    refine E_blk (lv' := [some (vr (some (11, this))), some (vi a1), some (vi a2), some (vi a3), some (vl (r3.toInt64 - (mI M2 300 i5 a2.toNatClampNeg).toInt64)), none, some (vi ((mI M2 300 i8 a2.toNatClampNeg) - (1 : Int32)))]) (st' := [vr (mR M2 11 this 46)]) (M1 := M2) (pc' := 42) (tb_Model hγ) [.iload_n 2, .iaload, .iconst 1, .isub, .istore 6, .aload_n 0, .getfield 917] (by decide +kernel) rfl rfl ⟨c9, trivial⟩ ?_
    obtain ⟨i10, ei10, h⟩ := h
    rw [ei10]
    refine E_blk (lv' := [some (vr (some (11, this))), some (vi a1), some (vi a2), some (vi a3), some (vl (r3.toInt64 - (mI M2 300 i5 a2.toNatClampNeg).toInt64)), none, some (vi ((mI M2 300 i8 a2.toNatClampNeg) - (1 : Int32)))]) (st' := [vr (mR M2 11 this 45), vi a1, vr (some (174, i10))]) (M1 := M2) (pc' := 50) (tb_Model hγ) [.getfield 930, .iload_n 1, .aload_n 0, .getfield 522] (by decide +kernel) rfl rfl trivial ?_
    obtain ⟨i11, ei11, h⟩ := h
    rw [ei11]
    refine E_blk (lv' := [some (vr (some (11, this))), some (vi a1), some (vi a2), some (vi a3), some (vl (r3.toInt64 - (mI M2 300 i5 a2.toNatClampNeg).toInt64)), none, some (vi ((mI M2 300 i8 a2.toNatClampNeg) - (1 : Int32)))]) (st' := [vr (mR M2 12 i11 36), vi a1, vr (some (174, i10))]) (M1 := M2) (pc' := 53) (tb_Model hγ) [.getfield 689] (by decide +kernel) rfl rfl trivial ?_
    obtain ⟨i12, ei12, h⟩ := h
    rw [ei12]
    refine E_blk (lv' := [some (vr (some (11, this))), some (vi a1), some (vi a2), some (vi a3), some (vl (r3.toInt64 - (mI M2 300 i5 a2.toNatClampNeg).toInt64)), none, some (vi ((mI M2 300 i8 a2.toNatClampNeg) - (1 : Int32)))]) (st' := [vr (mR M2 11 this 45), vr (some (300, i12)), vi a1, vr (some (174, i10))]) (M1 := M2) (pc' := 57) (tb_Model hγ) [.aload_n 0, .getfield 522] (by decide +kernel) rfl rfl trivial ?_
    obtain ⟨i13, ei13, h⟩ := h
    rw [ei13]
    refine E_blk (lv' := [some (vr (some (11, this))), some (vi a1), some (vi a2), some (vi a3), some (vl (r3.toInt64 - (mI M2 300 i5 a2.toNatClampNeg).toInt64)), none, some (vi ((mI M2 300 i8 a2.toNatClampNeg) - (1 : Int32)))]) (st' := [vr (mR M2 12 i13 32), vr (some (300, i12)), vi a1, vr (some (174, i10))]) (M1 := M2) (pc' := 60) (tb_Model hγ) [.getfield 680] (by decide +kernel) rfl rfl trivial ?_
    obtain ⟨i14, ei14, h⟩ := h
    rw [ei14]
    obtain ⟨c15, h⟩ := h
    refine E_blk (lv' := [some (vr (some (11, this))), some (vi a1), some (vi a2), some (vi a3), some (vl (r3.toInt64 - (mI M2 300 i5 a2.toNatClampNeg).toInt64)), none, some (vi ((mI M2 300 i8 a2.toNatClampNeg) - (1 : Int32)))]) (st' := [vi (lg_cmp (r3.toInt64 - (mI M2 300 i5 a2.toNatClampNeg).toInt64) (0 : Int64)), vi (mI M2 300 i14 a2.toNatClampNeg), vr (some (300, i12)), vi a1, vr (some (174, i10))]) (M1 := M2) (pc' := 66) (tb_Model hγ) [.iload_n 2, .iaload, .lload 4, .lconst 0, .lcmp] (by decide +kernel) rfl rfl ⟨c15, trivial⟩ ?_
    refine E_if_lt (off := 18) (tgt := 84) (by decide +kernel) (by decide) (fun b16 => ?_) (fun b16 => ?_)
    · rw [if_pos b16] at h
      refine E_mask [false, false, false, false, false, false, true] rfl ?_
      exact lk_Model_goStep_j84 hγ this Q ((mI M2 300 i8 a2.toNatClampNeg) - (1 : Int32)) (mI M2 300 i14 a2.toNatClampNeg) i12 a1 i10 M2 h
    · rw [if_neg b16] at h
      refine E_blk (lv' := [some (vr (some (11, this))), some (vi a1), some (vi a2), some (vi a3), some (vl (r3.toInt64 - (mI M2 300 i5 a2.toNatClampNeg).toInt64)), none, some (vi ((mI M2 300 i8 a2.toNatClampNeg) - (1 : Int32)))]) (st' := [vi (lg_cmp (r3.toInt64 - (mI M2 300 i5 a2.toNatClampNeg).toInt64) (((mI M2 300 i8 a2.toNatClampNeg) - (1 : Int32)).toInt64)), vi (mI M2 300 i14 a2.toNatClampNeg), vr (some (300, i12)), vi a1, vr (some (174, i10))]) (M1 := M2) (pc' := 75) (tb_Model hγ) [.lload 4, .iload 6, .i2l, .lcmp] (by decide +kernel) rfl rfl trivial ?_
      refine E_if_ge (off := 9) (tgt := 84) (by decide +kernel) (by decide) (fun b19 => ?_) (fun b19 => ?_)
      · rw [if_pos b19] at h
        refine E_mask [false, false, false, false, false, false, true] rfl ?_
        exact lk_Model_goStep_j84 hγ this Q ((mI M2 300 i8 a2.toNatClampNeg) - (1 : Int32)) (mI M2 300 i14 a2.toNatClampNeg) i12 a1 i10 M2 h
      · rw [if_neg b19] at h
        refine E_blk (lv' := [some (vr (some (11, this))), some (vi a1), some (vi a2), some (vi a3), some (vl (r3.toInt64 - (mI M2 300 i5 a2.toNatClampNeg).toInt64)), none, some (vi ((mI M2 300 i8 a2.toNatClampNeg) - (1 : Int32)))]) (st' := [vi ((r3.toInt64 - (mI M2 300 i5 a2.toNatClampNeg).toInt64).toInt32), vi (mI M2 300 i14 a2.toNatClampNeg), vr (some (300, i12)), vi a1, vr (some (174, i10))]) (M1 := M2) (pc' := 81) (tb_Model hγ) [.lload 4, .l2i] (by decide +kernel) rfl rfl trivial ?_
        refine E_goto (off := 5) (tgt := 86) (by decide +kernel) (by decide) ?_
        refine E_mask [false, false, false, false, false, false, false] rfl ?_
        exact lk_Model_goStep_j86 hγ this Q ((r3.toInt64 - (mI M2 300 i5 a2.toNatClampNeg).toInt64).toInt32) (mI M2 300 i14 a2.toNatClampNeg) i12 a1 i10 M2 h
  · rw [if_neg b1] at h
    refine E_blk (lv' := [some (vr (some (11, this))), some (vi a1), some (vi a2), some (vi a3), some (vi (1 : Int32)), none, none]) (st' := [vi (23 : Int32), vi a3]) (M1 := M) (pc' := 96) (tb_Model hγ) [.iconst 1, .istore 4, .iload_n 3, .bipush 23] (by decide +kernel) rfl rfl trivial ?_
    refine E_icmp_eq (off := 313) (tgt := 409) (by decide +kernel) (by decide) (fun b20 => ?_) (fun b20 => ?_)
    · rw [if_pos b20] at h
      refine E_mask [true, true, true, false, true, false, false] rfl ?_
      exact lk_Model_goStep_j409 hγ this Q a1 a2 (1 : Int32) M h
    · rw [if_neg b20] at h
      refine E_blk (lv' := [some (vr (some (11, this))), some (vi a1), some (vi a2), some (vi a3), some (vi (1 : Int32)), none, none]) (st' := [vi a1, vr (some (11, this))]) (M1 := M) (pc' := 101) (tb_Model hγ) [.aload_n 0, .iload_n 1] (by decide +kernel) rfl rfl trivial ?_
      refine E_callV (κ' := k_Model_pop) (As := [vi a1]) (st := []) mv_Model_pop (Or.inl (tbk_mem (j := 16) (k := 175) rfl)) rfl (by decide +kernel) (Nat.le_of_ble_eq_true rfl) (Nat.le_of_ble_eq_true rfl) rfl (by decide) (lk_Model_pop hγ this a1 _ M h) (fun _ _ => Qi_r) (fun v M29 hp => Qi_k (R := fun st => E γ k_Model_goStep 1 104 [some (vr (some (11, this))), some (vi a1), some (vi a2), some (vi a3), some (vi (1 : Int32)), none, none] st M29 (Qv Q)) hp (fun r30 h => ?_))
      refine E_blk (lv' := [some (vr (some (11, this))), some (vi a1), some (vi a2), some (vi a3), some (vi (1 : Int32)), some (vi r30), none]) (st' := [vi (30 : Int32), vi a3]) (M1 := M29) (pc' := 109) (tb_Model hγ) [.istore 5, .iload_n 3, .bipush 30] (by decide +kernel) rfl rfl trivial ?_
      refine E_icmp_lt (off := 9) (tgt := 118) (by decide +kernel) (by decide) (fun b31 => ?_) (fun b31 => ?_)
      · rw [if_pos b31] at h
        refine E_mask [true, true, true, true, false, true, false] rfl ?_
        exact lk_Model_goStep_j118 hγ this Q a1 a2 a3 r30 M29 h
      · rw [if_neg b31] at h
        refine E_blk (lv' := [some (vr (some (11, this))), some (vi a1), some (vi a2), some (vi a3), some (vi (1 : Int32)), some (vi r30), none]) (st' := [vi (35 : Int32), vi a3]) (M1 := M29) (pc' := 115) (tb_Model hγ) [.iload_n 3, .bipush 35] (by decide +kernel) rfl rfl trivial ?_
        refine E_icmp_le (off := 15) (tgt := 130) (by decide +kernel) (by decide) (fun b69 => ?_) (fun b69 => ?_)
        · rw [if_pos b69] at h
          refine E_mask [true, true, true, true, false, true, false] rfl ?_
          exact lk_Model_goStep_j130 hγ this Q a1 a2 a3 r30 M29 h
        · rw [if_neg b69] at h
          refine E_mask [true, true, true, true, false, true, false] rfl ?_
          exact lk_Model_goStep_j118 hγ this Q a1 a2 a3 r30 M29 h
def w_Model_reckon_j213 (this : Nat) (Q : Mem → Prop) (v1 : Int32) (v5 : Int32) (M : Mem) : Prop :=
  w_Model_push this v1 v5 (0 : Int32) (fun M14 => ∃ i15, (mR M14 11 this 46) = some (13, i15) ∧ vp_in v1 (mL M14 174 i15) ∧ vp_in v1 (mL M14 174 i15) ∧ ∃ M18, M18 = (sI M14 174 i15 v1.toNatClampNeg ((mI M14 174 i15 v1.toNatClampNeg) + (1 : Int32))) ∧ Q M18) M
def w_Model_reckon_j64 (this : Nat) (Q : Mem → Prop) (v1 : Int32) (v2 : Int32) (v3 : Int32) (v4 : Int32) (M : Mem) : Prop :=
  if v2 = (8 : Int32) then (w_Model_reckon_j213 this Q v1 (v4 + v3) M) else (if v2 = (9 : Int32) then (w_Model_reckon_j213 this Q v1 (v4 - v3) M) else (if v2 = (10 : Int32) then (w_Model_reckon_j213 this Q v1 (v4 * v3) M) else (if v2 = (11 : Int32) then (¬ v3 = 0 ∧ w_Model_reckon_j213 this Q v1 (v4 / v3) M) else (if v2 = (12 : Int32) then (¬ v3 = 0 ∧ w_Model_reckon_j213 this Q v1 (v4 - v4 / v3 * v3) M) else (if v2 = (13 : Int32) then (w_Model_reckon_j213 this Q v1 (v4 >>> ((v3 &&& (31 : Int32)) &&& 31)) M) else (if v2 = (14 : Int32) then (w_Model_reckon_j213 this Q v1 (v4 &&& v3) M) else (if v2 = (15 : Int32) then (w_Model_reckon_j213 this Q v1 (v4 ||| v3) M) else (if v2 = (16 : Int32) then (w_Model_reckon_j213 this Q v1 (v4 ^^^ v3) M) else (if v2 = (17 : Int32) then (w_Model_reckon_j213 this Q v1 (v4 <<< ((v3 &&& (31 : Int32)) &&& 31)) M) else (w_Model_reckon_j213 this Q v1 (v4 >>> ((v3 &&& (31 : Int32)) &&& 31)) M))))))))))
def w_Model_reckon_j53 (this : Nat) (Q : Mem → Prop) (v1 : Int32) (v2 : Int32) (v3 : Int32) (v4 : Int32) (M : Mem) : Prop :=
  if v3 = 0 then (w_Model_throwNew this (0 : Int32) (3 : Int32) (fun M13 => Q M13) M) else (w_Model_reckon_j64 this Q v1 v2 v3 v4 M)
def w_Model_reckon (this : Nat) (a1 : Int32) (a2 : Int32) (Q : Mem → Prop) (M : Mem) : Prop :=
  w_Model_pop this a1 (fun r2 M1 => if a2 = (13 : Int32) then (w_Model_push this a1 (-r2) (0 : Int32) (fun M4 => ∃ i5, (mR M4 11 this 46) = some (13, i5) ∧ vp_in a1 (mL M4 174 i5) ∧ vp_in a1 (mL M4 174 i5) ∧ ∃ M8, M8 = (sI M4 174 i5 a1.toNatClampNeg ((mI M4 174 i5 a1.toNatClampNeg) + (1 : Int32))) ∧ Q M8) M1) else (w_Model_pop this a1 (fun r10 M9 => if a2 = (11 : Int32) then (w_Model_reckon_j53 this Q a1 a2 r2 r10 M9) else (if a2 = (12 : Int32) then (w_Model_reckon_j53 this Q a1 a2 r2 r10 M9) else (w_Model_reckon_j64 this Q a1 a2 r2 r10 M9))) M1)) M
set_option maxRecDepth 4096 in
theorem lk_Model_reckon_j213 {γ : Gm} (hγ : Gk γ) (this : Nat) (Q : Mem → Prop) (v1 : Int32) (v5 : Int32) (M : Mem) (h : w_Model_reckon_j213 this Q v1 v5 M) : E γ k_Model_reckon 8 213 [some (vr (some (11, this))), some (vi v1), none, none, none, some (vi v5)] [] M (Qv Q) := by
  unfold w_Model_reckon_j213 at h
  refine E_blk (lv' := [some (vr (some (11, this))), some (vi v1), none, none, none, some (vi v5)]) (st' := [vi (0 : Int32), vi v5, vi v1, vr (some (11, this))]) (M1 := M) (pc' := 218) (tb_Model hγ) [.aload_n 0, .iload_n 1, .iload 5, .iconst 0] (by decide +kernel) rfl rfl trivial ?_
  refine E_callV (κ' := k_Model_push) (As := [vi v1, vi v5, vi (0 : Int32)]) (st := []) mv_Model_push (Or.inl (tbk_mem (j := 16) (k := 135) rfl)) rfl (by decide +kernel) (Nat.le_of_ble_eq_true rfl) (Nat.le_of_ble_eq_true rfl) rfl (by decide) (lk_Model_push hγ this v1 v5 (0 : Int32) _ M h) (fun _ _ => Qv_r) (fun v M14 hp => Qv_k (R := fun st => E γ k_Model_reckon 8 221 [some (vr (some (11, this))), some (vi v1), none, none, none, some (vi v5)] st M14 (Qv Q)) hp (fun h => ?_))
  refine E_blk (lv' := [some (vr (some (11, this))), some (vi v1), none, none, none, some (vi v5)]) (st' := [vr (mR M14 11 this 46)]) (M1 := M14) (pc' := 225) (tb_Model hγ) [.aload_n 0, .getfield 917] (by decide +kernel) rfl rfl trivial ?_
  obtain ⟨i15, ei15, h⟩ := h
  rw [ei15]
  obtain ⟨c16, c17, h⟩ := h
  refine E_blk (lv' := [some (vr (some (11, this))), some (vi v1), none, none, none, some (vi v5)]) (st' := []) (M1 := (sI M14 174 i15 v1.toNatClampNeg ((mI M14 174 i15 v1.toNatClampNeg) + (1 : Int32)))) (pc' := 234) (tb_Model hγ) [.getfield 930, .iload_n 1, .dup2, .iaload, .iconst 1, .iadd, .iastore] (by decide +kernel) rfl rfl ⟨c16, c17, trivial⟩ ?_
  obtain ⟨M18, eM18, h⟩ := h
  rw [← eM18]
  exact E_vret rfl (by decide +kernel) h
set_option maxRecDepth 4096 in
theorem lk_Model_reckon_j64 {γ : Gm} (hγ : Gk γ) (this : Nat) (Q : Mem → Prop) (v1 : Int32) (v2 : Int32) (v3 : Int32) (v4 : Int32) (M : Mem) (h : w_Model_reckon_j64 this Q v1 v2 v3 v4 M) : E γ k_Model_reckon 8 64 [some (vr (some (11, this))), some (vi v1), some (vi v2), some (vi v3), some (vi v4), none] [] M (Qv Q) := by
  unfold w_Model_reckon_j64 at h
  refine E_blk (lv' := [some (vr (some (11, this))), some (vi v1), some (vi v2), some (vi v3), some (vi v4), none]) (st' := [vi v2]) (M1 := M) (pc' := 65) (tb_Model hγ) [.iload_n 2] (by decide +kernel) rfl rfl trivial ?_
  by_cases b19 : v2 = (8 : Int32)
  · rw [if_pos b19] at h
    refine E.up (fun _ _ hJ => J_tswI (len := 55) (dflt := 139) (lo := 8) (hi := 17) (offs := #[55, 64, 73, 82, 91, 139, 100, 109, 118, 127]) (off := 55) (tgt := 120) (by decide +kernel) (by rw [b19]; decide) (by rw [b19]; decide) (by rw [b19]; rfl) (by decide) hJ) ?_
    refine E_blk (lv' := [some (vr (some (11, this))), some (vi v1), some (vi v2), some (vi v3), some (vi v4), some (vi (v4 + v3))]) (st' := []) (M1 := M) (pc' := 126) (tb_Model hγ) [.iload 4, .iload_n 3, .iadd, .istore 5] (by decide +kernel) rfl rfl trivial ?_
    refine E_goto (off := 87) (tgt := 213) (by decide +kernel) (by decide) ?_
    refine E_mask [true, true, false, false, false, true] rfl ?_
    exact lk_Model_reckon_j213 hγ this Q v1 (v4 + v3) M h
  · rw [if_neg b19] at h
    by_cases b20 : v2 = (9 : Int32)
    · rw [if_pos b20] at h
      refine E.up (fun _ _ hJ => J_tswI (len := 55) (dflt := 139) (lo := 8) (hi := 17) (offs := #[55, 64, 73, 82, 91, 139, 100, 109, 118, 127]) (off := 64) (tgt := 129) (by decide +kernel) (by rw [b20]; decide) (by rw [b20]; decide) (by rw [b20]; rfl) (by decide) hJ) ?_
      refine E_blk (lv' := [some (vr (some (11, this))), some (vi v1), some (vi v2), some (vi v3), some (vi v4), some (vi (v4 - v3))]) (st' := []) (M1 := M) (pc' := 135) (tb_Model hγ) [.iload 4, .iload_n 3, .isub, .istore 5] (by decide +kernel) rfl rfl trivial ?_
      refine E_goto (off := 78) (tgt := 213) (by decide +kernel) (by decide) ?_
      refine E_mask [true, true, false, false, false, true] rfl ?_
      exact lk_Model_reckon_j213 hγ this Q v1 (v4 - v3) M h
    · rw [if_neg b20] at h
      by_cases b21 : v2 = (10 : Int32)
      · rw [if_pos b21] at h
        refine E.up (fun _ _ hJ => J_tswI (len := 55) (dflt := 139) (lo := 8) (hi := 17) (offs := #[55, 64, 73, 82, 91, 139, 100, 109, 118, 127]) (off := 73) (tgt := 138) (by decide +kernel) (by rw [b21]; decide) (by rw [b21]; decide) (by rw [b21]; rfl) (by decide) hJ) ?_
        refine E_blk (lv' := [some (vr (some (11, this))), some (vi v1), some (vi v2), some (vi v3), some (vi v4), some (vi (v4 * v3))]) (st' := []) (M1 := M) (pc' := 144) (tb_Model hγ) [.iload 4, .iload_n 3, .imul, .istore 5] (by decide +kernel) rfl rfl trivial ?_
        refine E_goto (off := 69) (tgt := 213) (by decide +kernel) (by decide) ?_
        refine E_mask [true, true, false, false, false, true] rfl ?_
        exact lk_Model_reckon_j213 hγ this Q v1 (v4 * v3) M h
      · rw [if_neg b21] at h
        by_cases b22 : v2 = (11 : Int32)
        · rw [if_pos b22] at h
          refine E.up (fun _ _ hJ => J_tswI (len := 55) (dflt := 139) (lo := 8) (hi := 17) (offs := #[55, 64, 73, 82, 91, 139, 100, 109, 118, 127]) (off := 82) (tgt := 147) (by decide +kernel) (by rw [b22]; decide) (by rw [b22]; decide) (by rw [b22]; rfl) (by decide) hJ) ?_
          obtain ⟨c30, h⟩ := h
          refine E_blk (lv' := [some (vr (some (11, this))), some (vi v1), some (vi v2), some (vi v3), some (vi v4), some (vi (v4 / v3))]) (st' := []) (M1 := M) (pc' := 153) (tb_Model hγ) [.iload 4, .iload_n 3, .idiv, .istore 5] (by decide +kernel) rfl rfl ⟨c30, trivial⟩ ?_
          refine E_goto (off := 60) (tgt := 213) (by decide +kernel) (by decide) ?_
          refine E_mask [true, true, false, false, false, true] rfl ?_
          exact lk_Model_reckon_j213 hγ this Q v1 (v4 / v3) M h
        · rw [if_neg b22] at h
          by_cases b23 : v2 = (12 : Int32)
          · rw [if_pos b23] at h
            refine E.up (fun _ _ hJ => J_tswI (len := 55) (dflt := 139) (lo := 8) (hi := 17) (offs := #[55, 64, 73, 82, 91, 139, 100, 109, 118, 127]) (off := 91) (tgt := 156) (by decide +kernel) (by rw [b23]; decide) (by rw [b23]; decide) (by rw [b23]; rfl) (by decide) hJ) ?_
            obtain ⟨c29, h⟩ := h
            refine E_blk (lv' := [some (vr (some (11, this))), some (vi v1), some (vi v2), some (vi v3), some (vi v4), some (vi (v4 - v4 / v3 * v3))]) (st' := []) (M1 := M) (pc' := 162) (tb_Model hγ) [.iload 4, .iload_n 3, .irem, .istore 5] (by decide +kernel) rfl rfl ⟨c29, trivial⟩ ?_
            refine E_goto (off := 51) (tgt := 213) (by decide +kernel) (by decide) ?_
            refine E_mask [true, true, false, false, false, true] rfl ?_
            exact lk_Model_reckon_j213 hγ this Q v1 (v4 - v4 / v3 * v3) M h
          · rw [if_neg b23] at h
            by_cases b24 : v2 = (13 : Int32)
            · rw [if_pos b24] at h
              refine E.up (fun _ _ hJ => J_tswI (len := 55) (dflt := 139) (lo := 8) (hi := 17) (offs := #[55, 64, 73, 82, 91, 139, 100, 109, 118, 127]) (off := 139) (tgt := 204) (by decide +kernel) (by rw [b24]; decide) (by rw [b24]; decide) (by rw [b24]; rfl) (by decide) hJ) ?_
              refine E_blk (lv' := [some (vr (some (11, this))), some (vi v1), some (vi v2), some (vi v3), some (vi v4), some (vi (v4 >>> ((v3 &&& (31 : Int32)) &&& 31)))]) (st' := []) (M1 := M) (pc' := 213) (tb_Model hγ) [.iload 4, .iload_n 3, .bipush 31, .iand, .ishr, .istore 5] (by decide +kernel) rfl rfl trivial ?_
              refine E_mask [true, true, false, false, false, true] rfl ?_
              exact lk_Model_reckon_j213 hγ this Q v1 (v4 >>> ((v3 &&& (31 : Int32)) &&& 31)) M h
            · rw [if_neg b24] at h
              by_cases b25 : v2 = (14 : Int32)
              · rw [if_pos b25] at h
                refine E.up (fun _ _ hJ => J_tswI (len := 55) (dflt := 139) (lo := 8) (hi := 17) (offs := #[55, 64, 73, 82, 91, 139, 100, 109, 118, 127]) (off := 100) (tgt := 165) (by decide +kernel) (by rw [b25]; decide) (by rw [b25]; decide) (by rw [b25]; rfl) (by decide) hJ) ?_
                refine E_blk (lv' := [some (vr (some (11, this))), some (vi v1), some (vi v2), some (vi v3), some (vi v4), some (vi (v4 &&& v3))]) (st' := []) (M1 := M) (pc' := 171) (tb_Model hγ) [.iload 4, .iload_n 3, .iand, .istore 5] (by decide +kernel) rfl rfl trivial ?_
                refine E_goto (off := 42) (tgt := 213) (by decide +kernel) (by decide) ?_
                refine E_mask [true, true, false, false, false, true] rfl ?_
                exact lk_Model_reckon_j213 hγ this Q v1 (v4 &&& v3) M h
              · rw [if_neg b25] at h
                by_cases b26 : v2 = (15 : Int32)
                · rw [if_pos b26] at h
                  refine E.up (fun _ _ hJ => J_tswI (len := 55) (dflt := 139) (lo := 8) (hi := 17) (offs := #[55, 64, 73, 82, 91, 139, 100, 109, 118, 127]) (off := 109) (tgt := 174) (by decide +kernel) (by rw [b26]; decide) (by rw [b26]; decide) (by rw [b26]; rfl) (by decide) hJ) ?_
                  refine E_blk (lv' := [some (vr (some (11, this))), some (vi v1), some (vi v2), some (vi v3), some (vi v4), some (vi (v4 ||| v3))]) (st' := []) (M1 := M) (pc' := 180) (tb_Model hγ) [.iload 4, .iload_n 3, .ior, .istore 5] (by decide +kernel) rfl rfl trivial ?_
                  refine E_goto (off := 33) (tgt := 213) (by decide +kernel) (by decide) ?_
                  refine E_mask [true, true, false, false, false, true] rfl ?_
                  exact lk_Model_reckon_j213 hγ this Q v1 (v4 ||| v3) M h
                · rw [if_neg b26] at h
                  by_cases b27 : v2 = (16 : Int32)
                  · rw [if_pos b27] at h
                    refine E.up (fun _ _ hJ => J_tswI (len := 55) (dflt := 139) (lo := 8) (hi := 17) (offs := #[55, 64, 73, 82, 91, 139, 100, 109, 118, 127]) (off := 118) (tgt := 183) (by decide +kernel) (by rw [b27]; decide) (by rw [b27]; decide) (by rw [b27]; rfl) (by decide) hJ) ?_
                    refine E_blk (lv' := [some (vr (some (11, this))), some (vi v1), some (vi v2), some (vi v3), some (vi v4), some (vi (v4 ^^^ v3))]) (st' := []) (M1 := M) (pc' := 189) (tb_Model hγ) [.iload 4, .iload_n 3, .ixor, .istore 5] (by decide +kernel) rfl rfl trivial ?_
                    refine E_goto (off := 24) (tgt := 213) (by decide +kernel) (by decide) ?_
                    refine E_mask [true, true, false, false, false, true] rfl ?_
                    exact lk_Model_reckon_j213 hγ this Q v1 (v4 ^^^ v3) M h
                  · rw [if_neg b27] at h
                    by_cases b28 : v2 = (17 : Int32)
                    · rw [if_pos b28] at h
                      refine E.up (fun _ _ hJ => J_tswI (len := 55) (dflt := 139) (lo := 8) (hi := 17) (offs := #[55, 64, 73, 82, 91, 139, 100, 109, 118, 127]) (off := 127) (tgt := 192) (by decide +kernel) (by rw [b28]; decide) (by rw [b28]; decide) (by rw [b28]; rfl) (by decide) hJ) ?_
                      refine E_blk (lv' := [some (vr (some (11, this))), some (vi v1), some (vi v2), some (vi v3), some (vi v4), some (vi (v4 <<< ((v3 &&& (31 : Int32)) &&& 31)))]) (st' := []) (M1 := M) (pc' := 201) (tb_Model hγ) [.iload 4, .iload_n 3, .bipush 31, .iand, .ishl, .istore 5] (by decide +kernel) rfl rfl trivial ?_
                      refine E_goto (off := 12) (tgt := 213) (by decide +kernel) (by decide) ?_
                      refine E_mask [true, true, false, false, false, true] rfl ?_
                      exact lk_Model_reckon_j213 hγ this Q v1 (v4 <<< ((v3 &&& (31 : Int32)) &&& 31)) M h
                    · rw [if_neg b28] at h
                      refine E.up (fun _ _ hJ => J_tswO (len := 55) (dflt := 139) (lo := 8) (hi := 17) (offs := #[55, 64, 73, 82, 91, 139, 100, 109, 118, 127]) (tgt := 204) (by decide +kernel) ?_ (by decide) hJ) ?_
                      · have q := sw0 (x := v2) 8
                        replace q : (v2).toInt < 8 ∨ 9 ≤ (v2).toInt := sw1 q b19 rfl rfl
                        replace q : (v2).toInt < 8 ∨ 10 ≤ (v2).toInt := sw1 q b20 rfl rfl
                        replace q : (v2).toInt < 8 ∨ 11 ≤ (v2).toInt := sw1 q b21 rfl rfl
                        replace q : (v2).toInt < 8 ∨ 12 ≤ (v2).toInt := sw1 q b22 rfl rfl
                        replace q : (v2).toInt < 8 ∨ 13 ≤ (v2).toInt := sw1 q b23 rfl rfl
                        replace q : (v2).toInt < 8 ∨ 14 ≤ (v2).toInt := sw1 q b24 rfl rfl
                        replace q : (v2).toInt < 8 ∨ 15 ≤ (v2).toInt := sw1 q b25 rfl rfl
                        replace q : (v2).toInt < 8 ∨ 16 ≤ (v2).toInt := sw1 q b26 rfl rfl
                        replace q : (v2).toInt < 8 ∨ 17 ≤ (v2).toInt := sw1 q b27 rfl rfl
                        replace q : (v2).toInt < 8 ∨ 18 ≤ (v2).toInt := sw1 q b28 rfl rfl
                        omega
                      · refine E_blk (lv' := [some (vr (some (11, this))), some (vi v1), some (vi v2), some (vi v3), some (vi v4), some (vi (v4 >>> ((v3 &&& (31 : Int32)) &&& 31)))]) (st' := []) (M1 := M) (pc' := 213) (tb_Model hγ) [.iload 4, .iload_n 3, .bipush 31, .iand, .ishr, .istore 5] (by decide +kernel) rfl rfl trivial ?_
                        refine E_mask [true, true, false, false, false, true] rfl ?_
                        exact lk_Model_reckon_j213 hγ this Q v1 (v4 >>> ((v3 &&& (31 : Int32)) &&& 31)) M h
set_option maxRecDepth 4096 in
theorem lk_Model_reckon_j53 {γ : Gm} (hγ : Gk γ) (this : Nat) (Q : Mem → Prop) (v1 : Int32) (v2 : Int32) (v3 : Int32) (v4 : Int32) (M : Mem) (h : w_Model_reckon_j53 this Q v1 v2 v3 v4 M) : E γ k_Model_reckon 8 53 [some (vr (some (11, this))), some (vi v1), some (vi v2), some (vi v3), some (vi v4), none] [] M (Qv Q) := by
  unfold w_Model_reckon_j53 at h
  refine E_blk (lv' := [some (vr (some (11, this))), some (vi v1), some (vi v2), some (vi v3), some (vi v4), none]) (st' := [vi v3]) (M1 := M) (pc' := 54) (tb_Model hγ) [.iload_n 3] (by decide +kernel) rfl rfl trivial ?_
  refine E_if_ne (off := 10) (tgt := 64) (by decide +kernel) (by decide) (fun b12 => ?_) (fun b12 => ?_)
  · rw [if_pos b12] at h
    refine E_blk (lv' := [some (vr (some (11, this))), some (vi v1), some (vi v2), some (vi v3), some (vi v4), none]) (st' := [vi (3 : Int32), vi (0 : Int32), vr (some (11, this))]) (M1 := M) (pc' := 60) (tb_Model hγ) [.aload_n 0, .iconst 0, .iconst 3] (by decide +kernel) rfl rfl trivial ?_
    refine E_callV (κ' := k_Model_throwNew) (As := [vi (0 : Int32), vi (3 : Int32)]) (st := []) mv_Model_throwNew (Or.inl (tbk_mem (j := 16) (k := 111) rfl)) rfl (by decide +kernel) (Nat.le_of_ble_eq_true rfl) (Nat.le_of_ble_eq_true rfl) rfl (by decide) (lk_Model_throwNew hγ this (0 : Int32) (3 : Int32) _ M h) (fun _ _ => Qv_r) (fun v M13 hp => Qv_k (R := fun st => E γ k_Model_reckon 8 63 [some (vr (some (11, this))), some (vi v1), some (vi v2), some (vi v3), some (vi v4), none] st M13 (Qv Q)) hp (fun h => ?_))
    exact E_vret rfl (by decide +kernel) h
  · rw [if_neg b12] at h
    refine E_mask [true, true, true, true, true, false] rfl ?_
    exact lk_Model_reckon_j64 hγ this Q v1 v2 v3 v4 M h
set_option maxRecDepth 4096 in
theorem lk_Model_reckon {γ : Gm} (hγ : Gk γ) (this : Nat) (a1 : Int32) (a2 : Int32) (Q : Mem → Prop) (M : Mem) (h : w_Model_reckon this a1 a2 Q M) : E γ k_Model_reckon 8 0 [some (vr (some (11, this))), some (vi a1), some (vi a2), none, none, none] [] M (Qv Q) := by
  unfold w_Model_reckon at h
  refine E_blk (lv' := [some (vr (some (11, this))), some (vi a1), some (vi a2), none, none, none]) (st' := [vi a1, vr (some (11, this))]) (M1 := M) (pc' := 2) (tb_Model hγ) [.aload_n 0, .iload_n 1] (by decide +kernel) rfl rfl trivial ?_
  refine E_callV (κ' := k_Model_pop) (As := [vi a1]) (st := []) mv_Model_pop (Or.inl (tbk_mem (j := 16) (k := 175) rfl)) rfl (by decide +kernel) (Nat.le_of_ble_eq_true rfl) (Nat.le_of_ble_eq_true rfl) rfl (by decide) (lk_Model_pop hγ this a1 _ M h) (fun _ _ => Qi_r) (fun v M1 hp => Qi_k (R := fun st => E γ k_Model_reckon 8 5 [some (vr (some (11, this))), some (vi a1), some (vi a2), none, none, none] st M1 (Qv Q)) hp (fun r2 h => ?_))
  refine E_blk (lv' := [some (vr (some (11, this))), some (vi a1), some (vi a2), some (vi r2), none, none]) (st' := [vi (13 : Int32), vi a2]) (M1 := M1) (pc' := 9) (tb_Model hγ) [.istore_n 3, .iload_n 2, .bipush 13] (by decide +kernel) rfl rfl trivial ?_
  refine E_icmp_ne (off := 25) (tgt := 34) (by decide +kernel) (by decide) (fun b3 => ?_) (fun b3 => ?_)
  · rw [if_pos b3] at h
    refine E_blk (lv' := [some (vr (some (11, this))), some (vi a1), some (vi a2), some (vi r2), none, none]) (st' := [vi (0 : Int32), vi (-r2), vi a1, vr (some (11, this))]) (M1 := M1) (pc' := 17) (tb_Model hγ) [.aload_n 0, .iload_n 1, .iload_n 3, .ineg, .iconst 0] (by decide +kernel) rfl rfl trivial ?_
    refine E_callV (κ' := k_Model_push) (As := [vi a1, vi (-r2), vi (0 : Int32)]) (st := []) mv_Model_push (Or.inl (tbk_mem (j := 16) (k := 135) rfl)) rfl (by decide +kernel) (Nat.le_of_ble_eq_true rfl) (Nat.le_of_ble_eq_true rfl) rfl (by decide) (lk_Model_push hγ this a1 (-r2) (0 : Int32) _ M1 h) (fun _ _ => Qv_r) (fun v M4 hp => Qv_k (R := fun st => E γ k_Model_reckon 8 20 [some (vr (some (11, this))), some (vi a1), some (vi a2), some (vi r2), none, none] st M4 (Qv Q)) hp (fun h => ?_))
    refine E_blk (lv' := [some (vr (some (11, this))), some (vi a1), some (vi a2), some (vi r2), none, none]) (st' := [vr (mR M4 11 this 46)]) (M1 := M4) (pc' := 24) (tb_Model hγ) [.aload_n 0, .getfield 917] (by decide +kernel) rfl rfl trivial ?_
    obtain ⟨i5, ei5, h⟩ := h
    rw [ei5]
    obtain ⟨c6, c7, h⟩ := h
    refine E_blk (lv' := [some (vr (some (11, this))), some (vi a1), some (vi a2), some (vi r2), none, none]) (st' := []) (M1 := (sI M4 174 i5 a1.toNatClampNeg ((mI M4 174 i5 a1.toNatClampNeg) + (1 : Int32)))) (pc' := 33) (tb_Model hγ) [.getfield 930, .iload_n 1, .dup2, .iaload, .iconst 1, .iadd, .iastore] (by decide +kernel) rfl rfl ⟨c6, c7, trivial⟩ ?_
    obtain ⟨M8, eM8, h⟩ := h
    rw [← eM8]
    exact E_vret rfl (by decide +kernel) h
  · rw [if_neg b3] at h
    refine E_blk (lv' := [some (vr (some (11, this))), some (vi a1), some (vi a2), some (vi r2), none, none]) (st' := [vi a1, vr (some (11, this))]) (M1 := M1) (pc' := 36) (tb_Model hγ) [.aload_n 0, .iload_n 1] (by decide +kernel) rfl rfl trivial ?_
    refine E_callV (κ' := k_Model_pop) (As := [vi a1]) (st := []) mv_Model_pop (Or.inl (tbk_mem (j := 16) (k := 175) rfl)) rfl (by decide +kernel) (Nat.le_of_ble_eq_true rfl) (Nat.le_of_ble_eq_true rfl) rfl (by decide) (lk_Model_pop hγ this a1 _ M1 h) (fun _ _ => Qi_r) (fun v M9 hp => Qi_k (R := fun st => E γ k_Model_reckon 8 39 [some (vr (some (11, this))), some (vi a1), some (vi a2), some (vi r2), none, none] st M9 (Qv Q)) hp (fun r10 h => ?_))
    refine E_blk (lv' := [some (vr (some (11, this))), some (vi a1), some (vi a2), some (vi r2), some (vi r10), none]) (st' := [vi (11 : Int32), vi a2]) (M1 := M9) (pc' := 44) (tb_Model hγ) [.istore 4, .iload_n 2, .bipush 11] (by decide +kernel) rfl rfl trivial ?_
    refine E_icmp_eq (off := 9) (tgt := 53) (by decide +kernel) (by decide) (fun b11 => ?_) (fun b11 => ?_)
    · rw [if_pos b11] at h
      refine E_mask [true, true, true, true, true, false] rfl ?_
      exact lk_Model_reckon_j53 hγ this Q a1 a2 r2 r10 M9 h
    · rw [if_neg b11] at h
      refine E_blk (lv' := [some (vr (some (11, this))), some (vi a1), some (vi a2), some (vi r2), some (vi r10), none]) (st' := [vi (12 : Int32), vi a2]) (M1 := M9) (pc' := 50) (tb_Model hγ) [.iload_n 2, .bipush 12] (by decide +kernel) rfl rfl trivial ?_
      refine E_icmp_ne (off := 14) (tgt := 64) (by decide +kernel) (by decide) (fun b31 => ?_) (fun b31 => ?_)
      · rw [if_pos b31] at h
        refine E_mask [true, true, true, true, true, false] rfl ?_
        exact lk_Model_reckon_j53 hγ this Q a1 a2 r2 r10 M9 h
      · rw [if_neg b31] at h
        refine E_mask [true, true, true, true, true, false] rfl ?_
        exact lk_Model_reckon_j64 hγ this Q a1 a2 r2 r10 M9 h
def w_Model_turnStep (this : Nat) (a1 : Int32) (a2 : Int32) (Q : Mem → Prop) (M : Mem) : Prop :=
  w_Model_topRefers this a1 (fun r2 M1 => w_Model_pop this a1 (fun r4 M3 => if a2 = (20 : Int32) then (w_Model_push this a1 r4 r2 (fun M6 => w_Model_push this a1 r4 r2 (fun M7 => Q M7) M6) M3) else (w_Model_topRefers this a1 (fun r9 M8 => w_Model_pop this a1 (fun r11 M10 => w_Model_push this a1 r4 r2 (fun M12 => w_Model_push this a1 r11 r9 (fun M13 => if a2 = (21 : Int32) then (w_Model_push this a1 r4 r2 (fun M15 => Q M15) M13) else (Q M13)) M12) M10) M8) M3)) M1) M
set_option maxRecDepth 4096 in
theorem lk_Model_turnStep {γ : Gm} (hγ : Gk γ) (this : Nat) (a1 : Int32) (a2 : Int32) (Q : Mem → Prop) (M : Mem) (h : w_Model_turnStep this a1 a2 Q M) : E γ k_Model_turnStep 1 0 [some (vr (some (11, this))), some (vi a1), some (vi a2), none, none, none, none] [] M (Qv Q) := by
  unfold w_Model_turnStep at h
  refine E_blk (lv' := [some (vr (some (11, this))), some (vi a1), some (vi a2), none, none, none, none]) (st' := [vi a1, vr (some (11, this))]) (M1 := M) (pc' := 2) (tb_Model hγ) [.aload_n 0, .iload_n 1] (by decide +kernel) rfl rfl trivial ?_
  refine E_callV (κ' := k_Model_topRefers) (As := [vi a1]) (st := []) mv_Model_topRefers (Or.inl (tbk_mem (j := 16) (k := 231) rfl)) rfl (by decide +kernel) (Nat.le_of_ble_eq_true rfl) (Nat.le_of_ble_eq_true rfl) rfl (by decide) (lk_Model_topRefers hγ this a1 _ M h) (fun _ _ => Qi_r) (fun v M1 hp => Qi_k (R := fun st => E γ k_Model_turnStep 1 5 [some (vr (some (11, this))), some (vi a1), some (vi a2), none, none, none, none] st M1 (Qv Q)) hp (fun r2 h => ?_))
  refine E_blk (lv' := [some (vr (some (11, this))), some (vi a1), some (vi a2), some (vi r2), none, none, none]) (st' := [vi a1, vr (some (11, this))]) (M1 := M1) (pc' := 8) (tb_Model hγ) [.istore_n 3, .aload_n 0, .iload_n 1] (by decide +kernel) rfl rfl trivial ?_
  refine E_callV (κ' := k_Model_pop) (As := [vi a1]) (st := []) mv_Model_pop (Or.inl (tbk_mem (j := 16) (k := 175) rfl)) rfl (by decide +kernel) (Nat.le_of_ble_eq_true rfl) (Nat.le_of_ble_eq_true rfl) rfl (by decide) (lk_Model_pop hγ this a1 _ M1 h) (fun _ _ => Qi_r) (fun v M3 hp => Qi_k (R := fun st => E γ k_Model_turnStep 1 11 [some (vr (some (11, this))), some (vi a1), some (vi a2), some (vi r2), none, none, none] st M3 (Qv Q)) hp (fun r4 h => ?_))
  refine E_blk (lv' := [some (vr (some (11, this))), some (vi a1), some (vi a2), some (vi r2), some (vi r4), none, none]) (st' := [vi (20 : Int32), vi a2]) (M1 := M3) (pc' := 16) (tb_Model hγ) [.istore 4, .iload_n 2, .bipush 20] (by decide +kernel) rfl rfl trivial ?_
  refine E_icmp_ne (off := 20) (tgt := 36) (by decide +kernel) (by decide) (fun b5 => ?_) (fun b5 => ?_)
  · rw [if_pos b5] at h
    refine E_blk (lv' := [some (vr (some (11, this))), some (vi a1), some (vi a2), some (vi r2), some (vi r4), none, none]) (st' := [vi r2, vi r4, vi a1, vr (some (11, this))]) (M1 := M3) (pc' := 24) (tb_Model hγ) [.aload_n 0, .iload_n 1, .iload 4, .iload_n 3] (by decide +kernel) rfl rfl trivial ?_
    refine E_callV (κ' := k_Model_push) (As := [vi a1, vi r4, vi r2]) (st := []) mv_Model_push (Or.inl (tbk_mem (j := 16) (k := 135) rfl)) rfl (by decide +kernel) (Nat.le_of_ble_eq_true rfl) (Nat.le_of_ble_eq_true rfl) rfl (by decide) (lk_Model_push hγ this a1 r4 r2 _ M3 h) (fun _ _ => Qv_r) (fun v M6 hp => Qv_k (R := fun st => E γ k_Model_turnStep 1 27 [some (vr (some (11, this))), some (vi a1), some (vi a2), some (vi r2), some (vi r4), none, none] st M6 (Qv Q)) hp (fun h => ?_))
    refine E_blk (lv' := [some (vr (some (11, this))), some (vi a1), some (vi a2), some (vi r2), some (vi r4), none, none]) (st' := [vi r2, vi r4, vi a1, vr (some (11, this))]) (M1 := M6) (pc' := 32) (tb_Model hγ) [.aload_n 0, .iload_n 1, .iload 4, .iload_n 3] (by decide +kernel) rfl rfl trivial ?_
    refine E_callV (κ' := k_Model_push) (As := [vi a1, vi r4, vi r2]) (st := []) mv_Model_push (Or.inl (tbk_mem (j := 16) (k := 135) rfl)) rfl (by decide +kernel) (Nat.le_of_ble_eq_true rfl) (Nat.le_of_ble_eq_true rfl) rfl (by decide) (lk_Model_push hγ this a1 r4 r2 _ M6 h) (fun _ _ => Qv_r) (fun v M7 hp => Qv_k (R := fun st => E γ k_Model_turnStep 1 35 [some (vr (some (11, this))), some (vi a1), some (vi a2), some (vi r2), some (vi r4), none, none] st M7 (Qv Q)) hp (fun h => ?_))
    exact E_vret rfl (by decide +kernel) h
  · rw [if_neg b5] at h
    refine E_blk (lv' := [some (vr (some (11, this))), some (vi a1), some (vi a2), some (vi r2), some (vi r4), none, none]) (st' := [vi a1, vr (some (11, this))]) (M1 := M3) (pc' := 38) (tb_Model hγ) [.aload_n 0, .iload_n 1] (by decide +kernel) rfl rfl trivial ?_
    refine E_callV (κ' := k_Model_topRefers) (As := [vi a1]) (st := []) mv_Model_topRefers (Or.inl (tbk_mem (j := 16) (k := 231) rfl)) rfl (by decide +kernel) (Nat.le_of_ble_eq_true rfl) (Nat.le_of_ble_eq_true rfl) rfl (by decide) (lk_Model_topRefers hγ this a1 _ M3 h) (fun _ _ => Qi_r) (fun v M8 hp => Qi_k (R := fun st => E γ k_Model_turnStep 1 41 [some (vr (some (11, this))), some (vi a1), some (vi a2), some (vi r2), some (vi r4), none, none] st M8 (Qv Q)) hp (fun r9 h => ?_))
    refine E_blk (lv' := [some (vr (some (11, this))), some (vi a1), some (vi a2), some (vi r2), some (vi r4), some (vi r9), none]) (st' := [vi a1, vr (some (11, this))]) (M1 := M8) (pc' := 45) (tb_Model hγ) [.istore 5, .aload_n 0, .iload_n 1] (by decide +kernel) rfl rfl trivial ?_
    refine E_callV (κ' := k_Model_pop) (As := [vi a1]) (st := []) mv_Model_pop (Or.inl (tbk_mem (j := 16) (k := 175) rfl)) rfl (by decide +kernel) (Nat.le_of_ble_eq_true rfl) (Nat.le_of_ble_eq_true rfl) rfl (by decide) (lk_Model_pop hγ this a1 _ M8 h) (fun _ _ => Qi_r) (fun v M10 hp => Qi_k (R := fun st => E γ k_Model_turnStep 1 48 [some (vr (some (11, this))), some (vi a1), some (vi a2), some (vi r2), some (vi r4), some (vi r9), none] st M10 (Qv Q)) hp (fun r11 h => ?_))
    refine E_blk (lv' := [some (vr (some (11, this))), some (vi a1), some (vi a2), some (vi r2), some (vi r4), some (vi r9), some (vi r11)]) (st' := [vi r2, vi r4, vi a1, vr (some (11, this))]) (M1 := M10) (pc' := 55) (tb_Model hγ) [.istore 6, .aload_n 0, .iload_n 1, .iload 4, .iload_n 3] (by decide +kernel) rfl rfl trivial ?_
    refine E_callV (κ' := k_Model_push) (As := [vi a1, vi r4, vi r2]) (st := []) mv_Model_push (Or.inl (tbk_mem (j := 16) (k := 135) rfl)) rfl (by decide +kernel) (Nat.le_of_ble_eq_true rfl) (Nat.le_of_ble_eq_true rfl) rfl (by decide) (lk_Model_push hγ this a1 r4 r2 _ M10 h) (fun _ _ => Qv_r) (fun v M12 hp => Qv_k (R := fun st => E γ k_Model_turnStep 1 58 [some (vr (some (11, this))), some (vi a1), some (vi a2), some (vi r2), some (vi r4), some (vi r9), some (vi r11)] st M12 (Qv Q)) hp (fun h => ?_))
    refine E_blk (lv' := [some (vr (some (11, this))), some (vi a1), some (vi a2), some (vi r2), some (vi r4), some (vi r9), some (vi r11)]) (st' := [vi r9, vi r11, vi a1, vr (some (11, this))]) (M1 := M12) (pc' := 64) (tb_Model hγ) [.aload_n 0, .iload_n 1, .iload 6, .iload 5] (by decide +kernel) rfl rfl trivial ?_
    refine E_callV (κ' := k_Model_push) (As := [vi a1, vi r11, vi r9]) (st := []) mv_Model_push (Or.inl (tbk_mem (j := 16) (k := 135) rfl)) rfl (by decide +kernel) (Nat.le_of_ble_eq_true rfl) (Nat.le_of_ble_eq_true rfl) rfl (by decide) (lk_Model_push hγ this a1 r11 r9 _ M12 h) (fun _ _ => Qv_r) (fun v M13 hp => Qv_k (R := fun st => E γ k_Model_turnStep 1 67 [some (vr (some (11, this))), some (vi a1), some (vi a2), some (vi r2), some (vi r4), some (vi r9), some (vi r11)] st M13 (Qv Q)) hp (fun h => ?_))
    refine E_blk (lv' := [some (vr (some (11, this))), some (vi a1), some (vi a2), some (vi r2), some (vi r4), some (vi r9), some (vi r11)]) (st' := [vi (21 : Int32), vi a2]) (M1 := M13) (pc' := 70) (tb_Model hγ) [.iload_n 2, .bipush 21] (by decide +kernel) rfl rfl trivial ?_
    refine E_icmp_ne (off := 11) (tgt := 81) (by decide +kernel) (by decide) (fun b14 => ?_) (fun b14 => ?_)
    · rw [if_pos b14] at h
      refine E_blk (lv' := [some (vr (some (11, this))), some (vi a1), some (vi a2), some (vi r2), some (vi r4), some (vi r9), some (vi r11)]) (st' := [vi r2, vi r4, vi a1, vr (some (11, this))]) (M1 := M13) (pc' := 78) (tb_Model hγ) [.aload_n 0, .iload_n 1, .iload 4, .iload_n 3] (by decide +kernel) rfl rfl trivial ?_
      refine E_callV (κ' := k_Model_push) (As := [vi a1, vi r4, vi r2]) (st := []) mv_Model_push (Or.inl (tbk_mem (j := 16) (k := 135) rfl)) rfl (by decide +kernel) (Nat.le_of_ble_eq_true rfl) (Nat.le_of_ble_eq_true rfl) rfl (by decide) (lk_Model_push hγ this a1 r4 r2 _ M13 h) (fun _ _ => Qv_r) (fun v M15 hp => Qv_k (R := fun st => E γ k_Model_turnStep 1 81 [some (vr (some (11, this))), some (vi a1), some (vi a2), some (vi r2), some (vi r4), some (vi r9), some (vi r11)] st M15 (Qv Q)) hp (fun h => ?_))
      exact E_vret rfl (by decide +kernel) h
    · rw [if_neg b14] at h
      exact E_vret rfl (by decide +kernel) h
def w_Model_rowStep_j83 (this : Nat) (Q : Mem → Prop) (s0 : Int32) (s1 : Int32) (M : Mem) : Prop :=
  w_Model_throwNew this s1 s0 (fun M14 => Q M14) M
def w_Model_rowStep_j63 (this : Nat) (Q : Mem → Prop) (v1 : Int32) (v4 : Int32) (s0 : Int32) (M : Mem) : Prop :=
  if 0 ≤ s0 then (w_Model_push this v1 s0 (1 : Int32) (fun M8 => ∃ i9, (mR M8 11 this 46) = some (13, i9) ∧ vp_in v1 (mL M8 174 i9) ∧ vp_in v1 (mL M8 174 i9) ∧ ∃ M12, M12 = (sI M8 174 i9 v1.toNatClampNeg ((mI M8 174 i9 v1.toNatClampNeg) + (1 : Int32))) ∧ Q M12) M) else (if 0 ≤ v4 then (w_Model_rowStep_j83 this Q (9 : Int32) (0 : Int32) M) else (w_Model_rowStep_j83 this Q (5 : Int32) (0 : Int32) M))
def w_Model_rowStep_j52 (this : Nat) (Q : Mem → Prop) (v1 : Int32) (v4 : Int32) (M : Mem) : Prop :=
  w_Model_rowStep_j63 this Q v1 v4 (-1 : Int32) M
def w_Model_rowStep_j234 (this : Nat) (Q : Mem → Prop) (v1 : Int32) (M : Mem) : Prop :=
  ∃ i30, (mR M 11 this 46) = some (13, i30) ∧ vp_in v1 (mL M 174 i30) ∧ vp_in v1 (mL M 174 i30) ∧ ∃ M33, M33 = (sI M 174 i30 v1.toNatClampNeg ((mI M 174 i30 v1.toNatClampNeg) + (1 : Int32))) ∧ Q M33
def w_Model_rowStep_j230 (this : Nat) (Q : Mem → Prop) (v1 : Int32) (s0 : Int32) (s1 : Int32) (M : Mem) : Prop :=
  w_Model_push this s1 s0 (0 : Int32) (fun M35 => w_Model_rowStep_j234 this Q v1 M35) M
def w_Model_rowStep_j165 (this : Nat) (Q : Mem → Prop) (v1 : Int32) (v2 : Int32) (v3 : Int32) (v4 : Int32) (v5 : Int32) (v6 : Int32) (M : Mem) : Prop :=
  if v2 = (44 : Int32) then (∃ i26, (mR M 11 this 45) = some (12, i26) ∧ ∃ i27, (mR M 11 this 45) = some (12, i27) ∧ vp_in v5 (mL M 158 i27) ∧ vp_in ((mI M 158 i27 v5.toNatClampNeg) + v4) (mL M 161 i26) ∧ w_Model_rowStep_j234 this Q v1 (sI M 161 i26 ((mI M 158 i27 v5.toNatClampNeg) + v4).toNatClampNeg v3)) else (if v2 = (45 : Int32) then (w_Model_rowStep_j230 this Q v1 v6 v1 M) else (∃ i36, (mR M 11 this 45) = some (12, i36) ∧ ∃ i37, (mR M 11 this 45) = some (12, i37) ∧ vp_in v5 (mL M 158 i37) ∧ vp_in ((mI M 158 i37 v5.toNatClampNeg) + v4) (mL M 161 i36) ∧ w_Model_rowStep_j230 this Q v1 (mI M 161 i36 ((mI M 158 i37 v5.toNatClampNeg) + v4).toNatClampNeg) v1 M))
def w_Model_rowStep_j158 (this : Nat) (Q : Mem → Prop)  (M : Mem) : Prop :=
  w_Model_throwNew this (0 : Int32) (4 : Int32) (fun M41 => Q M41) M
def w_Model_rowStep_j31 (this : Nat) (Q : Mem → Prop) (v1 : Int32) (v2 : Int32) (v3 : Int32) (s0 : Int32) (M : Mem) : Prop :=
  if v2 = (42 : Int32) then (if s0 < 0 then (w_Model_rowStep_j52 this Q v1 s0 M) else (if s0 ≤ (300 : Int32) then (w_Model_newThing this (-1 : Int32) s0 (fun r17 M16 => w_Model_rowStep_j63 this Q v1 s0 r17 M16) M) else (w_Model_rowStep_j52 this Q v1 s0 M))) else (w_Model_pop this v1 (fun r19 M18 => if r19 = 0 then (w_Model_throwNew this (0 : Int32) (2 : Int32) (fun M21 => Q M21) M18) else (∃ i22, (mR M18 11 this 45) = some (12, i22) ∧ vp_in r19 (mL M18 159 i22) ∧ if v2 = (45 : Int32) then (w_Model_rowStep_j165 this Q v1 v2 v3 s0 r19 (mI M18 159 i22 r19.toNatClampNeg) M18) else (if s0 < 0 then (w_Model_rowStep_j158 this Q  M18) else (if s0 < (mI M18 159 i22 r19.toNatClampNeg) then (w_Model_rowStep_j165 this Q v1 v2 v3 s0 r19 (mI M18 159 i22 r19.toNatClampNeg) M18) else (w_Model_rowStep_j158 this Q  M18))))) M)
def w_Model_rowStep_j15 (this : Nat) (Q : Mem → Prop) (v1 : Int32) (v2 : Int32) (s0 : Int32) (M : Mem) : Prop :=
  if v2 = (45 : Int32) then (w_Model_rowStep_j31 this Q v1 v2 s0 (0 : Int32) M) else (w_Model_pop this v1 (fun r44 M43 => w_Model_rowStep_j31 this Q v1 v2 s0 r44 M43) M)
def w_Model_rowStep (this : Nat) (a1 : Int32) (a2 : Int32) (Q : Mem → Prop) (M : Mem) : Prop :=
  if a2 = (44 : Int32) then (w_Model_pop this a1 (fun r3 M2 => w_Model_rowStep_j15 this Q a1 a2 r3 M2) M) else (w_Model_rowStep_j15 this Q a1 a2 (0 : Int32) M)
set_option maxRecDepth 4096 in
theorem lk_Model_rowStep_j83 {γ : Gm} (hγ : Gk γ) (this : Nat) (Q : Mem → Prop) (s0 : Int32) (s1 : Int32) (M : Mem) (h : w_Model_rowStep_j83 this Q s0 s1 M) : E γ k_Model_rowStep 8 83 [none, none, none, none, none, none, none] [vi s0, vi s1, vr (some (11, this))] M (Qv Q) := by
  unfold w_Model_rowStep_j83 at h
  refine E_callV (κ' := k_Model_throwNew) (As := [vi s1, vi s0]) (st := []) mv_Model_throwNew (Or.inl (tbk_mem (j := 16) (k := 111) rfl)) rfl (by decide +kernel) (Nat.le_of_ble_eq_true rfl) (Nat.le_of_ble_eq_true rfl) rfl (by decide) (lk_Model_throwNew hγ this s1 s0 _ M h) (fun _ _ => Qv_r) (fun v M14 hp => Qv_k (R := fun st => E γ k_Model_rowStep 8 86 [none, none, none, none, none, none, none] st M14 (Qv Q)) hp (fun h => ?_))
  exact E_vret rfl (by decide +kernel) h
set_option maxRecDepth 4096 in
theorem lk_Model_rowStep_j63 {γ : Gm} (hγ : Gk γ) (this : Nat) (Q : Mem → Prop) (v1 : Int32) (v4 : Int32) (s0 : Int32) (M : Mem) (h : w_Model_rowStep_j63 this Q v1 v4 s0 M) : E γ k_Model_rowStep 8 63 [some (vr (some (11, this))), some (vi v1), none, none, some (vi v4), none, none] [vi s0] M (Qv Q) := by
  unfold w_Model_rowStep_j63 at h
  refine E_blk (lv' := [some (vr (some (11, this))), some (vi v1), none, none, some (vi v4), some (vi s0), none]) (st' := [vi s0]) (M1 := M) (pc' := 67) (tb_Model hγ) [.istore 5, .iload 5] (by decide +kernel) rfl rfl trivial ?_
  refine E_if_ge (off := 20) (tgt := 87) (by decide +kernel) (by decide) (fun b7 => ?_) (fun b7 => ?_)
  · rw [if_pos b7] at h
    refine E_blk (lv' := [some (vr (some (11, this))), some (vi v1), none, none, some (vi v4), some (vi s0), none]) (st' := [vi (1 : Int32), vi s0, vi v1, vr (some (11, this))]) (M1 := M) (pc' := 92) (tb_Model hγ) [.aload_n 0, .iload_n 1, .iload 5, .iconst 1] (by decide +kernel) rfl rfl trivial ?_
    refine E_callV (κ' := k_Model_push) (As := [vi v1, vi s0, vi (1 : Int32)]) (st := []) mv_Model_push (Or.inl (tbk_mem (j := 16) (k := 135) rfl)) rfl (by decide +kernel) (Nat.le_of_ble_eq_true rfl) (Nat.le_of_ble_eq_true rfl) rfl (by decide) (lk_Model_push hγ this v1 s0 (1 : Int32) _ M h) (fun _ _ => Qv_r) (fun v M8 hp => Qv_k (R := fun st => E γ k_Model_rowStep 8 95 [some (vr (some (11, this))), some (vi v1), none, none, some (vi v4), some (vi s0), none] st M8 (Qv Q)) hp (fun h => ?_))
    refine E_blk (lv' := [some (vr (some (11, this))), some (vi v1), none, none, some (vi v4), some (vi s0), none]) (st' := [vr (mR M8 11 this 46)]) (M1 := M8) (pc' := 99) (tb_Model hγ) [.aload_n 0, .getfield 917] (by decide +kernel) rfl rfl trivial ?_
    obtain ⟨i9, ei9, h⟩ := h
    rw [ei9]
    obtain ⟨c10, c11, h⟩ := h
    refine E_blk (lv' := [some (vr (some (11, this))), some (vi v1), none, none, some (vi v4), some (vi s0), none]) (st' := []) (M1 := (sI M8 174 i9 v1.toNatClampNeg ((mI M8 174 i9 v1.toNatClampNeg) + (1 : Int32)))) (pc' := 108) (tb_Model hγ) [.getfield 930, .iload_n 1, .dup2, .iaload, .iconst 1, .iadd, .iastore] (by decide +kernel) rfl rfl ⟨c10, c11, trivial⟩ ?_
    obtain ⟨M12, eM12, h⟩ := h
    rw [← eM12]
    exact E_vret rfl (by decide +kernel) h
  · rw [if_neg b7] at h
    refine E_blk (lv' := [some (vr (some (11, this))), some (vi v1), none, none, some (vi v4), some (vi s0), none]) (st' := [vi v4, vi (0 : Int32), vr (some (11, this))]) (M1 := M) (pc' := 74) (tb_Model hγ) [.aload_n 0, .iconst 0, .iload 4] (by decide +kernel) rfl rfl trivial ?_
    refine E_if_ge (off := 7) (tgt := 81) (by decide +kernel) (by decide) (fun b13 => ?_) (fun b13 => ?_)
    · rw [if_pos b13] at h
      refine E_blk (lv' := [some (vr (some (11, this))), some (vi v1), none, none, some (vi v4), some (vi s0), none]) (st' := [vi (9 : Int32), vi (0 : Int32), vr (some (11, this))]) (M1 := M) (pc' := 83) (tb_Model hγ) [.bipush 9] (by decide +kernel) rfl rfl trivial ?_
      refine E_mask [false, false, false, false, false, false, false] rfl ?_
      exact lk_Model_rowStep_j83 hγ this Q (9 : Int32) (0 : Int32) M h
    · rw [if_neg b13] at h
      refine E_blk (lv' := [some (vr (some (11, this))), some (vi v1), none, none, some (vi v4), some (vi s0), none]) (st' := [vi (5 : Int32), vi (0 : Int32), vr (some (11, this))]) (M1 := M) (pc' := 78) (tb_Model hγ) [.iconst 5] (by decide +kernel) rfl rfl trivial ?_
      refine E_goto (off := 5) (tgt := 83) (by decide +kernel) (by decide) ?_
      refine E_mask [false, false, false, false, false, false, false] rfl ?_
      exact lk_Model_rowStep_j83 hγ this Q (5 : Int32) (0 : Int32) M h
set_option maxRecDepth 4096 in
theorem lk_Model_rowStep_j52 {γ : Gm} (hγ : Gk γ) (this : Nat) (Q : Mem → Prop) (v1 : Int32) (v4 : Int32) (M : Mem) (h : w_Model_rowStep_j52 this Q v1 v4 M) : E γ k_Model_rowStep 8 52 [some (vr (some (11, this))), some (vi v1), none, none, some (vi v4), none, none] [] M (Qv Q) := by
  unfold w_Model_rowStep_j52 at h
  refine E_blk (lv' := [some (vr (some (11, this))), some (vi v1), none, none, some (vi v4), none, none]) (st' := [vi (-1 : Int32)]) (M1 := M) (pc' := 53) (tb_Model hγ) [.iconst (.negSucc 0)] (by decide +kernel) rfl rfl trivial ?_
  refine E_goto (off := 10) (tgt := 63) (by decide +kernel) (by decide) ?_
  refine E_mask [true, true, false, false, true, false, false] rfl ?_
  exact lk_Model_rowStep_j63 hγ this Q v1 v4 (-1 : Int32) M h
set_option maxRecDepth 4096 in
theorem lk_Model_rowStep_j234 {γ : Gm} (hγ : Gk γ) (this : Nat) (Q : Mem → Prop) (v1 : Int32) (M : Mem) (h : w_Model_rowStep_j234 this Q v1 M) : E γ k_Model_rowStep 8 234 [some (vr (some (11, this))), some (vi v1), none, none, none, none, none] [] M (Qv Q) := by
  unfold w_Model_rowStep_j234 at h
  refine E_blk (lv' := [some (vr (some (11, this))), some (vi v1), none, none, none, none, none]) (st' := [vr (mR M 11 this 46)]) (M1 := M) (pc' := 238) (tb_Model hγ) [.aload_n 0, .getfield 917] (by decide +kernel) rfl rfl trivial ?_
  obtain ⟨i30, ei30, h⟩ := h
  rw [ei30]
  obtain ⟨c31, c32, h⟩ := h
  refine E_blk (lv' := [some (vr (some (11, this))), some (vi v1), none, none, none, none, none]) (st' := []) (M1 := (sI M 174 i30 v1.toNatClampNeg ((mI M 174 i30 v1.toNatClampNeg) + (1 : Int32)))) (pc' := 247) (tb_Model hγ) [.getfield 930, .iload_n 1, .dup2, .iaload, .iconst 1, .iadd, .iastore] (by decide +kernel) rfl rfl ⟨c31, c32, trivial⟩ ?_
  obtain ⟨M33, eM33, h⟩ := h
  rw [← eM33]
  exact E_vret rfl (by decide +kernel) h
set_option maxRecDepth 4096 in
theorem lk_Model_rowStep_j230 {γ : Gm} (hγ : Gk γ) (this : Nat) (Q : Mem → Prop) (v1 : Int32) (s0 : Int32) (s1 : Int32) (M : Mem) (h : w_Model_rowStep_j230 this Q v1 s0 s1 M) : E γ k_Model_rowStep 8 230 [some (vr (some (11, this))), some (vi v1), none, none, none, none, none] [vi s0, vi s1, vr (some (11, this))] M (Qv Q) := by
  unfold w_Model_rowStep_j230 at h
  refine E_blk (lv' := [some (vr (some (11, this))), some (vi v1), none, none, none, none, none]) (st' := [vi (0 : Int32), vi s0, vi s1, vr (some (11, this))]) (M1 := M) (pc' := 231) (tb_Model hγ) [.iconst 0] (by decide +kernel) rfl rfl trivial ?_
  refine E_callV (κ' := k_Model_push) (As := [vi s1, vi s0, vi (0 : Int32)]) (st := []) mv_Model_push (Or.inl (tbk_mem (j := 16) (k := 135) rfl)) rfl (by decide +kernel) (Nat.le_of_ble_eq_true rfl) (Nat.le_of_ble_eq_true rfl) rfl (by decide) (lk_Model_push hγ this s1 s0 (0 : Int32) _ M h) (fun _ _ => Qv_r) (fun v M35 hp => Qv_k (R := fun st => E γ k_Model_rowStep 8 234 [some (vr (some (11, this))), some (vi v1), none, none, none, none, none] st M35 (Qv Q)) hp (fun h => ?_))
  refine E_mask [true, true, false, false, false, false, false] rfl ?_
  exact lk_Model_rowStep_j234 hγ this Q v1 M35 h
set_option maxRecDepth 4096 in
theorem lk_Model_rowStep_j165 {γ : Gm} (hγ : Gk γ) (this : Nat) (Q : Mem → Prop) (v1 : Int32) (v2 : Int32) (v3 : Int32) (v4 : Int32) (v5 : Int32) (v6 : Int32) (M : Mem) (h : w_Model_rowStep_j165 this Q v1 v2 v3 v4 v5 v6 M) : E γ k_Model_rowStep 8 165 [some (vr (some (11, this))), some (vi v1), some (vi v2), some (vi v3), some (vi v4), some (vi v5), some (vi v6)] [] M (Qv Q) := by
  unfold w_Model_rowStep_j165 at h
  refine E_blk (lv' := [some (vr (some (11, this))), some (vi v1), some (vi v2), some (vi v3), some (vi v4), some (vi v5), some (vi v6)]) (st' := [vi (44 : Int32), vi v2]) (M1 := M) (pc' := 168) (tb_Model hγ) [.iload_n 2, .bipush 44] (by decide +kernel) rfl rfl trivial ?_
  refine E_icmp_ne (off := 28) (tgt := 196) (by decide +kernel) (by decide) (fun b25 => ?_) (fun b25 => ?_)
  · rw [if_pos b25] at h
    refine E_blk (lv' := [some (vr (some (11, this))), some (vi v1), some (vi v2), some (vi v3), some (vi v4), some (vi v5), some (vi v6)]) (st' := [vr (mR M 11 this 45)]) (M1 := M) (pc' := 175) (tb_Model hγ) [.aload_n 0, .getfield 522] (by decide +kernel) rfl rfl trivial ?_
    obtain ⟨i26, ei26, h⟩ := h
    rw [ei26]
    refine E_blk (lv' := [some (vr (some (11, this))), some (vi v1), some (vi v2), some (vi v3), some (vi v4), some (vi v5), some (vi v6)]) (st' := [vr (mR M 11 this 45), vr (some (161, i26))]) (M1 := M) (pc' := 182) (tb_Model hγ) [.getfield 893, .aload_n 0, .getfield 522] (by decide +kernel) rfl rfl trivial ?_
    obtain ⟨i27, ei27, h⟩ := h
    rw [ei27]
    obtain ⟨c28, c29, h⟩ := h
    refine E_blk (lv' := [some (vr (some (11, this))), some (vi v1), some (vi v2), some (vi v3), some (vi v4), some (vi v5), some (vi v6)]) (st' := []) (M1 := (sI M 161 i26 ((mI M 158 i27 v5.toNatClampNeg) + v4).toNatClampNeg v3)) (pc' := 193) (tb_Model hγ) [.getfield 884, .iload 5, .iaload, .iload 4, .iadd, .iload_n 3, .iastore] (by decide +kernel) rfl rfl ⟨c28, c29, trivial⟩ ?_
    refine E_goto (off := 41) (tgt := 234) (by decide +kernel) (by decide) ?_
    refine E_mask [true, true, false, false, false, false, false] rfl ?_
    exact lk_Model_rowStep_j234 hγ this Q v1 (sI M 161 i26 ((mI M 158 i27 v5.toNatClampNeg) + v4).toNatClampNeg v3) h
  · rw [if_neg b25] at h
    refine E_blk (lv' := [some (vr (some (11, this))), some (vi v1), some (vi v2), some (vi v3), some (vi v4), some (vi v5), some (vi v6)]) (st' := [vi (45 : Int32), vi v2, vi v1, vr (some (11, this))]) (M1 := M) (pc' := 201) (tb_Model hγ) [.aload_n 0, .iload_n 1, .iload_n 2, .bipush 45] (by decide +kernel) rfl rfl trivial ?_
    refine E_icmp_ne (off := 8) (tgt := 209) (by decide +kernel) (by decide) (fun b34 => ?_) (fun b34 => ?_)
    · rw [if_pos b34] at h
      refine E_blk (lv' := [some (vr (some (11, this))), some (vi v1), some (vi v2), some (vi v3), some (vi v4), some (vi v5), some (vi v6)]) (st' := [vi v6, vi v1, vr (some (11, this))]) (M1 := M) (pc' := 206) (tb_Model hγ) [.iload 6] (by decide +kernel) rfl rfl trivial ?_
      refine E_goto (off := 24) (tgt := 230) (by decide +kernel) (by decide) ?_
      refine E_mask [true, true, false, false, false, false, false] rfl ?_
      exact lk_Model_rowStep_j230 hγ this Q v1 v6 v1 M h
    · rw [if_neg b34] at h
      refine E_blk (lv' := [some (vr (some (11, this))), some (vi v1), some (vi v2), some (vi v3), some (vi v4), some (vi v5), some (vi v6)]) (st' := [vr (mR M 11 this 45), vi v1, vr (some (11, this))]) (M1 := M) (pc' := 213) (tb_Model hγ) [.aload_n 0, .getfield 522] (by decide +kernel) rfl rfl trivial ?_
      obtain ⟨i36, ei36, h⟩ := h
      rw [ei36]
      refine E_blk (lv' := [some (vr (some (11, this))), some (vi v1), some (vi v2), some (vi v3), some (vi v4), some (vi v5), some (vi v6)]) (st' := [vr (mR M 11 this 45), vr (some (161, i36)), vi v1, vr (some (11, this))]) (M1 := M) (pc' := 220) (tb_Model hγ) [.getfield 893, .aload_n 0, .getfield 522] (by decide +kernel) rfl rfl trivial ?_
      obtain ⟨i37, ei37, h⟩ := h
      rw [ei37]
      obtain ⟨c38, c39, h⟩ := h
      refine E_blk (lv' := [some (vr (some (11, this))), some (vi v1), some (vi v2), some (vi v3), some (vi v4), some (vi v5), some (vi v6)]) (st' := [vi (mI M 161 i36 ((mI M 158 i37 v5.toNatClampNeg) + v4).toNatClampNeg), vi v1, vr (some (11, this))]) (M1 := M) (pc' := 230) (tb_Model hγ) [.getfield 884, .iload 5, .iaload, .iload 4, .iadd, .iaload] (by decide +kernel) rfl rfl ⟨c38, c39, trivial⟩ ?_
      refine E_mask [true, true, false, false, false, false, false] rfl ?_
      exact lk_Model_rowStep_j230 hγ this Q v1 (mI M 161 i36 ((mI M 158 i37 v5.toNatClampNeg) + v4).toNatClampNeg) v1 M h
set_option maxRecDepth 4096 in
theorem lk_Model_rowStep_j158 {γ : Gm} (hγ : Gk γ) (this : Nat) (Q : Mem → Prop)  (M : Mem) (h : w_Model_rowStep_j158 this Q  M) : E γ k_Model_rowStep 8 158 [some (vr (some (11, this))), none, none, none, none, none, none] [] M (Qv Q) := by
  unfold w_Model_rowStep_j158 at h
  refine E_blk (lv' := [some (vr (some (11, this))), none, none, none, none, none, none]) (st' := [vi (4 : Int32), vi (0 : Int32), vr (some (11, this))]) (M1 := M) (pc' := 161) (tb_Model hγ) [.aload_n 0, .iconst 0, .iconst 4] (by decide +kernel) rfl rfl trivial ?_
  refine E_callV (κ' := k_Model_throwNew) (As := [vi (0 : Int32), vi (4 : Int32)]) (st := []) mv_Model_throwNew (Or.inl (tbk_mem (j := 16) (k := 111) rfl)) rfl (by decide +kernel) (Nat.le_of_ble_eq_true rfl) (Nat.le_of_ble_eq_true rfl) rfl (by decide) (lk_Model_throwNew hγ this (0 : Int32) (4 : Int32) _ M h) (fun _ _ => Qv_r) (fun v M41 hp => Qv_k (R := fun st => E γ k_Model_rowStep 8 164 [some (vr (some (11, this))), none, none, none, none, none, none] st M41 (Qv Q)) hp (fun h => ?_))
  exact E_vret rfl (by decide +kernel) h
set_option maxRecDepth 4096 in
theorem lk_Model_rowStep_j31 {γ : Gm} (hγ : Gk γ) (this : Nat) (Q : Mem → Prop) (v1 : Int32) (v2 : Int32) (v3 : Int32) (s0 : Int32) (M : Mem) (h : w_Model_rowStep_j31 this Q v1 v2 v3 s0 M) : E γ k_Model_rowStep 8 31 [some (vr (some (11, this))), some (vi v1), some (vi v2), some (vi v3), none, none, none] [vi s0] M (Qv Q) := by
  unfold w_Model_rowStep_j31 at h
  refine E_blk (lv' := [some (vr (some (11, this))), some (vi v1), some (vi v2), some (vi v3), some (vi s0), none, none]) (st' := [vi (42 : Int32), vi v2]) (M1 := M) (pc' := 36) (tb_Model hγ) [.istore 4, .iload_n 2, .bipush 42] (by decide +kernel) rfl rfl trivial ?_
  refine E_icmp_ne (off := 73) (tgt := 109) (by decide +kernel) (by decide) (fun b5 => ?_) (fun b5 => ?_)
  · rw [if_pos b5] at h
    refine E_blk (lv' := [some (vr (some (11, this))), some (vi v1), some (vi v2), some (vi v3), some (vi s0), none, none]) (st' := [vi s0]) (M1 := M) (pc' := 41) (tb_Model hγ) [.iload 4] (by decide +kernel) rfl rfl trivial ?_
    refine E_if_lt (off := 11) (tgt := 52) (by decide +kernel) (by decide) (fun b6 => ?_) (fun b6 => ?_)
    · rw [if_pos b6] at h
      refine E_mask [true, true, false, false, true, false, false] rfl ?_
      exact lk_Model_rowStep_j52 hγ this Q v1 s0 M h
    · rw [if_neg b6] at h
      refine E_blk (lv' := [some (vr (some (11, this))), some (vi v1), some (vi v2), some (vi v3), some (vi s0), none, none]) (st' := [vi (300 : Int32), vi s0]) (M1 := M) (pc' := 49) (tb_Model hγ) [.iload 4, .sipush 300] (by decide +kernel) rfl rfl trivial ?_
      refine E_icmp_le (off := 7) (tgt := 56) (by decide +kernel) (by decide) (fun b15 => ?_) (fun b15 => ?_)
      · rw [if_pos b15] at h
        refine E_blk (lv' := [some (vr (some (11, this))), some (vi v1), some (vi v2), some (vi v3), some (vi s0), none, none]) (st' := [vi s0, vi (-1 : Int32), vr (some (11, this))]) (M1 := M) (pc' := 60) (tb_Model hγ) [.aload_n 0, .iconst (.negSucc 0), .iload 4] (by decide +kernel) rfl rfl trivial ?_
        refine E_callV (κ' := k_Model_newThing) (As := [vi (-1 : Int32), vi s0]) (st := []) mv_Model_newThing (Or.inl (tbk_mem (j := 16) (k := 203) rfl)) rfl (by decide +kernel) (Nat.le_of_ble_eq_true rfl) (Nat.le_of_ble_eq_true rfl) rfl (by decide) (lk_Model_newThing hγ this (-1 : Int32) s0 _ M h) (fun _ _ => Qi_r) (fun v M16 hp => Qi_k (R := fun st => E γ k_Model_rowStep 8 63 [some (vr (some (11, this))), some (vi v1), some (vi v2), some (vi v3), some (vi s0), none, none] st M16 (Qv Q)) hp (fun r17 h => ?_))
        refine E_mask [true, true, false, false, true, false, false] rfl ?_
        exact lk_Model_rowStep_j63 hγ this Q v1 s0 r17 M16 h
      · rw [if_neg b15] at h
        refine E_mask [true, true, false, false, true, false, false] rfl ?_
        exact lk_Model_rowStep_j52 hγ this Q v1 s0 M h
  · rw [if_neg b5] at h
    refine E_blk (lv' := [some (vr (some (11, this))), some (vi v1), some (vi v2), some (vi v3), some (vi s0), none, none]) (st' := [vi v1, vr (some (11, this))]) (M1 := M) (pc' := 111) (tb_Model hγ) [.aload_n 0, .iload_n 1] (by decide +kernel) rfl rfl trivial ?_
    refine E_callV (κ' := k_Model_pop) (As := [vi v1]) (st := []) mv_Model_pop (Or.inl (tbk_mem (j := 16) (k := 175) rfl)) rfl (by decide +kernel) (Nat.le_of_ble_eq_true rfl) (Nat.le_of_ble_eq_true rfl) rfl (by decide) (lk_Model_pop hγ this v1 _ M h) (fun _ _ => Qi_r) (fun v M18 hp => Qi_k (R := fun st => E γ k_Model_rowStep 8 114 [some (vr (some (11, this))), some (vi v1), some (vi v2), some (vi v3), some (vi s0), none, none] st M18 (Qv Q)) hp (fun r19 h => ?_))
    refine E_blk (lv' := [some (vr (some (11, this))), some (vi v1), some (vi v2), some (vi v3), some (vi s0), some (vi r19), none]) (st' := [vi r19]) (M1 := M18) (pc' := 118) (tb_Model hγ) [.istore 5, .iload 5] (by decide +kernel) rfl rfl trivial ?_
    refine E_if_ne (off := 10) (tgt := 128) (by decide +kernel) (by decide) (fun b20 => ?_) (fun b20 => ?_)
    · rw [if_pos b20] at h
      refine E_blk (lv' := [some (vr (some (11, this))), some (vi v1), some (vi v2), some (vi v3), some (vi s0), some (vi r19), none]) (st' := [vi (2 : Int32), vi (0 : Int32), vr (some (11, this))]) (M1 := M18) (pc' := 124) (tb_Model hγ) [.aload_n 0, .iconst 0, .iconst 2] (by decide +kernel) rfl rfl trivial ?_
      refine E_callV (κ' := k_Model_throwNew) (As := [vi (0 : Int32), vi (2 : Int32)]) (st := []) mv_Model_throwNew (Or.inl (tbk_mem (j := 16) (k := 111) rfl)) rfl (by decide +kernel) (Nat.le_of_ble_eq_true rfl) (Nat.le_of_ble_eq_true rfl) rfl (by decide) (lk_Model_throwNew hγ this (0 : Int32) (2 : Int32) _ M18 h) (fun _ _ => Qv_r) (fun v M21 hp => Qv_k (R := fun st => E γ k_Model_rowStep 8 127 [some (vr (some (11, this))), some (vi v1), some (vi v2), some (vi v3), some (vi s0), some (vi r19), none] st M21 (Qv Q)) hp (fun h => ?_))
      exact E_vret rfl (by decide +kernel) h
    · rw [if_neg b20] at h
      refine E_blk (lv' := [some (vr (some (11, this))), some (vi v1), some (vi v2), some (vi v3), some (vi s0), some (vi r19), none]) (st' := [vr (mR M18 11 this 45)]) (M1 := M18) (pc' := 132) (tb_Model hγ) [.aload_n 0, .getfield 522] (by decide +kernel) rfl rfl trivial ?_
      obtain ⟨i22, ei22, h⟩ := h
      rw [ei22]
      obtain ⟨c23, h⟩ := h
      refine E_blk (lv' := [some (vr (some (11, this))), some (vi v1), some (vi v2), some (vi v3), some (vi s0), some (vi r19), some (vi (mI M18 159 i22 r19.toNatClampNeg))]) (st' := [vi (45 : Int32), vi v2]) (M1 := M18) (pc' := 143) (tb_Model hγ) [.getfield 887, .iload 5, .iaload, .istore 6, .iload_n 2, .bipush 45] (by decide +kernel) rfl rfl ⟨c23, trivial⟩ ?_
      refine E_icmp_eq (off := 22) (tgt := 165) (by decide +kernel) (by decide) (fun b24 => ?_) (fun b24 => ?_)
      · rw [if_pos b24] at h
        refine E_mask [true, true, true, true, true, true, true] rfl ?_
        exact lk_Model_rowStep_j165 hγ this Q v1 v2 v3 s0 r19 (mI M18 159 i22 r19.toNatClampNeg) M18 h
      · rw [if_neg b24] at h
        refine E_blk (lv' := [some (vr (some (11, this))), some (vi v1), some (vi v2), some (vi v3), some (vi s0), some (vi r19), some (vi (mI M18 159 i22 r19.toNatClampNeg))]) (st' := [vi s0]) (M1 := M18) (pc' := 148) (tb_Model hγ) [.iload 4] (by decide +kernel) rfl rfl trivial ?_
        refine E_if_lt (off := 10) (tgt := 158) (by decide +kernel) (by decide) (fun b40 => ?_) (fun b40 => ?_)
        · rw [if_pos b40] at h
          refine E_mask [true, false, false, false, false, false, false] rfl ?_
          exact lk_Model_rowStep_j158 hγ this Q  M18 h
        · rw [if_neg b40] at h
          refine E_blk (lv' := [some (vr (some (11, this))), some (vi v1), some (vi v2), some (vi v3), some (vi s0), some (vi r19), some (vi (mI M18 159 i22 r19.toNatClampNeg))]) (st' := [vi (mI M18 159 i22 r19.toNatClampNeg), vi s0]) (M1 := M18) (pc' := 155) (tb_Model hγ) [.iload 4, .iload 6] (by decide +kernel) rfl rfl trivial ?_
          refine E_icmp_lt (off := 10) (tgt := 165) (by decide +kernel) (by decide) (fun b42 => ?_) (fun b42 => ?_)
          · rw [if_pos b42] at h
            refine E_mask [true, true, true, true, true, true, true] rfl ?_
            exact lk_Model_rowStep_j165 hγ this Q v1 v2 v3 s0 r19 (mI M18 159 i22 r19.toNatClampNeg) M18 h
          · rw [if_neg b42] at h
            refine E_mask [true, false, false, false, false, false, false] rfl ?_
            exact lk_Model_rowStep_j158 hγ this Q  M18 h
set_option maxRecDepth 4096 in
theorem lk_Model_rowStep_j15 {γ : Gm} (hγ : Gk γ) (this : Nat) (Q : Mem → Prop) (v1 : Int32) (v2 : Int32) (s0 : Int32) (M : Mem) (h : w_Model_rowStep_j15 this Q v1 v2 s0 M) : E γ k_Model_rowStep 8 15 [some (vr (some (11, this))), some (vi v1), some (vi v2), none, none, none, none] [vi s0] M (Qv Q) := by
  unfold w_Model_rowStep_j15 at h
  refine E_blk (lv' := [some (vr (some (11, this))), some (vi v1), some (vi v2), some (vi s0), none, none, none]) (st' := [vi (45 : Int32), vi v2]) (M1 := M) (pc' := 19) (tb_Model hγ) [.istore_n 3, .iload_n 2, .bipush 45] (by decide +kernel) rfl rfl trivial ?_
  refine E_icmp_ne (off := 7) (tgt := 26) (by decide +kernel) (by decide) (fun b4 => ?_) (fun b4 => ?_)
  · rw [if_pos b4] at h
    refine E_blk (lv' := [some (vr (some (11, this))), some (vi v1), some (vi v2), some (vi s0), none, none, none]) (st' := [vi (0 : Int32)]) (M1 := M) (pc' := 23) (tb_Model hγ) [.iconst 0] (by decide +kernel) rfl rfl trivial ?_
    refine E_goto (off := 8) (tgt := 31) (by decide +kernel) (by decide) ?_
    refine E_mask [true, true, true, true, false, false, false] rfl ?_
    exact lk_Model_rowStep_j31 hγ this Q v1 v2 s0 (0 : Int32) M h
  · rw [if_neg b4] at h
    refine E_blk (lv' := [some (vr (some (11, this))), some (vi v1), some (vi v2), some (vi s0), none, none, none]) (st' := [vi v1, vr (some (11, this))]) (M1 := M) (pc' := 28) (tb_Model hγ) [.aload_n 0, .iload_n 1] (by decide +kernel) rfl rfl trivial ?_
    refine E_callV (κ' := k_Model_pop) (As := [vi v1]) (st := []) mv_Model_pop (Or.inl (tbk_mem (j := 16) (k := 175) rfl)) rfl (by decide +kernel) (Nat.le_of_ble_eq_true rfl) (Nat.le_of_ble_eq_true rfl) rfl (by decide) (lk_Model_pop hγ this v1 _ M h) (fun _ _ => Qi_r) (fun v M43 hp => Qi_k (R := fun st => E γ k_Model_rowStep 8 31 [some (vr (some (11, this))), some (vi v1), some (vi v2), some (vi s0), none, none, none] st M43 (Qv Q)) hp (fun r44 h => ?_))
    refine E_mask [true, true, true, true, false, false, false] rfl ?_
    exact lk_Model_rowStep_j31 hγ this Q v1 v2 s0 r44 M43 h
set_option maxRecDepth 4096 in
theorem lk_Model_rowStep {γ : Gm} (hγ : Gk γ) (this : Nat) (a1 : Int32) (a2 : Int32) (Q : Mem → Prop) (M : Mem) (h : w_Model_rowStep this a1 a2 Q M) : E γ k_Model_rowStep 8 0 [some (vr (some (11, this))), some (vi a1), some (vi a2), none, none, none, none] [] M (Qv Q) := by
  unfold w_Model_rowStep at h
  refine E_blk (lv' := [some (vr (some (11, this))), some (vi a1), some (vi a2), none, none, none, none]) (st' := [vi (44 : Int32), vi a2]) (M1 := M) (pc' := 3) (tb_Model hγ) [.iload_n 2, .bipush 44] (by decide +kernel) rfl rfl trivial ?_
  refine E_icmp_ne (off := 11) (tgt := 14) (by decide +kernel) (by decide) (fun b1 => ?_) (fun b1 => ?_)
  · rw [if_pos b1] at h
    refine E_blk (lv' := [some (vr (some (11, this))), some (vi a1), some (vi a2), none, none, none, none]) (st' := [vi a1, vr (some (11, this))]) (M1 := M) (pc' := 8) (tb_Model hγ) [.aload_n 0, .iload_n 1] (by decide +kernel) rfl rfl trivial ?_
    refine E_callV (κ' := k_Model_pop) (As := [vi a1]) (st := []) mv_Model_pop (Or.inl (tbk_mem (j := 16) (k := 175) rfl)) rfl (by decide +kernel) (Nat.le_of_ble_eq_true rfl) (Nat.le_of_ble_eq_true rfl) rfl (by decide) (lk_Model_pop hγ this a1 _ M h) (fun _ _ => Qi_r) (fun v M2 hp => Qi_k (R := fun st => E γ k_Model_rowStep 8 11 [some (vr (some (11, this))), some (vi a1), some (vi a2), none, none, none, none] st M2 (Qv Q)) hp (fun r3 h => ?_))
    refine E_goto (off := 4) (tgt := 15) (by decide +kernel) (by decide) ?_
    refine E_mask [true, true, true, false, false, false, false] rfl ?_
    exact lk_Model_rowStep_j15 hγ this Q a1 a2 r3 M2 h
  · rw [if_neg b1] at h
    refine E_blk (lv' := [some (vr (some (11, this))), some (vi a1), some (vi a2), none, none, none, none]) (st' := [vi (0 : Int32)]) (M1 := M) (pc' := 15) (tb_Model hγ) [.iconst 0] (by decide +kernel) rfl rfl trivial ?_
    refine E_mask [true, true, true, false, false, false, false] rfl ?_
    exact lk_Model_rowStep_j15 hγ this Q a1 a2 (0 : Int32) M h
def w_Model_instruction_j135 (this : Nat) (Q : Int32 → Mem → Prop) (v1 : Int32) (v3 : Int32) (v4 : Int32) (M : Mem) : Prop :=
  w_Model_classStep this v1 v3 v4 (fun r22 M21 => Q r22 M21) M
def w_Model_instruction_j158 (this : Nat) (Q : Int32 → Mem → Prop) (v1 : Int32) (v4 : Int32) (M : Mem) : Prop :=
  w_Model_lockStep this v1 v4 (fun r26 M25 => Q r26 M25) M
def w_Model_instruction_j726 (this : Nat) (Q : Int32 → Mem → Prop) (v1 : Int32) (M : Mem) : Prop :=
  ∃ i34, (mR M 11 this 46) = some (13, i34) ∧ vp_in v1 (mL M 174 i34) ∧ vp_in v1 (mL M 174 i34) ∧ ∃ M37, M37 = (sI M 174 i34 v1.toNatClampNeg ((mI M 174 i34 v1.toNatClampNeg) + (1 : Int32))) ∧ Q (1 : Int32) M37
def w_Model_instruction_j219 (this : Nat) (Q : Int32 → Mem → Prop) (v1 : Int32) (v3 : Int32) (v4 : Int32) (M : Mem) : Prop :=
  ∃ i31, (mR M 11 this 45) = some (12, i31) ∧ ∃ i32, (mR M 12 i31 31) = some (300, i32) ∧ vp_in v3 (mL M 300 i32) ∧ if v4 = (1 : Int32) then (w_Model_push this v1 (mI M 300 i32 v3.toNatClampNeg) (0 : Int32) (fun M148 => w_Model_instruction_j726 this Q v1 M148) M) else (if v4 = (2 : Int32) then (w_Model_push this v1 (0 : Int32) (1 : Int32) (fun M147 => w_Model_instruction_j726 this Q v1 M147) M) else (if v4 = (3 : Int32) then (∃ i144, (mR M 11 this 46) = some (13, i144) ∧ vp_in (((44 : Int32) * v1) + (mI M 300 i32 v3.toNatClampNeg)) (mL M 176 i144) ∧ w_Model_push this v1 (mI M 176 i144 (((44 : Int32) * v1) + (mI M 300 i32 v3.toNatClampNeg)).toNatClampNeg) (0 : Int32) (fun M146 => w_Model_instruction_j726 this Q v1 M146) M) else (if v4 = (4 : Int32) then (∃ i141, (mR M 11 this 46) = some (13, i141) ∧ vp_in (((44 : Int32) * v1) + (mI M 300 i32 v3.toNatClampNeg)) (mL M 176 i141) ∧ w_Model_push this v1 (mI M 176 i141 (((44 : Int32) * v1) + (mI M 300 i32 v3.toNatClampNeg)).toNatClampNeg) (1 : Int32) (fun M143 => w_Model_instruction_j726 this Q v1 M143) M) else (if v4 = (5 : Int32) then (∃ i133, (mR M 11 this 46) = some (13, i133) ∧ w_Model_pop this v1 (fun r135 M134 => vp_in (((44 : Int32) * v1) + (mI M 300 i32 v3.toNatClampNeg)) (mL M134 176 i133) ∧ ∃ M137, M137 = (sI M134 176 i133 (((44 : Int32) * v1) + (mI M 300 i32 v3.toNatClampNeg)).toNatClampNeg r135) ∧ ∃ i138, (mR M137 11 this 46) = some (13, i138) ∧ vp_in (((44 : Int32) * v1) + (mI M 300 i32 v3.toNatClampNeg)) (mL M137 525 i138) ∧ ∃ M140, M140 = (sI M137 525 i138 (((44 : Int32) * v1) + (mI M 300 i32 v3.toNatClampNeg)).toNatClampNeg ((0 : Int32) &&& 1)) ∧ w_Model_instruction_j726 this Q v1 M140) M) else (if v4 = (6 : Int32) then (∃ i125, (mR M 11 this 46) = some (13, i125) ∧ w_Model_pop this v1 (fun r127 M126 => vp_in (((44 : Int32) * v1) + (mI M 300 i32 v3.toNatClampNeg)) (mL M126 176 i125) ∧ ∃ M129, M129 = (sI M126 176 i125 (((44 : Int32) * v1) + (mI M 300 i32 v3.toNatClampNeg)).toNatClampNeg r127) ∧ ∃ i130, (mR M129 11 this 46) = some (13, i130) ∧ vp_in (((44 : Int32) * v1) + (mI M 300 i32 v3.toNatClampNeg)) (mL M129 525 i130) ∧ ∃ M132, M132 = (sI M129 525 i130 (((44 : Int32) * v1) + (mI M 300 i32 v3.toNatClampNeg)).toNatClampNeg ((1 : Int32) &&& 1)) ∧ w_Model_instruction_j726 this Q v1 M132) M) else (if v4 = (7 : Int32) then (∃ i118, (mR M 11 this 46) = some (13, i118) ∧ vp_in (((44 : Int32) * v1) + (mI M 300 i32 v3.toNatClampNeg)) (mL M 176 i118) ∧ ∃ i120, (mR M 11 this 45) = some (12, i120) ∧ ∃ i121, (mR M 12 i120 32) = some (300, i121) ∧ vp_in v3 (mL M 300 i121) ∧ vp_in (((44 : Int32) * v1) + (mI M 300 i32 v3.toNatClampNeg)) (mL M 176 i118) ∧ ∃ M124, M124 = (sI M 176 i118 (((44 : Int32) * v1) + (mI M 300 i32 v3.toNatClampNeg)).toNatClampNeg ((mI M 176 i118 (((44 : Int32) * v1) + (mI M 300 i32 v3.toNatClampNeg)).toNatClampNeg) + (mI M 300 i121 v3.toNatClampNeg))) ∧ w_Model_instruction_j726 this Q v1 M124) else (if v4 = (8 : Int32) then (w_Model_instruction_j726 this Q v1 M) else (if v4 = (9 : Int32) then (w_Model_instruction_j726 this Q v1 M) else (if v4 = (10 : Int32) then (w_Model_instruction_j726 this Q v1 M) else (if v4 = (11 : Int32) then (w_Model_instruction_j726 this Q v1 M) else (if v4 = (12 : Int32) then (w_Model_instruction_j726 this Q v1 M) else (if v4 = (13 : Int32) then (w_Model_instruction_j726 this Q v1 M) else (if v4 = (14 : Int32) then (w_Model_instruction_j726 this Q v1 M) else (if v4 = (15 : Int32) then (w_Model_instruction_j726 this Q v1 M) else (if v4 = (16 : Int32) then (w_Model_instruction_j726 this Q v1 M) else (if v4 = (17 : Int32) then (w_Model_instruction_j726 this Q v1 M) else (if v4 = (18 : Int32) then (w_Model_instruction_j726 this Q v1 M) else (if v4 = (19 : Int32) then (w_Model_pop this v1 (fun r117 M116 => w_Model_instruction_j726 this Q v1 M116) M) else (if v4 = (20 : Int32) then (w_Model_turnStep this v1 v4 (fun M115 => w_Model_instruction_j726 this Q v1 M115) M) else (if v4 = (21 : Int32) then (w_Model_turnStep this v1 v4 (fun M114 => w_Model_instruction_j726 this Q v1 M114) M) else (if v4 = (22 : Int32) then (w_Model_turnStep this v1 v4 (fun M113 => w_Model_instruction_j726 this Q v1 M113) M) else (if v4 = (23 : Int32) then (w_Model_instruction_j726 this Q v1 M) else (if v4 = (24 : Int32) then (w_Model_instruction_j726 this Q v1 M) else (if v4 = (25 : Int32) then (w_Model_instruction_j726 this Q v1 M) else (if v4 = (26 : Int32) then (w_Model_instruction_j726 this Q v1 M) else (if v4 = (27 : Int32) then (w_Model_instruction_j726 this Q v1 M) else (if v4 = (28 : Int32) then (w_Model_instruction_j726 this Q v1 M) else (if v4 = (29 : Int32) then (w_Model_instruction_j726 this Q v1 M) else (if v4 = (30 : Int32) then (w_Model_instruction_j726 this Q v1 M) else (if v4 = (31 : Int32) then (w_Model_instruction_j726 this Q v1 M) else (if v4 = (32 : Int32) then (w_Model_instruction_j726 this Q v1 M) else (if v4 = (33 : Int32) then (w_Model_instruction_j726 this Q v1 M) else (if v4 = (34 : Int32) then (w_Model_instruction_j726 this Q v1 M) else (if v4 = (35 : Int32) then (w_Model_instruction_j726 this Q v1 M) else (if v4 = (36 : Int32) then (w_Model_instruction_j726 this Q v1 M) else (if v4 = (37 : Int32) then (w_Model_instruction_j726 this Q v1 M) else (if v4 = (38 : Int32) then (w_Model_instruction_j726 this Q v1 M) else (if v4 = (39 : Int32) then (w_Model_instruction_j726 this Q v1 M) else (if v4 = (40 : Int32) then (w_Model_instruction_j726 this Q v1 M) else (if v4 = (41 : Int32) then (w_Model_instruction_j726 this Q v1 M) else (if v4 = (42 : Int32) then (w_Model_rowStep this v1 v4 (fun M112 => Q (1 : Int32) M112) M) else (if v4 = (43 : Int32) then (w_Model_rowStep this v1 v4 (fun M111 => Q (1 : Int32) M111) M) else (if v4 = (44 : Int32) then (w_Model_rowStep this v1 v4 (fun M110 => Q (1 : Int32) M110) M) else (if v4 = (45 : Int32) then (w_Model_rowStep this v1 v4 (fun M109 => Q (1 : Int32) M109) M) else (if v4 = (46 : Int32) then (w_Model_instruction_j726 this Q v1 M) else (if v4 = (47 : Int32) then (w_Model_instruction_j726 this Q v1 M) else (if v4 = (48 : Int32) then (w_Model_instruction_j726 this Q v1 M) else (if v4 = (49 : Int32) then (w_Model_instruction_j726 this Q v1 M) else (if v4 = (50 : Int32) then (w_Model_instruction_j726 this Q v1 M) else (if v4 = (51 : Int32) then (w_Model_instruction_j726 this Q v1 M) else (if v4 = (52 : Int32) then (w_Model_instruction_j726 this Q v1 M) else (if v4 = (53 : Int32) then (w_Model_instruction_j726 this Q v1 M) else (if v4 = (54 : Int32) then (w_Model_instruction_j726 this Q v1 M) else (if v4 = (55 : Int32) then (w_Model_instruction_j726 this Q v1 M) else (if v4 = (56 : Int32) then (w_Model_pop this v1 (fun r105 M104 => if r105 = 0 then (w_Model_throwNew this (0 : Int32) (2 : Int32) (fun M107 => Q (1 : Int32) M107) M104) else (w_Model_unwind this r105 (fun M108 => Q (1 : Int32) M108) M104)) M) else (if v4 = (57 : Int32) then (w_Model_endFrame this (0 : Int32) (0 : Int32) (0 : Int32) (fun M103 => Q (1 : Int32) M103) M) else (if v4 = (58 : Int32) then (w_Model_pop this v1 (fun r101 M100 => w_Model_endFrame this (1 : Int32) r101 (0 : Int32) (fun M102 => Q (1 : Int32) M102) M100) M) else (if v4 = (59 : Int32) then (w_Model_pop this v1 (fun r98 M97 => w_Model_endFrame this (1 : Int32) r98 (1 : Int32) (fun M99 => Q (1 : Int32) M99) M97) M) else (w_Model_instruction_j726 this Q v1 M)))))))))))))))))))))))))))))))))))))))))))))))))))))))))))
def w_Model_instruction_j196 (this : Nat) (Q : Int32 → Mem → Prop) (v1 : Int32) (v3 : Int32) (v4 : Int32) (M : Mem) : Prop :=
  if v4 < (8 : Int32) then (w_Model_instruction_j219 this Q v1 v3 v4 M) else (if (18 : Int32) < v4 then (w_Model_instruction_j219 this Q v1 v3 v4 M) else (w_Model_reckon this v1 v4 (fun M150 => Q (1 : Int32) M150) M))
def w_Model_instruction_j107 (this : Nat) (Q : Int32 → Mem → Prop) (v1 : Int32) (v3 : Int32) (v4 : Int32) (M : Mem) : Prop :=
  if v4 = (41 : Int32) then (w_Model_newStep this v1 v3 (fun r19 M18 => Q r19 M18) M) else (if v4 = (54 : Int32) then (w_Model_instruction_j135 this Q v1 v3 v4 M) else (if v4 = (55 : Int32) then (w_Model_instruction_j135 this Q v1 v3 v4 M) else (if v4 = (60 : Int32) then (w_Model_instruction_j158 this Q v1 v4 M) else (if v4 = (61 : Int32) then (w_Model_instruction_j158 this Q v1 v4 M) else (w_Model_tally this v4 (fun M28 => if v4 < (23 : Int32) then (w_Model_instruction_j196 this Q v1 v3 v4 M28) else (if (40 : Int32) < v4 then (w_Model_instruction_j196 this Q v1 v3 v4 M28) else (w_Model_goStep this v1 v3 v4 (fun M152 => Q (1 : Int32) M152) M28))) M)))))
def w_Model_instruction_j83 (this : Nat) (Q : Int32 → Mem → Prop) (v1 : Int32) (v2 : Int32) (v3 : Int32) (v4 : Int32) (M : Mem) : Prop :=
  if v4 < (50 : Int32) then (w_Model_instruction_j107 this Q v1 v3 v4 M) else (if (53 : Int32) < v4 then (w_Model_instruction_j107 this Q v1 v3 v4 M) else (w_Model_callStep this v1 v2 v3 v4 (fun r155 M154 => Q r155 M154) M))
def w_Model_instruction (this : Nat) (Q : Int32 → Mem → Prop) (M : Mem) : Prop :=
  ∃ i1, (mR M 11 this 46) = some (13, i1) ∧ ∃ i2, (mR M 11 this 46) = some (13, i2) ∧ vp_in ((mI M 13 i2 16) - (1 : Int32)) (mL M 171 i1) ∧ ∃ i4, (mR M 11 this 46) = some (13, i4) ∧ vp_in (mI M 171 i1 ((mI M 13 i2 16) - (1 : Int32)).toNatClampNeg) (mL M 173 i4) ∧ ∃ x6 : Int32, x6 = (mI M 173 i4 (mI M 171 i1 ((mI M 13 i2 16) - (1 : Int32)).toNatClampNeg).toNatClampNeg) ∧ ∃ i7, (mR M 11 this 45) = some (12, i7) ∧ vp_in x6 (mL M 149 i7) ∧ ∃ i9, (mR M 11 this 46) = some (13, i9) ∧ vp_in (mI M 171 i1 ((mI M 13 i2 16) - (1 : Int32)).toNatClampNeg) (mL M 174 i9) ∧ ∃ x11 : Int32, x11 = ((mI M 149 i7 x6.toNatClampNeg) + (mI M 174 i9 (mI M 171 i1 ((mI M 13 i2 16) - (1 : Int32)).toNatClampNeg).toNatClampNeg)) ∧ ∃ i12, (mR M 11 this 45) = some (12, i12) ∧ ∃ i13, (mR M 12 i12 30) = some (401, i13) ∧ vp_in x11 (mL M 401 i13) ∧ if (mI M 401 i13 x11.toNatClampNeg) < (46 : Int32) then (w_Model_instruction_j83 this Q (mI M 171 i1 ((mI M 13 i2 16) - (1 : Int32)).toNatClampNeg) x6 x11 (mI M 401 i13 x11.toNatClampNeg) M) else (if (49 : Int32) < (mI M 401 i13 x11.toNatClampNeg) then (w_Model_instruction_j83 this Q (mI M 171 i1 ((mI M 13 i2 16) - (1 : Int32)).toNatClampNeg) x6 x11 (mI M 401 i13 x11.toNatClampNeg) M) else (w_Model_fieldStep this (mI M 171 i1 ((mI M 13 i2 16) - (1 : Int32)).toNatClampNeg) x6 x11 (mI M 401 i13 x11.toNatClampNeg) (fun r158 M157 => Q r158 M157) M))
set_option maxRecDepth 4096 in
theorem lk_Model_instruction_j135 {γ : Gm} (hγ : Gk γ) (this : Nat) (Q : Int32 → Mem → Prop) (v1 : Int32) (v3 : Int32) (v4 : Int32) (M : Mem) (h : w_Model_instruction_j135 this Q v1 v3 v4 M) : E γ k_Model_instruction 132 135 [some (vr (some (11, this))), some (vi v1), none, some (vi v3), some (vi v4), none, none, none] [] M (Qi Q) := by
  unfold w_Model_instruction_j135 at h
  refine E_blk (lv' := [some (vr (some (11, this))), some (vi v1), none, some (vi v3), some (vi v4), none, none, none]) (st' := [vi v4, vi v3, vi v1, vr (some (11, this))]) (M1 := M) (pc' := 140) (tb_Model hγ) [.aload_n 0, .iload_n 1, .iload_n 3, .iload 4] (by decide +kernel) rfl rfl trivial ?_
  refine E_callV (κ' := k_Model_classStep) (As := [vi v1, vi v3, vi v4]) (st := []) mv_Model_classStep (Or.inl (tbk_mem (j := 16) (k := 207) rfl)) rfl (by decide +kernel) (Nat.le_of_ble_eq_true rfl) (Nat.le_of_ble_eq_true rfl) rfl (by decide) (lk_Model_classStep hγ this v1 v3 v4 _ M h) (fun _ _ => Qi_r) (fun v M21 hp => Qi_k (R := fun st => E γ k_Model_instruction 132 143 [some (vr (some (11, this))), some (vi v1), none, some (vi v3), some (vi v4), none, none, none] st M21 (Qi Q)) hp (fun r22 h => ?_))
  exact E_iret rfl (by decide +kernel) h
set_option maxRecDepth 4096 in
theorem lk_Model_instruction_j158 {γ : Gm} (hγ : Gk γ) (this : Nat) (Q : Int32 → Mem → Prop) (v1 : Int32) (v4 : Int32) (M : Mem) (h : w_Model_instruction_j158 this Q v1 v4 M) : E γ k_Model_instruction 132 158 [some (vr (some (11, this))), some (vi v1), none, none, some (vi v4), none, none, none] [] M (Qi Q) := by
  unfold w_Model_instruction_j158 at h
  refine E_blk (lv' := [some (vr (some (11, this))), some (vi v1), none, none, some (vi v4), none, none, none]) (st' := [vi v4, vi v1, vr (some (11, this))]) (M1 := M) (pc' := 162) (tb_Model hγ) [.aload_n 0, .iload_n 1, .iload 4] (by decide +kernel) rfl rfl trivial ?_
  refine E_callV (κ' := k_Model_lockStep) (As := [vi v1, vi v4]) (st := []) mv_Model_lockStep (Or.inl (tbk_mem (j := 16) (k := 211) rfl)) rfl (by decide +kernel) (Nat.le_of_ble_eq_true rfl) (Nat.le_of_ble_eq_true rfl) rfl (by decide) (lk_Model_lockStep hγ this v1 v4 _ M h) (fun _ _ => Qi_r) (fun v M25 hp => Qi_k (R := fun st => E γ k_Model_instruction 132 165 [some (vr (some (11, this))), some (vi v1), none, none, some (vi v4), none, none, none] st M25 (Qi Q)) hp (fun r26 h => ?_))
  exact E_iret rfl (by decide +kernel) h
set_option maxRecDepth 4096 in
theorem lk_Model_instruction_j726 {γ : Gm} (hγ : Gk γ) (this : Nat) (Q : Int32 → Mem → Prop) (v1 : Int32) (M : Mem) (h : w_Model_instruction_j726 this Q v1 M) : E γ k_Model_instruction 132 726 [some (vr (some (11, this))), some (vi v1), none, none, none, none, none, none] [] M (Qi Q) := by
  unfold w_Model_instruction_j726 at h
  refine E_blk (lv' := [some (vr (some (11, this))), some (vi v1), none, none, none, none, none, none]) (st' := [vr (mR M 11 this 46)]) (M1 := M) (pc' := 730) (tb_Model hγ) [.aload_n 0, .getfield 917] (by decide +kernel) rfl rfl trivial ?_
  obtain ⟨i34, ei34, h⟩ := h
  rw [ei34]
  obtain ⟨c35, c36, h⟩ := h
  refine E_blk (lv' := [some (vr (some (11, this))), some (vi v1), none, none, none, none, none, none]) (st' := []) (M1 := (sI M 174 i34 v1.toNatClampNeg ((mI M 174 i34 v1.toNatClampNeg) + (1 : Int32)))) (pc' := 739) (tb_Model hγ) [.getfield 930, .iload_n 1, .dup2, .iaload, .iconst 1, .iadd, .iastore] (by decide +kernel) rfl rfl ⟨c35, c36, trivial⟩ ?_
  obtain ⟨M37, eM37, h⟩ := h
  rw [← eM37]
  refine E_blk (lv' := [some (vr (some (11, this))), some (vi v1), none, none, none, none, none, none]) (st' := [vi (1 : Int32)]) (M1 := M37) (pc' := 740) (tb_Model hγ) [.iconst 1] (by decide +kernel) rfl rfl trivial ?_
  exact E_iret rfl (by decide +kernel) h
set_option maxRecDepth 4096 in
theorem lk_Model_instruction_j219 {γ : Gm} (hγ : Gk γ) (this : Nat) (Q : Int32 → Mem → Prop) (v1 : Int32) (v3 : Int32) (v4 : Int32) (M : Mem) (h : w_Model_instruction_j219 this Q v1 v3 v4 M) : E γ k_Model_instruction 132 219 [some (vr (some (11, this))), some (vi v1), none, some (vi v3), some (vi v4), none, none, none] [] M (Qi Q) := by
  unfold w_Model_instruction_j219 at h
  refine E_blk (lv' := [some (vr (some (11, this))), some (vi v1), none, some (vi v3), some (vi v4), none, none, none]) (st' := [vr (mR M 11 this 45)]) (M1 := M) (pc' := 223) (tb_Model hγ) [.aload_n 0, .getfield 522] (by decide +kernel) rfl rfl trivial ?_
  obtain ⟨i31, ei31, h⟩ := h
  rw [ei31]
  refine E_blk (lv' := [some (vr (some (11, this))), some (vi v1), none, some (vi v3), some (vi v4), none, none, none]) (st' := [vr (mR M 12 i31 31)]) (M1 := M) (pc' := 226) (tb_Model hγ) [.getfield 677] (by decide +kernel) rfl rfl trivial ?_
  obtain ⟨i32, ei32, h⟩ := h
  rw [ei32]
  obtain ⟨c33, h⟩ := h
  refine E_blk (lv' := [some (vr (some (11, this))), some (vi v1), none, some (vi v3), some (vi v4), some (vi (mI M 300 i32 v3.toNatClampNeg)), some (vi (((44 : Int32) * v1) + (mI M 300 i32 v3.toNatClampNeg))), none]) (st' := [vi v4]) (M1 := M) (pc' := 241) (tb_Model hγ) [.iload_n 3, .iaload, .istore 5, .bipush 44, .iload_n 1, .imul, .iload 5, .iadd, .istore 6, .iload 4] (by decide +kernel) rfl rfl ⟨c33, trivial⟩ ?_
  by_cases b38 : v4 = (1 : Int32)
  · rw [if_pos b38] at h
    refine E.up (fun _ _ hJ => J_tswI (len := 251) (dflt := 485) (lo := 1) (hi := 59) (offs := #[251, 262, 272, 291, 310, 339, 368, 485, 485, 485, 485, 485, 485, 485, 485, 485, 485, 485, 393, 402, 402, 402, 485, 485, 485, 485, 485, 485, 485, 485, 485, 485, 485, 485, 485, 485, 485, 485, 485, 485, 485, 412, 412, 412, 412, 485, 485, 485, 485, 485, 485, 485, 485, 485, 485, 421, 450, 459, 472]) (off := 251) (tgt := 492) (by decide +kernel) (by rw [b38]; decide) (by rw [b38]; decide) (by rw [b38]; rfl) (by decide) hJ) ?_
    refine E_blk (lv' := [some (vr (some (11, this))), some (vi v1), none, some (vi v3), some (vi v4), some (vi (mI M 300 i32 v3.toNatClampNeg)), some (vi (((44 : Int32) * v1) + (mI M 300 i32 v3.toNatClampNeg))), none]) (st' := [vi (0 : Int32), vi (mI M 300 i32 v3.toNatClampNeg), vi v1, vr (some (11, this))]) (M1 := M) (pc' := 497) (tb_Model hγ) [.aload_n 0, .iload_n 1, .iload 5, .iconst 0] (by decide +kernel) rfl rfl trivial ?_
    refine E_callV (κ' := k_Model_push) (As := [vi v1, vi (mI M 300 i32 v3.toNatClampNeg), vi (0 : Int32)]) (st := []) mv_Model_push (Or.inl (tbk_mem (j := 16) (k := 135) rfl)) rfl (by decide +kernel) (Nat.le_of_ble_eq_true rfl) (Nat.le_of_ble_eq_true rfl) rfl (by decide) (lk_Model_push hγ this v1 (mI M 300 i32 v3.toNatClampNeg) (0 : Int32) _ M h) (fun _ _ => Qv_r) (fun v M148 hp => Qv_k (R := fun st => E γ k_Model_instruction 132 500 [some (vr (some (11, this))), some (vi v1), none, some (vi v3), some (vi v4), some (vi (mI M 300 i32 v3.toNatClampNeg)), some (vi (((44 : Int32) * v1) + (mI M 300 i32 v3.toNatClampNeg))), none] st M148 (Qi Q)) hp (fun h => ?_))
    refine E_goto (off := 226) (tgt := 726) (by decide +kernel) (by decide) ?_
    refine E_mask [true, true, false, false, false, false, false, false] rfl ?_
    exact lk_Model_instruction_j726 hγ this Q v1 M148 h
  · rw [if_neg b38] at h
    by_cases b39 : v4 = (2 : Int32)
    · rw [if_pos b39] at h
      refine E.up (fun _ _ hJ => J_tswI (len := 251) (dflt := 485) (lo := 1) (hi := 59) (offs := #[251, 262, 272, 291, 310, 339, 368, 485, 485, 485, 485, 485, 485, 485, 485, 485, 485, 485, 393, 402, 402, 402, 485, 485, 485, 485, 485, 485, 485, 485, 485, 485, 485, 485, 485, 485, 485, 485, 485, 485, 485, 412, 412, 412, 412, 485, 485, 485, 485, 485, 485, 485, 485, 485, 485, 421, 450, 459, 472]) (off := 262) (tgt := 503) (by decide +kernel) (by rw [b39]; decide) (by rw [b39]; decide) (by rw [b39]; rfl) (by decide) hJ) ?_
      refine E_blk (lv' := [some (vr (some (11, this))), some (vi v1), none, some (vi v3), some (vi v4), some (vi (mI M 300 i32 v3.toNatClampNeg)), some (vi (((44 : Int32) * v1) + (mI M 300 i32 v3.toNatClampNeg))), none]) (st' := [vi (1 : Int32), vi (0 : Int32), vi v1, vr (some (11, this))]) (M1 := M) (pc' := 507) (tb_Model hγ) [.aload_n 0, .iload_n 1, .iconst 0, .iconst 1] (by decide +kernel) rfl rfl trivial ?_
      refine E_callV (κ' := k_Model_push) (As := [vi v1, vi (0 : Int32), vi (1 : Int32)]) (st := []) mv_Model_push (Or.inl (tbk_mem (j := 16) (k := 135) rfl)) rfl (by decide +kernel) (Nat.le_of_ble_eq_true rfl) (Nat.le_of_ble_eq_true rfl) rfl (by decide) (lk_Model_push hγ this v1 (0 : Int32) (1 : Int32) _ M h) (fun _ _ => Qv_r) (fun v M147 hp => Qv_k (R := fun st => E γ k_Model_instruction 132 510 [some (vr (some (11, this))), some (vi v1), none, some (vi v3), some (vi v4), some (vi (mI M 300 i32 v3.toNatClampNeg)), some (vi (((44 : Int32) * v1) + (mI M 300 i32 v3.toNatClampNeg))), none] st M147 (Qi Q)) hp (fun h => ?_))
      refine E_goto (off := 216) (tgt := 726) (by decide +kernel) (by decide) ?_
      refine E_mask [true, true, false, false, false, false, false, false] rfl ?_
      exact lk_Model_instruction_j726 hγ this Q v1 M147 h
    · rw [if_neg b39] at h
      by_cases b40 : v4 = (3 : Int32)
      · rw [if_pos b40] at h
        refine E.up (fun _ _ hJ => J_tswI (len := 251) (dflt := 485) (lo := 1) (hi := 59) (offs := #[251, 262, 272, 291, 310, 339, 368, 485, 485, 485, 485, 485, 485, 485, 485, 485, 485, 485, 393, 402, 402, 402, 485, 485, 485, 485, 485, 485, 485, 485, 485, 485, 485, 485, 485, 485, 485, 485, 485, 485, 485, 412, 412, 412, 412, 485, 485, 485, 485, 485, 485, 485, 485, 485, 485, 421, 450, 459, 472]) (off := 272) (tgt := 513) (by decide +kernel) (by rw [b40]; decide) (by rw [b40]; decide) (by rw [b40]; rfl) (by decide) hJ) ?_
        refine E_blk (lv' := [some (vr (some (11, this))), some (vi v1), none, some (vi v3), some (vi v4), some (vi (mI M 300 i32 v3.toNatClampNeg)), some (vi (((44 : Int32) * v1) + (mI M 300 i32 v3.toNatClampNeg))), none]) (st' := [vr (mR M 11 this 46), vi v1, vr (some (11, this))]) (M1 := M) (pc' := 519) (tb_Model hγ) [.aload_n 0, .iload_n 1, .aload_n 0, .getfield 917] (by decide +kernel) rfl rfl trivial ?_
        obtain ⟨i144, ei144, h⟩ := h
        rw [ei144]
        obtain ⟨c145, h⟩ := h
        refine E_blk (lv' := [some (vr (some (11, this))), some (vi v1), none, some (vi v3), some (vi v4), some (vi (mI M 300 i32 v3.toNatClampNeg)), some (vi (((44 : Int32) * v1) + (mI M 300 i32 v3.toNatClampNeg))), none]) (st' := [vi (0 : Int32), vi (mI M 176 i144 (((44 : Int32) * v1) + (mI M 300 i32 v3.toNatClampNeg)).toNatClampNeg), vi v1, vr (some (11, this))]) (M1 := M) (pc' := 526) (tb_Model hγ) [.getfield 936, .iload 6, .iaload, .iconst 0] (by decide +kernel) rfl rfl ⟨c145, trivial⟩ ?_
        refine E_callV (κ' := k_Model_push) (As := [vi v1, vi (mI M 176 i144 (((44 : Int32) * v1) + (mI M 300 i32 v3.toNatClampNeg)).toNatClampNeg), vi (0 : Int32)]) (st := []) mv_Model_push (Or.inl (tbk_mem (j := 16) (k := 135) rfl)) rfl (by decide +kernel) (Nat.le_of_ble_eq_true rfl) (Nat.le_of_ble_eq_true rfl) rfl (by decide) (lk_Model_push hγ this v1 (mI M 176 i144 (((44 : Int32) * v1) + (mI M 300 i32 v3.toNatClampNeg)).toNatClampNeg) (0 : Int32) _ M h) (fun _ _ => Qv_r) (fun v M146 hp => Qv_k (R := fun st => E γ k_Model_instruction 132 529 [some (vr (some (11, this))), some (vi v1), none, some (vi v3), some (vi v4), some (vi (mI M 300 i32 v3.toNatClampNeg)), some (vi (((44 : Int32) * v1) + (mI M 300 i32 v3.toNatClampNeg))), none] st M146 (Qi Q)) hp (fun h => ?_))
        refine E_goto (off := 197) (tgt := 726) (by decide +kernel) (by decide) ?_
        refine E_mask [true, true, false, false, false, false, false, false] rfl ?_
        exact lk_Model_instruction_j726 hγ this Q v1 M146 h
      · rw [if_neg b40] at h
        by_cases b41 : v4 = (4 : Int32)
        · rw [if_pos b41] at h
          refine E.up (fun _ _ hJ => J_tswI (len := 251) (dflt := 485) (lo := 1) (hi := 59) (offs := #[251, 262, 272, 291, 310, 339, 368, 485, 485, 485, 485, 485, 485, 485, 485, 485, 485, 485, 393, 402, 402, 402, 485, 485, 485, 485, 485, 485, 485, 485, 485, 485, 485, 485, 485, 485, 485, 485, 485, 485, 485, 412, 412, 412, 412, 485, 485, 485, 485, 485, 485, 485, 485, 485, 485, 421, 450, 459, 472]) (off := 291) (tgt := 532) (by decide +kernel) (by rw [b41]; decide) (by rw [b41]; decide) (by rw [b41]; rfl) (by decide) hJ) ?_
          refine E_blk (lv' := [some (vr (some (11, this))), some (vi v1), none, some (vi v3), some (vi v4), some (vi (mI M 300 i32 v3.toNatClampNeg)), some (vi (((44 : Int32) * v1) + (mI M 300 i32 v3.toNatClampNeg))), none]) (st' := [vr (mR M 11 this 46), vi v1, vr (some (11, this))]) (M1 := M) (pc' := 538) (tb_Model hγ) [.aload_n 0, .iload_n 1, .aload_n 0, .getfield 917] (by decide +kernel) rfl rfl trivial ?_
          obtain ⟨i141, ei141, h⟩ := h
          rw [ei141]
          obtain ⟨c142, h⟩ := h
          refine E_blk (lv' := [some (vr (some (11, this))), some (vi v1), none, some (vi v3), some (vi v4), some (vi (mI M 300 i32 v3.toNatClampNeg)), some (vi (((44 : Int32) * v1) + (mI M 300 i32 v3.toNatClampNeg))), none]) (st' := [vi (1 : Int32), vi (mI M 176 i141 (((44 : Int32) * v1) + (mI M 300 i32 v3.toNatClampNeg)).toNatClampNeg), vi v1, vr (some (11, this))]) (M1 := M) (pc' := 545) (tb_Model hγ) [.getfield 936, .iload 6, .iaload, .iconst 1] (by decide +kernel) rfl rfl ⟨c142, trivial⟩ ?_
          refine E_callV (κ' := k_Model_push) (As := [vi v1, vi (mI M 176 i141 (((44 : Int32) * v1) + (mI M 300 i32 v3.toNatClampNeg)).toNatClampNeg), vi (1 : Int32)]) (st := []) mv_Model_push (Or.inl (tbk_mem (j := 16) (k := 135) rfl)) rfl (by decide +kernel) (Nat.le_of_ble_eq_true rfl) (Nat.le_of_ble_eq_true rfl) rfl (by decide) (lk_Model_push hγ this v1 (mI M 176 i141 (((44 : Int32) * v1) + (mI M 300 i32 v3.toNatClampNeg)).toNatClampNeg) (1 : Int32) _ M h) (fun _ _ => Qv_r) (fun v M143 hp => Qv_k (R := fun st => E γ k_Model_instruction 132 548 [some (vr (some (11, this))), some (vi v1), none, some (vi v3), some (vi v4), some (vi (mI M 300 i32 v3.toNatClampNeg)), some (vi (((44 : Int32) * v1) + (mI M 300 i32 v3.toNatClampNeg))), none] st M143 (Qi Q)) hp (fun h => ?_))
          refine E_goto (off := 178) (tgt := 726) (by decide +kernel) (by decide) ?_
          refine E_mask [true, true, false, false, false, false, false, false] rfl ?_
          exact lk_Model_instruction_j726 hγ this Q v1 M143 h
        · rw [if_neg b41] at h
          by_cases b42 : v4 = (5 : Int32)
          · rw [if_pos b42] at h
            refine E.up (fun _ _ hJ => J_tswI (len := 251) (dflt := 485) (lo := 1) (hi := 59) (offs := #[251, 262, 272, 291, 310, 339, 368, 485, 485, 485, 485, 485, 485, 485, 485, 485, 485, 485, 393, 402, 402, 402, 485, 485, 485, 485, 485, 485, 485, 485, 485, 485, 485, 485, 485, 485, 485, 485, 485, 485, 485, 412, 412, 412, 412, 485, 485, 485, 485, 485, 485, 485, 485, 485, 485, 421, 450, 459, 472]) (off := 310) (tgt := 551) (by decide +kernel) (by rw [b42]; decide) (by rw [b42]; decide) (by rw [b42]; rfl) (by decide) hJ) ?_
            refine E_blk (lv' := [some (vr (some (11, this))), some (vi v1), none, some (vi v3), some (vi v4), some (vi (mI M 300 i32 v3.toNatClampNeg)), some (vi (((44 : Int32) * v1) + (mI M 300 i32 v3.toNatClampNeg))), none]) (st' := [vr (mR M 11 this 46)]) (M1 := M) (pc' := 555) (tb_Model hγ) [.aload_n 0, .getfield 917] (by decide +kernel) rfl rfl trivial ?_
            obtain ⟨i133, ei133, h⟩ := h
            rw [ei133]
            refine E_blk (lv' := [some (vr (some (11, this))), some (vi v1), none, some (vi v3), some (vi v4), some (vi (mI M 300 i32 v3.toNatClampNeg)), some (vi (((44 : Int32) * v1) + (mI M 300 i32 v3.toNatClampNeg))), none]) (st' := [vi v1, vr (some (11, this)), vi (((44 : Int32) * v1) + (mI M 300 i32 v3.toNatClampNeg)), vr (some (176, i133))]) (M1 := M) (pc' := 562) (tb_Model hγ) [.getfield 936, .iload 6, .aload_n 0, .iload_n 1] (by decide +kernel) rfl rfl trivial ?_
            refine E_callV (κ' := k_Model_pop) (As := [vi v1]) (st := [vi (((44 : Int32) * v1) + (mI M 300 i32 v3.toNatClampNeg)), vr (some (176, i133))]) mv_Model_pop (Or.inl (tbk_mem (j := 16) (k := 175) rfl)) rfl (by decide +kernel) (Nat.le_of_ble_eq_true rfl) (Nat.le_of_ble_eq_true rfl) rfl (by decide) (lk_Model_pop hγ this v1 _ M h) (fun _ _ => Qi_r) (fun v M134 hp => Qi_k (R := fun st => E γ k_Model_instruction 132 565 [some (vr (some (11, this))), some (vi v1), none, some (vi v3), some (vi v4), some (vi (mI M 300 i32 v3.toNatClampNeg)), some (vi (((44 : Int32) * v1) + (mI M 300 i32 v3.toNatClampNeg))), none] st M134 (Qi Q)) hp (fun r135 h => ?_))
            obtain ⟨c136, h⟩ := h
            refine E_blk (lv' := [some (vr (some (11, this))), some (vi v1), none, some (vi v3), some (vi v4), some (vi (mI M 300 i32 v3.toNatClampNeg)), some (vi (((44 : Int32) * v1) + (mI M 300 i32 v3.toNatClampNeg))), none]) (st' := []) (M1 := (sI M134 176 i133 (((44 : Int32) * v1) + (mI M 300 i32 v3.toNatClampNeg)).toNatClampNeg r135)) (pc' := 566) (tb_Model hγ) [.iastore] (by decide +kernel) rfl rfl ⟨c136, trivial⟩ ?_
            obtain ⟨M137, eM137, h⟩ := h
            rw [← eM137]
            refine E_blk (lv' := [some (vr (some (11, this))), some (vi v1), none, some (vi v3), some (vi v4), some (vi (mI M 300 i32 v3.toNatClampNeg)), some (vi (((44 : Int32) * v1) + (mI M 300 i32 v3.toNatClampNeg))), none]) (st' := [vr (mR M137 11 this 46)]) (M1 := M137) (pc' := 570) (tb_Model hγ) [.aload_n 0, .getfield 917] (by decide +kernel) rfl rfl trivial ?_
            obtain ⟨i138, ei138, h⟩ := h
            rw [ei138]
            obtain ⟨c139, h⟩ := h
            refine E_blk (lv' := [some (vr (some (11, this))), some (vi v1), none, some (vi v3), some (vi v4), some (vi (mI M 300 i32 v3.toNatClampNeg)), some (vi (((44 : Int32) * v1) + (mI M 300 i32 v3.toNatClampNeg))), none]) (st' := []) (M1 := (sI M137 525 i138 (((44 : Int32) * v1) + (mI M 300 i32 v3.toNatClampNeg)).toNatClampNeg ((0 : Int32) &&& 1))) (pc' := 577) (tb_Model hγ) [.getfield 939, .iload 6, .iconst 0, .bastore] (by decide +kernel) rfl rfl ⟨c139, trivial⟩ ?_
            obtain ⟨M140, eM140, h⟩ := h
            rw [← eM140]
            refine E_goto (off := 149) (tgt := 726) (by decide +kernel) (by decide) ?_
            refine E_mask [true, true, false, false, false, false, false, false] rfl ?_
            exact lk_Model_instruction_j726 hγ this Q v1 M140 h
          · rw [if_neg b42] at h
            by_cases b43 : v4 = (6 : Int32)
            · rw [if_pos b43] at h
              refine E.up (fun _ _ hJ => J_tswI (len := 251) (dflt := 485) (lo := 1) (hi := 59) (offs := #[251, 262, 272, 291, 310, 339, 368, 485, 485, 485, 485, 485, 485, 485, 485, 485, 485, 485, 393, 402, 402, 402, 485, 485, 485, 485, 485, 485, 485, 485, 485, 485, 485, 485, 485, 485, 485, 485, 485, 485, 485, 412, 412, 412, 412, 485, 485, 485, 485, 485, 485, 485, 485, 485, 485, 421, 450, 459, 472]) (off := 339) (tgt := 580) (by decide +kernel) (by rw [b43]; decide) (by rw [b43]; decide) (by rw [b43]; rfl) (by decide) hJ) ?_
              refine E_blk (lv' := [some (vr (some (11, this))), some (vi v1), none, some (vi v3), some (vi v4), some (vi (mI M 300 i32 v3.toNatClampNeg)), some (vi (((44 : Int32) * v1) + (mI M 300 i32 v3.toNatClampNeg))), none]) (st' := [vr (mR M 11 this 46)]) (M1 := M) (pc' := 584) (tb_Model hγ) [.aload_n 0, .getfield 917] (by decide +kernel) rfl rfl trivial ?_
              obtain ⟨i125, ei125, h⟩ := h
              rw [ei125]
              refine E_blk (lv' := [some (vr (some (11, this))), some (vi v1), none, some (vi v3), some (vi v4), some (vi (mI M 300 i32 v3.toNatClampNeg)), some (vi (((44 : Int32) * v1) + (mI M 300 i32 v3.toNatClampNeg))), none]) (st' := [vi v1, vr (some (11, this)), vi (((44 : Int32) * v1) + (mI M 300 i32 v3.toNatClampNeg)), vr (some (176, i125))]) (M1 := M) (pc' := 591) (tb_Model hγ) [.getfield 936, .iload 6, .aload_n 0, .iload_n 1] (by decide +kernel) rfl rfl trivial ?_
              refine E_callV (κ' := k_Model_pop) (As := [vi v1]) (st := [vi (((44 : Int32) * v1) + (mI M 300 i32 v3.toNatClampNeg)), vr (some (176, i125))]) mv_Model_pop (Or.inl (tbk_mem (j := 16) (k := 175) rfl)) rfl (by decide +kernel) (Nat.le_of_ble_eq_true rfl) (Nat.le_of_ble_eq_true rfl) rfl (by decide) (lk_Model_pop hγ this v1 _ M h) (fun _ _ => Qi_r) (fun v M126 hp => Qi_k (R := fun st => E γ k_Model_instruction 132 594 [some (vr (some (11, this))), some (vi v1), none, some (vi v3), some (vi v4), some (vi (mI M 300 i32 v3.toNatClampNeg)), some (vi (((44 : Int32) * v1) + (mI M 300 i32 v3.toNatClampNeg))), none] st M126 (Qi Q)) hp (fun r127 h => ?_))
              obtain ⟨c128, h⟩ := h
              refine E_blk (lv' := [some (vr (some (11, this))), some (vi v1), none, some (vi v3), some (vi v4), some (vi (mI M 300 i32 v3.toNatClampNeg)), some (vi (((44 : Int32) * v1) + (mI M 300 i32 v3.toNatClampNeg))), none]) (st' := []) (M1 := (sI M126 176 i125 (((44 : Int32) * v1) + (mI M 300 i32 v3.toNatClampNeg)).toNatClampNeg r127)) (pc' := 595) (tb_Model hγ) [.iastore] (by decide +kernel) rfl rfl ⟨c128, trivial⟩ ?_
              obtain ⟨M129, eM129, h⟩ := h
              rw [← eM129]
              refine E_blk (lv' := [some (vr (some (11, this))), some (vi v1), none, some (vi v3), some (vi v4), some (vi (mI M 300 i32 v3.toNatClampNeg)), some (vi (((44 : Int32) * v1) + (mI M 300 i32 v3.toNatClampNeg))), none]) (st' := [vr (mR M129 11 this 46)]) (M1 := M129) (pc' := 599) (tb_Model hγ) [.aload_n 0, .getfield 917] (by decide +kernel) rfl rfl trivial ?_
              obtain ⟨i130, ei130, h⟩ := h
              rw [ei130]
              obtain ⟨c131, h⟩ := h
              refine E_blk (lv' := [some (vr (some (11, this))), some (vi v1), none, some (vi v3), some (vi v4), some (vi (mI M 300 i32 v3.toNatClampNeg)), some (vi (((44 : Int32) * v1) + (mI M 300 i32 v3.toNatClampNeg))), none]) (st' := []) (M1 := (sI M129 525 i130 (((44 : Int32) * v1) + (mI M 300 i32 v3.toNatClampNeg)).toNatClampNeg ((1 : Int32) &&& 1))) (pc' := 606) (tb_Model hγ) [.getfield 939, .iload 6, .iconst 1, .bastore] (by decide +kernel) rfl rfl ⟨c131, trivial⟩ ?_
              obtain ⟨M132, eM132, h⟩ := h
              rw [← eM132]
              refine E_goto (off := 120) (tgt := 726) (by decide +kernel) (by decide) ?_
              refine E_mask [true, true, false, false, false, false, false, false] rfl ?_
              exact lk_Model_instruction_j726 hγ this Q v1 M132 h
            · rw [if_neg b43] at h
              by_cases b44 : v4 = (7 : Int32)
              · rw [if_pos b44] at h
                refine E.up (fun _ _ hJ => J_tswI (len := 251) (dflt := 485) (lo := 1) (hi := 59) (offs := #[251, 262, 272, 291, 310, 339, 368, 485, 485, 485, 485, 485, 485, 485, 485, 485, 485, 485, 393, 402, 402, 402, 485, 485, 485, 485, 485, 485, 485, 485, 485, 485, 485, 485, 485, 485, 485, 485, 485, 485, 485, 412, 412, 412, 412, 485, 485, 485, 485, 485, 485, 485, 485, 485, 485, 421, 450, 459, 472]) (off := 368) (tgt := 609) (by decide +kernel) (by rw [b44]; decide) (by rw [b44]; decide) (by rw [b44]; rfl) (by decide) hJ) ?_
                refine E_blk (lv' := [some (vr (some (11, this))), some (vi v1), none, some (vi v3), some (vi v4), some (vi (mI M 300 i32 v3.toNatClampNeg)), some (vi (((44 : Int32) * v1) + (mI M 300 i32 v3.toNatClampNeg))), none]) (st' := [vr (mR M 11 this 46)]) (M1 := M) (pc' := 613) (tb_Model hγ) [.aload_n 0, .getfield 917] (by decide +kernel) rfl rfl trivial ?_
                obtain ⟨i118, ei118, h⟩ := h
                rw [ei118]
                obtain ⟨c119, h⟩ := h
                refine E_blk (lv' := [some (vr (some (11, this))), some (vi v1), none, some (vi v3), some (vi v4), some (vi (mI M 300 i32 v3.toNatClampNeg)), some (vi (((44 : Int32) * v1) + (mI M 300 i32 v3.toNatClampNeg))), none]) (st' := [vr (mR M 11 this 45), vi (mI M 176 i118 (((44 : Int32) * v1) + (mI M 300 i32 v3.toNatClampNeg)).toNatClampNeg), vi (((44 : Int32) * v1) + (mI M 300 i32 v3.toNatClampNeg)), vr (some (176, i118))]) (M1 := M) (pc' := 624) (tb_Model hγ) [.getfield 936, .iload 6, .dup2, .iaload, .aload_n 0, .getfield 522] (by decide +kernel) rfl rfl ⟨c119, trivial⟩ ?_
                obtain ⟨i120, ei120, h⟩ := h
                rw [ei120]
                refine E_blk (lv' := [some (vr (some (11, this))), some (vi v1), none, some (vi v3), some (vi v4), some (vi (mI M 300 i32 v3.toNatClampNeg)), some (vi (((44 : Int32) * v1) + (mI M 300 i32 v3.toNatClampNeg))), none]) (st' := [vr (mR M 12 i120 32), vi (mI M 176 i118 (((44 : Int32) * v1) + (mI M 300 i32 v3.toNatClampNeg)).toNatClampNeg), vi (((44 : Int32) * v1) + (mI M 300 i32 v3.toNatClampNeg)), vr (some (176, i118))]) (M1 := M) (pc' := 627) (tb_Model hγ) [.getfield 680] (by decide +kernel) rfl rfl trivial ?_
                obtain ⟨i121, ei121, h⟩ := h
                rw [ei121]
                obtain ⟨c122, c123, h⟩ := h
                refine E_blk (lv' := [some (vr (some (11, this))), some (vi v1), none, some (vi v3), some (vi v4), some (vi (mI M 300 i32 v3.toNatClampNeg)), some (vi (((44 : Int32) * v1) + (mI M 300 i32 v3.toNatClampNeg))), none]) (st' := []) (M1 := (sI M 176 i118 (((44 : Int32) * v1) + (mI M 300 i32 v3.toNatClampNeg)).toNatClampNeg ((mI M 176 i118 (((44 : Int32) * v1) + (mI M 300 i32 v3.toNatClampNeg)).toNatClampNeg) + (mI M 300 i121 v3.toNatClampNeg)))) (pc' := 631) (tb_Model hγ) [.iload_n 3, .iaload, .iadd, .iastore] (by decide +kernel) rfl rfl ⟨c122, c123, trivial⟩ ?_
                obtain ⟨M124, eM124, h⟩ := h
                rw [← eM124]
                refine E_goto (off := 95) (tgt := 726) (by decide +kernel) (by decide) ?_
                refine E_mask [true, true, false, false, false, false, false, false] rfl ?_
                exact lk_Model_instruction_j726 hγ this Q v1 M124 h
              · rw [if_neg b44] at h
                by_cases b45 : v4 = (8 : Int32)
                · rw [if_pos b45] at h
                  refine E.up (fun _ _ hJ => J_tswI (len := 251) (dflt := 485) (lo := 1) (hi := 59) (offs := #[251, 262, 272, 291, 310, 339, 368, 485, 485, 485, 485, 485, 485, 485, 485, 485, 485, 485, 393, 402, 402, 402, 485, 485, 485, 485, 485, 485, 485, 485, 485, 485, 485, 485, 485, 485, 485, 485, 485, 485, 485, 412, 412, 412, 412, 485, 485, 485, 485, 485, 485, 485, 485, 485, 485, 421, 450, 459, 472]) (off := 485) (tgt := 726) (by decide +kernel) (by rw [b45]; decide) (by rw [b45]; decide) (by rw [b45]; rfl) (by decide) hJ) ?_
                  refine E_mask [true, true, false, false, false, false, false, false] rfl ?_
                  exact lk_Model_instruction_j726 hγ this Q v1 M h
                · rw [if_neg b45] at h
                  by_cases b46 : v4 = (9 : Int32)
                  · rw [if_pos b46] at h
                    refine E.up (fun _ _ hJ => J_tswI (len := 251) (dflt := 485) (lo := 1) (hi := 59) (offs := #[251, 262, 272, 291, 310, 339, 368, 485, 485, 485, 485, 485, 485, 485, 485, 485, 485, 485, 393, 402, 402, 402, 485, 485, 485, 485, 485, 485, 485, 485, 485, 485, 485, 485, 485, 485, 485, 485, 485, 485, 485, 412, 412, 412, 412, 485, 485, 485, 485, 485, 485, 485, 485, 485, 485, 421, 450, 459, 472]) (off := 485) (tgt := 726) (by decide +kernel) (by rw [b46]; decide) (by rw [b46]; decide) (by rw [b46]; rfl) (by decide) hJ) ?_
                    refine E_mask [true, true, false, false, false, false, false, false] rfl ?_
                    exact lk_Model_instruction_j726 hγ this Q v1 M h
                  · rw [if_neg b46] at h
                    by_cases b47 : v4 = (10 : Int32)
                    · rw [if_pos b47] at h
                      refine E.up (fun _ _ hJ => J_tswI (len := 251) (dflt := 485) (lo := 1) (hi := 59) (offs := #[251, 262, 272, 291, 310, 339, 368, 485, 485, 485, 485, 485, 485, 485, 485, 485, 485, 485, 393, 402, 402, 402, 485, 485, 485, 485, 485, 485, 485, 485, 485, 485, 485, 485, 485, 485, 485, 485, 485, 485, 485, 412, 412, 412, 412, 485, 485, 485, 485, 485, 485, 485, 485, 485, 485, 421, 450, 459, 472]) (off := 485) (tgt := 726) (by decide +kernel) (by rw [b47]; decide) (by rw [b47]; decide) (by rw [b47]; rfl) (by decide) hJ) ?_
                      refine E_mask [true, true, false, false, false, false, false, false] rfl ?_
                      exact lk_Model_instruction_j726 hγ this Q v1 M h
                    · rw [if_neg b47] at h
                      by_cases b48 : v4 = (11 : Int32)
                      · rw [if_pos b48] at h
                        refine E.up (fun _ _ hJ => J_tswI (len := 251) (dflt := 485) (lo := 1) (hi := 59) (offs := #[251, 262, 272, 291, 310, 339, 368, 485, 485, 485, 485, 485, 485, 485, 485, 485, 485, 485, 393, 402, 402, 402, 485, 485, 485, 485, 485, 485, 485, 485, 485, 485, 485, 485, 485, 485, 485, 485, 485, 485, 485, 412, 412, 412, 412, 485, 485, 485, 485, 485, 485, 485, 485, 485, 485, 421, 450, 459, 472]) (off := 485) (tgt := 726) (by decide +kernel) (by rw [b48]; decide) (by rw [b48]; decide) (by rw [b48]; rfl) (by decide) hJ) ?_
                        refine E_mask [true, true, false, false, false, false, false, false] rfl ?_
                        exact lk_Model_instruction_j726 hγ this Q v1 M h
                      · rw [if_neg b48] at h
                        by_cases b49 : v4 = (12 : Int32)
                        · rw [if_pos b49] at h
                          refine E.up (fun _ _ hJ => J_tswI (len := 251) (dflt := 485) (lo := 1) (hi := 59) (offs := #[251, 262, 272, 291, 310, 339, 368, 485, 485, 485, 485, 485, 485, 485, 485, 485, 485, 485, 393, 402, 402, 402, 485, 485, 485, 485, 485, 485, 485, 485, 485, 485, 485, 485, 485, 485, 485, 485, 485, 485, 485, 412, 412, 412, 412, 485, 485, 485, 485, 485, 485, 485, 485, 485, 485, 421, 450, 459, 472]) (off := 485) (tgt := 726) (by decide +kernel) (by rw [b49]; decide) (by rw [b49]; decide) (by rw [b49]; rfl) (by decide) hJ) ?_
                          refine E_mask [true, true, false, false, false, false, false, false] rfl ?_
                          exact lk_Model_instruction_j726 hγ this Q v1 M h
                        · rw [if_neg b49] at h
                          by_cases b50 : v4 = (13 : Int32)
                          · rw [if_pos b50] at h
                            refine E.up (fun _ _ hJ => J_tswI (len := 251) (dflt := 485) (lo := 1) (hi := 59) (offs := #[251, 262, 272, 291, 310, 339, 368, 485, 485, 485, 485, 485, 485, 485, 485, 485, 485, 485, 393, 402, 402, 402, 485, 485, 485, 485, 485, 485, 485, 485, 485, 485, 485, 485, 485, 485, 485, 485, 485, 485, 485, 412, 412, 412, 412, 485, 485, 485, 485, 485, 485, 485, 485, 485, 485, 421, 450, 459, 472]) (off := 485) (tgt := 726) (by decide +kernel) (by rw [b50]; decide) (by rw [b50]; decide) (by rw [b50]; rfl) (by decide) hJ) ?_
                            refine E_mask [true, true, false, false, false, false, false, false] rfl ?_
                            exact lk_Model_instruction_j726 hγ this Q v1 M h
                          · rw [if_neg b50] at h
                            by_cases b51 : v4 = (14 : Int32)
                            · rw [if_pos b51] at h
                              refine E.up (fun _ _ hJ => J_tswI (len := 251) (dflt := 485) (lo := 1) (hi := 59) (offs := #[251, 262, 272, 291, 310, 339, 368, 485, 485, 485, 485, 485, 485, 485, 485, 485, 485, 485, 393, 402, 402, 402, 485, 485, 485, 485, 485, 485, 485, 485, 485, 485, 485, 485, 485, 485, 485, 485, 485, 485, 485, 412, 412, 412, 412, 485, 485, 485, 485, 485, 485, 485, 485, 485, 485, 421, 450, 459, 472]) (off := 485) (tgt := 726) (by decide +kernel) (by rw [b51]; decide) (by rw [b51]; decide) (by rw [b51]; rfl) (by decide) hJ) ?_
                              refine E_mask [true, true, false, false, false, false, false, false] rfl ?_
                              exact lk_Model_instruction_j726 hγ this Q v1 M h
                            · rw [if_neg b51] at h
                              by_cases b52 : v4 = (15 : Int32)
                              · rw [if_pos b52] at h
                                refine E.up (fun _ _ hJ => J_tswI (len := 251) (dflt := 485) (lo := 1) (hi := 59) (offs := #[251, 262, 272, 291, 310, 339, 368, 485, 485, 485, 485, 485, 485, 485, 485, 485, 485, 485, 393, 402, 402, 402, 485, 485, 485, 485, 485, 485, 485, 485, 485, 485, 485, 485, 485, 485, 485, 485, 485, 485, 485, 412, 412, 412, 412, 485, 485, 485, 485, 485, 485, 485, 485, 485, 485, 421, 450, 459, 472]) (off := 485) (tgt := 726) (by decide +kernel) (by rw [b52]; decide) (by rw [b52]; decide) (by rw [b52]; rfl) (by decide) hJ) ?_
                                refine E_mask [true, true, false, false, false, false, false, false] rfl ?_
                                exact lk_Model_instruction_j726 hγ this Q v1 M h
                              · rw [if_neg b52] at h
                                by_cases b53 : v4 = (16 : Int32)
                                · rw [if_pos b53] at h
                                  refine E.up (fun _ _ hJ => J_tswI (len := 251) (dflt := 485) (lo := 1) (hi := 59) (offs := #[251, 262, 272, 291, 310, 339, 368, 485, 485, 485, 485, 485, 485, 485, 485, 485, 485, 485, 393, 402, 402, 402, 485, 485, 485, 485, 485, 485, 485, 485, 485, 485, 485, 485, 485, 485, 485, 485, 485, 485, 485, 412, 412, 412, 412, 485, 485, 485, 485, 485, 485, 485, 485, 485, 485, 421, 450, 459, 472]) (off := 485) (tgt := 726) (by decide +kernel) (by rw [b53]; decide) (by rw [b53]; decide) (by rw [b53]; rfl) (by decide) hJ) ?_
                                  refine E_mask [true, true, false, false, false, false, false, false] rfl ?_
                                  exact lk_Model_instruction_j726 hγ this Q v1 M h
                                · rw [if_neg b53] at h
                                  by_cases b54 : v4 = (17 : Int32)
                                  · rw [if_pos b54] at h
                                    refine E.up (fun _ _ hJ => J_tswI (len := 251) (dflt := 485) (lo := 1) (hi := 59) (offs := #[251, 262, 272, 291, 310, 339, 368, 485, 485, 485, 485, 485, 485, 485, 485, 485, 485, 485, 393, 402, 402, 402, 485, 485, 485, 485, 485, 485, 485, 485, 485, 485, 485, 485, 485, 485, 485, 485, 485, 485, 485, 412, 412, 412, 412, 485, 485, 485, 485, 485, 485, 485, 485, 485, 485, 421, 450, 459, 472]) (off := 485) (tgt := 726) (by decide +kernel) (by rw [b54]; decide) (by rw [b54]; decide) (by rw [b54]; rfl) (by decide) hJ) ?_
                                    refine E_mask [true, true, false, false, false, false, false, false] rfl ?_
                                    exact lk_Model_instruction_j726 hγ this Q v1 M h
                                  · rw [if_neg b54] at h
                                    by_cases b55 : v4 = (18 : Int32)
                                    · rw [if_pos b55] at h
                                      refine E.up (fun _ _ hJ => J_tswI (len := 251) (dflt := 485) (lo := 1) (hi := 59) (offs := #[251, 262, 272, 291, 310, 339, 368, 485, 485, 485, 485, 485, 485, 485, 485, 485, 485, 485, 393, 402, 402, 402, 485, 485, 485, 485, 485, 485, 485, 485, 485, 485, 485, 485, 485, 485, 485, 485, 485, 485, 485, 412, 412, 412, 412, 485, 485, 485, 485, 485, 485, 485, 485, 485, 485, 421, 450, 459, 472]) (off := 485) (tgt := 726) (by decide +kernel) (by rw [b55]; decide) (by rw [b55]; decide) (by rw [b55]; rfl) (by decide) hJ) ?_
                                      refine E_mask [true, true, false, false, false, false, false, false] rfl ?_
                                      exact lk_Model_instruction_j726 hγ this Q v1 M h
                                    · rw [if_neg b55] at h
                                      by_cases b56 : v4 = (19 : Int32)
                                      · rw [if_pos b56] at h
                                        refine E.up (fun _ _ hJ => J_tswI (len := 251) (dflt := 485) (lo := 1) (hi := 59) (offs := #[251, 262, 272, 291, 310, 339, 368, 485, 485, 485, 485, 485, 485, 485, 485, 485, 485, 485, 393, 402, 402, 402, 485, 485, 485, 485, 485, 485, 485, 485, 485, 485, 485, 485, 485, 485, 485, 485, 485, 485, 485, 412, 412, 412, 412, 485, 485, 485, 485, 485, 485, 485, 485, 485, 485, 421, 450, 459, 472]) (off := 393) (tgt := 634) (by decide +kernel) (by rw [b56]; decide) (by rw [b56]; decide) (by rw [b56]; rfl) (by decide) hJ) ?_
                                        refine E_blk (lv' := [some (vr (some (11, this))), some (vi v1), none, some (vi v3), some (vi v4), some (vi (mI M 300 i32 v3.toNatClampNeg)), some (vi (((44 : Int32) * v1) + (mI M 300 i32 v3.toNatClampNeg))), none]) (st' := [vi v1, vr (some (11, this))]) (M1 := M) (pc' := 636) (tb_Model hγ) [.aload_n 0, .iload_n 1] (by decide +kernel) rfl rfl trivial ?_
                                        refine E_callV (κ' := k_Model_pop) (As := [vi v1]) (st := []) mv_Model_pop (Or.inl (tbk_mem (j := 16) (k := 175) rfl)) rfl (by decide +kernel) (Nat.le_of_ble_eq_true rfl) (Nat.le_of_ble_eq_true rfl) rfl (by decide) (lk_Model_pop hγ this v1 _ M h) (fun _ _ => Qi_r) (fun v M116 hp => Qi_k (R := fun st => E γ k_Model_instruction 132 639 [some (vr (some (11, this))), some (vi v1), none, some (vi v3), some (vi v4), some (vi (mI M 300 i32 v3.toNatClampNeg)), some (vi (((44 : Int32) * v1) + (mI M 300 i32 v3.toNatClampNeg))), none] st M116 (Qi Q)) hp (fun r117 h => ?_))
                                        refine E_blk (lv' := [some (vr (some (11, this))), some (vi v1), none, some (vi v3), some (vi v4), some (vi (mI M 300 i32 v3.toNatClampNeg)), some (vi (((44 : Int32) * v1) + (mI M 300 i32 v3.toNatClampNeg))), none]) (st' := []) (M1 := M116) (pc' := 640) (tb_Model hγ) [.pop] (by decide +kernel) rfl rfl trivial ?_
                                        refine E_goto (off := 86) (tgt := 726) (by decide +kernel) (by decide) ?_
                                        refine E_mask [true, true, false, false, false, false, false, false] rfl ?_
                                        exact lk_Model_instruction_j726 hγ this Q v1 M116 h
                                      · rw [if_neg b56] at h
                                        by_cases b57 : v4 = (20 : Int32)
                                        · rw [if_pos b57] at h
                                          refine E.up (fun _ _ hJ => J_tswI (len := 251) (dflt := 485) (lo := 1) (hi := 59) (offs := #[251, 262, 272, 291, 310, 339, 368, 485, 485, 485, 485, 485, 485, 485, 485, 485, 485, 485, 393, 402, 402, 402, 485, 485, 485, 485, 485, 485, 485, 485, 485, 485, 485, 485, 485, 485, 485, 485, 485, 485, 485, 412, 412, 412, 412, 485, 485, 485, 485, 485, 485, 485, 485, 485, 485, 421, 450, 459, 472]) (off := 402) (tgt := 643) (by decide +kernel) (by rw [b57]; decide) (by rw [b57]; decide) (by rw [b57]; rfl) (by decide) hJ) ?_
                                          refine E_blk (lv' := [some (vr (some (11, this))), some (vi v1), none, some (vi v3), some (vi v4), some (vi (mI M 300 i32 v3.toNatClampNeg)), some (vi (((44 : Int32) * v1) + (mI M 300 i32 v3.toNatClampNeg))), none]) (st' := [vi v4, vi v1, vr (some (11, this))]) (M1 := M) (pc' := 647) (tb_Model hγ) [.aload_n 0, .iload_n 1, .iload 4] (by decide +kernel) rfl rfl trivial ?_
                                          refine E_callV (κ' := k_Model_turnStep) (As := [vi v1, vi v4]) (st := []) mv_Model_turnStep (Or.inl (tbk_mem (j := 16) (k := 227) rfl)) rfl (by decide +kernel) (Nat.le_of_ble_eq_true rfl) (Nat.le_of_ble_eq_true rfl) rfl (by decide) (lk_Model_turnStep hγ this v1 v4 _ M h) (fun _ _ => Qv_r) (fun v M115 hp => Qv_k (R := fun st => E γ k_Model_instruction 132 650 [some (vr (some (11, this))), some (vi v1), none, some (vi v3), some (vi v4), some (vi (mI M 300 i32 v3.toNatClampNeg)), some (vi (((44 : Int32) * v1) + (mI M 300 i32 v3.toNatClampNeg))), none] st M115 (Qi Q)) hp (fun h => ?_))
                                          refine E_goto (off := 76) (tgt := 726) (by decide +kernel) (by decide) ?_
                                          refine E_mask [true, true, false, false, false, false, false, false] rfl ?_
                                          exact lk_Model_instruction_j726 hγ this Q v1 M115 h
                                        · rw [if_neg b57] at h
                                          by_cases b58 : v4 = (21 : Int32)
                                          · rw [if_pos b58] at h
                                            refine E.up (fun _ _ hJ => J_tswI (len := 251) (dflt := 485) (lo := 1) (hi := 59) (offs := #[251, 262, 272, 291, 310, 339, 368, 485, 485, 485, 485, 485, 485, 485, 485, 485, 485, 485, 393, 402, 402, 402, 485, 485, 485, 485, 485, 485, 485, 485, 485, 485, 485, 485, 485, 485, 485, 485, 485, 485, 485, 412, 412, 412, 412, 485, 485, 485, 485, 485, 485, 485, 485, 485, 485, 421, 450, 459, 472]) (off := 402) (tgt := 643) (by decide +kernel) (by rw [b58]; decide) (by rw [b58]; decide) (by rw [b58]; rfl) (by decide) hJ) ?_
                                            refine E_blk (lv' := [some (vr (some (11, this))), some (vi v1), none, some (vi v3), some (vi v4), some (vi (mI M 300 i32 v3.toNatClampNeg)), some (vi (((44 : Int32) * v1) + (mI M 300 i32 v3.toNatClampNeg))), none]) (st' := [vi v4, vi v1, vr (some (11, this))]) (M1 := M) (pc' := 647) (tb_Model hγ) [.aload_n 0, .iload_n 1, .iload 4] (by decide +kernel) rfl rfl trivial ?_
                                            refine E_callV (κ' := k_Model_turnStep) (As := [vi v1, vi v4]) (st := []) mv_Model_turnStep (Or.inl (tbk_mem (j := 16) (k := 227) rfl)) rfl (by decide +kernel) (Nat.le_of_ble_eq_true rfl) (Nat.le_of_ble_eq_true rfl) rfl (by decide) (lk_Model_turnStep hγ this v1 v4 _ M h) (fun _ _ => Qv_r) (fun v M114 hp => Qv_k (R := fun st => E γ k_Model_instruction 132 650 [some (vr (some (11, this))), some (vi v1), none, some (vi v3), some (vi v4), some (vi (mI M 300 i32 v3.toNatClampNeg)), some (vi (((44 : Int32) * v1) + (mI M 300 i32 v3.toNatClampNeg))), none] st M114 (Qi Q)) hp (fun h => ?_))
                                            refine E_goto (off := 76) (tgt := 726) (by decide +kernel) (by decide) ?_
                                            refine E_mask [true, true, false, false, false, false, false, false] rfl ?_
                                            exact lk_Model_instruction_j726 hγ this Q v1 M114 h
                                          · rw [if_neg b58] at h
                                            by_cases b59 : v4 = (22 : Int32)
                                            · rw [if_pos b59] at h
                                              refine E.up (fun _ _ hJ => J_tswI (len := 251) (dflt := 485) (lo := 1) (hi := 59) (offs := #[251, 262, 272, 291, 310, 339, 368, 485, 485, 485, 485, 485, 485, 485, 485, 485, 485, 485, 393, 402, 402, 402, 485, 485, 485, 485, 485, 485, 485, 485, 485, 485, 485, 485, 485, 485, 485, 485, 485, 485, 485, 412, 412, 412, 412, 485, 485, 485, 485, 485, 485, 485, 485, 485, 485, 421, 450, 459, 472]) (off := 402) (tgt := 643) (by decide +kernel) (by rw [b59]; decide) (by rw [b59]; decide) (by rw [b59]; rfl) (by decide) hJ) ?_
                                              refine E_blk (lv' := [some (vr (some (11, this))), some (vi v1), none, some (vi v3), some (vi v4), some (vi (mI M 300 i32 v3.toNatClampNeg)), some (vi (((44 : Int32) * v1) + (mI M 300 i32 v3.toNatClampNeg))), none]) (st' := [vi v4, vi v1, vr (some (11, this))]) (M1 := M) (pc' := 647) (tb_Model hγ) [.aload_n 0, .iload_n 1, .iload 4] (by decide +kernel) rfl rfl trivial ?_
                                              refine E_callV (κ' := k_Model_turnStep) (As := [vi v1, vi v4]) (st := []) mv_Model_turnStep (Or.inl (tbk_mem (j := 16) (k := 227) rfl)) rfl (by decide +kernel) (Nat.le_of_ble_eq_true rfl) (Nat.le_of_ble_eq_true rfl) rfl (by decide) (lk_Model_turnStep hγ this v1 v4 _ M h) (fun _ _ => Qv_r) (fun v M113 hp => Qv_k (R := fun st => E γ k_Model_instruction 132 650 [some (vr (some (11, this))), some (vi v1), none, some (vi v3), some (vi v4), some (vi (mI M 300 i32 v3.toNatClampNeg)), some (vi (((44 : Int32) * v1) + (mI M 300 i32 v3.toNatClampNeg))), none] st M113 (Qi Q)) hp (fun h => ?_))
                                              refine E_goto (off := 76) (tgt := 726) (by decide +kernel) (by decide) ?_
                                              refine E_mask [true, true, false, false, false, false, false, false] rfl ?_
                                              exact lk_Model_instruction_j726 hγ this Q v1 M113 h
                                            · rw [if_neg b59] at h
                                              by_cases b60 : v4 = (23 : Int32)
                                              · rw [if_pos b60] at h
                                                refine E.up (fun _ _ hJ => J_tswI (len := 251) (dflt := 485) (lo := 1) (hi := 59) (offs := #[251, 262, 272, 291, 310, 339, 368, 485, 485, 485, 485, 485, 485, 485, 485, 485, 485, 485, 393, 402, 402, 402, 485, 485, 485, 485, 485, 485, 485, 485, 485, 485, 485, 485, 485, 485, 485, 485, 485, 485, 485, 412, 412, 412, 412, 485, 485, 485, 485, 485, 485, 485, 485, 485, 485, 421, 450, 459, 472]) (off := 485) (tgt := 726) (by decide +kernel) (by rw [b60]; decide) (by rw [b60]; decide) (by rw [b60]; rfl) (by decide) hJ) ?_
                                                refine E_mask [true, true, false, false, false, false, false, false] rfl ?_
                                                exact lk_Model_instruction_j726 hγ this Q v1 M h
                                              · rw [if_neg b60] at h
                                                by_cases b61 : v4 = (24 : Int32)
                                                · rw [if_pos b61] at h
                                                  refine E.up (fun _ _ hJ => J_tswI (len := 251) (dflt := 485) (lo := 1) (hi := 59) (offs := #[251, 262, 272, 291, 310, 339, 368, 485, 485, 485, 485, 485, 485, 485, 485, 485, 485, 485, 393, 402, 402, 402, 485, 485, 485, 485, 485, 485, 485, 485, 485, 485, 485, 485, 485, 485, 485, 485, 485, 485, 485, 412, 412, 412, 412, 485, 485, 485, 485, 485, 485, 485, 485, 485, 485, 421, 450, 459, 472]) (off := 485) (tgt := 726) (by decide +kernel) (by rw [b61]; decide) (by rw [b61]; decide) (by rw [b61]; rfl) (by decide) hJ) ?_
                                                  refine E_mask [true, true, false, false, false, false, false, false] rfl ?_
                                                  exact lk_Model_instruction_j726 hγ this Q v1 M h
                                                · rw [if_neg b61] at h
                                                  by_cases b62 : v4 = (25 : Int32)
                                                  · rw [if_pos b62] at h
                                                    refine E.up (fun _ _ hJ => J_tswI (len := 251) (dflt := 485) (lo := 1) (hi := 59) (offs := #[251, 262, 272, 291, 310, 339, 368, 485, 485, 485, 485, 485, 485, 485, 485, 485, 485, 485, 393, 402, 402, 402, 485, 485, 485, 485, 485, 485, 485, 485, 485, 485, 485, 485, 485, 485, 485, 485, 485, 485, 485, 412, 412, 412, 412, 485, 485, 485, 485, 485, 485, 485, 485, 485, 485, 421, 450, 459, 472]) (off := 485) (tgt := 726) (by decide +kernel) (by rw [b62]; decide) (by rw [b62]; decide) (by rw [b62]; rfl) (by decide) hJ) ?_
                                                    refine E_mask [true, true, false, false, false, false, false, false] rfl ?_
                                                    exact lk_Model_instruction_j726 hγ this Q v1 M h
                                                  · rw [if_neg b62] at h
                                                    by_cases b63 : v4 = (26 : Int32)
                                                    · rw [if_pos b63] at h
                                                      refine E.up (fun _ _ hJ => J_tswI (len := 251) (dflt := 485) (lo := 1) (hi := 59) (offs := #[251, 262, 272, 291, 310, 339, 368, 485, 485, 485, 485, 485, 485, 485, 485, 485, 485, 485, 393, 402, 402, 402, 485, 485, 485, 485, 485, 485, 485, 485, 485, 485, 485, 485, 485, 485, 485, 485, 485, 485, 485, 412, 412, 412, 412, 485, 485, 485, 485, 485, 485, 485, 485, 485, 485, 421, 450, 459, 472]) (off := 485) (tgt := 726) (by decide +kernel) (by rw [b63]; decide) (by rw [b63]; decide) (by rw [b63]; rfl) (by decide) hJ) ?_
                                                      refine E_mask [true, true, false, false, false, false, false, false] rfl ?_
                                                      exact lk_Model_instruction_j726 hγ this Q v1 M h
                                                    · rw [if_neg b63] at h
                                                      by_cases b64 : v4 = (27 : Int32)
                                                      · rw [if_pos b64] at h
                                                        refine E.up (fun _ _ hJ => J_tswI (len := 251) (dflt := 485) (lo := 1) (hi := 59) (offs := #[251, 262, 272, 291, 310, 339, 368, 485, 485, 485, 485, 485, 485, 485, 485, 485, 485, 485, 393, 402, 402, 402, 485, 485, 485, 485, 485, 485, 485, 485, 485, 485, 485, 485, 485, 485, 485, 485, 485, 485, 485, 412, 412, 412, 412, 485, 485, 485, 485, 485, 485, 485, 485, 485, 485, 421, 450, 459, 472]) (off := 485) (tgt := 726) (by decide +kernel) (by rw [b64]; decide) (by rw [b64]; decide) (by rw [b64]; rfl) (by decide) hJ) ?_
                                                        refine E_mask [true, true, false, false, false, false, false, false] rfl ?_
                                                        exact lk_Model_instruction_j726 hγ this Q v1 M h
                                                      · rw [if_neg b64] at h
                                                        by_cases b65 : v4 = (28 : Int32)
                                                        · rw [if_pos b65] at h
                                                          refine E.up (fun _ _ hJ => J_tswI (len := 251) (dflt := 485) (lo := 1) (hi := 59) (offs := #[251, 262, 272, 291, 310, 339, 368, 485, 485, 485, 485, 485, 485, 485, 485, 485, 485, 485, 393, 402, 402, 402, 485, 485, 485, 485, 485, 485, 485, 485, 485, 485, 485, 485, 485, 485, 485, 485, 485, 485, 485, 412, 412, 412, 412, 485, 485, 485, 485, 485, 485, 485, 485, 485, 485, 421, 450, 459, 472]) (off := 485) (tgt := 726) (by decide +kernel) (by rw [b65]; decide) (by rw [b65]; decide) (by rw [b65]; rfl) (by decide) hJ) ?_
                                                          refine E_mask [true, true, false, false, false, false, false, false] rfl ?_
                                                          exact lk_Model_instruction_j726 hγ this Q v1 M h
                                                        · rw [if_neg b65] at h
                                                          by_cases b66 : v4 = (29 : Int32)
                                                          · rw [if_pos b66] at h
                                                            refine E.up (fun _ _ hJ => J_tswI (len := 251) (dflt := 485) (lo := 1) (hi := 59) (offs := #[251, 262, 272, 291, 310, 339, 368, 485, 485, 485, 485, 485, 485, 485, 485, 485, 485, 485, 393, 402, 402, 402, 485, 485, 485, 485, 485, 485, 485, 485, 485, 485, 485, 485, 485, 485, 485, 485, 485, 485, 485, 412, 412, 412, 412, 485, 485, 485, 485, 485, 485, 485, 485, 485, 485, 421, 450, 459, 472]) (off := 485) (tgt := 726) (by decide +kernel) (by rw [b66]; decide) (by rw [b66]; decide) (by rw [b66]; rfl) (by decide) hJ) ?_
                                                            refine E_mask [true, true, false, false, false, false, false, false] rfl ?_
                                                            exact lk_Model_instruction_j726 hγ this Q v1 M h
                                                          · rw [if_neg b66] at h
                                                            by_cases b67 : v4 = (30 : Int32)
                                                            · rw [if_pos b67] at h
                                                              refine E.up (fun _ _ hJ => J_tswI (len := 251) (dflt := 485) (lo := 1) (hi := 59) (offs := #[251, 262, 272, 291, 310, 339, 368, 485, 485, 485, 485, 485, 485, 485, 485, 485, 485, 485, 393, 402, 402, 402, 485, 485, 485, 485, 485, 485, 485, 485, 485, 485, 485, 485, 485, 485, 485, 485, 485, 485, 485, 412, 412, 412, 412, 485, 485, 485, 485, 485, 485, 485, 485, 485, 485, 421, 450, 459, 472]) (off := 485) (tgt := 726) (by decide +kernel) (by rw [b67]; decide) (by rw [b67]; decide) (by rw [b67]; rfl) (by decide) hJ) ?_
                                                              refine E_mask [true, true, false, false, false, false, false, false] rfl ?_
                                                              exact lk_Model_instruction_j726 hγ this Q v1 M h
                                                            · rw [if_neg b67] at h
                                                              by_cases b68 : v4 = (31 : Int32)
                                                              · rw [if_pos b68] at h
                                                                refine E.up (fun _ _ hJ => J_tswI (len := 251) (dflt := 485) (lo := 1) (hi := 59) (offs := #[251, 262, 272, 291, 310, 339, 368, 485, 485, 485, 485, 485, 485, 485, 485, 485, 485, 485, 393, 402, 402, 402, 485, 485, 485, 485, 485, 485, 485, 485, 485, 485, 485, 485, 485, 485, 485, 485, 485, 485, 485, 412, 412, 412, 412, 485, 485, 485, 485, 485, 485, 485, 485, 485, 485, 421, 450, 459, 472]) (off := 485) (tgt := 726) (by decide +kernel) (by rw [b68]; decide) (by rw [b68]; decide) (by rw [b68]; rfl) (by decide) hJ) ?_
                                                                refine E_mask [true, true, false, false, false, false, false, false] rfl ?_
                                                                exact lk_Model_instruction_j726 hγ this Q v1 M h
                                                              · rw [if_neg b68] at h
                                                                by_cases b69 : v4 = (32 : Int32)
                                                                · rw [if_pos b69] at h
                                                                  refine E.up (fun _ _ hJ => J_tswI (len := 251) (dflt := 485) (lo := 1) (hi := 59) (offs := #[251, 262, 272, 291, 310, 339, 368, 485, 485, 485, 485, 485, 485, 485, 485, 485, 485, 485, 393, 402, 402, 402, 485, 485, 485, 485, 485, 485, 485, 485, 485, 485, 485, 485, 485, 485, 485, 485, 485, 485, 485, 412, 412, 412, 412, 485, 485, 485, 485, 485, 485, 485, 485, 485, 485, 421, 450, 459, 472]) (off := 485) (tgt := 726) (by decide +kernel) (by rw [b69]; decide) (by rw [b69]; decide) (by rw [b69]; rfl) (by decide) hJ) ?_
                                                                  refine E_mask [true, true, false, false, false, false, false, false] rfl ?_
                                                                  exact lk_Model_instruction_j726 hγ this Q v1 M h
                                                                · rw [if_neg b69] at h
                                                                  by_cases b70 : v4 = (33 : Int32)
                                                                  · rw [if_pos b70] at h
                                                                    refine E.up (fun _ _ hJ => J_tswI (len := 251) (dflt := 485) (lo := 1) (hi := 59) (offs := #[251, 262, 272, 291, 310, 339, 368, 485, 485, 485, 485, 485, 485, 485, 485, 485, 485, 485, 393, 402, 402, 402, 485, 485, 485, 485, 485, 485, 485, 485, 485, 485, 485, 485, 485, 485, 485, 485, 485, 485, 485, 412, 412, 412, 412, 485, 485, 485, 485, 485, 485, 485, 485, 485, 485, 421, 450, 459, 472]) (off := 485) (tgt := 726) (by decide +kernel) (by rw [b70]; decide) (by rw [b70]; decide) (by rw [b70]; rfl) (by decide) hJ) ?_
                                                                    refine E_mask [true, true, false, false, false, false, false, false] rfl ?_
                                                                    exact lk_Model_instruction_j726 hγ this Q v1 M h
                                                                  · rw [if_neg b70] at h
                                                                    by_cases b71 : v4 = (34 : Int32)
                                                                    · rw [if_pos b71] at h
                                                                      refine E.up (fun _ _ hJ => J_tswI (len := 251) (dflt := 485) (lo := 1) (hi := 59) (offs := #[251, 262, 272, 291, 310, 339, 368, 485, 485, 485, 485, 485, 485, 485, 485, 485, 485, 485, 393, 402, 402, 402, 485, 485, 485, 485, 485, 485, 485, 485, 485, 485, 485, 485, 485, 485, 485, 485, 485, 485, 485, 412, 412, 412, 412, 485, 485, 485, 485, 485, 485, 485, 485, 485, 485, 421, 450, 459, 472]) (off := 485) (tgt := 726) (by decide +kernel) (by rw [b71]; decide) (by rw [b71]; decide) (by rw [b71]; rfl) (by decide) hJ) ?_
                                                                      refine E_mask [true, true, false, false, false, false, false, false] rfl ?_
                                                                      exact lk_Model_instruction_j726 hγ this Q v1 M h
                                                                    · rw [if_neg b71] at h
                                                                      by_cases b72 : v4 = (35 : Int32)
                                                                      · rw [if_pos b72] at h
                                                                        refine E.up (fun _ _ hJ => J_tswI (len := 251) (dflt := 485) (lo := 1) (hi := 59) (offs := #[251, 262, 272, 291, 310, 339, 368, 485, 485, 485, 485, 485, 485, 485, 485, 485, 485, 485, 393, 402, 402, 402, 485, 485, 485, 485, 485, 485, 485, 485, 485, 485, 485, 485, 485, 485, 485, 485, 485, 485, 485, 412, 412, 412, 412, 485, 485, 485, 485, 485, 485, 485, 485, 485, 485, 421, 450, 459, 472]) (off := 485) (tgt := 726) (by decide +kernel) (by rw [b72]; decide) (by rw [b72]; decide) (by rw [b72]; rfl) (by decide) hJ) ?_
                                                                        refine E_mask [true, true, false, false, false, false, false, false] rfl ?_
                                                                        exact lk_Model_instruction_j726 hγ this Q v1 M h
                                                                      · rw [if_neg b72] at h
                                                                        by_cases b73 : v4 = (36 : Int32)
                                                                        · rw [if_pos b73] at h
                                                                          refine E.up (fun _ _ hJ => J_tswI (len := 251) (dflt := 485) (lo := 1) (hi := 59) (offs := #[251, 262, 272, 291, 310, 339, 368, 485, 485, 485, 485, 485, 485, 485, 485, 485, 485, 485, 393, 402, 402, 402, 485, 485, 485, 485, 485, 485, 485, 485, 485, 485, 485, 485, 485, 485, 485, 485, 485, 485, 485, 412, 412, 412, 412, 485, 485, 485, 485, 485, 485, 485, 485, 485, 485, 421, 450, 459, 472]) (off := 485) (tgt := 726) (by decide +kernel) (by rw [b73]; decide) (by rw [b73]; decide) (by rw [b73]; rfl) (by decide) hJ) ?_
                                                                          refine E_mask [true, true, false, false, false, false, false, false] rfl ?_
                                                                          exact lk_Model_instruction_j726 hγ this Q v1 M h
                                                                        · rw [if_neg b73] at h
                                                                          by_cases b74 : v4 = (37 : Int32)
                                                                          · rw [if_pos b74] at h
                                                                            refine E.up (fun _ _ hJ => J_tswI (len := 251) (dflt := 485) (lo := 1) (hi := 59) (offs := #[251, 262, 272, 291, 310, 339, 368, 485, 485, 485, 485, 485, 485, 485, 485, 485, 485, 485, 393, 402, 402, 402, 485, 485, 485, 485, 485, 485, 485, 485, 485, 485, 485, 485, 485, 485, 485, 485, 485, 485, 485, 412, 412, 412, 412, 485, 485, 485, 485, 485, 485, 485, 485, 485, 485, 421, 450, 459, 472]) (off := 485) (tgt := 726) (by decide +kernel) (by rw [b74]; decide) (by rw [b74]; decide) (by rw [b74]; rfl) (by decide) hJ) ?_
                                                                            refine E_mask [true, true, false, false, false, false, false, false] rfl ?_
                                                                            exact lk_Model_instruction_j726 hγ this Q v1 M h
                                                                          · rw [if_neg b74] at h
                                                                            by_cases b75 : v4 = (38 : Int32)
                                                                            · rw [if_pos b75] at h
                                                                              refine E.up (fun _ _ hJ => J_tswI (len := 251) (dflt := 485) (lo := 1) (hi := 59) (offs := #[251, 262, 272, 291, 310, 339, 368, 485, 485, 485, 485, 485, 485, 485, 485, 485, 485, 485, 393, 402, 402, 402, 485, 485, 485, 485, 485, 485, 485, 485, 485, 485, 485, 485, 485, 485, 485, 485, 485, 485, 485, 412, 412, 412, 412, 485, 485, 485, 485, 485, 485, 485, 485, 485, 485, 421, 450, 459, 472]) (off := 485) (tgt := 726) (by decide +kernel) (by rw [b75]; decide) (by rw [b75]; decide) (by rw [b75]; rfl) (by decide) hJ) ?_
                                                                              refine E_mask [true, true, false, false, false, false, false, false] rfl ?_
                                                                              exact lk_Model_instruction_j726 hγ this Q v1 M h
                                                                            · rw [if_neg b75] at h
                                                                              by_cases b76 : v4 = (39 : Int32)
                                                                              · rw [if_pos b76] at h
                                                                                refine E.up (fun _ _ hJ => J_tswI (len := 251) (dflt := 485) (lo := 1) (hi := 59) (offs := #[251, 262, 272, 291, 310, 339, 368, 485, 485, 485, 485, 485, 485, 485, 485, 485, 485, 485, 393, 402, 402, 402, 485, 485, 485, 485, 485, 485, 485, 485, 485, 485, 485, 485, 485, 485, 485, 485, 485, 485, 485, 412, 412, 412, 412, 485, 485, 485, 485, 485, 485, 485, 485, 485, 485, 421, 450, 459, 472]) (off := 485) (tgt := 726) (by decide +kernel) (by rw [b76]; decide) (by rw [b76]; decide) (by rw [b76]; rfl) (by decide) hJ) ?_
                                                                                refine E_mask [true, true, false, false, false, false, false, false] rfl ?_
                                                                                exact lk_Model_instruction_j726 hγ this Q v1 M h
                                                                              · rw [if_neg b76] at h
                                                                                by_cases b77 : v4 = (40 : Int32)
                                                                                · rw [if_pos b77] at h
                                                                                  refine E.up (fun _ _ hJ => J_tswI (len := 251) (dflt := 485) (lo := 1) (hi := 59) (offs := #[251, 262, 272, 291, 310, 339, 368, 485, 485, 485, 485, 485, 485, 485, 485, 485, 485, 485, 393, 402, 402, 402, 485, 485, 485, 485, 485, 485, 485, 485, 485, 485, 485, 485, 485, 485, 485, 485, 485, 485, 485, 412, 412, 412, 412, 485, 485, 485, 485, 485, 485, 485, 485, 485, 485, 421, 450, 459, 472]) (off := 485) (tgt := 726) (by decide +kernel) (by rw [b77]; decide) (by rw [b77]; decide) (by rw [b77]; rfl) (by decide) hJ) ?_
                                                                                  refine E_mask [true, true, false, false, false, false, false, false] rfl ?_
                                                                                  exact lk_Model_instruction_j726 hγ this Q v1 M h
                                                                                · rw [if_neg b77] at h
                                                                                  by_cases b78 : v4 = (41 : Int32)
                                                                                  · rw [if_pos b78] at h
                                                                                    refine E.up (fun _ _ hJ => J_tswI (len := 251) (dflt := 485) (lo := 1) (hi := 59) (offs := #[251, 262, 272, 291, 310, 339, 368, 485, 485, 485, 485, 485, 485, 485, 485, 485, 485, 485, 393, 402, 402, 402, 485, 485, 485, 485, 485, 485, 485, 485, 485, 485, 485, 485, 485, 485, 485, 485, 485, 485, 485, 412, 412, 412, 412, 485, 485, 485, 485, 485, 485, 485, 485, 485, 485, 421, 450, 459, 472]) (off := 485) (tgt := 726) (by decide +kernel) (by rw [b78]; decide) (by rw [b78]; decide) (by rw [b78]; rfl) (by decide) hJ) ?_
                                                                                    refine E_mask [true, true, false, false, false, false, false, false] rfl ?_
                                                                                    exact lk_Model_instruction_j726 hγ this Q v1 M h
                                                                                  · rw [if_neg b78] at h
                                                                                    by_cases b79 : v4 = (42 : Int32)
                                                                                    · rw [if_pos b79] at h
                                                                                      refine E.up (fun _ _ hJ => J_tswI (len := 251) (dflt := 485) (lo := 1) (hi := 59) (offs := #[251, 262, 272, 291, 310, 339, 368, 485, 485, 485, 485, 485, 485, 485, 485, 485, 485, 485, 393, 402, 402, 402, 485, 485, 485, 485, 485, 485, 485, 485, 485, 485, 485, 485, 485, 485, 485, 485, 485, 485, 485, 412, 412, 412, 412, 485, 485, 485, 485, 485, 485, 485, 485, 485, 485, 421, 450, 459, 472]) (off := 412) (tgt := 653) (by decide +kernel) (by rw [b79]; decide) (by rw [b79]; decide) (by rw [b79]; rfl) (by decide) hJ) ?_
                                                                                      refine E_blk (lv' := [some (vr (some (11, this))), some (vi v1), none, some (vi v3), some (vi v4), some (vi (mI M 300 i32 v3.toNatClampNeg)), some (vi (((44 : Int32) * v1) + (mI M 300 i32 v3.toNatClampNeg))), none]) (st' := [vi v4, vi v1, vr (some (11, this))]) (M1 := M) (pc' := 657) (tb_Model hγ) [.aload_n 0, .iload_n 1, .iload 4] (by decide +kernel) rfl rfl trivial ?_
                                                                                      refine E_callV (κ' := k_Model_rowStep) (As := [vi v1, vi v4]) (st := []) mv_Model_rowStep (Or.inl (tbk_mem (j := 16) (k := 235) rfl)) rfl (by decide +kernel) (Nat.le_of_ble_eq_true rfl) (Nat.le_of_ble_eq_true rfl) rfl (by decide) (lk_Model_rowStep hγ this v1 v4 _ M h) (fun _ _ => Qv_r) (fun v M112 hp => Qv_k (R := fun st => E γ k_Model_instruction 132 660 [some (vr (some (11, this))), some (vi v1), none, some (vi v3), some (vi v4), some (vi (mI M 300 i32 v3.toNatClampNeg)), some (vi (((44 : Int32) * v1) + (mI M 300 i32 v3.toNatClampNeg))), none] st M112 (Qi Q)) hp (fun h => ?_))
                                                                                      refine E_blk (lv' := [some (vr (some (11, this))), some (vi v1), none, some (vi v3), some (vi v4), some (vi (mI M 300 i32 v3.toNatClampNeg)), some (vi (((44 : Int32) * v1) + (mI M 300 i32 v3.toNatClampNeg))), none]) (st' := [vi (1 : Int32)]) (M1 := M112) (pc' := 661) (tb_Model hγ) [.iconst 1] (by decide +kernel) rfl rfl trivial ?_
                                                                                      exact E_iret rfl (by decide +kernel) h
                                                                                    · rw [if_neg b79] at h
                                                                                      by_cases b80 : v4 = (43 : Int32)
                                                                                      · rw [if_pos b80] at h
                                                                                        refine E.up (fun _ _ hJ => J_tswI (len := 251) (dflt := 485) (lo := 1) (hi := 59) (offs := #[251, 262, 272, 291, 310, 339, 368, 485, 485, 485, 485, 485, 485, 485, 485, 485, 485, 485, 393, 402, 402, 402, 485, 485, 485, 485, 485, 485, 485, 485, 485, 485, 485, 485, 485, 485, 485, 485, 485, 485, 485, 412, 412, 412, 412, 485, 485, 485, 485, 485, 485, 485, 485, 485, 485, 421, 450, 459, 472]) (off := 412) (tgt := 653) (by decide +kernel) (by rw [b80]; decide) (by rw [b80]; decide) (by rw [b80]; rfl) (by decide) hJ) ?_
                                                                                        refine E_blk (lv' := [some (vr (some (11, this))), some (vi v1), none, some (vi v3), some (vi v4), some (vi (mI M 300 i32 v3.toNatClampNeg)), some (vi (((44 : Int32) * v1) + (mI M 300 i32 v3.toNatClampNeg))), none]) (st' := [vi v4, vi v1, vr (some (11, this))]) (M1 := M) (pc' := 657) (tb_Model hγ) [.aload_n 0, .iload_n 1, .iload 4] (by decide +kernel) rfl rfl trivial ?_
                                                                                        refine E_callV (κ' := k_Model_rowStep) (As := [vi v1, vi v4]) (st := []) mv_Model_rowStep (Or.inl (tbk_mem (j := 16) (k := 235) rfl)) rfl (by decide +kernel) (Nat.le_of_ble_eq_true rfl) (Nat.le_of_ble_eq_true rfl) rfl (by decide) (lk_Model_rowStep hγ this v1 v4 _ M h) (fun _ _ => Qv_r) (fun v M111 hp => Qv_k (R := fun st => E γ k_Model_instruction 132 660 [some (vr (some (11, this))), some (vi v1), none, some (vi v3), some (vi v4), some (vi (mI M 300 i32 v3.toNatClampNeg)), some (vi (((44 : Int32) * v1) + (mI M 300 i32 v3.toNatClampNeg))), none] st M111 (Qi Q)) hp (fun h => ?_))
                                                                                        refine E_blk (lv' := [some (vr (some (11, this))), some (vi v1), none, some (vi v3), some (vi v4), some (vi (mI M 300 i32 v3.toNatClampNeg)), some (vi (((44 : Int32) * v1) + (mI M 300 i32 v3.toNatClampNeg))), none]) (st' := [vi (1 : Int32)]) (M1 := M111) (pc' := 661) (tb_Model hγ) [.iconst 1] (by decide +kernel) rfl rfl trivial ?_
                                                                                        exact E_iret rfl (by decide +kernel) h
                                                                                      · rw [if_neg b80] at h
                                                                                        by_cases b81 : v4 = (44 : Int32)
                                                                                        · rw [if_pos b81] at h
                                                                                          refine E.up (fun _ _ hJ => J_tswI (len := 251) (dflt := 485) (lo := 1) (hi := 59) (offs := #[251, 262, 272, 291, 310, 339, 368, 485, 485, 485, 485, 485, 485, 485, 485, 485, 485, 485, 393, 402, 402, 402, 485, 485, 485, 485, 485, 485, 485, 485, 485, 485, 485, 485, 485, 485, 485, 485, 485, 485, 485, 412, 412, 412, 412, 485, 485, 485, 485, 485, 485, 485, 485, 485, 485, 421, 450, 459, 472]) (off := 412) (tgt := 653) (by decide +kernel) (by rw [b81]; decide) (by rw [b81]; decide) (by rw [b81]; rfl) (by decide) hJ) ?_
                                                                                          refine E_blk (lv' := [some (vr (some (11, this))), some (vi v1), none, some (vi v3), some (vi v4), some (vi (mI M 300 i32 v3.toNatClampNeg)), some (vi (((44 : Int32) * v1) + (mI M 300 i32 v3.toNatClampNeg))), none]) (st' := [vi v4, vi v1, vr (some (11, this))]) (M1 := M) (pc' := 657) (tb_Model hγ) [.aload_n 0, .iload_n 1, .iload 4] (by decide +kernel) rfl rfl trivial ?_
                                                                                          refine E_callV (κ' := k_Model_rowStep) (As := [vi v1, vi v4]) (st := []) mv_Model_rowStep (Or.inl (tbk_mem (j := 16) (k := 235) rfl)) rfl (by decide +kernel) (Nat.le_of_ble_eq_true rfl) (Nat.le_of_ble_eq_true rfl) rfl (by decide) (lk_Model_rowStep hγ this v1 v4 _ M h) (fun _ _ => Qv_r) (fun v M110 hp => Qv_k (R := fun st => E γ k_Model_instruction 132 660 [some (vr (some (11, this))), some (vi v1), none, some (vi v3), some (vi v4), some (vi (mI M 300 i32 v3.toNatClampNeg)), some (vi (((44 : Int32) * v1) + (mI M 300 i32 v3.toNatClampNeg))), none] st M110 (Qi Q)) hp (fun h => ?_))
                                                                                          refine E_blk (lv' := [some (vr (some (11, this))), some (vi v1), none, some (vi v3), some (vi v4), some (vi (mI M 300 i32 v3.toNatClampNeg)), some (vi (((44 : Int32) * v1) + (mI M 300 i32 v3.toNatClampNeg))), none]) (st' := [vi (1 : Int32)]) (M1 := M110) (pc' := 661) (tb_Model hγ) [.iconst 1] (by decide +kernel) rfl rfl trivial ?_
                                                                                          exact E_iret rfl (by decide +kernel) h
                                                                                        · rw [if_neg b81] at h
                                                                                          by_cases b82 : v4 = (45 : Int32)
                                                                                          · rw [if_pos b82] at h
                                                                                            refine E.up (fun _ _ hJ => J_tswI (len := 251) (dflt := 485) (lo := 1) (hi := 59) (offs := #[251, 262, 272, 291, 310, 339, 368, 485, 485, 485, 485, 485, 485, 485, 485, 485, 485, 485, 393, 402, 402, 402, 485, 485, 485, 485, 485, 485, 485, 485, 485, 485, 485, 485, 485, 485, 485, 485, 485, 485, 485, 412, 412, 412, 412, 485, 485, 485, 485, 485, 485, 485, 485, 485, 485, 421, 450, 459, 472]) (off := 412) (tgt := 653) (by decide +kernel) (by rw [b82]; decide) (by rw [b82]; decide) (by rw [b82]; rfl) (by decide) hJ) ?_
                                                                                            refine E_blk (lv' := [some (vr (some (11, this))), some (vi v1), none, some (vi v3), some (vi v4), some (vi (mI M 300 i32 v3.toNatClampNeg)), some (vi (((44 : Int32) * v1) + (mI M 300 i32 v3.toNatClampNeg))), none]) (st' := [vi v4, vi v1, vr (some (11, this))]) (M1 := M) (pc' := 657) (tb_Model hγ) [.aload_n 0, .iload_n 1, .iload 4] (by decide +kernel) rfl rfl trivial ?_
                                                                                            refine E_callV (κ' := k_Model_rowStep) (As := [vi v1, vi v4]) (st := []) mv_Model_rowStep (Or.inl (tbk_mem (j := 16) (k := 235) rfl)) rfl (by decide +kernel) (Nat.le_of_ble_eq_true rfl) (Nat.le_of_ble_eq_true rfl) rfl (by decide) (lk_Model_rowStep hγ this v1 v4 _ M h) (fun _ _ => Qv_r) (fun v M109 hp => Qv_k (R := fun st => E γ k_Model_instruction 132 660 [some (vr (some (11, this))), some (vi v1), none, some (vi v3), some (vi v4), some (vi (mI M 300 i32 v3.toNatClampNeg)), some (vi (((44 : Int32) * v1) + (mI M 300 i32 v3.toNatClampNeg))), none] st M109 (Qi Q)) hp (fun h => ?_))
                                                                                            refine E_blk (lv' := [some (vr (some (11, this))), some (vi v1), none, some (vi v3), some (vi v4), some (vi (mI M 300 i32 v3.toNatClampNeg)), some (vi (((44 : Int32) * v1) + (mI M 300 i32 v3.toNatClampNeg))), none]) (st' := [vi (1 : Int32)]) (M1 := M109) (pc' := 661) (tb_Model hγ) [.iconst 1] (by decide +kernel) rfl rfl trivial ?_
                                                                                            exact E_iret rfl (by decide +kernel) h
                                                                                          · rw [if_neg b82] at h
                                                                                            by_cases b83 : v4 = (46 : Int32)
                                                                                            · rw [if_pos b83] at h
                                                                                              refine E.up (fun _ _ hJ => J_tswI (len := 251) (dflt := 485) (lo := 1) (hi := 59) (offs := #[251, 262, 272, 291, 310, 339, 368, 485, 485, 485, 485, 485, 485, 485, 485, 485, 485, 485, 393, 402, 402, 402, 485, 485, 485, 485, 485, 485, 485, 485, 485, 485, 485, 485, 485, 485, 485, 485, 485, 485, 485, 412, 412, 412, 412, 485, 485, 485, 485, 485, 485, 485, 485, 485, 485, 421, 450, 459, 472]) (off := 485) (tgt := 726) (by decide +kernel) (by rw [b83]; decide) (by rw [b83]; decide) (by rw [b83]; rfl) (by decide) hJ) ?_
                                                                                              refine E_mask [true, true, false, false, false, false, false, false] rfl ?_
                                                                                              exact lk_Model_instruction_j726 hγ this Q v1 M h
                                                                                            · rw [if_neg b83] at h
                                                                                              by_cases b84 : v4 = (47 : Int32)
                                                                                              · rw [if_pos b84] at h
                                                                                                refine E.up (fun _ _ hJ => J_tswI (len := 251) (dflt := 485) (lo := 1) (hi := 59) (offs := #[251, 262, 272, 291, 310, 339, 368, 485, 485, 485, 485, 485, 485, 485, 485, 485, 485, 485, 393, 402, 402, 402, 485, 485, 485, 485, 485, 485, 485, 485, 485, 485, 485, 485, 485, 485, 485, 485, 485, 485, 485, 412, 412, 412, 412, 485, 485, 485, 485, 485, 485, 485, 485, 485, 485, 421, 450, 459, 472]) (off := 485) (tgt := 726) (by decide +kernel) (by rw [b84]; decide) (by rw [b84]; decide) (by rw [b84]; rfl) (by decide) hJ) ?_
                                                                                                refine E_mask [true, true, false, false, false, false, false, false] rfl ?_
                                                                                                exact lk_Model_instruction_j726 hγ this Q v1 M h
                                                                                              · rw [if_neg b84] at h
                                                                                                by_cases b85 : v4 = (48 : Int32)
                                                                                                · rw [if_pos b85] at h
                                                                                                  refine E.up (fun _ _ hJ => J_tswI (len := 251) (dflt := 485) (lo := 1) (hi := 59) (offs := #[251, 262, 272, 291, 310, 339, 368, 485, 485, 485, 485, 485, 485, 485, 485, 485, 485, 485, 393, 402, 402, 402, 485, 485, 485, 485, 485, 485, 485, 485, 485, 485, 485, 485, 485, 485, 485, 485, 485, 485, 485, 412, 412, 412, 412, 485, 485, 485, 485, 485, 485, 485, 485, 485, 485, 421, 450, 459, 472]) (off := 485) (tgt := 726) (by decide +kernel) (by rw [b85]; decide) (by rw [b85]; decide) (by rw [b85]; rfl) (by decide) hJ) ?_
                                                                                                  refine E_mask [true, true, false, false, false, false, false, false] rfl ?_
                                                                                                  exact lk_Model_instruction_j726 hγ this Q v1 M h
                                                                                                · rw [if_neg b85] at h
                                                                                                  by_cases b86 : v4 = (49 : Int32)
                                                                                                  · rw [if_pos b86] at h
                                                                                                    refine E.up (fun _ _ hJ => J_tswI (len := 251) (dflt := 485) (lo := 1) (hi := 59) (offs := #[251, 262, 272, 291, 310, 339, 368, 485, 485, 485, 485, 485, 485, 485, 485, 485, 485, 485, 393, 402, 402, 402, 485, 485, 485, 485, 485, 485, 485, 485, 485, 485, 485, 485, 485, 485, 485, 485, 485, 485, 485, 412, 412, 412, 412, 485, 485, 485, 485, 485, 485, 485, 485, 485, 485, 421, 450, 459, 472]) (off := 485) (tgt := 726) (by decide +kernel) (by rw [b86]; decide) (by rw [b86]; decide) (by rw [b86]; rfl) (by decide) hJ) ?_
                                                                                                    refine E_mask [true, true, false, false, false, false, false, false] rfl ?_
                                                                                                    exact lk_Model_instruction_j726 hγ this Q v1 M h
                                                                                                  · rw [if_neg b86] at h
                                                                                                    by_cases b87 : v4 = (50 : Int32)
                                                                                                    · rw [if_pos b87] at h
                                                                                                      refine E.up (fun _ _ hJ => J_tswI (len := 251) (dflt := 485) (lo := 1) (hi := 59) (offs := #[251, 262, 272, 291, 310, 339, 368, 485, 485, 485, 485, 485, 485, 485, 485, 485, 485, 485, 393, 402, 402, 402, 485, 485, 485, 485, 485, 485, 485, 485, 485, 485, 485, 485, 485, 485, 485, 485, 485, 485, 485, 412, 412, 412, 412, 485, 485, 485, 485, 485, 485, 485, 485, 485, 485, 421, 450, 459, 472]) (off := 485) (tgt := 726) (by decide +kernel) (by rw [b87]; decide) (by rw [b87]; decide) (by rw [b87]; rfl) (by decide) hJ) ?_
                                                                                                      refine E_mask [true, true, false, false, false, false, false, false] rfl ?_
                                                                                                      exact lk_Model_instruction_j726 hγ this Q v1 M h
                                                                                                    · rw [if_neg b87] at h
                                                                                                      by_cases b88 : v4 = (51 : Int32)
                                                                                                      · rw [if_pos b88] at h
                                                                                                        refine E.up (fun _ _ hJ => J_tswI (len := 251) (dflt := 485) (lo := 1) (hi := 59) (offs := #[251, 262, 272, 291, 310, 339, 368, 485, 485, 485, 485, 485, 485, 485, 485, 485, 485, 485, 393, 402, 402, 402, 485, 485, 485, 485, 485, 485, 485, 485, 485, 485, 485, 485, 485, 485, 485, 485, 485, 485, 485, 412, 412, 412, 412, 485, 485, 485, 485, 485, 485, 485, 485, 485, 485, 421, 450, 459, 472]) (off := 485) (tgt := 726) (by decide +kernel) (by rw [b88]; decide) (by rw [b88]; decide) (by rw [b88]; rfl) (by decide) hJ) ?_
                                                                                                        refine E_mask [true, true, false, false, false, false, false, false] rfl ?_
                                                                                                        exact lk_Model_instruction_j726 hγ this Q v1 M h
                                                                                                      · rw [if_neg b88] at h
                                                                                                        by_cases b89 : v4 = (52 : Int32)
                                                                                                        · rw [if_pos b89] at h
                                                                                                          refine E.up (fun _ _ hJ => J_tswI (len := 251) (dflt := 485) (lo := 1) (hi := 59) (offs := #[251, 262, 272, 291, 310, 339, 368, 485, 485, 485, 485, 485, 485, 485, 485, 485, 485, 485, 393, 402, 402, 402, 485, 485, 485, 485, 485, 485, 485, 485, 485, 485, 485, 485, 485, 485, 485, 485, 485, 485, 485, 412, 412, 412, 412, 485, 485, 485, 485, 485, 485, 485, 485, 485, 485, 421, 450, 459, 472]) (off := 485) (tgt := 726) (by decide +kernel) (by rw [b89]; decide) (by rw [b89]; decide) (by rw [b89]; rfl) (by decide) hJ) ?_
                                                                                                          refine E_mask [true, true, false, false, false, false, false, false] rfl ?_
                                                                                                          exact lk_Model_instruction_j726 hγ this Q v1 M h
                                                                                                        · rw [if_neg b89] at h
                                                                                                          by_cases b90 : v4 = (53 : Int32)
                                                                                                          · rw [if_pos b90] at h
                                                                                                            refine E.up (fun _ _ hJ => J_tswI (len := 251) (dflt := 485) (lo := 1) (hi := 59) (offs := #[251, 262, 272, 291, 310, 339, 368, 485, 485, 485, 485, 485, 485, 485, 485, 485, 485, 485, 393, 402, 402, 402, 485, 485, 485, 485, 485, 485, 485, 485, 485, 485, 485, 485, 485, 485, 485, 485, 485, 485, 485, 412, 412, 412, 412, 485, 485, 485, 485, 485, 485, 485, 485, 485, 485, 421, 450, 459, 472]) (off := 485) (tgt := 726) (by decide +kernel) (by rw [b90]; decide) (by rw [b90]; decide) (by rw [b90]; rfl) (by decide) hJ) ?_
                                                                                                            refine E_mask [true, true, false, false, false, false, false, false] rfl ?_
                                                                                                            exact lk_Model_instruction_j726 hγ this Q v1 M h
                                                                                                          · rw [if_neg b90] at h
                                                                                                            by_cases b91 : v4 = (54 : Int32)
                                                                                                            · rw [if_pos b91] at h
                                                                                                              refine E.up (fun _ _ hJ => J_tswI (len := 251) (dflt := 485) (lo := 1) (hi := 59) (offs := #[251, 262, 272, 291, 310, 339, 368, 485, 485, 485, 485, 485, 485, 485, 485, 485, 485, 485, 393, 402, 402, 402, 485, 485, 485, 485, 485, 485, 485, 485, 485, 485, 485, 485, 485, 485, 485, 485, 485, 485, 485, 412, 412, 412, 412, 485, 485, 485, 485, 485, 485, 485, 485, 485, 485, 421, 450, 459, 472]) (off := 485) (tgt := 726) (by decide +kernel) (by rw [b91]; decide) (by rw [b91]; decide) (by rw [b91]; rfl) (by decide) hJ) ?_
                                                                                                              refine E_mask [true, true, false, false, false, false, false, false] rfl ?_
                                                                                                              exact lk_Model_instruction_j726 hγ this Q v1 M h
                                                                                                            · rw [if_neg b91] at h
                                                                                                              by_cases b92 : v4 = (55 : Int32)
                                                                                                              · rw [if_pos b92] at h
                                                                                                                refine E.up (fun _ _ hJ => J_tswI (len := 251) (dflt := 485) (lo := 1) (hi := 59) (offs := #[251, 262, 272, 291, 310, 339, 368, 485, 485, 485, 485, 485, 485, 485, 485, 485, 485, 485, 393, 402, 402, 402, 485, 485, 485, 485, 485, 485, 485, 485, 485, 485, 485, 485, 485, 485, 485, 485, 485, 485, 485, 412, 412, 412, 412, 485, 485, 485, 485, 485, 485, 485, 485, 485, 485, 421, 450, 459, 472]) (off := 485) (tgt := 726) (by decide +kernel) (by rw [b92]; decide) (by rw [b92]; decide) (by rw [b92]; rfl) (by decide) hJ) ?_
                                                                                                                refine E_mask [true, true, false, false, false, false, false, false] rfl ?_
                                                                                                                exact lk_Model_instruction_j726 hγ this Q v1 M h
                                                                                                              · rw [if_neg b92] at h
                                                                                                                by_cases b93 : v4 = (56 : Int32)
                                                                                                                · rw [if_pos b93] at h
                                                                                                                  refine E.up (fun _ _ hJ => J_tswI (len := 251) (dflt := 485) (lo := 1) (hi := 59) (offs := #[251, 262, 272, 291, 310, 339, 368, 485, 485, 485, 485, 485, 485, 485, 485, 485, 485, 485, 393, 402, 402, 402, 485, 485, 485, 485, 485, 485, 485, 485, 485, 485, 485, 485, 485, 485, 485, 485, 485, 485, 485, 412, 412, 412, 412, 485, 485, 485, 485, 485, 485, 485, 485, 485, 485, 421, 450, 459, 472]) (off := 421) (tgt := 662) (by decide +kernel) (by rw [b93]; decide) (by rw [b93]; decide) (by rw [b93]; rfl) (by decide) hJ) ?_
                                                                                                                  refine E_blk (lv' := [some (vr (some (11, this))), some (vi v1), none, some (vi v3), some (vi v4), some (vi (mI M 300 i32 v3.toNatClampNeg)), some (vi (((44 : Int32) * v1) + (mI M 300 i32 v3.toNatClampNeg))), none]) (st' := [vi v1, vr (some (11, this))]) (M1 := M) (pc' := 664) (tb_Model hγ) [.aload_n 0, .iload_n 1] (by decide +kernel) rfl rfl trivial ?_
                                                                                                                  refine E_callV (κ' := k_Model_pop) (As := [vi v1]) (st := []) mv_Model_pop (Or.inl (tbk_mem (j := 16) (k := 175) rfl)) rfl (by decide +kernel) (Nat.le_of_ble_eq_true rfl) (Nat.le_of_ble_eq_true rfl) rfl (by decide) (lk_Model_pop hγ this v1 _ M h) (fun _ _ => Qi_r) (fun v M104 hp => Qi_k (R := fun st => E γ k_Model_instruction 132 667 [some (vr (some (11, this))), some (vi v1), none, some (vi v3), some (vi v4), some (vi (mI M 300 i32 v3.toNatClampNeg)), some (vi (((44 : Int32) * v1) + (mI M 300 i32 v3.toNatClampNeg))), none] st M104 (Qi Q)) hp (fun r105 h => ?_))
                                                                                                                  refine E_blk (lv' := [some (vr (some (11, this))), some (vi v1), none, some (vi v3), some (vi v4), some (vi (mI M 300 i32 v3.toNatClampNeg)), some (vi (((44 : Int32) * v1) + (mI M 300 i32 v3.toNatClampNeg))), some (vi r105)]) (st' := [vi r105]) (M1 := M104) (pc' := 671) (tb_Model hγ) [.istore 7, .iload 7] (by decide +kernel) rfl rfl trivial ?_
                                                                                                                  refine E_if_ne (off := 12) (tgt := 683) (by decide +kernel) (by decide) (fun b106 => ?_) (fun b106 => ?_)
                                                                                                                  · rw [if_pos b106] at h
                                                                                                                    refine E_blk (lv' := [some (vr (some (11, this))), some (vi v1), none, some (vi v3), some (vi v4), some (vi (mI M 300 i32 v3.toNatClampNeg)), some (vi (((44 : Int32) * v1) + (mI M 300 i32 v3.toNatClampNeg))), some (vi r105)]) (st' := [vi (2 : Int32), vi (0 : Int32), vr (some (11, this))]) (M1 := M104) (pc' := 677) (tb_Model hγ) [.aload_n 0, .iconst 0, .iconst 2] (by decide +kernel) rfl rfl trivial ?_
                                                                                                                    refine E_callV (κ' := k_Model_throwNew) (As := [vi (0 : Int32), vi (2 : Int32)]) (st := []) mv_Model_throwNew (Or.inl (tbk_mem (j := 16) (k := 111) rfl)) rfl (by decide +kernel) (Nat.le_of_ble_eq_true rfl) (Nat.le_of_ble_eq_true rfl) rfl (by decide) (lk_Model_throwNew hγ this (0 : Int32) (2 : Int32) _ M104 h) (fun _ _ => Qv_r) (fun v M107 hp => Qv_k (R := fun st => E γ k_Model_instruction 132 680 [some (vr (some (11, this))), some (vi v1), none, some (vi v3), some (vi v4), some (vi (mI M 300 i32 v3.toNatClampNeg)), some (vi (((44 : Int32) * v1) + (mI M 300 i32 v3.toNatClampNeg))), some (vi r105)] st M107 (Qi Q)) hp (fun h => ?_))
                                                                                                                    refine E_goto (off := 9) (tgt := 689) (by decide +kernel) (by decide) ?_
                                                                                                                    refine E_blk (lv' := [some (vr (some (11, this))), some (vi v1), none, some (vi v3), some (vi v4), some (vi (mI M 300 i32 v3.toNatClampNeg)), some (vi (((44 : Int32) * v1) + (mI M 300 i32 v3.toNatClampNeg))), some (vi r105)]) (st' := [vi (1 : Int32)]) (M1 := M107) (pc' := 690) (tb_Model hγ) [.iconst 1] (by decide +kernel) rfl rfl trivial ?_
                                                                                                                    exact E_iret rfl (by decide +kernel) h
                                                                                                                  · rw [if_neg b106] at h
                                                                                                                    refine E_blk (lv' := [some (vr (some (11, this))), some (vi v1), none, some (vi v3), some (vi v4), some (vi (mI M 300 i32 v3.toNatClampNeg)), some (vi (((44 : Int32) * v1) + (mI M 300 i32 v3.toNatClampNeg))), some (vi r105)]) (st' := [vi r105, vr (some (11, this))]) (M1 := M104) (pc' := 686) (tb_Model hγ) [.aload_n 0, .iload 7] (by decide +kernel) rfl rfl trivial ?_
                                                                                                                    refine E_callV (κ' := k_Model_unwind) (As := [vi r105]) (st := []) mv_Model_unwind (Or.inl (tbk_mem (j := 16) (k := 119) rfl)) rfl (by decide +kernel) (Nat.le_of_ble_eq_true rfl) (Nat.le_of_ble_eq_true rfl) rfl (by decide) (lk_Model_unwind hγ this r105 _ M104 h) (fun _ _ => Qv_r) (fun v M108 hp => Qv_k (R := fun st => E γ k_Model_instruction 132 689 [some (vr (some (11, this))), some (vi v1), none, some (vi v3), some (vi v4), some (vi (mI M 300 i32 v3.toNatClampNeg)), some (vi (((44 : Int32) * v1) + (mI M 300 i32 v3.toNatClampNeg))), some (vi r105)] st M108 (Qi Q)) hp (fun h => ?_))
                                                                                                                    refine E_blk (lv' := [some (vr (some (11, this))), some (vi v1), none, some (vi v3), some (vi v4), some (vi (mI M 300 i32 v3.toNatClampNeg)), some (vi (((44 : Int32) * v1) + (mI M 300 i32 v3.toNatClampNeg))), some (vi r105)]) (st' := [vi (1 : Int32)]) (M1 := M108) (pc' := 690) (tb_Model hγ) [.iconst 1] (by decide +kernel) rfl rfl trivial ?_
                                                                                                                    exact E_iret rfl (by decide +kernel) h
                                                                                                                · rw [if_neg b93] at h
                                                                                                                  by_cases b94 : v4 = (57 : Int32)
                                                                                                                  · rw [if_pos b94] at h
                                                                                                                    refine E.up (fun _ _ hJ => J_tswI (len := 251) (dflt := 485) (lo := 1) (hi := 59) (offs := #[251, 262, 272, 291, 310, 339, 368, 485, 485, 485, 485, 485, 485, 485, 485, 485, 485, 485, 393, 402, 402, 402, 485, 485, 485, 485, 485, 485, 485, 485, 485, 485, 485, 485, 485, 485, 485, 485, 485, 485, 485, 412, 412, 412, 412, 485, 485, 485, 485, 485, 485, 485, 485, 485, 485, 421, 450, 459, 472]) (off := 450) (tgt := 691) (by decide +kernel) (by rw [b94]; decide) (by rw [b94]; decide) (by rw [b94]; rfl) (by decide) hJ) ?_
                                                                                                                    refine E_blk (lv' := [some (vr (some (11, this))), some (vi v1), none, some (vi v3), some (vi v4), some (vi (mI M 300 i32 v3.toNatClampNeg)), some (vi (((44 : Int32) * v1) + (mI M 300 i32 v3.toNatClampNeg))), none]) (st' := [vi (0 : Int32), vi (0 : Int32), vi (0 : Int32), vr (some (11, this))]) (M1 := M) (pc' := 695) (tb_Model hγ) [.aload_n 0, .iconst 0, .iconst 0, .iconst 0] (by decide +kernel) rfl rfl trivial ?_
                                                                                                                    refine E_callV (κ' := k_Model_endFrame) (As := [vi (0 : Int32), vi (0 : Int32), vi (0 : Int32)]) (st := []) mv_Model_endFrame (Or.inl (tbk_mem (j := 16) (k := 239) rfl)) rfl (by decide +kernel) (Nat.le_of_ble_eq_true rfl) (Nat.le_of_ble_eq_true rfl) rfl (by decide) (lk_Model_endFrame hγ this (0 : Int32) (0 : Int32) (0 : Int32) _ M h) (fun _ _ => Qv_r) (fun v M103 hp => Qv_k (R := fun st => E γ k_Model_instruction 132 698 [some (vr (some (11, this))), some (vi v1), none, some (vi v3), some (vi v4), some (vi (mI M 300 i32 v3.toNatClampNeg)), some (vi (((44 : Int32) * v1) + (mI M 300 i32 v3.toNatClampNeg))), none] st M103 (Qi Q)) hp (fun h => ?_))
                                                                                                                    refine E_blk (lv' := [some (vr (some (11, this))), some (vi v1), none, some (vi v3), some (vi v4), some (vi (mI M 300 i32 v3.toNatClampNeg)), some (vi (((44 : Int32) * v1) + (mI M 300 i32 v3.toNatClampNeg))), none]) (st' := [vi (1 : Int32)]) (M1 := M103) (pc' := 699) (tb_Model hγ) [.iconst 1] (by decide +kernel) rfl rfl trivial ?_
                                                                                                                    exact E_iret rfl (by decide +kernel) h
                                                                                                                  · rw [if_neg b94] at h
                                                                                                                    by_cases b95 : v4 = (58 : Int32)
                                                                                                                    · rw [if_pos b95] at h
                                                                                                                      refine E.up (fun _ _ hJ => J_tswI (len := 251) (dflt := 485) (lo := 1) (hi := 59) (offs := #[251, 262, 272, 291, 310, 339, 368, 485, 485, 485, 485, 485, 485, 485, 485, 485, 485, 485, 393, 402, 402, 402, 485, 485, 485, 485, 485, 485, 485, 485, 485, 485, 485, 485, 485, 485, 485, 485, 485, 485, 485, 412, 412, 412, 412, 485, 485, 485, 485, 485, 485, 485, 485, 485, 485, 421, 450, 459, 472]) (off := 459) (tgt := 700) (by decide +kernel) (by rw [b95]; decide) (by rw [b95]; decide) (by rw [b95]; rfl) (by decide) hJ) ?_
                                                                                                                      refine E_blk (lv' := [some (vr (some (11, this))), some (vi v1), none, some (vi v3), some (vi v4), some (vi (mI M 300 i32 v3.toNatClampNeg)), some (vi (((44 : Int32) * v1) + (mI M 300 i32 v3.toNatClampNeg))), none]) (st' := [vi v1, vr (some (11, this)), vi (1 : Int32), vr (some (11, this))]) (M1 := M) (pc' := 704) (tb_Model hγ) [.aload_n 0, .iconst 1, .aload_n 0, .iload_n 1] (by decide +kernel) rfl rfl trivial ?_
                                                                                                                      refine E_callV (κ' := k_Model_pop) (As := [vi v1]) (st := [vi (1 : Int32), vr (some (11, this))]) mv_Model_pop (Or.inl (tbk_mem (j := 16) (k := 175) rfl)) rfl (by decide +kernel) (Nat.le_of_ble_eq_true rfl) (Nat.le_of_ble_eq_true rfl) rfl (by decide) (lk_Model_pop hγ this v1 _ M h) (fun _ _ => Qi_r) (fun v M100 hp => Qi_k (R := fun st => E γ k_Model_instruction 132 707 [some (vr (some (11, this))), some (vi v1), none, some (vi v3), some (vi v4), some (vi (mI M 300 i32 v3.toNatClampNeg)), some (vi (((44 : Int32) * v1) + (mI M 300 i32 v3.toNatClampNeg))), none] st M100 (Qi Q)) hp (fun r101 h => ?_))
                                                                                                                      refine E_blk (lv' := [some (vr (some (11, this))), some (vi v1), none, some (vi v3), some (vi v4), some (vi (mI M 300 i32 v3.toNatClampNeg)), some (vi (((44 : Int32) * v1) + (mI M 300 i32 v3.toNatClampNeg))), none]) (st' := [vi (0 : Int32), vi r101, vi (1 : Int32), vr (some (11, this))]) (M1 := M100) (pc' := 708) (tb_Model hγ) [.iconst 0] (by decide +kernel) rfl rfl trivial ?_
                                                                                                                      refine E_callV (κ' := k_Model_endFrame) (As := [vi (1 : Int32), vi r101, vi (0 : Int32)]) (st := []) mv_Model_endFrame (Or.inl (tbk_mem (j := 16) (k := 239) rfl)) rfl (by decide +kernel) (Nat.le_of_ble_eq_true rfl) (Nat.le_of_ble_eq_true rfl) rfl (by decide) (lk_Model_endFrame hγ this (1 : Int32) r101 (0 : Int32) _ M100 h) (fun _ _ => Qv_r) (fun v M102 hp => Qv_k (R := fun st => E γ k_Model_instruction 132 711 [some (vr (some (11, this))), some (vi v1), none, some (vi v3), some (vi v4), some (vi (mI M 300 i32 v3.toNatClampNeg)), some (vi (((44 : Int32) * v1) + (mI M 300 i32 v3.toNatClampNeg))), none] st M102 (Qi Q)) hp (fun h => ?_))
                                                                                                                      refine E_blk (lv' := [some (vr (some (11, this))), some (vi v1), none, some (vi v3), some (vi v4), some (vi (mI M 300 i32 v3.toNatClampNeg)), some (vi (((44 : Int32) * v1) + (mI M 300 i32 v3.toNatClampNeg))), none]) (st' := [vi (1 : Int32)]) (M1 := M102) (pc' := 712) (tb_Model hγ) [.iconst 1] (by decide +kernel) rfl rfl trivial ?_
                                                                                                                      exact E_iret rfl (by decide +kernel) h
                                                                                                                    · rw [if_neg b95] at h
                                                                                                                      by_cases b96 : v4 = (59 : Int32)
                                                                                                                      · rw [if_pos b96] at h
                                                                                                                        refine E.up (fun _ _ hJ => J_tswI (len := 251) (dflt := 485) (lo := 1) (hi := 59) (offs := #[251, 262, 272, 291, 310, 339, 368, 485, 485, 485, 485, 485, 485, 485, 485, 485, 485, 485, 393, 402, 402, 402, 485, 485, 485, 485, 485, 485, 485, 485, 485, 485, 485, 485, 485, 485, 485, 485, 485, 485, 485, 412, 412, 412, 412, 485, 485, 485, 485, 485, 485, 485, 485, 485, 485, 421, 450, 459, 472]) (off := 472) (tgt := 713) (by decide +kernel) (by rw [b96]; decide) (by rw [b96]; decide) (by rw [b96]; rfl) (by decide) hJ) ?_
                                                                                                                        refine E_blk (lv' := [some (vr (some (11, this))), some (vi v1), none, some (vi v3), some (vi v4), some (vi (mI M 300 i32 v3.toNatClampNeg)), some (vi (((44 : Int32) * v1) + (mI M 300 i32 v3.toNatClampNeg))), none]) (st' := [vi v1, vr (some (11, this)), vi (1 : Int32), vr (some (11, this))]) (M1 := M) (pc' := 717) (tb_Model hγ) [.aload_n 0, .iconst 1, .aload_n 0, .iload_n 1] (by decide +kernel) rfl rfl trivial ?_
                                                                                                                        refine E_callV (κ' := k_Model_pop) (As := [vi v1]) (st := [vi (1 : Int32), vr (some (11, this))]) mv_Model_pop (Or.inl (tbk_mem (j := 16) (k := 175) rfl)) rfl (by decide +kernel) (Nat.le_of_ble_eq_true rfl) (Nat.le_of_ble_eq_true rfl) rfl (by decide) (lk_Model_pop hγ this v1 _ M h) (fun _ _ => Qi_r) (fun v M97 hp => Qi_k (R := fun st => E γ k_Model_instruction 132 720 [some (vr (some (11, this))), some (vi v1), none, some (vi v3), some (vi v4), some (vi (mI M 300 i32 v3.toNatClampNeg)), some (vi (((44 : Int32) * v1) + (mI M 300 i32 v3.toNatClampNeg))), none] st M97 (Qi Q)) hp (fun r98 h => ?_))
                                                                                                                        refine E_blk (lv' := [some (vr (some (11, this))), some (vi v1), none, some (vi v3), some (vi v4), some (vi (mI M 300 i32 v3.toNatClampNeg)), some (vi (((44 : Int32) * v1) + (mI M 300 i32 v3.toNatClampNeg))), none]) (st' := [vi (1 : Int32), vi r98, vi (1 : Int32), vr (some (11, this))]) (M1 := M97) (pc' := 721) (tb_Model hγ) [.iconst 1] (by decide +kernel) rfl rfl trivial ?_
                                                                                                                        refine E_callV (κ' := k_Model_endFrame) (As := [vi (1 : Int32), vi r98, vi (1 : Int32)]) (st := []) mv_Model_endFrame (Or.inl (tbk_mem (j := 16) (k := 239) rfl)) rfl (by decide +kernel) (Nat.le_of_ble_eq_true rfl) (Nat.le_of_ble_eq_true rfl) rfl (by decide) (lk_Model_endFrame hγ this (1 : Int32) r98 (1 : Int32) _ M97 h) (fun _ _ => Qv_r) (fun v M99 hp => Qv_k (R := fun st => E γ k_Model_instruction 132 724 [some (vr (some (11, this))), some (vi v1), none, some (vi v3), some (vi v4), some (vi (mI M 300 i32 v3.toNatClampNeg)), some (vi (((44 : Int32) * v1) + (mI M 300 i32 v3.toNatClampNeg))), none] st M99 (Qi Q)) hp (fun h => ?_))
                                                                                                                        refine E_blk (lv' := [some (vr (some (11, this))), some (vi v1), none, some (vi v3), some (vi v4), some (vi (mI M 300 i32 v3.toNatClampNeg)), some (vi (((44 : Int32) * v1) + (mI M 300 i32 v3.toNatClampNeg))), none]) (st' := [vi (1 : Int32)]) (M1 := M99) (pc' := 725) (tb_Model hγ) [.iconst 1] (by decide +kernel) rfl rfl trivial ?_
                                                                                                                        exact E_iret rfl (by decide +kernel) h
                                                                                                                      · rw [if_neg b96] at h
                                                                                                                        refine E.up (fun _ _ hJ => J_tswO (len := 251) (dflt := 485) (lo := 1) (hi := 59) (offs := #[251, 262, 272, 291, 310, 339, 368, 485, 485, 485, 485, 485, 485, 485, 485, 485, 485, 485, 393, 402, 402, 402, 485, 485, 485, 485, 485, 485, 485, 485, 485, 485, 485, 485, 485, 485, 485, 485, 485, 485, 485, 412, 412, 412, 412, 485, 485, 485, 485, 485, 485, 485, 485, 485, 485, 421, 450, 459, 472]) (tgt := 726) (by decide +kernel) ?_ (by decide) hJ) ?_
                                                                                                                        · have q := sw0 (x := v4) 1
                                                                                                                          replace q : (v4).toInt < 1 ∨ 2 ≤ (v4).toInt := sw1 q b38 rfl rfl
                                                                                                                          replace q : (v4).toInt < 1 ∨ 3 ≤ (v4).toInt := sw1 q b39 rfl rfl
                                                                                                                          replace q : (v4).toInt < 1 ∨ 4 ≤ (v4).toInt := sw1 q b40 rfl rfl
                                                                                                                          replace q : (v4).toInt < 1 ∨ 5 ≤ (v4).toInt := sw1 q b41 rfl rfl
                                                                                                                          replace q : (v4).toInt < 1 ∨ 6 ≤ (v4).toInt := sw1 q b42 rfl rfl
                                                                                                                          replace q : (v4).toInt < 1 ∨ 7 ≤ (v4).toInt := sw1 q b43 rfl rfl
                                                                                                                          replace q : (v4).toInt < 1 ∨ 8 ≤ (v4).toInt := sw1 q b44 rfl rfl
                                                                                                                          replace q : (v4).toInt < 1 ∨ 9 ≤ (v4).toInt := sw1 q b45 rfl rfl
                                                                                                                          replace q : (v4).toInt < 1 ∨ 10 ≤ (v4).toInt := sw1 q b46 rfl rfl
                                                                                                                          replace q : (v4).toInt < 1 ∨ 11 ≤ (v4).toInt := sw1 q b47 rfl rfl
                                                                                                                          replace q : (v4).toInt < 1 ∨ 12 ≤ (v4).toInt := sw1 q b48 rfl rfl
                                                                                                                          replace q : (v4).toInt < 1 ∨ 13 ≤ (v4).toInt := sw1 q b49 rfl rfl
                                                                                                                          replace q : (v4).toInt < 1 ∨ 14 ≤ (v4).toInt := sw1 q b50 rfl rfl
                                                                                                                          replace q : (v4).toInt < 1 ∨ 15 ≤ (v4).toInt := sw1 q b51 rfl rfl
                                                                                                                          replace q : (v4).toInt < 1 ∨ 16 ≤ (v4).toInt := sw1 q b52 rfl rfl
                                                                                                                          replace q : (v4).toInt < 1 ∨ 17 ≤ (v4).toInt := sw1 q b53 rfl rfl
                                                                                                                          replace q : (v4).toInt < 1 ∨ 18 ≤ (v4).toInt := sw1 q b54 rfl rfl
                                                                                                                          replace q : (v4).toInt < 1 ∨ 19 ≤ (v4).toInt := sw1 q b55 rfl rfl
                                                                                                                          replace q : (v4).toInt < 1 ∨ 20 ≤ (v4).toInt := sw1 q b56 rfl rfl
                                                                                                                          replace q : (v4).toInt < 1 ∨ 21 ≤ (v4).toInt := sw1 q b57 rfl rfl
                                                                                                                          replace q : (v4).toInt < 1 ∨ 22 ≤ (v4).toInt := sw1 q b58 rfl rfl
                                                                                                                          replace q : (v4).toInt < 1 ∨ 23 ≤ (v4).toInt := sw1 q b59 rfl rfl
                                                                                                                          replace q : (v4).toInt < 1 ∨ 24 ≤ (v4).toInt := sw1 q b60 rfl rfl
                                                                                                                          replace q : (v4).toInt < 1 ∨ 25 ≤ (v4).toInt := sw1 q b61 rfl rfl
                                                                                                                          replace q : (v4).toInt < 1 ∨ 26 ≤ (v4).toInt := sw1 q b62 rfl rfl
                                                                                                                          replace q : (v4).toInt < 1 ∨ 27 ≤ (v4).toInt := sw1 q b63 rfl rfl
                                                                                                                          replace q : (v4).toInt < 1 ∨ 28 ≤ (v4).toInt := sw1 q b64 rfl rfl
                                                                                                                          replace q : (v4).toInt < 1 ∨ 29 ≤ (v4).toInt := sw1 q b65 rfl rfl
                                                                                                                          replace q : (v4).toInt < 1 ∨ 30 ≤ (v4).toInt := sw1 q b66 rfl rfl
                                                                                                                          replace q : (v4).toInt < 1 ∨ 31 ≤ (v4).toInt := sw1 q b67 rfl rfl
                                                                                                                          replace q : (v4).toInt < 1 ∨ 32 ≤ (v4).toInt := sw1 q b68 rfl rfl
                                                                                                                          replace q : (v4).toInt < 1 ∨ 33 ≤ (v4).toInt := sw1 q b69 rfl rfl
                                                                                                                          replace q : (v4).toInt < 1 ∨ 34 ≤ (v4).toInt := sw1 q b70 rfl rfl
                                                                                                                          replace q : (v4).toInt < 1 ∨ 35 ≤ (v4).toInt := sw1 q b71 rfl rfl
                                                                                                                          replace q : (v4).toInt < 1 ∨ 36 ≤ (v4).toInt := sw1 q b72 rfl rfl
                                                                                                                          replace q : (v4).toInt < 1 ∨ 37 ≤ (v4).toInt := sw1 q b73 rfl rfl
                                                                                                                          replace q : (v4).toInt < 1 ∨ 38 ≤ (v4).toInt := sw1 q b74 rfl rfl
                                                                                                                          replace q : (v4).toInt < 1 ∨ 39 ≤ (v4).toInt := sw1 q b75 rfl rfl
                                                                                                                          replace q : (v4).toInt < 1 ∨ 40 ≤ (v4).toInt := sw1 q b76 rfl rfl
                                                                                                                          replace q : (v4).toInt < 1 ∨ 41 ≤ (v4).toInt := sw1 q b77 rfl rfl
                                                                                                                          replace q : (v4).toInt < 1 ∨ 42 ≤ (v4).toInt := sw1 q b78 rfl rfl
                                                                                                                          replace q : (v4).toInt < 1 ∨ 43 ≤ (v4).toInt := sw1 q b79 rfl rfl
                                                                                                                          replace q : (v4).toInt < 1 ∨ 44 ≤ (v4).toInt := sw1 q b80 rfl rfl
                                                                                                                          replace q : (v4).toInt < 1 ∨ 45 ≤ (v4).toInt := sw1 q b81 rfl rfl
                                                                                                                          replace q : (v4).toInt < 1 ∨ 46 ≤ (v4).toInt := sw1 q b82 rfl rfl
                                                                                                                          replace q : (v4).toInt < 1 ∨ 47 ≤ (v4).toInt := sw1 q b83 rfl rfl
                                                                                                                          replace q : (v4).toInt < 1 ∨ 48 ≤ (v4).toInt := sw1 q b84 rfl rfl
                                                                                                                          replace q : (v4).toInt < 1 ∨ 49 ≤ (v4).toInt := sw1 q b85 rfl rfl
                                                                                                                          replace q : (v4).toInt < 1 ∨ 50 ≤ (v4).toInt := sw1 q b86 rfl rfl
                                                                                                                          replace q : (v4).toInt < 1 ∨ 51 ≤ (v4).toInt := sw1 q b87 rfl rfl
                                                                                                                          replace q : (v4).toInt < 1 ∨ 52 ≤ (v4).toInt := sw1 q b88 rfl rfl
                                                                                                                          replace q : (v4).toInt < 1 ∨ 53 ≤ (v4).toInt := sw1 q b89 rfl rfl
                                                                                                                          replace q : (v4).toInt < 1 ∨ 54 ≤ (v4).toInt := sw1 q b90 rfl rfl
                                                                                                                          replace q : (v4).toInt < 1 ∨ 55 ≤ (v4).toInt := sw1 q b91 rfl rfl
                                                                                                                          replace q : (v4).toInt < 1 ∨ 56 ≤ (v4).toInt := sw1 q b92 rfl rfl
                                                                                                                          replace q : (v4).toInt < 1 ∨ 57 ≤ (v4).toInt := sw1 q b93 rfl rfl
                                                                                                                          replace q : (v4).toInt < 1 ∨ 58 ≤ (v4).toInt := sw1 q b94 rfl rfl
                                                                                                                          replace q : (v4).toInt < 1 ∨ 59 ≤ (v4).toInt := sw1 q b95 rfl rfl
                                                                                                                          replace q : (v4).toInt < 1 ∨ 60 ≤ (v4).toInt := sw1 q b96 rfl rfl
                                                                                                                          omega
                                                                                                                        · refine E_mask [true, true, false, false, false, false, false, false] rfl ?_
                                                                                                                          exact lk_Model_instruction_j726 hγ this Q v1 M h
set_option maxRecDepth 4096 in
theorem lk_Model_instruction_j196 {γ : Gm} (hγ : Gk γ) (this : Nat) (Q : Int32 → Mem → Prop) (v1 : Int32) (v3 : Int32) (v4 : Int32) (M : Mem) (h : w_Model_instruction_j196 this Q v1 v3 v4 M) : E γ k_Model_instruction 132 196 [some (vr (some (11, this))), some (vi v1), none, some (vi v3), some (vi v4), none, none, none] [] M (Qi Q) := by
  unfold w_Model_instruction_j196 at h
  refine E_blk (lv' := [some (vr (some (11, this))), some (vi v1), none, some (vi v3), some (vi v4), none, none, none]) (st' := [vi (8 : Int32), vi v4]) (M1 := M) (pc' := 200) (tb_Model hγ) [.iload 4, .bipush 8] (by decide +kernel) rfl rfl trivial ?_
  refine E_icmp_lt (off := 19) (tgt := 219) (by decide +kernel) (by decide) (fun b30 => ?_) (fun b30 => ?_)
  · rw [if_pos b30] at h
    refine E_mask [true, true, false, true, true, false, false, false] rfl ?_
    exact lk_Model_instruction_j219 hγ this Q v1 v3 v4 M h
  · rw [if_neg b30] at h
    refine E_blk (lv' := [some (vr (some (11, this))), some (vi v1), none, some (vi v3), some (vi v4), none, none, none]) (st' := [vi (18 : Int32), vi v4]) (M1 := M) (pc' := 207) (tb_Model hγ) [.iload 4, .bipush 18] (by decide +kernel) rfl rfl trivial ?_
    refine E_icmp_gt (off := 12) (tgt := 219) (by decide +kernel) (by decide) (fun b149 => ?_) (fun b149 => ?_)
    · rw [if_pos b149] at h
      refine E_mask [true, true, false, true, true, false, false, false] rfl ?_
      exact lk_Model_instruction_j219 hγ this Q v1 v3 v4 M h
    · rw [if_neg b149] at h
      refine E_blk (lv' := [some (vr (some (11, this))), some (vi v1), none, some (vi v3), some (vi v4), none, none, none]) (st' := [vi v4, vi v1, vr (some (11, this))]) (M1 := M) (pc' := 214) (tb_Model hγ) [.aload_n 0, .iload_n 1, .iload 4] (by decide +kernel) rfl rfl trivial ?_
      refine E_callV (κ' := k_Model_reckon) (As := [vi v1, vi v4]) (st := []) mv_Model_reckon (Or.inl (tbk_mem (j := 16) (k := 223) rfl)) rfl (by decide +kernel) (Nat.le_of_ble_eq_true rfl) (Nat.le_of_ble_eq_true rfl) rfl (by decide) (lk_Model_reckon hγ this v1 v4 _ M h) (fun _ _ => Qv_r) (fun v M150 hp => Qv_k (R := fun st => E γ k_Model_instruction 132 217 [some (vr (some (11, this))), some (vi v1), none, some (vi v3), some (vi v4), none, none, none] st M150 (Qi Q)) hp (fun h => ?_))
      refine E_blk (lv' := [some (vr (some (11, this))), some (vi v1), none, some (vi v3), some (vi v4), none, none, none]) (st' := [vi (1 : Int32)]) (M1 := M150) (pc' := 218) (tb_Model hγ) [.iconst 1] (by decide +kernel) rfl rfl trivial ?_
      exact E_iret rfl (by decide +kernel) h
set_option maxRecDepth 4096 in
theorem lk_Model_instruction_j107 {γ : Gm} (hγ : Gk γ) (this : Nat) (Q : Int32 → Mem → Prop) (v1 : Int32) (v3 : Int32) (v4 : Int32) (M : Mem) (h : w_Model_instruction_j107 this Q v1 v3 v4 M) : E γ k_Model_instruction 132 107 [some (vr (some (11, this))), some (vi v1), none, some (vi v3), some (vi v4), none, none, none] [] M (Qi Q) := by
  unfold w_Model_instruction_j107 at h
  refine E_blk (lv' := [some (vr (some (11, this))), some (vi v1), none, some (vi v3), some (vi v4), none, none, none]) (st' := [vi (41 : Int32), vi v4]) (M1 := M) (pc' := 111) (tb_Model hγ) [.iload 4, .bipush 41] (by decide +kernel) rfl rfl trivial ?_
  refine E_icmp_ne (off := 10) (tgt := 121) (by decide +kernel) (by decide) (fun b17 => ?_) (fun b17 => ?_)
  · rw [if_pos b17] at h
    refine E_blk (lv' := [some (vr (some (11, this))), some (vi v1), none, some (vi v3), some (vi v4), none, none, none]) (st' := [vi v3, vi v1, vr (some (11, this))]) (M1 := M) (pc' := 117) (tb_Model hγ) [.aload_n 0, .iload_n 1, .iload_n 3] (by decide +kernel) rfl rfl trivial ?_
    refine E_callV (κ' := k_Model_newStep) (As := [vi v1, vi v3]) (st := []) mv_Model_newStep (Or.inl (tbk_mem (j := 16) (k := 199) rfl)) rfl (by decide +kernel) (Nat.le_of_ble_eq_true rfl) (Nat.le_of_ble_eq_true rfl) rfl (by decide) (lk_Model_newStep hγ this v1 v3 _ M h) (fun _ _ => Qi_r) (fun v M18 hp => Qi_k (R := fun st => E γ k_Model_instruction 132 120 [some (vr (some (11, this))), some (vi v1), none, some (vi v3), some (vi v4), none, none, none] st M18 (Qi Q)) hp (fun r19 h => ?_))
    exact E_iret rfl (by decide +kernel) h
  · rw [if_neg b17] at h
    refine E_blk (lv' := [some (vr (some (11, this))), some (vi v1), none, some (vi v3), some (vi v4), none, none, none]) (st' := [vi (54 : Int32), vi v4]) (M1 := M) (pc' := 125) (tb_Model hγ) [.iload 4, .bipush 54] (by decide +kernel) rfl rfl trivial ?_
    refine E_icmp_eq (off := 10) (tgt := 135) (by decide +kernel) (by decide) (fun b20 => ?_) (fun b20 => ?_)
    · rw [if_pos b20] at h
      refine E_mask [true, true, false, true, true, false, false, false] rfl ?_
      exact lk_Model_instruction_j135 hγ this Q v1 v3 v4 M h
    · rw [if_neg b20] at h
      refine E_blk (lv' := [some (vr (some (11, this))), some (vi v1), none, some (vi v3), some (vi v4), none, none, none]) (st' := [vi (55 : Int32), vi v4]) (M1 := M) (pc' := 132) (tb_Model hγ) [.iload 4, .bipush 55] (by decide +kernel) rfl rfl trivial ?_
      refine E_icmp_ne (off := 12) (tgt := 144) (by decide +kernel) (by decide) (fun b23 => ?_) (fun b23 => ?_)
      · rw [if_pos b23] at h
        refine E_mask [true, true, false, true, true, false, false, false] rfl ?_
        exact lk_Model_instruction_j135 hγ this Q v1 v3 v4 M h
      · rw [if_neg b23] at h
        refine E_blk (lv' := [some (vr (some (11, this))), some (vi v1), none, some (vi v3), some (vi v4), none, none, none]) (st' := [vi (60 : Int32), vi v4]) (M1 := M) (pc' := 148) (tb_Model hγ) [.iload 4, .bipush 60] (by decide +kernel) rfl rfl trivial ?_
        refine E_icmp_eq (off := 10) (tgt := 158) (by decide +kernel) (by decide) (fun b24 => ?_) (fun b24 => ?_)
        · rw [if_pos b24] at h
          refine E_mask [true, true, false, false, true, false, false, false] rfl ?_
          exact lk_Model_instruction_j158 hγ this Q v1 v4 M h
        · rw [if_neg b24] at h
          refine E_blk (lv' := [some (vr (some (11, this))), some (vi v1), none, some (vi v3), some (vi v4), none, none, none]) (st' := [vi (61 : Int32), vi v4]) (M1 := M) (pc' := 155) (tb_Model hγ) [.iload 4, .bipush 61] (by decide +kernel) rfl rfl trivial ?_
          refine E_icmp_ne (off := 11) (tgt := 166) (by decide +kernel) (by decide) (fun b27 => ?_) (fun b27 => ?_)
          · rw [if_pos b27] at h
            refine E_mask [true, true, false, false, true, false, false, false] rfl ?_
            exact lk_Model_instruction_j158 hγ this Q v1 v4 M h
          · rw [if_neg b27] at h
            refine E_blk (lv' := [some (vr (some (11, this))), some (vi v1), none, some (vi v3), some (vi v4), none, none, none]) (st' := [vi v4, vr (some (11, this))]) (M1 := M) (pc' := 169) (tb_Model hγ) [.aload_n 0, .iload 4] (by decide +kernel) rfl rfl trivial ?_
            refine E_callV (κ' := k_Model_tally) (As := [vi v4]) (st := []) mv_Model_tally (Or.inl (tbk_mem (j := 16) (k := 171) rfl)) rfl (by decide +kernel) (Nat.le_of_ble_eq_true rfl) (Nat.le_of_ble_eq_true rfl) rfl (by decide) (lk_Model_tally hγ this v4 _ M h) (fun _ _ => Qv_r) (fun v M28 hp => Qv_k (R := fun st => E γ k_Model_instruction 132 172 [some (vr (some (11, this))), some (vi v1), none, some (vi v3), some (vi v4), none, none, none] st M28 (Qi Q)) hp (fun h => ?_))
            refine E_blk (lv' := [some (vr (some (11, this))), some (vi v1), none, some (vi v3), some (vi v4), none, none, none]) (st' := [vi (23 : Int32), vi v4]) (M1 := M28) (pc' := 176) (tb_Model hγ) [.iload 4, .bipush 23] (by decide +kernel) rfl rfl trivial ?_
            refine E_icmp_lt (off := 20) (tgt := 196) (by decide +kernel) (by decide) (fun b29 => ?_) (fun b29 => ?_)
            · rw [if_pos b29] at h
              refine E_mask [true, true, false, true, true, false, false, false] rfl ?_
              exact lk_Model_instruction_j196 hγ this Q v1 v3 v4 M28 h
            · rw [if_neg b29] at h
              refine E_blk (lv' := [some (vr (some (11, this))), some (vi v1), none, some (vi v3), some (vi v4), none, none, none]) (st' := [vi (40 : Int32), vi v4]) (M1 := M28) (pc' := 183) (tb_Model hγ) [.iload 4, .bipush 40] (by decide +kernel) rfl rfl trivial ?_
              refine E_icmp_gt (off := 13) (tgt := 196) (by decide +kernel) (by decide) (fun b151 => ?_) (fun b151 => ?_)
              · rw [if_pos b151] at h
                refine E_mask [true, true, false, true, true, false, false, false] rfl ?_
                exact lk_Model_instruction_j196 hγ this Q v1 v3 v4 M28 h
              · rw [if_neg b151] at h
                refine E_blk (lv' := [some (vr (some (11, this))), some (vi v1), none, some (vi v3), some (vi v4), none, none, none]) (st' := [vi v4, vi v3, vi v1, vr (some (11, this))]) (M1 := M28) (pc' := 191) (tb_Model hγ) [.aload_n 0, .iload_n 1, .iload_n 3, .iload 4] (by decide +kernel) rfl rfl trivial ?_
                refine E_callV (κ' := k_Model_goStep) (As := [vi v1, vi v3, vi v4]) (st := []) mv_Model_goStep (Or.inl (tbk_mem (j := 16) (k := 219) rfl)) rfl (by decide +kernel) (Nat.le_of_ble_eq_true rfl) (Nat.le_of_ble_eq_true rfl) rfl (by decide) (lk_Model_goStep hγ this v1 v3 v4 _ M28 h) (fun _ _ => Qv_r) (fun v M152 hp => Qv_k (R := fun st => E γ k_Model_instruction 132 194 [some (vr (some (11, this))), some (vi v1), none, some (vi v3), some (vi v4), none, none, none] st M152 (Qi Q)) hp (fun h => ?_))
                refine E_blk (lv' := [some (vr (some (11, this))), some (vi v1), none, some (vi v3), some (vi v4), none, none, none]) (st' := [vi (1 : Int32)]) (M1 := M152) (pc' := 195) (tb_Model hγ) [.iconst 1] (by decide +kernel) rfl rfl trivial ?_
                exact E_iret rfl (by decide +kernel) h
set_option maxRecDepth 4096 in
theorem lk_Model_instruction_j83 {γ : Gm} (hγ : Gk γ) (this : Nat) (Q : Int32 → Mem → Prop) (v1 : Int32) (v2 : Int32) (v3 : Int32) (v4 : Int32) (M : Mem) (h : w_Model_instruction_j83 this Q v1 v2 v3 v4 M) : E γ k_Model_instruction 132 83 [some (vr (some (11, this))), some (vi v1), some (vi v2), some (vi v3), some (vi v4), none, none, none] [] M (Qi Q) := by
  unfold w_Model_instruction_j83 at h
  refine E_blk (lv' := [some (vr (some (11, this))), some (vi v1), some (vi v2), some (vi v3), some (vi v4), none, none, none]) (st' := [vi (50 : Int32), vi v4]) (M1 := M) (pc' := 87) (tb_Model hγ) [.iload 4, .bipush 50] (by decide +kernel) rfl rfl trivial ?_
  refine E_icmp_lt (off := 20) (tgt := 107) (by decide +kernel) (by decide) (fun b16 => ?_) (fun b16 => ?_)
  · rw [if_pos b16] at h
    refine E_mask [true, true, false, true, true, false, false, false] rfl ?_
    exact lk_Model_instruction_j107 hγ this Q v1 v3 v4 M h
  · rw [if_neg b16] at h
    refine E_blk (lv' := [some (vr (some (11, this))), some (vi v1), some (vi v2), some (vi v3), some (vi v4), none, none, none]) (st' := [vi (53 : Int32), vi v4]) (M1 := M) (pc' := 94) (tb_Model hγ) [.iload 4, .bipush 53] (by decide +kernel) rfl rfl trivial ?_
    refine E_icmp_gt (off := 13) (tgt := 107) (by decide +kernel) (by decide) (fun b153 => ?_) (fun b153 => ?_)
    · rw [if_pos b153] at h
      refine E_mask [true, true, false, true, true, false, false, false] rfl ?_
      exact lk_Model_instruction_j107 hγ this Q v1 v3 v4 M h
    · rw [if_neg b153] at h
      refine E_blk (lv' := [some (vr (some (11, this))), some (vi v1), some (vi v2), some (vi v3), some (vi v4), none, none, none]) (st' := [vi v4, vi v3, vi v2, vi v1, vr (some (11, this))]) (M1 := M) (pc' := 103) (tb_Model hγ) [.aload_n 0, .iload_n 1, .iload_n 2, .iload_n 3, .iload 4] (by decide +kernel) rfl rfl trivial ?_
      refine E_callV (κ' := k_Model_callStep) (As := [vi v1, vi v2, vi v3, vi v4]) (st := []) mv_Model_callStep (Or.inl (tbk_mem (j := 16) (k := 191) rfl)) rfl (by decide +kernel) (Nat.le_of_ble_eq_true rfl) (Nat.le_of_ble_eq_true rfl) rfl (by decide) (lk_Model_callStep hγ this v1 v2 v3 v4 _ M h) (fun _ _ => Qi_r) (fun v M154 hp => Qi_k (R := fun st => E γ k_Model_instruction 132 106 [some (vr (some (11, this))), some (vi v1), some (vi v2), some (vi v3), some (vi v4), none, none, none] st M154 (Qi Q)) hp (fun r155 h => ?_))
      exact E_iret rfl (by decide +kernel) h
set_option maxRecDepth 4096 in
theorem lk_Model_instruction {γ : Gm} (hγ : Gk γ) (this : Nat) (Q : Int32 → Mem → Prop) (M : Mem) (h : w_Model_instruction this Q M) : E γ k_Model_instruction 132 0 [some (vr (some (11, this))), none, none, none, none, none, none, none] [] M (Qi Q) := by
  unfold w_Model_instruction at h
  refine E_blk (lv' := [some (vr (some (11, this))), none, none, none, none, none, none, none]) (st' := [vr (mR M 11 this 46)]) (M1 := M) (pc' := 4) (tb_Model hγ) [.aload_n 0, .getfield 917] (by decide +kernel) rfl rfl trivial ?_
  obtain ⟨i1, ei1, h⟩ := h
  rw [ei1]
  refine E_blk (lv' := [some (vr (some (11, this))), none, none, none, none, none, none, none]) (st' := [vr (mR M 11 this 46), vr (some (171, i1))]) (M1 := M) (pc' := 11) (tb_Model hγ) [.getfield 942, .aload_n 0, .getfield 917] (by decide +kernel) rfl rfl trivial ?_
  obtain ⟨i2, ei2, h⟩ := h
  rw [ei2]
  obtain ⟨c3, h⟩ := h
  refine E_blk (lv' := [some (vr (some (11, this))), some (vi (mI M 171 i1 ((mI M 13 i2 16) - (1 : Int32)).toNatClampNeg)), none, none, none, none, none, none]) (st' := [vr (mR M 11 this 46)]) (M1 := M) (pc' := 22) (tb_Model hγ) [.getfield 945, .iconst 1, .isub, .iaload, .istore_n 1, .aload_n 0, .getfield 917] (by decide +kernel) rfl rfl ⟨c3, trivial⟩ ?_
  obtain ⟨i4, ei4, h⟩ := h
  rw [ei4]
  obtain ⟨c5, h⟩ := h
  refine E_blk (lv' := [some (vr (some (11, this))), some (vi (mI M 171 i1 ((mI M 13 i2 16) - (1 : Int32)).toNatClampNeg)), some (vi (mI M 173 i4 (mI M 171 i1 ((mI M 13 i2 16) - (1 : Int32)).toNatClampNeg).toNatClampNeg)), none, none, none, none, none]) (st' := []) (M1 := M) (pc' := 28) (tb_Model hγ) [.getfield 927, .iload_n 1, .iaload, .istore_n 2] (by decide +kernel) rfl rfl ⟨c5, trivial⟩ ?_
  obtain ⟨x6, ex6, h⟩ := h
  rw [← ex6]
  refine E_blk (lv' := [some (vr (some (11, this))), some (vi (mI M 171 i1 ((mI M 13 i2 16) - (1 : Int32)).toNatClampNeg)), some (vi x6), none, none, none, none, none]) (st' := [vr (mR M 11 this 45)]) (M1 := M) (pc' := 32) (tb_Model hγ) [.aload_n 0, .getfield 522] (by decide +kernel) rfl rfl trivial ?_
  obtain ⟨i7, ei7, h⟩ := h
  rw [ei7]
  obtain ⟨c8, h⟩ := h
  refine E_blk (lv' := [some (vr (some (11, this))), some (vi (mI M 171 i1 ((mI M 13 i2 16) - (1 : Int32)).toNatClampNeg)), some (vi x6), none, none, none, none, none]) (st' := [vr (mR M 11 this 46), vi (mI M 149 i7 x6.toNatClampNeg)]) (M1 := M) (pc' := 41) (tb_Model hγ) [.getfield 462, .iload_n 2, .iaload, .aload_n 0, .getfield 917] (by decide +kernel) rfl rfl ⟨c8, trivial⟩ ?_
  obtain ⟨i9, ei9, h⟩ := h
  rw [ei9]
  obtain ⟨c10, h⟩ := h
  refine E_blk (lv' := [some (vr (some (11, this))), some (vi (mI M 171 i1 ((mI M 13 i2 16) - (1 : Int32)).toNatClampNeg)), some (vi x6), some (vi ((mI M 149 i7 x6.toNatClampNeg) + (mI M 174 i9 (mI M 171 i1 ((mI M 13 i2 16) - (1 : Int32)).toNatClampNeg).toNatClampNeg))), none, none, none, none]) (st' := []) (M1 := M) (pc' := 48) (tb_Model hγ) [.getfield 930, .iload_n 1, .iaload, .iadd, .istore_n 3] (by decide +kernel) rfl rfl ⟨c10, trivial⟩ ?_
  obtain ⟨x11, ex11, h⟩ := h
  rw [← ex11]
  refine E_blk (lv' := [some (vr (some (11, this))), some (vi (mI M 171 i1 ((mI M 13 i2 16) - (1 : Int32)).toNatClampNeg)), some (vi x6), some (vi x11), none, none, none, none]) (st' := [vr (mR M 11 this 45)]) (M1 := M) (pc' := 52) (tb_Model hγ) [.aload_n 0, .getfield 522] (by decide +kernel) rfl rfl trivial ?_
  obtain ⟨i12, ei12, h⟩ := h
  rw [ei12]
  refine E_blk (lv' := [some (vr (some (11, this))), some (vi (mI M 171 i1 ((mI M 13 i2 16) - (1 : Int32)).toNatClampNeg)), some (vi x6), some (vi x11), none, none, none, none]) (st' := [vr (mR M 12 i12 30)]) (M1 := M) (pc' := 55) (tb_Model hγ) [.getfield 674] (by decide +kernel) rfl rfl trivial ?_
  obtain ⟨i13, ei13, h⟩ := h
  rw [ei13]
  obtain ⟨c14, h⟩ := h
  refine E_blk (lv' := [some (vr (some (11, this))), some (vi (mI M 171 i1 ((mI M 13 i2 16) - (1 : Int32)).toNatClampNeg)), some (vi x6), some (vi x11), some (vi (mI M 401 i13 x11.toNatClampNeg)), none, none, none]) (st' := [vi (46 : Int32), vi (mI M 401 i13 x11.toNatClampNeg)]) (M1 := M) (pc' := 63) (tb_Model hγ) [.iload_n 3, .baload, .istore 4, .iload 4, .bipush 46] (by decide +kernel) rfl rfl ⟨c14, trivial⟩ ?_
  refine E_icmp_lt (off := 20) (tgt := 83) (by decide +kernel) (by decide) (fun b15 => ?_) (fun b15 => ?_)
  · rw [if_pos b15] at h
    refine E_mask [true, true, true, true, true, false, false, false] rfl ?_
    exact lk_Model_instruction_j83 hγ this Q (mI M 171 i1 ((mI M 13 i2 16) - (1 : Int32)).toNatClampNeg) x6 x11 (mI M 401 i13 x11.toNatClampNeg) M h
  · rw [if_neg b15] at h
    refine E_blk (lv' := [some (vr (some (11, this))), some (vi (mI M 171 i1 ((mI M 13 i2 16) - (1 : Int32)).toNatClampNeg)), some (vi x6), some (vi x11), some (vi (mI M 401 i13 x11.toNatClampNeg)), none, none, none]) (st' := [vi (49 : Int32), vi (mI M 401 i13 x11.toNatClampNeg)]) (M1 := M) (pc' := 70) (tb_Model hγ) [.iload 4, .bipush 49] (by decide +kernel) rfl rfl trivial ?_
    refine E_icmp_gt (off := 13) (tgt := 83) (by decide +kernel) (by decide) (fun b156 => ?_) (fun b156 => ?_)
    · rw [if_pos b156] at h
      refine E_mask [true, true, true, true, true, false, false, false] rfl ?_
      exact lk_Model_instruction_j83 hγ this Q (mI M 171 i1 ((mI M 13 i2 16) - (1 : Int32)).toNatClampNeg) x6 x11 (mI M 401 i13 x11.toNatClampNeg) M h
    · rw [if_neg b156] at h
      refine E_blk (lv' := [some (vr (some (11, this))), some (vi (mI M 171 i1 ((mI M 13 i2 16) - (1 : Int32)).toNatClampNeg)), some (vi x6), some (vi x11), some (vi (mI M 401 i13 x11.toNatClampNeg)), none, none, none]) (st' := [vi (mI M 401 i13 x11.toNatClampNeg), vi x11, vi x6, vi (mI M 171 i1 ((mI M 13 i2 16) - (1 : Int32)).toNatClampNeg), vr (some (11, this))]) (M1 := M) (pc' := 79) (tb_Model hγ) [.aload_n 0, .iload_n 1, .iload_n 2, .iload_n 3, .iload 4] (by decide +kernel) rfl rfl trivial ?_
      refine E_callV (κ' := k_Model_fieldStep) (As := [vi (mI M 171 i1 ((mI M 13 i2 16) - (1 : Int32)).toNatClampNeg), vi x6, vi x11, vi (mI M 401 i13 x11.toNatClampNeg)]) (st := []) mv_Model_fieldStep (Or.inl (tbk_mem (j := 16) (k := 155) rfl)) rfl (by decide +kernel) (Nat.le_of_ble_eq_true rfl) (Nat.le_of_ble_eq_true rfl) rfl (by decide) (lk_Model_fieldStep hγ this (mI M 171 i1 ((mI M 13 i2 16) - (1 : Int32)).toNatClampNeg) x6 x11 (mI M 401 i13 x11.toNatClampNeg) _ M h) (fun _ _ => Qi_r) (fun v M157 hp => Qi_k (R := fun st => E γ k_Model_instruction 132 82 [some (vr (some (11, this))), some (vi (mI M 171 i1 ((mI M 13 i2 16) - (1 : Int32)).toNatClampNeg)), some (vi x6), some (vi x11), some (vi (mI M 401 i13 x11.toNatClampNeg)), none, none, none] st M157 (Qi Q)) hp (fun r158 h => ?_))
      exact E_iret rfl (by decide +kernel) h
def w_Model_advance_L114 (this : Nat) (Q : Int32 → Mem → Prop) : Nat → Int32 → Mem → Prop
  | 0, _, _ => False
  | n + 1, v3, M => ∃ i19, (mR M 11 this 31) = some (300, i19) ∧ ∃ i20, (mR M 11 this 46) = some (13, i20) ∧ vp_in (mI M 13 i20 7) (mL M 300 i19) ∧ if (mI M 300 i19 (mI M 13 i20 7).toNatClampNeg) ≤ v3 then (Q (0 : Int32) M) else (∃ i23, (mR M 11 this 46) = some (13, i23) ∧ ∃ i24, (mR M 11 this 46) = some (13, i24) ∧ vp_in v3 (mL M 170 i24) ∧ vp_in v3 (mL M 176 i23) ∧ (w_Model_advance_L114 this Q n) (v3 + (1 : Int32)) (sI M 176 i23 v3.toNatClampNeg (mI M 170 i24 v3.toNatClampNeg)))
def w_Model_advance_j84 (this : Nat) (Q : Int32 → Mem → Prop) (v1 : Int32) (v2 : Int32) (M : Mem) : Prop :=
  if v2 = 0 then (∃ i17, (mR M 11 this 46) = some (13, i17) ∧ w_Model_newFrame this v1 (fun M18 => ∃ n27 : Nat, w_Model_advance_L114 this Q n27 (0 : Int32) M18) (sI M 13 i17 4 (2 : Int32))) else (if v2 = (2 : Int32) then (Q (2 : Int32) M) else (Q (0 : Int32) M))
def w_Model_advance_j66 (this : Nat) (Q : Int32 → Mem → Prop) (v1 : Int32) (s0 : Int32) (M : Mem) : Prop :=
  if s0 = (3 : Int32) then (w_Model_throwNew this (mI M 11 this 81) (mI M 11 this 80) (fun M15 => w_Model_advance_j84 this Q v1 s0 M15) M) else (w_Model_advance_j84 this Q v1 s0 M)
def w_Model_advance_j156 (this : Nat) (Q : Int32 → Mem → Prop)  (M : Mem) : Prop :=
  ∃ i29, (mR M 11 this 46) = some (13, i29) ∧ ∃ i30, (mR M 11 this 46) = some (13, i30) ∧ vp_in ((mI M 13 i30 16) - (1 : Int32)) (mL M 171 i29) ∧ if 0 ≤ (mI M 171 i29 ((mI M 13 i30 16) - (1 : Int32)).toNatClampNeg) then (w_Model_instruction this (fun r34 M33 => Q r34 M33) M) else (w_Model_startOn this (fun r36 M35 => Q r36 M35) M)
def w_Model_advance (this : Nat) (Q : Int32 → Mem → Prop) (M : Mem) : Prop :=
  ∃ i1, (mR M 11 this 46) = some (13, i1) ∧ if (mI M 13 i1 4) = 0 then (∃ i3, (mR M 11 this 46) = some (13, i3) ∧ if (mI M 13 i3 16) = 0 then (∃ i5, (mR M 11 this 46) = some (13, i5) ∧ ∃ i6, (mR M 11 this 46) = some (13, i6) ∧ ∃ i7, (mR M 11 this 46) = some (13, i7) ∧ w_Model_findMethod this (52 : Int32) (mI M 13 i5 5) (mI M 13 i6 6) (mI M 13 i7 7) (-2 : Int32) (fun r9 M8 => if 0 ≤ r9 then (¬ (12 : Int32) = 0 ∧ w_Model_startOf this (r9 / (12 : Int32)) (fun r13 M12 => w_Model_advance_j66 this Q r9 r13 M12) M8) else (w_Model_advance_j66 this Q r9 (3 : Int32) M8)) M) else (w_Model_advance_j156 this Q  M)) else (w_Model_advance_j156 this Q  M)
set_option maxRecDepth 4096 in
theorem lk_Model_advance_L114 {γ : Gm} (hγ : Gk γ) (this : Nat) (Q : Int32 → Mem → Prop) : ∀ (n : Nat) (v3 : Int32) (M : Mem), w_Model_advance_L114 this Q n v3 M → E γ k_Model_advance 133 114 [some (vr (some (11, this))), none, none, some (vi v3)] [] M (Qi Q) := by
  intro n
  induction n with
  | zero => intro v3 M h; exact h.elim
  | succ n ih =>
    intro v3 M h
    unfold w_Model_advance_L114 at h
    refine E_blk (lv' := [some (vr (some (11, this))), none, none, some (vi v3)]) (st' := [vr (mR M 11 this 31), vi v3]) (M1 := M) (pc' := 119) (tb_Model hγ) [.iload_n 3, .aload_n 0, .getfield 80] (by decide +kernel) rfl rfl trivial ?_
    obtain ⟨i19, ei19, h⟩ := h
    rw [ei19]
    refine E_blk (lv' := [some (vr (some (11, this))), none, none, some (vi v3)]) (st' := [vr (mR M 11 this 46), vr (some (300, i19)), vi v3]) (M1 := M) (pc' := 123) (tb_Model hγ) [.aload_n 0, .getfield 917] (by decide +kernel) rfl rfl trivial ?_
    obtain ⟨i20, ei20, h⟩ := h
    rw [ei20]
    obtain ⟨c21, h⟩ := h
    refine E_blk (lv' := [some (vr (some (11, this))), none, none, some (vi v3)]) (st' := [vi (mI M 300 i19 (mI M 13 i20 7).toNatClampNeg), vi v3]) (M1 := M) (pc' := 127) (tb_Model hγ) [.getfield 1016, .iaload] (by decide +kernel) rfl rfl ⟨c21, trivial⟩ ?_
    refine E_icmp_ge (off := 27) (tgt := 154) (by decide +kernel) (by decide) (fun b22 => ?_) (fun b22 => ?_)
    · rw [if_pos b22] at h
      refine E_blk (lv' := [some (vr (some (11, this))), none, none, some (vi v3)]) (st' := [vi (0 : Int32)]) (M1 := M) (pc' := 155) (tb_Model hγ) [.iconst 0] (by decide +kernel) rfl rfl trivial ?_
      exact E_iret rfl (by decide +kernel) h
    · rw [if_neg b22] at h
      refine E_blk (lv' := [some (vr (some (11, this))), none, none, some (vi v3)]) (st' := [vr (mR M 11 this 46)]) (M1 := M) (pc' := 134) (tb_Model hγ) [.aload_n 0, .getfield 917] (by decide +kernel) rfl rfl trivial ?_
      obtain ⟨i23, ei23, h⟩ := h
      rw [ei23]
      refine E_blk (lv' := [some (vr (some (11, this))), none, none, some (vi v3)]) (st' := [vr (mR M 11 this 46), vi v3, vr (some (176, i23))]) (M1 := M) (pc' := 142) (tb_Model hγ) [.getfield 936, .iload_n 3, .aload_n 0, .getfield 917] (by decide +kernel) rfl rfl trivial ?_
      obtain ⟨i24, ei24, h⟩ := h
      rw [ei24]
      obtain ⟨c25, c26, h⟩ := h
      refine E_blk (lv' := [some (vr (some (11, this))), none, none, some (vi (v3 + (1 : Int32)))]) (st' := []) (M1 := (sI M 176 i23 v3.toNatClampNeg (mI M 170 i24 v3.toNatClampNeg))) (pc' := 151) (tb_Model hγ) [.getfield 1023, .iload_n 3, .iaload, .iastore, .iinc 3 1] (by decide +kernel) rfl rfl ⟨c25, c26, trivial⟩ ?_
      refine E_goto (off := -37) (tgt := 114) (by decide +kernel) (by decide) ?_
      refine E_mask [true, false, false, true] rfl ?_
      exact ih (v3 + (1 : Int32)) (sI M 176 i23 v3.toNatClampNeg (mI M 170 i24 v3.toNatClampNeg)) h
set_option maxRecDepth 4096 in
theorem lk_Model_advance_j84 {γ : Gm} (hγ : Gk γ) (this : Nat) (Q : Int32 → Mem → Prop) (v1 : Int32) (v2 : Int32) (M : Mem) (h : w_Model_advance_j84 this Q v1 v2 M) : E γ k_Model_advance 133 84 [some (vr (some (11, this))), some (vi v1), some (vi v2), none] [] M (Qi Q) := by
  unfold w_Model_advance_j84 at h
  refine E_blk (lv' := [some (vr (some (11, this))), some (vi v1), some (vi v2), none]) (st' := [vi v2]) (M1 := M) (pc' := 85) (tb_Model hγ) [.iload_n 2] (by decide +kernel) rfl rfl trivial ?_
  refine E_if_eq (off := 14) (tgt := 99) (by decide +kernel) (by decide) (fun b16 => ?_) (fun b16 => ?_)
  · rw [if_pos b16] at h
    refine E_blk (lv' := [some (vr (some (11, this))), some (vi v1), some (vi v2), none]) (st' := [vr (mR M 11 this 46)]) (M1 := M) (pc' := 103) (tb_Model hγ) [.aload_n 0, .getfield 917] (by decide +kernel) rfl rfl trivial ?_
    obtain ⟨i17, ei17, h⟩ := h
    rw [ei17]
    refine E_blk (lv' := [some (vr (some (11, this))), some (vi v1), some (vi v2), none]) (st' := [vi v1, vr (some (11, this))]) (M1 := (sI M 13 i17 4 (2 : Int32))) (pc' := 109) (tb_Model hγ) [.iconst 2, .putfield 1007, .aload_n 0, .iload_n 1] (by decide +kernel) rfl rfl trivial ?_
    refine E_callV (κ' := k_Model_newFrame) (As := [vi v1]) (st := []) mv_Model_newFrame (Or.inl (tbk_mem (j := 16) (k := 139) rfl)) rfl (by decide +kernel) (Nat.le_of_ble_eq_true rfl) (Nat.le_of_ble_eq_true rfl) rfl (by decide) (lk_Model_newFrame hγ this v1 _ (sI M 13 i17 4 (2 : Int32)) h) (fun _ _ => Qv_r) (fun v M18 hp => Qv_k (R := fun st => E γ k_Model_advance 133 112 [some (vr (some (11, this))), some (vi v1), some (vi v2), none] st M18 (Qi Q)) hp (fun h => ?_))
    refine E_blk (lv' := [some (vr (some (11, this))), some (vi v1), some (vi v2), some (vi (0 : Int32))]) (st' := []) (M1 := M18) (pc' := 114) (tb_Model hγ) [.iconst 0, .istore_n 3] (by decide +kernel) rfl rfl trivial ?_
    obtain ⟨n27, h⟩ := h
    refine E_mask [true, false, false, true] rfl ?_
    exact lk_Model_advance_L114 hγ this Q n27 (0 : Int32) M18 h
  · rw [if_neg b16] at h
    refine E_blk (lv' := [some (vr (some (11, this))), some (vi v1), some (vi v2), none]) (st' := [vi (2 : Int32), vi v2]) (M1 := M) (pc' := 90) (tb_Model hγ) [.iload_n 2, .iconst 2] (by decide +kernel) rfl rfl trivial ?_
    refine E_icmp_ne (off := 7) (tgt := 97) (by decide +kernel) (by decide) (fun b28 => ?_) (fun b28 => ?_)
    · rw [if_pos b28] at h
      refine E_blk (lv' := [some (vr (some (11, this))), some (vi v1), some (vi v2), none]) (st' := [vi (2 : Int32)]) (M1 := M) (pc' := 94) (tb_Model hγ) [.iconst 2] (by decide +kernel) rfl rfl trivial ?_
      refine E_goto (off := 4) (tgt := 98) (by decide +kernel) (by decide) ?_
      exact E_iret rfl (by decide +kernel) h
    · rw [if_neg b28] at h
      refine E_blk (lv' := [some (vr (some (11, this))), some (vi v1), some (vi v2), none]) (st' := [vi (0 : Int32)]) (M1 := M) (pc' := 98) (tb_Model hγ) [.iconst 0] (by decide +kernel) rfl rfl trivial ?_
      exact E_iret rfl (by decide +kernel) h
set_option maxRecDepth 4096 in
theorem lk_Model_advance_j66 {γ : Gm} (hγ : Gk γ) (this : Nat) (Q : Int32 → Mem → Prop) (v1 : Int32) (s0 : Int32) (M : Mem) (h : w_Model_advance_j66 this Q v1 s0 M) : E γ k_Model_advance 133 66 [some (vr (some (11, this))), some (vi v1), none, none] [vi s0] M (Qi Q) := by
  unfold w_Model_advance_j66 at h
  refine E_blk (lv' := [some (vr (some (11, this))), some (vi v1), some (vi s0), none]) (st' := [vi (3 : Int32), vi s0]) (M1 := M) (pc' := 69) (tb_Model hγ) [.istore_n 2, .iload_n 2, .iconst 3] (by decide +kernel) rfl rfl trivial ?_
  refine E_icmp_ne (off := 15) (tgt := 84) (by decide +kernel) (by decide) (fun b14 => ?_) (fun b14 => ?_)
  · rw [if_pos b14] at h
    refine E_blk (lv' := [some (vr (some (11, this))), some (vi v1), some (vi s0), none]) (st' := [vi (mI M 11 this 80), vi (mI M 11 this 81), vr (some (11, this))]) (M1 := M) (pc' := 81) (tb_Model hγ) [.aload_n 0, .aload_n 0, .getfield 844, .aload_n 0, .getfield 847] (by decide +kernel) rfl rfl trivial ?_
    refine E_callV (κ' := k_Model_throwNew) (As := [vi (mI M 11 this 81), vi (mI M 11 this 80)]) (st := []) mv_Model_throwNew (Or.inl (tbk_mem (j := 16) (k := 111) rfl)) rfl (by decide +kernel) (Nat.le_of_ble_eq_true rfl) (Nat.le_of_ble_eq_true rfl) rfl (by decide) (lk_Model_throwNew hγ this (mI M 11 this 81) (mI M 11 this 80) _ M h) (fun _ _ => Qv_r) (fun v M15 hp => Qv_k (R := fun st => E γ k_Model_advance 133 84 [some (vr (some (11, this))), some (vi v1), some (vi s0), none] st M15 (Qi Q)) hp (fun h => ?_))
    refine E_mask [true, true, true, false] rfl ?_
    exact lk_Model_advance_j84 hγ this Q v1 s0 M15 h
  · rw [if_neg b14] at h
    refine E_mask [true, true, true, false] rfl ?_
    exact lk_Model_advance_j84 hγ this Q v1 s0 M h
set_option maxRecDepth 4096 in
theorem lk_Model_advance_j156 {γ : Gm} (hγ : Gk γ) (this : Nat) (Q : Int32 → Mem → Prop)  (M : Mem) (h : w_Model_advance_j156 this Q  M) : E γ k_Model_advance 133 156 [some (vr (some (11, this))), none, none, none] [] M (Qi Q) := by
  unfold w_Model_advance_j156 at h
  refine E_blk (lv' := [some (vr (some (11, this))), none, none, none]) (st' := [vr (mR M 11 this 46)]) (M1 := M) (pc' := 160) (tb_Model hγ) [.aload_n 0, .getfield 917] (by decide +kernel) rfl rfl trivial ?_
  obtain ⟨i29, ei29, h⟩ := h
  rw [ei29]
  refine E_blk (lv' := [some (vr (some (11, this))), none, none, none]) (st' := [vr (mR M 11 this 46), vr (some (171, i29))]) (M1 := M) (pc' := 167) (tb_Model hγ) [.getfield 942, .aload_n 0, .getfield 917] (by decide +kernel) rfl rfl trivial ?_
  obtain ⟨i30, ei30, h⟩ := h
  rw [ei30]
  obtain ⟨c31, h⟩ := h
  refine E_blk (lv' := [some (vr (some (11, this))), none, none, none]) (st' := [vi (mI M 171 i29 ((mI M 13 i30 16) - (1 : Int32)).toNatClampNeg)]) (M1 := M) (pc' := 173) (tb_Model hγ) [.getfield 945, .iconst 1, .isub, .iaload] (by decide +kernel) rfl rfl ⟨c31, trivial⟩ ?_
  refine E_if_ge (off := 10) (tgt := 183) (by decide +kernel) (by decide) (fun b32 => ?_) (fun b32 => ?_)
  · rw [if_pos b32] at h
    refine E_blk (lv' := [some (vr (some (11, this))), none, none, none]) (st' := [vr (some (11, this))]) (M1 := M) (pc' := 184) (tb_Model hγ) [.aload_n 0] (by decide +kernel) rfl rfl trivial ?_
    refine E_callV (κ' := k_Model_instruction) (As := []) (st := []) mv_Model_instruction (Or.inl (tbk_mem (j := 16) (k := 151) rfl)) rfl (by decide +kernel) (Nat.le_of_ble_eq_true rfl) (Nat.le_of_ble_eq_true rfl) rfl (by decide) (lk_Model_instruction hγ this _ M h) (fun _ _ => Qi_r) (fun v M33 hp => Qi_k (R := fun st => E γ k_Model_advance 133 187 [some (vr (some (11, this))), none, none, none] st M33 (Qi Q)) hp (fun r34 h => ?_))
    exact E_iret rfl (by decide +kernel) h
  · rw [if_neg b32] at h
    refine E_blk (lv' := [some (vr (some (11, this))), none, none, none]) (st' := [vr (some (11, this))]) (M1 := M) (pc' := 177) (tb_Model hγ) [.aload_n 0] (by decide +kernel) rfl rfl trivial ?_
    refine E_callV (κ' := k_Model_startOn) (As := []) (st := []) mv_Model_startOn (Or.inl (tbk_mem (j := 16) (k := 143) rfl)) rfl (by decide +kernel) (Nat.le_of_ble_eq_true rfl) (Nat.le_of_ble_eq_true rfl) rfl (by decide) (lk_Model_startOn hγ this _ M h) (fun _ _ => Qi_r) (fun v M35 hp => Qi_k (R := fun st => E γ k_Model_advance 133 180 [some (vr (some (11, this))), none, none, none] st M35 (Qi Q)) hp (fun r36 h => ?_))
    refine E_goto (off := 7) (tgt := 187) (by decide +kernel) (by decide) ?_
    exact E_iret rfl (by decide +kernel) h
set_option maxRecDepth 4096 in
theorem lk_Model_advance {γ : Gm} (hγ : Gk γ) (this : Nat) (Q : Int32 → Mem → Prop) (M : Mem) (h : w_Model_advance this Q M) : E γ k_Model_advance 133 0 [some (vr (some (11, this))), none, none, none] [] M (Qi Q) := by
  unfold w_Model_advance at h
  refine E_blk (lv' := [some (vr (some (11, this))), none, none, none]) (st' := [vr (mR M 11 this 46)]) (M1 := M) (pc' := 4) (tb_Model hγ) [.aload_n 0, .getfield 917] (by decide +kernel) rfl rfl trivial ?_
  obtain ⟨i1, ei1, h⟩ := h
  rw [ei1]
  refine E_blk (lv' := [some (vr (some (11, this))), none, none, none]) (st' := [vi (mI M 13 i1 4)]) (M1 := M) (pc' := 7) (tb_Model hγ) [.getfield 1007] (by decide +kernel) rfl rfl trivial ?_
  refine E_if_ne (off := 149) (tgt := 156) (by decide +kernel) (by decide) (fun b2 => ?_) (fun b2 => ?_)
  · rw [if_pos b2] at h
    refine E_blk (lv' := [some (vr (some (11, this))), none, none, none]) (st' := [vr (mR M 11 this 46)]) (M1 := M) (pc' := 14) (tb_Model hγ) [.aload_n 0, .getfield 917] (by decide +kernel) rfl rfl trivial ?_
    obtain ⟨i3, ei3, h⟩ := h
    rw [ei3]
    refine E_blk (lv' := [some (vr (some (11, this))), none, none, none]) (st' := [vi (mI M 13 i3 16)]) (M1 := M) (pc' := 17) (tb_Model hγ) [.getfield 945] (by decide +kernel) rfl rfl trivial ?_
    refine E_if_ne (off := 139) (tgt := 156) (by decide +kernel) (by decide) (fun b4 => ?_) (fun b4 => ?_)
    · rw [if_pos b4] at h
      refine E_blk (lv' := [some (vr (some (11, this))), none, none, none]) (st' := [vr (mR M 11 this 46), vi (52 : Int32), vr (some (11, this))]) (M1 := M) (pc' := 27) (tb_Model hγ) [.aload_n 0, .bipush 52, .aload_n 0, .getfield 917] (by decide +kernel) rfl rfl trivial ?_
      obtain ⟨i5, ei5, h⟩ := h
      rw [ei5]
      refine E_blk (lv' := [some (vr (some (11, this))), none, none, none]) (st' := [vr (mR M 11 this 46), vi (mI M 13 i5 5), vi (52 : Int32), vr (some (11, this))]) (M1 := M) (pc' := 34) (tb_Model hγ) [.getfield 1010, .aload_n 0, .getfield 917] (by decide +kernel) rfl rfl trivial ?_
      obtain ⟨i6, ei6, h⟩ := h
      rw [ei6]
      refine E_blk (lv' := [some (vr (some (11, this))), none, none, none]) (st' := [vr (mR M 11 this 46), vi (mI M 13 i6 6), vi (mI M 13 i5 5), vi (52 : Int32), vr (some (11, this))]) (M1 := M) (pc' := 41) (tb_Model hγ) [.getfield 1013, .aload_n 0, .getfield 917] (by decide +kernel) rfl rfl trivial ?_
      obtain ⟨i7, ei7, h⟩ := h
      rw [ei7]
      refine E_blk (lv' := [some (vr (some (11, this))), none, none, none]) (st' := [vi (-2 : Int32), vi (mI M 13 i7 7), vi (mI M 13 i6 6), vi (mI M 13 i5 5), vi (52 : Int32), vr (some (11, this))]) (M1 := M) (pc' := 46) (tb_Model hγ) [.getfield 1016, .bipush (.negSucc 1)] (by decide +kernel) rfl rfl trivial ?_
      refine E_callV (κ' := k_Model_findMethod) (As := [vi (52 : Int32), vi (mI M 13 i5 5), vi (mI M 13 i6 6), vi (mI M 13 i7 7), vi (-2 : Int32)]) (st := []) mv_Model_findMethod (Or.inl (tbk_mem (j := 16) (k := 79) rfl)) rfl (by decide +kernel) (Nat.le_of_ble_eq_true rfl) (Nat.le_of_ble_eq_true rfl) rfl (by decide) (lk_Model_findMethod hγ this (52 : Int32) (mI M 13 i5 5) (mI M 13 i6 6) (mI M 13 i7 7) (-2 : Int32) _ M h) (fun _ _ => Qi_r) (fun v M8 hp => Qi_k (R := fun st => E γ k_Model_advance 133 49 [some (vr (some (11, this))), none, none, none] st M8 (Qi Q)) hp (fun r9 h => ?_))
      refine E_blk (lv' := [some (vr (some (11, this))), some (vi r9), none, none]) (st' := [vi r9]) (M1 := M8) (pc' := 51) (tb_Model hγ) [.istore_n 1, .iload_n 1] (by decide +kernel) rfl rfl trivial ?_
      refine E_if_ge (off := 7) (tgt := 58) (by decide +kernel) (by decide) (fun b10 => ?_) (fun b10 => ?_)
      · rw [if_pos b10] at h
        obtain ⟨c11, h⟩ := h
        refine E_blk (lv' := [some (vr (some (11, this))), some (vi r9), none, none]) (st' := [vi (r9 / (12 : Int32)), vr (some (11, this))]) (M1 := M8) (pc' := 63) (tb_Model hγ) [.aload_n 0, .iload_n 1, .bipush 12, .idiv] (by decide +kernel) rfl rfl ⟨c11, trivial⟩ ?_
        refine E_callV (κ' := k_Model_startOf) (As := [vi (r9 / (12 : Int32))]) (st := []) mv_Model_startOf (Or.inl (tbk_mem (j := 16) (k := 103) rfl)) rfl (by decide +kernel) (Nat.le_of_ble_eq_true rfl) (Nat.le_of_ble_eq_true rfl) rfl (by decide) (lk_Model_startOf hγ this (r9 / (12 : Int32)) _ M8 h) (fun _ _ => Qi_r) (fun v M12 hp => Qi_k (R := fun st => E γ k_Model_advance 133 66 [some (vr (some (11, this))), some (vi r9), none, none] st M12 (Qi Q)) hp (fun r13 h => ?_))
        refine E_mask [true, true, false, false] rfl ?_
        exact lk_Model_advance_j66 hγ this Q r9 r13 M12 h
      · rw [if_neg b10] at h
        refine E_blk (lv' := [some (vr (some (11, this))), some (vi r9), none, none]) (st' := [vi (3 : Int32)]) (M1 := M8) (pc' := 55) (tb_Model hγ) [.iconst 3] (by decide +kernel) rfl rfl trivial ?_
        refine E_goto (off := 11) (tgt := 66) (by decide +kernel) (by decide) ?_
        refine E_mask [true, true, false, false] rfl ?_
        exact lk_Model_advance_j66 hγ this Q r9 (3 : Int32) M8 h
    · rw [if_neg b4] at h
      refine E_mask [true, false, false, false] rfl ?_
      exact lk_Model_advance_j156 hγ this Q  M h
  · rw [if_neg b2] at h
    refine E_mask [true, false, false, false] rfl ?_
    exact lk_Model_advance_j156 hγ this Q  M h
def w_Model_canGo_j25 (this : Nat) (Q : Int32 → Mem → Prop) (v2 : Nat) (M : Mem) : Prop :=
  if (mI M 13 v2 0) = (1 : Int32) then (Q (1 : Int32) M) else (Q (0 : Int32) M)
def w_Model_canGo (this : Nat) (a1 : Int32) (Q : Int32 → Mem → Prop) (M : Mem) : Prop :=
  ∃ i1, (mR M 11 this 45) = some (12, i1) ∧ vp_in a1 (mL M 704 i1) ∧ ∃ i3, (mR M 704 i1 a1.toNatClampNeg) = some (13, i3) ∧ if (mI M 13 i3 0) = (1 : Int32) then (if (mI M 13 i3 1) = 0 then (w_Model_canGo_j25 this Q i3 M) else (if (mI M 13 i3 2) ≤ 0 then (∃ i8, (mR M 11 this 45) = some (12, i8) ∧ vp_in ((-1 : Int32) - (mI M 13 i3 2)) (mL M 137 i8) ∧ if (mI M 137 i8 ((-1 : Int32) - (mI M 13 i3 2)).toNatClampNeg) = (1 : Int32) then (∃ i11, (mR M 11 this 45) = some (12, i11) ∧ vp_in ((-1 : Int32) - (mI M 13 i3 2)) (mL M 164 i11) ∧ if (mI M 164 i11 ((-1 : Int32) - (mI M 13 i3 2)).toNatClampNeg) = a1 then (Q (1 : Int32) M) else (Q (0 : Int32) M)) else (Q (1 : Int32) M)) else (w_Model_locksOf this (mI M 13 i3 2) (fun r15 M14 => if r15 = 0 then (Q (1 : Int32) M14) else (w_Model_ownerOf this (mI M 13 i3 2) (fun r18 M17 => if r18 = a1 then (Q (1 : Int32) M17) else (Q (0 : Int32) M17)) M14)) M))) else (w_Model_canGo_j25 this Q i3 M)
set_option maxRecDepth 4096 in
theorem lk_Model_canGo_j25 {γ : Gm} (hγ : Gk γ) (this : Nat) (Q : Int32 → Mem → Prop) (v2 : Nat) (M : Mem) (h : w_Model_canGo_j25 this Q v2 M) : E γ k_Model_canGo 1 25 [none, none, some (vr (some (13, v2))), none] [] M (Qi Q) := by
  unfold w_Model_canGo_j25 at h
  refine E_blk (lv' := [none, none, some (vr (some (13, v2))), none]) (st' := [vi (1 : Int32), vi (mI M 13 v2 0)]) (M1 := M) (pc' := 30) (tb_Model hγ) [.aload_n 2, .getfield 486, .iconst 1] (by decide +kernel) rfl rfl trivial ?_
  refine E_icmp_ne (off := 7) (tgt := 37) (by decide +kernel) (by decide) (fun b6 => ?_) (fun b6 => ?_)
  · rw [if_pos b6] at h
    refine E_blk (lv' := [none, none, some (vr (some (13, v2))), none]) (st' := [vi (1 : Int32)]) (M1 := M) (pc' := 34) (tb_Model hγ) [.iconst 1] (by decide +kernel) rfl rfl trivial ?_
    refine E_goto (off := 4) (tgt := 38) (by decide +kernel) (by decide) ?_
    exact E_zret rfl (Or.inr rfl) (by decide +kernel) h
  · rw [if_neg b6] at h
    refine E_blk (lv' := [none, none, some (vr (some (13, v2))), none]) (st' := [vi (0 : Int32)]) (M1 := M) (pc' := 38) (tb_Model hγ) [.iconst 0] (by decide +kernel) rfl rfl trivial ?_
    exact E_zret rfl (Or.inl rfl) (by decide +kernel) h
set_option maxRecDepth 4096 in
theorem lk_Model_canGo {γ : Gm} (hγ : Gk γ) (this : Nat) (a1 : Int32) (Q : Int32 → Mem → Prop) (M : Mem) (h : w_Model_canGo this a1 Q M) : E γ k_Model_canGo 1 0 [some (vr (some (11, this))), some (vi a1), none, none] [] M (Qi Q) := by
  unfold w_Model_canGo at h
  refine E_blk (lv' := [some (vr (some (11, this))), some (vi a1), none, none]) (st' := [vr (mR M 11 this 45)]) (M1 := M) (pc' := 4) (tb_Model hγ) [.aload_n 0, .getfield 522] (by decide +kernel) rfl rfl trivial ?_
  obtain ⟨i1, ei1, h⟩ := h
  rw [ei1]
  obtain ⟨c2, h⟩ := h
  refine E_blk (lv' := [some (vr (some (11, this))), some (vi a1), none, none]) (st' := [vr (mR M 704 i1 a1.toNatClampNeg)]) (M1 := M) (pc' := 9) (tb_Model hγ) [.getfield 406, .iload_n 1, .aaload] (by decide +kernel) rfl rfl ⟨c2, trivial⟩ ?_
  obtain ⟨i3, ei3, h⟩ := h
  rw [ei3]
  refine E_blk (lv' := [some (vr (some (11, this))), some (vi a1), some (vr (some (13, i3))), none]) (st' := [vi (1 : Int32), vi (mI M 13 i3 0)]) (M1 := M) (pc' := 15) (tb_Model hγ) [.astore_n 2, .aload_n 2, .getfield 486, .iconst 1] (by decide +kernel) rfl rfl trivial ?_
  refine E_icmp_ne (off := 10) (tgt := 25) (by decide +kernel) (by decide) (fun b4 => ?_) (fun b4 => ?_)
  · rw [if_pos b4] at h
    refine E_blk (lv' := [some (vr (some (11, this))), some (vi a1), some (vr (some (13, i3))), none]) (st' := [vi (mI M 13 i3 1)]) (M1 := M) (pc' := 22) (tb_Model hγ) [.aload_n 2, .getfield 489] (by decide +kernel) rfl rfl trivial ?_
    refine E_if_ne (off := 17) (tgt := 39) (by decide +kernel) (by decide) (fun b5 => ?_) (fun b5 => ?_)
    · rw [if_pos b5] at h
      refine E_mask [false, false, true, false] rfl ?_
      exact lk_Model_canGo_j25 hγ this Q i3 M h
    · rw [if_neg b5] at h
      refine E_blk (lv' := [some (vr (some (11, this))), some (vi a1), some (vr (some (13, i3))), some (vi (mI M 13 i3 2))]) (st' := [vi (mI M 13 i3 2)]) (M1 := M) (pc' := 45) (tb_Model hγ) [.aload_n 2, .getfield 992, .istore_n 3, .iload_n 3] (by decide +kernel) rfl rfl trivial ?_
      refine E_if_le (off := 28) (tgt := 73) (by decide +kernel) (by decide) (fun b7 => ?_) (fun b7 => ?_)
      · rw [if_pos b7] at h
        refine E_blk (lv' := [some (vr (some (11, this))), some (vi a1), some (vr (some (13, i3))), some (vi (mI M 13 i3 2))]) (st' := [vr (mR M 11 this 45)]) (M1 := M) (pc' := 77) (tb_Model hγ) [.aload_n 0, .getfield 522] (by decide +kernel) rfl rfl trivial ?_
        obtain ⟨i8, ei8, h⟩ := h
        rw [ei8]
        obtain ⟨c9, h⟩ := h
        refine E_blk (lv' := [some (vr (some (11, this))), some (vi a1), some (vr (some (13, i3))), some (vi (mI M 13 i3 2))]) (st' := [vi (1 : Int32), vi (mI M 137 i8 ((-1 : Int32) - (mI M 13 i3 2)).toNatClampNeg)]) (M1 := M) (pc' := 85) (tb_Model hγ) [.getfield 441, .iconst (.negSucc 0), .iload_n 3, .isub, .iaload, .iconst 1] (by decide +kernel) rfl rfl ⟨c9, trivial⟩ ?_
        refine E_icmp_ne (off := 18) (tgt := 103) (by decide +kernel) (by decide) (fun b10 => ?_) (fun b10 => ?_)
        · rw [if_pos b10] at h
          refine E_blk (lv' := [some (vr (some (11, this))), some (vi a1), some (vr (some (13, i3))), some (vi (mI M 13 i3 2))]) (st' := [vr (mR M 11 this 45)]) (M1 := M) (pc' := 92) (tb_Model hγ) [.aload_n 0, .getfield 522] (by decide +kernel) rfl rfl trivial ?_
          obtain ⟨i11, ei11, h⟩ := h
          rw [ei11]
          obtain ⟨c12, h⟩ := h
          refine E_blk (lv' := [some (vr (some (11, this))), some (vi a1), some (vr (some (13, i3))), some (vi (mI M 13 i3 2))]) (st' := [vi a1, vi (mI M 164 i11 ((-1 : Int32) - (mI M 13 i3 2)).toNatClampNeg)]) (M1 := M) (pc' := 100) (tb_Model hγ) [.getfield 989, .iconst (.negSucc 0), .iload_n 3, .isub, .iaload, .iload_n 1] (by decide +kernel) rfl rfl ⟨c12, trivial⟩ ?_
          refine E_icmp_ne (off := 7) (tgt := 107) (by decide +kernel) (by decide) (fun b13 => ?_) (fun b13 => ?_)
          · rw [if_pos b13] at h
            refine E_blk (lv' := [some (vr (some (11, this))), some (vi a1), some (vr (some (13, i3))), some (vi (mI M 13 i3 2))]) (st' := [vi (1 : Int32)]) (M1 := M) (pc' := 104) (tb_Model hγ) [.iconst 1] (by decide +kernel) rfl rfl trivial ?_
            refine E_goto (off := 4) (tgt := 108) (by decide +kernel) (by decide) ?_
            exact E_zret rfl (Or.inr rfl) (by decide +kernel) h
          · rw [if_neg b13] at h
            refine E_blk (lv' := [some (vr (some (11, this))), some (vi a1), some (vr (some (13, i3))), some (vi (mI M 13 i3 2))]) (st' := [vi (0 : Int32)]) (M1 := M) (pc' := 108) (tb_Model hγ) [.iconst 0] (by decide +kernel) rfl rfl trivial ?_
            exact E_zret rfl (Or.inl rfl) (by decide +kernel) h
        · rw [if_neg b10] at h
          refine E_blk (lv' := [some (vr (some (11, this))), some (vi a1), some (vr (some (13, i3))), some (vi (mI M 13 i3 2))]) (st' := [vi (1 : Int32)]) (M1 := M) (pc' := 104) (tb_Model hγ) [.iconst 1] (by decide +kernel) rfl rfl trivial ?_
          refine E_goto (off := 4) (tgt := 108) (by decide +kernel) (by decide) ?_
          exact E_zret rfl (Or.inr rfl) (by decide +kernel) h
      · rw [if_neg b7] at h
        refine E_blk (lv' := [some (vr (some (11, this))), some (vi a1), some (vr (some (13, i3))), some (vi (mI M 13 i3 2))]) (st' := [vi (mI M 13 i3 2), vr (some (11, this))]) (M1 := M) (pc' := 50) (tb_Model hγ) [.aload_n 0, .iload_n 3] (by decide +kernel) rfl rfl trivial ?_
        refine E_callV (κ' := k_Model_locksOf) (As := [vi (mI M 13 i3 2)]) (st := []) mv_Model_locksOf (Or.inl (tbk_mem (j := 16) (k := 67) rfl)) rfl (by decide +kernel) (Nat.le_of_ble_eq_true rfl) (Nat.le_of_ble_eq_true rfl) rfl (by decide) (lk_Model_locksOf hγ this (mI M 13 i3 2) _ M h) (fun _ _ => Qi_r) (fun v M14 hp => Qi_k (R := fun st => E γ k_Model_canGo 1 53 [some (vr (some (11, this))), some (vi a1), some (vr (some (13, i3))), some (vi (mI M 13 i3 2))] st M14 (Qi Q)) hp (fun r15 h => ?_))
        refine E_if_eq (off := 12) (tgt := 65) (by decide +kernel) (by decide) (fun b16 => ?_) (fun b16 => ?_)
        · rw [if_pos b16] at h
          refine E_blk (lv' := [some (vr (some (11, this))), some (vi a1), some (vr (some (13, i3))), some (vi (mI M 13 i3 2))]) (st' := [vi (1 : Int32)]) (M1 := M14) (pc' := 66) (tb_Model hγ) [.iconst 1] (by decide +kernel) rfl rfl trivial ?_
          refine E_goto (off := 42) (tgt := 108) (by decide +kernel) (by decide) ?_
          exact E_zret rfl (Or.inr rfl) (by decide +kernel) h
        · rw [if_neg b16] at h
          refine E_blk (lv' := [some (vr (some (11, this))), some (vi a1), some (vr (some (13, i3))), some (vi (mI M 13 i3 2))]) (st' := [vi (mI M 13 i3 2), vr (some (11, this))]) (M1 := M14) (pc' := 58) (tb_Model hγ) [.aload_n 0, .iload_n 3] (by decide +kernel) rfl rfl trivial ?_
          refine E_callV (κ' := k_Model_ownerOf) (As := [vi (mI M 13 i3 2)]) (st := []) mv_Model_ownerOf (Or.inl (tbk_mem (j := 16) (k := 71) rfl)) rfl (by decide +kernel) (Nat.le_of_ble_eq_true rfl) (Nat.le_of_ble_eq_true rfl) rfl (by decide) (lk_Model_ownerOf hγ this (mI M 13 i3 2) _ M14 h) (fun _ _ => Qi_r) (fun v M17 hp => Qi_k (R := fun st => E γ k_Model_canGo 1 61 [some (vr (some (11, this))), some (vi a1), some (vr (some (13, i3))), some (vi (mI M 13 i3 2))] st M17 (Qi Q)) hp (fun r18 h => ?_))
          refine E_blk (lv' := [some (vr (some (11, this))), some (vi a1), some (vr (some (13, i3))), some (vi (mI M 13 i3 2))]) (st' := [vi a1, vi r18]) (M1 := M17) (pc' := 62) (tb_Model hγ) [.iload_n 1] (by decide +kernel) rfl rfl trivial ?_
          refine E_icmp_ne (off := 7) (tgt := 69) (by decide +kernel) (by decide) (fun b19 => ?_) (fun b19 => ?_)
          · rw [if_pos b19] at h
            refine E_blk (lv' := [some (vr (some (11, this))), some (vi a1), some (vr (some (13, i3))), some (vi (mI M 13 i3 2))]) (st' := [vi (1 : Int32)]) (M1 := M17) (pc' := 66) (tb_Model hγ) [.iconst 1] (by decide +kernel) rfl rfl trivial ?_
            refine E_goto (off := 42) (tgt := 108) (by decide +kernel) (by decide) ?_
            exact E_zret rfl (Or.inr rfl) (by decide +kernel) h
          · rw [if_neg b19] at h
            refine E_blk (lv' := [some (vr (some (11, this))), some (vi a1), some (vr (some (13, i3))), some (vi (mI M 13 i3 2))]) (st' := [vi (0 : Int32)]) (M1 := M17) (pc' := 70) (tb_Model hγ) [.iconst 0] (by decide +kernel) rfl rfl trivial ?_
            refine E_goto (off := 38) (tgt := 108) (by decide +kernel) (by decide) ?_
            exact E_zret rfl (Or.inl rfl) (by decide +kernel) h
  · rw [if_neg b4] at h
    refine E_mask [false, false, true, false] rfl ?_
    exact lk_Model_canGo_j25 hγ this Q i3 M h
def w_Model_isAnyOn (this : Nat) (a1 : Nat) (Q : Int32 → Mem → Prop) (M : Mem) : Prop :=
  vp_in (0 : Int32) (mL M 704 a1) ∧ ∃ i2, (mR M 704 a1 (0 : Int32).toNatClampNeg) = some (13, i2) ∧ if (mI M 13 i2 0) = (1 : Int32) then (Q (1 : Int32) M) else (vp_in (1 : Int32) (mL M 704 a1) ∧ ∃ i5, (mR M 704 a1 (1 : Int32).toNatClampNeg) = some (13, i5) ∧ if (mI M 13 i5 0) = (1 : Int32) then (Q (1 : Int32) M) else (vp_in (2 : Int32) (mL M 704 a1) ∧ ∃ i8, (mR M 704 a1 (2 : Int32).toNatClampNeg) = some (13, i8) ∧ if (mI M 13 i8 0) = (1 : Int32) then (Q (1 : Int32) M) else (Q (0 : Int32) M)))
set_option maxRecDepth 4096 in
theorem lk_Model_isAnyOn {γ : Gm} (hγ : Gk γ) (this : Nat) (a1 : Nat) (Q : Int32 → Mem → Prop) (M : Mem) (h : w_Model_isAnyOn this a1 Q M) : E γ k_Model_isAnyOn 0 0 [some (vr (some (11, this))), some (vr (some (12, a1)))] [] M (Qi Q) := by
  unfold w_Model_isAnyOn at h
  obtain ⟨c1, h⟩ := h
  refine E_blk (lv' := [some (vr (some (11, this))), some (vr (some (12, a1)))]) (st' := [vr (mR M 704 a1 (0 : Int32).toNatClampNeg)]) (M1 := M) (pc' := 6) (tb_Model hγ) [.aload_n 1, .getfield 406, .iconst 0, .aaload] (by decide +kernel) rfl rfl ⟨c1, trivial⟩ ?_
  obtain ⟨i2, ei2, h⟩ := h
  rw [ei2]
  refine E_blk (lv' := [some (vr (some (11, this))), some (vr (some (12, a1)))]) (st' := [vi (1 : Int32), vi (mI M 13 i2 0)]) (M1 := M) (pc' := 10) (tb_Model hγ) [.getfield 486, .iconst 1] (by decide +kernel) rfl rfl trivial ?_
  refine E_icmp_eq (off := 29) (tgt := 39) (by decide +kernel) (by decide) (fun b3 => ?_) (fun b3 => ?_)
  · rw [if_pos b3] at h
    refine E_blk (lv' := [some (vr (some (11, this))), some (vr (some (12, a1)))]) (st' := [vi (1 : Int32)]) (M1 := M) (pc' := 40) (tb_Model hγ) [.iconst 1] (by decide +kernel) rfl rfl trivial ?_
    refine E_goto (off := 4) (tgt := 44) (by decide +kernel) (by decide) ?_
    exact E_zret rfl (Or.inr rfl) (by decide +kernel) h
  · rw [if_neg b3] at h
    obtain ⟨c4, h⟩ := h
    refine E_blk (lv' := [some (vr (some (11, this))), some (vr (some (12, a1)))]) (st' := [vr (mR M 704 a1 (1 : Int32).toNatClampNeg)]) (M1 := M) (pc' := 19) (tb_Model hγ) [.aload_n 1, .getfield 406, .iconst 1, .aaload] (by decide +kernel) rfl rfl ⟨c4, trivial⟩ ?_
    obtain ⟨i5, ei5, h⟩ := h
    rw [ei5]
    refine E_blk (lv' := [some (vr (some (11, this))), some (vr (some (12, a1)))]) (st' := [vi (1 : Int32), vi (mI M 13 i5 0)]) (M1 := M) (pc' := 23) (tb_Model hγ) [.getfield 486, .iconst 1] (by decide +kernel) rfl rfl trivial ?_
    refine E_icmp_eq (off := 16) (tgt := 39) (by decide +kernel) (by decide) (fun b6 => ?_) (fun b6 => ?_)
    · rw [if_pos b6] at h
      refine E_blk (lv' := [some (vr (some (11, this))), some (vr (some (12, a1)))]) (st' := [vi (1 : Int32)]) (M1 := M) (pc' := 40) (tb_Model hγ) [.iconst 1] (by decide +kernel) rfl rfl trivial ?_
      refine E_goto (off := 4) (tgt := 44) (by decide +kernel) (by decide) ?_
      exact E_zret rfl (Or.inr rfl) (by decide +kernel) h
    · rw [if_neg b6] at h
      obtain ⟨c7, h⟩ := h
      refine E_blk (lv' := [some (vr (some (11, this))), some (vr (some (12, a1)))]) (st' := [vr (mR M 704 a1 (2 : Int32).toNatClampNeg)]) (M1 := M) (pc' := 32) (tb_Model hγ) [.aload_n 1, .getfield 406, .iconst 2, .aaload] (by decide +kernel) rfl rfl ⟨c7, trivial⟩ ?_
      obtain ⟨i8, ei8, h⟩ := h
      rw [ei8]
      refine E_blk (lv' := [some (vr (some (11, this))), some (vr (some (12, a1)))]) (st' := [vi (1 : Int32), vi (mI M 13 i8 0)]) (M1 := M) (pc' := 36) (tb_Model hγ) [.getfield 486, .iconst 1] (by decide +kernel) rfl rfl trivial ?_
      refine E_icmp_ne (off := 7) (tgt := 43) (by decide +kernel) (by decide) (fun b9 => ?_) (fun b9 => ?_)
      · rw [if_pos b9] at h
        refine E_blk (lv' := [some (vr (some (11, this))), some (vr (some (12, a1)))]) (st' := [vi (1 : Int32)]) (M1 := M) (pc' := 40) (tb_Model hγ) [.iconst 1] (by decide +kernel) rfl rfl trivial ?_
        refine E_goto (off := 4) (tgt := 44) (by decide +kernel) (by decide) ?_
        exact E_zret rfl (Or.inr rfl) (by decide +kernel) h
      · rw [if_neg b9] at h
        refine E_blk (lv' := [some (vr (some (11, this))), some (vr (some (12, a1)))]) (st' := [vi (0 : Int32)]) (M1 := M) (pc' := 44) (tb_Model hγ) [.iconst 0] (by decide +kernel) rfl rfl trivial ?_
        exact E_zret rfl (Or.inl rfl) (by decide +kernel) h
def w_Model_goOn_j263 (this : Nat) (Q : Int32 → Mem → Prop) (k5 : Int32 → Mem → Prop) (v1 : Int32) (M : Mem) : Prop :=
  k5 v1 M
def w_Model_goOn_j241 (this : Nat) (Q : Int32 → Mem → Prop) (k5 : Int32 → Mem → Prop) (v1 : Int32) (s0 : Int32) (s1 : Nat) (M : Mem) : Prop :=
  (s0 = 0 ∨ s0 = 1) ∧ ∃ i34, (mR (sI M 13 s1 1 s0) 11 this 46) = some (13, i34) ∧ if (mI (sI M 13 s1 1 s0) 13 i34 0) = (1 : Int32) then (w_Model_goOn_j263 this Q k5 v1 (sI M 13 s1 1 s0)) else (∃ i36, (mR (sI M 13 s1 1 s0) 11 this 45) = some (12, i36) ∧ w_Model_goOn_j263 this Q k5 v1 (sI (sI M 13 s1 1 s0) 12 i36 64 (0 : Int32)))
def w_Model_goOn_j227 (this : Nat) (Q : Int32 → Mem → Prop) (k5 : Int32 → Mem → Prop) (v1 : Int32) (v3 : Int32) (M : Mem) : Prop :=
  ∃ i31, (mR M 11 this 46) = some (13, i31) ∧ if v3 = (2 : Int32) then (w_Model_goOn_j241 this Q k5 v1 (1 : Int32) i31 M) else (w_Model_goOn_j241 this Q k5 v1 (0 : Int32) i31 M)
def w_Model_goOn_j167 (this : Nat) (Q : Int32 → Mem → Prop) (k5 : Int32 → Mem → Prop) (v1 : Int32) (M : Mem) : Prop :=
  ∃ i22, (mR M 11 this 45) = some (12, i22) ∧ ∃ i23, (mR (sI M 11 this 47 (mI M 12 i22 63)) 11 this 45) = some (12, i23) ∧ vp_in (mI (sI M 11 this 47 (mI M 12 i22 63)) 11 this 47) (mL (sI M 11 this 47 (mI M 12 i22 63)) 704 i23) ∧ ∃ i25, (mR (sI M 11 this 47 (mI M 12 i22 63)) 704 i23 (mI (sI M 11 this 47 (mI M 12 i22 63)) 11 this 47).toNatClampNeg) = some (13, i25) ∧ w_Model_advance this (fun r27 M26 => if r27 = (1 : Int32) then (∃ i29, (mR (sI M26 11 this 83 ((mI M26 11 this 83) + (1 : Int32))) 11 this 45) = some (12, i29) ∧ ∃ M30, M30 = (sI (sI M26 11 this 83 ((mI M26 11 this 83) + (1 : Int32))) 12 i29 64 ((mI (sI M26 11 this 83 ((mI M26 11 this 83) + (1 : Int32))) 12 i29 64) - (1 : Int32))) ∧ w_Model_goOn_j227 this Q k5 v1 r27 M30) else (w_Model_goOn_j227 this Q k5 v1 r27 M26)) (sR (sI M 11 this 47 (mI M 12 i22 63)) 11 this 46 (some (13, i25)))
def w_Model_goOn_j126 (this : Nat) (Q : Int32 → Mem → Prop) (k5 : Int32 → Mem → Prop) (v1 : Int32) (v3 : Int32) (M : Mem) : Prop :=
  if 0 ≤ v3 then (∃ i14, (mR M 11 this 45) = some (12, i14) ∧ ∃ i15, (mR (sI M 12 i14 63 v3) 11 this 45) = some (12, i15) ∧ ∃ i16, (mR (sI M 12 i14 63 v3) 11 this 45) = some (12, i16) ∧ ∃ i17, (mR (sI (sI M 12 i14 63 v3) 12 i15 64 (mI (sI M 12 i14 63 v3) 12 i16 65)) 11 this 45) = some (12, i17) ∧ vp_in v3 (mL (sI (sI M 12 i14 63 v3) 12 i15 64 (mI (sI M 12 i14 63 v3) 12 i16 65)) 704 i17) ∧ ∃ i19, (mR (sI (sI M 12 i14 63 v3) 12 i15 64 (mI (sI M 12 i14 63 v3) 12 i16 65)) 704 i17 v3.toNatClampNeg) = some (13, i19) ∧ ((0 : Int32) = 0 ∨ (0 : Int32) = 1) ∧ ∃ M21, M21 = (sI (sI (sI M 12 i14 63 v3) 12 i15 64 (mI (sI M 12 i14 63 v3) 12 i16 65)) 13 i19 1 (0 : Int32)) ∧ w_Model_goOn_j167 this Q k5 v1 M21) else (Q (3 : Int32) M)
def w_Model_goOn_j119 (this : Nat) (Q : Int32 → Mem → Prop) (k5 : Int32 → Mem → Prop) (k73 : Int32 → Int32 → Int32 → Mem → Prop) (v1 : Int32) (v4 : Int32) (s0 : Int32) (M : Mem) : Prop :=
  k73 v1 s0 (v4 + (1 : Int32)) M
def w_Model_goOn_L73 (this : Nat) (Q : Int32 → Mem → Prop) (k5 : Int32 → Mem → Prop) : Nat → Int32 → Int32 → Int32 → Mem → Prop
  | 0, _, _, _, _ => False
  | n + 1, v1, v3, v4, M => if (3 : Int32) < v4 then (w_Model_goOn_j126 this Q k5 v1 v3 M) else (if 0 ≤ v3 then (w_Model_goOn_j126 this Q k5 v1 v3 M) else (∃ i38, (mR M 11 this 45) = some (12, i38) ∧ ¬ (3 : Int32) = 0 ∧ w_Model_canGo this (((mI M 12 i38 63) + v4) - ((mI M 12 i38 63) + v4) / (3 : Int32) * (3 : Int32)) (fun r41 M40 => if r41 = 0 then (w_Model_goOn_j119 this Q k5 (w_Model_goOn_L73 this Q k5 n) v1 v4 (-2 : Int32) M40) else (∃ i43, (mR M40 11 this 45) = some (12, i43) ∧ ¬ (3 : Int32) = 0 ∧ w_Model_goOn_j119 this Q k5 (w_Model_goOn_L73 this Q k5 n) v1 v4 (((mI M40 12 i43 63) + v4) - ((mI M40 12 i43 63) + v4) / (3 : Int32) * (3 : Int32)) M40)) M))
def w_Model_goOn_j67 (this : Nat) (Q : Int32 → Mem → Prop) (k5 : Int32 → Mem → Prop) (v1 : Int32) (M : Mem) : Prop :=
  ∃ n45 : Nat, w_Model_goOn_L73 this Q k5 n45 v1 (-2 : Int32) (1 : Int32) M
def w_Model_goOn_L5 (this : Nat) (Q : Int32 → Mem → Prop) : Nat → Int32 → Mem → Prop
  | 0, _, _ => False
  | n + 1, v1, M => ∃ i1, (mR M 11 this 45) = some (12, i1) ∧ w_Model_isAnyOn this i1 (fun r3 M2 => if r3 = 0 then (Q (0 : Int32) M2) else (if (mI M2 11 this 83) = v1 then (Q (1 : Int32) M2) else (∃ i6, (mR M2 11 this 45) = some (12, i6) ∧ ∃ i7, (mR M2 11 this 45) = some (12, i7) ∧ vp_in (mI M2 12 i7 63) (mL M2 704 i6) ∧ ∃ i9, (mR M2 704 i6 (mI M2 12 i7 63).toNatClampNeg) = some (13, i9) ∧ ∃ i10, (mR M2 11 this 45) = some (12, i10) ∧ if (mI M2 12 i10 64) = 0 then (w_Model_goOn_j67 this Q (w_Model_goOn_L5 this Q n) v1 M2) else (if (mI M2 13 i9 0) = (1 : Int32) then (if (mI M2 13 i9 1) = 0 then (w_Model_goOn_j167 this Q (w_Model_goOn_L5 this Q n) v1 M2) else (w_Model_goOn_j67 this Q (w_Model_goOn_L5 this Q n) v1 M2)) else (w_Model_goOn_j67 this Q (w_Model_goOn_L5 this Q n) v1 M2))))) M
def w_Model_goOn (this : Nat) (a1 : Int32) (Q : Int32 → Mem → Prop) (M : Mem) : Prop :=
  ∃ n48 : Nat, w_Model_goOn_L5 this Q n48 a1 (sI M 11 this 83 (0 : Int32))
set_option maxRecDepth 4096 in
theorem lk_Model_goOn_j263 {γ : Gm} (hγ : Gk γ) (this : Nat) (Q : Int32 → Mem → Prop) (k5 : Int32 → Mem → Prop) (hk5 : ∀ (v1 : Int32) (M : Mem), k5 v1 M → E γ k_Model_goOn 134 5 [some (vr (some (11, this))), some (vi v1), none, none, none] [] M (Qi Q)) (v1 : Int32) (M : Mem) (h : w_Model_goOn_j263 this Q k5 v1 M) : E γ k_Model_goOn 134 263 [some (vr (some (11, this))), some (vi v1), none, none, none] [] M (Qi Q) := by
  unfold w_Model_goOn_j263 at h
  refine E_goto (off := -258) (tgt := 5) (by decide +kernel) (by decide) ?_
  refine E_mask [true, true, false, false, false] rfl ?_
  exact hk5 v1 M h
set_option maxRecDepth 4096 in
theorem lk_Model_goOn_j241 {γ : Gm} (hγ : Gk γ) (this : Nat) (Q : Int32 → Mem → Prop) (k5 : Int32 → Mem → Prop) (hk5 : ∀ (v1 : Int32) (M : Mem), k5 v1 M → E γ k_Model_goOn 134 5 [some (vr (some (11, this))), some (vi v1), none, none, none] [] M (Qi Q)) (v1 : Int32) (s0 : Int32) (s1 : Nat) (M : Mem) (h : w_Model_goOn_j241 this Q k5 v1 s0 s1 M) : E γ k_Model_goOn 134 241 [some (vr (some (11, this))), some (vi v1), none, none, none] [vi s0, vr (some (13, s1))] M (Qi Q) := by
  unfold w_Model_goOn_j241 at h
  obtain ⟨c33, h⟩ := h
  refine E_blk (lv' := [some (vr (some (11, this))), some (vi v1), none, none, none]) (st' := [vr (mR (sI M 13 s1 1 s0) 11 this 46)]) (M1 := (sI M 13 s1 1 s0)) (pc' := 248) (tb_Model hγ) [.putfield 489, .aload_n 0, .getfield 917] (by decide +kernel) rfl rfl ⟨c33, trivial⟩ ?_
  obtain ⟨i34, ei34, h⟩ := h
  rw [ei34]
  refine E_blk (lv' := [some (vr (some (11, this))), some (vi v1), none, none, none]) (st' := [vi (1 : Int32), vi (mI (sI M 13 s1 1 s0) 13 i34 0)]) (M1 := (sI M 13 s1 1 s0)) (pc' := 252) (tb_Model hγ) [.getfield 486, .iconst 1] (by decide +kernel) rfl rfl trivial ?_
  refine E_icmp_eq (off := 11) (tgt := 263) (by decide +kernel) (by decide) (fun b35 => ?_) (fun b35 => ?_)
  · rw [if_pos b35] at h
    refine E_mask [true, true, false, false, false] rfl ?_
    exact lk_Model_goOn_j263 hγ this Q k5 hk5 v1 (sI M 13 s1 1 s0) h
  · rw [if_neg b35] at h
    refine E_blk (lv' := [some (vr (some (11, this))), some (vi v1), none, none, none]) (st' := [vr (mR (sI M 13 s1 1 s0) 11 this 45)]) (M1 := (sI M 13 s1 1 s0)) (pc' := 259) (tb_Model hγ) [.aload_n 0, .getfield 522] (by decide +kernel) rfl rfl trivial ?_
    obtain ⟨i36, ei36, h⟩ := h
    rw [ei36]
    refine E_blk (lv' := [some (vr (some (11, this))), some (vi v1), none, none, none]) (st' := []) (M1 := (sI (sI M 13 s1 1 s0) 12 i36 64 (0 : Int32))) (pc' := 263) (tb_Model hγ) [.iconst 0, .putfield 498] (by decide +kernel) rfl rfl trivial ?_
    refine E_mask [true, true, false, false, false] rfl ?_
    exact lk_Model_goOn_j263 hγ this Q k5 hk5 v1 (sI (sI M 13 s1 1 s0) 12 i36 64 (0 : Int32)) h
set_option maxRecDepth 4096 in
theorem lk_Model_goOn_j227 {γ : Gm} (hγ : Gk γ) (this : Nat) (Q : Int32 → Mem → Prop) (k5 : Int32 → Mem → Prop) (hk5 : ∀ (v1 : Int32) (M : Mem), k5 v1 M → E γ k_Model_goOn 134 5 [some (vr (some (11, this))), some (vi v1), none, none, none] [] M (Qi Q)) (v1 : Int32) (v3 : Int32) (M : Mem) (h : w_Model_goOn_j227 this Q k5 v1 v3 M) : E γ k_Model_goOn 134 227 [some (vr (some (11, this))), some (vi v1), none, some (vi v3), none] [] M (Qi Q) := by
  unfold w_Model_goOn_j227 at h
  refine E_blk (lv' := [some (vr (some (11, this))), some (vi v1), none, some (vi v3), none]) (st' := [vr (mR M 11 this 46)]) (M1 := M) (pc' := 231) (tb_Model hγ) [.aload_n 0, .getfield 917] (by decide +kernel) rfl rfl trivial ?_
  obtain ⟨i31, ei31, h⟩ := h
  rw [ei31]
  refine E_blk (lv' := [some (vr (some (11, this))), some (vi v1), none, some (vi v3), none]) (st' := [vi (2 : Int32), vi v3, vr (some (13, i31))]) (M1 := M) (pc' := 233) (tb_Model hγ) [.iload_n 3, .iconst 2] (by decide +kernel) rfl rfl trivial ?_
  refine E_icmp_ne (off := 7) (tgt := 240) (by decide +kernel) (by decide) (fun b32 => ?_) (fun b32 => ?_)
  · rw [if_pos b32] at h
    refine E_blk (lv' := [some (vr (some (11, this))), some (vi v1), none, some (vi v3), none]) (st' := [vi (1 : Int32), vr (some (13, i31))]) (M1 := M) (pc' := 237) (tb_Model hγ) [.iconst 1] (by decide +kernel) rfl rfl trivial ?_
    refine E_goto (off := 4) (tgt := 241) (by decide +kernel) (by decide) ?_
    refine E_mask [true, true, false, false, false] rfl ?_
    exact lk_Model_goOn_j241 hγ this Q k5 hk5 v1 (1 : Int32) i31 M h
  · rw [if_neg b32] at h
    refine E_blk (lv' := [some (vr (some (11, this))), some (vi v1), none, some (vi v3), none]) (st' := [vi (0 : Int32), vr (some (13, i31))]) (M1 := M) (pc' := 241) (tb_Model hγ) [.iconst 0] (by decide +kernel) rfl rfl trivial ?_
    refine E_mask [true, true, false, false, false] rfl ?_
    exact lk_Model_goOn_j241 hγ this Q k5 hk5 v1 (0 : Int32) i31 M h
set_option maxRecDepth 4096 in
theorem lk_Model_goOn_j167 {γ : Gm} (hγ : Gk γ) (this : Nat) (Q : Int32 → Mem → Prop) (k5 : Int32 → Mem → Prop) (hk5 : ∀ (v1 : Int32) (M : Mem), k5 v1 M → E γ k_Model_goOn 134 5 [some (vr (some (11, this))), some (vi v1), none, none, none] [] M (Qi Q)) (v1 : Int32) (M : Mem) (h : w_Model_goOn_j167 this Q k5 v1 M) : E γ k_Model_goOn 134 167 [some (vr (some (11, this))), some (vi v1), none, none, none] [] M (Qi Q) := by
  unfold w_Model_goOn_j167 at h
  refine E_blk (lv' := [some (vr (some (11, this))), some (vi v1), none, none, none]) (st' := [vr (mR M 11 this 45), vr (some (11, this))]) (M1 := M) (pc' := 172) (tb_Model hγ) [.aload_n 0, .aload_n 0, .getfield 522] (by decide +kernel) rfl rfl trivial ?_
  obtain ⟨i22, ei22, h⟩ := h
  rw [ei22]
  refine E_blk (lv' := [some (vr (some (11, this))), some (vi v1), none, none, none]) (st' := [vr (mR (sI M 11 this 47 (mI M 12 i22 63)) 11 this 45), vr (some (11, this))]) (M1 := (sI M 11 this 47 (mI M 12 i22 63))) (pc' := 183) (tb_Model hγ) [.getfield 492, .putfield 908, .aload_n 0, .aload_n 0, .getfield 522] (by decide +kernel) rfl rfl trivial ?_
  obtain ⟨i23, ei23, h⟩ := h
  rw [ei23]
  obtain ⟨c24, h⟩ := h
  refine E_blk (lv' := [some (vr (some (11, this))), some (vi v1), none, none, none]) (st' := [vr (mR (sI M 11 this 47 (mI M 12 i22 63)) 704 i23 (mI (sI M 11 this 47 (mI M 12 i22 63)) 11 this 47).toNatClampNeg), vr (some (11, this))]) (M1 := (sI M 11 this 47 (mI M 12 i22 63))) (pc' := 191) (tb_Model hγ) [.getfield 406, .aload_n 0, .getfield 908, .aaload] (by decide +kernel) rfl rfl ⟨c24, trivial⟩ ?_
  obtain ⟨i25, ei25, h⟩ := h
  rw [ei25]
  refine E_blk (lv' := [some (vr (some (11, this))), some (vi v1), none, none, none]) (st' := [vr (some (11, this))]) (M1 := (sR (sI M 11 this 47 (mI M 12 i22 63)) 11 this 46 (some (13, i25)))) (pc' := 195) (tb_Model hγ) [.putfield 917, .aload_n 0] (by decide +kernel) rfl rfl trivial ?_
  refine E_callV (κ' := k_Model_advance) (As := []) (st := []) mv_Model_advance (Or.inl (tbk_mem (j := 16) (k := 75) rfl)) rfl (by decide +kernel) (Nat.le_of_ble_eq_true rfl) (Nat.le_of_ble_eq_true rfl) rfl (by decide) (lk_Model_advance hγ this _ (sR (sI M 11 this 47 (mI M 12 i22 63)) 11 this 46 (some (13, i25))) h) (fun _ _ => Qi_r) (fun v M26 hp => Qi_k (R := fun st => E γ k_Model_goOn 134 198 [some (vr (some (11, this))), some (vi v1), none, none, none] st M26 (Qi Q)) hp (fun r27 h => ?_))
  refine E_blk (lv' := [some (vr (some (11, this))), some (vi v1), none, some (vi r27), none]) (st' := [vi (1 : Int32), vi r27]) (M1 := M26) (pc' := 201) (tb_Model hγ) [.istore_n 3, .iload_n 3, .iconst 1] (by decide +kernel) rfl rfl trivial ?_
  refine E_icmp_ne (off := 26) (tgt := 227) (by decide +kernel) (by decide) (fun b28 => ?_) (fun b28 => ?_)
  · rw [if_pos b28] at h
    refine E_blk (lv' := [some (vr (some (11, this))), some (vi v1), none, some (vi r27), none]) (st' := [vr (mR (sI M26 11 this 83 ((mI M26 11 this 83) + (1 : Int32))) 11 this 45)]) (M1 := (sI M26 11 this 83 ((mI M26 11 this 83) + (1 : Int32)))) (pc' := 218) (tb_Model hγ) [.aload_n 0, .dup, .getfield 1099, .iconst 1, .iadd, .putfield 1099, .aload_n 0, .getfield 522] (by decide +kernel) rfl rfl trivial ?_
    obtain ⟨i29, ei29, h⟩ := h
    rw [ei29]
    refine E_blk (lv' := [some (vr (some (11, this))), some (vi v1), none, some (vi r27), none]) (st' := []) (M1 := (sI (sI M26 11 this 83 ((mI M26 11 this 83) + (1 : Int32))) 12 i29 64 ((mI (sI M26 11 this 83 ((mI M26 11 this 83) + (1 : Int32))) 12 i29 64) - (1 : Int32)))) (pc' := 227) (tb_Model hγ) [.dup, .getfield 498, .iconst 1, .isub, .putfield 498] (by decide +kernel) rfl rfl trivial ?_
    obtain ⟨M30, eM30, h⟩ := h
    rw [← eM30]
    refine E_mask [true, true, false, true, false] rfl ?_
    exact lk_Model_goOn_j227 hγ this Q k5 hk5 v1 r27 M30 h
  · rw [if_neg b28] at h
    refine E_mask [true, true, false, true, false] rfl ?_
    exact lk_Model_goOn_j227 hγ this Q k5 hk5 v1 r27 M26 h
set_option maxRecDepth 4096 in
theorem lk_Model_goOn_j126 {γ : Gm} (hγ : Gk γ) (this : Nat) (Q : Int32 → Mem → Prop) (k5 : Int32 → Mem → Prop) (hk5 : ∀ (v1 : Int32) (M : Mem), k5 v1 M → E γ k_Model_goOn 134 5 [some (vr (some (11, this))), some (vi v1), none, none, none] [] M (Qi Q)) (v1 : Int32) (v3 : Int32) (M : Mem) (h : w_Model_goOn_j126 this Q k5 v1 v3 M) : E γ k_Model_goOn 134 126 [some (vr (some (11, this))), some (vi v1), none, some (vi v3), none] [] M (Qi Q) := by
  unfold w_Model_goOn_j126 at h
  refine E_blk (lv' := [some (vr (some (11, this))), some (vi v1), none, some (vi v3), none]) (st' := [vi v3]) (M1 := M) (pc' := 127) (tb_Model hγ) [.iload_n 3] (by decide +kernel) rfl rfl trivial ?_
  refine E_if_ge (off := 5) (tgt := 132) (by decide +kernel) (by decide) (fun b13 => ?_) (fun b13 => ?_)
  · rw [if_pos b13] at h
    refine E_blk (lv' := [some (vr (some (11, this))), some (vi v1), none, some (vi v3), none]) (st' := [vr (mR M 11 this 45)]) (M1 := M) (pc' := 136) (tb_Model hγ) [.aload_n 0, .getfield 522] (by decide +kernel) rfl rfl trivial ?_
    obtain ⟨i14, ei14, h⟩ := h
    rw [ei14]
    refine E_blk (lv' := [some (vr (some (11, this))), some (vi v1), none, some (vi v3), none]) (st' := [vr (mR (sI M 12 i14 63 v3) 11 this 45)]) (M1 := (sI M 12 i14 63 v3)) (pc' := 144) (tb_Model hγ) [.iload_n 3, .putfield 492, .aload_n 0, .getfield 522] (by decide +kernel) rfl rfl trivial ?_
    obtain ⟨i15, ei15, h⟩ := h
    rw [ei15]
    refine E_blk (lv' := [some (vr (some (11, this))), some (vi v1), none, some (vi v3), none]) (st' := [vr (mR (sI M 12 i14 63 v3) 11 this 45), vr (some (12, i15))]) (M1 := (sI M 12 i14 63 v3)) (pc' := 148) (tb_Model hγ) [.aload_n 0, .getfield 522] (by decide +kernel) rfl rfl trivial ?_
    obtain ⟨i16, ei16, h⟩ := h
    rw [ei16]
    refine E_blk (lv' := [some (vr (some (11, this))), some (vi v1), none, some (vi v3), none]) (st' := [vr (mR (sI (sI M 12 i14 63 v3) 12 i15 64 (mI (sI M 12 i14 63 v3) 12 i16 65)) 11 this 45)]) (M1 := (sI (sI M 12 i14 63 v3) 12 i15 64 (mI (sI M 12 i14 63 v3) 12 i16 65))) (pc' := 158) (tb_Model hγ) [.getfield 495, .putfield 498, .aload_n 0, .getfield 522] (by decide +kernel) rfl rfl trivial ?_
    obtain ⟨i17, ei17, h⟩ := h
    rw [ei17]
    obtain ⟨c18, h⟩ := h
    refine E_blk (lv' := [some (vr (some (11, this))), some (vi v1), none, some (vi v3), none]) (st' := [vr (mR (sI (sI M 12 i14 63 v3) 12 i15 64 (mI (sI M 12 i14 63 v3) 12 i16 65)) 704 i17 v3.toNatClampNeg)]) (M1 := (sI (sI M 12 i14 63 v3) 12 i15 64 (mI (sI M 12 i14 63 v3) 12 i16 65))) (pc' := 163) (tb_Model hγ) [.getfield 406, .iload_n 3, .aaload] (by decide +kernel) rfl rfl ⟨c18, trivial⟩ ?_
    obtain ⟨i19, ei19, h⟩ := h
    rw [ei19]
    obtain ⟨c20, h⟩ := h
    refine E_blk (lv' := [some (vr (some (11, this))), some (vi v1), none, some (vi v3), none]) (st' := []) (M1 := (sI (sI (sI M 12 i14 63 v3) 12 i15 64 (mI (sI M 12 i14 63 v3) 12 i16 65)) 13 i19 1 (0 : Int32))) (pc' := 167) (tb_Model hγ) [.iconst 0, .putfield 489] (by decide +kernel) rfl rfl ⟨c20, trivial⟩ ?_
    obtain ⟨M21, eM21, h⟩ := h
    rw [← eM21]
    refine E_mask [true, true, false, false, false] rfl ?_
    exact lk_Model_goOn_j167 hγ this Q k5 hk5 v1 M21 h
  · rw [if_neg b13] at h
    refine E_blk (lv' := [some (vr (some (11, this))), some (vi v1), none, some (vi v3), none]) (st' := [vi (3 : Int32)]) (M1 := M) (pc' := 131) (tb_Model hγ) [.iconst 3] (by decide +kernel) rfl rfl trivial ?_
    exact E_iret rfl (by decide +kernel) h
set_option maxRecDepth 4096 in
theorem lk_Model_goOn_j119 {γ : Gm} (hγ : Gk γ) (this : Nat) (Q : Int32 → Mem → Prop) (k5 : Int32 → Mem → Prop) (k73 : Int32 → Int32 → Int32 → Mem → Prop) (hk5 : ∀ (v1 : Int32) (M : Mem), k5 v1 M → E γ k_Model_goOn 134 5 [some (vr (some (11, this))), some (vi v1), none, none, none] [] M (Qi Q)) (hk73 : ∀ (v1 : Int32) (v3 : Int32) (v4 : Int32) (M : Mem), k73 v1 v3 v4 M → E γ k_Model_goOn 134 73 [some (vr (some (11, this))), some (vi v1), none, some (vi v3), some (vi v4)] [] M (Qi Q)) (v1 : Int32) (v4 : Int32) (s0 : Int32) (M : Mem) (h : w_Model_goOn_j119 this Q k5 k73 v1 v4 s0 M) : E γ k_Model_goOn 134 119 [some (vr (some (11, this))), some (vi v1), none, none, some (vi v4)] [vi s0] M (Qi Q) := by
  unfold w_Model_goOn_j119 at h
  refine E_blk (lv' := [some (vr (some (11, this))), some (vi v1), none, some (vi s0), some (vi (v4 + (1 : Int32)))]) (st' := []) (M1 := M) (pc' := 123) (tb_Model hγ) [.istore_n 3, .iinc 4 1] (by decide +kernel) rfl rfl trivial ?_
  refine E_goto (off := -50) (tgt := 73) (by decide +kernel) (by decide) ?_
  refine E_mask [true, true, false, true, true] rfl ?_
  exact hk73 v1 s0 (v4 + (1 : Int32)) M h
set_option maxRecDepth 4096 in
theorem lk_Model_goOn_L73 {γ : Gm} (hγ : Gk γ) (this : Nat) (Q : Int32 → Mem → Prop) (k5 : Int32 → Mem → Prop) (hk5 : ∀ (v1 : Int32) (M : Mem), k5 v1 M → E γ k_Model_goOn 134 5 [some (vr (some (11, this))), some (vi v1), none, none, none] [] M (Qi Q)) : ∀ (n : Nat) (v1 : Int32) (v3 : Int32) (v4 : Int32) (M : Mem), w_Model_goOn_L73 this Q k5 n v1 v3 v4 M → E γ k_Model_goOn 134 73 [some (vr (some (11, this))), some (vi v1), none, some (vi v3), some (vi v4)] [] M (Qi Q) := by
  intro n
  induction n with
  | zero => intro v1 v3 v4 M h; exact h.elim
  | succ n ih =>
    intro v1 v3 v4 M h
    unfold w_Model_goOn_L73 at h
    refine E_blk (lv' := [some (vr (some (11, this))), some (vi v1), none, some (vi v3), some (vi v4)]) (st' := [vi (3 : Int32), vi v4]) (M1 := M) (pc' := 76) (tb_Model hγ) [.iload 4, .iconst 3] (by decide +kernel) rfl rfl trivial ?_
    refine E_icmp_gt (off := 50) (tgt := 126) (by decide +kernel) (by decide) (fun b12 => ?_) (fun b12 => ?_)
    · rw [if_pos b12] at h
      refine E_mask [true, true, false, true, false] rfl ?_
      exact lk_Model_goOn_j126 hγ this Q k5 hk5 v1 v3 M h
    · rw [if_neg b12] at h
      refine E_blk (lv' := [some (vr (some (11, this))), some (vi v1), none, some (vi v3), some (vi v4)]) (st' := [vi v3]) (M1 := M) (pc' := 80) (tb_Model hγ) [.iload_n 3] (by decide +kernel) rfl rfl trivial ?_
      refine E_if_ge (off := 46) (tgt := 126) (by decide +kernel) (by decide) (fun b37 => ?_) (fun b37 => ?_)
      · rw [if_pos b37] at h
        refine E_mask [true, true, false, true, false] rfl ?_
        exact lk_Model_goOn_j126 hγ this Q k5 hk5 v1 v3 M h
      · rw [if_neg b37] at h
        refine E_blk (lv' := [some (vr (some (11, this))), some (vi v1), none, some (vi v3), some (vi v4)]) (st' := [vr (mR M 11 this 45), vr (some (11, this))]) (M1 := M) (pc' := 88) (tb_Model hγ) [.aload_n 0, .aload_n 0, .getfield 522] (by decide +kernel) rfl rfl trivial ?_
        obtain ⟨i38, ei38, h⟩ := h
        rw [ei38]
        obtain ⟨c39, h⟩ := h
        refine E_blk (lv' := [some (vr (some (11, this))), some (vi v1), none, some (vi v3), some (vi v4)]) (st' := [vi (((mI M 12 i38 63) + v4) - ((mI M 12 i38 63) + v4) / (3 : Int32) * (3 : Int32)), vr (some (11, this))]) (M1 := M) (pc' := 96) (tb_Model hγ) [.getfield 492, .iload 4, .iadd, .iconst 3, .irem] (by decide +kernel) rfl rfl ⟨c39, trivial⟩ ?_
        refine E_callV (κ' := k_Model_canGo) (As := [vi (((mI M 12 i38 63) + v4) - ((mI M 12 i38 63) + v4) / (3 : Int32) * (3 : Int32))]) (st := []) mv_Model_canGo (Or.inl (tbk_mem (j := 16) (k := 63) rfl)) rfl (by decide +kernel) (Nat.le_of_ble_eq_true rfl) (Nat.le_of_ble_eq_true rfl) rfl (by decide) (lk_Model_canGo hγ this (((mI M 12 i38 63) + v4) - ((mI M 12 i38 63) + v4) / (3 : Int32) * (3 : Int32)) _ M h) (fun _ _ => Qi_r) (fun v M40 hp => Qi_k (R := fun st => E γ k_Model_goOn 134 99 [some (vr (some (11, this))), some (vi v1), none, some (vi v3), some (vi v4)] st M40 (Qi Q)) hp (fun r41 h => ?_))
        refine E_if_eq (off := 18) (tgt := 117) (by decide +kernel) (by decide) (fun b42 => ?_) (fun b42 => ?_)
        · rw [if_pos b42] at h
          refine E_blk (lv' := [some (vr (some (11, this))), some (vi v1), none, some (vi v3), some (vi v4)]) (st' := [vi (-2 : Int32)]) (M1 := M40) (pc' := 119) (tb_Model hγ) [.bipush (.negSucc 1)] (by decide +kernel) rfl rfl trivial ?_
          refine E_mask [true, true, false, false, true] rfl ?_
          exact lk_Model_goOn_j119 hγ this Q k5 (w_Model_goOn_L73 this Q k5 n) hk5 ih v1 v4 (-2 : Int32) M40 h
        · rw [if_neg b42] at h
          refine E_blk (lv' := [some (vr (some (11, this))), some (vi v1), none, some (vi v3), some (vi v4)]) (st' := [vr (mR M40 11 this 45)]) (M1 := M40) (pc' := 106) (tb_Model hγ) [.aload_n 0, .getfield 522] (by decide +kernel) rfl rfl trivial ?_
          obtain ⟨i43, ei43, h⟩ := h
          rw [ei43]
          obtain ⟨c44, h⟩ := h
          refine E_blk (lv' := [some (vr (some (11, this))), some (vi v1), none, some (vi v3), some (vi v4)]) (st' := [vi (((mI M40 12 i43 63) + v4) - ((mI M40 12 i43 63) + v4) / (3 : Int32) * (3 : Int32))]) (M1 := M40) (pc' := 114) (tb_Model hγ) [.getfield 492, .iload 4, .iadd, .iconst 3, .irem] (by decide +kernel) rfl rfl ⟨c44, trivial⟩ ?_
          refine E_goto (off := 5) (tgt := 119) (by decide +kernel) (by decide) ?_
          refine E_mask [true, true, false, false, true] rfl ?_
          exact lk_Model_goOn_j119 hγ this Q k5 (w_Model_goOn_L73 this Q k5 n) hk5 ih v1 v4 (((mI M40 12 i43 63) + v4) - ((mI M40 12 i43 63) + v4) / (3 : Int32) * (3 : Int32)) M40 h
set_option maxRecDepth 4096 in
theorem lk_Model_goOn_j67 {γ : Gm} (hγ : Gk γ) (this : Nat) (Q : Int32 → Mem → Prop) (k5 : Int32 → Mem → Prop) (hk5 : ∀ (v1 : Int32) (M : Mem), k5 v1 M → E γ k_Model_goOn 134 5 [some (vr (some (11, this))), some (vi v1), none, none, none] [] M (Qi Q)) (v1 : Int32) (M : Mem) (h : w_Model_goOn_j67 this Q k5 v1 M) : E γ k_Model_goOn 134 67 [some (vr (some (11, this))), some (vi v1), none, none, none] [] M (Qi Q) := by
  unfold w_Model_goOn_j67 at h
  refine E_blk (lv' := [some (vr (some (11, this))), some (vi v1), none, some (vi (-2 : Int32)), some (vi (1 : Int32))]) (st' := []) (M1 := M) (pc' := 73) (tb_Model hγ) [.bipush (.negSucc 1), .istore_n 3, .iconst 1, .istore 4] (by decide +kernel) rfl rfl trivial ?_
  obtain ⟨n45, h⟩ := h
  refine E_mask [true, true, false, true, true] rfl ?_
  exact lk_Model_goOn_L73 hγ this Q k5 hk5 n45 v1 (-2 : Int32) (1 : Int32) M h
set_option maxRecDepth 4096 in
theorem lk_Model_goOn_L5 {γ : Gm} (hγ : Gk γ) (this : Nat) (Q : Int32 → Mem → Prop) : ∀ (n : Nat) (v1 : Int32) (M : Mem), w_Model_goOn_L5 this Q n v1 M → E γ k_Model_goOn 134 5 [some (vr (some (11, this))), some (vi v1), none, none, none] [] M (Qi Q) := by
  intro n
  induction n with
  | zero => intro v1 M h; exact h.elim
  | succ n ih =>
    intro v1 M h
    unfold w_Model_goOn_L5 at h
    refine E_blk (lv' := [some (vr (some (11, this))), some (vi v1), none, none, none]) (st' := [vr (mR M 11 this 45), vr (some (11, this))]) (M1 := M) (pc' := 10) (tb_Model hγ) [.aload_n 0, .aload_n 0, .getfield 522] (by decide +kernel) rfl rfl trivial ?_
    obtain ⟨i1, ei1, h⟩ := h
    rw [ei1]
    refine E_callV (κ' := k_Model_isAnyOn) (As := [vr (some (12, i1))]) (st := []) mv_Model_isAnyOn (Or.inl (tbk_mem (j := 16) (k := 54) rfl)) rfl (by decide +kernel) (Nat.le_of_ble_eq_true rfl) (Nat.le_of_ble_eq_true rfl) rfl (by decide) (lk_Model_isAnyOn hγ this i1 _ M h) (fun _ _ => Qi_r) (fun v M2 hp => Qi_k (R := fun st => E γ k_Model_goOn 134 13 [some (vr (some (11, this))), some (vi v1), none, none, none] st M2 (Qi Q)) hp (fun r3 h => ?_))
    refine E_if_eq (off := 253) (tgt := 266) (by decide +kernel) (by decide) (fun b4 => ?_) (fun b4 => ?_)
    · rw [if_pos b4] at h
      refine E_blk (lv' := [some (vr (some (11, this))), some (vi v1), none, none, none]) (st' := [vi (0 : Int32)]) (M1 := M2) (pc' := 267) (tb_Model hγ) [.iconst 0] (by decide +kernel) rfl rfl trivial ?_
      exact E_iret rfl (by decide +kernel) h
    · rw [if_neg b4] at h
      refine E_blk (lv' := [some (vr (some (11, this))), some (vi v1), none, none, none]) (st' := [vi v1, vi (mI M2 11 this 83)]) (M1 := M2) (pc' := 21) (tb_Model hγ) [.aload_n 0, .getfield 1099, .iload_n 1] (by decide +kernel) rfl rfl trivial ?_
      refine E_icmp_ne (off := 5) (tgt := 26) (by decide +kernel) (by decide) (fun b5 => ?_) (fun b5 => ?_)
      · rw [if_pos b5] at h
        refine E_blk (lv' := [some (vr (some (11, this))), some (vi v1), none, none, none]) (st' := [vi (1 : Int32)]) (M1 := M2) (pc' := 25) (tb_Model hγ) [.iconst 1] (by decide +kernel) rfl rfl trivial ?_
        exact E_iret rfl (by decide +kernel) h
      · rw [if_neg b5] at h
        refine E_blk (lv' := [some (vr (some (11, this))), some (vi v1), none, none, none]) (st' := [vr (mR M2 11 this 45)]) (M1 := M2) (pc' := 30) (tb_Model hγ) [.aload_n 0, .getfield 522] (by decide +kernel) rfl rfl trivial ?_
        obtain ⟨i6, ei6, h⟩ := h
        rw [ei6]
        refine E_blk (lv' := [some (vr (some (11, this))), some (vi v1), none, none, none]) (st' := [vr (mR M2 11 this 45), vr (some (704, i6))]) (M1 := M2) (pc' := 37) (tb_Model hγ) [.getfield 406, .aload_n 0, .getfield 522] (by decide +kernel) rfl rfl trivial ?_
        obtain ⟨i7, ei7, h⟩ := h
        rw [ei7]
        obtain ⟨c8, h⟩ := h
        refine E_blk (lv' := [some (vr (some (11, this))), some (vi v1), none, none, none]) (st' := [vr (mR M2 704 i6 (mI M2 12 i7 63).toNatClampNeg)]) (M1 := M2) (pc' := 41) (tb_Model hγ) [.getfield 492, .aaload] (by decide +kernel) rfl rfl ⟨c8, trivial⟩ ?_
        obtain ⟨i9, ei9, h⟩ := h
        rw [ei9]
        refine E_blk (lv' := [some (vr (some (11, this))), some (vi v1), some (vr (some (13, i9))), none, none]) (st' := [vr (mR M2 11 this 45)]) (M1 := M2) (pc' := 46) (tb_Model hγ) [.astore_n 2, .aload_n 0, .getfield 522] (by decide +kernel) rfl rfl trivial ?_
        obtain ⟨i10, ei10, h⟩ := h
        rw [ei10]
        refine E_blk (lv' := [some (vr (some (11, this))), some (vi v1), some (vr (some (13, i9))), none, none]) (st' := [vi (mI M2 12 i10 64)]) (M1 := M2) (pc' := 49) (tb_Model hγ) [.getfield 498] (by decide +kernel) rfl rfl trivial ?_
        refine E_if_eq (off := 18) (tgt := 67) (by decide +kernel) (by decide) (fun b11 => ?_) (fun b11 => ?_)
        · rw [if_pos b11] at h
          refine E_mask [true, true, false, false, false] rfl ?_
          exact lk_Model_goOn_j67 hγ this Q (w_Model_goOn_L5 this Q n) ih v1 M2 h
        · rw [if_neg b11] at h
          refine E_blk (lv' := [some (vr (some (11, this))), some (vi v1), some (vr (some (13, i9))), none, none]) (st' := [vi (1 : Int32), vi (mI M2 13 i9 0)]) (M1 := M2) (pc' := 57) (tb_Model hγ) [.aload_n 2, .getfield 486, .iconst 1] (by decide +kernel) rfl rfl trivial ?_
          refine E_icmp_ne (off := 10) (tgt := 67) (by decide +kernel) (by decide) (fun b46 => ?_) (fun b46 => ?_)
          · rw [if_pos b46] at h
            refine E_blk (lv' := [some (vr (some (11, this))), some (vi v1), some (vr (some (13, i9))), none, none]) (st' := [vi (mI M2 13 i9 1)]) (M1 := M2) (pc' := 64) (tb_Model hγ) [.aload_n 2, .getfield 489] (by decide +kernel) rfl rfl trivial ?_
            refine E_if_eq (off := 103) (tgt := 167) (by decide +kernel) (by decide) (fun b47 => ?_) (fun b47 => ?_)
            · rw [if_pos b47] at h
              refine E_mask [true, true, false, false, false] rfl ?_
              exact lk_Model_goOn_j167 hγ this Q (w_Model_goOn_L5 this Q n) ih v1 M2 h
            · rw [if_neg b47] at h
              refine E_mask [true, true, false, false, false] rfl ?_
              exact lk_Model_goOn_j67 hγ this Q (w_Model_goOn_L5 this Q n) ih v1 M2 h
          · rw [if_neg b46] at h
            refine E_mask [true, true, false, false, false] rfl ?_
            exact lk_Model_goOn_j67 hγ this Q (w_Model_goOn_L5 this Q n) ih v1 M2 h
set_option maxRecDepth 4096 in
theorem lk_Model_goOn {γ : Gm} (hγ : Gk γ) (this : Nat) (a1 : Int32) (Q : Int32 → Mem → Prop) (M : Mem) (h : w_Model_goOn this a1 Q M) : E γ k_Model_goOn 134 0 [some (vr (some (11, this))), some (vi a1), none, none, none] [] M (Qi Q) := by
  unfold w_Model_goOn at h
  refine E_blk (lv' := [some (vr (some (11, this))), some (vi a1), none, none, none]) (st' := []) (M1 := (sI M 11 this 83 (0 : Int32))) (pc' := 5) (tb_Model hγ) [.aload_n 0, .iconst 0, .putfield 1099] (by decide +kernel) rfl rfl trivial ?_
  obtain ⟨n48, h⟩ := h
  refine E_mask [true, true, false, false, false] rfl ?_
  exact lk_Model_goOn_L5 hγ this Q n48 a1 (sI M 11 this 83 (0 : Int32)) h
def w_Model_feedOne_L3 (this : Nat) (Q : Mem → Prop) : Nat → Int32 → Int32 → Mem → Prop
  | 0, _, _, _ => False
  | n + 1, v1, v2, M => if v2 < 0 then (Q M) else (vp_in (mI M 11 this 85) (mL M 402 1) ∧ ∃ M3, M3 = (sI M 402 1 (mI M 11 this 85).toNatClampNeg ((((v1.toUInt32 >>> (v2.toUInt32 &&& Int32.toUInt32 31)).toInt32).toInt8.toInt32).toInt8.toInt32)) ∧ (w_Model_feedOne_L3 this Q n) v1 (v2 + (-8 : Int32)) (sI M3 11 this 85 ((mI M3 11 this 85) + (1 : Int32))))
def w_Model_feedOne (this : Nat) (a1 : Int32) (Q : Mem → Prop) (M : Mem) : Prop :=
  ∃ n4 : Nat, w_Model_feedOne_L3 this Q n4 a1 (24 : Int32) M
set_option maxRecDepth 4096 in
theorem lk_Model_feedOne_L3 {γ : Gm} (hγ : Gk γ) (this : Nat) (Q : Mem → Prop) : ∀ (n : Nat) (v1 : Int32) (v2 : Int32) (M : Mem), w_Model_feedOne_L3 this Q n v1 v2 M → E γ k_Model_feedOne 0 3 [some (vr (some (11, this))), some (vi v1), some (vi v2)] [] M (Qv Q) := by
  intro n
  induction n with
  | zero => intro v1 v2 M h; exact h.elim
  | succ n ih =>
    intro v1 v2 M h
    unfold w_Model_feedOne_L3 at h
    refine E_blk (lv' := [some (vr (some (11, this))), some (vi v1), some (vi v2)]) (st' := [vi v2]) (M1 := M) (pc' := 4) (tb_Model hγ) [.iload_n 2] (by decide +kernel) rfl rfl trivial ?_
    refine E_if_lt (off := 32) (tgt := 36) (by decide +kernel) (by decide) (fun b1 => ?_) (fun b1 => ?_)
    · rw [if_pos b1] at h
      exact E_vret rfl (by decide +kernel) h
    · rw [if_neg b1] at h
      obtain ⟨c2, h⟩ := h
      refine E_blk (lv' := [some (vr (some (11, this))), some (vi v1), some (vi v2)]) (st' := []) (M1 := (sI M 402 1 (mI M 11 this 85).toNatClampNeg ((((v1.toUInt32 >>> (v2.toUInt32 &&& Int32.toUInt32 31)).toInt32).toInt8.toInt32).toInt8.toInt32))) (pc' := 20) (tb_Model hγ) [.aload_n 0, .getfield 314, .aload_n 0, .getfield 1112, .iload_n 1, .iload_n 2, .iushr, .i2b, .bastore] (by decide +kernel) rfl rfl ⟨c2, trivial⟩ ?_
      obtain ⟨M3, eM3, h⟩ := h
      rw [← eM3]
      refine E_blk (lv' := [some (vr (some (11, this))), some (vi v1), some (vi (v2 + (-8 : Int32)))]) (st' := []) (M1 := (sI M3 11 this 85 ((mI M3 11 this 85) + (1 : Int32)))) (pc' := 33) (tb_Model hγ) [.aload_n 0, .dup, .getfield 1112, .iconst 1, .iadd, .putfield 1112, .iinc 2 (.negSucc 7)] (by decide +kernel) rfl rfl trivial ?_
      refine E_goto (off := -30) (tgt := 3) (by decide +kernel) (by decide) ?_
      refine E_mask [true, true, true] rfl ?_
      exact ih v1 (v2 + (-8 : Int32)) (sI M3 11 this 85 ((mI M3 11 this 85) + (1 : Int32))) h
set_option maxRecDepth 4096 in
theorem lk_Model_feedOne {γ : Gm} (hγ : Gk γ) (this : Nat) (a1 : Int32) (Q : Mem → Prop) (M : Mem) (h : w_Model_feedOne this a1 Q M) : E γ k_Model_feedOne 0 0 [some (vr (some (11, this))), some (vi a1), none] [] M (Qv Q) := by
  unfold w_Model_feedOne at h
  refine E_blk (lv' := [some (vr (some (11, this))), some (vi a1), some (vi (24 : Int32))]) (st' := []) (M1 := M) (pc' := 3) (tb_Model hγ) [.bipush 24, .istore_n 2] (by decide +kernel) rfl rfl trivial ?_
  obtain ⟨n4, h⟩ := h
  refine E_mask [true, true, true] rfl ?_
  exact lk_Model_feedOne_L3 hγ this Q n4 a1 (24 : Int32) M h
def w_Model_feed (this : Nat) (a1 : Int32) (a2 : Int32) (a3 : Int32) (a4 : Int32) (a5 : Int32) (Q : Int32 → Mem → Prop) (M : Mem) : Prop :=
  if ((mI M 11 this 85) + (20 : Int32)) ≤ (6000 : Int32) then (w_Model_feedOne this a1 (fun M2 => w_Model_feedOne this a2 (fun M3 => w_Model_feedOne this a3 (fun M4 => w_Model_feedOne this a4 (fun M5 => w_Model_feedOne this a5 (fun M6 => Q (mI M6 11 this 85) M6) M5) M4) M3) M2) M) else (Q (-3 : Int32) M)
set_option maxRecDepth 4096 in
theorem lk_Model_feed {γ : Gm} (hγ : Gk γ) (this : Nat) (a1 : Int32) (a2 : Int32) (a3 : Int32) (a4 : Int32) (a5 : Int32) (Q : Int32 → Mem → Prop) (M : Mem) (h : w_Model_feed this a1 a2 a3 a4 a5 Q M) : E γ k_Model_feed 1 0 [some (vr (some (11, this))), some (vi a1), some (vi a2), some (vi a3), some (vi a4), some (vi a5)] [] M (Qi Q) := by
  unfold w_Model_feed at h
  refine E_blk (lv' := [some (vr (some (11, this))), some (vi a1), some (vi a2), some (vi a3), some (vi a4), some (vi a5)]) (st' := [vi (6000 : Int32), vi ((mI M 11 this 85) + (20 : Int32))]) (M1 := M) (pc' := 10) (tb_Model hγ) [.aload_n 0, .getfield 1112, .bipush 20, .iadd, .sipush 6000] (by decide +kernel) rfl rfl trivial ?_
  refine E_icmp_le (off := 6) (tgt := 16) (by decide +kernel) (by decide) (fun b1 => ?_) (fun b1 => ?_)
  · rw [if_pos b1] at h
    refine E_blk (lv' := [some (vr (some (11, this))), some (vi a1), some (vi a2), some (vi a3), some (vi a4), some (vi a5)]) (st' := [vi a1, vr (some (11, this))]) (M1 := M) (pc' := 18) (tb_Model hγ) [.aload_n 0, .iload_n 1] (by decide +kernel) rfl rfl trivial ?_
    refine E_callV (κ' := k_Model_feedOne) (As := [vi a1]) (st := []) mv_Model_feedOne (Or.inl (tbk_mem (j := 14) (k := 170) rfl)) rfl (by decide +kernel) (Nat.le_of_ble_eq_true rfl) (Nat.le_of_ble_eq_true rfl) rfl (by decide) (lk_Model_feedOne hγ this a1 _ M h) (fun _ _ => Qv_r) (fun v M2 hp => Qv_k (R := fun st => E γ k_Model_feed 1 21 [some (vr (some (11, this))), some (vi a1), some (vi a2), some (vi a3), some (vi a4), some (vi a5)] st M2 (Qi Q)) hp (fun h => ?_))
    refine E_blk (lv' := [some (vr (some (11, this))), some (vi a1), some (vi a2), some (vi a3), some (vi a4), some (vi a5)]) (st' := [vi a2, vr (some (11, this))]) (M1 := M2) (pc' := 23) (tb_Model hγ) [.aload_n 0, .iload_n 2] (by decide +kernel) rfl rfl trivial ?_
    refine E_callV (κ' := k_Model_feedOne) (As := [vi a2]) (st := []) mv_Model_feedOne (Or.inl (tbk_mem (j := 14) (k := 170) rfl)) rfl (by decide +kernel) (Nat.le_of_ble_eq_true rfl) (Nat.le_of_ble_eq_true rfl) rfl (by decide) (lk_Model_feedOne hγ this a2 _ M2 h) (fun _ _ => Qv_r) (fun v M3 hp => Qv_k (R := fun st => E γ k_Model_feed 1 26 [some (vr (some (11, this))), some (vi a1), some (vi a2), some (vi a3), some (vi a4), some (vi a5)] st M3 (Qi Q)) hp (fun h => ?_))
    refine E_blk (lv' := [some (vr (some (11, this))), some (vi a1), some (vi a2), some (vi a3), some (vi a4), some (vi a5)]) (st' := [vi a3, vr (some (11, this))]) (M1 := M3) (pc' := 28) (tb_Model hγ) [.aload_n 0, .iload_n 3] (by decide +kernel) rfl rfl trivial ?_
    refine E_callV (κ' := k_Model_feedOne) (As := [vi a3]) (st := []) mv_Model_feedOne (Or.inl (tbk_mem (j := 14) (k := 170) rfl)) rfl (by decide +kernel) (Nat.le_of_ble_eq_true rfl) (Nat.le_of_ble_eq_true rfl) rfl (by decide) (lk_Model_feedOne hγ this a3 _ M3 h) (fun _ _ => Qv_r) (fun v M4 hp => Qv_k (R := fun st => E γ k_Model_feed 1 31 [some (vr (some (11, this))), some (vi a1), some (vi a2), some (vi a3), some (vi a4), some (vi a5)] st M4 (Qi Q)) hp (fun h => ?_))
    refine E_blk (lv' := [some (vr (some (11, this))), some (vi a1), some (vi a2), some (vi a3), some (vi a4), some (vi a5)]) (st' := [vi a4, vr (some (11, this))]) (M1 := M4) (pc' := 34) (tb_Model hγ) [.aload_n 0, .iload 4] (by decide +kernel) rfl rfl trivial ?_
    refine E_callV (κ' := k_Model_feedOne) (As := [vi a4]) (st := []) mv_Model_feedOne (Or.inl (tbk_mem (j := 14) (k := 170) rfl)) rfl (by decide +kernel) (Nat.le_of_ble_eq_true rfl) (Nat.le_of_ble_eq_true rfl) rfl (by decide) (lk_Model_feedOne hγ this a4 _ M4 h) (fun _ _ => Qv_r) (fun v M5 hp => Qv_k (R := fun st => E γ k_Model_feed 1 37 [some (vr (some (11, this))), some (vi a1), some (vi a2), some (vi a3), some (vi a4), some (vi a5)] st M5 (Qi Q)) hp (fun h => ?_))
    refine E_blk (lv' := [some (vr (some (11, this))), some (vi a1), some (vi a2), some (vi a3), some (vi a4), some (vi a5)]) (st' := [vi a5, vr (some (11, this))]) (M1 := M5) (pc' := 40) (tb_Model hγ) [.aload_n 0, .iload 5] (by decide +kernel) rfl rfl trivial ?_
    refine E_callV (κ' := k_Model_feedOne) (As := [vi a5]) (st := []) mv_Model_feedOne (Or.inl (tbk_mem (j := 14) (k := 170) rfl)) rfl (by decide +kernel) (Nat.le_of_ble_eq_true rfl) (Nat.le_of_ble_eq_true rfl) rfl (by decide) (lk_Model_feedOne hγ this a5 _ M5 h) (fun _ _ => Qv_r) (fun v M6 hp => Qv_k (R := fun st => E γ k_Model_feed 1 43 [some (vr (some (11, this))), some (vi a1), some (vi a2), some (vi a3), some (vi a4), some (vi a5)] st M6 (Qi Q)) hp (fun h => ?_))
    refine E_blk (lv' := [some (vr (some (11, this))), some (vi a1), some (vi a2), some (vi a3), some (vi a4), some (vi a5)]) (st' := [vi (mI M6 11 this 85)]) (M1 := M6) (pc' := 47) (tb_Model hγ) [.aload_n 0, .getfield 1112] (by decide +kernel) rfl rfl trivial ?_
    exact E_iret rfl (by decide +kernel) h
  · rw [if_neg b1] at h
    refine E_blk (lv' := [some (vr (some (11, this))), some (vi a1), some (vi a2), some (vi a3), some (vi a4), some (vi a5)]) (st' := [vi (-3 : Int32)]) (M1 := M) (pc' := 15) (tb_Model hγ) [.bipush (.negSucc 2)] (by decide +kernel) rfl rfl trivial ?_
    exact E_iret rfl (by decide +kernel) h
def w_Model_cut (this : Nat) (a1 : Int32) (Q : Int32 → Mem → Prop) (M : Mem) : Prop :=
  if a1 < 0 then (Q (-1 : Int32) M) else (if a1 ≤ (mI M 11 this 85) then (Q (mI (sI M 11 this 85 ((mI M 11 this 85) - a1)) 11 this 85) (sI M 11 this 85 ((mI M 11 this 85) - a1))) else (Q (-1 : Int32) M))
set_option maxRecDepth 4096 in
theorem lk_Model_cut {γ : Gm} (hγ : Gk γ) (this : Nat) (a1 : Int32) (Q : Int32 → Mem → Prop) (M : Mem) (h : w_Model_cut this a1 Q M) : E γ k_Model_cut 0 0 [some (vr (some (11, this))), some (vi a1)] [] M (Qi Q) := by
  unfold w_Model_cut at h
  refine E_blk (lv' := [some (vr (some (11, this))), some (vi a1)]) (st' := [vi a1]) (M1 := M) (pc' := 1) (tb_Model hγ) [.iload_n 1] (by decide +kernel) rfl rfl trivial ?_
  refine E_if_lt (off := 11) (tgt := 12) (by decide +kernel) (by decide) (fun b1 => ?_) (fun b1 => ?_)
  · rw [if_pos b1] at h
    refine E_blk (lv' := [some (vr (some (11, this))), some (vi a1)]) (st' := [vi (-1 : Int32)]) (M1 := M) (pc' := 13) (tb_Model hγ) [.iconst (.negSucc 0)] (by decide +kernel) rfl rfl trivial ?_
    exact E_iret rfl (by decide +kernel) h
  · rw [if_neg b1] at h
    refine E_blk (lv' := [some (vr (some (11, this))), some (vi a1)]) (st' := [vi (mI M 11 this 85), vi a1]) (M1 := M) (pc' := 9) (tb_Model hγ) [.iload_n 1, .aload_n 0, .getfield 1112] (by decide +kernel) rfl rfl trivial ?_
    refine E_icmp_le (off := 5) (tgt := 14) (by decide +kernel) (by decide) (fun b2 => ?_) (fun b2 => ?_)
    · rw [if_pos b2] at h
      refine E_blk (lv' := [some (vr (some (11, this))), some (vi a1)]) (st' := [vi (mI (sI M 11 this 85 ((mI M 11 this 85) - a1)) 11 this 85)]) (M1 := (sI M 11 this 85 ((mI M 11 this 85) - a1))) (pc' := 28) (tb_Model hγ) [.aload_n 0, .dup, .getfield 1112, .iload_n 1, .isub, .putfield 1112, .aload_n 0, .getfield 1112] (by decide +kernel) rfl rfl trivial ?_
      exact E_iret rfl (by decide +kernel) h
    · rw [if_neg b2] at h
      refine E_blk (lv' := [some (vr (some (11, this))), some (vi a1)]) (st' := [vi (-1 : Int32)]) (M1 := M) (pc' := 13) (tb_Model hγ) [.iconst (.negSucc 0)] (by decide +kernel) rfl rfl trivial ?_
      exact E_iret rfl (by decide +kernel) h
def w_Model_isWorld (this : Nat) (a1 : Int32) (Q : Int32 → Mem → Prop) (M : Mem) : Prop :=
  if a1 < 0 then (Q (0 : Int32) M) else (if (3 : Int32) ≤ a1 then (Q (0 : Int32) M) else (vp_in a1 (mL M 703 0) ∧ ∃ i4, (mR M 703 0 a1.toNatClampNeg) = some (12, i4) ∧ if (mI M 12 i4 0) = 0 then (Q (0 : Int32) M) else (Q (1 : Int32) M)))
set_option maxRecDepth 4096 in
theorem lk_Model_isWorld {γ : Gm} (hγ : Gk γ) (this : Nat) (a1 : Int32) (Q : Int32 → Mem → Prop) (M : Mem) (h : w_Model_isWorld this a1 Q M) : E γ k_Model_isWorld 0 0 [some (vr (some (11, this))), some (vi a1)] [] M (Qi Q) := by
  unfold w_Model_isWorld at h
  refine E_blk (lv' := [some (vr (some (11, this))), some (vi a1)]) (st' := [vi a1]) (M1 := M) (pc' := 1) (tb_Model hγ) [.iload_n 1] (by decide +kernel) rfl rfl trivial ?_
  refine E_if_lt (off := 24) (tgt := 25) (by decide +kernel) (by decide) (fun b1 => ?_) (fun b1 => ?_)
  · rw [if_pos b1] at h
    refine E_blk (lv' := [some (vr (some (11, this))), some (vi a1)]) (st' := [vi (0 : Int32)]) (M1 := M) (pc' := 26) (tb_Model hγ) [.iconst 0] (by decide +kernel) rfl rfl trivial ?_
    exact E_zret rfl (Or.inl rfl) (by decide +kernel) h
  · rw [if_neg b1] at h
    refine E_blk (lv' := [some (vr (some (11, this))), some (vi a1)]) (st' := [vi (3 : Int32), vi a1]) (M1 := M) (pc' := 6) (tb_Model hγ) [.iload_n 1, .iconst 3] (by decide +kernel) rfl rfl trivial ?_
    refine E_icmp_ge (off := 19) (tgt := 25) (by decide +kernel) (by decide) (fun b2 => ?_) (fun b2 => ?_)
    · rw [if_pos b2] at h
      refine E_blk (lv' := [some (vr (some (11, this))), some (vi a1)]) (st' := [vi (0 : Int32)]) (M1 := M) (pc' := 26) (tb_Model hγ) [.iconst 0] (by decide +kernel) rfl rfl trivial ?_
      exact E_zret rfl (Or.inl rfl) (by decide +kernel) h
    · rw [if_neg b2] at h
      obtain ⟨c3, h⟩ := h
      refine E_blk (lv' := [some (vr (some (11, this))), some (vi a1)]) (st' := [vr (mR M 703 0 a1.toNatClampNeg)]) (M1 := M) (pc' := 15) (tb_Model hγ) [.aload_n 0, .getfield 263, .iload_n 1, .aaload] (by decide +kernel) rfl rfl ⟨c3, trivial⟩ ?_
      obtain ⟨i4, ei4, h⟩ := h
      rw [ei4]
      refine E_blk (lv' := [some (vr (some (11, this))), some (vi a1)]) (st' := [vi (mI M 12 i4 0)]) (M1 := M) (pc' := 18) (tb_Model hγ) [.getfield 413] (by decide +kernel) rfl rfl trivial ?_
      refine E_if_eq (off := 7) (tgt := 25) (by decide +kernel) (by decide) (fun b5 => ?_) (fun b5 => ?_)
      · rw [if_pos b5] at h
        refine E_blk (lv' := [some (vr (some (11, this))), some (vi a1)]) (st' := [vi (0 : Int32)]) (M1 := M) (pc' := 26) (tb_Model hγ) [.iconst 0] (by decide +kernel) rfl rfl trivial ?_
        exact E_zret rfl (Or.inl rfl) (by decide +kernel) h
      · rw [if_neg b5] at h
        refine E_blk (lv' := [some (vr (some (11, this))), some (vi a1)]) (st' := [vi (1 : Int32)]) (M1 := M) (pc' := 22) (tb_Model hγ) [.iconst 1] (by decide +kernel) rfl rfl trivial ?_
        refine E_goto (off := 4) (tgt := 26) (by decide +kernel) (by decide) ?_
        exact E_zret rfl (Or.inr rfl) (by decide +kernel) h
def w_Model_isClass (this : Nat) (a1 : Int32) (a2 : Int32) (Q : Int32 → Mem → Prop) (M : Mem) : Prop :=
  w_Model_isWorld this a1 (fun r2 M1 => if r2 = 0 then (Q (0 : Int32) M1) else (if a2 < 0 then (Q (0 : Int32) M1) else (vp_in a1 (mL M1 703 0) ∧ ∃ i6, (mR M1 703 0 a1.toNatClampNeg) = some (12, i6) ∧ if (mI M1 12 i6 2) ≤ a2 then (Q (0 : Int32) M1) else (Q (1 : Int32) M1)))) M
set_option maxRecDepth 4096 in
theorem lk_Model_isClass {γ : Gm} (hγ : Gk γ) (this : Nat) (a1 : Int32) (a2 : Int32) (Q : Int32 → Mem → Prop) (M : Mem) (h : w_Model_isClass this a1 a2 Q M) : E γ k_Model_isClass 1 0 [some (vr (some (11, this))), some (vi a1), some (vi a2)] [] M (Qi Q) := by
  unfold w_Model_isClass at h
  refine E_blk (lv' := [some (vr (some (11, this))), some (vi a1), some (vi a2)]) (st' := [vi a1, vr (some (11, this))]) (M1 := M) (pc' := 2) (tb_Model hγ) [.aload_n 0, .iload_n 1] (by decide +kernel) rfl rfl trivial ?_
  refine E_callV (κ' := k_Model_isWorld) (As := [vi a1]) (st := []) mv_Model_isWorld (Or.inl (tbk_mem (j := 14) (k := 190) rfl)) rfl (by decide +kernel) (Nat.le_of_ble_eq_true rfl) (Nat.le_of_ble_eq_true rfl) rfl (by decide) (lk_Model_isWorld hγ this a1 _ M h) (fun _ _ => Qi_r) (fun v M1 hp => Qi_k (R := fun st => E γ k_Model_isClass 1 5 [some (vr (some (11, this))), some (vi a1), some (vi a2)] st M1 (Qi Q)) hp (fun r2 h => ?_))
  refine E_if_eq (off := 24) (tgt := 29) (by decide +kernel) (by decide) (fun b3 => ?_) (fun b3 => ?_)
  · rw [if_pos b3] at h
    refine E_blk (lv' := [some (vr (some (11, this))), some (vi a1), some (vi a2)]) (st' := [vi (0 : Int32)]) (M1 := M1) (pc' := 30) (tb_Model hγ) [.iconst 0] (by decide +kernel) rfl rfl trivial ?_
    exact E_zret rfl (Or.inl rfl) (by decide +kernel) h
  · rw [if_neg b3] at h
    refine E_blk (lv' := [some (vr (some (11, this))), some (vi a1), some (vi a2)]) (st' := [vi a2]) (M1 := M1) (pc' := 9) (tb_Model hγ) [.iload_n 2] (by decide +kernel) rfl rfl trivial ?_
    refine E_if_lt (off := 20) (tgt := 29) (by decide +kernel) (by decide) (fun b4 => ?_) (fun b4 => ?_)
    · rw [if_pos b4] at h
      refine E_blk (lv' := [some (vr (some (11, this))), some (vi a1), some (vi a2)]) (st' := [vi (0 : Int32)]) (M1 := M1) (pc' := 30) (tb_Model hγ) [.iconst 0] (by decide +kernel) rfl rfl trivial ?_
      exact E_zret rfl (Or.inl rfl) (by decide +kernel) h
    · rw [if_neg b4] at h
      obtain ⟨c5, h⟩ := h
      refine E_blk (lv' := [some (vr (some (11, this))), some (vi a1), some (vi a2)]) (st' := [vr (mR M1 703 0 a1.toNatClampNeg), vi a2]) (M1 := M1) (pc' := 19) (tb_Model hγ) [.iload_n 2, .aload_n 0, .getfield 263, .iload_n 1, .aaload] (by decide +kernel) rfl rfl ⟨c5, trivial⟩ ?_
      obtain ⟨i6, ei6, h⟩ := h
      rw [ei6]
      refine E_blk (lv' := [some (vr (some (11, this))), some (vi a1), some (vi a2)]) (st' := [vi (mI M1 12 i6 2), vi a2]) (M1 := M1) (pc' := 22) (tb_Model hγ) [.getfield 420] (by decide +kernel) rfl rfl trivial ?_
      refine E_icmp_ge (off := 7) (tgt := 29) (by decide +kernel) (by decide) (fun b7 => ?_) (fun b7 => ?_)
      · rw [if_pos b7] at h
        refine E_blk (lv' := [some (vr (some (11, this))), some (vi a1), some (vi a2)]) (st' := [vi (0 : Int32)]) (M1 := M1) (pc' := 30) (tb_Model hγ) [.iconst 0] (by decide +kernel) rfl rfl trivial ?_
        exact E_zret rfl (Or.inl rfl) (by decide +kernel) h
      · rw [if_neg b7] at h
        refine E_blk (lv' := [some (vr (some (11, this))), some (vi a1), some (vi a2)]) (st' := [vi (1 : Int32)]) (M1 := M1) (pc' := 26) (tb_Model hγ) [.iconst 1] (by decide +kernel) rfl rfl trivial ?_
        refine E_goto (off := 4) (tgt := 30) (by decide +kernel) (by decide) ?_
        exact E_zret rfl (Or.inr rfl) (by decide +kernel) h
def w_Model_world_L15 (this : Nat) (Q : Int32 → Mem → Prop) : Nat → Int32 → Int32 → Mem → Prop
  | 0, _, _, _ => False
  | n + 1, v1, v2, M => if (3 : Int32) ≤ v2 then (Q (-3 : Int32) M) else (vp_in v2 (mL M 703 0) ∧ ∃ i5, (mR M 703 0 v2.toNatClampNeg) = some (12, i5) ∧ if (mI M 12 i5 0) = 0 then (vp_in v2 (mL M 703 0) ∧ ∃ i8, (mR M 703 0 v2.toNatClampNeg) = some (12, i8) ∧ w_Model_beginWorld this i8 v1 (fun M9 => Q v2 M9) M) else ((w_Model_world_L15 this Q n) v1 (v2 + (1 : Int32)) M))
def w_Model_world (this : Nat) (a1 : Int32) (Q : Int32 → Mem → Prop) (M : Mem) : Prop :=
  if a1 < 0 then (Q (-1 : Int32) M) else (if a1 ≤ (255 : Int32) then (∃ n10 : Nat, w_Model_world_L15 this Q n10 a1 (0 : Int32) M) else (Q (-1 : Int32) M))
set_option maxRecDepth 4096 in
theorem lk_Model_world_L15 {γ : Gm} (hγ : Gk γ) (this : Nat) (Q : Int32 → Mem → Prop) : ∀ (n : Nat) (v1 : Int32) (v2 : Int32) (M : Mem), w_Model_world_L15 this Q n v1 v2 M → E γ k_Model_world 1 15 [some (vr (some (11, this))), some (vi v1), some (vi v2)] [] M (Qi Q) := by
  intro n
  induction n with
  | zero => intro v1 v2 M h; exact h.elim
  | succ n ih =>
    intro v1 v2 M h
    unfold w_Model_world_L15 at h
    refine E_blk (lv' := [some (vr (some (11, this))), some (vi v1), some (vi v2)]) (st' := [vi (3 : Int32), vi v2]) (M1 := M) (pc' := 17) (tb_Model hγ) [.iload_n 2, .iconst 3] (by decide +kernel) rfl rfl trivial ?_
    refine E_icmp_ge (off := 34) (tgt := 51) (by decide +kernel) (by decide) (fun b3 => ?_) (fun b3 => ?_)
    · rw [if_pos b3] at h
      refine E_blk (lv' := [some (vr (some (11, this))), some (vi v1), some (vi v2)]) (st' := [vi (-3 : Int32)]) (M1 := M) (pc' := 53) (tb_Model hγ) [.bipush (.negSucc 2)] (by decide +kernel) rfl rfl trivial ?_
      exact E_iret rfl (by decide +kernel) h
    · rw [if_neg b3] at h
      obtain ⟨c4, h⟩ := h
      refine E_blk (lv' := [some (vr (some (11, this))), some (vi v1), some (vi v2)]) (st' := [vr (mR M 703 0 v2.toNatClampNeg)]) (M1 := M) (pc' := 26) (tb_Model hγ) [.aload_n 0, .getfield 263, .iload_n 2, .aaload] (by decide +kernel) rfl rfl ⟨c4, trivial⟩ ?_
      obtain ⟨i5, ei5, h⟩ := h
      rw [ei5]
      refine E_blk (lv' := [some (vr (some (11, this))), some (vi v1), some (vi v2)]) (st' := [vi (mI M 12 i5 0)]) (M1 := M) (pc' := 29) (tb_Model hγ) [.getfield 413] (by decide +kernel) rfl rfl trivial ?_
      refine E_if_ne (off := 16) (tgt := 45) (by decide +kernel) (by decide) (fun b6 => ?_) (fun b6 => ?_)
      · rw [if_pos b6] at h
        obtain ⟨c7, h⟩ := h
        refine E_blk (lv' := [some (vr (some (11, this))), some (vi v1), some (vi v2)]) (st' := [vr (mR M 703 0 v2.toNatClampNeg), vr (some (11, this))]) (M1 := M) (pc' := 39) (tb_Model hγ) [.aload_n 0, .aload_n 0, .getfield 263, .iload_n 2, .aaload] (by decide +kernel) rfl rfl ⟨c7, trivial⟩ ?_
        obtain ⟨i8, ei8, h⟩ := h
        rw [ei8]
        refine E_blk (lv' := [some (vr (some (11, this))), some (vi v1), some (vi v2)]) (st' := [vi v1, vr (some (12, i8)), vr (some (11, this))]) (M1 := M) (pc' := 40) (tb_Model hγ) [.iload_n 1] (by decide +kernel) rfl rfl trivial ?_
        refine E_callV (κ' := k_Model_beginWorld) (As := [vr (some (12, i8)), vi v1]) (st := []) mv_Model_beginWorld (Or.inl (tbk_mem (j := 14) (k := 182) rfl)) rfl (by decide +kernel) (Nat.le_of_ble_eq_true rfl) (Nat.le_of_ble_eq_true rfl) rfl (by decide) (lk_Model_beginWorld hγ this i8 v1 _ M h) (fun _ _ => Qv_r) (fun v M9 hp => Qv_k (R := fun st => E γ k_Model_world 1 43 [some (vr (some (11, this))), some (vi v1), some (vi v2)] st M9 (Qi Q)) hp (fun h => ?_))
        refine E_blk (lv' := [some (vr (some (11, this))), some (vi v1), some (vi v2)]) (st' := [vi v2]) (M1 := M9) (pc' := 44) (tb_Model hγ) [.iload_n 2] (by decide +kernel) rfl rfl trivial ?_
        exact E_iret rfl (by decide +kernel) h
      · rw [if_neg b6] at h
        refine E_blk (lv' := [some (vr (some (11, this))), some (vi v1), some (vi (v2 + (1 : Int32)))]) (st' := []) (M1 := M) (pc' := 48) (tb_Model hγ) [.iinc 2 1] (by decide +kernel) rfl rfl trivial ?_
        refine E_goto (off := -33) (tgt := 15) (by decide +kernel) (by decide) ?_
        refine E_mask [true, true, true] rfl ?_
        exact ih v1 (v2 + (1 : Int32)) M h
set_option maxRecDepth 4096 in
theorem lk_Model_world {γ : Gm} (hγ : Gk γ) (this : Nat) (a1 : Int32) (Q : Int32 → Mem → Prop) (M : Mem) (h : w_Model_world this a1 Q M) : E γ k_Model_world 1 0 [some (vr (some (11, this))), some (vi a1), none] [] M (Qi Q) := by
  unfold w_Model_world at h
  refine E_blk (lv' := [some (vr (some (11, this))), some (vi a1), none]) (st' := [vi a1]) (M1 := M) (pc' := 1) (tb_Model hγ) [.iload_n 1] (by decide +kernel) rfl rfl trivial ?_
  refine E_if_lt (off := 10) (tgt := 11) (by decide +kernel) (by decide) (fun b1 => ?_) (fun b1 => ?_)
  · rw [if_pos b1] at h
    refine E_blk (lv' := [some (vr (some (11, this))), some (vi a1), none]) (st' := [vi (-1 : Int32)]) (M1 := M) (pc' := 12) (tb_Model hγ) [.iconst (.negSucc 0)] (by decide +kernel) rfl rfl trivial ?_
    exact E_iret rfl (by decide +kernel) h
  · rw [if_neg b1] at h
    refine E_blk (lv' := [some (vr (some (11, this))), some (vi a1), none]) (st' := [vi (255 : Int32), vi a1]) (M1 := M) (pc' := 8) (tb_Model hγ) [.iload_n 1, .sipush 255] (by decide +kernel) rfl rfl trivial ?_
    refine E_icmp_le (off := 5) (tgt := 13) (by decide +kernel) (by decide) (fun b2 => ?_) (fun b2 => ?_)
    · rw [if_pos b2] at h
      refine E_blk (lv' := [some (vr (some (11, this))), some (vi a1), some (vi (0 : Int32))]) (st' := []) (M1 := M) (pc' := 15) (tb_Model hγ) [.iconst 0, .istore_n 2] (by decide +kernel) rfl rfl trivial ?_
      obtain ⟨n10, h⟩ := h
      refine E_mask [true, true, true] rfl ?_
      exact lk_Model_world_L15 hγ this Q n10 a1 (0 : Int32) M h
    · rw [if_neg b2] at h
      refine E_blk (lv' := [some (vr (some (11, this))), some (vi a1), none]) (st' := [vi (-1 : Int32)]) (M1 := M) (pc' := 12) (tb_Model hγ) [.iconst (.negSucc 0)] (by decide +kernel) rfl rfl trivial ?_
      exact E_iret rfl (by decide +kernel) h
def w_Model_drop (this : Nat) (a1 : Int32) (Q : Int32 → Mem → Prop) (M : Mem) : Prop :=
  w_Model_isWorld this a1 (fun r2 M1 => if r2 = 0 then (Q (-1 : Int32) M1) else (vp_in a1 (mL M1 703 0) ∧ ∃ i5, (mR M1 703 0 a1.toNatClampNeg) = some (12, i5) ∧ ((0 : Int32) = 0 ∨ (0 : Int32) = 1) ∧ vp_in a1 (mL (sI M1 12 i5 0 (0 : Int32)) 703 0) ∧ ∃ i8, (mR (sI M1 12 i5 0 (0 : Int32)) 703 0 a1.toNatClampNeg) = some (12, i8) ∧ Q ((mI (sI M1 12 i5 0 (0 : Int32)) 12 i8 2) - (21 : Int32)) (sI M1 12 i5 0 (0 : Int32)))) M
set_option maxRecDepth 4096 in
theorem lk_Model_drop {γ : Gm} (hγ : Gk γ) (this : Nat) (a1 : Int32) (Q : Int32 → Mem → Prop) (M : Mem) (h : w_Model_drop this a1 Q M) : E γ k_Model_drop 1 0 [some (vr (some (11, this))), some (vi a1)] [] M (Qi Q) := by
  unfold w_Model_drop at h
  refine E_blk (lv' := [some (vr (some (11, this))), some (vi a1)]) (st' := [vi a1, vr (some (11, this))]) (M1 := M) (pc' := 2) (tb_Model hγ) [.aload_n 0, .iload_n 1] (by decide +kernel) rfl rfl trivial ?_
  refine E_callV (κ' := k_Model_isWorld) (As := [vi a1]) (st := []) mv_Model_isWorld (Or.inl (tbk_mem (j := 14) (k := 190) rfl)) rfl (by decide +kernel) (Nat.le_of_ble_eq_true rfl) (Nat.le_of_ble_eq_true rfl) rfl (by decide) (lk_Model_isWorld hγ this a1 _ M h) (fun _ _ => Qi_r) (fun v M1 hp => Qi_k (R := fun st => E γ k_Model_drop 1 5 [some (vr (some (11, this))), some (vi a1)] st M1 (Qi Q)) hp (fun r2 h => ?_))
  refine E_if_ne (off := 5) (tgt := 10) (by decide +kernel) (by decide) (fun b3 => ?_) (fun b3 => ?_)
  · rw [if_pos b3] at h
    refine E_blk (lv' := [some (vr (some (11, this))), some (vi a1)]) (st' := [vi (-1 : Int32)]) (M1 := M1) (pc' := 9) (tb_Model hγ) [.iconst (.negSucc 0)] (by decide +kernel) rfl rfl trivial ?_
    exact E_iret rfl (by decide +kernel) h
  · rw [if_neg b3] at h
    obtain ⟨c4, h⟩ := h
    refine E_blk (lv' := [some (vr (some (11, this))), some (vi a1)]) (st' := [vr (mR M1 703 0 a1.toNatClampNeg)]) (M1 := M1) (pc' := 16) (tb_Model hγ) [.aload_n 0, .getfield 263, .iload_n 1, .aaload] (by decide +kernel) rfl rfl ⟨c4, trivial⟩ ?_
    obtain ⟨i5, ei5, h⟩ := h
    rw [ei5]
    obtain ⟨c6, c7, h⟩ := h
    refine E_blk (lv' := [some (vr (some (11, this))), some (vi a1)]) (st' := [vr (mR (sI M1 12 i5 0 (0 : Int32)) 703 0 a1.toNatClampNeg)]) (M1 := (sI M1 12 i5 0 (0 : Int32))) (pc' := 26) (tb_Model hγ) [.iconst 0, .putfield 413, .aload_n 0, .getfield 263, .iload_n 1, .aaload] (by decide +kernel) rfl rfl ⟨c6, c7, trivial⟩ ?_
    obtain ⟨i8, ei8, h⟩ := h
    rw [ei8]
    refine E_blk (lv' := [some (vr (some (11, this))), some (vi a1)]) (st' := [vi ((mI (sI M1 12 i5 0 (0 : Int32)) 12 i8 2) - (21 : Int32))]) (M1 := (sI M1 12 i5 0 (0 : Int32))) (pc' := 32) (tb_Model hγ) [.getfield 420, .bipush 21, .isub] (by decide +kernel) rfl rfl trivial ?_
    exact E_iret rfl (by decide +kernel) h
def w_Model_define (this : Nat) (a1 : Int32) (Q : Int32 → Mem → Prop) (M : Mem) : Prop :=
  w_Model_isWorld this a1 (fun r2 M1 => if r2 = 0 then (Q (-1 : Int32) M1) else (vp_in a1 (mL M1 703 0) ∧ ∃ i5, (mR M1 703 0 a1.toNatClampNeg) = some (12, i5) ∧ w_Model_take this 1 (mI (sR M1 11 this 45 (some (12, i5))) 11 this 85) (fun r7 M6 => ∃ M8, M8 = (sI (sI M6 11 this 85 (0 : Int32)) 11 this 86 (mI (sI M6 11 this 85 (0 : Int32)) 11 this 50)) ∧ Q r7 M8) (sR M1 11 this 45 (some (12, i5))))) M
set_option maxRecDepth 4096 in
theorem lk_Model_define {γ : Gm} (hγ : Gk γ) (this : Nat) (a1 : Int32) (Q : Int32 → Mem → Prop) (M : Mem) (h : w_Model_define this a1 Q M) : E γ k_Model_define 10 0 [some (vr (some (11, this))), some (vi a1), none] [] M (Qi Q) := by
  unfold w_Model_define at h
  refine E_blk (lv' := [some (vr (some (11, this))), some (vi a1), none]) (st' := [vi a1, vr (some (11, this))]) (M1 := M) (pc' := 2) (tb_Model hγ) [.aload_n 0, .iload_n 1] (by decide +kernel) rfl rfl trivial ?_
  refine E_callV (κ' := k_Model_isWorld) (As := [vi a1]) (st := []) mv_Model_isWorld (Or.inl (tbk_mem (j := 14) (k := 190) rfl)) rfl (by decide +kernel) (Nat.le_of_ble_eq_true rfl) (Nat.le_of_ble_eq_true rfl) rfl (by decide) (lk_Model_isWorld hγ this a1 _ M h) (fun _ _ => Qi_r) (fun v M1 hp => Qi_k (R := fun st => E γ k_Model_define 10 5 [some (vr (some (11, this))), some (vi a1), none] st M1 (Qi Q)) hp (fun r2 h => ?_))
  refine E_if_ne (off := 5) (tgt := 10) (by decide +kernel) (by decide) (fun b3 => ?_) (fun b3 => ?_)
  · rw [if_pos b3] at h
    refine E_blk (lv' := [some (vr (some (11, this))), some (vi a1), none]) (st' := [vi (-1 : Int32)]) (M1 := M1) (pc' := 9) (tb_Model hγ) [.iconst (.negSucc 0)] (by decide +kernel) rfl rfl trivial ?_
    exact E_iret rfl (by decide +kernel) h
  · rw [if_neg b3] at h
    obtain ⟨c4, h⟩ := h
    refine E_blk (lv' := [some (vr (some (11, this))), some (vi a1), none]) (st' := [vr (mR M1 703 0 a1.toNatClampNeg), vr (some (11, this))]) (M1 := M1) (pc' := 17) (tb_Model hγ) [.aload_n 0, .aload_n 0, .getfield 263, .iload_n 1, .aaload] (by decide +kernel) rfl rfl ⟨c4, trivial⟩ ?_
    obtain ⟨i5, ei5, h⟩ := h
    rw [ei5]
    refine E_blk (lv' := [some (vr (some (11, this))), some (vi a1), none]) (st' := [vi (mI (sR M1 11 this 45 (some (12, i5))) 11 this 85), vr (some (402, 1)), vr (some (11, this))]) (M1 := (sR M1 11 this 45 (some (12, i5)))) (pc' := 29) (tb_Model hγ) [.putfield 522, .aload_n 0, .aload_n 0, .getfield 314, .aload_n 0, .getfield 1112] (by decide +kernel) rfl rfl trivial ?_
    refine E_callV (κ' := k_Model_take) (As := [vr (some (402, 1)), vi (mI (sR M1 11 this 45 (some (12, i5))) 11 this 85)]) (st := []) mv_Model_take (Or.inl (tbk_mem (j := 14) (k := 198) rfl)) rfl (by decide +kernel) (Nat.le_of_ble_eq_true rfl) (Nat.le_of_ble_eq_true rfl) rfl (by decide) (lk_Model_take hγ this 1 (mI (sR M1 11 this 45 (some (12, i5))) 11 this 85) _ (sR M1 11 this 45 (some (12, i5))) h) (fun _ _ => Qi_r) (fun v M6 hp => Qi_k (R := fun st => E γ k_Model_define 10 32 [some (vr (some (11, this))), some (vi a1), none] st M6 (Qi Q)) hp (fun r7 h => ?_))
    refine E_blk (lv' := [some (vr (some (11, this))), some (vi a1), some (vi r7)]) (st' := []) (M1 := (sI (sI M6 11 this 85 (0 : Int32)) 11 this 86 (mI (sI M6 11 this 85 (0 : Int32)) 11 this 50))) (pc' := 46) (tb_Model hγ) [.istore_n 2, .aload_n 0, .iconst 0, .putfield 1112, .aload_n 0, .aload_n 0, .getfield 529, .putfield 317] (by decide +kernel) rfl rfl trivial ?_
    obtain ⟨M8, eM8, h⟩ := h
    rw [← eM8]
    refine E_blk (lv' := [some (vr (some (11, this))), some (vi a1), some (vi r7)]) (st' := [vi r7]) (M1 := M8) (pc' := 47) (tb_Model hγ) [.iload_n 2] (by decide +kernel) rfl rfl trivial ?_
    exact E_iret rfl (by decide +kernel) h
def w_Model_place (this : Nat) (Q : Int32 → Mem → Prop) (M : Mem) : Prop :=
  Q (mI M 11 this 86) M
set_option maxRecDepth 4096 in
theorem lk_Model_place {γ : Gm} (hγ : Gk γ) (this : Nat) (Q : Int32 → Mem → Prop) (M : Mem) (h : w_Model_place this Q M) : E γ k_Model_place 0 0 [some (vr (some (11, this)))] [] M (Qi Q) := by
  unfold w_Model_place at h
  refine E_blk (lv' := [some (vr (some (11, this)))]) (st' := [vi (mI M 11 this 86)]) (M1 := M) (pc' := 4) (tb_Model hγ) [.aload_n 0, .getfield 317] (by decide +kernel) rfl rfl trivial ?_
  exact E_iret rfl (by decide +kernel) h
def w_Model_classes (this : Nat) (a1 : Int32) (Q : Int32 → Mem → Prop) (M : Mem) : Prop :=
  w_Model_isWorld this a1 (fun r2 M1 => if r2 = 0 then (Q (-1 : Int32) M1) else (vp_in a1 (mL M1 703 0) ∧ ∃ i5, (mR M1 703 0 a1.toNatClampNeg) = some (12, i5) ∧ Q ((mI M1 12 i5 2) - (21 : Int32)) M1)) M
set_option maxRecDepth 4096 in
theorem lk_Model_classes {γ : Gm} (hγ : Gk γ) (this : Nat) (a1 : Int32) (Q : Int32 → Mem → Prop) (M : Mem) (h : w_Model_classes this a1 Q M) : E γ k_Model_classes 1 0 [some (vr (some (11, this))), some (vi a1)] [] M (Qi Q) := by
  unfold w_Model_classes at h
  refine E_blk (lv' := [some (vr (some (11, this))), some (vi a1)]) (st' := [vi a1, vr (some (11, this))]) (M1 := M) (pc' := 2) (tb_Model hγ) [.aload_n 0, .iload_n 1] (by decide +kernel) rfl rfl trivial ?_
  refine E_callV (κ' := k_Model_isWorld) (As := [vi a1]) (st := []) mv_Model_isWorld (Or.inl (tbk_mem (j := 14) (k := 190) rfl)) rfl (by decide +kernel) (Nat.le_of_ble_eq_true rfl) (Nat.le_of_ble_eq_true rfl) rfl (by decide) (lk_Model_isWorld hγ this a1 _ M h) (fun _ _ => Qi_r) (fun v M1 hp => Qi_k (R := fun st => E γ k_Model_classes 1 5 [some (vr (some (11, this))), some (vi a1)] st M1 (Qi Q)) hp (fun r2 h => ?_))
  refine E_if_eq (off := 18) (tgt := 23) (by decide +kernel) (by decide) (fun b3 => ?_) (fun b3 => ?_)
  · rw [if_pos b3] at h
    refine E_blk (lv' := [some (vr (some (11, this))), some (vi a1)]) (st' := [vi (-1 : Int32)]) (M1 := M1) (pc' := 24) (tb_Model hγ) [.iconst (.negSucc 0)] (by decide +kernel) rfl rfl trivial ?_
    exact E_iret rfl (by decide +kernel) h
  · rw [if_neg b3] at h
    obtain ⟨c4, h⟩ := h
    refine E_blk (lv' := [some (vr (some (11, this))), some (vi a1)]) (st' := [vr (mR M1 703 0 a1.toNatClampNeg)]) (M1 := M1) (pc' := 14) (tb_Model hγ) [.aload_n 0, .getfield 263, .iload_n 1, .aaload] (by decide +kernel) rfl rfl ⟨c4, trivial⟩ ?_
    obtain ⟨i5, ei5, h⟩ := h
    rw [ei5]
    refine E_blk (lv' := [some (vr (some (11, this))), some (vi a1)]) (st' := [vi ((mI M1 12 i5 2) - (21 : Int32))]) (M1 := M1) (pc' := 20) (tb_Model hγ) [.getfield 420, .bipush 21, .isub] (by decide +kernel) rfl rfl trivial ?_
    refine E_goto (off := 4) (tgt := 24) (by decide +kernel) (by decide) ?_
    exact E_iret rfl (by decide +kernel) h
def w_Model_told (this : Nat) (a1 : Int32) (a2 : Int32) (a3 : Int32) (Q : Int32 → Mem → Prop) (M : Mem) : Prop :=
  w_Model_isClass this a1 a2 (fun r2 M1 => if r2 = 0 then (Q (-1 : Int32) M1) else (if a3 < 0 then (Q (-1 : Int32) M1) else (if a3 ≤ (6 : Int32) then (vp_in a1 (mL M1 703 0) ∧ ∃ i7, (mR M1 703 0 a1.toNatClampNeg) = some (12, i7) ∧ if a3 = (0 : Int32) then (if a2 = 0 then (Q (-2 : Int32) (sR M1 11 this 45 (some (12, i7)))) else (∃ i27, (mR (sR M1 11 this 45 (some (12, i7))) 11 this 45) = some (12, i27) ∧ vp_in a2 (mL (sR M1 11 this 45 (some (12, i7))) 131 i27) ∧ w_Model_classOf this (mI (sR M1 11 this 45 (some (12, i7))) 131 i27 a2.toNatClampNeg) (fun r30 M29 => if 0 ≤ r30 then (∃ i32, (mR M29 11 this 45) = some (12, i32) ∧ vp_in a2 (mL M29 131 i32) ∧ w_Model_classOf this (mI M29 131 i32 a2.toNatClampNeg) (fun r35 M34 => Q r35 M34) M29) else (Q (-2 : Int32) M29)) (sR M1 11 this 45 (some (12, i7))))) else (if a3 = (1 : Int32) then (∃ i24, (mR (sR M1 11 this 45 (some (12, i7))) 11 this 45) = some (12, i24) ∧ vp_in a2 (mL (sR M1 11 this 45 (some (12, i7))) 134 i24) ∧ Q (mI (sR M1 11 this 45 (some (12, i7))) 134 i24 a2.toNatClampNeg) (sR M1 11 this 45 (some (12, i7)))) else (if a3 = (2 : Int32) then (∃ i22, (mR (sR M1 11 this 45 (some (12, i7))) 11 this 45) = some (12, i22) ∧ vp_in a2 (mL (sR M1 11 this 45 (some (12, i7))) 135 i22) ∧ Q (mI (sR M1 11 this 45 (some (12, i7))) 135 i22 a2.toNatClampNeg) (sR M1 11 this 45 (some (12, i7)))) else (if a3 = (3 : Int32) then (∃ i20, (mR (sR M1 11 this 45 (some (12, i7))) 11 this 45) = some (12, i20) ∧ vp_in a2 (mL (sR M1 11 this 45 (some (12, i7))) 136 i20) ∧ Q (mI (sR M1 11 this 45 (some (12, i7))) 136 i20 a2.toNatClampNeg) (sR M1 11 this 45 (some (12, i7)))) else (if a3 = (4 : Int32) then (∃ i18, (mR (sR M1 11 this 45 (some (12, i7))) 11 this 45) = some (12, i18) ∧ vp_in a2 (mL (sR M1 11 this 45 (some (12, i7))) 132 i18) ∧ Q (mI (sR M1 11 this 45 (some (12, i7))) 132 i18 a2.toNatClampNeg) (sR M1 11 this 45 (some (12, i7)))) else (if a3 = (5 : Int32) then (∃ i16, (mR (sR M1 11 this 45 (some (12, i7))) 11 this 45) = some (12, i16) ∧ vp_in a2 (mL (sR M1 11 this 45 (some (12, i7))) 137 i16) ∧ Q (mI (sR M1 11 this 45 (some (12, i7))) 137 i16 a2.toNatClampNeg) (sR M1 11 this 45 (some (12, i7)))) else (∃ i8, (mR (sR M1 11 this 45 (some (12, i7))) 11 this 45) = some (12, i8) ∧ vp_in a2 (mL (sR M1 11 this 45 (some (12, i7))) 138 i8) ∧ Q (mI (sR M1 11 this 45 (some (12, i7))) 138 i8 a2.toNatClampNeg) (sR M1 11 this 45 (some (12, i7)))))))))) else (Q (-1 : Int32) M1)))) M
set_option maxRecDepth 4096 in
theorem lk_Model_told {γ : Gm} (hγ : Gk γ) (this : Nat) (a1 : Int32) (a2 : Int32) (a3 : Int32) (Q : Int32 → Mem → Prop) (M : Mem) (h : w_Model_told this a1 a2 a3 Q M) : E γ k_Model_told 2 0 [some (vr (some (11, this))), some (vi a1), some (vi a2), some (vi a3)] [] M (Qi Q) := by
  unfold w_Model_told at h
  refine E_blk (lv' := [some (vr (some (11, this))), some (vi a1), some (vi a2), some (vi a3)]) (st' := [vi a2, vi a1, vr (some (11, this))]) (M1 := M) (pc' := 3) (tb_Model hγ) [.aload_n 0, .iload_n 1, .iload_n 2] (by decide +kernel) rfl rfl trivial ?_
  refine E_callV (κ' := k_Model_isClass) (As := [vi a1, vi a2]) (st := []) mv_Model_isClass (Or.inl (tbk_mem (j := 15) (k := 129) rfl)) rfl (by decide +kernel) (Nat.le_of_ble_eq_true rfl) (Nat.le_of_ble_eq_true rfl) rfl (by decide) (lk_Model_isClass hγ this a1 a2 _ M h) (fun _ _ => Qi_r) (fun v M1 hp => Qi_k (R := fun st => E γ k_Model_told 2 6 [some (vr (some (11, this))), some (vi a1), some (vi a2), some (vi a3)] st M1 (Qi Q)) hp (fun r2 h => ?_))
  refine E_if_eq (off := 13) (tgt := 19) (by decide +kernel) (by decide) (fun b3 => ?_) (fun b3 => ?_)
  · rw [if_pos b3] at h
    refine E_blk (lv' := [some (vr (some (11, this))), some (vi a1), some (vi a2), some (vi a3)]) (st' := [vi (-1 : Int32)]) (M1 := M1) (pc' := 20) (tb_Model hγ) [.iconst (.negSucc 0)] (by decide +kernel) rfl rfl trivial ?_
    exact E_iret rfl (by decide +kernel) h
  · rw [if_neg b3] at h
    refine E_blk (lv' := [some (vr (some (11, this))), some (vi a1), some (vi a2), some (vi a3)]) (st' := [vi a3]) (M1 := M1) (pc' := 10) (tb_Model hγ) [.iload_n 3] (by decide +kernel) rfl rfl trivial ?_
    refine E_if_lt (off := 9) (tgt := 19) (by decide +kernel) (by decide) (fun b4 => ?_) (fun b4 => ?_)
    · rw [if_pos b4] at h
      refine E_blk (lv' := [some (vr (some (11, this))), some (vi a1), some (vi a2), some (vi a3)]) (st' := [vi (-1 : Int32)]) (M1 := M1) (pc' := 20) (tb_Model hγ) [.iconst (.negSucc 0)] (by decide +kernel) rfl rfl trivial ?_
      exact E_iret rfl (by decide +kernel) h
    · rw [if_neg b4] at h
      refine E_blk (lv' := [some (vr (some (11, this))), some (vi a1), some (vi a2), some (vi a3)]) (st' := [vi (6 : Int32), vi a3]) (M1 := M1) (pc' := 16) (tb_Model hγ) [.iload_n 3, .bipush 6] (by decide +kernel) rfl rfl trivial ?_
      refine E_icmp_le (off := 5) (tgt := 21) (by decide +kernel) (by decide) (fun b5 => ?_) (fun b5 => ?_)
      · rw [if_pos b5] at h
        obtain ⟨c6, h⟩ := h
        refine E_blk (lv' := [some (vr (some (11, this))), some (vi a1), some (vi a2), some (vi a3)]) (st' := [vr (mR M1 703 0 a1.toNatClampNeg), vr (some (11, this))]) (M1 := M1) (pc' := 28) (tb_Model hγ) [.aload_n 0, .aload_n 0, .getfield 263, .iload_n 1, .aaload] (by decide +kernel) rfl rfl ⟨c6, trivial⟩ ?_
        obtain ⟨i7, ei7, h⟩ := h
        rw [ei7]
        refine E_blk (lv' := [some (vr (some (11, this))), some (vi a1), some (vi a2), some (vi a3)]) (st' := [vi a3]) (M1 := (sR M1 11 this 45 (some (12, i7)))) (pc' := 32) (tb_Model hγ) [.putfield 522, .iload_n 3] (by decide +kernel) rfl rfl trivial ?_
        by_cases b10 : a3 = (0 : Int32)
        · rw [if_pos b10] at h
          refine E.up (fun _ _ hJ => J_tswI (len := 40) (dflt := 129) (lo := 0) (hi := 5) (offs := #[40, 79, 89, 99, 109, 119]) (off := 40) (tgt := 72) (by decide +kernel) (by rw [b10]; decide) (by rw [b10]; decide) (by rw [b10]; rfl) (by decide) hJ) ?_
          refine E_blk (lv' := [some (vr (some (11, this))), some (vi a1), some (vi a2), some (vi a3)]) (st' := [vi a2]) (M1 := (sR M1 11 this 45 (some (12, i7)))) (pc' := 73) (tb_Model hγ) [.iload_n 2] (by decide +kernel) rfl rfl trivial ?_
          refine E_if_eq (off := 19) (tgt := 92) (by decide +kernel) (by decide) (fun b26 => ?_) (fun b26 => ?_)
          · rw [if_pos b26] at h
            refine E_blk (lv' := [some (vr (some (11, this))), some (vi a1), some (vi a2), some (vi a3)]) (st' := [vi (-2 : Int32)]) (M1 := (sR M1 11 this 45 (some (12, i7)))) (pc' := 94) (tb_Model hγ) [.bipush (.negSucc 1)] (by decide +kernel) rfl rfl trivial ?_
            refine E_goto (off := 16) (tgt := 110) (by decide +kernel) (by decide) ?_
            exact E_iret rfl (by decide +kernel) h
          · rw [if_neg b26] at h
            refine E_blk (lv' := [some (vr (some (11, this))), some (vi a1), some (vi a2), some (vi a3)]) (st' := [vr (mR (sR M1 11 this 45 (some (12, i7))) 11 this 45), vr (some (11, this))]) (M1 := (sR M1 11 this 45 (some (12, i7)))) (pc' := 81) (tb_Model hγ) [.aload_n 0, .aload_n 0, .getfield 522] (by decide +kernel) rfl rfl trivial ?_
            obtain ⟨i27, ei27, h⟩ := h
            rw [ei27]
            obtain ⟨c28, h⟩ := h
            refine E_blk (lv' := [some (vr (some (11, this))), some (vi a1), some (vi a2), some (vi a3)]) (st' := [vi (mI (sR M1 11 this 45 (some (12, i7))) 131 i27 a2.toNatClampNeg), vr (some (11, this))]) (M1 := (sR M1 11 this 45 (some (12, i7)))) (pc' := 86) (tb_Model hγ) [.getfield 426, .iload_n 2, .iaload] (by decide +kernel) rfl rfl ⟨c28, trivial⟩ ?_
            refine E_callV (κ' := k_Model_classOf) (As := [vi (mI (sR M1 11 this 45 (some (12, i7))) 131 i27 a2.toNatClampNeg)]) (st := []) mv_Model_classOf (Or.inl (tbk_mem (j := 15) (k := 39) rfl)) rfl (by decide +kernel) (Nat.le_of_ble_eq_true rfl) (Nat.le_of_ble_eq_true rfl) rfl (by decide) (lk_Model_classOf hγ this (mI (sR M1 11 this 45 (some (12, i7))) 131 i27 a2.toNatClampNeg) _ (sR M1 11 this 45 (some (12, i7))) h) (fun _ _ => Qi_r) (fun v M29 hp => Qi_k (R := fun st => E γ k_Model_told 2 89 [some (vr (some (11, this))), some (vi a1), some (vi a2), some (vi a3)] st M29 (Qi Q)) hp (fun r30 h => ?_))
            refine E_if_ge (off := 8) (tgt := 97) (by decide +kernel) (by decide) (fun b31 => ?_) (fun b31 => ?_)
            · rw [if_pos b31] at h
              refine E_blk (lv' := [some (vr (some (11, this))), some (vi a1), some (vi a2), some (vi a3)]) (st' := [vr (mR M29 11 this 45), vr (some (11, this))]) (M1 := M29) (pc' := 102) (tb_Model hγ) [.aload_n 0, .aload_n 0, .getfield 522] (by decide +kernel) rfl rfl trivial ?_
              obtain ⟨i32, ei32, h⟩ := h
              rw [ei32]
              obtain ⟨c33, h⟩ := h
              refine E_blk (lv' := [some (vr (some (11, this))), some (vi a1), some (vi a2), some (vi a3)]) (st' := [vi (mI M29 131 i32 a2.toNatClampNeg), vr (some (11, this))]) (M1 := M29) (pc' := 107) (tb_Model hγ) [.getfield 426, .iload_n 2, .iaload] (by decide +kernel) rfl rfl ⟨c33, trivial⟩ ?_
              refine E_callV (κ' := k_Model_classOf) (As := [vi (mI M29 131 i32 a2.toNatClampNeg)]) (st := []) mv_Model_classOf (Or.inl (tbk_mem (j := 15) (k := 39) rfl)) rfl (by decide +kernel) (Nat.le_of_ble_eq_true rfl) (Nat.le_of_ble_eq_true rfl) rfl (by decide) (lk_Model_classOf hγ this (mI M29 131 i32 a2.toNatClampNeg) _ M29 h) (fun _ _ => Qi_r) (fun v M34 hp => Qi_k (R := fun st => E γ k_Model_told 2 110 [some (vr (some (11, this))), some (vi a1), some (vi a2), some (vi a3)] st M34 (Qi Q)) hp (fun r35 h => ?_))
              exact E_iret rfl (by decide +kernel) h
            · rw [if_neg b31] at h
              refine E_blk (lv' := [some (vr (some (11, this))), some (vi a1), some (vi a2), some (vi a3)]) (st' := [vi (-2 : Int32)]) (M1 := M29) (pc' := 94) (tb_Model hγ) [.bipush (.negSucc 1)] (by decide +kernel) rfl rfl trivial ?_
              refine E_goto (off := 16) (tgt := 110) (by decide +kernel) (by decide) ?_
              exact E_iret rfl (by decide +kernel) h
        · rw [if_neg b10] at h
          by_cases b11 : a3 = (1 : Int32)
          · rw [if_pos b11] at h
            refine E.up (fun _ _ hJ => J_tswI (len := 40) (dflt := 129) (lo := 0) (hi := 5) (offs := #[40, 79, 89, 99, 109, 119]) (off := 79) (tgt := 111) (by decide +kernel) (by rw [b11]; decide) (by rw [b11]; decide) (by rw [b11]; rfl) (by decide) hJ) ?_
            refine E_blk (lv' := [some (vr (some (11, this))), some (vi a1), some (vi a2), some (vi a3)]) (st' := [vr (mR (sR M1 11 this 45 (some (12, i7))) 11 this 45)]) (M1 := (sR M1 11 this 45 (some (12, i7)))) (pc' := 115) (tb_Model hγ) [.aload_n 0, .getfield 522] (by decide +kernel) rfl rfl trivial ?_
            obtain ⟨i24, ei24, h⟩ := h
            rw [ei24]
            obtain ⟨c25, h⟩ := h
            refine E_blk (lv' := [some (vr (some (11, this))), some (vi a1), some (vi a2), some (vi a3)]) (st' := [vi (mI (sR M1 11 this 45 (some (12, i7))) 134 i24 a2.toNatClampNeg)]) (M1 := (sR M1 11 this 45 (some (12, i7)))) (pc' := 120) (tb_Model hγ) [.getfield 432, .iload_n 2, .iaload] (by decide +kernel) rfl rfl ⟨c25, trivial⟩ ?_
            exact E_iret rfl (by decide +kernel) h
          · rw [if_neg b11] at h
            by_cases b12 : a3 = (2 : Int32)
            · rw [if_pos b12] at h
              refine E.up (fun _ _ hJ => J_tswI (len := 40) (dflt := 129) (lo := 0) (hi := 5) (offs := #[40, 79, 89, 99, 109, 119]) (off := 89) (tgt := 121) (by decide +kernel) (by rw [b12]; decide) (by rw [b12]; decide) (by rw [b12]; rfl) (by decide) hJ) ?_
              refine E_blk (lv' := [some (vr (some (11, this))), some (vi a1), some (vi a2), some (vi a3)]) (st' := [vr (mR (sR M1 11 this 45 (some (12, i7))) 11 this 45)]) (M1 := (sR M1 11 this 45 (some (12, i7)))) (pc' := 125) (tb_Model hγ) [.aload_n 0, .getfield 522] (by decide +kernel) rfl rfl trivial ?_
              obtain ⟨i22, ei22, h⟩ := h
              rw [ei22]
              obtain ⟨c23, h⟩ := h
              refine E_blk (lv' := [some (vr (some (11, this))), some (vi a1), some (vi a2), some (vi a3)]) (st' := [vi (mI (sR M1 11 this 45 (some (12, i7))) 135 i22 a2.toNatClampNeg)]) (M1 := (sR M1 11 this 45 (some (12, i7)))) (pc' := 130) (tb_Model hγ) [.getfield 435, .iload_n 2, .iaload] (by decide +kernel) rfl rfl ⟨c23, trivial⟩ ?_
              exact E_iret rfl (by decide +kernel) h
            · rw [if_neg b12] at h
              by_cases b13 : a3 = (3 : Int32)
              · rw [if_pos b13] at h
                refine E.up (fun _ _ hJ => J_tswI (len := 40) (dflt := 129) (lo := 0) (hi := 5) (offs := #[40, 79, 89, 99, 109, 119]) (off := 99) (tgt := 131) (by decide +kernel) (by rw [b13]; decide) (by rw [b13]; decide) (by rw [b13]; rfl) (by decide) hJ) ?_
                refine E_blk (lv' := [some (vr (some (11, this))), some (vi a1), some (vi a2), some (vi a3)]) (st' := [vr (mR (sR M1 11 this 45 (some (12, i7))) 11 this 45)]) (M1 := (sR M1 11 this 45 (some (12, i7)))) (pc' := 135) (tb_Model hγ) [.aload_n 0, .getfield 522] (by decide +kernel) rfl rfl trivial ?_
                obtain ⟨i20, ei20, h⟩ := h
                rw [ei20]
                obtain ⟨c21, h⟩ := h
                refine E_blk (lv' := [some (vr (some (11, this))), some (vi a1), some (vi a2), some (vi a3)]) (st' := [vi (mI (sR M1 11 this 45 (some (12, i7))) 136 i20 a2.toNatClampNeg)]) (M1 := (sR M1 11 this 45 (some (12, i7)))) (pc' := 140) (tb_Model hγ) [.getfield 438, .iload_n 2, .iaload] (by decide +kernel) rfl rfl ⟨c21, trivial⟩ ?_
                exact E_iret rfl (by decide +kernel) h
              · rw [if_neg b13] at h
                by_cases b14 : a3 = (4 : Int32)
                · rw [if_pos b14] at h
                  refine E.up (fun _ _ hJ => J_tswI (len := 40) (dflt := 129) (lo := 0) (hi := 5) (offs := #[40, 79, 89, 99, 109, 119]) (off := 109) (tgt := 141) (by decide +kernel) (by rw [b14]; decide) (by rw [b14]; decide) (by rw [b14]; rfl) (by decide) hJ) ?_
                  refine E_blk (lv' := [some (vr (some (11, this))), some (vi a1), some (vi a2), some (vi a3)]) (st' := [vr (mR (sR M1 11 this 45 (some (12, i7))) 11 this 45)]) (M1 := (sR M1 11 this 45 (some (12, i7)))) (pc' := 145) (tb_Model hγ) [.aload_n 0, .getfield 522] (by decide +kernel) rfl rfl trivial ?_
                  obtain ⟨i18, ei18, h⟩ := h
                  rw [ei18]
                  obtain ⟨c19, h⟩ := h
                  refine E_blk (lv' := [some (vr (some (11, this))), some (vi a1), some (vi a2), some (vi a3)]) (st' := [vi (mI (sR M1 11 this 45 (some (12, i7))) 132 i18 a2.toNatClampNeg)]) (M1 := (sR M1 11 this 45 (some (12, i7)))) (pc' := 150) (tb_Model hγ) [.getfield 429, .iload_n 2, .iaload] (by decide +kernel) rfl rfl ⟨c19, trivial⟩ ?_
                  exact E_iret rfl (by decide +kernel) h
                · rw [if_neg b14] at h
                  by_cases b15 : a3 = (5 : Int32)
                  · rw [if_pos b15] at h
                    refine E.up (fun _ _ hJ => J_tswI (len := 40) (dflt := 129) (lo := 0) (hi := 5) (offs := #[40, 79, 89, 99, 109, 119]) (off := 119) (tgt := 151) (by decide +kernel) (by rw [b15]; decide) (by rw [b15]; decide) (by rw [b15]; rfl) (by decide) hJ) ?_
                    refine E_blk (lv' := [some (vr (some (11, this))), some (vi a1), some (vi a2), some (vi a3)]) (st' := [vr (mR (sR M1 11 this 45 (some (12, i7))) 11 this 45)]) (M1 := (sR M1 11 this 45 (some (12, i7)))) (pc' := 155) (tb_Model hγ) [.aload_n 0, .getfield 522] (by decide +kernel) rfl rfl trivial ?_
                    obtain ⟨i16, ei16, h⟩ := h
                    rw [ei16]
                    obtain ⟨c17, h⟩ := h
                    refine E_blk (lv' := [some (vr (some (11, this))), some (vi a1), some (vi a2), some (vi a3)]) (st' := [vi (mI (sR M1 11 this 45 (some (12, i7))) 137 i16 a2.toNatClampNeg)]) (M1 := (sR M1 11 this 45 (some (12, i7)))) (pc' := 160) (tb_Model hγ) [.getfield 441, .iload_n 2, .iaload] (by decide +kernel) rfl rfl ⟨c17, trivial⟩ ?_
                    exact E_iret rfl (by decide +kernel) h
                  · rw [if_neg b15] at h
                    refine E.up (fun _ _ hJ => J_tswO (len := 40) (dflt := 129) (lo := 0) (hi := 5) (offs := #[40, 79, 89, 99, 109, 119]) (tgt := 161) (by decide +kernel) ?_ (by decide) hJ) ?_
                    · have q := sw0 (x := a3) 0
                      replace q : (a3).toInt < 0 ∨ 1 ≤ (a3).toInt := sw1 q b10 rfl rfl
                      replace q : (a3).toInt < 0 ∨ 2 ≤ (a3).toInt := sw1 q b11 rfl rfl
                      replace q : (a3).toInt < 0 ∨ 3 ≤ (a3).toInt := sw1 q b12 rfl rfl
                      replace q : (a3).toInt < 0 ∨ 4 ≤ (a3).toInt := sw1 q b13 rfl rfl
                      replace q : (a3).toInt < 0 ∨ 5 ≤ (a3).toInt := sw1 q b14 rfl rfl
                      replace q : (a3).toInt < 0 ∨ 6 ≤ (a3).toInt := sw1 q b15 rfl rfl
                      omega
                    · refine E_blk (lv' := [some (vr (some (11, this))), some (vi a1), some (vi a2), some (vi a3)]) (st' := [vr (mR (sR M1 11 this 45 (some (12, i7))) 11 this 45)]) (M1 := (sR M1 11 this 45 (some (12, i7)))) (pc' := 165) (tb_Model hγ) [.aload_n 0, .getfield 522] (by decide +kernel) rfl rfl trivial ?_
                      obtain ⟨i8, ei8, h⟩ := h
                      rw [ei8]
                      obtain ⟨c9, h⟩ := h
                      refine E_blk (lv' := [some (vr (some (11, this))), some (vi a1), some (vi a2), some (vi a3)]) (st' := [vi (mI (sR M1 11 this 45 (some (12, i7))) 138 i8 a2.toNatClampNeg)]) (M1 := (sR M1 11 this 45 (some (12, i7)))) (pc' := 170) (tb_Model hγ) [.getfield 444, .iload_n 2, .iaload] (by decide +kernel) rfl rfl ⟨c9, trivial⟩ ?_
                      exact E_iret rfl (by decide +kernel) h
      · rw [if_neg b5] at h
        refine E_blk (lv' := [some (vr (some (11, this))), some (vi a1), some (vi a2), some (vi a3)]) (st' := [vi (-1 : Int32)]) (M1 := M1) (pc' := 20) (tb_Model hγ) [.iconst (.negSucc 0)] (by decide +kernel) rfl rfl trivial ?_
        exact E_iret rfl (by decide +kernel) h
def w_Model_name_j110 (this : Nat) (Q : Int32 → Mem → Prop) (v5 : Int32) (s0 : Int32) (M : Mem) : Prop :=
  if v5 < 0 then (Q (-1 : Int32) M) else (∃ i16, (mR M 11 this 1) = some (401, i16) ∧ vp_in s0 (mL M 401 i16) ∧ if v5 < (mI M 401 i16 s0.toNatClampNeg) then (∃ i19, (mR M 11 this 0) = some (401, i19) ∧ vp_in (((12 : Int32) * s0) + v5) (mL M 401 i19) ∧ Q (mI M 401 i19 (((12 : Int32) * s0) + v5).toNatClampNeg) M) else (Q (-1 : Int32) M))
def w_Model_name_j57 (this : Nat) (Q : Int32 → Mem → Prop) (v2 : Int32) (v3 : Int32) (v4 : Int32) (v5 : Int32) (v6 : Nat) (s0 : Int32) (s1 : Int32) (M : Mem) : Prop :=
  if s1 < s0 then (if 0 ≤ v4 then (if v3 = 0 then (vp_in (((8 : Int32) * v2) + v4) (mL M 139 v6) ∧ w_Model_name_j110 this Q v5 (mI M 139 v6 (((8 : Int32) * v2) + v4).toNatClampNeg) M) else (vp_in (((12 : Int32) * v2) + v4) (mL M 144 v6) ∧ w_Model_name_j110 this Q v5 (mI M 144 v6 (((12 : Int32) * v2) + v4).toNatClampNeg) M)) else (vp_in v2 (mL M 130 v6) ∧ w_Model_name_j110 this Q v5 (mI M 130 v6 v2.toNatClampNeg) M)) else (Q (-1 : Int32) M)
def w_Model_name (this : Nat) (a1 : Int32) (a2 : Int32) (a3 : Int32) (a4 : Int32) (a5 : Int32) (Q : Int32 → Mem → Prop) (M : Mem) : Prop :=
  w_Model_isClass this a1 a2 (fun r2 M1 => if r2 = 0 then (Q (-1 : Int32) M1) else (if a3 < 0 then (Q (-1 : Int32) M1) else (if (1 : Int32) < a3 then (Q (-1 : Int32) M1) else (if (-1 : Int32) ≤ a4 then (vp_in a1 (mL M1 703 0) ∧ ∃ i8, (mR M1 703 0 a1.toNatClampNeg) = some (12, i8) ∧ if a3 = 0 then (vp_in a2 (mL M1 135 i8) ∧ w_Model_name_j57 this Q a2 a3 a4 a5 i8 (mI M1 135 i8 a2.toNatClampNeg) a4 M1) else (vp_in a2 (mL M1 136 i8) ∧ w_Model_name_j57 this Q a2 a3 a4 a5 i8 (mI M1 136 i8 a2.toNatClampNeg) a4 M1)) else (Q (-1 : Int32) M1))))) M
set_option maxRecDepth 4096 in
theorem lk_Model_name_j110 {γ : Gm} (hγ : Gk γ) (this : Nat) (Q : Int32 → Mem → Prop) (v5 : Int32) (s0 : Int32) (M : Mem) (h : w_Model_name_j110 this Q v5 s0 M) : E γ k_Model_name 2 110 [some (vr (some (11, this))), none, none, none, none, some (vi v5), none, none] [vi s0] M (Qi Q) := by
  unfold w_Model_name_j110 at h
  refine E_blk (lv' := [some (vr (some (11, this))), none, none, none, none, some (vi v5), none, some (vi s0)]) (st' := [vi v5]) (M1 := M) (pc' := 114) (tb_Model hγ) [.istore 7, .iload 5] (by decide +kernel) rfl rfl trivial ?_
  refine E_if_lt (off := 15) (tgt := 129) (by decide +kernel) (by decide) (fun b15 => ?_) (fun b15 => ?_)
  · rw [if_pos b15] at h
    refine E_blk (lv' := [some (vr (some (11, this))), none, none, none, none, some (vi v5), none, some (vi s0)]) (st' := [vi (-1 : Int32)]) (M1 := M) (pc' := 130) (tb_Model hγ) [.iconst (.negSucc 0)] (by decide +kernel) rfl rfl trivial ?_
    refine E_goto (off := 16) (tgt := 146) (by decide +kernel) (by decide) ?_
    exact E_iret rfl (by decide +kernel) h
  · rw [if_neg b15] at h
    refine E_blk (lv' := [some (vr (some (11, this))), none, none, none, none, some (vi v5), none, some (vi s0)]) (st' := [vr (mR M 11 this 1), vi v5]) (M1 := M) (pc' := 123) (tb_Model hγ) [.iload 5, .aload_n 0, .getfield 40] (by decide +kernel) rfl rfl trivial ?_
    obtain ⟨i16, ei16, h⟩ := h
    rw [ei16]
    obtain ⟨c17, h⟩ := h
    refine E_blk (lv' := [some (vr (some (11, this))), none, none, none, none, some (vi v5), none, some (vi s0)]) (st' := [vi (mI M 401 i16 s0.toNatClampNeg), vi v5]) (M1 := M) (pc' := 126) (tb_Model hγ) [.iload 7, .baload] (by decide +kernel) rfl rfl ⟨c17, trivial⟩ ?_
    refine E_icmp_lt (off := 7) (tgt := 133) (by decide +kernel) (by decide) (fun b18 => ?_) (fun b18 => ?_)
    · rw [if_pos b18] at h
      refine E_blk (lv' := [some (vr (some (11, this))), none, none, none, none, some (vi v5), none, some (vi s0)]) (st' := [vr (mR M 11 this 0)]) (M1 := M) (pc' := 137) (tb_Model hγ) [.aload_n 0, .getfield 28] (by decide +kernel) rfl rfl trivial ?_
      obtain ⟨i19, ei19, h⟩ := h
      rw [ei19]
      obtain ⟨c20, h⟩ := h
      refine E_blk (lv' := [some (vr (some (11, this))), none, none, none, none, some (vi v5), none, some (vi s0)]) (st' := [vi (mI M 401 i19 (((12 : Int32) * s0) + v5).toNatClampNeg)]) (M1 := M) (pc' := 146) (tb_Model hγ) [.bipush 12, .iload 7, .imul, .iload 5, .iadd, .baload] (by decide +kernel) rfl rfl ⟨c20, trivial⟩ ?_
      exact E_iret rfl (by decide +kernel) h
    · rw [if_neg b18] at h
      refine E_blk (lv' := [some (vr (some (11, this))), none, none, none, none, some (vi v5), none, some (vi s0)]) (st' := [vi (-1 : Int32)]) (M1 := M) (pc' := 130) (tb_Model hγ) [.iconst (.negSucc 0)] (by decide +kernel) rfl rfl trivial ?_
      refine E_goto (off := 16) (tgt := 146) (by decide +kernel) (by decide) ?_
      exact E_iret rfl (by decide +kernel) h
set_option maxRecDepth 4096 in
theorem lk_Model_name_j57 {γ : Gm} (hγ : Gk γ) (this : Nat) (Q : Int32 → Mem → Prop) (v2 : Int32) (v3 : Int32) (v4 : Int32) (v5 : Int32) (v6 : Nat) (s0 : Int32) (s1 : Int32) (M : Mem) (h : w_Model_name_j57 this Q v2 v3 v4 v5 v6 s0 s1 M) : E γ k_Model_name 2 57 [some (vr (some (11, this))), none, some (vi v2), some (vi v3), some (vi v4), some (vi v5), some (vr (some (12, v6))), none] [vi s0, vi s1] M (Qi Q) := by
  unfold w_Model_name_j57 at h
  refine E_icmp_lt (off := 5) (tgt := 62) (by decide +kernel) (by decide) (fun b11 => ?_) (fun b11 => ?_)
  · rw [if_pos b11] at h
    refine E_blk (lv' := [some (vr (some (11, this))), none, some (vi v2), some (vi v3), some (vi v4), some (vi v5), some (vr (some (12, v6))), none]) (st' := [vi v4]) (M1 := M) (pc' := 64) (tb_Model hγ) [.iload 4] (by decide +kernel) rfl rfl trivial ?_
    refine E_if_ge (off := 13) (tgt := 77) (by decide +kernel) (by decide) (fun b12 => ?_) (fun b12 => ?_)
    · rw [if_pos b12] at h
      refine E_blk (lv' := [some (vr (some (11, this))), none, some (vi v2), some (vi v3), some (vi v4), some (vi v5), some (vr (some (12, v6))), none]) (st' := [vi v3]) (M1 := M) (pc' := 78) (tb_Model hγ) [.iload_n 3] (by decide +kernel) rfl rfl trivial ?_
      refine E_if_ne (off := 19) (tgt := 97) (by decide +kernel) (by decide) (fun b13 => ?_) (fun b13 => ?_)
      · rw [if_pos b13] at h
        obtain ⟨c14, h⟩ := h
        refine E_blk (lv' := [some (vr (some (11, this))), none, some (vi v2), some (vi v3), some (vi v4), some (vi v5), some (vr (some (12, v6))), none]) (st' := [vi (mI M 139 v6 (((8 : Int32) * v2) + v4).toNatClampNeg)]) (M1 := M) (pc' := 94) (tb_Model hγ) [.aload 6, .getfield 621, .bipush 8, .iload_n 2, .imul, .iload 4, .iadd, .iaload] (by decide +kernel) rfl rfl ⟨c14, trivial⟩ ?_
        refine E_goto (off := 16) (tgt := 110) (by decide +kernel) (by decide) ?_
        refine E_mask [true, false, false, false, false, true, false, false] rfl ?_
        exact lk_Model_name_j110 hγ this Q v5 (mI M 139 v6 (((8 : Int32) * v2) + v4).toNatClampNeg) M h
      · rw [if_neg b13] at h
        obtain ⟨c21, h⟩ := h
        refine E_blk (lv' := [some (vr (some (11, this))), none, some (vi v2), some (vi v3), some (vi v4), some (vi v5), some (vr (some (12, v6))), none]) (st' := [vi (mI M 144 v6 (((12 : Int32) * v2) + v4).toNatClampNeg)]) (M1 := M) (pc' := 110) (tb_Model hγ) [.aload 6, .getfield 447, .bipush 12, .iload_n 2, .imul, .iload 4, .iadd, .iaload] (by decide +kernel) rfl rfl ⟨c21, trivial⟩ ?_
        refine E_mask [true, false, false, false, false, true, false, false] rfl ?_
        exact lk_Model_name_j110 hγ this Q v5 (mI M 144 v6 (((12 : Int32) * v2) + v4).toNatClampNeg) M h
    · rw [if_neg b12] at h
      obtain ⟨c22, h⟩ := h
      refine E_blk (lv' := [some (vr (some (11, this))), none, some (vi v2), some (vi v3), some (vi v4), some (vi v5), some (vr (some (12, v6))), none]) (st' := [vi (mI M 130 v6 v2.toNatClampNeg)]) (M1 := M) (pc' := 74) (tb_Model hγ) [.aload 6, .getfield 423, .iload_n 2, .iaload] (by decide +kernel) rfl rfl ⟨c22, trivial⟩ ?_
      refine E_goto (off := 36) (tgt := 110) (by decide +kernel) (by decide) ?_
      refine E_mask [true, false, false, false, false, true, false, false] rfl ?_
      exact lk_Model_name_j110 hγ this Q v5 (mI M 130 v6 v2.toNatClampNeg) M h
  · rw [if_neg b11] at h
    refine E_blk (lv' := [some (vr (some (11, this))), none, some (vi v2), some (vi v3), some (vi v4), some (vi v5), some (vr (some (12, v6))), none]) (st' := [vi (-1 : Int32)]) (M1 := M) (pc' := 61) (tb_Model hγ) [.iconst (.negSucc 0)] (by decide +kernel) rfl rfl trivial ?_
    exact E_iret rfl (by decide +kernel) h
set_option maxRecDepth 4096 in
theorem lk_Model_name {γ : Gm} (hγ : Gk γ) (this : Nat) (a1 : Int32) (a2 : Int32) (a3 : Int32) (a4 : Int32) (a5 : Int32) (Q : Int32 → Mem → Prop) (M : Mem) (h : w_Model_name this a1 a2 a3 a4 a5 Q M) : E γ k_Model_name 2 0 [some (vr (some (11, this))), some (vi a1), some (vi a2), some (vi a3), some (vi a4), some (vi a5), none, none] [] M (Qi Q) := by
  unfold w_Model_name at h
  refine E_blk (lv' := [some (vr (some (11, this))), some (vi a1), some (vi a2), some (vi a3), some (vi a4), some (vi a5), none, none]) (st' := [vi a2, vi a1, vr (some (11, this))]) (M1 := M) (pc' := 3) (tb_Model hγ) [.aload_n 0, .iload_n 1, .iload_n 2] (by decide +kernel) rfl rfl trivial ?_
  refine E_callV (κ' := k_Model_isClass) (As := [vi a1, vi a2]) (st := []) mv_Model_isClass (Or.inl (tbk_mem (j := 15) (k := 129) rfl)) rfl (by decide +kernel) (Nat.le_of_ble_eq_true rfl) (Nat.le_of_ble_eq_true rfl) rfl (by decide) (lk_Model_isClass hγ this a1 a2 _ M h) (fun _ _ => Qi_r) (fun v M1 hp => Qi_k (R := fun st => E γ k_Model_name 2 6 [some (vr (some (11, this))), some (vi a1), some (vi a2), some (vi a3), some (vi a4), some (vi a5), none, none] st M1 (Qi Q)) hp (fun r2 h => ?_))
  refine E_if_eq (off := 18) (tgt := 24) (by decide +kernel) (by decide) (fun b3 => ?_) (fun b3 => ?_)
  · rw [if_pos b3] at h
    refine E_blk (lv' := [some (vr (some (11, this))), some (vi a1), some (vi a2), some (vi a3), some (vi a4), some (vi a5), none, none]) (st' := [vi (-1 : Int32)]) (M1 := M1) (pc' := 25) (tb_Model hγ) [.iconst (.negSucc 0)] (by decide +kernel) rfl rfl trivial ?_
    exact E_iret rfl (by decide +kernel) h
  · rw [if_neg b3] at h
    refine E_blk (lv' := [some (vr (some (11, this))), some (vi a1), some (vi a2), some (vi a3), some (vi a4), some (vi a5), none, none]) (st' := [vi a3]) (M1 := M1) (pc' := 10) (tb_Model hγ) [.iload_n 3] (by decide +kernel) rfl rfl trivial ?_
    refine E_if_lt (off := 14) (tgt := 24) (by decide +kernel) (by decide) (fun b4 => ?_) (fun b4 => ?_)
    · rw [if_pos b4] at h
      refine E_blk (lv' := [some (vr (some (11, this))), some (vi a1), some (vi a2), some (vi a3), some (vi a4), some (vi a5), none, none]) (st' := [vi (-1 : Int32)]) (M1 := M1) (pc' := 25) (tb_Model hγ) [.iconst (.negSucc 0)] (by decide +kernel) rfl rfl trivial ?_
      exact E_iret rfl (by decide +kernel) h
    · rw [if_neg b4] at h
      refine E_blk (lv' := [some (vr (some (11, this))), some (vi a1), some (vi a2), some (vi a3), some (vi a4), some (vi a5), none, none]) (st' := [vi (1 : Int32), vi a3]) (M1 := M1) (pc' := 15) (tb_Model hγ) [.iload_n 3, .iconst 1] (by decide +kernel) rfl rfl trivial ?_
      refine E_icmp_gt (off := 9) (tgt := 24) (by decide +kernel) (by decide) (fun b5 => ?_) (fun b5 => ?_)
      · rw [if_pos b5] at h
        refine E_blk (lv' := [some (vr (some (11, this))), some (vi a1), some (vi a2), some (vi a3), some (vi a4), some (vi a5), none, none]) (st' := [vi (-1 : Int32)]) (M1 := M1) (pc' := 25) (tb_Model hγ) [.iconst (.negSucc 0)] (by decide +kernel) rfl rfl trivial ?_
        exact E_iret rfl (by decide +kernel) h
      · rw [if_neg b5] at h
        refine E_blk (lv' := [some (vr (some (11, this))), some (vi a1), some (vi a2), some (vi a3), some (vi a4), some (vi a5), none, none]) (st' := [vi (-1 : Int32), vi a4]) (M1 := M1) (pc' := 21) (tb_Model hγ) [.iload 4, .iconst (.negSucc 0)] (by decide +kernel) rfl rfl trivial ?_
        refine E_icmp_ge (off := 5) (tgt := 26) (by decide +kernel) (by decide) (fun b6 => ?_) (fun b6 => ?_)
        · rw [if_pos b6] at h
          obtain ⟨c7, h⟩ := h
          refine E_blk (lv' := [some (vr (some (11, this))), some (vi a1), some (vi a2), some (vi a3), some (vi a4), some (vi a5), none, none]) (st' := [vr (mR M1 703 0 a1.toNatClampNeg)]) (M1 := M1) (pc' := 32) (tb_Model hγ) [.aload_n 0, .getfield 263, .iload_n 1, .aaload] (by decide +kernel) rfl rfl ⟨c7, trivial⟩ ?_
          obtain ⟨i8, ei8, h⟩ := h
          rw [ei8]
          refine E_blk (lv' := [some (vr (some (11, this))), some (vi a1), some (vi a2), some (vi a3), some (vi a4), some (vi a5), some (vr (some (12, i8))), none]) (st' := [vi a3, vi a4]) (M1 := M1) (pc' := 37) (tb_Model hγ) [.astore 6, .iload 4, .iload_n 3] (by decide +kernel) rfl rfl trivial ?_
          refine E_if_ne (off := 13) (tgt := 50) (by decide +kernel) (by decide) (fun b9 => ?_) (fun b9 => ?_)
          · rw [if_pos b9] at h
            obtain ⟨c10, h⟩ := h
            refine E_blk (lv' := [some (vr (some (11, this))), some (vi a1), some (vi a2), some (vi a3), some (vi a4), some (vi a5), some (vr (some (12, i8))), none]) (st' := [vi (mI M1 135 i8 a2.toNatClampNeg), vi a4]) (M1 := M1) (pc' := 47) (tb_Model hγ) [.aload 6, .getfield 435, .iload_n 2, .iaload] (by decide +kernel) rfl rfl ⟨c10, trivial⟩ ?_
            refine E_goto (off := 10) (tgt := 57) (by decide +kernel) (by decide) ?_
            refine E_mask [true, false, true, true, true, true, true, false] rfl ?_
            exact lk_Model_name_j57 hγ this Q a2 a3 a4 a5 i8 (mI M1 135 i8 a2.toNatClampNeg) a4 M1 h
          · rw [if_neg b9] at h
            obtain ⟨c23, h⟩ := h
            refine E_blk (lv' := [some (vr (some (11, this))), some (vi a1), some (vi a2), some (vi a3), some (vi a4), some (vi a5), some (vr (some (12, i8))), none]) (st' := [vi (mI M1 136 i8 a2.toNatClampNeg), vi a4]) (M1 := M1) (pc' := 57) (tb_Model hγ) [.aload 6, .getfield 438, .iload_n 2, .iaload] (by decide +kernel) rfl rfl ⟨c23, trivial⟩ ?_
            refine E_mask [true, false, true, true, true, true, true, false] rfl ?_
            exact lk_Model_name_j57 hγ this Q a2 a3 a4 a5 i8 (mI M1 136 i8 a2.toNatClampNeg) a4 M1 h
        · rw [if_neg b6] at h
          refine E_blk (lv' := [some (vr (some (11, this))), some (vi a1), some (vi a2), some (vi a3), some (vi a4), some (vi a5), none, none]) (st' := [vi (-1 : Int32)]) (M1 := M1) (pc' := 25) (tb_Model hγ) [.iconst (.negSucc 0)] (by decide +kernel) rfl rfl trivial ?_
          exact E_iret rfl (by decide +kernel) h
